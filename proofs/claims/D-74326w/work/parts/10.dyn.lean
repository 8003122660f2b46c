set_option maxRecDepth 100000
set_option maxHeartbeats 4000000
/-! objects in any number: the world is a list L of cells at known places and a map N of all others -/
abbrev NE : Type := (Nat × vp_A) ⊕ (Nat × List Value)
abbrev NM : Type := Nat → Option NE
abbrev eO (ci : Nat) (fs : List Value) : NE := .inr (ci, fs)
abbrev eN (k n : Nat) (f : Nat → Int32) : NE := .inl (k, n, .inl f)
abbrev eL (k n : Nat) (f : Nat → Int64) : NE := .inl (k, n, .inr (.inl f))
abbrev eR (k n : Nat) (f : Nat → Option Nat) : NE := .inl (k, n, .inr (.inr (.inr (.inr f))))
def nE (G : gG) : NE → va_E
  | .inl x => .inl (gA G x.1, x.2)
  | .inr o => .inr o
def nQ (G : gG) (q : Nat × NE) : Nat × va_E := (q.1, nE G q.2)
def cRep (w : List (Nat × NE)) (N : NM) : Prop := ∀ a e, N a = some e ↔ (a, e) ∈ w
def cBw (G : gG) (A : Nat → Prop) (L : va_W) (N : NM) (H : Heap) : Prop := ∃ w : List (Nat × NE), va_P (gD G) vwCl (L ++ w.map (nQ G)) H ∧ va_D A (L ++ w.map (nQ G)) ∧ cRep w N
def cH (G : gG) (A : Nat → Prop) (s : State) (L : va_W) (N : NM) (H : Heap) (locs : List Loc) : Prop := cBw G A L N H ∧ va_S A s.heap H locs
def cX (G : gG) (A : Nat → Prop) (own : String) (p : Program) (s : State) (m : MethodId) (args : Array Value) (c : Code) (cc : ByteArray) (nL : Nat) : Prop := CallFix p m c cc nL s args lw_all own ∧ va_K (gD G) vwCl (gT G) s ∧ gOk G ∧ gK G s ∧ (∀ q, s.heap.size ≤ q → A q) ∧ (∀ q, A q → gZ G ≤ q)
def cA (L : va_W) (N : NM) (sz : Nat) (q : Nat) : Prop := (∃ x ∈ L, x.1 = q) ∨ N q ≠ none ∨ sz ≤ q
def cPre (G : gG) (L : va_W) (N : NM) (sz : Nat) (U : State) : Prop := U.heap.size = sz ∧ cBw G (fun q => gZ G ≤ q) L N U.heap ∧ gK G U
theorem up_s {α : Type} {f : Nat → α} {k : Nat} {v : α} : va_up f k v k = v := if_pos rfl
theorem up_n {α : Type} {f : Nat → α} {k j : Nat} {v : α} (h : j ≠ k) : va_up f k v j = f j := if_neg h
theorem cRep.at {w : List (Nat × NE)} {N : NM} (h : cRep w N) {a : Nat} {e : NE} (ha : N a = some e) : ∃ k : Nat, w[k]? = some (a, e) := List.getElem?_of_mem ((h a e).mp ha)
theorem cAt {G : gG} {L : va_W} {w : List (Nat × NE)} {k a : Nat} {e : NE} (h : w[k]? = some (a, e)) : (L ++ w.map (nQ G))[L.length + k]? = some (a, nE G e) := by
  rw [List.getElem?_append_right (Nat.le_add_right _ _), Nat.add_sub_cancel_left, List.getElem?_map, h]
  rfl
theorem cBw.get {G : gG} {A : Nat → Prop} {L : va_W} {N : NM} {H : Heap} (h : cBw G A L N H) {a : Nat} {e : NE} (ha : N a = some e) : ∃ (ws : va_W) (q0 : Nat), va_P (gD G) vwCl ws H ∧ va_D A ws ∧ ws[q0]? = some (a, nE G e) := by
  obtain ⟨w, h1, h2, h3⟩ := h
  obtain ⟨k, hk⟩ := cRep.at h3 ha
  exact ⟨_, _, h1, h2, cAt hk⟩
theorem cBw.upd {G : gG} {A : Nat → Prop} {L : va_W} {N : NM} {H : Heap} (h : cBw G A L N H) {a : Nat} {e : NE} (ha : N a = some e) : ∃ (ws : va_W) (q0 : Nat), va_P (gD G) vwCl ws H ∧ va_D A ws ∧ ws[q0]? = some (a, nE G e) ∧ ∀ (e' : NE) (H1 : Heap), va_P (gD G) vwCl (ws.set q0 (a, nE G e')) H1 → va_D A (ws.set q0 (a, nE G e')) → cBw G A L (va_up N a (some e')) H1 := by
  obtain ⟨w, h1, h2, h3⟩ := h
  obtain ⟨k, hk⟩ := cRep.at h3 ha
  refine ⟨_, _, h1, h2, cAt hk, fun e' H1 hP hD => ⟨w.set k (a, e'), ?_, ?_, ?_⟩⟩
  · rw [List.set_append_right _ _ (Nat.le_add_right _ _), Nat.add_sub_cancel_left, show (a, nE G e') = nQ G (a, e') from rfl, ← List.map_set] at hP
    exact hP
  · rw [List.set_append_right _ _ (Nat.le_add_right _ _), Nat.add_sub_cancel_left, show (a, nE G e') = nQ G (a, e') from rfl, ← List.map_set] at hD
    exact hD
  · have hlen := (List.getElem?_eq_some_iff.mp hk).1
    have uniq : ∀ (j b : Nat) (x : NE), w[j]? = some (b, x) → b = a → j = k := fun j b x hj hb => by
      have := h2.1 _ _ _ _ (cAt (G := G) (L := L) hj) (cAt (G := G) (L := L) hk) hb
      omega
    intro b x
    by_cases hb : b = a
    · subst hb
      rw [up_s]
      constructor
      · intro hx
        cases hx
        exact List.mem_of_getElem? (i := k) (by rw [List.getElem?_set_self hlen])
      · intro hx
        obtain ⟨j, hj⟩ := List.getElem?_of_mem hx
        by_cases hjk : j = k
        · subst hjk
          rw [List.getElem?_set_self hlen] at hj
          cases hj
          rfl
        · rw [List.getElem?_set_ne (Ne.symm hjk)] at hj
          exact absurd (uniq j _ x hj rfl) hjk
    · rw [up_n hb, h3 b x]
      constructor
      · intro hx
        obtain ⟨j, hj⟩ := List.getElem?_of_mem hx
        have hjk : j ≠ k := fun z => by
          subst z
          rw [hk] at hj
          cases hj
          exact hb rfl
        exact List.mem_of_getElem? (i := j) (by rw [List.getElem?_set_ne (Ne.symm hjk)]; exact hj)
      · intro hx
        obtain ⟨j, hj⟩ := List.getElem?_of_mem hx
        by_cases hjk : j = k
        · subst hjk
          rw [List.getElem?_set_self hlen] at hj
          cases hj
          exact absurd rfl hb
        · rw [List.getElem?_set_ne (Ne.symm hjk)] at hj
          exact List.mem_of_getElem? hj
theorem cBw.add {G : gG} {A : Nat → Prop} {L : va_W} {N : NM} {H : Heap} (h : cBw G A L N H) : ∃ ws : va_W, va_P (gD G) vwCl ws H ∧ va_D A ws ∧ ∀ (q : Nat) (e : NE) (H1 : Heap), va_P (gD G) vwCl (ws ++ [(q, nE G e)]) H1 → va_D A (ws ++ [(q, nE G e)]) → N q = none ∧ A q ∧ cBw G A L (va_up N q (some e)) H1 := by
  obtain ⟨w, h1, h2, h3⟩ := h
  refine ⟨_, h1, h2, fun q e H1 hP hD => ?_⟩
  have hl : (L ++ w.map (nQ G) ++ [(q, nE G e)])[(L ++ w.map (nQ G)).length]? = some (q, nE G e) := by
    rw [List.getElem?_append_right (Nat.le_refl _), Nat.sub_self]; rfl
  have hn : N q = none := by
    cases hx : N q with
    | none => rfl
    | some x =>
      obtain ⟨k, hk⟩ := cRep.at h3 hx
      have h5 := cAt (G := G) (L := L) hk
      have hlt := (List.getElem?_eq_some_iff.mp h5).1
      have h6 := hD.1 (L.length + k) _ (q, nE G x) (q, nE G e) (by rw [List.getElem?_append_left hlt]; exact h5) hl rfl
      omega
  refine ⟨hn, hD.2 _ _ hl, w ++ [(q, e)], ?_, ?_, ?_⟩
  · rw [List.map_append, ← List.append_assoc]; exact hP
  · rw [List.map_append, ← List.append_assoc]; exact hD
  · intro b x
    rw [List.mem_append, ← h3 b x]
    by_cases hb : b = q
    · subst hb
      rw [up_s, hn]
      simp [eq_comm]
    · rw [up_n hb]
      simp [hb]
theorem cBw.st {G : gG} {A : Nat → Prop} {L : va_W} {N : NM} {H : Heap} (h : cBw G A L N H) {k a : Nat} {e : va_E} (hk : L[k]? = some (a, e)) : ∃ ws : va_W, va_P (gD G) vwCl ws H ∧ va_D A ws ∧ ws[k]? = some (a, e) ∧ ∀ (e' : va_E) (H1 : Heap), va_P (gD G) vwCl (ws.set k (a, e')) H1 → va_D A (ws.set k (a, e')) → cBw G A (L.set k (a, e')) N H1 := by
  obtain ⟨w, h1, h2, h3⟩ := h
  have hlen := (List.getElem?_eq_some_iff.mp hk).1
  refine ⟨_, h1, h2, by rw [List.getElem?_append_left hlen]; exact hk, fun e' H1 hP hD => ⟨w, ?_, ?_, h3⟩⟩
  · rw [List.set_append_left _ _ hlen] at hP; exact hP
  · rw [List.set_append_left _ _ hlen] at hD; exact hD
theorem cBw.weaken {G : gG} {A B : Nat → Prop} {L : va_W} {N : NM} {H : Heap} (h : cBw G A L N H) (hAB : ∀ q, A q → B q) : cBw G B L N H := by
  obtain ⟨w, h1, h2, h3⟩ := h
  exact ⟨w, h1, h2.weaken (fun _ _ _ z => hAB _ z), h3⟩
theorem cBw.own {G : gG} {A : Nat → Prop} {L : va_W} {N : NM} {H : Heap} (h : cBw G A L N H) (sz : Nat) : cBw G (cA L N sz) L N H := by
  obtain ⟨w, h1, h2, h3⟩ := h
  refine ⟨w, h1, ⟨h2.1, fun k q hq => ?_⟩, h3⟩
  rcases List.mem_append.mp (List.mem_of_getElem? hq) with z | z
  · exact Or.inl ⟨q, z, rfl⟩
  · obtain ⟨x, hx, rfl⟩ := List.mem_map.mp z
    refine Or.inr (Or.inl (fun hn => ?_))
    have := (h3 x.1 x.2).mpr hx
    rw [show (nQ G x).1 = x.1 from rfl] at hn
    rw [hn] at this
    cases this
theorem cBw.inA {G : gG} {A : Nat → Prop} {L : va_W} {N : NM} {H : Heap} (h : cBw G A L N H) {a : Nat} (ha : N a ≠ none) : A a ∧ a < H.size ∧ ∀ x ∈ L, x.1 ≠ a := by
  obtain ⟨w, h1, h2, h3⟩ := h
  cases hx : N a with
  | none => exact absurd hx ha
  | some e =>
    obtain ⟨k, hk⟩ := cRep.at h3 hx
    have h5 := cAt (G := G) (L := L) hk
    refine ⟨h2.2 _ _ h5, (h1 _ _ h5).lt, fun x hx2 he => ?_⟩
    obtain ⟨j, hj⟩ := List.getElem?_of_mem hx2
    have hlt := (List.getElem?_eq_some_iff.mp hj).1
    have := h2.1 j _ x _ (by rw [List.getElem?_append_left hlt]; exact hj) h5 he
    omega
theorem cBw.inL {G : gG} {A : Nat → Prop} {L : va_W} {N : NM} {H : Heap} (h : cBw G A L N H) {x : Nat × va_E} (hx : x ∈ L) : A x.1 ∧ x.1 < H.size ∧ va_at (gD G) vwCl x H := by
  obtain ⟨w, h1, h2, h3⟩ := h
  obtain ⟨j, hj⟩ := List.getElem?_of_mem hx
  have hlt := (List.getElem?_eq_some_iff.mp hj).1
  have h5 : (L ++ w.map (nQ G))[j]? = some x := by rw [List.getElem?_append_left hlt]; exact hj
  exact ⟨h2.2 _ _ h5, (h1 _ _ h5).lt, h1 _ _ h5⟩
theorem gK.le {G : gG} {U : State} (h : gK G U) : gZ G ≤ U.heap.size := by
  rcases Nat.lt_or_ge U.heap.size (gZ G) with z | z
  · exact absurd (h.lt z) (Nat.lt_irrefl _)
  · exact z
theorem cA_le {G : gG} {L : va_W} {N : NM} {H : Heap} {sz : Nat} (h : cBw G (fun q => gZ G ≤ q) L N H) (hs : gZ G ≤ sz) : ∀ q, cA L N sz q → gZ G ≤ q := by
  intro q hq
  rcases hq with ⟨x, hx, rfl⟩ | hq | hq
  · exact (h.inL hx).1
  · exact (h.inA hq).1
  · exact Nat.le_trans hs hq
theorem cPre_blind {G : gG} {L : va_W} {N : NM} {sz : Nat} {As : List Value} : FrameBlind (va_Pc As (cPre G L N sz)) := fun _ _ _ _ q => q
section DY
variable {p : Program} {l : Launch} {e : Env} {R : Room} {s : State} {m : MethodId} {args : Array Value} {below : List Frame} {meth : Method} {c : Code} {H : Heap} {locs : List Loc} {cells slots : Nat} {Q : State → Prop} {cc : ByteArray} {pc : Nat} {ls : Array Slot} {rest : List Value}
variable {G : gG} {A : Nat → Prop} {own : String} {nL : Nat} {L : va_W} {N : NM}
/-- a method of the wide world, from its start -/
theorem c_ofW {ρ σ : Type} {val : ρ → Option Value} {post : ρ → σ → Prop} {lw : σ → va_W × NM} {y : MethodName} {bytes : ByteArray} {maxL sz : Nat} {ret : Option FieldType} {As : List Value} {fr lo mc ms : Nat} (hy : plainName y.cls = true) (hO : gOk G) (hn : (lg_sl As).length ≤ maxL)
    (body : ∀ (p : Program) (e : Env) (s : State) (m : MethodId) (below : List Frame) (meth : Method) (c : Code) (ls : Array Slot) (A : Nat → Prop), cX G A y.cls p s m As.toArray c bytes maxL → meth.sig.returnType = ret → meth.locks = false → (y.name = "<init>" → meth.name = "<init>") → cH G A s L N s.heap [] → lv_has ls maxL (lv_args 0 As) →
      W p l e ⟨fr, mc, ms, lo⟩ s m As.toArray below meth c s.heap [] 0 0 (MQ below (gQ val post (fun u H => cBw G A (lw u).1 (lw u).2 H) A) As.toArray s mc ms A) (F0 m 0 ls [])) :
    Met l y (ws_ y bytes maxL ret) ⟨fr, mc, ms, lo⟩ (va_Pc As (cPre G L N sz)) (gQ val post (fun u H => cBw G (cA L N sz) (lw u).1 (lw u).2 H) (cA L N sz)) mc ms (cA L N sz) := by
  refine Met.ofW (cc := bytes) (maxL := maxL) (ret := ret) hy rfl ?_
  intro p e s m args below meth c s₁ B hml hv
  obtain ⟨rfl, rfl, hP, hK⟩ := hv
  have hts := atoms_spec (ws := ws_ y bytes maxL ret) B.pre
  have hts : ∀ w ∈ lw_all, w.before _ s = true := fun w h => hts w (List.mem_cons_of_mem _ h)
  have hl := lv_entry As (n := maxL) hn
  rw [lg_entry_eq]
  exact body p e s m below meth c _ (cA L N s.heap.size) ⟨⟨B.exec, B.bytes, hml, findClass_of_methodNamed B.named, hts⟩, hK.va hO, hO, hK, fun q h => Or.inr (Or.inr h), cA_le hP hK.le⟩ B.returns B.notSynchronized (fun h => by rw [← h]; exact (name_of_methodNamed B.named B.method).1) ⟨hP.own _, va_S.rf⟩ hl
theorem cX.go (X : cX G A own p s m args c cc nL) (hw : cH G A s L N H locs) {U : State} (hU : U.heap = H) (hW : s.WarmedH U.vm) : gK G U := X.2.2.2.1.go hw.2 X.2.2.2.2.2 hU hW
theorem cX.pre (X : cX G A own p s m args c cc nL) (hw : cH G A s L N H locs) {U : State} (hU : U.heap = H) (hW : s.WarmedH U.vm) : cPre G L N H.size U := ⟨by rw [hU], by rw [hU]; exact hw.1.weaken X.2.2.2.2.2, X.go hw hU hW⟩
theorem cBw.dyn (h : cBw G A L N H) : cBw G A [] N H := by
  obtain ⟨w, h1, h2, h3⟩ := h
  refine ⟨w, fun k q hk => h1 (L.length + k) q ?_, ⟨fun i j x y hi hj hxy => ?_, fun k q hk => h2.2 (L.length + k) q ?_⟩, h3⟩
  · rw [List.getElem?_append_right (Nat.le_add_right _ _), Nat.add_sub_cancel_left]; exact hk
  · have := h2.1 (L.length + i) (L.length + j) x y (by rw [List.getElem?_append_right (Nat.le_add_right _ _), Nat.add_sub_cancel_left]; exact hi) (by rw [List.getElem?_append_right (Nat.le_add_right _ _), Nat.add_sub_cancel_left]; exact hj) hxy
    omega
  · rw [List.getElem?_append_right (Nat.le_add_right _ _), Nat.add_sub_cancel_left]; exact hk
theorem cX.preJ (X : cX G A own p s m args c cc nL) (hw : cH G A s L N H locs) {U : State} (hU : U.heap = H) (hW : s.WarmedH U.vm) : cPre G [] N H.size U := ⟨by rw [hU], by rw [hU]; exact (hw.1.weaken X.2.2.2.2.2).dyn, X.go hw hU hW⟩
/-- what a call of a method of the dynamic world leaves beside the cells at known places -/
theorem cH.joinJ (X : cX G A own p s m args c cc nL) (hw : cH G A s L N H locs) {N1 : NM} {H1 : Heap} {Ls : List Loc} (hB : cBw G (cA [] N H.size) [] N1 H1) (hz : H.size ≤ H1.size) (hk : ∀ q : Nat, q < H.size → ¬ cA [] N H.size q → H1[q]? = H[q]?) (hL : ∀ q ∈ Ls, cA [] N H.size q.base) : cH G A s L N1 H1 (locs ++ Ls) := by
  have hS := hw.2
  have hin : ∀ q, cA [] N H.size q → A q := by
    intro q hq
    rcases hq with ⟨x, hx, -⟩ | hq | hq
    · cases hx
    · exact (hw.1.inA hq).1
    · exact X.2.2.2.2.1 q (Nat.le_trans hS.1 hq)
  have hst : ∀ x ∈ L, ¬ cA [] N H.size x.1 := by
    intro x hx hq
    rcases hq with ⟨z, hz, -⟩ | hq | hq
    · cases hz
    · exact (hw.1.inA hq).2.2 x hx rfl
    · exact Nat.not_le_of_lt (hw.1.inL hx).2.1 hq
  refine ⟨?_, Nat.le_trans hS.1 hz, fun q h1 h2 => ?_, fun q hq => ?_⟩
  · obtain ⟨w, h1, h2, h3⟩ := hB
    have hw1 := hw.1
    obtain ⟨w0, g1, g2, g3⟩ := hw.1
    refine ⟨w, ?_, ?_, h3⟩
    · intro k x hx
      rcases List.mem_append.mp (List.mem_of_getElem? hx) with z | z
      · exact (hw1.inL z).2.2.kept (hk x.1 (hw1.inL z).2.1 (hst x z))
      · obtain ⟨j, hj⟩ := List.getElem?_of_mem z
        exact h1 j x hj
    · have e1 : va_D A L := ⟨fun i j x y hi hj hxy => g2.1 i j x y (by rw [List.getElem?_append_left (List.getElem?_eq_some_iff.mp hi).1]; exact hi) (by rw [List.getElem?_append_left (List.getElem?_eq_some_iff.mp hj).1]; exact hj) hxy, fun k x hx => (hw1.inL (List.mem_of_getElem? hx)).1⟩
      refine va_D.app e1 (h2.weaken (fun _ _ _ z => hin _ z)) (fun i j x y hi hj hxy => ?_)
      exact hst x (List.mem_of_getElem? hi) (by rw [hxy]; exact h2.2 j y hj)
  · rw [hk q (Nat.lt_of_lt_of_le h1 hS.1) (fun z => h2 (hin q z))]
    exact hS.2.1 q h1 h2
  · rcases List.mem_append.mp hq with h | h
    · exact hS.2.2 q h
    · exact hin _ (hL q h)
theorem cH.joinX (X : cX G A own p s m args c cc nL) (hw : cH G A s L N H locs) {L1 : va_W} {N1 : NM} {H1 : Heap} {Ls : List Loc} (hB : cBw G (cA L N H.size) L1 N1 H1) (hz : H.size ≤ H1.size) (hk : ∀ q : Nat, q < H.size → ¬ cA L N H.size q → H1[q]? = H[q]?) (hL : ∀ q ∈ Ls, cA L N H.size q.base) : cH G A s L1 N1 H1 (locs ++ Ls) := by
  have hS := hw.2
  have hin : ∀ q, cA L N H.size q → A q := by
    intro q hq
    rcases hq with ⟨x, hx, rfl⟩ | hq | hq
    · exact (hw.1.inL hx).1
    · exact (hw.1.inA hq).1
    · exact X.2.2.2.2.1 q (Nat.le_trans hS.1 hq)
  refine ⟨hB.weaken hin, Nat.le_trans hS.1 hz, fun q h1 h2 => ?_, fun q hq => ?_⟩
  · rw [hk q (Nat.lt_of_lt_of_le h1 hS.1) (fun z => h2 (hin q z))]
    exact hS.2.1 q h1 h2
  · rcases List.mem_append.mp hq with h | h
    · exact hS.2.2 q h
    · exact hin _ (hL q h)
/-- behind a call of a method of the dynamic world -/
theorem c_callJ {ρ : Type} {val : ρ → Option Value} {post : ρ → NM → Prop} {a : Array Value} {st0 : List Value} {mc ms : Nat} (X : cX G A own p s m args c cc nL) (hw : cH G A s L N H locs)
    (hr : va_Run p l e R s m args below meth c H locs cells slots mc ms (F0 m pc ls st0) rest (gQ val post (fun u H' => cBw G (cA [] N H.size) [] u H') (cA [] N H.size) a) (cA [] N H.size))
    (kk : ∀ (r : ρ) (N1 : NM) (H1 : Heap) (locs1 : List Loc), post r N1 → cH G A s L N1 H1 locs1 → W p l e R s m args below meth c H1 locs1 (cells + mc) (slots + ms) Q (F0 m (pc + 3) ls ((val r).toList ++ rest))) : W p l e R s m args below meth c H locs cells slots Q (F0 m pc ls st0) := by
  intro T hT Y
  obtain ⟨v, st₀, t, T', Ls, h0, X', hL, e1, e2, ⟨⟨r, u, hv, hp, hB⟩, hz, hk⟩, st⟩ := hr T hT Y
  cases hv
  rw [h0] at hz hk
  obtain ⟨t2, a1, b1⟩ := kk r u T'.heap (locs ++ Ls) hp (by rw [e1]; exact cH.joinJ X hw hB hz hk hL) T' rfl X'
  exact ⟨t2, st t2 a1, b1⟩
/-- behind a call of a method of the same world -/
theorem c_callX {ρ σ : Type} {val : ρ → Option Value} {lw : σ → va_W × NM} {post : ρ → σ → Prop} {a : Array Value} {st0 : List Value} {mc ms : Nat} (X : cX G A own p s m args c cc nL) (hw : cH G A s L N H locs)
    (hr : va_Run p l e R s m args below meth c H locs cells slots mc ms (F0 m pc ls st0) rest (gQ val post (fun u H' => cBw G (cA L N H.size) (lw u).1 (lw u).2 H') (cA L N H.size) a) (cA L N H.size))
    (kk : ∀ (r : ρ) (u : σ) (H1 : Heap) (locs1 : List Loc), post r u → cH G A s (lw u).1 (lw u).2 H1 locs1 → W p l e R s m args below meth c H1 locs1 (cells + mc) (slots + ms) Q (F0 m (pc + 3) ls ((val r).toList ++ rest))) : W p l e R s m args below meth c H locs cells slots Q (F0 m pc ls st0) := by
  intro T hT Y
  obtain ⟨v, st₀, t, T', Ls, h0, X', hL, e1, e2, ⟨⟨r, u, hv, hp, hB⟩, hz, hk⟩, st⟩ := hr T hT Y
  cases hv
  rw [h0] at hz hk
  obtain ⟨t2, a1, b1⟩ := kk r u T'.heap (locs ++ Ls) hp (by rw [e1]; exact cH.joinX X hw hB hz hk hL) T' rfl X'
  exact ⟨t2, st t2 a1, b1⟩
theorem c_ret {ρ σ : Type} {val : ρ → Option Value} {lw : σ → va_W × NM} {post : ρ → σ → Prop} {v : ρ} {u : σ} {t : State} (hw : cH G A s (lw u).1 (lw u).2 H locs) (hp : post v u) (ht : t.heap = H) : gQ val post (fun u H => cBw G A (lw u).1 (lw u).2 H) A args s (.returned (val v)) t := ⟨⟨v, u, rfl, hp, by rw [ht]; exact hw.1⟩, hw.2.F ht⟩
/-! rows: fields -/
theorem c_get (X : cX G A own p s m args c cc nL) (hw : cH G A s L N H locs) {a ci : Nat} {fs : List Value} (ha : N a = some (eO ci fs)) {C : String} {T : u_T} {Nf : Nat} (hin : ∀ w ∈ u_ws C T Nf, w ∈ lw_all) (hc : vwCl[ci]? = some (C, T, Nf)) (k : Nat) (hk : k < Nf) {ref : String} {index : Nat} (hq : Cond.fieldLink own index ref (T k).2.1 (T k).2.2.1 ∈ lw_all) (hs : (T k).1 = ref) {v : Value} (hv : fs[k]? = some v) (d : decode cc pc = .ok (.getfield index, 3))
    (kk : W p l e R s m args below meth c H locs cells slots Q (F0 m (pc + 3) ls (v :: rest))) : W p l e R s m args below meth c H locs cells slots Q (F0 m pc ls (.ref a :: rest)) := by
  obtain ⟨ws, q0, hP, -, h0⟩ := hw.1.get ha
  exact va_get X.1.1 X.1.2.1 X.1.2.2.2.2 hin X.1.2.2.2.1 X.2.1 hP q0 h0 hc k hk (X.1.2.2.2.2 _ hq) (fun x h => by rw [hs] at h; exact h) hv d kk
theorem c_put (X : cX G A own p s m args c cc nL) (hw : cH G A s L N H locs) {a ci : Nat} {fs : List Value} (ha : N a = some (eO ci fs)) {C : String} {T : u_T} {Nf : Nat} (hin : ∀ w ∈ u_ws C T Nf, w ∈ lw_all) (ty0 : Nat → FieldType) (hty : ∀ k, k < Nf → parseFieldDescriptor (T k).2.2.1 = some (ty0 k)) (hnm : ∀ a, a < Nf → ∀ b, b < Nf → a ≠ b → (T a).2.1 ≠ (T b).2.1) (hc : vwCl[ci]? = some (C, T, Nf)) (k : Nat) (hk : k < Nf) {ref : String} {index : Nat} (hq : Cond.fieldLink own index ref (T k).2.1 (T k).2.2.1 ∈ lw_all) (hs : (T k).1 = ref) (hfin : (T k).2.2.2 = false) {ty : FieldType} {v : Value} (hd : parseFieldDescriptor (T k).2.2.1 = some ty) (hn : narrow ty v = v) (hfit : fits ty v = true) (hl : k < fs.length) (d : decode cc pc = .ok (.putfield index, 3))
    (kk : ∀ (H1 : Heap) (locs1 : List Loc), cH G A s L (va_up N a (some (eO ci (fs.set k v)))) H1 locs1 → W p l e R s m args below meth c H1 locs1 cells slots Q (F0 m (pc + 3) ls rest)) : W p l e R s m args below meth c H locs cells slots Q (F0 m pc ls (v :: .ref a :: rest)) := by
  obtain ⟨ws, q0, hP, hD, h0, hu⟩ := hw.1.upd ha
  exact va_put X.1.1 X.1.2.1 X.1.2.2.2.2 hin ty0 hty hnm X.1.2.2.2.1 X.2.1 hP hD hw.2 q0 h0 hc k hk (X.1.2.2.2.2 _ hq) (fun x h => by rw [hs] at h; exact h) hfin hd hn hfit hl d (fun H1 locs1 h1 h2 h3 => kk H1 locs1 ⟨hu (eO ci (fs.set k v)) H1 h1 h2, h3⟩)
theorem c_putF (X : cX G A own p s m args c cc nL) (hw : cH G A s L N H locs) {a ci : Nat} {fs : List Value} (ha : N a = some (eO ci fs)) {C : String} {T : u_T} {Nf : Nat} (hin : ∀ w ∈ u_ws C T Nf, w ∈ lw_all) (ty0 : Nat → FieldType) (hty : ∀ k, k < Nf → parseFieldDescriptor (T k).2.2.1 = some (ty0 k)) (hnm : ∀ a, a < Nf → ∀ b, b < Nf → a ≠ b → (T a).2.1 ≠ (T b).2.1) (hc : vwCl[ci]? = some (C, T, Nf)) (k : Nat) (hk : k < Nf) {ref : String} {index : Nat} (hq : Cond.fieldLink own index ref (T k).2.1 (T k).2.2.1 ∈ lw_all) (hs : (T k).1 = ref) (hfin : (T k).2.2.2 = true) (hin2 : meth.name = "<init>") (hdecl : (T k).1 = own) {ty : FieldType} {v : Value} (hd : parseFieldDescriptor (T k).2.2.1 = some ty) (hn : narrow ty v = v) (hfit : fits ty v = true) (hl : k < fs.length) (d : decode cc pc = .ok (.putfield index, 3))
    (kk : ∀ (H1 : Heap) (locs1 : List Loc), cH G A s L (va_up N a (some (eO ci (fs.set k v)))) H1 locs1 → W p l e R s m args below meth c H1 locs1 cells slots Q (F0 m (pc + 3) ls rest)) : W p l e R s m args below meth c H locs cells slots Q (F0 m pc ls (v :: .ref a :: rest)) := by
  obtain ⟨ws, q0, hP, hD, h0, hu⟩ := hw.1.upd ha
  exact va_putF X.1.1 X.1.2.1 X.1.2.2.2.2 hin ty0 hty hnm X.1.2.2.2.1 X.2.1 hP hD hw.2 q0 h0 hc k hk (X.1.2.2.2.2 _ hq) (fun x h => by rw [hs] at h; exact h) hfin hin2 hdecl hd hn hfit hl d (fun H1 locs1 h1 h2 h3 => kk H1 locs1 ⟨hu (eO ci (fs.set k v)) H1 h1 h2, h3⟩)
theorem c_new (X : cX G A own p s m args c cc nL) (hw : cH G A s L N H locs) {C : String} {T : u_T} {Nf ci : Nat} (hin : ∀ w ∈ u_ws C T Nf, w ∈ lw_all) (ty : Nat → FieldType) (hty : ∀ k, k < Nf → parseFieldDescriptor (T k).2.2.1 = some (ty k)) {index : Nat} (hcl : Cond.classLink own index C ∈ lw_all) (hinst : Cond.instantiable C Nf ∈ lw_all) (hini : Cond.initialized C ∈ lw_all) (hc : vwCl[ci]? = some (C, T, Nf)) {fs : List Value} (hfs : ∀ j, j < Nf → defaultValue (ty j) = vp_V fs j) (hcells : cells + 1 ≤ R.cells) (hslots : slots + Nf ≤ R.slots) (d : decode cc pc = .ok (.new index, 3))
    (kk : ∀ (q : Nat) (H1 : Heap), N q = none → gZ G ≤ q → cH G A s L (va_up N q (some (eO ci fs))) H1 locs → W p l e R s m args below meth c H1 locs (cells + 1) (slots + Nf) Q (F0 m (pc + 3) ls (.ref q :: rest))) : W p l e R s m args below meth c H locs cells slots Q (F0 m pc ls rest) := by
  obtain ⟨ws, hP, hD, hu⟩ := hw.1.add
  exact va_new X.1.1 X.1.2.1 X.1.2.2.2.2 hin ty hty X.1.2.2.2.1 (X.1.2.2.2.2 _ hcl) (X.1.2.2.2.2 _ hinst) (X.1.2.2.2.2 _ hini) X.2.1 hP hD hw.2 X.2.2.2.2.1 hc hfs hcells hslots d (fun q H1 h1 h2 h3 => by
    obtain ⟨g1, g2, g3⟩ := hu q (eO ci fs) H1 h1 h2
    exact kk q H1 g1 (X.2.2.2.2.2 q g2) ⟨g3, h3⟩)
theorem c_recv (X : cX G A own p s m args c cc nL) (hw : cH G A s L N H locs) {a ci : Nat} {fs : List Value} {r : vw_C} (ha : N a = some (eO ci fs)) (hc : vwCl[ci]? = some r) : ∃ cell : Cell, H[a]? = some cell ∧ cell.vm.isStatics = false ∧ s.vm.findClass r.1 = some cell.cls := by
  obtain ⟨ws, q0, hP, -, h0⟩ := hw.1.get ha
  exact va_recv X.2.1 hP hc h0
/-! rows: arrays -/
theorem c_iald (X : cX G A own p s m args c cc nL) (hw : cH G A s L N H locs) {a n : Nat} {f : Nat → Int32} (ha : N a = some (eN 0 n f)) {i : Int32} (hi : vp_in i n) (d : decode cc pc = .ok (.iaload, 1)) (kk : W p l e R s m args below meth c H locs cells slots Q (F0 m (pc + 1) ls (.int (f i.toNatClampNeg) :: rest))) : W p l e R s m args below meth c H locs cells slots Q (F0 m pc ls (.int i :: .ref a :: rest)) := by
  obtain ⟨ws, q0, hP, -, h0⟩ := hw.1.get ha
  exact va_iald X.1.1 X.1.2.1 X.2.1 hP q0 0 h0 rfl hi d kk
theorem c_bald (X : cX G A own p s m args c cc nL) (hw : cH G A s L N H locs) {a n : Nat} {f : Nat → Int32} (ha : N a = some (eN 3 n f)) {i : Int32} (hi : vp_in i n) (d : decode cc pc = .ok (.baload, 1)) (kk : W p l e R s m args below meth c H locs cells slots Q (F0 m (pc + 1) ls (.int (f i.toNatClampNeg) :: rest))) : W p l e R s m args below meth c H locs cells slots Q (F0 m pc ls (.int i :: .ref a :: rest)) := by
  obtain ⟨ws, q0, hP, -, h0⟩ := hw.1.get ha
  exact va_bald X.1.1 X.1.2.1 X.2.1 hP q0 3 h0 rfl hi d kk
theorem c_zald (X : cX G A own p s m args c cc nL) (hw : cH G A s L N H locs) {a n : Nat} {f : Nat → Int32} (ha : N a = some (eN 2 n f)) {i : Int32} (hi : vp_in i n) (d : decode cc pc = .ok (.baload, 1)) (kk : W p l e R s m args below meth c H locs cells slots Q (F0 m (pc + 1) ls (.int (f i.toNatClampNeg) :: rest))) : W p l e R s m args below meth c H locs cells slots Q (F0 m pc ls (.int i :: .ref a :: rest)) := by
  obtain ⟨ws, q0, hP, -, h0⟩ := hw.1.get ha
  exact va_zald X.1.1 X.1.2.1 X.2.1 hP q0 2 h0 rfl hi d kk
theorem c_lald (X : cX G A own p s m args c cc nL) (hw : cH G A s L N H locs) {a n : Nat} {f : Nat → Int64} (ha : N a = some (eL 1 n f)) {i : Int32} (hi : vp_in i n) (d : decode cc pc = .ok (.laload, 1)) (kk : W p l e R s m args below meth c H locs cells slots Q (F0 m (pc + 1) ls (.long (f i.toNatClampNeg) :: rest))) : W p l e R s m args below meth c H locs cells slots Q (F0 m pc ls (.int i :: .ref a :: rest)) := by
  obtain ⟨ws, q0, hP, -, h0⟩ := hw.1.get ha
  exact va_lald X.1.1 X.1.2.1 X.2.1 hP q0 1 h0 rfl hi d kk
theorem c_aald (X : cX G A own p s m args c cc nL) (hw : cH G A s L N H locs) {a n : Nat} (t0 : Nat) {C : String} {f : Nat → Option Nat} (ha : N a = some (eR t0 n f)) (ht : (gT G)[t0]? = some (gA G t0, .object C)) {i : Int32} (hi : vp_in i n) (d : decode cc pc = .ok (.aaload, 1)) (kk : W p l e R s m args below meth c H locs cells slots Q (F0 m (pc + 1) ls (va_rf (f i.toNatClampNeg) :: rest))) : W p l e R s m args below meth c H locs cells slots Q (F0 m pc ls (.int i :: .ref a :: rest)) := by
  obtain ⟨ws, q0, hP, -, h0⟩ := hw.1.get ha
  exact va_aldq X.1.1 X.1.2.1 X.2.1 hP q0 t0 h0 ht hi d kk
theorem c_iast (X : cX G A own p s m args c cc nL) (hw : cH G A s L N H locs) {a n : Nat} {f : Nat → Int32} (ha : N a = some (eN 0 n f)) {i x : Int32} (hi : vp_in i n) (d : decode cc pc = .ok (.iastore, 1)) (kk : ∀ (H1 : Heap) (locs1 : List Loc), cH G A s L (va_up N a (some (eN 0 n (upd f i.toNatClampNeg x)))) H1 locs1 → W p l e R s m args below meth c H1 locs1 cells slots Q (F0 m (pc + 1) ls rest)) : W p l e R s m args below meth c H locs cells slots Q (F0 m pc ls (.int x :: .int i :: .ref a :: rest)) := by
  obtain ⟨ws, q0, hP, hD, h0, hu⟩ := hw.1.upd ha
  exact va_iast X.1.1 X.1.2.1 X.2.1 hP hD hw.2 q0 0 h0 rfl hi d (fun H1 locs1 h1 h2 h3 => kk H1 locs1 ⟨hu (eN 0 n (upd f i.toNatClampNeg x)) H1 h1 h2, h3⟩)
theorem c_bast (X : cX G A own p s m args c cc nL) (hw : cH G A s L N H locs) {a n : Nat} {f : Nat → Int32} (ha : N a = some (eN 3 n f)) {i x : Int32} (hi : vp_in i n) (d : decode cc pc = .ok (.bastore, 1)) (kk : ∀ (H1 : Heap) (locs1 : List Loc), cH G A s L (va_up N a (some (eN 3 n (upd f i.toNatClampNeg (vp_nar .byte x))))) H1 locs1 → W p l e R s m args below meth c H1 locs1 cells slots Q (F0 m (pc + 1) ls rest)) : W p l e R s m args below meth c H locs cells slots Q (F0 m pc ls (.int x :: .int i :: .ref a :: rest)) := by
  obtain ⟨ws, q0, hP, hD, h0, hu⟩ := hw.1.upd ha
  exact va_bast X.1.1 X.1.2.1 X.2.1 hP hD hw.2 q0 3 h0 rfl hi d (fun H1 locs1 h1 h2 h3 => kk H1 locs1 ⟨hu (eN 3 n (upd f i.toNatClampNeg (vp_nar .byte x))) H1 h1 h2, h3⟩)
theorem c_zast (X : cX G A own p s m args c cc nL) (hw : cH G A s L N H locs) {a n : Nat} {f : Nat → Int32} (ha : N a = some (eN 2 n f)) {i x : Int32} (hi : vp_in i n) (d : decode cc pc = .ok (.bastore, 1)) (kk : ∀ (H1 : Heap) (locs1 : List Loc), cH G A s L (va_up N a (some (eN 2 n (upd f i.toNatClampNeg (vp_nar .boolean x))))) H1 locs1 → W p l e R s m args below meth c H1 locs1 cells slots Q (F0 m (pc + 1) ls rest)) : W p l e R s m args below meth c H locs cells slots Q (F0 m pc ls (.int x :: .int i :: .ref a :: rest)) := by
  obtain ⟨ws, q0, hP, hD, h0, hu⟩ := hw.1.upd ha
  exact va_zast X.1.1 X.1.2.1 X.2.1 hP hD hw.2 q0 2 h0 rfl hi d (fun H1 locs1 h1 h2 h3 => kk H1 locs1 ⟨hu (eN 2 n (upd f i.toNatClampNeg (vp_nar .boolean x))) H1 h1 h2, h3⟩)
theorem c_last (X : cX G A own p s m args c cc nL) (hw : cH G A s L N H locs) {a n : Nat} {f : Nat → Int64} (ha : N a = some (eL 1 n f)) {i : Int32} {x : Int64} (hi : vp_in i n) (d : decode cc pc = .ok (.lastore, 1)) (kk : ∀ (H1 : Heap) (locs1 : List Loc), cH G A s L (va_up N a (some (eL 1 n (vp_updL f i.toNatClampNeg x)))) H1 locs1 → W p l e R s m args below meth c H1 locs1 cells slots Q (F0 m (pc + 1) ls rest)) : W p l e R s m args below meth c H locs cells slots Q (F0 m pc ls (.long x :: .int i :: .ref a :: rest)) := by
  obtain ⟨ws, q0, hP, hD, h0, hu⟩ := hw.1.upd ha
  exact va_last X.1.1 X.1.2.1 X.2.1 hP hD hw.2 q0 1 h0 rfl hi d (fun H1 locs1 h1 h2 h3 => kk H1 locs1 ⟨hu (eL 1 n (vp_updL f i.toNatClampNeg x)) H1 h1 h2, h3⟩)
theorem c_aast (X : cX G A own p s m args c cc nL) (hw : cH G A s L N H locs) {a n v : Nat} (t0 : Nat) {E : String} {f : Nat → Option Nat} (ha : N a = some (eR t0 n f)) (ht : (gT G)[t0]? = some (gA G t0, .object E)) (hr : va_Any E s H v) {i : Int32} (hi : vp_in i n) (d : decode cc pc = .ok (.aastore, 1)) (kk : ∀ (H1 : Heap) (locs1 : List Loc), cH G A s L (va_up N a (some (eR t0 n (va_up f i.toNatClampNeg (some v))))) H1 locs1 → W p l e R s m args below meth c H1 locs1 cells slots Q (F0 m (pc + 1) ls rest)) : W p l e R s m args below meth c H locs cells slots Q (F0 m pc ls (.ref v :: .int i :: .ref a :: rest)) := by
  obtain ⟨ws, q0, hP, hD, h0, hu⟩ := hw.1.upd ha
  exact va_astqM X.1.1 X.1.2.1 X.2.1 hP hD hw.2 q0 t0 h0 ht hr hi d (fun H1 locs1 h1 h2 h3 => kk H1 locs1 ⟨hu (eR t0 n (va_up f i.toNatClampNeg (some v))) H1 h1 h2, h3⟩)
theorem c_aastN (X : cX G A own p s m args c cc nL) (hw : cH G A s L N H locs) {a n : Nat} (t0 : Nat) {E : String} {f : Nat → Option Nat} (ha : N a = some (eR t0 n f)) (ht : (gT G)[t0]? = some (gA G t0, .object E)) {i : Int32} (hi : vp_in i n) (d : decode cc pc = .ok (.aastore, 1)) (kk : ∀ (H1 : Heap) (locs1 : List Loc), cH G A s L (va_up N a (some (eR t0 n (va_up f i.toNatClampNeg none)))) H1 locs1 → W p l e R s m args below meth c H1 locs1 cells slots Q (F0 m (pc + 1) ls rest)) : W p l e R s m args below meth c H locs cells slots Q (F0 m pc ls (.null :: .int i :: .ref a :: rest)) := by
  obtain ⟨ws, q0, hP, hD, h0, hu⟩ := hw.1.upd ha
  exact va_astqN X.1.1 X.1.2.1 X.2.1 hP hD hw.2 q0 t0 h0 ht hi d (fun H1 locs1 h1 h2 h3 => kk H1 locs1 ⟨hu (eR t0 n (va_up f i.toNatClampNeg none)) H1 h1 h2, h3⟩)
theorem c_alen (X : cX G A own p s m args c cc nL) (hw : cH G A s L N H locs) {a k : Nat} {x : vp_A} (ha : N a = some (.inl (k, x))) {ty : FieldType} (ht : (gT G)[k]? = some (gA G k, ty)) (d : decode cc pc = .ok (.arraylength, 1)) (kk : W p l e R s m args below meth c H locs cells slots Q (F0 m (pc + 1) ls (.int (nI x.1) :: rest))) : W p l e R s m args below meth c H locs cells slots Q (F0 m pc ls (.ref a :: rest)) := by
  obtain ⟨ws, q0, hP, -, h0⟩ := hw.1.get ha
  exact va_alen X.1.1 X.1.2.1 X.2.1 hP q0 k h0 ht rfl d kk
theorem gT_uniq {ty : FieldType} {k : Nat} {cA : ClassId} (hK : va_K (gD G) vwCl (gT G) s) (ht : (gT G)[k]? = some (gA G k, ty)) (hK2 : va_K (gD G) vwCl (gT G ++ [(cA, ty)]) s) : cA = gA G k := by
  have h1 := (hK.2 k _ ht).2
  have h2 := (hK2.2 (gT G).length (cA, ty) (by rw [List.getElem?_append_right (Nat.le_refl _), Nat.sub_self]; rfl)).2
  cases ty with
  | object C =>
    obtain ⟨-, -, -, -, -, z1⟩ := h1
    obtain ⟨-, -, -, -, -, z2⟩ := h2
    exact Option.some.inj (z2.symm.trans z1)
  | _ => exact Option.some.inj (h2.symm.trans h1)
theorem c_newa (X : cX G A own p s m args c cc nL) (hw : cH G A s L N H locs) {atype : ArrayType} {ty : FieldType} (hty : newarray.typeOf atype = ty) (harr : Cond.arrayClass (newarray.typeOf atype) ∈ lw_all) (k : Nat) (ht : (gT G)[k]? = some (gA G k, ty)) {n : Int32} {Nn : Nat} {a0 : vp_A} (ha : ∀ cA : ClassId, vp_cell cA a0 = arrV cA Nn (fun _ => defaultValue ty)) (hn : ¬ n < 0) (hN : n.toNatClampNeg = Nn) (hbytes : Nn * componentBytes ty ≤ 536870912) (hcells : cells + 1 ≤ R.cells) (hslots : slots + Nn ≤ R.slots) (d : decode cc pc = .ok (.newarray atype, 2))
    (kk : ∀ (q : Nat) (H1 : Heap), N q = none → gZ G ≤ q → cH G A s L (va_up N q (some (.inl (k, a0)))) H1 locs → W p l e R s m args below meth c H1 locs (cells + 1) (slots + Nn) Q (F0 m (pc + 2) ls (.ref q :: rest))) : W p l e R s m args below meth c H locs cells slots Q (F0 m pc ls (.int n :: rest)) := by
  obtain ⟨ws, hP, hD, hu⟩ := hw.1.add
  exact va_newa X.1.1 X.1.2.1 (X.1.2.2.2.2 _ harr) hty X.2.1 hP hD hw.2 X.2.2.2.2.1 ha hn hN hbytes hcells hslots d (fun q cA H1 hK1 h1 h2 h3 => by
    have hcA := gT_uniq X.2.1 ht hK1
    subst hcA
    obtain ⟨g1, g2, g3⟩ := hu q (.inl (k, a0)) H1 h1 h2
    exact kk q H1 g1 (X.2.2.2.2.2 q g2) ⟨g3, h3⟩)
theorem gK.AO {C : String} (hO : gOk G) (hK : gK G s) (h : Cond.arrayOver (.object C) ∈ lw_tbl) : va_AO C s := va_AO.moved hK.1.alike (va_AO.of (hO.1 _ h))
theorem c_newq (X : cX G A own p s m args c cc nL) (hw : cH G A s L N H locs) {C : String} {index : Nat} (hcl : Cond.classLink own index C ∈ lw_all) (hov : Cond.arrayOver (.object C) ∈ lw_tbl) (k : Nat) (ht : (gT G)[k]? = some (gA G k, .object C)) {n : Int32} {Nn : Nat} (hn : ¬ n < 0) (hN : n.toNatClampNeg = Nn) (hbytes : Nn * 4 ≤ 536870912) (hcells : cells + 1 ≤ R.cells) (hslots : slots + Nn ≤ R.slots) (d : decode cc pc = .ok (.anewarray index, 3))
    (kk : ∀ (q : Nat) (H1 : Heap), N q = none → gZ G ≤ q → cH G A s L (va_up N q (some (eR k Nn (fun _ => none)))) H1 locs → W p l e R s m args below meth c H1 locs (cells + 1) (slots + Nn) Q (F0 m (pc + 3) ls (.ref q :: rest))) : W p l e R s m args below meth c H locs cells slots Q (F0 m pc ls (.int n :: rest)) := by
  obtain ⟨ws, hP, hD, hu⟩ := hw.1.add
  exact va_newq X.1.1 X.1.2.1 X.1.2.2.2.1 (X.1.2.2.2.2 _ hcl) (gK.AO X.2.2.1 X.2.2.2.1 hov) X.2.1 hP hD hw.2 X.2.2.2.2.1 hn hN hbytes hcells hslots d (fun q cA H1 hK1 h1 h2 h3 => by
    have hcA := gT_uniq X.2.1 ht hK1
    subst hcA
    obtain ⟨g1, g2, g3⟩ := hu q (eR k Nn (fun _ => none)) H1 h1 h2
    exact kk q H1 g1 (X.2.2.2.2.2 q g2) ⟨g3, h3⟩)
/-! references that may be null -/
theorem lq_aload_n (hexec : p.tables.exec = Jvm.exec) (hb : c.code = cc) {k : Fin 4} {i : Nat} {r : Option Nat} (hdg : decode cc pc = .ok (.aload_n k, 1)) (hi : (k : Nat) = i) (hl : ls[i]? = some (.val (va_rf r))) (kk : W p l e R s m args below meth c H locs cells slots Q (F0 m (pc + 1) ls (va_rf r :: rest))) : W p l e R s m args below meth c H locs cells slots Q (F0 m pc ls rest) := by
  cases r with
  | none => exact lv_aload_nN hexec hb hdg hi hl kk
  | some a => exact lv_aload_n hexec hb hdg hi hl kk
theorem lq_aload (hexec : p.tables.exec = Jvm.exec) (hb : c.code = cc) {i : Nat} {r : Option Nat} (hdg : decode cc pc = .ok (.aload i, 2)) (hl : ls[i]? = some (.val (va_rf r))) (kk : W p l e R s m args below meth c H locs cells slots Q (F0 m (pc + 2) ls (va_rf r :: rest))) : W p l e R s m args below meth c H locs cells slots Q (F0 m pc ls rest) := by
  cases r with
  | none => exact lv_aloadN hexec hb hdg hl kk
  | some a => exact lv_aload hexec hb hdg hl kk
theorem lq_astore_n (hexec : p.tables.exec = Jvm.exec) (hb : c.code = cc) {k : Fin 4} {i nL : Nat} {r : Option Nat} {lv lv' : List (Nat × Value)} (hdg : decode cc pc = .ok (.astore_n k, 1)) (hi : (k : Nat) = i) (h : lv_has ls nL lv) (hn : i < nL) (hl : (i, va_rf r) :: lv.filter (fun q => !(q.1 == i) && !(q.1 + 1 == i && q.2.category == 2)) = lv') (kk : ∀ ls' : Array Slot, lv_has ls' nL lv' → W p l e R s m args below meth c H locs cells slots Q (F0 m (pc + 1) ls' rest)) : W p l e R s m args below meth c H locs cells slots Q (F0 m pc ls (va_rf r :: rest)) := by
  cases r with
  | none => exact lv_astore_nN hexec hb hdg hi h hn hl kk
  | some a => exact lv_astore_n hexec hb hdg hi h hn hl kk
theorem lq_astore (hexec : p.tables.exec = Jvm.exec) (hb : c.code = cc) {i nL : Nat} {r : Option Nat} {lv lv' : List (Nat × Value)} (hdg : decode cc pc = .ok (.astore i, 2)) (h : lv_has ls nL lv) (hn : i < nL) (hl : (i, va_rf r) :: lv.filter (fun q => !(q.1 == i) && !(q.1 + 1 == i && q.2.category == 2)) = lv') (kk : ∀ ls' : Array Slot, lv_has ls' nL lv' → W p l e R s m args below meth c H locs cells slots Q (F0 m (pc + 2) ls' rest)) : W p l e R s m args below meth c H locs cells slots Q (F0 m pc ls (va_rf r :: rest)) := by
  cases r with
  | none => exact lv_astoreN hexec hb hdg h hn hl kk
  | some a => exact lv_astore hexec hb hdg h hn hl kk
theorem lq_ifnull (hexec : p.tables.exec = Jvm.exec) (hb : c.code = cc) {r : Option Nat} {off : Int} {tgt : Nat} (hdg : decode cc pc = .ok (.ifnull off, 3)) (ht : (pc : Int) + off = (tgt : Int)) (kn : r = none → W p l e R s m args below meth c H locs cells slots Q (F0 m tgt ls rest)) (ks : ∀ a : Nat, r = some a → W p l e R s m args below meth c H locs cells slots Q (F0 m (pc + 3) ls rest)) : W p l e R s m args below meth c H locs cells slots Q (F0 m pc ls (va_rf r :: rest)) := by
  cases r with
  | none => exact lv_ifnullN hexec hb hdg ht (kn rfl)
  | some a => exact lv_ifnull hexec hb hdg (ks a rfl)
theorem lq_ifnonnull (hexec : p.tables.exec = Jvm.exec) (hb : c.code = cc) {r : Option Nat} {off : Int} {tgt : Nat} (hdg : decode cc pc = .ok (.ifnonnull off, 3)) (ht : (pc : Int) + off = (tgt : Int)) (kn : r = none → W p l e R s m args below meth c H locs cells slots Q (F0 m (pc + 3) ls rest)) (ks : ∀ a : Nat, r = some a → W p l e R s m args below meth c H locs cells slots Q (F0 m tgt ls rest)) : W p l e R s m args below meth c H locs cells slots Q (F0 m pc ls (va_rf r :: rest)) := by
  cases r with
  | none => exact lv_ifnonnullN hexec hb hdg (kn rfl)
  | some a => exact lv_ifnonnull hexec hb hdg ht (ks a rfl)
theorem rf_n (r : Option Nat) (C : String) : narrow (.object C) (va_rf r) = va_rf r := by cases r <;> rfl
theorem rf_f (r : Option Nat) (C : String) : fits (.object C) (va_rf r) = true := by cases r <;> rfl
theorem rf_na (r : Option Nat) (t : FieldType) : narrow (.array t) (va_rf r) = va_rf r := by cases r <;> rfl
theorem rf_fa (r : Option Nat) (t : FieldType) : fits (.array t) (va_rf r) = true := by cases r <;> rfl
theorem rf_c (r : Option Nat) : (va_rf r).category = 1 := by cases r <;> rfl
end DY
theorem nf_X1 : ∀ j, j < 50 → defaultValue (tyX1 j) = vp_V [va_rf none, va_rf none, va_rf none, .int 0, .int 0, .int 0, .int 0, .int 0, .int 0, .int 0, .int 0, .int 0, .int 0, .int 0, .int 0, .long 0, .int 0, .int 0, .int 0, .int 0, .int 0, .int 0, va_rf none, .int 0, va_rf none, va_rf none, va_rf none, va_rf none, va_rf none, .int 0, va_rf none, va_rf none, .int 0, va_rf none, va_rf none, va_rf none, .int 0, .int 0, .int 0, .int 0, .int 0, .int 0, va_rf none, va_rf none, .int 0, va_rf none, va_rf none, va_rf none, va_rf none, .int 0] j := by
  intro j hj
  match j, hj with
  | 0, _ => rfl
  | 1, _ => rfl
  | 2, _ => rfl
  | 3, _ => rfl
  | 4, _ => rfl
  | 5, _ => rfl
  | 6, _ => rfl
  | 7, _ => rfl
  | 8, _ => rfl
  | 9, _ => rfl
  | 10, _ => rfl
  | 11, _ => rfl
  | 12, _ => rfl
  | 13, _ => rfl
  | 14, _ => rfl
  | 15, _ => rfl
  | 16, _ => rfl
  | 17, _ => rfl
  | 18, _ => rfl
  | 19, _ => rfl
  | 20, _ => rfl
  | 21, _ => rfl
  | 22, _ => rfl
  | 23, _ => rfl
  | 24, _ => rfl
  | 25, _ => rfl
  | 26, _ => rfl
  | 27, _ => rfl
  | 28, _ => rfl
  | 29, _ => rfl
  | 30, _ => rfl
  | 31, _ => rfl
  | 32, _ => rfl
  | 33, _ => rfl
  | 34, _ => rfl
  | 35, _ => rfl
  | 36, _ => rfl
  | 37, _ => rfl
  | 38, _ => rfl
  | 39, _ => rfl
  | 40, _ => rfl
  | 41, _ => rfl
  | 42, _ => rfl
  | 43, _ => rfl
  | 44, _ => rfl
  | 45, _ => rfl
  | 46, _ => rfl
  | 47, _ => rfl
  | 48, _ => rfl
  | 49, _ => rfl
  | j + 50, hj => exact absurd hj (by omega)
theorem nf_X0 : ∀ j, j < 19 → defaultValue (tyX0 j) = vp_V [va_rf none, va_rf none, va_rf none, va_rf none, va_rf none, va_rf none, va_rf none, va_rf none, va_rf none, .int 0, .int 0, va_rf none, va_rf none, .int 0, va_rf none, va_rf none, va_rf none, va_rf none, va_rf none] j := by
  intro j hj
  match j, hj with
  | 0, _ => rfl
  | 1, _ => rfl
  | 2, _ => rfl
  | 3, _ => rfl
  | 4, _ => rfl
  | 5, _ => rfl
  | 6, _ => rfl
  | 7, _ => rfl
  | 8, _ => rfl
  | 9, _ => rfl
  | 10, _ => rfl
  | 11, _ => rfl
  | 12, _ => rfl
  | 13, _ => rfl
  | 14, _ => rfl
  | 15, _ => rfl
  | 16, _ => rfl
  | 17, _ => rfl
  | 18, _ => rfl
  | j + 19, hj => exact absurd hj (by omega)
theorem nf_X2 : ∀ j, j < 4 → defaultValue (tyX2 j) = vp_V [.int 0, .int 0, .int 0, va_rf none] j := by
  intro j hj
  match j, hj with
  | 0, _ => rfl
  | 1, _ => rfl
  | 2, _ => rfl
  | 3, _ => rfl
  | j + 4, hj => exact absurd hj (by omega)
theorem nf_X3 : ∀ j, j < 8 → defaultValue (tyX3 j) = vp_V [va_rf none, va_rf none, va_rf none, va_rf none, va_rf none, .int 0, .int 0, .int 0] j := by
  intro j hj
  match j, hj with
  | 0, _ => rfl
  | 1, _ => rfl
  | 2, _ => rfl
  | 3, _ => rfl
  | 4, _ => rfl
  | 5, _ => rfl
  | 6, _ => rfl
  | 7, _ => rfl
  | j + 8, hj => exact absurd hj (by omega)
theorem nf_X8 : ∀ j, j < 7 → defaultValue (tyX8 j) = vp_V [va_rf none, va_rf none, va_rf none, va_rf none, va_rf none, .int 0, .int 0] j := by
  intro j hj
  match j, hj with
  | 0, _ => rfl
  | 1, _ => rfl
  | 2, _ => rfl
  | 3, _ => rfl
  | 4, _ => rfl
  | 5, _ => rfl
  | 6, _ => rfl
  | j + 7, hj => exact absurd hj (by omega)
theorem nf_X5 : ∀ j, j < 7 → defaultValue (tyX5 j) = vp_V [va_rf none, va_rf none, va_rf none, va_rf none, va_rf none, .int 0, .int 0] j := by
  intro j hj
  match j, hj with
  | 0, _ => rfl
  | 1, _ => rfl
  | 2, _ => rfl
  | 3, _ => rfl
  | 4, _ => rfl
  | 5, _ => rfl
  | 6, _ => rfl
  | j + 7, hj => exact absurd hj (by omega)
theorem nf_X4 : ∀ j, j < 4 → defaultValue (tyX4 j) = vp_V [.int 0, .int 0, .int 0, va_rf none] j := by
  intro j hj
  match j, hj with
  | 0, _ => rfl
  | 1, _ => rfl
  | 2, _ => rfl
  | 3, _ => rfl
  | j + 4, hj => exact absurd hj (by omega)
theorem nf_X6 : ∀ j, j < 1 → defaultValue (tyX6 j) = vp_V [va_rf none] j := by
  intro j hj
  match j, hj with
  | 0, _ => rfl
  | j + 1, hj => exact absurd hj (by omega)
theorem nf_X11 : ∀ j, j < 1 → defaultValue (tyX11 j) = vp_V [.long 0] j := by
  intro j hj
  match j, hj with
  | 0, _ => rfl
  | j + 1, hj => exact absurd hj (by omega)
theorem nf_X12 : ∀ j, j < 1 → defaultValue (tyX12 j) = vp_V [.int 0] j := by
  intro j hj
  match j, hj with
  | 0, _ => rfl
  | j + 1, hj => exact absurd hj (by omega)
theorem nf_X14 : ∀ j, j < 3 → defaultValue (tyX14 j) = vp_V [va_rf none, va_rf none, .int 0] j := by
  intro j hj
  match j, hj with
  | 0, _ => rfl
  | 1, _ => rfl
  | 2, _ => rfl
  | j + 3, hj => exact absurd hj (by omega)
theorem nf_X13 : ∀ j, j < 2 → defaultValue (tyX13 j) = vp_V [va_rf none, .int 0] j := by
  intro j hj
  match j, hj with
  | 0, _ => rfl
  | 1, _ => rfl
  | j + 2, hj => exact absurd hj (by omega)
theorem nf_X9 : ∀ j, j < 2 → defaultValue (tyX9 j) = vp_V [.int 0, .int 0] j := by
  intro j hj
  match j, hj with
  | 0, _ => rfl
  | 1, _ => rfl
  | j + 2, hj => exact absurd hj (by omega)
theorem nf_X15 : ∀ j, j < 2 → defaultValue (tyX15 j) = vp_V [.int 0, .int 0] j := by
  intro j hj
  match j, hj with
  | 0, _ => rfl
  | 1, _ => rfl
  | j + 2, hj => exact absurd hj (by omega)
theorem nf_X16 : ∀ j, j < 2 → defaultValue (tyX16 j) = vp_V [.int 0, .long 0] j := by
  intro j hj
  match j, hj with
  | 0, _ => rfl
  | 1, _ => rfl
  | j + 2, hj => exact absurd hj (by omega)
theorem nf_J6 : ∀ j, j < 4 → defaultValue (tyJ6 j) = vp_V [va_rf none, .int 0, .int 0, .int 0] j := by
  intro j hj
  match j, hj with
  | 0, _ => rfl
  | 1, _ => rfl
  | 2, _ => rfl
  | 3, _ => rfl
  | j + 4, hj => exact absurd hj (by omega)
theorem nf_J11 : ∀ j, j < 4 → defaultValue (tyJ11 j) = vp_V [va_rf none, .int 0, .int 0, .int 0] j := by
  intro j hj
  match j, hj with
  | 0, _ => rfl
  | 1, _ => rfl
  | 2, _ => rfl
  | 3, _ => rfl
  | j + 4, hj => exact absurd hj (by omega)
theorem nf_J9 : ∀ j, j < 3 → defaultValue (tyJ9 j) = vp_V [.int 0, va_rf none, .int 0] j := by
  intro j hj
  match j, hj with
  | 0, _ => rfl
  | 1, _ => rfl
  | 2, _ => rfl
  | j + 3, hj => exact absurd hj (by omega)
theorem nf_J21 : ∀ j, j < 9 → defaultValue (tyJ21 j) = vp_V [va_rf none, va_rf none, va_rf none, va_rf none, .int 0, .int 0, va_rf none, va_rf none, va_rf none] j := by
  intro j hj
  match j, hj with
  | 0, _ => rfl
  | 1, _ => rfl
  | 2, _ => rfl
  | 3, _ => rfl
  | 4, _ => rfl
  | 5, _ => rfl
  | 6, _ => rfl
  | 7, _ => rfl
  | 8, _ => rfl
  | j + 9, hj => exact absurd hj (by omega)
theorem nf_J26 : ∀ j, j < 6 → defaultValue (tyJ26 j) = vp_V [va_rf none, va_rf none, va_rf none, va_rf none, va_rf none, .int 0] j := by
  intro j hj
  match j, hj with
  | 0, _ => rfl
  | 1, _ => rfl
  | 2, _ => rfl
  | 3, _ => rfl
  | 4, _ => rfl
  | 5, _ => rfl
  | j + 6, hj => exact absurd hj (by omega)
theorem nf_J28 : ∀ j, j < 4 → defaultValue (tyJ28 j) = vp_V [va_rf none, .int 0, va_rf none, .int 0] j := by
  intro j hj
  match j, hj with
  | 0, _ => rfl
  | 1, _ => rfl
  | 2, _ => rfl
  | 3, _ => rfl
  | j + 4, hj => exact absurd hj (by omega)
theorem nf_J23 : ∀ j, j < 1 → defaultValue (tyJ23 j) = vp_V [.int 0] j := by
  intro j hj
  match j, hj with
  | 0, _ => rfl
  | j + 1, hj => exact absurd hj (by omega)
abbrev jW (N : NM) : va_W × NM := ([], N)
def nTag : NE → Nat
  | .inl x => 2 * x.1 + 1
  | .inr o => 2 * o.1
theorem up_f {N : NM} {q b : Nat} {e2 : NE} {x : Option NE} (hq : N q = none) (hb : N b = some e2) : va_up N q x b = some e2 := by
  rw [up_n]
  · exact hb
  · intro h
    rw [h, hq] at hb
    cases hb
theorem up_k {N : NM} {a b : Nat} {e1 e2 : NE} {x : Option NE} (ha : N a = some e1) (hb : N b = some e2) (hne : nTag e1 ≠ nTag e2) : va_up N a x b = some e2 := by
  rw [up_n]
  · exact hb
  · intro h
    rw [h, ha] at hb
    cases hb
    exact hne rfl
theorem rsum_le2 (rest : List Value) : (rest.map fun v => v.category).sum ≤ 2 * rest.length := by
  induction rest with
  | nil => exact Nat.le_refl _
  | cons v r ih =>
    rw [List.map_cons, List.sum_cons, List.length_cons]
    have : v.category ≤ 2 := by rcases lv_cat v with h | h <;> rw [h] <;> decide
    omega
theorem rsum_le {rest : List Value} (h : 2 * rest.length ≤ 8) : (rest.map fun v => v.category).sum ≤ 8 := Nat.le_trans (rsum_le2 rest) h
theorem lw_l5 {a b c d f : Cond} (h1 : a ∈ lw_all) (h2 : b ∈ lw_all) (h3 : c ∈ lw_all) (h4 : d ∈ lw_all) (h5 : f ∈ lw_all) : ∀ w ∈ [a, b, c, d, f], w ∈ lw_all := by
  intro w hw
  simp only [List.mem_cons, List.not_mem_nil, or_false] at hw
  rcases hw with e | e | e | e | e <;> rw [e] <;> assumption
theorem lw_l4 {a b c d : Cond} (h1 : a ∈ lw_all) (h2 : b ∈ lw_all) (h3 : c ∈ lw_all) (h4 : d ∈ lw_all) : ∀ w ∈ [a, b, c, d], w ∈ lw_all := by
  intro w hw
  simp only [List.mem_cons, List.not_mem_nil, or_false] at hw
  rcases hw with e | e | e | e <;> rw [e] <;> assumption
/-- a private method of a super class, on an object of a class below it (hz: a word that shows both classes) -/
theorem selects_priv {C : String} {y z z' : MethodName} {s : State} {args : Array Value} (hy : y.cls ≠ "java/lang/invoke/MethodHandle" ∧ y.cls ≠ "java/lang/invoke/VarHandle") (hz : (Cond.selects C z z').before args s = true) (hzy : z'.cls = y.cls)
    (hpriv : (Cond.privateMethod y).before args s = true) (hinst : (Cond.instanceMethod y).before args s = true) : (Cond.selects C y y).before args s = true := by
  obtain ⟨c, r, m, hc, -, hm, -, mk, hmk, hni⟩ := Cond.selects_spec hz
  obtain ⟨mk2, methM, hnamed, hmethM, -, -⟩ := Cond.instanceMethod_spec hinst
  have hfound : s.methodFound? y.cls y.name y.desc = some mk2 := State.methodFound?_of_named hnamed hy
  have hsel : selectMethod {} s.vm c mk2 = .method mk2 := selectMethod_private hmethM (Cond.privateMethod_at hpriv mk2 methM hnamed hmethM)
  have e1 := findClass_of_methodNamed hnamed
  have e2 := findClass_of_methodNamed hm
  rw [hzy] at e2
  have e3 : m.cls = mk2.cls := Option.some.inj (e2.symm.trans e1)
  rw [e3] at hmk
  simp only [Cond.before, Cond.holds, Cond.value, hc, hfound, hnamed, hsel, hmk]
  simp [hni]
theorem cu_mk {R : Room} {s : State} {args : Array Value} {own C owner : String} {index maxL mc ms n : Nat} {x y : MethodName} {bytes : ByteArray} {ret : Option FieldType} {ws ws' : List Cond} {rm : Room} (ht : ∀ w ∈ lw_all, w.before args s = true) (hG : GoodIn lw_all ws) (hw : ws = Cond.code y bytes maxL ret :: ws') (hrc : rm.cells = mc) (hrs : rm.slots = ms) (hR : rm.frames + 1 ≤ R.frames ∧ 8 + (maxL + 11) + rm.locals ≤ R.locals) (hini : (Cond.initialized y.cls).before args s = true) (hmh : owner ≠ "java/lang/invoke/MethodHandle" ∧ owner ≠ "java/lang/invoke/VarHandle") (hd : (parseMethodDescriptor x.desc).map (fun d => d.parameters.length) = some n) (hl : (Cond.methodLink own index x).before args s = true) (hsm : (Cond.sameMethod x.cls owner x.name x.desc).before args s = true) (hdec : va_Decl s ⟨owner, x.name, x.desc⟩) (hsel : (Cond.selects C x y).before args s = true) (hi : (Cond.instanceMethod y).before args s = true) : va_CU R s args own C owner index x y bytes maxL ret ws rm mc ms n := by
  have hc : Cond.code y bytes maxL ret ∈ ws := by rw [hw]; exact List.mem_cons_self
  refine ⟨⟨hrc, hrs, hR.1, hR.2, pay_in ht hG, hc⟩, ht _ (hG _ hc).1, hini, hmh, fun sig h => ?_, hl, hsm, hdec, hsel, hi⟩
  rw [h] at hd
  exact (Option.some.inj hd).symm
section DY2
variable {p : Program} {l : Launch} {e : Env} {R : Room} {s : State} {m : MethodId} {args : Array Value} {below : List Frame} {meth : Method} {c : Code} {H : Heap} {locs : List Loc} {cells slots : Nat} {Q : State → Prop} {cc : ByteArray} {pc : Nat} {ls : Array Slot} {rest : List Value}
variable {G : gG} {A : Nat → Prop} {own : String} {nL : Nat} {L : va_W} {N : NM}
/-- a table's word of the start that isn't in the list: it holds at any state of the run, if the tables alone say it -/
theorem gK.priv {y : MethodName} (hO : gOk G) (hK : gK G s) (h : Cond.privateMethod y ∈ lw_tbl) : (Cond.privateMethod y).before args s = true := va_tabs rfl (rfl : ((g0 G).setVm s.vm).vm = s.vm) (by rw [Cond.privateMethod_setVm hK.1.alike]; exact hO.1 _ h)
theorem cX.priv (X : cX G A own p s m args c cc nL) {y : MethodName} (h : Cond.privateMethod y ∈ lw_tbl) : (Cond.privateMethod y).before args s = true := X.2.2.2.1.priv X.2.2.1 h
theorem gK.castable {C T : String} (hO : gOk G) (hK : gK G s) (h : Cond.castable C T ∈ lw_tbl) : va_Nw (.castable C T) s := va_Nw.warmC hK.1 (va_Nw.of rfl (hO.1 _ h))
theorem gK.linkF {a b n d h : String} {i : Nat} (hO : gOk G) (hK : gK G s) (hh : Cond.fieldLinkNest a i b n d h ∈ lw_tbl) : (Cond.fieldLinkNest a i b n d h).before args s = true := va_Nw.use rfl (va_Nw.warmF hK.1 (va_Nw.of rfl (hO.1 _ hh)))
theorem gK.linkM {a h : String} {i : Nat} {x : MethodName} (hO : gOk G) (hK : gK G s) (hh : Cond.methodLinkNest a i x h ∈ lw_tbl) : (Cond.methodLinkNest a i x h).before args s = true := va_Nw.use rfl (va_Nw.warmM hK.1 (va_Nw.of rfl (hO.1 _ hh)))
theorem c_getN (X : cX G A own p s m args c cc nL) (hw : cH G A s L N H locs) {a ci : Nat} {fs : List Value} (ha : N a = some (eO ci fs)) {C host : String} {T : u_T} {Nf : Nat} (hin : ∀ w ∈ u_ws C T Nf, w ∈ lw_all) (hc : vwCl[ci]? = some (C, T, Nf)) (k : Nat) (hk : k < Nf) {ref : String} {index : Nat} (hq : Cond.fieldLinkNest own index ref (T k).2.1 (T k).2.2.1 host ∈ lw_tbl) (hs : (T k).1 = ref) {v : Value} (hv : fs[k]? = some v) (d : decode cc pc = .ok (.getfield index, 3))
    (kk : W p l e R s m args below meth c H locs cells slots Q (F0 m (pc + 3) ls (v :: rest))) : W p l e R s m args below meth c H locs cells slots Q (F0 m pc ls (.ref a :: rest)) := by
  obtain ⟨ws, q0, hP, -, h0⟩ := hw.1.get ha
  exact va_getN X.1.1 X.1.2.1 X.1.2.2.2.2 hin X.1.2.2.2.1 X.2.1 hP q0 h0 hc k hk (X.2.2.2.1.linkF X.2.2.1 hq) (fun x h => by rw [hs] at h; exact h) hv d kk
theorem c_castS (X : cX G A own p s m args c cc nL) (hw : cH G A s L N H locs) {a ci : Nat} {fs : List Value} {r : vw_C} (ha : N a = some (eO ci fs)) (hc : vwCl[ci]? = some r) {index : Nat} (hq : Cond.classLink own index r.1 ∈ lw_all) (d : decode cc pc = .ok (.checkcast index, 3)) (kk : W p l e R s m args below meth c H locs cells slots Q (F0 m (pc + 3) ls (.ref a :: rest))) : W p l e R s m args below meth c H locs cells slots Q (F0 m pc ls (.ref a :: rest)) :=
  va_castS X.1.1 X.1.2.1 X.1.2.2.2.1 (X.1.2.2.2.2 _ hq) (X.2.1.1 ci r hc).2 (c_recv X hw ha hc) d kk
theorem c_castY (X : cX G A own p s m args c cc nL) (hw : cH G A s L N H locs) {a ci : Nat} {fs : List Value} {r : vw_C} {nm : String} (ha : N a = some (eO ci fs)) (hc : vwCl[ci]? = some r) (hy : Cond.castable r.1 nm ∈ lw_tbl) {index : Nat} (hq : Cond.classLink own index nm ∈ lw_all) (d : decode cc pc = .ok (.checkcast index, 3)) (kk : W p l e R s m args below meth c H locs cells slots Q (F0 m (pc + 3) ls (.ref a :: rest))) : W p l e R s m args below meth c H locs cells slots Q (F0 m pc ls (.ref a :: rest)) :=
  va_castY X.1.1 X.1.2.1 X.1.2.2.2.1 (X.1.2.2.2.2 _ hq) (X.2.2.2.1.castable X.2.2.1 hy) (c_recv X hw ha hc) d kk
theorem c_anyS (X : cX G A own p s m args c cc nL) (hw : cH G A s L N H locs) {a ci : Nat} {fs : List Value} {r : vw_C} (ha : N a = some (eO ci fs)) (hc : vwCl[ci]? = some r) : va_Any r.1 s H a := by
  obtain ⟨ws, q0, hP, -, h0⟩ := hw.1.get ha
  refine va_rAny X.2.1 hP h0 hc (fun comp c0 h1 h2 => ?_)
  cases h1.symm.trans h2
  have h3 := (X.2.1.1 ci r hc).2
  cases h3.1.symm.trans h1
  exact va_assign h3
theorem c_anyY (X : cX G A own p s m args c cc nL) (hw : cH G A s L N H locs) {a ci : Nat} {fs : List Value} {r : vw_C} {E : String} (ha : N a = some (eO ci fs)) (hc : vwCl[ci]? = some r) (hy : Cond.castable r.1 E ∈ lw_tbl) : va_Any E s H a := by
  obtain ⟨ws, q0, hP, -, h0⟩ := hw.1.get ha
  refine va_rAny X.2.1 hP h0 hc (fun comp c0 h1 h2 => ?_)
  obtain ⟨c1, t1, f1, f2, f3⟩ := Cond.castable_spec (va_Nw.use (A := args) rfl (X.2.2.2.1.castable X.2.2.1 hy))
  cases f1.symm.trans h2
  cases f2.symm.trans h1
  exact f3
end DY2
/-- a boxed int: one of the cache's, or one that the run made -/
def iAt (K : Nat → Nat → Nat) (N : NM) (a : Nat) (x : Int32) : Prop := (∃ k : Nat, k < 256 ∧ a = K 3 k ∧ x = vb_c k) ∨ N a = some (eO 22 [.int x])
section CONS
variable {p : Program} {l : Launch} {e : Env} {R : Room} {s : State} {m : MethodId} {args : Array Value} {below : List Frame} {meth : Method} {c : Code} {H : Heap} {locs : List Loc} {cells slots : Nat} {Q : State → Prop} {cc : ByteArray} {pc : Nat} {ls : Array Slot} {rest : List Value}
variable {G : gG} {A : Nat → Prop} {own : String} {nL : Nat} {L : va_W} {N : NM}
theorem cX.Z (X : cX G A own p s m args c cc nL) {C n d : String} {v : Value} (h : va_Z C n d v (gAz G) (g0 G) (g0 G).heap) : va_Z C n d v A s s.heap := (X.2.2.2.1.Z h).narrow X.2.2.2.2.2
theorem cX.T (X : cX G A own p s m args c cc nL) {ty : FieldType} {t n : Nat} {f : Nat → Value} (h : va_T ty t n f (gAz G) (g0 G) (g0 G).heap) : va_T ty t n f A s s.heap := ((va_T.moved X.2.2.2.1.1.alike h).kept (fun a _ hA => X.2.2.2.1.2 a (Nat.not_le.mp hA))).narrow X.2.2.2.2.2
theorem cX.O (X : cX G A own p s m args c cc nL) {E : String} {t : Nat} (h : va_O E t (gAz G) (g0 G) (g0 G).heap) : va_O E t A s s.heap := ((va_O.moved X.2.2.2.1.1.alike h).kept (fun a _ hA => X.2.2.2.1.2 a (Nat.not_le.mp hA))).narrow X.2.2.2.2.2
theorem cX.OF (X : cX G A own p s m args c cc nL) {o n d : String} {v : Value} {t : Nat} (h : va_OF o n d v t (gAz G) (g0 G) (g0 G).heap) : va_OF o n d v t A s s.heap := ((va_OF.moved X.2.2.2.1.1.alike h).kept (fun a _ hA => X.2.2.2.1.2 a (Nat.not_le.mp hA))).narrow X.2.2.2.2.2
theorem cX.cs (X : cX G A own p s m args c cc nL) : gCs G := X.2.2.1.2.2.2.2.2
theorem cX.ints (X : cX G A own p s m args c cc nL) : vb_C (gC G 3) A s s.heap := ((vb_C.moved X.2.2.2.1.1.alike X.cs.1).kept (fun a _ hA => X.2.2.2.1.2 a (Nat.not_le.mp hA))).narrow X.2.2.2.2.2
theorem c_recvI (X : cX G A own p s m args c cc nL) (hw : cH G A s L N H locs) {a : Nat} {x : Int32} (h : iAt (gC G) N a x) : ∃ cell : Cell, H[a]? = some cell ∧ cell.vm.isStatics = false ∧ s.vm.findClass "java/lang/Integer" = some cell.cls := by
  rcases h with ⟨k, hk, rfl, -⟩ | h
  · obtain ⟨cell, h1, h2, h3, -⟩ := (X.ints.1 k hk).kept hw.2.2.1
    exact ⟨cell, h1, h2, h3⟩
  · exact c_recv X hw h (r := (RJ23, TJ23, 1)) rfl
theorem c_getI (X : cX G A own p s m args c cc nL) (hw : cH G A s L N H locs) {a : Nat} {x : Int32} (h : iAt (gC G) N a x) {index : Nat} (hq : Cond.fieldLink own index "java/lang/Integer" "value" "I" ∈ lw_all) (d : decode cc pc = .ok (.getfield index, 3)) (kk : W p l e R s m args below meth c H locs cells slots Q (F0 m (pc + 3) ls (.int x :: rest))) : W p l e R s m args below meth c H locs cells slots Q (F0 m pc ls (.ref a :: rest)) := by
  rcases h with ⟨k, hk, rfl, rfl⟩ | h
  · exact vk_getf X.1.1 X.1.2.1 (X.ints.2 k hk) hw.2 X.1.2.2.2.1 (X.1.2.2.2.2 _ hq) (fun x h => h) d kk
  · exact c_get X hw h in_J23 rfl 0 (by decide) hq rfl rfl d kk
theorem c_castI (X : cX G A own p s m args c cc nL) (hw : cH G A s L N H locs) {a : Nat} {x : Int32} (h : iAt (gC G) N a x) {index : Nat} (hq : Cond.classLink own index "java/lang/Integer" ∈ lw_all) (d : decode cc pc = .ok (.checkcast index, 3)) (kk : W p l e R s m args below meth c H locs cells slots Q (F0 m (pc + 3) ls (.ref a :: rest))) : W p l e R s m args below meth c H locs cells slots Q (F0 m pc ls (.ref a :: rest)) :=
  va_castS X.1.1 X.1.2.1 X.1.2.2.2.1 (X.1.2.2.2.2 _ hq) (X.2.1.1 22 (RJ23, TJ23, 1) rfl).2 (c_recvI X hw h) d kk
theorem gK.Fw {C : String} {x y : MethodName} (hx : x.cls ≠ "java/lang/invoke/MethodHandle" ∧ x.cls ≠ "java/lang/invoke/VarHandle") (hO : gOk G) (hK : gK G s) (h1 : Cond.declares x ∈ lw_tbl) (h2 : Cond.interfaceMethod x.cls x.cls x.name x.desc ∈ lw_tbl) (h3 : Cond.publicMethod y ∈ lw_tbl) (h4 : Cond.unhidden C x.name x.desc ∈ lw_tbl) (h5 : Cond.castable C x.cls ∈ lw_tbl) : va_Fw C x y s := va_Fw.moved hx hK.1.alike (va_Fw.of (hO.1 _ h1) (hO.1 _ h2) (hO.1 _ h3) (hO.1 _ h4) (hO.1 _ h5))
/-- behind a call through an interface -/
theorem c_callF {ρ : Type} {val : ρ → Option Value} {post : ρ → NM → Prop} {a : Array Value} {st0 : List Value} {mc ms : Nat} (X : cX G A own p s m args c cc nL) (hw : cH G A s L N H locs)
    (hr : va_Run5 p l e R s m args below meth c H locs cells slots mc ms (F0 m pc ls st0) rest (gQ val post (fun u H' => cBw G (cA [] N H.size) [] u H') (cA [] N H.size) a) (cA [] N H.size))
    (kk : ∀ (r : ρ) (N1 : NM) (H1 : Heap) (locs1 : List Loc), post r N1 → cH G A s L N1 H1 locs1 → W p l e R s m args below meth c H1 locs1 (cells + mc) (slots + ms) Q (F0 m (pc + 5) ls ((val r).toList ++ rest))) : W p l e R s m args below meth c H locs cells slots Q (F0 m pc ls st0) := by
  intro T hT Y
  obtain ⟨v, st₀, t, T', Ls, h0, X', hL, e1, e2, ⟨⟨r, u, hv, hp, hB⟩, hz, hk⟩, st⟩ := hr T hT Y
  cases hv
  rw [h0] at hz hk
  obtain ⟨t2, a1, b1⟩ := kk r u T'.heap (locs ++ Ls) hp (by rw [e1]; exact cH.joinJ X hw hB hz hk hL) T' rfl X'
  exact ⟨t2, st t2 a1, b1⟩
end CONS
/-- a String at a: one of the constants, or one that the run made -/
def sKn (K : Nat → Nat → Nat) (N : NM) (a v n : Nat) (f : Nat → Int32) : Prop := n < 2 ^ 31 ∧ ((∃ t : Nat, t < sN ∧ a = K 0 t ∧ v = K 1 t ∧ n = sLen.getD t 0 ∧ f = fun j => (sByt.getD t []).getD j 0) ∨ (∃ h z : Int32, N a = some (eO 16 [.ref v, .int 0, .int h, .int z]) ∧ N v = some (eN 3 n f)))
theorem cBw.upd2 {G : gG} {A : Nat → Prop} {L : va_W} {N : NM} {H : Heap} (h : cBw G A L N H) {a b : Nat} {e e2 : NE} (ha : N a = some e) (hb : N b = some e2) : ∃ (ws : va_W) (q0 q1 : Nat), va_P (gD G) vwCl ws H ∧ va_D A ws ∧ ws[q0]? = some (a, nE G e) ∧ ws[q1]? = some (b, nE G e2) ∧ ∀ (e' : NE) (H1 : Heap), va_P (gD G) vwCl (ws.set q0 (a, nE G e')) H1 → va_D A (ws.set q0 (a, nE G e')) → cBw G A L (va_up N a (some e')) H1 := by
  obtain ⟨ws, q0, h1, h2, h3, h4⟩ := h.upd ha
  obtain ⟨w, g1, g2, g3⟩ := h
  obtain ⟨k, hk⟩ := cRep.at g3 ha
  obtain ⟨j, hj⟩ := cRep.at g3 hb
  have hu := cBw.upd (G := G) (A := A) (L := L) (N := N) (H := H) ⟨w, g1, g2, g3⟩ ha
  clear ws q0 h1 h2 h3 h4 hu
  have hw : cBw G A L N H := ⟨w, g1, g2, g3⟩
  refine ⟨L ++ w.map (nQ G), L.length + k, L.length + j, g1, g2, cAt hk, cAt hj, fun e' H1 hP hD => ?_⟩
  have hlen := (List.getElem?_eq_some_iff.mp hk).1
  refine ⟨w.set k (a, e'), ?_, ?_, ?_⟩
  · rw [List.set_append_right _ _ (Nat.le_add_right _ _), Nat.add_sub_cancel_left, show (a, nE G e') = nQ G (a, e') from rfl, ← List.map_set] at hP
    exact hP
  · rw [List.set_append_right _ _ (Nat.le_add_right _ _), Nat.add_sub_cancel_left, show (a, nE G e') = nQ G (a, e') from rfl, ← List.map_set] at hD
    exact hD
  · have uniq : ∀ (j b : Nat) (x : NE), w[j]? = some (b, x) → b = a → j = k := fun j b x hj hb => by
      have := g2.1 _ _ _ _ (cAt (G := G) (L := L) hj) (cAt (G := G) (L := L) hk) hb
      omega
    intro b x
    by_cases hb : b = a
    · subst hb
      rw [up_s]
      constructor
      · intro hx
        cases hx
        exact List.mem_of_getElem? (i := k) (by rw [List.getElem?_set_self hlen])
      · intro hx
        obtain ⟨j, hj⟩ := List.getElem?_of_mem hx
        by_cases hjk : j = k
        · subst hjk
          rw [List.getElem?_set_self hlen] at hj
          cases hj
          rfl
        · rw [List.getElem?_set_ne (Ne.symm hjk)] at hj
          exact absurd (uniq j _ x hj rfl) hjk
    · rw [up_n hb, g3 b x]
      constructor
      · intro hx
        obtain ⟨j, hj⟩ := List.getElem?_of_mem hx
        have hjk : j ≠ k := fun z => by
          subst z
          rw [hk] at hj
          cases hj
          exact hb rfl
        exact List.mem_of_getElem? (i := j) (by rw [List.getElem?_set_ne (Ne.symm hjk)]; exact hj)
      · intro hx
        obtain ⟨j, hj⟩ := List.getElem?_of_mem hx
        by_cases hjk : j = k
        · subst hjk
          rw [List.getElem?_set_self hlen] at hj
          cases hj
          exact absurd rfl hb
        · rw [List.getElem?_set_ne (Ne.symm hjk)] at hj
          exact List.mem_of_getElem? hj
section STR2
variable {p : Program} {l : Launch} {e : Env} {R : Room} {s : State} {m : MethodId} {args : Array Value} {below : List Frame} {meth : Method} {c : Code} {H : Heap} {locs : List Loc} {cells slots : Nat} {Q : State → Prop} {cc : ByteArray} {pc : Nat} {ls : Array Slot} {rest : List Value}
variable {G : gG} {A : Nat → Prop} {own : String} {nL : Nat} {L : va_W} {N : NM}
theorem c_OF (X : cX G A own p s m args c cc nL) (hw : cH G A s L N H locs) {a ci : Nat} {fs : List Value} (ha : N a = some (eO ci fs)) {C : String} {T : u_T} {Nf : Nat} (hin : ∀ w ∈ u_ws C T Nf, w ∈ lw_all) (hc : vwCl[ci]? = some (C, T, Nf)) (k : Nat) (hk : k < Nf) {v : Value} (hv : fs[k]? = some v) : va_OF (T k).1 (T k).2.1 (T k).2.2.1 v a (fun _ => False) s H := by
  obtain ⟨ws, q0, hP, -, h0⟩ := hw.1.get ha
  obtain ⟨r, h1, cell, q1, q2, q3, q4⟩ := hP q0 _ h0
  have hr : r = (C, T, Nf) := Option.some.inj (h1.symm.trans hc)
  subst hr
  obtain ⟨hS, hfc, kC, hkC, hkind⟩ := X.2.1.1 ci _ hc
  obtain ⟨cf, kf, fi, f, hi, hsl⟩ := hS k hk
  refine ⟨cf, kf, fi, f, cell, hi, (u_facts hfc hkC (u_lays X.1.2.2.2.2 hin hk) hi).1, q1, (by rw [q3]; exact fun h => (by cases h)), ?_, fun z => z⟩
  rw [hsl, q4 k hk]
  simp [vp_V, hv]
theorem c_T (X : cX G A own p s m args c cc nL) (hw : cH G A s L N H locs) {v n : Nat} {f : Nat → Int32} (hv : N v = some (eN 3 n f)) : va_T .byte v n (fun j => .int (f j)) (fun _ => False) s H := by
  obtain ⟨ws, q0, hP, -, h0⟩ := hw.1.get hv
  have h1 : H[v]? = some (vp_cell (gA G 3) (n, .inl f)) := hP q0 _ h0
  refine ⟨_, h1, (X.2.1.2 3 _ rfl).1 n (fun j => .int (f j)), (fun q => (by cases q)), ?_, ?_, ?_, fun z => z⟩
  · show n ≤ (arrV _ _ _).slots.size
    rw [arrV_size]
    exact Nat.le_refl _
  · show (arrV _ _ _).slots.size.toInt32 = _
    rw [arrV_size]
  · intro j hj
    show (arrV _ _ _).slots[j]? = _
    rw [arrV_read _ _ hj]
theorem c_sk (X : cX G A own p s m args c cc nL) (hw : cH G A s L N H locs) {a v n : Nat} {f : Nat → Int32} (h : sKn (gC G) N a v n f) : sAt a v n f s H := by
  rcases h.2 with ⟨t, ht, rfl, rfl, rfl, rfl⟩ | ⟨hh, z, h1, h2⟩
  · exact sAt.const X.2.2.1 X.2.2.2.1 hw.2 X.2.2.2.2.2 ht
  · refine ⟨?_, c_OF X hw h1 in_J6 (hc := rfl) (T := TJ6) 1 (by decide) rfl, c_OF X hw h1 in_J6 (hc := rfl) (T := TJ6) 0 (by decide) rfl, c_T X hw h2⟩
    obtain ⟨cell, g1, g2, g3⟩ := c_recv X hw h1 (r := (RJ6, TJ6, 4)) rfl
    exact ⟨cell, g1, g2, g3, fun z => z⟩
theorem cX.sc (X : cX G A own p s m args c cc nL) (hw : cH G A s L N H locs) {t : Nat} (ht : t < sN) : sAt (gC G 0 t) (gC G 1 t) (sLen.getD t 0) (fun j => (sByt.getD t []).getD j 0) s H := sAt.const X.2.2.1 X.2.2.2.1 hw.2 X.2.2.2.2.2 ht
theorem cX.ref (X : cX G A own p s m args c cc nL) {r : String × Nat × String × Nat} (h : r ∈ sRefs) : vk_R r.1 r.2.1 r.2.2.1 (gC G 0 r.2.2.2) s := X.2.2.2.1.ref X.2.2.1 h
/-- System.arraycopy of ints, bytes, booleans between two arrays of N -/
theorem c_copyi (X : cX G A own p s m args c cc nL) (hw : cH G A s L N H locs) (hsz : ls.size = nL) {index : Nat} (hl : Cond.methodLink own index arraycopyName ∈ lw_all) (hnat : Cond.native arraycopyName ∈ lw_all) (hstat : Cond.static arraycopyName ∈ lw_all) (hini : Cond.initialized "java/lang/System" ∈ lw_all) (k : Nat) {a b n0 n1 : Nat} {f g : Nat → Int32} {ty : FieldType} (hb : N b = some (eN k n0 f)) (ha : N a = some (eN k n1 g)) (ht : (gT G)[k]? = some (gA G k, ty)) (hprim : refKind ty = false)
    {sp dp n : Int32} (h1 : ¬ sp < 0) (h2 : ¬ dp < 0) (h3 : ¬ n < 0) (h4 : sp.toNatClampNeg + n.toNatClampNeg ≤ n0) (h5 : dp.toNatClampNeg + n.toNatClampNeg ≤ n1) (hfit : ∀ i, i < n.toNatClampNeg → fits ty (.int (f (sp.toNatClampNeg + i))) = true)
    (hframes : 1 ≤ R.frames) (hlocals : (rest.map fun v => v.category).sum + (nativeFrameWords "java/lang/System" "arraycopy" 5 + 11) ≤ R.locals) (d : decode cc pc = .ok (.invokestatic index, 3))
    (kk : ∀ (H1 : Heap) (locs1 : List Loc), cH G A s L (va_up N a (some (eN k n1 (va_cpy f g sp.toNatClampNeg dp.toNatClampNeg n.toNatClampNeg)))) H1 locs1 → W p l e R s m args below meth c H1 locs1 cells slots Q (F0 m (pc + 3) ls rest)) : W p l e R s m args below meth c H locs cells slots Q (F0 m pc ls (.int n :: .int dp :: .ref a :: .int sp :: .ref b :: rest)) := by
  obtain ⟨ws, q0, q1, hP, hD, e0, e1, hu⟩ := hw.1.upd2 ha hb
  exact va_copyi X.1.1 X.1.2.1 (X.1.2.2.1.trans hsz.symm) X.1.2.2.2.1 (X.1.2.2.2.2 _ hl) (X.1.2.2.2.2 _ hnat) (X.1.2.2.2.2 _ hstat) (X.1.2.2.2.2 _ hini) X.2.1 hP hD hw.2 q1 q0 k k e1 e0 ht ht hprim h1 h2 h3 h4 h5 hfit hframes hlocals d (fun H1 locs1 g1 g2 g3 => kk H1 locs1 ⟨hu (eN k n1 (va_cpy f g sp.toNatClampNeg dp.toNatClampNeg n.toNatClampNeg)) H1 g1 g2, g3⟩)
/-- .. from a constant's bytes -/
theorem c_copyt (X : cX G A own p s m args c cc nL) (hw : cH G A s L N H locs) (hsz : ls.size = nL) {index : Nat} (hl : Cond.methodLink own index arraycopyName ∈ lw_all) (hnat : Cond.native arraycopyName ∈ lw_all) (hstat : Cond.static arraycopyName ∈ lw_all) (hini : Cond.initialized "java/lang/System" ∈ lw_all) {a b n0 n1 : Nat} {f g : Nat → Int32} (hb : va_T .byte b n0 (fun j => .int (f j)) A s s.heap) (ha : N a = some (eN 3 n1 g))
    {sp dp n : Int32} (h1 : ¬ sp < 0) (h2 : ¬ dp < 0) (h3 : ¬ n < 0) (h4 : sp.toNatClampNeg + n.toNatClampNeg ≤ n0) (h5 : dp.toNatClampNeg + n.toNatClampNeg ≤ n1) (hfit : ∀ i, i < n.toNatClampNeg → fits .byte (.int (f (sp.toNatClampNeg + i))) = true)
    (hframes : 1 ≤ R.frames) (hlocals : (rest.map fun v => v.category).sum + (nativeFrameWords "java/lang/System" "arraycopy" 5 + 11) ≤ R.locals) (d : decode cc pc = .ok (.invokestatic index, 3))
    (kk : ∀ (H1 : Heap) (locs1 : List Loc), cH G A s L (va_up N a (some (eN 3 n1 (va_cpy f g sp.toNatClampNeg dp.toNatClampNeg n.toNatClampNeg)))) H1 locs1 → W p l e R s m args below meth c H1 locs1 cells slots Q (F0 m (pc + 3) ls rest)) : W p l e R s m args below meth c H locs cells slots Q (F0 m pc ls (.int n :: .int dp :: .ref a :: .int sp :: .ref b :: rest)) := by
  obtain ⟨ws, q0, hP, hD, h0, hu⟩ := hw.1.upd ha
  exact vk_copyt X.1.1 X.1.2.1 (X.1.2.2.1.trans hsz.symm) X.1.2.2.2.1 (X.1.2.2.2.2 _ hl) (X.1.2.2.2.2 _ hnat) (X.1.2.2.2.2 _ hstat) (X.1.2.2.2.2 _ hini) X.2.1 hP hD hw.2 hb q0 3 h0 rfl h1 h2 h3 h4 h5 hfit hframes hlocals d (fun H1 locs1 g1 g2 g3 => kk H1 locs1 ⟨hu (eN 3 n1 (va_cpy f g sp.toNatClampNeg dp.toNatClampNeg n.toNatClampNeg)) H1 g1 g2, g3⟩)
theorem cX.sv (X : cX G A own p s m args c cc nL) {t : Nat} (ht : t < sN) : va_T .byte (gC G 1 t) (sLen.getD t 0) (fun j => .int ((sByt.getD t []).getD j 0)) A s s.heap := by
  have h1 : vk_S sN sLen sByt (gC G 0) (gC G 1) (fun q => gZ G ≤ q) s s.heap := (vk_S.moved X.2.2.2.1.1.alike X.2.2.1.2.2.2.1).kept (fun a _ hA => X.2.2.2.1.2 a (Nat.not_le.mp hA))
  exact ((h1.narrow X.2.2.2.2.2).1 t ht).2.2.2
theorem c_cloneB (X : cX G A own p s m args c cc nL) (hw : cH G A s L N H locs) (hsz : ls.size = nL) {index : Nat} (hl : Cond.methodLink own index ⟨"[B", "clone", "()Ljava/lang/Object;"⟩ ∈ lw_all) (hsame : Cond.sameMethod "[B" "java/lang/Object" "clone" "()Ljava/lang/Object;" ∈ lw_all) (hnat : Cond.native ⟨"java/lang/Object", "clone", "()Ljava/lang/Object;"⟩ ∈ lw_all) (hinst : Cond.instanceMethod ⟨"java/lang/Object", "clone", "()Ljava/lang/Object;"⟩ ∈ lw_all) (hsel : Cond.selects "[B" ⟨"[B", "clone", "()Ljava/lang/Object;"⟩ ⟨"java/lang/Object", "clone", "()Ljava/lang/Object;"⟩ ∈ lw_all) (hcl : Cond.castable "[B" "java/lang/Cloneable" ∈ lw_tbl) {a n : Nat} {f : Nat → Int32} (ha : N a = some (eN 3 n f)) (hfit : ∀ i, i < n → fits .byte (.int (f i)) = true)
    (hframes : 1 ≤ R.frames) (hlocals : (rest.map fun v => v.category).sum + 14 ≤ R.locals) (hcells : cells + 1 ≤ R.cells) (hslots : slots + n ≤ R.slots) (d : decode cc pc = .ok (.invokevirtual index, 3))
    (kk : ∀ (q : Nat) (H1 : Heap), N q = none → gZ G ≤ q → cH G A s L (va_up N q (some (eN 3 n f))) H1 locs → W p l e R s m args below meth c H1 locs (cells + 1) (slots + n) Q (F0 m (pc + 3) ls (.ref q :: rest))) : W p l e R s m args below meth c H locs cells slots Q (F0 m pc ls (.ref a :: rest)) := by
  obtain ⟨ws, hP, hD, hu⟩ := hw.1.add
  obtain ⟨w, g1, g2, g3⟩ := hw.1
  obtain ⟨k, hk⟩ := cRep.at g3 ha
  have hw1 : cBw G A L N H := ⟨w, g1, g2, g3⟩
  clear ws hP hD hu
  have hnm : s.vm.findClass "[B" = some (gA G 3) := (X.2.1.2 3 _ rfl).2
  refine va_clone (ty := .byte) X.1.1 X.1.2.1 (X.1.2.2.1.trans hsz.symm) X.1.2.2.2.1 (X.1.2.2.2.2 _ hl) (X.1.2.2.2.2 _ hsame) (X.1.2.2.2.2 _ hnat) (X.1.2.2.2.2 _ hinst) (X.1.2.2.2.2 _ hsel) (X.2.2.2.1.castable X.2.2.1 hcl) X.2.1 g1 g2 hw.2 X.2.2.2.2.1 (L.length + k) 3 (cAt hk) rfl hnm ?_ hframes hlocals hcells hslots d (fun q H1 _ h1 h2 h3 => ?_)
  · intro i v hv
    have hi : i < (arrV (gA G 3) n (fun j => Value.int (f j))).slots.size := (Array.getElem?_eq_some_iff.mp (show (arrV (gA G 3) n (fun j => Value.int (f j))).slots[i]? = some v from hv)).1
    rw [arrV_size] at hi
    have hv : (arrV (gA G 3) n (fun j => Value.int (f j))).slots[i]? = some v := hv
    rw [arrV_read _ _ hi] at hv
    cases hv
    exact hfit i hi
  · have hl2 : (L ++ w.map (nQ G) ++ [(q, nE G (eN 3 n f))])[(L ++ w.map (nQ G)).length]? = some (q, nE G (eN 3 n f)) := by
      rw [List.getElem?_append_right (Nat.le_refl _), Nat.sub_self]; rfl
    have hn : N q = none := by
      cases hx : N q with
      | none => rfl
      | some x =>
        obtain ⟨k2, hk2⟩ := cRep.at g3 hx
        have h5 := cAt (G := G) (L := L) hk2
        have hlt := (List.getElem?_eq_some_iff.mp h5).1
        have h6 := h2.1 (L.length + k2) _ (q, nE G x) (q, nE G (eN 3 n f)) (by rw [List.getElem?_append_left hlt]; exact h5) hl2 rfl
        omega
    refine kk q H1 hn (X.2.2.2.2.2 q (h2.2 _ _ hl2)) ⟨⟨w ++ [(q, eN 3 n f)], ?_, ?_, ?_⟩, h3⟩
    · rw [List.map_append, ← List.append_assoc]; exact h1
    · rw [List.map_append, ← List.append_assoc]; exact h2
    · intro b x
      rw [List.mem_append, ← g3 b x]
      by_cases hb : b = q
      · subst hb
        rw [up_s, hn]
        simp [eq_comm]
      · rw [up_n hb]
        simp [hb]
theorem c_castB (X : cX G A own p s m args c cc nL) (hw : cH G A s L N H locs) {a n : Nat} {f : Nat → Int32} (ha : N a = some (eN 3 n f)) {index : Nat} (hq : Cond.classLink own index "[B" ∈ lw_all) (d : decode cc pc = .ok (.checkcast index, 3)) (kk : W p l e R s m args below meth c H locs cells slots Q (F0 m (pc + 3) ls (.ref a :: rest))) : W p l e R s m args below meth c H locs cells slots Q (F0 m pc ls (.ref a :: rest)) := by
  obtain ⟨ws, q0, hP, -, h0⟩ := hw.1.get ha
  exact va_castA X.1.1 X.1.2.1 X.1.2.2.2.1 (X.1.2.2.2.2 _ hq) hP q0 h0 (X.2.1.2 3 _ rfl).2 d kk
theorem c_strV (X : cX G A own p s m args c cc nL) (hw : cH G A s L N H locs) {t : Nat} (ht : t < sN) {index : Nat} (hq : Cond.fieldLink own index "java/lang/String" "value" "[B" ∈ lw_all) (d : decode cc pc = .ok (.getfield index, 3)) (kk : W p l e R s m args below meth c H locs cells slots Q (F0 m (pc + 3) ls (.ref (gC G 1 t) :: rest))) : W p l e R s m args below meth c H locs cells slots Q (F0 m pc ls (.ref (gC G 0 t) :: rest)) := by
  have h1 : vk_S sN sLen sByt (gC G 0) (gC G 1) (fun q => gZ G ≤ q) s s.heap := (vk_S.moved X.2.2.2.1.1.alike X.2.2.1.2.2.2.1).kept (fun a _ hA => X.2.2.2.1.2 a (Nat.not_le.mp hA))
  exact vk_getf X.1.1 X.1.2.1 ((h1.narrow X.2.2.2.2.2).1 t ht).2.2.1 hw.2 X.1.2.2.2.1 (X.1.2.2.2.2 _ hq) (fun x h => h) d kk
theorem str_coder {a v n index : Nat} {f : Nat → Int32} (S : CallFix p m c cc nL s args lw_all own) (hO : gOk G) (hs : sAt a v n f s H) (hG : ∀ U : State, U.heap = H → s.WarmedH U.vm → gK G U) (hq : GoodIn lw_all (wsV own index RJ6 yJ6_coder (ws_ yJ6_coder cJ6_coder 1 (some .byte)))) (hR : 1 ≤ R.frames ∧ 20 ≤ R.locals) (hsz : ls.size = nL) (hr : (rest.map fun v => v.category).sum ≤ 8) (hc : cells ≤ R.cells ∧ slots ≤ R.slots) (d : decode cc pc = .ok (.invokevirtual index, 3))
    (kk : W p l e R s m args below meth c H locs cells slots Q (F0 m (pc + 3) ls (.int 0 :: rest))) : W p l e R s m args below meth c H locs cells slots Q (F0 m pc ls (.ref a :: rest)) :=
  h_callV (C := RJ6) (val := vI) (As := []) S (tJ6_coder hO) sPre_blind hs.recv (fun U hU hW => sPre_at (hG U hU hW) hs hU hW) hq ⟨rfl, by decide, by decide, (by decide +kernel : (parseMethodDescriptor yJ6_coder.desc).map (fun d => d.parameters.length) = some 0)⟩ hR hsz hr hc d rfl (fun r h => by subst h; exact kk)
end STR2
/-- the length of a list's row: the empty one of the start, or one of N -/
def oLn (K : Nat → Nat → Nat) (N : NM) (a n : Nat) : Prop := (a = K 4 1 ∧ n = 0) ∨ ∃ f, N a = some (eR 8 n f)
section STR3
variable {p : Program} {l : Launch} {e : Env} {R : Room} {s : State} {m : MethodId} {args : Array Value} {below : List Frame} {meth : Method} {c : Code} {H : Heap} {locs : List Loc} {cells slots : Nat} {Q : State → Prop} {cc : ByteArray} {pc : Nat} {ls : Array Slot} {rest : List Value}
variable {G : gG} {A : Nat → Prop} {own : String} {nL : Nat} {L : va_W} {N : NM}
theorem c_olen (X : cX G A own p s m args c cc nL) (hw : cH G A s L N H locs) {a n : Nat} (h : oLn (gC G) N a n) (d : decode cc pc = .ok (.arraylength, 1)) (kk : W p l e R s m args below meth c H locs cells slots Q (F0 m (pc + 1) ls (.int (nI n) :: rest))) : W p l e R s m args below meth c H locs cells slots Q (F0 m pc ls (.ref a :: rest)) := by
  rcases h with ⟨rfl, rfl⟩ | ⟨f, h⟩
  · exact va_tlen X.1.1 X.1.2.1 (X.T X.cs.2.2.2.1.2) hw.2 rfl d kk
  · exact c_alen X hw h rfl d kk
theorem c_copyl (X : cX G A own p s m args c cc nL) (hw : cH G A s L N H locs) (hsz : ls.size = nL) {index : Nat} (hl : Cond.methodLink own index arraycopyName ∈ lw_all) (hnat : Cond.native arraycopyName ∈ lw_all) (hstat : Cond.static arraycopyName ∈ lw_all) (hini : Cond.initialized "java/lang/System" ∈ lw_all) {a b n0 n1 : Nat} {f g : Nat → Int64} (hb : N b = some (eL 1 n0 f)) (ha : N a = some (eL 1 n1 g))
    {sp dp n : Int32} (h1 : ¬ sp < 0) (h2 : ¬ dp < 0) (h3 : ¬ n < 0) (h4 : sp.toNatClampNeg + n.toNatClampNeg ≤ n0) (h5 : dp.toNatClampNeg + n.toNatClampNeg ≤ n1)
    (hframes : 1 ≤ R.frames) (hlocals : (rest.map fun v => v.category).sum + (nativeFrameWords "java/lang/System" "arraycopy" 5 + 11) ≤ R.locals) (d : decode cc pc = .ok (.invokestatic index, 3))
    (kk : ∀ (H1 : Heap) (locs1 : List Loc), cH G A s L (va_up N a (some (eL 1 n1 (va_cpy f g sp.toNatClampNeg dp.toNatClampNeg n.toNatClampNeg)))) H1 locs1 → W p l e R s m args below meth c H1 locs1 cells slots Q (F0 m (pc + 3) ls rest)) : W p l e R s m args below meth c H locs cells slots Q (F0 m pc ls (.int n :: .int dp :: .ref a :: .int sp :: .ref b :: rest)) := by
  obtain ⟨ws, q0, q1, hP, hD, e0, e1, hu⟩ := hw.1.upd2 ha hb
  exact va_copyl (ty := .long) X.1.1 X.1.2.1 (X.1.2.2.1.trans hsz.symm) X.1.2.2.2.1 (X.1.2.2.2.2 _ hl) (X.1.2.2.2.2 _ hnat) (X.1.2.2.2.2 _ hstat) (X.1.2.2.2.2 _ hini) X.2.1 hP hD hw.2 q1 q0 1 1 e1 e0 rfl rfl rfl h1 h2 h3 h4 h5 (fun _ _ => rfl) hframes hlocals d (fun H1 locs1 g1 g2 g3 => kk H1 locs1 ⟨hu (eL 1 n1 (va_cpy f g sp.toNatClampNeg dp.toNatClampNeg n.toNatClampNeg)) H1 g1 g2, g3⟩)
theorem c_copyM (X : cX G A own p s m args c cc nL) (hw : cH G A s L N H locs) (hsz : ls.size = nL) {index : Nat} (hl : Cond.methodLink own index arraycopyName ∈ lw_all) (hnat : Cond.native arraycopyName ∈ lw_all) (hstat : Cond.static arraycopyName ∈ lw_all) (hini : Cond.initialized "java/lang/System" ∈ lw_all) (k : Nat) {a b n0 n1 : Nat} {f g : Nat → Option Nat} {E : String} (hb : N b = some (eR k n0 f)) (ha : N a = some (eR k n1 g)) (ht : (gT G)[k]? = some (gA G k, .object E))
    {sp dp n : Int32} (h1 : ¬ sp < 0) (h2 : ¬ dp < 0) (h3 : ¬ n < 0) (h4 : sp.toNatClampNeg + n.toNatClampNeg ≤ n0) (h5 : dp.toNatClampNeg + n.toNatClampNeg ≤ n1) (hel : ∀ i : Nat, i < n.toNatClampNeg → ∀ y : Nat, f (sp.toNatClampNeg + i) = some y → va_Any E s H y)
    (hframes : 1 ≤ R.frames) (hlocals : (rest.map fun v => v.category).sum + (nativeFrameWords "java/lang/System" "arraycopy" 5 + 11) ≤ R.locals) (d : decode cc pc = .ok (.invokestatic index, 3))
    (kk : ∀ (H1 : Heap) (locs1 : List Loc), cH G A s L (va_up N a (some (eR k n1 (va_cpy f g sp.toNatClampNeg dp.toNatClampNeg n.toNatClampNeg)))) H1 locs1 → W p l e R s m args below meth c H1 locs1 cells slots Q (F0 m (pc + 3) ls rest)) : W p l e R s m args below meth c H locs cells slots Q (F0 m pc ls (.int n :: .int dp :: .ref a :: .int sp :: .ref b :: rest)) := by
  obtain ⟨ws, q0, q1, hP, hD, e0, e1, hu⟩ := hw.1.upd2 ha hb
  exact va_copyM X.1.1 X.1.2.1 (X.1.2.2.1.trans hsz.symm) X.1.2.2.2.1 (X.1.2.2.2.2 _ hl) (X.1.2.2.2.2 _ hnat) (X.1.2.2.2.2 _ hstat) (X.1.2.2.2.2 _ hini) X.2.1 hP hD hw.2 q1 q0 k k e1 e0 ht ht h1 h2 h3 h4 h5 hel hframes hlocals d (fun H1 locs1 g1 g2 g3 => kk H1 locs1 ⟨hu (eR k n1 (va_cpy f g sp.toNatClampNeg dp.toNatClampNeg n.toNatClampNeg)) H1 g1 g2, g3⟩)
theorem cX.Mi (X : cX G A own p s m args c cc nL) : va_Mi "[Ljava/lang/Object;" (gC G 4 4) s := va_Mi.moved X.2.2.2.1.1.alike X.cs.2.2.2.2.2.2.1
theorem gK.decl {y : MethodName} (hO : gOk G) (hK : gK G s) (h : Cond.declares y ∈ lw_tbl) : (Cond.declares y).before args s = true := va_tabs rfl (rfl : ((g0 G).setVm s.vm).vm = s.vm) (by rw [Cond.declares_setVm hK.1.alike]; exact hO.1 _ h)
theorem c_ldcM (X : cX G A own p s m args c cc nL) {index : Nat} (hq : Cond.classLink own index "[Ljava/lang/Object;" ∈ lw_all) (d : decode cc pc = .ok (.ldc index, 2)) (kk : W p l e R s m args below meth c H locs cells slots Q (F0 m (pc + 2) ls (.ref (gC G 4 4) :: rest))) : W p l e R s m args below meth c H locs cells slots Q (F0 m pc ls rest) := va_ldcM X.1.1 X.1.2.1 X.1.2.2.2.1 (X.1.2.2.2.2 _ hq) X.Mi d kk
theorem c_getC (X : cX G A own p s m args c cc nL) (hw : cH G A s L N H locs) (hsz : ls.size = nL) {index : Nat} (hl : Cond.methodLink own index ⟨"java/lang/Object", "getClass", "()Ljava/lang/Class;"⟩ ∈ lw_all) (hdecl : Cond.declares ⟨"java/lang/Object", "getClass", "()Ljava/lang/Class;"⟩ ∈ lw_tbl) (hsel : Cond.selects "[Ljava/lang/Object;" ⟨"java/lang/Object", "getClass", "()Ljava/lang/Class;"⟩ ⟨"java/lang/Object", "getClass", "()Ljava/lang/Class;"⟩ ∈ lw_all) (hinst : Cond.instanceMethod ⟨"java/lang/Object", "getClass", "()Ljava/lang/Class;"⟩ ∈ lw_all) (hnat : Cond.native ⟨"java/lang/Object", "getClass", "()Ljava/lang/Class;"⟩ ∈ lw_all) {a n : Nat} {f : Nat → Option Nat} (ha : N a = some (eR 8 n f))
    (hframes : 1 ≤ R.frames) (hlocals : (rest.map fun v => v.category).sum + 14 ≤ R.locals) (d : decode cc pc = .ok (.invokevirtual index, 3)) (kk : W p l e R s m args below meth c H locs cells slots Q (F0 m (pc + 3) ls (.ref (gC G 4 4) :: rest))) : W p l e R s m args below meth c H locs cells slots Q (F0 m pc ls (.ref a :: rest)) := by
  obtain ⟨ws, q0, hP, -, h0⟩ := hw.1.get ha
  have h1 : H[a]? = some (vp_cell (gA G 8) (n, .inr (.inr (.inr (.inr f))))) := hP q0 _ h0
  exact va_getC X.1.1 X.1.2.1 (X.1.2.2.1.trans hsz.symm) X.1.2.2.2.1 (X.1.2.2.2.2 _ hl) (X.2.2.2.1.decl X.2.2.1 hdecl) (X.1.2.2.2.2 _ hsel) (X.1.2.2.2.2 _ hinst) (X.1.2.2.2.2 _ hnat) X.Mi ⟨_, h1, rfl, va_nmO (C := "java/lang/Object") (X.2.1.2 8 _ rfl).2 (by decide)⟩ hframes hlocals d kk
theorem c_castO (X : cX G A own p s m args c cc nL) (hw : cH G A s L N H locs) {a n : Nat} {f : Nat → Option Nat} (ha : N a = some (eR 8 n f)) {index : Nat} (hq : Cond.classLink own index "[Ljava/lang/Object;" ∈ lw_all) (d : decode cc pc = .ok (.checkcast index, 3)) (kk : W p l e R s m args below meth c H locs cells slots Q (F0 m (pc + 3) ls (.ref a :: rest))) : W p l e R s m args below meth c H locs cells slots Q (F0 m pc ls (.ref a :: rest)) := by
  obtain ⟨ws, q0, hP, -, h0⟩ := hw.1.get ha
  exact va_castA X.1.1 X.1.2.1 X.1.2.2.2.1 (X.1.2.2.2.2 _ hq) hP q0 h0 (va_nmO (C := "java/lang/Object") (X.2.1.2 8 _ rfl).2 (by decide)) d kk
theorem c_getA (X : cX G A own p s m args c cc nL) (hw : cH G A s L N H locs) {a ci : Nat} {fs : List Value} (ha : N a = some (eO ci fs)) {C : String} {T : u_T} {Nf : Nat} (hin : ∀ w ∈ u_ws C T Nf, w ∈ lw_all) (hc : vwCl[ci]? = some (C, T, Nf)) (k : Nat) (hk : k < Nf) {ref : String} {index : Nat} (hq : Cond.fieldLink own index ref (T k).2.1 (T k).2.2.1 ∈ lw_all) (hs : Cond.sameField ref (T k).1 (T k).2.1 (T k).2.2.1 ∈ lw_all) {v : Value} (hv : fs[k]? = some v) (d : decode cc pc = .ok (.getfield index, 3))
    (kk : W p l e R s m args below meth c H locs cells slots Q (F0 m (pc + 3) ls (v :: rest))) : W p l e R s m args below meth c H locs cells slots Q (F0 m pc ls (.ref a :: rest)) := by
  obtain ⟨ws, q0, hP, -, h0⟩ := hw.1.get ha
  exact va_get X.1.1 X.1.2.1 X.1.2.2.2.2 hin X.1.2.2.2.1 X.2.1 hP q0 h0 hc k hk (X.1.2.2.2.2 _ hq) (u_same (X.1.2.2.2.2 _ hs)) hv d kk
theorem c_putA (X : cX G A own p s m args c cc nL) (hw : cH G A s L N H locs) {a ci : Nat} {fs : List Value} (ha : N a = some (eO ci fs)) {C : String} {T : u_T} {Nf : Nat} (hin : ∀ w ∈ u_ws C T Nf, w ∈ lw_all) (ty0 : Nat → FieldType) (hty : ∀ k, k < Nf → parseFieldDescriptor (T k).2.2.1 = some (ty0 k)) (hnm : ∀ a, a < Nf → ∀ b, b < Nf → a ≠ b → (T a).2.1 ≠ (T b).2.1) (hc : vwCl[ci]? = some (C, T, Nf)) (k : Nat) (hk : k < Nf) {ref : String} {index : Nat} (hq : Cond.fieldLink own index ref (T k).2.1 (T k).2.2.1 ∈ lw_all) (hs : Cond.sameField ref (T k).1 (T k).2.1 (T k).2.2.1 ∈ lw_all) (hfin : (T k).2.2.2 = false) {ty : FieldType} {v : Value} (hd : parseFieldDescriptor (T k).2.2.1 = some ty) (hn : narrow ty v = v) (hfit : fits ty v = true) (hl : k < fs.length) (d : decode cc pc = .ok (.putfield index, 3))
    (kk : ∀ (H1 : Heap) (locs1 : List Loc), cH G A s L (va_up N a (some (eO ci (fs.set k v)))) H1 locs1 → W p l e R s m args below meth c H1 locs1 cells slots Q (F0 m (pc + 3) ls rest)) : W p l e R s m args below meth c H locs cells slots Q (F0 m pc ls (v :: .ref a :: rest)) := by
  obtain ⟨ws, q0, hP, hD, h0, hu⟩ := hw.1.upd ha
  exact va_put X.1.1 X.1.2.1 X.1.2.2.2.2 hin ty0 hty hnm X.1.2.2.2.1 X.2.1 hP hD hw.2 q0 h0 hc k hk (X.1.2.2.2.2 _ hq) (u_same (X.1.2.2.2.2 _ hs)) hfin hd hn hfit hl d (fun H1 locs1 h1 h2 h3 => kk H1 locs1 ⟨hu (eO ci (fs.set k v)) H1 h1 h2, h3⟩)
theorem c_aaldT (X : cX G A own p s m args c cc nL) (hw : cH G A s L N H locs) {a n : Nat} (t0 : Nat) {ty : FieldType} {f : Nat → Option Nat} (ha : N a = some (eR t0 n f)) (ht : (gT G)[t0]? = some (gA G t0, .array ty)) {i : Int32} (hi : vp_in i n) (d : decode cc pc = .ok (.aaload, 1)) (kk : W p l e R s m args below meth c H locs cells slots Q (F0 m (pc + 1) ls (va_rf (f i.toNatClampNeg) :: rest))) : W p l e R s m args below meth c H locs cells slots Q (F0 m pc ls (.int i :: .ref a :: rest)) := by
  obtain ⟨ws, q0, hP, -, h0⟩ := hw.1.get ha
  have hlt : i.toNatClampNeg < n := Nat.not_le.mp fun q => hi (Or.inr q)
  exact W.aald (v := va_rf (f i.toNatClampNeg)) (ty := .array ty) X.1.1 X.1.2.1 (hP q0 _ h0) ((X.2.1.2 t0 _ ht).1 n (fun j => va_rf (f j))) rfl (fun q => by cases q) (by show ¬ (i < 0 ∨ (arrV _ _ _).slots.size ≤ _); rw [arrV_size]; exact hi) (by show (arrV _ _ _).slots[_]? = _; rw [arrV_read _ _ hlt]) rfl rfl d kk
theorem cX.nest (X : cX G A own p s m args c cc nL) {i : Nat} {y : MethodName} {h : String} (hh : Cond.methodLinkNest own i y h ∈ lw_tbl) : va_Nw (.methodLinkNest own i y h) s := va_Nw.warmM X.2.2.2.1.1 (va_Nw.of rfl (X.2.2.1.1 _ hh))
theorem c_putN (X : cX G A own p s m args c cc nL) (hw : cH G A s L N H locs) {a ci : Nat} {fs : List Value} (ha : N a = some (eO ci fs)) {C host : String} {T : u_T} {Nf : Nat} (hin : ∀ w ∈ u_ws C T Nf, w ∈ lw_all) (ty0 : Nat → FieldType) (hty : ∀ k, k < Nf → parseFieldDescriptor (T k).2.2.1 = some (ty0 k)) (hnm : ∀ a, a < Nf → ∀ b, b < Nf → a ≠ b → (T a).2.1 ≠ (T b).2.1) (hc : vwCl[ci]? = some (C, T, Nf)) (k : Nat) (hk : k < Nf) {ref : String} {index : Nat} (hq : Cond.fieldLinkNest own index ref (T k).2.1 (T k).2.2.1 host ∈ lw_tbl) (hs : (T k).1 = ref) (hfin : (T k).2.2.2 = false) {ty : FieldType} {v : Value} (hd : parseFieldDescriptor (T k).2.2.1 = some ty) (hn : narrow ty v = v) (hfit : fits ty v = true) (hl : k < fs.length) (d : decode cc pc = .ok (.putfield index, 3))
    (kk : ∀ (H1 : Heap) (locs1 : List Loc), cH G A s L (va_up N a (some (eO ci (fs.set k v)))) H1 locs1 → W p l e R s m args below meth c H1 locs1 cells slots Q (F0 m (pc + 3) ls rest)) : W p l e R s m args below meth c H locs cells slots Q (F0 m pc ls (v :: .ref a :: rest)) := by
  obtain ⟨ws, q0, hP, hD, h0, hu⟩ := hw.1.upd ha
  exact va_putN X.1.1 X.1.2.1 X.1.2.2.2.2 hin ty0 hty hnm X.1.2.2.2.1 X.2.1 hP hD hw.2 q0 h0 hc k hk (X.2.2.2.1.linkF X.2.2.1 hq) (fun x h => by rw [hs] at h; exact h) hfin hd hn hfit hl d (fun H1 locs1 h1 h2 h3 => kk H1 locs1 ⟨hu (eO ci (fs.set k v)) H1 h1 h2, h3⟩)
theorem cX.Zq (X : cX G A own p s m args c cc nL) {C n d : String} (h : vx_Zq C n d (gAz G) (g0 G) (g0 G).heap) : ∃ o : Option Nat, va_Z C n d (va_rf o) A s s.heap := by
  rcases (X.2.2.2.1.Zq h.1).narrow X.2.2.2.2.2 with h | ⟨t, h⟩
  · exact ⟨none, h⟩
  · exact ⟨some t, h⟩
end STR3
/-! String.equals of two Strings -/
def sEq (n k : Nat) (f g : Nat → Int32) (r : Int32) : Prop := (r = 1 ∧ n = k ∧ ∀ i, i < n → f i = g i) ∨ (r = 0 ∧ ¬ (n = k ∧ ∀ i, i < n → f i = g i))
theorem sAt.same {a v n w k : Nat} {f g : Nat → Int32} {U : State} {H : Heap} (h1 : sAt a v n f U H) (h2 : sAt a w k g U H) (hn : n < 2 ^ 31) (hk : k < 2 ^ 31) : n = k ∧ ∀ i, i < n → f i = g i := by
  obtain ⟨-, -, ⟨c1, k1, i1, f1, e1, a1, a2, a3, a4, a5, a6⟩, t1⟩ := h1
  obtain ⟨-, -, ⟨c2, k2, i2, f2, e2, b1, b2, b3, b4, b5, b6⟩, t2⟩ := h2
  rw [a1] at b1
  cases b1
  rw [a3] at b3
  cases b3
  rw [a5] at b5
  cases b5
  obtain ⟨d1, p1, p2, p3, p4, p5, p6, p7⟩ := t1
  obtain ⟨d2, q1, q2, q3, q4, q5, q6, q7⟩ := t2
  rw [p1] at q1
  cases q1
  rw [p5] at q5
  have e : n = k := by
    have z1 : (Int32.ofNat n).toInt = n := Int32.toInt_ofNat_of_lt hn
    have z2 : (Int32.ofNat k).toInt = k := Int32.toInt_ofNat_of_lt hk
    have := congrArg Int32.toInt q5
    rw [z1, z2] at this
    omega
  refine ⟨e, fun i hi => ?_⟩
  have r1 := p6 i hi
  have r2 := q6 i (by omega)
  rw [r1] at r2
  have := Option.some.inj r2
  injection this
def sPre2 (G : gG) (a v n : Nat) (f : Nat → Int32) (b w k : Nat) (g : Nat → Int32) (U : State) : Prop := gK G U ∧ sAt a v n f U U.heap ∧ sAt b w k g U U.heap
theorem sPre2_blind {G : gG} {a v n : Nat} {f : Nat → Int32} {b w k : Nat} {g : Nat → Int32} {As : List Value} : FrameBlind (va_Pc As (sPre2 G a v n f b w k g)) := fun x U h mk q => ⟨q.1, q.2.1, sAt.moved (u := U) (U := U.calling h mk x) (Vm.Alike.refl U.vm) q.2.2.1, sAt.moved (u := U) (U := U.calling h mk x) (Vm.Alike.refl U.vm) q.2.2.2⟩
theorem sPre2_at {G : gG} {s U : State} {H : Heap} {a v n : Nat} {f : Nat → Int32} {b w k : Nat} {g : Nat → Int32} (hG : gK G U) (hs : sAt a v n f s H) (hs2 : sAt b w k g s H) (hU : U.heap = H) (hW : s.WarmedH U.vm) : sPre2 G a v n f b w k g U := ⟨hG, by rw [hU]; exact sAt.moved hW.alike hs, by rw [hU]; exact sAt.moved hW.alike hs2⟩
section SEQ
variable {l : Launch} {G : gG} {a v n : Nat} {f : Nat → Int32} {b w k : Nat} {g : Nat → Int32}
theorem tJ16_equals (hO : gOk G) (hn : n < 2 ^ 31) (hk : k < 2 ^ 31) : Met l yJ16_equals (ws_ yJ16_equals cJ16_equals 3 (some .boolean)) ⟨0, 0, 0, 0⟩ (va_Pc [.ref v, .ref w] (sPre2 G a v n f b w k g)) (pQ vI (sEq n k f g)) 0 0 (fun _ => False) := by
  refine h_ofW (by decide) (Nat.le_of_ble_eq_true rfl) (fun p e s m below meth c ls X hr hlk hl hP => ?_)
  have hl : lv_has ls 3 [(0, .ref v), (1, .ref w)] := hl
  obtain ⟨hx, hb, hml, hown, hts⟩ := X
  have hnk : ∀ {x y : Nat}, x < 2 ^ 31 → y < 2 ^ 31 → nI x = nI y → x = y := fun hx hy h => by
    have := congrArg Int32.toNatClampNeg h
    rwa [nI_clamp hx, nI_clamp hy] at this
  refine lv_aload_n (pc := 0) hx hb dJ16_equals_0 rfl (lv_at hl 0 rfl) ?_
  refine va_tlen (pc := 1) (v := nI n) hx hb hP.2.1.2.2.2 vS_no rfl dJ16_equals_1 ?_
  refine lv_aload_n (pc := 2) hx hb dJ16_equals_2 rfl (lv_at hl 1 rfl) ?_
  refine va_tlen (pc := 3) (v := nI k) hx hb hP.2.2.2.2.2 vS_no rfl dJ16_equals_3 ?_
  refine lv_icmp_ne (pc := 4) (tgt := 34) hx hb dJ16_equals_4 rfl (fun c1 => ?_) (fun c1 => ?_)
  · refine lv_iconst (pc := 34) (v := 0) hx hb dJ16_equals_34 (by decide) ?_
    exact W.zret (pc := 35) (v := 0) (Qc := pQ vI (sEq n k f g)) hx hb hr rfl (fun t ht hW => s_ret (val := vI) (Or.inr ⟨rfl, fun z => c1 (by rw [z.1])⟩) ht) (fun _ hq => absurd hq List.not_mem_nil) dJ16_equals_35 hlk
  have hnk1 : n = k := hnk hn hk c1
  subst hnk1
  refine lv_iconst (pc := 7) (v := 0) hx hb dJ16_equals_7 (by decide) ?_
  refine lv_istore_n (pc := 8) (lv' := [(2, .int (nI 0)), (0, .ref v), (1, .ref w)]) hx hb dJ16_equals_8 rfl hl (by decide) rfl (fun ls hl => ?_)
  have loop : ∀ (d j : Nat) (ls : Array Slot), j + d = n → (∀ i, i < j → f i = g i) → lv_has ls 3 [(2, .int (nI j)), (0, .ref v), (1, .ref w)] → W p l e ⟨0, 0, 0, 0⟩ s m [Value.ref v, .ref w].toArray below meth c s.heap [] 0 0 (MQ below (pQ vI (sEq n n f g)) [Value.ref v, .ref w].toArray s 0 0 (fun _ => False)) (F0 m 9 ls []) := by
    intro d
    induction d with
    | zero =>
      intro j ls hj hi hl
      refine lv_iload_n (pc := 9) hx hb dJ16_equals_9 rfl (lv_at hl 0 rfl) ?_
      refine lv_aload_n (pc := 10) hx hb dJ16_equals_10 rfl (lv_at hl 1 rfl) ?_
      refine va_tlen (pc := 11) (v := nI n) hx hb hP.2.1.2.2.2 vS_no rfl dJ16_equals_11 ?_
      refine lv_icmp_ge (pc := 12) (tgt := 32) hx hb dJ16_equals_12 rfl (fun c1 => ?_) (fun c1 => absurd (nI_le (by omega) (by omega)) c1)
      refine lv_iconst (pc := 32) (v := 1) hx hb dJ16_equals_32 (by decide) ?_
      exact W.zret (pc := 33) (v := 1) (Qc := pQ vI (sEq n n f g)) hx hb hr rfl (fun t ht hW => s_ret (val := vI) (Or.inl ⟨rfl, rfl, fun i hi2 => hi i (by omega)⟩) ht) (fun _ hq => absurd hq List.not_mem_nil) dJ16_equals_33 hlk
    | succ d ih =>
      intro j ls hj hi hl
      have hjn : j < n := by omega
      refine lv_iload_n (pc := 9) hx hb dJ16_equals_9 rfl (lv_at hl 0 rfl) ?_
      refine lv_aload_n (pc := 10) hx hb dJ16_equals_10 rfl (lv_at hl 1 rfl) ?_
      refine va_tlen (pc := 11) (v := nI n) hx hb hP.2.1.2.2.2 vS_no rfl dJ16_equals_11 ?_
      refine lv_icmp_ge (pc := 12) (tgt := 32) hx hb dJ16_equals_12 rfl (fun c1 => absurd c1 (nI_ge hjn hn)) (fun c1 => ?_)
      refine lv_aload_n (pc := 15) hx hb dJ16_equals_15 rfl (lv_at hl 1 rfl) ?_
      refine lv_iload_n (pc := 16) hx hb dJ16_equals_16 rfl (lv_at hl 0 rfl) ?_
      refine va_tb (pc := 17) hx hb hP.2.1.2.2.2 vS_no (nI_in hjn hn) rfl dJ16_equals_17 ?_
      refine lv_aload_n (pc := 18) hx hb dJ16_equals_18 rfl (lv_at hl 2 rfl) ?_
      refine lv_iload_n (pc := 19) hx hb dJ16_equals_19 rfl (lv_at hl 0 rfl) ?_
      refine va_tb (pc := 20) hx hb hP.2.2.2.2.2 vS_no (nI_in hjn hn) rfl dJ16_equals_20 ?_
      rw [nI_clamp (by omega)]
      refine lv_icmp_eq (pc := 21) (tgt := 26) hx hb dJ16_equals_21 rfl (fun c2 => ?_) (fun c2 => ?_)
      · refine lv_iinc (pc := 26) (v := nI (j + 1)) (lv' := [(2, .int (nI (j + 1))), (0, .ref v), (1, .ref w)]) hx hb dJ16_equals_26 hl (k := 0) rfl ((nI_succ j).symm) (by decide) rfl (fun ls hl => ?_)
        refine lv_goto (pc := 29) (tgt := 9) hx hb dJ16_equals_29 rfl ?_
        refine ih (j + 1) ls (by omega) (fun i h2 => ?_) hl
        rcases Nat.lt_succ_iff_lt_or_eq.mp h2 with h3 | h3
        · exact hi i h3
        · subst h3; exact c2
      · refine lv_iconst (pc := 24) (v := 0) hx hb dJ16_equals_24 (by decide) ?_
        exact W.zret (pc := 25) (v := 0) (Qc := pQ vI (sEq n n f g)) hx hb hr rfl (fun t ht hW => s_ret (val := vI) (Or.inr ⟨rfl, fun z => c2 (z.2 j hjn)⟩) ht) (fun _ hq => absurd hq List.not_mem_nil) dJ16_equals_25 hlk
  exact loop n 0 ls (by omega) (fun i h => absurd h (Nat.not_lt_zero i)) hl
theorem tJ6_equals (hO : gOk G) (hn : n < 2 ^ 31) (hk : k < 2 ^ 31) : Met l yJ6_equals (ws_ yJ6_equals cJ6_equals 3 (some .boolean)) ⟨1, 0, 0, 24⟩ (va_Pc [.ref a, .ref b] (sPre2 G a v n f b w k g)) (pQ vI (sEq n k f g)) 0 0 (fun _ => False) := by
  refine h_ofW (by decide) (Nat.le_of_ble_eq_true rfl) (fun p e s m below meth c ls X hr hlk hl hP => ?_)
  have hl : lv_has ls 3 [(0, .ref a), (1, .ref b)] := hl
  have X5 := X
  obtain ⟨hx, hb, hml, hown, hts⟩ := X
  refine lv_aload_n (pc := 0) hx hb dJ6_equals_0 rfl (lv_at hl 0 rfl) ?_
  refine lv_aload_n (pc := 1) hx hb dJ6_equals_1 rfl (lv_at hl 1 rfl) ?_
  refine lv_acmp_ne (pc := 2) (tgt := 7) (rx := some a) (ry := some b) hx hb dJ6_equals_2 rfl (fun c1 => ?_) (fun c1 => ?_)
  · refine lv_aload_n (pc := 7) hx hb dJ6_equals_7 rfl (lv_at hl 1 rfl) ?_
    refine va_instS (pc := 8) hx hb hown (hts _ q655) ((hP.1.va hO).1 16 (RJ6, TJ6, 4) rfl).2 hP.2.2.recv dJ6_equals_8 ?_
    refine lv_if_eq (pc := 11) (tgt := 54) (x := 1) (rest := []) hx hb dJ6_equals_11 rfl (fun c1 => absurd c1 (by decide)) (fun c2 => ?_)
    refine lv_aload_n (pc := 14) hx hb dJ6_equals_14 rfl (lv_at hl 1 rfl) ?_
    refine va_castS (pc := 15) hx hb hown (hts _ q655) ((hP.1.va hO).1 16 (RJ6, TJ6, 4) rfl).2 hP.2.2.recv dJ6_equals_15 ?_
    refine lv_astore_n (pc := 18) (lv' := [(2, .ref b), (0, .ref a), (1, .ref b)]) hx hb dJ6_equals_18 rfl hl (by decide) rfl (fun ls hl => ?_)
    refine va_gets (pc := 19) hx hb (hP.1.Z (z_compact hO)) vS_gz hown (hts _ q630) (fun x h => h) dJ6_equals_19 ?_
    refine lv_if_eq (pc := 22) (tgt := 36) hx hb dJ6_equals_22 rfl (fun c1 => absurd c1 (by decide)) (fun c3 => ?_)
    refine lv_aload_n (pc := 25) hx hb dJ6_equals_25 rfl (lv_at hl 1 rfl) ?_
    refine vk_getf (pc := 26) hx hb hP.2.1.2.1 vS_no hown (hts _ q645) (fun x h => h) dJ6_equals_26 ?_
    refine lv_aload_n (pc := 29) hx hb dJ6_equals_29 rfl (lv_at hl 0 rfl) ?_
    refine vk_getf (pc := 30) hx hb hP.2.2.2.1 vS_no hown (hts _ q645) (fun x h => h) dJ6_equals_30 ?_
    refine lv_icmp_ne (pc := 33) (tgt := 54) hx hb dJ6_equals_33 rfl (fun c4 => absurd rfl c4) (fun c4 => ?_)
    refine lv_aload_n (pc := 36) hx hb dJ6_equals_36 rfl (lv_at hl 1 rfl) ?_
    refine vk_getf (pc := 37) hx hb hP.2.1.2.2.1 vS_no hown (hts _ q644) (fun x h => h) dJ6_equals_37 ?_
    refine lv_aload_n (pc := 40) hx hb dJ6_equals_40 rfl (lv_at hl 0 rfl) ?_
    refine vk_getf (pc := 41) hx hb hP.2.2.2.2.1 vS_no hown (hts _ q644) (fun x h => h) dJ6_equals_41 ?_
    refine h_callS (pc := 44) (val := vI) (As := [.ref v, .ref w]) (rest := []) X5 (tJ16_equals (a := a) (b := b) hO hn hk) sPre2_blind (fun U hU hW => sPre2_at (hP.1.self hU hW) hP.2.1 hP.2.2 hU hW) (lw_S q656 q657 q123 q658) ⟨by decide, by decide, (by decide +kernel : (parseMethodDescriptor yJ16_equals.desc).map (fun d => d.parameters.length) = some 2)⟩ ⟨Nat.le_of_ble_eq_true rfl, Nat.le_of_ble_eq_true rfl⟩ hl.1 (Nat.le_of_ble_eq_true rfl) ⟨Nat.le_refl _, Nat.le_refl _⟩ dJ6_equals_44 rfl (fun r h => ?_)
    refine W.eq (g2 := F0 m 47 ls [.int r]) rfl ?_
    refine lv_if_eq (pc := 47) (tgt := 54) hx hb dJ6_equals_47 rfl (fun c5 => ?_) (fun c5 => ?_)
    · refine lv_iconst (pc := 54) (v := 0) hx hb dJ6_equals_54 (by decide) ?_
      refine W.zret (pc := 55) (v := 0) (Qc := pQ vI (sEq n k f g)) hx hb hr rfl (fun t ht hW => s_ret (val := vI) ?_ ht) (fun _ hq => absurd hq List.not_mem_nil) dJ6_equals_55 hlk
      rcases h with h | h
      · rw [h.1] at c5; exact absurd c5 (by decide)
      · exact Or.inr ⟨rfl, h.2⟩
    · refine lv_iconst (pc := 50) (v := 1) hx hb dJ6_equals_50 (by decide) ?_
      refine lv_goto (pc := 51) (tgt := 55) hx hb dJ6_equals_51 rfl ?_
      refine W.zret (pc := 55) (v := 1) (Qc := pQ vI (sEq n k f g)) hx hb hr rfl (fun t ht hW => s_ret (val := vI) ?_ ht) (fun _ hq => absurd hq List.not_mem_nil) dJ6_equals_55 hlk
      rcases h with h | h
      · exact Or.inl ⟨rfl, h.2⟩
      · exact absurd h.1 c5
  · have hb2 := hP.2.2
    rw [← Option.some.inj c1] at hb2
    have hab2 := sAt.same hP.2.1 hb2 hn hk
    refine lv_iconst (pc := 5) (v := 1) hx hb dJ6_equals_5 (by decide) ?_
    exact W.zret (pc := 6) (v := 1) (Qc := pQ vI (sEq n k f g)) hx hb hr rfl (fun t ht hW => s_ret (val := vI) (Or.inl ⟨rfl, hab2.1, hab2.2⟩) ht) (fun _ hq => absurd hq List.not_mem_nil) dJ6_equals_6 hlk
end SEQ
section SEQC
variable {p : Program} {l : Launch} {e : Env} {R : Room} {s : State} {m : MethodId} {args : Array Value} {below : List Frame} {meth : Method} {c : Code} {H : Heap} {locs : List Loc} {cells slots : Nat} {Q : State → Prop} {cc : ByteArray} {pc : Nat} {ls : Array Slot} {rest : List Value}
variable {G : gG} {a v n b w k nL index : Nat} {f g : Nat → Int32} {own : String}
theorem str_equals (S : CallFix p m c cc nL s args lw_all own) (hO : gOk G) (hs : sAt a v n f s H) (hs2 : sAt b w k g s H) (hn : n < 2 ^ 31) (hk : k < 2 ^ 31) (hG : ∀ U : State, U.heap = H → s.WarmedH U.vm → gK G U) (hq : GoodIn lw_all (wsV own index RJ6 yJ6_equals (ws_ yJ6_equals cJ6_equals 3 (some .boolean)))) (hR : 2 ≤ R.frames ∧ 46 ≤ R.locals) (hsz : ls.size = nL) (hr : (rest.map fun v => v.category).sum ≤ 8) (hc : cells ≤ R.cells ∧ slots ≤ R.slots) (d : decode cc pc = .ok (.invokevirtual index, 3))
    (kk : ∀ r : Int32, sEq n k f g r → W p l e R s m args below meth c H locs cells slots Q (F0 m (pc + 3) ls (.int r :: rest))) : W p l e R s m args below meth c H locs cells slots Q (F0 m pc ls (.ref b :: .ref a :: rest)) :=
  h_callV (C := RJ6) (val := vI) (As := [.ref b]) S (tJ6_equals hO hn hk) sPre2_blind hs.recv (fun U hU hW => sPre2_at (hG U hU hW) hs hs2 hU hW) hq ⟨rfl, by decide, by decide, (by decide +kernel : (parseMethodDescriptor yJ6_equals.desc).map (fun d => d.parameters.length) = some 1)⟩ hR hsz hr hc d rfl (fun r h => kk r h)
end SEQC
