set_option maxRecDepth 100000
set_option maxHeartbeats 4000000
/-- from the law's entry to its loop -/
theorem lw_begin {p : Program} {l : Launch} {e : Env} {m : MethodId} {below : List Frame} {meth : Method} {c : Code} {ls : Array Slot} {G : gG} {b L : Nat} {xs : Nat → Int32} (hf : l.stackTraces = false) (X : cX G (gAz G) R_law p (g0 G) m #[Value.ref b] c code 4) (hX : va_X b L xs (g0 G) (g0 G).heap) (hbl : b < (g0 G).heap.size) (hr : meth.sig.returnType = ret) (hlk : meth.locks = false) (hL : L ≤ 512) (hl : lv_has ls 4 [(0, .ref b)]) : W p l e room_1 (g0 G) m #[Value.ref b] below meth c (g0 G).heap [] 0 0 (lw_Z below #[Value.ref b] (g0 G)) (F0 m 0 ls []) := by
  have hx := X.1.1
  have hb := X.1.2.1
  have hts := X.1.2.2.2.2
  have hw : cH G (gAz G) (g0 G) [] (fun _ => none) (g0 G).heap [] := ⟨⟨[], (fun k q hk => (by cases hk)), ⟨(fun i j x y hi => (by cases hi)), (fun k q hk => (by cases hk))⟩, (fun a e => ⟨(fun h => (by cases h)), (fun h => (by cases h))⟩)⟩, va_S.rf⟩
  refine c_new (pc := 0) (ci := 1) (fs := [va_rf none, va_rf none, va_rf none, va_rf none, va_rf none, va_rf none, va_rf none, va_rf none, va_rf none, .int 0, .int 0, va_rf none, va_rf none, .int 0, va_rf none, va_rf none, va_rf none, va_rf none, va_rf none]) X hw in_X0 tyX0 tyX0_ok q176 q159 q102 rfl nf_X0 (Nat.le_of_ble_eq_true rfl) (Nat.le_of_ble_eq_true rfl) dL_law_0 (fun x0 H hx0 _ hw => ?_)
  have hw : cH G (gAz G) (g0 G) [] (va_up (fun _ => none) x0 (some (eO 1 [va_rf none, va_rf none, va_rf none, va_rf none, va_rf none, va_rf none, va_rf none, va_rf none, va_rf none, .int 0, .int 0, va_rf none, va_rf none, .int 0, va_rf none, va_rf none, va_rf none, va_rf none, va_rf none]))) H [] := hw
  refine lv_dup (pc := 3) hx hb dL_law_3 rfl ?_
  refine W.widen (k := 1) (n := 19) (Nat.le_of_ble_eq_true rfl) (Nat.le_of_ble_eq_true rfl) ?_
  refine c_callJ (pc := 4) (val := vV) (mc := 27) (ms := 361324) X hw (va_runI (As := []) (rest := [.ref x0]) X.1 (tX0_init X.2.2.1 (sz := H.size) (up_eq _ _ _)) (cwI 0 hts (lw_meth q179) rfl rfl rfl (hts _ q102) (hts _ q177) (hts _ q178) rfl ⟨by decide, by decide, (by decide +kernel : (parseMethodDescriptor yX0_init.desc).map (fun d => d.parameters.length) = some 0)⟩ ⟨Nat.le_of_ble_eq_true rfl, Nat.le_of_ble_eq_true rfl⟩) ⟨cPre_blind, fun U hU hW => ⟨rfl, X.preJ hw hU hW⟩⟩ rfl rfl hl.1 rfl (lv_room (Nat.le_of_ble_eq_true rfl)) dL_law_4 ⟨Nat.le_of_ble_eq_true rfl, Nat.le_of_ble_eq_true rfl⟩) (fun _ N1 H locs hN1 hw => ?_)
  refine W.eq (g2 := F0 m 7 ls [.ref x0]) rfl ?_
  refine W.widen (k := 28) (n := 361343) (Nat.le_of_ble_eq_true rfl) (Nat.le_of_ble_eq_true rfl) ?_
  refine lv_astore_n (pc := 7) (lv' := [(1, .ref x0), (0, .ref b)]) hx hb dL_law_7 rfl hl (by decide) rfl (fun ls hl => ?_)
  refine c_new (pc := 8) (ci := 0) (fs := [va_rf none, va_rf none, va_rf none, .int 0, .int 0, .int 0, .int 0, .int 0, .int 0, .int 0, .int 0, .int 0, .int 0, .int 0, .int 0, .long 0, .int 0, .int 0, .int 0, .int 0, .int 0, .int 0, va_rf none, .int 0, va_rf none, va_rf none, va_rf none, va_rf none, va_rf none, .int 0, va_rf none, va_rf none, .int 0, va_rf none, va_rf none, va_rf none, .int 0, .int 0, .int 0, .int 0, .int 0, .int 0, va_rf none, va_rf none, .int 0, va_rf none, va_rf none, va_rf none, va_rf none, .int 0]) X hw in_X1 tyX1 tyX1_ok q1950 q1951 q105 rfl nf_X1 (Nat.le_of_ble_eq_true rfl) (Nat.le_of_ble_eq_true rfl) dL_law_8 (fun h0 H hh0 _ hw => ?_)
  have hw : cH G (gAz G) (g0 G) [] (va_up N1 h0 (some (eO 0 [va_rf none, va_rf none, va_rf none, .int 0, .int 0, .int 0, .int 0, .int 0, .int 0, .int 0, .int 0, .int 0, .int 0, .int 0, .int 0, .long 0, .int 0, .int 0, .int 0, .int 0, .int 0, .int 0, va_rf none, .int 0, va_rf none, va_rf none, va_rf none, va_rf none, va_rf none, .int 0, va_rf none, va_rf none, .int 0, va_rf none, va_rf none, va_rf none, .int 0, .int 0, .int 0, .int 0, .int 0, .int 0, va_rf none, va_rf none, .int 0, va_rf none, va_rf none, va_rf none, va_rf none, .int 0]))) H locs := hw
  refine lv_dup (pc := 11) hx hb dL_law_11 rfl ?_
  refine W.widen (k := 29) (n := 361393) (Nat.le_of_ble_eq_true rfl) (Nat.le_of_ble_eq_true rfl) ?_
  refine c_callJ (pc := 12) (val := vV) (mc := 20) (ms := 200815) X hw (va_runI (As := []) (rest := [.ref h0]) X.1 (tX1_init X.2.2.1 (sz := H.size) (up_eq _ _ _)) (cwI 0 hts (lw_meth q1954) rfl rfl rfl (hts _ q105) (hts _ q1952) (hts _ q1953) rfl ⟨by decide, by decide, (by decide +kernel : (parseMethodDescriptor yX1_init.desc).map (fun d => d.parameters.length) = some 0)⟩ ⟨Nat.le_of_ble_eq_true rfl, Nat.le_of_ble_eq_true rfl⟩) ⟨cPre_blind, fun U hU hW => ⟨rfl, X.preJ hw hU hW⟩⟩ rfl rfl hl.1 rfl (lv_room (Nat.le_of_ble_eq_true rfl)) dL_law_12 ⟨Nat.le_of_ble_eq_true rfl, Nat.le_of_ble_eq_true rfl⟩) (fun _ N2 H locs hN2 hw => ?_)
  refine W.eq (g2 := F0 m 15 ls [.ref h0]) rfl ?_
  refine W.widen (k := 49) (n := 562208) (Nat.le_of_ble_eq_true rfl) (Nat.le_of_ble_eq_true rfl) ?_
  refine lv_astore_n (pc := 15) (lv' := [(2, .ref h0), (1, .ref x0), (0, .ref b)]) hx hb dL_law_15 rfl hl (by decide) rfl (fun ls hl => ?_)
  refine lv_iconst (pc := 16) (v := 0) hx hb dL_law_16 (by decide) ?_
  refine lv_istore_n (pc := 17) (lv' := [(3, .int 0), (2, .ref h0), (1, .ref x0), (0, .ref b)]) hx hb dL_law_17 rfl hl (by decide) rfl (fun ls hl => ?_)
  obtain ⟨a, ea, c1⟩ := iX0.cRt hN1
  have hl : lv_has ls 4 [(3, .int 0), (2, .ref h0), (1, .ref (a 0)), (0, .ref b)] := by rw [ea]; exact hl
  obtain ⟨ad, w, hD, e1, e2⟩ := iX1.cells G hN2
  have hB := hw.1.over hD.1
  rw [e1] at hB
  have inw : ∀ z v, N1 z = some v → z ∉ w.map (fun x => x.1) ∧ N2 z = some v := fun z v hz => by
    have n0 : z ≠ h0 := fun c => by rw [c, hh0] at hz; cases hz
    have ha : va_up N1 h0 (some (eO 0 [va_rf none, va_rf none, va_rf none, .int 0, .int 0, .int 0, .int 0, .int 0, .int 0, .int 0, .int 0, .int 0, .int 0, .int 0, .int 0, .long 0, .int 0, .int 0, .int 0, .int 0, .int 0, .int 0, va_rf none, .int 0, va_rf none, va_rf none, va_rf none, va_rf none, va_rf none, .int 0, va_rf none, va_rf none, .int 0, va_rf none, va_rf none, va_rf none, .int 0, .int 0, .int 0, .int 0, .int 0, .int 0, va_rf none, va_rf none, .int 0, va_rf none, va_rf none, va_rf none, va_rf none, .int 0])) z = some v := by rw [up_ne _ _ _ n0]; exact hz
    refine ⟨fun hm => ?_, hD.2.2.1 z v ha n0⟩
    obtain ⟨y, hy, hyz⟩ := List.mem_map.mp hm
    have := hD.2.2.2 y hy (by rw [hyz]; exact n0)
    rw [hyz, ha] at this
    cases this
  have c2 := c1.nw (N' := fun q => if q ∈ w.map (fun x => x.1) then none else N2 q) (fun z v hz => by
    show (if z ∈ w.map (fun x => x.1) then none else N2 z) = some v
    rw [if_neg (inw z v hz).1]
    exact (inw z v hz).2)
  have hmk : mOk G h0 ad := by
    refine ⟨fun i j q hi hj => ?_, X.2.2.1, fun q hq => ?_⟩
    · rw [← e2] at hi hj
      exact hD.1.2 i j q hi hj
    · have hq : q ∈ w.map (fun x => x.1) := by rw [e2]; exact hq
      obtain ⟨y, hy, rfl⟩ := List.mem_map.mp hq
      exact (hw.1.inA (a := y.1) (by rw [hD.1.1 y hy]; simp)).1
  refine lw_loop (a := a) (h0 := h0) (ad := ad) hf ⟨X, hmk, fun i j hi hj hij => X.cs.2.2.1.2 i j hi hj hij, hX, hbl, hr, hlk⟩ hL 65 0 H locs 49 562208 ls (by omega) (by omega) (Nat.le_of_ble_eq_true rfl) (Nat.le_of_ble_eq_true rfl) ⟨sg0, mst0, _, _, [], ⟨hB, hw.2⟩, mst0_R, c2, (fun q hq => (by cases hq))⟩ (lv_sub hl [3, 2, 1, 0] rfl)
