set_option maxRecDepth 100000
set_option maxHeartbeats 4000000
def wJ15_fill_6 (K : Nat → Nat → Nat) (post : Unit → NM → Prop) : Nat → Nat → Int64 → Int32 → Int32 → NM → Prop
  | 0, _, _, _, _, _ => False
  | n + 1, x0, x1, x3, x4, N => ((x4 ≤ x3) → (post () N)) ∧ (¬ (x4 ≤ x3) → (∃ n6 f7, N x0 = some (eL 1 n6 f7) ∧ (vp_in x3 n6 ∧ (∀ N8, N8 = va_up N x0 (some (eL 1 n6 (vp_updL f7 x3.toNatClampNeg x1))) → (wJ15_fill_6 K post n x0 x1 (x3 + (1 : Int32)) x4 N8)))))
def wJ15_fill (K : Nat → Nat → Nat) (post : Unit → NM → Prop) (N : NM) (x0 : Nat) (x1 : Int64) : Prop :=
  ∃ n2 f3, N x0 = some (eL 1 n2 f3) ∧ ((∃ k, wJ15_fill_6 K post k x0 x1 (0 : Int32) (nI n2) N))
theorem kJ15_fill_6 {p : Program} {l : Launch} {e : Env} {s : State} {m : MethodId} {args : Array Value} {below : List Frame} {meth : Method} {c : Code} {G : gG} {A : Nat → Prop} {post : Unit → NM → Prop} (X : cX G A RJ15 p s m args c cJ15_fill 5) (hr : meth.sig.returnType = none) (hlk : meth.locks = false) : ∀ (n : Nat) (x0 : Nat) (x1 : Int64) (x3 : Int32) (x4 : Int32) (N : NM) (H : Heap) (locs : List Loc) (ls : Array Slot), wJ15_fill_6 (gC G) post n x0 x1 x3 x4 N → cH G A s [] N H locs → lv_has ls 5 [(0, .ref x0), (1, .long x1), (3, .int x3), (4, .int x4)] → W p l e ⟨0, 0, 0, 0⟩ s m args below meth c H locs 0 0 (MQ below (gQ vV post (fun u H => cBw G A (jW u).1 (jW u).2 H) A) args s 0 0 A) (F0 m 6 ls []) := by
  have hx := X.1.1
  have hb := X.1.2.1
  have hml := X.1.2.2.1
  have hown := X.1.2.2.2.1
  have hts := X.1.2.2.2.2
  intro n
  induction n with
  | zero =>
    intro x0 x1 x3 x4 N H locs ls h
    exact False.elim h
  | succ n ih =>
    intro x0 x1 x3 x4 N H locs ls h hw hl
    unfold wJ15_fill_6 at h
    refine lv_iload_n (pc := 6) hx hb dJ15_fill_6 rfl (lv_at hl 2 rfl) ?_
    refine lv_iload (pc := 7) hx hb dJ15_fill_7 (lv_at hl 3 rfl) ?_
    refine lv_icmp_ge (pc := 9) (tgt := 22) hx hb dJ15_fill_9 rfl (fun c4 => ?_) (fun c4 => ?_)
    · have h := h.1 c4
      exact W.vret (pc := 22) hx hb hr (fun t ht hW => c_ret (val := vV) (lw := jW) (u := N) (v := ()) hw h ht) hw.2.2.2 dJ15_fill_22 hlk
    · have h := h.2 c4
      refine lv_aload_n (pc := 12) hx hb dJ15_fill_12 rfl (lv_at hl 0 rfl) ?_
      refine lv_iload_n (pc := 13) hx hb dJ15_fill_13 rfl (lv_at hl 2 rfl) ?_
      refine lv_lload_n (pc := 14) hx hb dJ15_fill_14 rfl (lv_at hl 1 rfl) ?_
      obtain ⟨n6, f7, hN5, h⟩ := h
      obtain ⟨hi, h⟩ := h
      refine c_last (pc := 15) X hw hN5 hi dJ15_fill_15 (fun H locs hw => ?_)
      obtain ⟨N8, e9⟩ : ∃ z, z = va_up N x0 (some (eL 1 n6 (vp_updL f7 x3.toNatClampNeg x1))) := ⟨_, rfl⟩
      have hw : cH G A s [] N8 H locs := by rw [e9]; exact hw
      have h := h N8 e9
      have hN10 : N8 x0 = some (eL 1 n6 (vp_updL f7 x3.toNatClampNeg x1)) := by rw [e9]; exact up_s
      refine lv_iinc (pc := 16) (v := x3 + (1 : Int32)) (lv' := [(3, .int (x3 + (1 : Int32))), (0, .ref x0), (1, .long x1), (4, .int x4)]) hx hb dJ15_fill_16 hl (k := 2) rfl rfl (by decide) rfl (fun ls hl => ?_)
      refine lv_goto (pc := 19) (tgt := 6) hx hb dJ15_fill_19 rfl ?_
      exact ih _ _ _ _ _ _ _ _ h hw (lv_sub hl [1, 2, 0, 3] rfl)
theorem tJ15_fill {l : Launch} {G : gG} (hO : gOk G) {post : Unit → NM → Prop} {N : NM} {x0 : Nat} {x1 : Int64} {sz : Nat} (h : wJ15_fill (gC G) post N x0 x1) : Met l yJ15_fill (ws_ yJ15_fill cJ15_fill 5 none) ⟨0, 0, 0, 0⟩ (va_Pc [.ref x0, .long x1] (cPre G [] N sz)) (gQ vV post (fun u H => cBw G (cA [] N sz) (jW u).1 (jW u).2 H) (cA [] N sz)) 0 0 (cA [] N sz) := by
  refine c_ofW (lw := jW) (by decide) hO (Nat.le_of_ble_eq_true rfl) (fun p e s m below meth c ls A X hr hlk hin hw hl => ?_)
  have hl : lv_has ls 5 [(0, .ref x0), (1, .long x1)] := hl
  have hx := X.1.1
  have hb := X.1.2.1
  have hml := X.1.2.2.1
  have hown := X.1.2.2.2.1
  have hts := X.1.2.2.2.2
  obtain ⟨H, eH⟩ : ∃ z, z = s.heap := ⟨_, rfl⟩
  rw [← eH] at hw ⊢
  obtain ⟨locs, eLo⟩ : ∃ z : List Loc, z = [] := ⟨_, rfl⟩
  rw [← eLo] at hw ⊢
  unfold wJ15_fill at h
  refine lv_iconst (pc := 0) (v := (0 : Int32)) hx hb dJ15_fill_0 (by decide) ?_
  refine lv_istore_n (pc := 1) (lv' := [(3, .int (0 : Int32)), (0, .ref x0), (1, .long x1)]) hx hb dJ15_fill_1 rfl hl (by decide) rfl (fun ls hl => ?_)
  refine lv_aload_n (pc := 2) hx hb dJ15_fill_2 rfl (lv_at hl 1 rfl) ?_
  obtain ⟨n2, f3, hN1, h⟩ := h
  refine c_alen (pc := 3) X hw hN1 rfl dJ15_fill_3 ?_
  refine lv_istore (pc := 4) (lv' := [(4, .int (nI n2)), (3, .int (0 : Int32)), (0, .ref x0), (1, .long x1)]) hx hb dJ15_fill_4 hl (by decide) rfl (fun ls hl => ?_)
  obtain ⟨k, h⟩ := h
  exact kJ15_fill_6 X hr hlk  k _ _ _ _ _ _ _ _ h hw (lv_sub hl [2, 3, 1, 0] rfl)

def wJ15_fill_2_5 (K : Nat → Nat → Nat) (post : Unit → NM → Prop) : Nat → Nat → Int32 → Int32 → Int32 → NM → Prop
  | 0, _, _, _, _, _ => False
  | n + 1, x0, x1, x2, x3, N => ((x3 ≤ x2) → (post () N)) ∧ (¬ (x3 ≤ x2) → (∃ n6 f7, N x0 = some (eN 2 n6 f7) ∧ (vp_in x2 n6 ∧ (∀ N8, N8 = va_up N x0 (some (eN 2 n6 (upd f7 x2.toNatClampNeg (vp_nar .boolean x1)))) → (wJ15_fill_2_5 K post n x0 x1 (x2 + (1 : Int32)) x3 N8)))))
def wJ15_fill_2 (K : Nat → Nat → Nat) (post : Unit → NM → Prop) (N : NM) (x0 : Nat) (x1 : Int32) : Prop :=
  ∃ n2 f3, N x0 = some (eN 2 n2 f3) ∧ ((∃ k, wJ15_fill_2_5 K post k x0 x1 (0 : Int32) (nI n2) N))
theorem kJ15_fill_2_5 {p : Program} {l : Launch} {e : Env} {s : State} {m : MethodId} {args : Array Value} {below : List Frame} {meth : Method} {c : Code} {G : gG} {A : Nat → Prop} {post : Unit → NM → Prop} (X : cX G A RJ15 p s m args c cJ15_fill_2 4) (hr : meth.sig.returnType = none) (hlk : meth.locks = false) : ∀ (n : Nat) (x0 : Nat) (x1 : Int32) (x2 : Int32) (x3 : Int32) (N : NM) (H : Heap) (locs : List Loc) (ls : Array Slot), wJ15_fill_2_5 (gC G) post n x0 x1 x2 x3 N → cH G A s [] N H locs → lv_has ls 4 [(0, .ref x0), (1, .int x1), (2, .int x2), (3, .int x3)] → W p l e ⟨0, 0, 0, 0⟩ s m args below meth c H locs 0 0 (MQ below (gQ vV post (fun u H => cBw G A (jW u).1 (jW u).2 H) A) args s 0 0 A) (F0 m 5 ls []) := by
  have hx := X.1.1
  have hb := X.1.2.1
  have hml := X.1.2.2.1
  have hown := X.1.2.2.2.1
  have hts := X.1.2.2.2.2
  intro n
  induction n with
  | zero =>
    intro x0 x1 x2 x3 N H locs ls h
    exact False.elim h
  | succ n ih =>
    intro x0 x1 x2 x3 N H locs ls h hw hl
    unfold wJ15_fill_2_5 at h
    refine lv_iload_n (pc := 5) hx hb dJ15_fill_2_5 rfl (lv_at hl 2 rfl) ?_
    refine lv_iload_n (pc := 6) hx hb dJ15_fill_2_6 rfl (lv_at hl 3 rfl) ?_
    refine lv_icmp_ge (pc := 7) (tgt := 20) hx hb dJ15_fill_2_7 rfl (fun c4 => ?_) (fun c4 => ?_)
    · have h := h.1 c4
      exact W.vret (pc := 20) hx hb hr (fun t ht hW => c_ret (val := vV) (lw := jW) (u := N) (v := ()) hw h ht) hw.2.2.2 dJ15_fill_2_20 hlk
    · have h := h.2 c4
      refine lv_aload_n (pc := 10) hx hb dJ15_fill_2_10 rfl (lv_at hl 0 rfl) ?_
      refine lv_iload_n (pc := 11) hx hb dJ15_fill_2_11 rfl (lv_at hl 2 rfl) ?_
      refine lv_iload_n (pc := 12) hx hb dJ15_fill_2_12 rfl (lv_at hl 1 rfl) ?_
      obtain ⟨n6, f7, hN5, h⟩ := h
      obtain ⟨hi, h⟩ := h
      refine c_zast (pc := 13) X hw hN5 hi dJ15_fill_2_13 (fun H locs hw => ?_)
      obtain ⟨N8, e9⟩ : ∃ z, z = va_up N x0 (some (eN 2 n6 (upd f7 x2.toNatClampNeg (vp_nar .boolean x1)))) := ⟨_, rfl⟩
      have hw : cH G A s [] N8 H locs := by rw [e9]; exact hw
      have h := h N8 e9
      have hN10 : N8 x0 = some (eN 2 n6 (upd f7 x2.toNatClampNeg (vp_nar .boolean x1))) := by rw [e9]; exact up_s
      refine lv_iinc (pc := 14) (v := x2 + (1 : Int32)) (lv' := [(2, .int (x2 + (1 : Int32))), (0, .ref x0), (1, .int x1), (3, .int x3)]) hx hb dJ15_fill_2_14 hl (k := 2) rfl rfl (by decide) rfl (fun ls hl => ?_)
      refine lv_goto (pc := 17) (tgt := 5) hx hb dJ15_fill_2_17 rfl ?_
      exact ih _ _ _ _ _ _ _ _ h hw (lv_sub hl [1, 2, 0, 3] rfl)
theorem tJ15_fill_2 {l : Launch} {G : gG} (hO : gOk G) {post : Unit → NM → Prop} {N : NM} {x0 : Nat} {x1 : Int32} {sz : Nat} (h : wJ15_fill_2 (gC G) post N x0 x1) : Met l yJ15_fill_2 (ws_ yJ15_fill_2 cJ15_fill_2 4 none) ⟨0, 0, 0, 0⟩ (va_Pc [.ref x0, .int x1] (cPre G [] N sz)) (gQ vV post (fun u H => cBw G (cA [] N sz) (jW u).1 (jW u).2 H) (cA [] N sz)) 0 0 (cA [] N sz) := by
  refine c_ofW (lw := jW) (by decide) hO (Nat.le_of_ble_eq_true rfl) (fun p e s m below meth c ls A X hr hlk hin hw hl => ?_)
  have hl : lv_has ls 4 [(0, .ref x0), (1, .int x1)] := hl
  have hx := X.1.1
  have hb := X.1.2.1
  have hml := X.1.2.2.1
  have hown := X.1.2.2.2.1
  have hts := X.1.2.2.2.2
  obtain ⟨H, eH⟩ : ∃ z, z = s.heap := ⟨_, rfl⟩
  rw [← eH] at hw ⊢
  obtain ⟨locs, eLo⟩ : ∃ z : List Loc, z = [] := ⟨_, rfl⟩
  rw [← eLo] at hw ⊢
  unfold wJ15_fill_2 at h
  refine lv_iconst (pc := 0) (v := (0 : Int32)) hx hb dJ15_fill_2_0 (by decide) ?_
  refine lv_istore_n (pc := 1) (lv' := [(2, .int (0 : Int32)), (0, .ref x0), (1, .int x1)]) hx hb dJ15_fill_2_1 rfl hl (by decide) rfl (fun ls hl => ?_)
  refine lv_aload_n (pc := 2) hx hb dJ15_fill_2_2 rfl (lv_at hl 1 rfl) ?_
  obtain ⟨n2, f3, hN1, h⟩ := h
  refine c_alen (pc := 3) X hw hN1 rfl dJ15_fill_2_3 ?_
  refine lv_istore_n (pc := 4) (lv' := [(3, .int (nI n2)), (2, .int (0 : Int32)), (0, .ref x0), (1, .int x1)]) hx hb dJ15_fill_2_4 rfl hl (by decide) rfl (fun ls hl => ?_)
  obtain ⟨k, h⟩ := h
  exact kJ15_fill_2_5 X hr hlk  k _ _ _ _ _ _ _ _ h hw (lv_sub hl [2, 3, 1, 0] rfl)

def wJ7_init (K : Nat → Nat → Nat) (post : Unit → NM → Prop) (N : NM) (x0 : Nat) : Prop :=
  post () N
theorem tJ7_init {l : Launch} {G : gG} (hO : gOk G) {post : Unit → NM → Prop} {N : NM} {x0 : Nat} {sz : Nat} (h : wJ7_init (gC G) post N x0) : Met l yJ7_init (ws_ yJ7_init cJ7_init 1 none) ⟨1, 0, 0, 20⟩ (va_Pc [.ref x0] (cPre G [] N sz)) (gQ vV post (fun u H => cBw G (cA [] N sz) (jW u).1 (jW u).2 H) (cA [] N sz)) 0 0 (cA [] N sz) := by
  refine c_ofW (lw := jW) (by decide) hO (Nat.le_of_ble_eq_true rfl) (fun p e s m below meth c ls A X hr hlk hin hw hl => ?_)
  have hl : lv_has ls 1 [(0, .ref x0)] := hl
  have hin := hin rfl
  have hx := X.1.1
  have hb := X.1.2.1
  have hml := X.1.2.2.1
  have hown := X.1.2.2.2.1
  have hts := X.1.2.2.2.2
  obtain ⟨H, eH⟩ : ∃ z, z = s.heap := ⟨_, rfl⟩
  rw [← eH] at hw ⊢
  obtain ⟨locs, eLo⟩ : ∃ z : List Loc, z = [] := ⟨_, rfl⟩
  rw [← eLo] at hw ⊢
  unfold wJ7_init at h
  refine lv_aload_n (pc := 0) hx hb dJ7_init_0 rfl (lv_at hl 0 rfl) ?_
  refine W.objInit hx hb hown (hts _ q435) (hts _ q181) (hts _ q182) rfl (by rw [hml]; exact hl.1) rfl dJ7_init_1 (Nat.le_of_ble_eq_true rfl) (Nat.le_of_ble_eq_true rfl) ?_
  refine W.eq (g2 := F0 m 4 ls []) rfl ?_
  exact W.vret (pc := 4) hx hb hr (fun t ht hW => c_ret (val := vV) (lw := jW) (u := N) (v := ()) hw h ht) hw.2.2.2 dJ7_init_4 hlk

def wJ8_init (K : Nat → Nat → Nat) (post : Unit → NM → Prop) (N : NM) (x0 : Nat) : Prop :=
  wJ7_init K (fun _ N2 => ∃ f4 f5 f6, N2 x0 = some (eO 18 [.int f4, va_rf f5, .int f6]) ∧ (∀ N7, N7 = va_up N2 x0 (some (eO 18 [.int (0 : Int32), va_rf f5, .int f6])) → (post () N7))) N x0
theorem tJ8_init {l : Launch} {G : gG} (hO : gOk G) {post : Unit → NM → Prop} {N : NM} {x0 : Nat} {sz : Nat} (h : wJ8_init (gC G) post N x0) : Met l yJ8_init (ws_ yJ8_init cJ8_init 1 none) ⟨2, 0, 0, 40⟩ (va_Pc [.ref x0] (cPre G [] N sz)) (gQ vV post (fun u H => cBw G (cA [] N sz) (jW u).1 (jW u).2 H) (cA [] N sz)) 0 0 (cA [] N sz) := by
  refine c_ofW (lw := jW) (by decide) hO (Nat.le_of_ble_eq_true rfl) (fun p e s m below meth c ls A X hr hlk hin hw hl => ?_)
  have hl : lv_has ls 1 [(0, .ref x0)] := hl
  have hin := hin rfl
  have hx := X.1.1
  have hb := X.1.2.1
  have hml := X.1.2.2.1
  have hown := X.1.2.2.2.1
  have hts := X.1.2.2.2.2
  obtain ⟨H, eH⟩ : ∃ z, z = s.heap := ⟨_, rfl⟩
  rw [← eH] at hw ⊢
  obtain ⟨locs, eLo⟩ : ∃ z : List Loc, z = [] := ⟨_, rfl⟩
  rw [← eLo] at hw ⊢
  unfold wJ8_init at h
  refine lv_aload_n (pc := 0) hx hb dJ8_init_0 rfl (lv_at hl 0 rfl) ?_
  refine c_callJ (pc := 1) (val := vV) X hw (va_runI (As := []) (rest := []) X.1 (tJ7_init X.2.2.1 (sz := H.size) h) (cwI 0 hts (lw_meth q434) rfl rfl rfl (hts _ q114) (hts _ q432) (hts _ q433) rfl ⟨by decide, by decide, (by decide +kernel : (parseMethodDescriptor yJ7_init.desc).map (fun d => d.parameters.length) = some 0)⟩ ⟨Nat.le_of_ble_eq_true rfl, Nat.le_of_ble_eq_true rfl⟩) ⟨cPre_blind, fun U hU hW => ⟨rfl, X.preJ hw hU hW⟩⟩ rfl rfl hl.1 rfl (lv_room (Nat.le_of_ble_eq_true rfl)) dJ8_init_1 ⟨show 0 + 0 ≤ 0 by omega, show 0 + 0 ≤ 0 by omega⟩) (fun _ N2 H locs h hw => ?_)
  refine W.eq (g2 := F0 m 4 ls ([])) rfl ?_
  refine lv_aload_n (pc := 4) hx hb dJ8_init_4 rfl (lv_at hl 0 rfl) ?_
  refine lv_iconst (pc := 5) (v := (0 : Int32)) hx hb dJ8_init_5 (by decide) ?_
  obtain ⟨f4, f5, f6, hN3, h⟩ := h
  refine c_put (pc := 6) X hw hN3 in_J9 tyJ9 tyJ9_ok nmJ9 rfl 0 (by decide) q440 rfl rfl rfl rfl rfl (Nat.le_of_ble_eq_true rfl) dJ8_init_6 (fun H locs hw => ?_)
  obtain ⟨N7, e8⟩ : ∃ z, z = va_up N2 x0 (some (eO 18 [.int (0 : Int32), va_rf f5, .int f6])) := ⟨_, rfl⟩
  have hw : cH G A s [] N7 H locs := by rw [e8]; exact hw
  have h := h N7 e8
  have hN9 : N7 x0 = some (eO 18 [.int (0 : Int32), va_rf f5, .int f6]) := by rw [e8]; exact up_s
  exact W.vret (pc := 9) hx hb hr (fun t ht hW => c_ret (val := vV) (lw := jW) (u := N7) (v := ()) hw h ht) hw.2.2.2 dJ8_init_9 hlk

def wJ9_init (K : Nat → Nat → Nat) (post : Unit → NM → Prop) (N : NM) (x0 : Nat) : Prop :=
  wJ8_init K (fun _ N2 => ∃ f4 f5 f6, N2 x0 = some (eO 18 [.int f4, va_rf f5, .int f6]) ∧ (∀ N7, N7 = va_up N2 x0 (some (eO 18 [.int f4, va_rf (some (K 4 1)), .int f6])) → (post () N7))) N x0
theorem tJ9_init {l : Launch} {G : gG} (hO : gOk G) {post : Unit → NM → Prop} {N : NM} {x0 : Nat} {sz : Nat} (h : wJ9_init (gC G) post N x0) : Met l yJ9_init (ws_ yJ9_init cJ9_init 1 none) ⟨3, 0, 0, 60⟩ (va_Pc [.ref x0] (cPre G [] N sz)) (gQ vV post (fun u H => cBw G (cA [] N sz) (jW u).1 (jW u).2 H) (cA [] N sz)) 0 0 (cA [] N sz) := by
  refine c_ofW (lw := jW) (by decide) hO (Nat.le_of_ble_eq_true rfl) (fun p e s m below meth c ls A X hr hlk hin hw hl => ?_)
  have hl : lv_has ls 1 [(0, .ref x0)] := hl
  have hin := hin rfl
  have hx := X.1.1
  have hb := X.1.2.1
  have hml := X.1.2.2.1
  have hown := X.1.2.2.2.1
  have hts := X.1.2.2.2.2
  obtain ⟨H, eH⟩ : ∃ z, z = s.heap := ⟨_, rfl⟩
  rw [← eH] at hw ⊢
  obtain ⟨locs, eLo⟩ : ∃ z : List Loc, z = [] := ⟨_, rfl⟩
  rw [← eLo] at hw ⊢
  unfold wJ9_init at h
  refine lv_aload_n (pc := 0) hx hb dJ9_init_0 rfl (lv_at hl 0 rfl) ?_
  refine c_callJ (pc := 1) (val := vV) X hw (va_runI (As := []) (rest := []) X.1 (tJ8_init X.2.2.1 (sz := H.size) h) (cwI 0 hts (lw_meth q431) rfl rfl rfl (hts _ q115) (hts _ q429) (hts _ q430) rfl ⟨by decide, by decide, (by decide +kernel : (parseMethodDescriptor yJ8_init.desc).map (fun d => d.parameters.length) = some 0)⟩ ⟨Nat.le_of_ble_eq_true rfl, Nat.le_of_ble_eq_true rfl⟩) ⟨cPre_blind, fun U hU hW => ⟨rfl, X.preJ hw hU hW⟩⟩ rfl rfl hl.1 rfl (lv_room (Nat.le_of_ble_eq_true rfl)) dJ9_init_1 ⟨show 0 + 0 ≤ 0 by omega, show 0 + 0 ≤ 0 by omega⟩) (fun _ N2 H locs h hw => ?_)
  refine W.eq (g2 := F0 m 4 ls ([])) rfl ?_
  refine lv_aload_n (pc := 4) hx hb dJ9_init_4 rfl (lv_at hl 0 rfl) ?_
  refine va_gets (pc := 5) hx hb (va_Z.narrow (X.2.2.2.1.Z X.cs.2.2.2.1.1) X.2.2.2.2.2) hw.2 hown (hts _ q436) (fun x h => h) dJ9_init_5 ?_
  obtain ⟨f4, f5, f6, hN3, h⟩ := h
  refine c_put (pc := 8) (v := va_rf (some (gC G 4 1))) X hw hN3 in_J9 tyJ9 tyJ9_ok nmJ9 rfl 1 (by decide) q438 rfl rfl rfl (rf_na (some (gC G 4 1)) _) (rf_fa (some (gC G 4 1)) _) (Nat.le_of_ble_eq_true rfl) dJ9_init_8 (fun H locs hw => ?_)
  obtain ⟨N7, e8⟩ : ∃ z, z = va_up N2 x0 (some (eO 18 [.int f4, va_rf (some (gC G 4 1)), .int f6])) := ⟨_, rfl⟩
  have hw : cH G A s [] N7 H locs := by rw [e8]; exact hw
  have h := h N7 e8
  have hN9 : N7 x0 = some (eO 18 [.int f4, va_rf (some (gC G 4 1)), .int f6]) := by rw [e8]; exact up_s
  exact W.vret (pc := 11) hx hb hr (fun t ht hW => c_ret (val := vV) (lw := jW) (u := N7) (v := ()) hw h ht) hw.2.2.2 dJ9_init_11 hlk

def wJ9_size (K : Nat → Nat → Nat) (post : Int32 → NM → Prop) (N : NM) (x0 : Nat) : Prop :=
  ∃ f2 f3 f4, N x0 = some (eO 18 [.int f2, va_rf f3, .int f4]) ∧ (post f4 N)
theorem tJ9_size {l : Launch} {G : gG} (hO : gOk G) {post : Int32 → NM → Prop} {N : NM} {x0 : Nat} {sz : Nat} (h : wJ9_size (gC G) post N x0) : Met l yJ9_size (ws_ yJ9_size cJ9_size 1 (some .int)) ⟨0, 0, 0, 0⟩ (va_Pc [.ref x0] (cPre G [] N sz)) (gQ vI post (fun u H => cBw G (cA [] N sz) (jW u).1 (jW u).2 H) (cA [] N sz)) 0 0 (cA [] N sz) := by
  refine c_ofW (lw := jW) (by decide) hO (Nat.le_of_ble_eq_true rfl) (fun p e s m below meth c ls A X hr hlk hin hw hl => ?_)
  have hl : lv_has ls 1 [(0, .ref x0)] := hl
  have hx := X.1.1
  have hb := X.1.2.1
  have hml := X.1.2.2.1
  have hown := X.1.2.2.2.1
  have hts := X.1.2.2.2.2
  obtain ⟨H, eH⟩ : ∃ z, z = s.heap := ⟨_, rfl⟩
  rw [← eH] at hw ⊢
  obtain ⟨locs, eLo⟩ : ∃ z : List Loc, z = [] := ⟨_, rfl⟩
  rw [← eLo] at hw ⊢
  unfold wJ9_size at h
  refine lv_aload_n (pc := 0) hx hb dJ9_size_0 rfl (lv_at hl 0 rfl) ?_
  obtain ⟨f2, f3, f4, hN1, h⟩ := h
  refine c_get (pc := 1) X hw hN1 in_J9 rfl 2 (by decide) q439 rfl rfl dJ9_size_1 ?_
  exact W.iret (pc := 4) hx hb hr (fun t ht hW => c_ret (val := vI) (lw := jW) (u := N) hw h ht) hw.2.2.2 dJ9_size_4 hlk

def wJ9_grow_2 (K : Nat → Nat → Nat) (post : Nat → NM → Prop) (MC MS : Nat) (N : NM) (x0 : Nat) (x1 : Int32) : Prop :=
  ∃ f2 f3 f4, N x0 = some (eO 18 [.int f2, va_rf f3, .int f4]) ∧ (∃ a5, f3 = some a5 ∧ (∃ n7, oLn K N a5 n7 ∧ ((((0 : Int32) < (nI n7)) → (False)) ∧ (¬ ((0 : Int32) < (nI n7)) → (((f3 = (some (K 4 1))) → (wJ14_max (fun r11 => ¬ r11 < 0 ∧ r11.toNatClampNeg ≤ 65536 ∧ 1 ≤ MC ∧ r11.toNatClampNeg ≤ MS ∧ (∀ nq16, N nq16 = none → (∀ N18, N18 = va_up N nq16 (some (eR 8 r11.toNatClampNeg (fun _ => (none : Option Nat)))) → (∀ N22, N22 = va_up N18 x0 (some (eO 18 [.int f2, va_rf (some nq16), .int f4])) → (post nq16 N22))))) (10 : Int32) x1)) ∧ (¬ (f3 = (some (K 4 1))) → (False)))))))
theorem tJ9_grow_2 {l : Launch} {G : gG} (hO : gOk G) {post : Nat → NM → Prop} {MC MS : Nat} {N : NM} {x0 : Nat} {x1 : Int32} {sz : Nat} (h : wJ9_grow_2 (gC G) post MC MS N x0 x1) : Met l yJ9_grow_2 (ws_ yJ9_grow_2 cJ9_grow_2 4 (some (.array (.object "java/lang/Object")))) ⟨1, MC, MS, 21⟩ (va_Pc [.ref x0, .int x1] (cPre G [] N sz)) (gQ vR post (fun u H => cBw G (cA [] N sz) (jW u).1 (jW u).2 H) (cA [] N sz)) MC MS (cA [] N sz) := by
  refine c_ofW (lw := jW) (by decide) hO (Nat.le_of_ble_eq_true rfl) (fun p e s m below meth c ls A X hr hlk hin hw hl => ?_)
  have hl : lv_has ls 4 [(0, .ref x0), (1, .int x1)] := hl
  have hx := X.1.1
  have hb := X.1.2.1
  have hml := X.1.2.2.1
  have hown := X.1.2.2.2.1
  have hts := X.1.2.2.2.2
  obtain ⟨H, eH⟩ : ∃ z, z = s.heap := ⟨_, rfl⟩
  rw [← eH] at hw ⊢
  obtain ⟨locs, eLo⟩ : ∃ z : List Loc, z = [] := ⟨_, rfl⟩
  rw [← eLo] at hw ⊢
  have hbud : 0 + MC ≤ MC ∧ 0 + MS ≤ MS := by omega
  unfold wJ9_grow_2 at h
  refine lv_aload_n (pc := 0) hx hb dJ9_grow_2_0 rfl (lv_at hl 0 rfl) ?_
  obtain ⟨f2, f3, f4, hN1, h⟩ := h
  refine c_get (pc := 1) X hw hN1 in_J9 rfl 1 (by decide) q438 rfl rfl dJ9_grow_2_1 ?_
  obtain ⟨a5, hr6, h⟩ := h
  refine W.eq (g2 := F0 m 4 ls [.ref a5]) (by rw [hr6]; rfl) ?_
  obtain ⟨n7, hO8, h⟩ := h
  refine c_olen (pc := 4) X hw hO8 dJ9_grow_2_4 ?_
  refine lv_istore_n (pc := 5) (lv' := [(2, .int (nI n7)), (0, .ref x0), (1, .int x1)]) hx hb dJ9_grow_2_5 rfl hl (by decide) rfl (fun ls hl => ?_)
  refine lv_iload_n (pc := 6) hx hb dJ9_grow_2_6 rfl (lv_at hl 0 rfl) ?_
  refine lv_if_gt (pc := 7) (tgt := 20) hx hb dJ9_grow_2_7 rfl (fun c9 => ?_) (fun c9 => ?_)
  · have h := h.1 c9
    exact False.elim h
  · have h := h.2 c9
    refine lv_aload_n (pc := 10) hx hb dJ9_grow_2_10 rfl (lv_at hl 1 rfl) ?_
    refine c_get (pc := 11) X hw hN1 in_J9 rfl 1 (by decide) q438 rfl rfl dJ9_grow_2_11 ?_
    refine va_gets (pc := 14) hx hb (va_Z.narrow (X.2.2.2.1.Z X.cs.2.2.2.1.1) X.2.2.2.2.2) hw.2 hown (hts _ q436) (fun x h => h) dJ9_grow_2_14 ?_
    refine lv_acmp_eq (pc := 17) (tgt := 45) (rx := f3) (ry := (some (gC G 4 1))) hx hb dJ9_grow_2_17 rfl (fun c10 => ?_) (fun c10 => ?_)
    · have h := h.1 c10
      refine lv_aload_n (pc := 45) hx hb dJ9_grow_2_45 rfl (lv_at hl 1 rfl) ?_
      refine lv_bipush (pc := 46) (v := (10 : Int32)) hx hb dJ9_grow_2_46 (by decide) ?_
      refine lv_iload_n (pc := 48) hx hb dJ9_grow_2_48 rfl (lv_at hl 2 rfl) ?_
      refine s_call (pc := 49) (val := vI) (As := [.int (10 : Int32), .int x1]) (rest := [.ref x0]) X.1 (tJ14_max h) (lw_S q832 q528 q121 q529) ⟨by decide, by decide, (by decide +kernel : (parseMethodDescriptor yJ14_max.desc).map (fun d => d.parameters.length) = some 2)⟩ ⟨Nat.le_of_ble_eq_true rfl, Nat.le_of_ble_eq_true rfl⟩ hl.1 (Nat.le_of_ble_eq_true rfl) ⟨show 0 ≤ MC by omega, show 0 ≤ MS by omega⟩ dJ9_grow_2_49 rfl (fun r11 h => ?_)
      refine W.eq (g2 := F0 m 52 ls (.int r11 :: [.ref x0])) rfl ?_
      obtain ⟨hm12, hm13, hm14, hm15, h⟩ := h
      refine c_newq (pc := 52) X hw q833 q830 8 rfl hm12 rfl (Nat.le_trans (Nat.mul_le_mul_right _ hm13) (Nat.le_of_ble_eq_true rfl)) (show 0 + 1 ≤ MC by omega) (show 0 + r11.toNatClampNeg ≤ MS by omega) dJ9_grow_2_52 (fun nq16 H hq17 _ hw => ?_)
      have h := h nq16 hq17
      obtain ⟨N18, e19⟩ : ∃ z, z = va_up N nq16 (some (eR 8 r11.toNatClampNeg (fun _ => (none : Option Nat)))) := ⟨_, rfl⟩
      have hw : cH G A s [] N18 H locs := by rw [e19]; exact hw
      have h := h N18 e19
      have hN20 : N18 nq16 = some (eR 8 r11.toNatClampNeg (fun _ => (none : Option Nat))) := by rw [e19]; exact up_s
      have hN21 := up_f (x := some (eR 8 r11.toNatClampNeg (fun _ => (none : Option Nat)))) hq17 hN1
      rw [← e19] at hN21
      refine lv_dup_x1 (pc := 55) hx hb dJ9_grow_2_55 rfl rfl ?_
      refine c_put (pc := 56) (v := va_rf (some nq16)) X hw hN21 in_J9 tyJ9 tyJ9_ok nmJ9 rfl 1 (by decide) q438 rfl rfl rfl (rf_na (some nq16) _) (rf_fa (some nq16) _) (Nat.le_of_ble_eq_true rfl) dJ9_grow_2_56 (fun H locs hw => ?_)
      obtain ⟨N22, e23⟩ : ∃ z, z = va_up N18 x0 (some (eO 18 [.int f2, va_rf (some nq16), .int f4])) := ⟨_, rfl⟩
      have hw : cH G A s [] N22 H locs := by rw [e23]; exact hw
      have h := h N22 e23
      have hN24 : N22 x0 = some (eO 18 [.int f2, va_rf (some nq16), .int f4]) := by rw [e23]; exact up_s
      have hN25 := up_k (x := some (eO 18 [.int f2, va_rf (some nq16), .int f4])) hN21 hN20 (show (36 : Nat) ≠ 17 by decide)
      rw [← e23] at hN25
      refine W.widen (k := MC) (n := MS) (by omega) (by omega) ?_
      exact W.aret (pc := 59) (v := .ref nq16) hx hb hr (Or.inr ⟨_, rfl⟩) (Or.inr ⟨_, rfl⟩) (fun t ht hW => c_ret (val := vR) (lw := jW) (u := N22) hw h ht) hw.2.2.2 dJ9_grow_2_59 hlk
    · have h := h.2 c10
      exact False.elim h

def wJ9_grow (K : Nat → Nat → Nat) (post : Nat → NM → Prop) (MC MS : Nat) (N : NM) (x0 : Nat) : Prop :=
  ∃ f2 f3 f4, N x0 = some (eO 18 [.int f2, va_rf f3, .int f4]) ∧ (∃ mc7 ms8, mc7 ≤ MC ∧ ms8 ≤ MS ∧ wJ9_grow_2 K (fun r5 N6 => post r5 N6) mc7 ms8 N x0 (f4 + (1 : Int32)))
theorem tJ9_grow {l : Launch} {G : gG} (hO : gOk G) {post : Nat → NM → Prop} {MC MS : Nat} {N : NM} {x0 : Nat} {sz : Nat} (h : wJ9_grow (gC G) post MC MS N x0) : Met l yJ9_grow (ws_ yJ9_grow cJ9_grow 1 (some (.array (.object "java/lang/Object")))) ⟨2, MC, MS, 44⟩ (va_Pc [.ref x0] (cPre G [] N sz)) (gQ vR post (fun u H => cBw G (cA [] N sz) (jW u).1 (jW u).2 H) (cA [] N sz)) MC MS (cA [] N sz) := by
  refine c_ofW (lw := jW) (by decide) hO (Nat.le_of_ble_eq_true rfl) (fun p e s m below meth c ls A X hr hlk hin hw hl => ?_)
  have hl : lv_has ls 1 [(0, .ref x0)] := hl
  have hx := X.1.1
  have hb := X.1.2.1
  have hml := X.1.2.2.1
  have hown := X.1.2.2.2.1
  have hts := X.1.2.2.2.2
  obtain ⟨H, eH⟩ : ∃ z, z = s.heap := ⟨_, rfl⟩
  rw [← eH] at hw ⊢
  obtain ⟨locs, eLo⟩ : ∃ z : List Loc, z = [] := ⟨_, rfl⟩
  rw [← eLo] at hw ⊢
  have hbud : 0 + MC ≤ MC ∧ 0 + MS ≤ MS := by omega
  unfold wJ9_grow at h
  refine lv_aload_n (pc := 0) hx hb dJ9_grow_0 rfl (lv_at hl 0 rfl) ?_
  refine lv_aload_n (pc := 1) hx hb dJ9_grow_1 rfl (lv_at hl 0 rfl) ?_
  obtain ⟨f2, f3, f4, hN1, h⟩ := h
  refine c_get (pc := 2) X hw hN1 in_J9 rfl 2 (by decide) q439 rfl rfl dJ9_grow_2 ?_
  refine lv_iconst (pc := 5) (v := (1 : Int32)) hx hb dJ9_grow_5 (by decide) ?_
  refine lv_iadd (pc := 6) hx hb dJ9_grow_6 ?_
  obtain ⟨mc7, ms8, hm9, hm10, h⟩ := h
  refine c_callJ (pc := 7) (val := vR) X hw (va_runV (C := RJ9) (As := [.int (f4 + (1 : Int32))]) (rest := []) X.1 (tJ9_grow_2 X.2.2.1 (sz := H.size) h) (cwV 1 hts (lw_V q783 q785 qs17 q116 q786) rfl rfl rfl ⟨rfl, by decide, by decide, (by decide +kernel : (parseMethodDescriptor yJ9_grow_2.desc).map (fun d => d.parameters.length) = some 1)⟩ ⟨Nat.le_of_ble_eq_true rfl, Nat.le_of_ble_eq_true rfl⟩) ⟨cPre_blind, c_recv X hw hN1 rfl, fun U hU hW => ⟨rfl, X.preJ hw hU hW⟩⟩ rfl rfl hl.1 rfl (lv_room (Nat.le_of_ble_eq_true rfl)) dJ9_grow_7 ⟨show 0 + mc7 ≤ MC by omega, show 0 + ms8 ≤ MS by omega⟩) (fun r5 N6 H locs h hw => ?_)
  refine W.eq (g2 := F0 m 10 ls (.ref r5 :: [])) rfl ?_
  refine W.widen (k := MC) (n := MS) (by omega) (by omega) ?_
  exact W.aret (pc := 10) (v := .ref r5) hx hb hr (Or.inr ⟨_, rfl⟩) (Or.inr ⟨_, rfl⟩) (fun t ht hW => c_ret (val := vR) (lw := jW) (u := N6) hw h ht) hw.2.2.2 dJ9_grow_10 hlk

def wJ9_add_2_11 (K : Nat → Nat → Nat) (post : Unit → NM → Prop) (x0 : Nat) (x1 : Nat) (x2 : Nat) (x3 : Int32) (mc ms : Nat) (N : NM) : Prop :=
  ∃ n5 f6, N x2 = some (eR 8 n5 f6) ∧ (vp_in x3 n5 ∧ (∃ f8 f9 f10 f11, N x1 = some (eO 6 [.int f8, .int f9, .int f10, va_rf f11]) ∧ (∀ N12, N12 = va_up N x2 (some (eR 8 n5 (va_up f6 x3.toNatClampNeg (some x1)))) → (∃ f17 f18 f19, N12 x0 = some (eO 18 [.int f17, va_rf f18, .int f19]) ∧ (∀ N20, N20 = va_up N12 x0 (some (eO 18 [.int f17, va_rf f18, .int (x3 + (1 : Int32))])) → (post () N20))))))
def wJ9_add_2 (K : Nat → Nat → Nat) (post : Unit → NM → Prop) (MC MS : Nat) (N : NM) (x0 : Nat) (x1 : Nat) (x2 : Nat) (x3 : Int32) : Prop :=
  ∃ n1, oLn K N x2 n1 ∧ (((x3 = (nI n1)) → (∃ f32 f33 f34, N x0 = some (eO 18 [.int f32, va_rf f33, .int f34]) ∧ (∃ mc27 ms28, mc27 ≤ MC ∧ ms28 ≤ MS ∧ wJ9_grow K (fun r25 N26 => wJ9_add_2_11 K post x0 x1 r25 x3 (MC - mc27) (MS - ms28) N26) mc27 ms28 N x0))) ∧ (¬ (x3 = (nI n1)) → (wJ9_add_2_11 K post x0 x1 x2 x3 MC MS N)))
theorem kJ9_add_2_11 {p : Program} {l : Launch} {e : Env} {s : State} {m : MethodId} {args : Array Value} {below : List Frame} {meth : Method} {c : Code} {G : gG} {A : Nat → Prop} {MC MS : Nat} {post : Unit → NM → Prop} (X : cX G A RJ9 p s m args c cJ9_add_2 4) (hr : meth.sig.returnType = none) (hlk : meth.locks = false) : ∀ (x0 : Nat) (x1 : Nat) (x2 : Nat) (x3 : Int32) (mc ms : Nat) (N : NM) (H : Heap) (locs : List Loc) (ls : Array Slot) (cells slots : Nat), wJ9_add_2_11 (gC G) post x0 x1 x2 x3 mc ms N → (cH G A s [] N H locs ∧ cells + mc ≤ MC ∧ slots + ms ≤ MS) → lv_has ls 4 [(0, .ref x0), (1, .ref x1), (2, .ref x2), (3, .int x3)] → W p l e ⟨3, MC, MS, 64⟩ s m args below meth c H locs cells slots (MQ below (gQ vV post (fun u H => cBw G A (jW u).1 (jW u).2 H) A) args s MC MS A) (F0 m 11 ls []) := by
  have hx := X.1.1
  have hb := X.1.2.1
  have hml := X.1.2.2.1
  have hown := X.1.2.2.2.1
  have hts := X.1.2.2.2.2
  intro x0 x1 x2 x3 mc ms N H locs ls cells slots h hw0 hl
  obtain ⟨hw, hbud⟩ := hw0
  unfold wJ9_add_2_11 at h
  refine lv_aload_n (pc := 11) hx hb dJ9_add_2_11 rfl (lv_at hl 2 rfl) ?_
  refine lv_iload_n (pc := 12) hx hb dJ9_add_2_12 rfl (lv_at hl 3 rfl) ?_
  refine lv_aload_n (pc := 13) hx hb dJ9_add_2_13 rfl (lv_at hl 1 rfl) ?_
  obtain ⟨n5, f6, hN4, h⟩ := h
  obtain ⟨hi, h⟩ := h
  obtain ⟨f8, f9, f10, f11, hN7, h⟩ := h
  refine c_aast (pc := 14) X hw 8 hN4 rfl (c_anyY X hw hN7 rfl q2554) hi dJ9_add_2_14 (fun H locs hw => ?_)
  obtain ⟨N12, e13⟩ : ∃ z, z = va_up N x2 (some (eR 8 n5 (va_up f6 x3.toNatClampNeg (some x1)))) := ⟨_, rfl⟩
  have hw : cH G A s [] N12 H locs := by rw [e13]; exact hw
  have h := h N12 e13
  have hN14 : N12 x2 = some (eR 8 n5 (va_up f6 x3.toNatClampNeg (some x1))) := by rw [e13]; exact up_s
  have hN15 := up_k (x := some (eR 8 n5 (va_up f6 x3.toNatClampNeg (some x1)))) hN4 hN7 (show (17 : Nat) ≠ 12 by decide)
  rw [← e13] at hN15
  refine lv_aload_n (pc := 15) hx hb dJ9_add_2_15 rfl (lv_at hl 0 rfl) ?_
  refine lv_iload_n (pc := 16) hx hb dJ9_add_2_16 rfl (lv_at hl 3 rfl) ?_
  refine lv_iconst (pc := 17) (v := (1 : Int32)) hx hb dJ9_add_2_17 (by decide) ?_
  refine lv_iadd (pc := 18) hx hb dJ9_add_2_18 ?_
  obtain ⟨f17, f18, f19, hN16, h⟩ := h
  refine c_put (pc := 19) X hw hN16 in_J9 tyJ9 tyJ9_ok nmJ9 rfl 2 (by decide) q439 rfl rfl rfl rfl rfl (Nat.le_of_ble_eq_true rfl) dJ9_add_2_19 (fun H locs hw => ?_)
  obtain ⟨N20, e21⟩ : ∃ z, z = va_up N12 x0 (some (eO 18 [.int f17, va_rf f18, .int (x3 + (1 : Int32))])) := ⟨_, rfl⟩
  have hw : cH G A s [] N20 H locs := by rw [e21]; exact hw
  have h := h N20 e21
  have hN22 : N20 x0 = some (eO 18 [.int f17, va_rf f18, .int (x3 + (1 : Int32))]) := by rw [e21]; exact up_s
  have hN23 := up_k (x := some (eO 18 [.int f17, va_rf f18, .int (x3 + (1 : Int32))])) hN16 hN14 (show (36 : Nat) ≠ 17 by decide)
  rw [← e21] at hN23
  have hN24 := up_k (x := some (eO 18 [.int f17, va_rf f18, .int (x3 + (1 : Int32))])) hN16 hN15 (show (36 : Nat) ≠ 12 by decide)
  rw [← e21] at hN24
  refine W.widen (k := MC) (n := MS) (by omega) (by omega) ?_
  exact W.vret (pc := 22) hx hb hr (fun t ht hW => c_ret (val := vV) (lw := jW) (u := N20) (v := ()) hw h ht) hw.2.2.2 dJ9_add_2_22 hlk
theorem tJ9_add_2 {l : Launch} {G : gG} (hO : gOk G) {post : Unit → NM → Prop} {MC MS : Nat} {N : NM} {x0 : Nat} {x1 : Nat} {x2 : Nat} {x3 : Int32} {sz : Nat} (h : wJ9_add_2 (gC G) post MC MS N x0 x1 x2 x3) : Met l yJ9_add_2 (ws_ yJ9_add_2 cJ9_add_2 4 none) ⟨3, MC, MS, 64⟩ (va_Pc [.ref x0, .ref x1, .ref x2, .int x3] (cPre G [] N sz)) (gQ vV post (fun u H => cBw G (cA [] N sz) (jW u).1 (jW u).2 H) (cA [] N sz)) MC MS (cA [] N sz) := by
  refine c_ofW (lw := jW) (by decide) hO (Nat.le_of_ble_eq_true rfl) (fun p e s m below meth c ls A X hr hlk hin hw hl => ?_)
  have hl : lv_has ls 4 [(0, .ref x0), (1, .ref x1), (2, .ref x2), (3, .int x3)] := hl
  have hx := X.1.1
  have hb := X.1.2.1
  have hml := X.1.2.2.1
  have hown := X.1.2.2.2.1
  have hts := X.1.2.2.2.2
  obtain ⟨H, eH⟩ : ∃ z, z = s.heap := ⟨_, rfl⟩
  rw [← eH] at hw ⊢
  obtain ⟨locs, eLo⟩ : ∃ z : List Loc, z = [] := ⟨_, rfl⟩
  rw [← eLo] at hw ⊢
  have hbud : 0 + MC ≤ MC ∧ 0 + MS ≤ MS := by omega
  unfold wJ9_add_2 at h
  refine lv_iload_n (pc := 0) hx hb dJ9_add_2_0 rfl (lv_at hl 3 rfl) ?_
  refine lv_aload_n (pc := 1) hx hb dJ9_add_2_1 rfl (lv_at hl 2 rfl) ?_
  obtain ⟨n1, hO2, h⟩ := h
  refine c_olen (pc := 2) X hw hO2 dJ9_add_2_2 ?_
  refine lv_icmp_ne (pc := 3) (tgt := 11) hx hb dJ9_add_2_3 rfl (fun c3 => ?_) (fun c3 => ?_)
  · have h := h.2 c3
    exact kJ9_add_2_11 X hr hlk  _ _ _ _ _ _ _ _ _ _ _ _ h ⟨hw, by omega⟩ (lv_sub hl [0, 1, 2, 3] rfl)
  · have h := h.1 c3
    refine lv_aload_n (pc := 6) hx hb dJ9_add_2_6 rfl (lv_at hl 0 rfl) ?_
    obtain ⟨f32, f33, f34, hN31, h⟩ := h
    obtain ⟨mc27, ms28, hm29, hm30, h⟩ := h
    refine c_callJ (pc := 7) (val := vR) X hw (va_runV (C := RJ9) (As := []) (rest := []) X.1 (tJ9_grow X.2.2.1 (sz := H.size) h) (cwV 0 hts (lw_V q779 q781 qs16 q116 q782) rfl rfl rfl ⟨rfl, by decide, by decide, (by decide +kernel : (parseMethodDescriptor yJ9_grow.desc).map (fun d => d.parameters.length) = some 0)⟩ ⟨Nat.le_of_ble_eq_true rfl, Nat.le_of_ble_eq_true rfl⟩) ⟨cPre_blind, c_recv X hw hN31 rfl, fun U hU hW => ⟨rfl, X.preJ hw hU hW⟩⟩ rfl rfl hl.1 rfl (lv_room (Nat.le_of_ble_eq_true rfl)) dJ9_add_2_7 ⟨show 0 + mc27 ≤ MC by omega, show 0 + ms28 ≤ MS by omega⟩) (fun r25 N26 H locs h hw => ?_)
    refine W.eq (g2 := F0 m 10 ls (.ref r25 :: [])) rfl ?_
    refine lv_astore_n (pc := 10) (lv' := [(2, .ref r25), (0, .ref x0), (1, .ref x1), (3, .int x3)]) hx hb dJ9_add_2_10 rfl hl (by decide) rfl (fun ls hl => ?_)
    exact kJ9_add_2_11 X hr hlk  _ _ _ _ _ _ _ _ _ _ _ _ h ⟨hw, by omega⟩ (lv_sub hl [1, 2, 0, 3] rfl)

def wJ9_add (K : Nat → Nat → Nat) (post : Int32 → NM → Prop) (MC MS : Nat) (N : NM) (x0 : Nat) (x1 : Nat) : Prop :=
  ∃ f2 f3 f4, N x0 = some (eO 18 [.int f2, va_rf f3, .int f4]) ∧ (∀ N5, N5 = va_up N x0 (some (eO 18 [.int (f2 + (1 : Int32)), va_rf f3, .int f4])) → (∃ a8, f3 = some a8 ∧ (∃ mc12 ms13, mc12 ≤ MC ∧ ms13 ≤ MS ∧ wJ9_add_2 K (fun _ N11 => post (1 : Int32) N11) mc12 ms13 N5 x0 x1 a8 f4)))
theorem tJ9_add {l : Launch} {G : gG} (hO : gOk G) {post : Int32 → NM → Prop} {MC MS : Nat} {N : NM} {x0 : Nat} {x1 : Nat} {sz : Nat} (h : wJ9_add (gC G) post MC MS N x0 x1) : Met l yJ9_add (ws_ yJ9_add cJ9_add 2 (some .boolean)) ⟨4, MC, MS, 87⟩ (va_Pc [.ref x0, .ref x1] (cPre G [] N sz)) (gQ vI post (fun u H => cBw G (cA [] N sz) (jW u).1 (jW u).2 H) (cA [] N sz)) MC MS (cA [] N sz) := by
  refine c_ofW (lw := jW) (by decide) hO (Nat.le_of_ble_eq_true rfl) (fun p e s m below meth c ls A X hr hlk hin hw hl => ?_)
  have hl : lv_has ls 2 [(0, .ref x0), (1, .ref x1)] := hl
  have hx := X.1.1
  have hb := X.1.2.1
  have hml := X.1.2.2.1
  have hown := X.1.2.2.2.1
  have hts := X.1.2.2.2.2
  obtain ⟨H, eH⟩ : ∃ z, z = s.heap := ⟨_, rfl⟩
  rw [← eH] at hw ⊢
  obtain ⟨locs, eLo⟩ : ∃ z : List Loc, z = [] := ⟨_, rfl⟩
  rw [← eLo] at hw ⊢
  have hbud : 0 + MC ≤ MC ∧ 0 + MS ≤ MS := by omega
  unfold wJ9_add at h
  refine lv_aload_n (pc := 0) hx hb dJ9_add_0 rfl (lv_at hl 0 rfl) ?_
  refine lv_dup (pc := 1) hx hb dJ9_add_1 rfl ?_
  obtain ⟨f2, f3, f4, hN1, h⟩ := h
  refine c_getA (pc := 2) X hw hN1 in_J9 rfl 0 (by decide) q441 q442 rfl dJ9_add_2 ?_
  refine lv_iconst (pc := 5) (v := (1 : Int32)) hx hb dJ9_add_5 (by decide) ?_
  refine lv_iadd (pc := 6) hx hb dJ9_add_6 ?_
  refine c_putA (pc := 7) X hw hN1 in_J9 tyJ9 tyJ9_ok nmJ9 rfl 0 (by decide) q441 q442 rfl rfl rfl rfl (Nat.le_of_ble_eq_true rfl) dJ9_add_7 (fun H locs hw => ?_)
  obtain ⟨N5, e6⟩ : ∃ z, z = va_up N x0 (some (eO 18 [.int (f2 + (1 : Int32)), va_rf f3, .int f4])) := ⟨_, rfl⟩
  have hw : cH G A s [] N5 H locs := by rw [e6]; exact hw
  have h := h N5 e6
  have hN7 : N5 x0 = some (eO 18 [.int (f2 + (1 : Int32)), va_rf f3, .int f4]) := by rw [e6]; exact up_s
  refine lv_aload_n (pc := 10) hx hb dJ9_add_10 rfl (lv_at hl 0 rfl) ?_
  refine lv_aload_n (pc := 11) hx hb dJ9_add_11 rfl (lv_at hl 1 rfl) ?_
  refine lv_aload_n (pc := 12) hx hb dJ9_add_12 rfl (lv_at hl 0 rfl) ?_
  refine c_get (pc := 13) X hw hN7 in_J9 rfl 1 (by decide) q438 rfl rfl dJ9_add_13 ?_
  refine lv_aload_n (pc := 16) hx hb dJ9_add_16 rfl (lv_at hl 0 rfl) ?_
  refine c_get (pc := 17) X hw hN7 in_J9 rfl 2 (by decide) q439 rfl rfl dJ9_add_17 ?_
  obtain ⟨a8, hr9, h⟩ := h
  refine W.eq (g2 := F0 m 20 ls [.int f4, .ref a8, .ref x1, .ref x0]) (by rw [hr9]; rfl) ?_
  obtain ⟨mc12, ms13, hm14, hm15, h⟩ := h
  refine c_callJ (pc := 20) (val := vV) X hw (va_runV (C := RJ9) (As := [.ref x1, .ref a8, .int f4]) (rest := []) X.1 (tJ9_add_2 X.2.2.1 (sz := H.size) h) (cwV 3 hts (lw_V q775 q777 qs15 q116 q778) rfl rfl rfl ⟨rfl, by decide, by decide, (by decide +kernel : (parseMethodDescriptor yJ9_add_2.desc).map (fun d => d.parameters.length) = some 3)⟩ ⟨Nat.le_of_ble_eq_true rfl, Nat.le_of_ble_eq_true rfl⟩) ⟨cPre_blind, c_recv X hw hN7 rfl, fun U hU hW => ⟨rfl, X.preJ hw hU hW⟩⟩ rfl rfl hl.1 rfl (lv_room (Nat.le_of_ble_eq_true rfl)) dJ9_add_20 ⟨show 0 + mc12 ≤ MC by omega, show 0 + ms13 ≤ MS by omega⟩) (fun _ N11 H locs h hw => ?_)
  refine W.eq (g2 := F0 m 23 ls ([])) rfl ?_
  refine lv_iconst (pc := 23) (v := (1 : Int32)) hx hb dJ9_add_23 (by decide) ?_
  refine W.widen (k := MC) (n := MS) (by omega) (by omega) ?_
  exact W.zret (pc := 24) hx hb hr rfl (fun t ht hW => c_ret (val := vI) (lw := jW) (u := N11) hw h ht) hw.2.2.2 dJ9_add_24 hlk

def wJ17_checkIndex_g (K : Nat → Nat → Nat) (post : Int32 → NM → Prop) (N : NM) (x0 : Int32) (x1 : Int32) (x2 : Option Nat) : Prop :=
  ((x0 < (0 : Int32)) → (False)) ∧ (¬ (x0 < (0 : Int32)) → (((x0 < x1) → (post x0 N)) ∧ (¬ (x0 < x1) → (False))))
theorem tJ17_checkIndex_g {l : Launch} {G : gG} (hO : gOk G) {post : Int32 → NM → Prop} {N : NM} {x0 : Int32} {x1 : Int32} {x2 : Option Nat} {sz : Nat} (h : wJ17_checkIndex_g (gC G) post N x0 x1 x2) : Met l yJ17_checkIndex (ws_ yJ17_checkIndex cJ17_checkIndex 3 (some .int)) ⟨0, 0, 0, 0⟩ (va_Pc [.int x0, .int x1, va_rf x2] (cPre G [] N sz)) (gQ vI post (fun u H => cBw G (cA [] N sz) (jW u).1 (jW u).2 H) (cA [] N sz)) 0 0 (cA [] N sz) := by
  refine c_ofW (lw := jW) (by decide) hO (by cases x2 <;> exact Nat.le_of_ble_eq_true rfl) (fun p e s m below meth c ls A X hr hlk hin hw hl => ?_)
  have hl : lv_has ls 3 [(0, .int x0), (1, .int x1), (2, va_rf x2)] := by cases x2 <;> exact hl
  have hx := X.1.1
  have hb := X.1.2.1
  have hml := X.1.2.2.1
  have hown := X.1.2.2.2.1
  have hts := X.1.2.2.2.2
  obtain ⟨H, eH⟩ : ∃ z, z = s.heap := ⟨_, rfl⟩
  rw [← eH] at hw ⊢
  obtain ⟨locs, eLo⟩ : ∃ z : List Loc, z = [] := ⟨_, rfl⟩
  rw [← eLo] at hw ⊢
  unfold wJ17_checkIndex_g at h
  refine lv_iload_n (pc := 0) hx hb dJ17_checkIndex_0 rfl (lv_at hl 0 rfl) ?_
  refine lv_if_lt (pc := 1) (tgt := 9) hx hb dJ17_checkIndex_1 rfl (fun c1 => ?_) (fun c1 => ?_)
  · have h := h.1 c1
    exact False.elim h
  · have h := h.2 c1
    refine lv_iload_n (pc := 4) hx hb dJ17_checkIndex_4 rfl (lv_at hl 0 rfl) ?_
    refine lv_iload_n (pc := 5) hx hb dJ17_checkIndex_5 rfl (lv_at hl 1 rfl) ?_
    refine lv_icmp_lt (pc := 6) (tgt := 16) hx hb dJ17_checkIndex_6 rfl (fun c2 => ?_) (fun c2 => ?_)
    · have h := h.1 c2
      refine lv_iload_n (pc := 16) hx hb dJ17_checkIndex_16 rfl (lv_at hl 0 rfl) ?_
      exact W.iret (pc := 17) hx hb hr (fun t ht hW => c_ret (val := vI) (lw := jW) (u := N) hw h ht) hw.2.2.2 dJ17_checkIndex_17 hlk
    · have h := h.2 c2
      exact False.elim h

def wJ18_checkIndex (K : Nat → Nat → Nat) (post : Int32 → NM → Prop) (N : NM) (x0 : Int32) (x1 : Int32) : Prop :=
  wJ17_checkIndex_g K (fun r1 N2 => post r1 N2) N x0 x1 none
theorem tJ18_checkIndex {l : Launch} {G : gG} (hO : gOk G) {post : Int32 → NM → Prop} {N : NM} {x0 : Int32} {x1 : Int32} {sz : Nat} (h : wJ18_checkIndex (gC G) post N x0 x1) : Met l yJ18_checkIndex (ws_ yJ18_checkIndex cJ18_checkIndex 2 (some .int)) ⟨1, 0, 0, 22⟩ (va_Pc [.int x0, .int x1] (cPre G [] N sz)) (gQ vI post (fun u H => cBw G (cA [] N sz) (jW u).1 (jW u).2 H) (cA [] N sz)) 0 0 (cA [] N sz) := by
  refine c_ofW (lw := jW) (by decide) hO (Nat.le_of_ble_eq_true rfl) (fun p e s m below meth c ls A X hr hlk hin hw hl => ?_)
  have hl : lv_has ls 2 [(0, .int x0), (1, .int x1)] := hl
  have hx := X.1.1
  have hb := X.1.2.1
  have hml := X.1.2.2.1
  have hown := X.1.2.2.2.1
  have hts := X.1.2.2.2.2
  obtain ⟨H, eH⟩ : ∃ z, z = s.heap := ⟨_, rfl⟩
  rw [← eH] at hw ⊢
  obtain ⟨locs, eLo⟩ : ∃ z : List Loc, z = [] := ⟨_, rfl⟩
  rw [← eLo] at hw ⊢
  unfold wJ18_checkIndex at h
  refine lv_iload_n (pc := 0) hx hb dJ18_checkIndex_0 rfl (lv_at hl 0 rfl) ?_
  refine lv_iload_n (pc := 1) hx hb dJ18_checkIndex_1 rfl (lv_at hl 1 rfl) ?_
  refine lv_null (pc := 2) hx hb dJ18_checkIndex_2 ?_
  refine c_callJ (pc := 3) (val := vI) X hw (va_runS (g := F0 m 3 ls _) (As := [.int x0, .int x1, va_rf none]) (rest := []) X.1 (tJ17_checkIndex_g X.2.2.1 (sz := H.size) h) (va_cwS 3 hts (lw_S q873 q600 q124 q601) rfl rfl rfl ⟨by decide, by decide, (by decide +kernel : (parseMethodDescriptor yJ17_checkIndex.desc).map (fun d => d.parameters.length) = some 3)⟩ ⟨Nat.le_of_ble_eq_true rfl, Nat.le_of_ble_eq_true rfl⟩) ⟨cPre_blind, fun U hU hW => ⟨rfl, X.preJ hw hU hW⟩⟩ rfl rfl hl.1 rfl (lv_room (Nat.le_of_ble_eq_true rfl)) dJ18_checkIndex_3 ⟨show 0 + 0 ≤ 0 by omega, show 0 + 0 ≤ 0 by omega⟩) (fun r1 N2 H locs h hw => ?_)
  refine W.eq (g2 := F0 m 6 ls (.int r1 :: [])) rfl ?_
  exact W.iret (pc := 6) hx hb hr (fun t ht hW => c_ret (val := vI) (lw := jW) (u := N2) hw h ht) hw.2.2.2 dJ18_checkIndex_6 hlk

def wJ9_elementData (K : Nat → Nat → Nat) (post : Option Nat → NM → Prop) (N : NM) (x0 : Nat) (x1 : Int32) : Prop :=
  ∃ f2 f3 f4, N x0 = some (eO 18 [.int f2, va_rf f3, .int f4]) ∧ (∃ a5, f3 = some a5 ∧ (∃ n8 f9, N a5 = some (eR 8 n8 f9) ∧ (vp_in x1 n8 ∧ (post (f9 x1.toNatClampNeg) N))))
theorem tJ9_elementData {l : Launch} {G : gG} (hO : gOk G) {post : Option Nat → NM → Prop} {N : NM} {x0 : Nat} {x1 : Int32} {sz : Nat} (h : wJ9_elementData (gC G) post N x0 x1) : Met l yJ9_elementData (ws_ yJ9_elementData cJ9_elementData 2 (some (.object "java/lang/Object"))) ⟨0, 0, 0, 0⟩ (va_Pc [.ref x0, .int x1] (cPre G [] N sz)) (gQ vQ post (fun u H => cBw G (cA [] N sz) (jW u).1 (jW u).2 H) (cA [] N sz)) 0 0 (cA [] N sz) := by
  refine c_ofW (lw := jW) (by decide) hO (Nat.le_of_ble_eq_true rfl) (fun p e s m below meth c ls A X hr hlk hin hw hl => ?_)
  have hl : lv_has ls 2 [(0, .ref x0), (1, .int x1)] := hl
  have hx := X.1.1
  have hb := X.1.2.1
  have hml := X.1.2.2.1
  have hown := X.1.2.2.2.1
  have hts := X.1.2.2.2.2
  obtain ⟨H, eH⟩ : ∃ z, z = s.heap := ⟨_, rfl⟩
  rw [← eH] at hw ⊢
  obtain ⟨locs, eLo⟩ : ∃ z : List Loc, z = [] := ⟨_, rfl⟩
  rw [← eLo] at hw ⊢
  unfold wJ9_elementData at h
  refine lv_aload_n (pc := 0) hx hb dJ9_elementData_0 rfl (lv_at hl 0 rfl) ?_
  obtain ⟨f2, f3, f4, hN1, h⟩ := h
  refine c_get (pc := 1) X hw hN1 in_J9 rfl 1 (by decide) q438 rfl rfl dJ9_elementData_1 ?_
  refine lv_iload_n (pc := 4) hx hb dJ9_elementData_4 rfl (lv_at hl 1 rfl) ?_
  obtain ⟨a5, hr6, h⟩ := h
  refine W.eq (g2 := F0 m 5 ls [.int x1, .ref a5]) (by rw [hr6]; rfl) ?_
  obtain ⟨n8, f9, hN7, h⟩ := h
  obtain ⟨hi, h⟩ := h
  refine c_aald (pc := 5) X hw 8 hN7 rfl hi dJ9_elementData_5 ?_
  exact W.aret (pc := 6) (v := va_rf (f9 x1.toNatClampNeg)) hx hb hr (Or.inl ⟨_, rfl⟩) (va_rf_or _) (fun t ht hW => c_ret (val := vQ) (lw := jW) (u := N) hw h ht) hw.2.2.2 dJ9_elementData_6 hlk

def wJ9_get (K : Nat → Nat → Nat) (post : Option Nat → NM → Prop) (N : NM) (x0 : Nat) (x1 : Int32) : Prop :=
  ∃ f2 f3 f4, N x0 = some (eO 18 [.int f2, va_rf f3, .int f4]) ∧ (wJ18_checkIndex K (fun r5 N6 => ∃ f10 f11 f12, N6 x0 = some (eO 18 [.int f10, va_rf f11, .int f12]) ∧ (wJ9_elementData K (fun r7 N8 => post r7 N8) N6 x0 x1)) N x1 f4)
theorem tJ9_get {l : Launch} {G : gG} (hO : gOk G) {post : Option Nat → NM → Prop} {N : NM} {x0 : Nat} {x1 : Int32} {sz : Nat} (h : wJ9_get (gC G) post N x0 x1) : Met l yJ9_get (ws_ yJ9_get cJ9_get 2 (some (.object "java/lang/Object"))) ⟨2, 0, 0, 43⟩ (va_Pc [.ref x0, .int x1] (cPre G [] N sz)) (gQ vQ post (fun u H => cBw G (cA [] N sz) (jW u).1 (jW u).2 H) (cA [] N sz)) 0 0 (cA [] N sz) := by
  refine c_ofW (lw := jW) (by decide) hO (Nat.le_of_ble_eq_true rfl) (fun p e s m below meth c ls A X hr hlk hin hw hl => ?_)
  have hl : lv_has ls 2 [(0, .ref x0), (1, .int x1)] := hl
  have hx := X.1.1
  have hb := X.1.2.1
  have hml := X.1.2.2.1
  have hown := X.1.2.2.2.1
  have hts := X.1.2.2.2.2
  obtain ⟨H, eH⟩ : ∃ z, z = s.heap := ⟨_, rfl⟩
  rw [← eH] at hw ⊢
  obtain ⟨locs, eLo⟩ : ∃ z : List Loc, z = [] := ⟨_, rfl⟩
  rw [← eLo] at hw ⊢
  unfold wJ9_get at h
  refine lv_iload_n (pc := 0) hx hb dJ9_get_0 rfl (lv_at hl 1 rfl) ?_
  refine lv_aload_n (pc := 1) hx hb dJ9_get_1 rfl (lv_at hl 0 rfl) ?_
  obtain ⟨f2, f3, f4, hN1, h⟩ := h
  refine c_get (pc := 2) X hw hN1 in_J9 rfl 2 (by decide) q439 rfl rfl dJ9_get_2 ?_
  refine c_callJ (pc := 5) (val := vI) X hw (va_runS (g := F0 m 5 ls _) (As := [.int x1, .int f4]) (rest := []) X.1 (tJ18_checkIndex X.2.2.1 (sz := H.size) h) (va_cwS 2 hts (lw_S q870 q871 q128 q872) rfl rfl rfl ⟨by decide, by decide, (by decide +kernel : (parseMethodDescriptor yJ18_checkIndex.desc).map (fun d => d.parameters.length) = some 2)⟩ ⟨Nat.le_of_ble_eq_true rfl, Nat.le_of_ble_eq_true rfl⟩) ⟨cPre_blind, fun U hU hW => ⟨rfl, X.preJ hw hU hW⟩⟩ rfl rfl hl.1 rfl (lv_room (Nat.le_of_ble_eq_true rfl)) dJ9_get_5 ⟨show 0 + 0 ≤ 0 by omega, show 0 + 0 ≤ 0 by omega⟩) (fun r5 N6 H locs h hw => ?_)
  refine W.eq (g2 := F0 m 8 ls (.int r5 :: [])) rfl ?_
  refine lv_pop (pc := 8) hx hb dJ9_get_8 rfl ?_
  refine lv_aload_n (pc := 9) hx hb dJ9_get_9 rfl (lv_at hl 0 rfl) ?_
  refine lv_iload_n (pc := 10) hx hb dJ9_get_10 rfl (lv_at hl 1 rfl) ?_
  obtain ⟨f10, f11, f12, hN9, h⟩ := h
  refine c_callJ (pc := 11) (val := vQ) X hw (va_runV (C := RJ9) (As := [.int x1]) (rest := []) X.1 (tJ9_elementData X.2.2.1 (sz := H.size) h) (cwV 1 hts (lw_V q874 q875 q876 q116 q877) rfl rfl rfl ⟨rfl, by decide, by decide, (by decide +kernel : (parseMethodDescriptor yJ9_elementData.desc).map (fun d => d.parameters.length) = some 1)⟩ ⟨Nat.le_of_ble_eq_true rfl, Nat.le_of_ble_eq_true rfl⟩) ⟨cPre_blind, c_recv X hw hN9 rfl, fun U hU hW => ⟨rfl, X.preJ hw hU hW⟩⟩ rfl rfl hl.1 rfl (lv_room (Nat.le_of_ble_eq_true rfl)) dJ9_get_11 ⟨show 0 + 0 ≤ 0 by omega, show 0 + 0 ≤ 0 by omega⟩) (fun r7 N8 H locs h hw => ?_)
  refine W.eq (g2 := F0 m 14 ls (va_rf r7 :: [])) rfl ?_
  exact W.aret (pc := 14) (v := va_rf r7) hx hb hr (Or.inl ⟨_, rfl⟩) (va_rf_or _) (fun t ht hW => c_ret (val := vQ) (lw := jW) (u := N8) hw h ht) hw.2.2.2 dJ9_get_14 hlk

def wJ27_init (K : Nat → Nat → Nat) (post : Unit → NM → Prop) (N : NM) (x0 : Nat) : Prop :=
  wJ7_init K (fun _ N2 => post () N2) N x0
theorem tJ27_init {l : Launch} {G : gG} (hO : gOk G) {post : Unit → NM → Prop} {N : NM} {x0 : Nat} {sz : Nat} (h : wJ27_init (gC G) post N x0) : Met l yJ27_init (ws_ yJ27_init cJ27_init 1 none) ⟨2, 0, 0, 40⟩ (va_Pc [.ref x0] (cPre G [] N sz)) (gQ vV post (fun u H => cBw G (cA [] N sz) (jW u).1 (jW u).2 H) (cA [] N sz)) 0 0 (cA [] N sz) := by
  refine c_ofW (lw := jW) (by decide) hO (Nat.le_of_ble_eq_true rfl) (fun p e s m below meth c ls A X hr hlk hin hw hl => ?_)
  have hl : lv_has ls 1 [(0, .ref x0)] := hl
  have hin := hin rfl
  have hx := X.1.1
  have hb := X.1.2.1
  have hml := X.1.2.2.1
  have hown := X.1.2.2.2.1
  have hts := X.1.2.2.2.2
  obtain ⟨H, eH⟩ : ∃ z, z = s.heap := ⟨_, rfl⟩
  rw [← eH] at hw ⊢
  obtain ⟨locs, eLo⟩ : ∃ z : List Loc, z = [] := ⟨_, rfl⟩
  rw [← eLo] at hw ⊢
  unfold wJ27_init at h
  refine lv_aload_n (pc := 0) hx hb dJ27_init_0 rfl (lv_at hl 0 rfl) ?_
  refine c_callJ (pc := 1) (val := vV) X hw (va_runI (As := []) (rest := []) X.1 (tJ7_init X.2.2.1 (sz := H.size) h) (cwI 0 hts (lw_meth q434) rfl rfl rfl (hts _ q114) (hts _ q1670) (hts _ q433) rfl ⟨by decide, by decide, (by decide +kernel : (parseMethodDescriptor yJ7_init.desc).map (fun d => d.parameters.length) = some 0)⟩ ⟨Nat.le_of_ble_eq_true rfl, Nat.le_of_ble_eq_true rfl⟩) ⟨cPre_blind, fun U hU hW => ⟨rfl, X.preJ hw hU hW⟩⟩ rfl rfl hl.1 rfl (lv_room (Nat.le_of_ble_eq_true rfl)) dJ27_init_1 ⟨show 0 + 0 ≤ 0 by omega, show 0 + 0 ≤ 0 by omega⟩) (fun _ N2 H locs h hw => ?_)
  refine W.eq (g2 := F0 m 4 ls ([])) rfl ?_
  exact W.vret (pc := 4) hx hb hr (fun t ht hW => c_ret (val := vV) (lw := jW) (u := N2) (v := ()) hw h ht) hw.2.2.2 dJ27_init_4 hlk

def wJ28_init_2 (K : Nat → Nat → Nat) (post : Unit → NM → Prop) (MC MS : Nat) (N : NM) (x0 : Nat) (x1 : Int32) (x2 : Option Nat) : Prop :=
  wJ27_init K (fun _ N2 => (((1 : Int32) ≤ x1) → (¬ x1 < 0 ∧ x1.toNatClampNeg ≤ 65536 ∧ 1 ≤ MC ∧ x1.toNatClampNeg ≤ MS ∧ (∀ nq8, N2 nq8 = none → (∀ N10, N10 = va_up N2 nq8 (some (eR 8 x1.toNatClampNeg (fun _ => (none : Option Nat)))) → (∃ f14 f15 f16 f17, N10 x0 = some (eO 21 [va_rf f14, .int f15, va_rf f16, .int f17]) ∧ (∀ N18, N18 = va_up N10 x0 (some (eO 21 [va_rf (some nq8), .int f15, va_rf f16, .int f17])) → (∀ N22, N22 = va_up N18 x0 (some (eO 21 [va_rf (some nq8), .int f15, va_rf x2, .int f17])) → (post () N22)))))))) ∧ (¬ ((1 : Int32) ≤ x1) → (False))) N x0
theorem tJ28_init_2 {l : Launch} {G : gG} (hO : gOk G) {post : Unit → NM → Prop} {MC MS : Nat} {N : NM} {x0 : Nat} {x1 : Int32} {x2 : Option Nat} {sz : Nat} (h : wJ28_init_2 (gC G) post MC MS N x0 x1 x2) : Met l yJ28_init_2 (ws_ yJ28_init_2 cJ28_init_2 3 none) ⟨3, MC, MS, 60⟩ (va_Pc [.ref x0, .int x1, va_rf x2] (cPre G [] N sz)) (gQ vV post (fun u H => cBw G (cA [] N sz) (jW u).1 (jW u).2 H) (cA [] N sz)) MC MS (cA [] N sz) := by
  refine c_ofW (lw := jW) (by decide) hO (by cases x2 <;> exact Nat.le_of_ble_eq_true rfl) (fun p e s m below meth c ls A X hr hlk hin hw hl => ?_)
  have hl : lv_has ls 3 [(0, .ref x0), (1, .int x1), (2, va_rf x2)] := by cases x2 <;> exact hl
  have hin := hin rfl
  have hx := X.1.1
  have hb := X.1.2.1
  have hml := X.1.2.2.1
  have hown := X.1.2.2.2.1
  have hts := X.1.2.2.2.2
  obtain ⟨H, eH⟩ : ∃ z, z = s.heap := ⟨_, rfl⟩
  rw [← eH] at hw ⊢
  obtain ⟨locs, eLo⟩ : ∃ z : List Loc, z = [] := ⟨_, rfl⟩
  rw [← eLo] at hw ⊢
  have hbud : 0 + MC ≤ MC ∧ 0 + MS ≤ MS := by omega
  unfold wJ28_init_2 at h
  refine lv_aload_n (pc := 0) hx hb dJ28_init_2_0 rfl (lv_at hl 0 rfl) ?_
  refine c_callJ (pc := 1) (val := vV) X hw (va_runI (As := []) (rest := []) X.1 (tJ27_init X.2.2.1 (sz := H.size) h) (cwI 0 hts (lw_meth q1669) rfl rfl rfl (hts _ q148) (hts _ q1667) (hts _ q1668) rfl ⟨by decide, by decide, (by decide +kernel : (parseMethodDescriptor yJ27_init.desc).map (fun d => d.parameters.length) = some 0)⟩ ⟨Nat.le_of_ble_eq_true rfl, Nat.le_of_ble_eq_true rfl⟩) ⟨cPre_blind, fun U hU hW => ⟨rfl, X.preJ hw hU hW⟩⟩ rfl rfl hl.1 rfl (lv_room (Nat.le_of_ble_eq_true rfl)) dJ28_init_2_1 ⟨show 0 + 0 ≤ MC by omega, show 0 + 0 ≤ MS by omega⟩) (fun _ N2 H locs h hw => ?_)
  refine W.eq (g2 := F0 m 4 ls ([])) rfl ?_
  refine lv_iload_n (pc := 4) hx hb dJ28_init_2_4 rfl (lv_at hl 1 rfl) ?_
  refine lv_iconst (pc := 5) (v := (1 : Int32)) hx hb dJ28_init_2_5 (by decide) ?_
  refine lv_icmp_ge (pc := 6) (tgt := 17) hx hb dJ28_init_2_6 rfl (fun c3 => ?_) (fun c3 => ?_)
  · have h := h.1 c3
    refine lv_aload_n (pc := 17) hx hb dJ28_init_2_17 rfl (lv_at hl 0 rfl) ?_
    refine lv_iload_n (pc := 18) hx hb dJ28_init_2_18 rfl (lv_at hl 1 rfl) ?_
    obtain ⟨hm4, hm5, hm6, hm7, h⟩ := h
    refine c_newq (pc := 19) X hw q1671 q830 8 rfl hm4 rfl (Nat.le_trans (Nat.mul_le_mul_right _ hm5) (Nat.le_of_ble_eq_true rfl)) (show 0 + 0 + 1 ≤ MC by omega) (show 0 + 0 + x1.toNatClampNeg ≤ MS by omega) dJ28_init_2_19 (fun nq8 H hq9 _ hw => ?_)
    have h := h nq8 hq9
    obtain ⟨N10, e11⟩ : ∃ z, z = va_up N2 nq8 (some (eR 8 x1.toNatClampNeg (fun _ => (none : Option Nat)))) := ⟨_, rfl⟩
    have hw : cH G A s [] N10 H locs := by rw [e11]; exact hw
    have h := h N10 e11
    have hN12 : N10 nq8 = some (eR 8 x1.toNatClampNeg (fun _ => (none : Option Nat))) := by rw [e11]; exact up_s
    obtain ⟨f14, f15, f16, f17, hN13, h⟩ := h
    refine c_put (pc := 22) (v := va_rf (some nq8)) X hw hN13 in_J28 tyJ28 tyJ28_ok nmJ28 rfl 0 (by decide) q1672 rfl rfl rfl (rf_na (some nq8) _) (rf_fa (some nq8) _) (Nat.le_of_ble_eq_true rfl) dJ28_init_2_22 (fun H locs hw => ?_)
    obtain ⟨N18, e19⟩ : ∃ z, z = va_up N10 x0 (some (eO 21 [va_rf (some nq8), .int f15, va_rf f16, .int f17])) := ⟨_, rfl⟩
    have hw : cH G A s [] N18 H locs := by rw [e19]; exact hw
    have h := h N18 e19
    have hN20 : N18 x0 = some (eO 21 [va_rf (some nq8), .int f15, va_rf f16, .int f17]) := by rw [e19]; exact up_s
    have hN21 := up_k (x := some (eO 21 [va_rf (some nq8), .int f15, va_rf f16, .int f17])) hN13 hN12 (show (42 : Nat) ≠ 17 by decide)
    rw [← e19] at hN21
    refine lv_aload_n (pc := 25) hx hb dJ28_init_2_25 rfl (lv_at hl 0 rfl) ?_
    refine lq_aload_n (pc := 26) hx hb dJ28_init_2_26 rfl (lv_at hl 2 rfl) ?_
    refine c_putF (pc := 27) (v := va_rf x2) X hw hN20 in_J28 tyJ28 tyJ28_ok nmJ28 rfl 2 (by decide) q1674 rfl rfl hin rfl rfl (rf_n x2 _) (rf_f x2 _) (Nat.le_of_ble_eq_true rfl) dJ28_init_2_27 (fun H locs hw => ?_)
    obtain ⟨N22, e23⟩ : ∃ z, z = va_up N18 x0 (some (eO 21 [va_rf (some nq8), .int f15, va_rf x2, .int f17])) := ⟨_, rfl⟩
    have hw : cH G A s [] N22 H locs := by rw [e23]; exact hw
    have h := h N22 e23
    have hN24 : N22 x0 = some (eO 21 [va_rf (some nq8), .int f15, va_rf x2, .int f17]) := by rw [e23]; exact up_s
    have hN25 := up_k (x := some (eO 21 [va_rf (some nq8), .int f15, va_rf x2, .int f17])) hN20 hN21 (show (42 : Nat) ≠ 17 by decide)
    rw [← e23] at hN25
    refine W.widen (k := MC) (n := MS) (by omega) (by omega) ?_
    exact W.vret (pc := 30) hx hb hr (fun t ht hW => c_ret (val := vV) (lw := jW) (u := N22) (v := ()) hw h ht) hw.2.2.2 dJ28_init_2_30 hlk
  · have h := h.2 c3
    exact False.elim h

def wJ28_init (K : Nat → Nat → Nat) (post : Unit → NM → Prop) (MC MS : Nat) (N : NM) (x0 : Nat) : Prop :=
  ∃ mc3 ms4, mc3 ≤ MC ∧ ms4 ≤ MS ∧ wJ28_init_2 K (fun _ N2 => post () N2) mc3 ms4 N x0 (11 : Int32) none
theorem tJ28_init {l : Launch} {G : gG} (hO : gOk G) {post : Unit → NM → Prop} {MC MS : Nat} {N : NM} {x0 : Nat} {sz : Nat} (h : wJ28_init (gC G) post MC MS N x0) : Met l yJ28_init (ws_ yJ28_init cJ28_init 1 none) ⟨4, MC, MS, 82⟩ (va_Pc [.ref x0] (cPre G [] N sz)) (gQ vV post (fun u H => cBw G (cA [] N sz) (jW u).1 (jW u).2 H) (cA [] N sz)) MC MS (cA [] N sz) := by
  refine c_ofW (lw := jW) (by decide) hO (Nat.le_of_ble_eq_true rfl) (fun p e s m below meth c ls A X hr hlk hin hw hl => ?_)
  have hl : lv_has ls 1 [(0, .ref x0)] := hl
  have hin := hin rfl
  have hx := X.1.1
  have hb := X.1.2.1
  have hml := X.1.2.2.1
  have hown := X.1.2.2.2.1
  have hts := X.1.2.2.2.2
  obtain ⟨H, eH⟩ : ∃ z, z = s.heap := ⟨_, rfl⟩
  rw [← eH] at hw ⊢
  obtain ⟨locs, eLo⟩ : ∃ z : List Loc, z = [] := ⟨_, rfl⟩
  rw [← eLo] at hw ⊢
  have hbud : 0 + MC ≤ MC ∧ 0 + MS ≤ MS := by omega
  unfold wJ28_init at h
  refine lv_aload_n (pc := 0) hx hb dJ28_init_0 rfl (lv_at hl 0 rfl) ?_
  refine lv_bipush (pc := 1) (v := (11 : Int32)) hx hb dJ28_init_1 (by decide) ?_
  refine lv_null (pc := 3) hx hb dJ28_init_3 ?_
  obtain ⟨mc3, ms4, hm5, hm6, h⟩ := h
  refine c_callJ (pc := 4) (val := vV) X hw (va_runI (As := [.int (11 : Int32), va_rf none]) (rest := []) X.1 (tJ28_init_2 X.2.2.1 (sz := H.size) h) (cwI 2 hts (lw_meth q1666) rfl rfl rfl (hts _ q149) (hts _ q1664) (hts _ q1665) rfl ⟨by decide, by decide, (by decide +kernel : (parseMethodDescriptor yJ28_init_2.desc).map (fun d => d.parameters.length) = some 2)⟩ ⟨Nat.le_of_ble_eq_true rfl, Nat.le_of_ble_eq_true rfl⟩) ⟨cPre_blind, fun U hU hW => ⟨rfl, X.preJ hw hU hW⟩⟩ rfl rfl hl.1 rfl (lv_room (Nat.le_of_ble_eq_true rfl)) dJ28_init_4 ⟨show 0 + mc3 ≤ MC by omega, show 0 + ms4 ≤ MS by omega⟩) (fun _ N2 H locs h hw => ?_)
  refine W.eq (g2 := F0 m 7 ls ([])) rfl ?_
  refine W.widen (k := MC) (n := MS) (by omega) (by omega) ?_
  exact W.vret (pc := 7) hx hb hr (fun t ht hW => c_ret (val := vV) (lw := jW) (u := N2) (v := ()) hw h ht) hw.2.2.2 dJ28_init_7 hlk

def wJ28_size (K : Nat → Nat → Nat) (post : Int32 → NM → Prop) (N : NM) (x0 : Nat) : Prop :=
  ∃ f2 f3 f4 f5, N x0 = some (eO 21 [va_rf f2, .int f3, va_rf f4, .int f5]) ∧ (post f3 N)
theorem tJ28_size {l : Launch} {G : gG} (hO : gOk G) {post : Int32 → NM → Prop} {N : NM} {x0 : Nat} {sz : Nat} (h : wJ28_size (gC G) post N x0) : Met l yJ28_size (ws_ yJ28_size cJ28_size 1 (some .int)) ⟨0, 0, 0, 0⟩ (va_Pc [.ref x0] (cPre G [] N sz)) (gQ vI post (fun u H => cBw G (cA [] N sz) (jW u).1 (jW u).2 H) (cA [] N sz)) 0 0 (cA [] N sz) := by
  refine c_ofW (lw := jW) (by decide) hO (Nat.le_of_ble_eq_true rfl) (fun p e s m below meth c ls A X hr hlk hin hw hl => ?_)
  have hl : lv_has ls 1 [(0, .ref x0)] := hl
  have hx := X.1.1
  have hb := X.1.2.1
  have hml := X.1.2.2.1
  have hown := X.1.2.2.2.1
  have hts := X.1.2.2.2.2
  obtain ⟨H, eH⟩ : ∃ z, z = s.heap := ⟨_, rfl⟩
  rw [← eH] at hw ⊢
  obtain ⟨locs, eLo⟩ : ∃ z : List Loc, z = [] := ⟨_, rfl⟩
  rw [← eLo] at hw ⊢
  unfold wJ28_size at h
  refine lv_aload_n (pc := 0) hx hb dJ28_size_0 rfl (lv_at hl 0 rfl) ?_
  obtain ⟨f2, f3, f4, f5, hN1, h⟩ := h
  refine c_get (pc := 1) X hw hN1 in_J28 rfl 1 (by decide) q1673 rfl rfl dJ28_size_1 ?_
  exact W.iret (pc := 4) hx hb hr (fun t ht hW => c_ret (val := vI) (lw := jW) (u := N) hw h ht) hw.2.2.2 dJ28_size_4 hlk

def wJ7_isEmpty (K : Nat → Nat → Nat) (post : Int32 → NM → Prop) (N : NM) (x0 : Nat) : Prop :=
  ∃ f4 f5 f6 f7, N x0 = some (eO 21 [va_rf f4, .int f5, va_rf f6, .int f7]) ∧ (wJ28_size K (fun r1 N2 => ((r1 = (0 : Int32)) → (post (1 : Int32) N2)) ∧ (¬ (r1 = (0 : Int32)) → (post (0 : Int32) N2))) N x0)
theorem tJ7_isEmpty {l : Launch} {G : gG} (hO : gOk G) {post : Int32 → NM → Prop} {N : NM} {x0 : Nat} {sz : Nat} (h : wJ7_isEmpty (gC G) post N x0) : Met l yJ7_isEmpty (ws_ yJ7_isEmpty cJ7_isEmpty 1 (some .boolean)) ⟨1, 0, 0, 20⟩ (va_Pc [.ref x0] (cPre G [] N sz)) (gQ vI post (fun u H => cBw G (cA [] N sz) (jW u).1 (jW u).2 H) (cA [] N sz)) 0 0 (cA [] N sz) := by
  refine c_ofW (lw := jW) (by decide) hO (Nat.le_of_ble_eq_true rfl) (fun p e s m below meth c ls A X hr hlk hin hw hl => ?_)
  have hl : lv_has ls 1 [(0, .ref x0)] := hl
  have hx := X.1.1
  have hb := X.1.2.1
  have hml := X.1.2.2.1
  have hown := X.1.2.2.2.1
  have hts := X.1.2.2.2.2
  obtain ⟨H, eH⟩ : ∃ z, z = s.heap := ⟨_, rfl⟩
  rw [← eH] at hw ⊢
  obtain ⟨locs, eLo⟩ : ∃ z : List Loc, z = [] := ⟨_, rfl⟩
  rw [← eLo] at hw ⊢
  unfold wJ7_isEmpty at h
  refine lv_aload_n (pc := 0) hx hb dJ7_isEmpty_0 rfl (lv_at hl 0 rfl) ?_
  obtain ⟨f4, f5, f6, f7, hN3, h⟩ := h
  refine c_callJ (pc := 1) (val := vI) X hw (va_runU (C := RJ28) (As := []) (rest := []) X.1 (tJ28_size X.2.2.1 (sz := H.size) h) (cu_mk (x := ⟨"java/util/AbstractCollection", "size", "()I"⟩) (owner := "java/util/AbstractCollection") hts (lw_meth q1745) rfl rfl rfl ⟨Nat.le_of_ble_eq_true rfl, Nat.le_of_ble_eq_true rfl⟩ (hts _ q149) ⟨by decide, by decide⟩ (by decide +kernel : (parseMethodDescriptor "()I").map (fun d => d.parameters.length) = some 0) (hts _ q1739) (hts _ q1741) (va_Decl.abs (va_Nw.of rfl (X.2.2.2.1.decl (args := #[]) X.2.2.1 q1740))) (hts _ q1743) (hts _ q1744)) ⟨cPre_blind, c_recv X hw hN3 rfl, fun U hU hW => ⟨rfl, X.preJ hw hU hW⟩⟩ rfl rfl hl.1 rfl (lv_room (Nat.le_of_ble_eq_true rfl)) dJ7_isEmpty_1 ⟨show 0 + 0 ≤ 0 by omega, show 0 + 0 ≤ 0 by omega⟩) (fun r1 N2 H locs h hw => ?_)
  refine W.eq (g2 := F0 m 4 ls (.int r1 :: [])) rfl ?_
  refine lv_if_ne (pc := 4) (tgt := 11) hx hb dJ7_isEmpty_4 rfl (fun c8 => ?_) (fun c8 => ?_)
  · have h := h.2 c8
    refine lv_iconst (pc := 11) (v := (0 : Int32)) hx hb dJ7_isEmpty_11 (by decide) ?_
    exact W.zret (pc := 12) hx hb hr rfl (fun t ht hW => c_ret (val := vI) (lw := jW) (u := N2) hw h ht) hw.2.2.2 dJ7_isEmpty_12 hlk
  · have h := h.1 c8
    refine lv_iconst (pc := 7) (v := (1 : Int32)) hx hb dJ7_isEmpty_7 (by decide) ?_
    refine lv_goto (pc := 8) (tgt := 12) hx hb dJ7_isEmpty_8 rfl ?_
    exact W.zret (pc := 12) hx hb hr rfl (fun t ht hW => c_ret (val := vI) (lw := jW) (u := N2) hw h ht) hw.2.2.2 dJ7_isEmpty_12 hlk

def wX15_compareTo_2 (K : Nat → Nat → Nat) (post : Int32 → NM → Prop) (N : NM) (x0 : Nat) (x1 : Nat) : Prop :=
  ∃ f2 f3, N x0 = some (eO 14 [.int f2, .int f3]) ∧ (∃ f5 f6, N x1 = some (eO 14 [.int f5, .int f6]) ∧ (((f3 = f6) → (post (f2 - f5) N)) ∧ (¬ (f3 = f6) → (post (f3 - f6) N))))
theorem tX15_compareTo_2 {l : Launch} {G : gG} (hO : gOk G) {post : Int32 → NM → Prop} {N : NM} {x0 : Nat} {x1 : Nat} {sz : Nat} (h : wX15_compareTo_2 (gC G) post N x0 x1) : Met l yX15_compareTo_2 (ws_ yX15_compareTo_2 cX15_compareTo_2 2 (some .int)) ⟨0, 0, 0, 0⟩ (va_Pc [.ref x0, .ref x1] (cPre G [] N sz)) (gQ vI post (fun u H => cBw G (cA [] N sz) (jW u).1 (jW u).2 H) (cA [] N sz)) 0 0 (cA [] N sz) := by
  refine c_ofW (lw := jW) (by decide) hO (Nat.le_of_ble_eq_true rfl) (fun p e s m below meth c ls A X hr hlk hin hw hl => ?_)
  have hl : lv_has ls 2 [(0, .ref x0), (1, .ref x1)] := hl
  have hx := X.1.1
  have hb := X.1.2.1
  have hml := X.1.2.2.1
  have hown := X.1.2.2.2.1
  have hts := X.1.2.2.2.2
  obtain ⟨H, eH⟩ : ∃ z, z = s.heap := ⟨_, rfl⟩
  rw [← eH] at hw ⊢
  obtain ⟨locs, eLo⟩ : ∃ z : List Loc, z = [] := ⟨_, rfl⟩
  rw [← eLo] at hw ⊢
  unfold wX15_compareTo_2 at h
  refine lv_aload_n (pc := 0) hx hb dX15_compareTo_2_0 rfl (lv_at hl 0 rfl) ?_
  obtain ⟨f2, f3, hN1, h⟩ := h
  refine c_get (pc := 1) X hw hN1 in_X15 rfl 1 (by decide) q1696 rfl rfl dX15_compareTo_2_1 ?_
  refine lv_aload_n (pc := 4) hx hb dX15_compareTo_2_4 rfl (lv_at hl 1 rfl) ?_
  obtain ⟨f5, f6, hN4, h⟩ := h
  refine c_get (pc := 5) X hw hN4 in_X15 rfl 1 (by decide) q1696 rfl rfl dX15_compareTo_2_5 ?_
  refine lv_icmp_eq (pc := 8) (tgt := 23) hx hb dX15_compareTo_2_8 rfl (fun c7 => ?_) (fun c7 => ?_)
  · have h := h.1 c7
    refine lv_aload_n (pc := 23) hx hb dX15_compareTo_2_23 rfl (lv_at hl 0 rfl) ?_
    refine c_get (pc := 24) X hw hN1 in_X15 rfl 0 (by decide) q1694 rfl rfl dX15_compareTo_2_24 ?_
    refine lv_aload_n (pc := 27) hx hb dX15_compareTo_2_27 rfl (lv_at hl 1 rfl) ?_
    refine c_get (pc := 28) X hw hN4 in_X15 rfl 0 (by decide) q1694 rfl rfl dX15_compareTo_2_28 ?_
    refine lv_isub (pc := 31) hx hb dX15_compareTo_2_31 ?_
    exact W.iret (pc := 32) hx hb hr (fun t ht hW => c_ret (val := vI) (lw := jW) (u := N) hw h ht) hw.2.2.2 dX15_compareTo_2_32 hlk
  · have h := h.2 c7
    refine lv_aload_n (pc := 11) hx hb dX15_compareTo_2_11 rfl (lv_at hl 0 rfl) ?_
    refine c_get (pc := 12) X hw hN1 in_X15 rfl 1 (by decide) q1696 rfl rfl dX15_compareTo_2_12 ?_
    refine lv_aload_n (pc := 15) hx hb dX15_compareTo_2_15 rfl (lv_at hl 1 rfl) ?_
    refine c_get (pc := 16) X hw hN4 in_X15 rfl 1 (by decide) q1696 rfl rfl dX15_compareTo_2_16 ?_
    refine lv_isub (pc := 19) hx hb dX15_compareTo_2_19 ?_
    refine lv_goto (pc := 20) (tgt := 32) hx hb dX15_compareTo_2_20 rfl ?_
    exact W.iret (pc := 32) hx hb hr (fun t ht hW => c_ret (val := vI) (lw := jW) (u := N) hw h ht) hw.2.2.2 dX15_compareTo_2_32 hlk

def wX15_compareTo (K : Nat → Nat → Nat) (post : Int32 → NM → Prop) (N : NM) (x0 : Nat) (x1 : Nat) : Prop :=
  ∃ f2 f3, N x1 = some (eO 14 [.int f2, .int f3]) ∧ (∃ f7 f8, N x0 = some (eO 14 [.int f7, .int f8]) ∧ (wX15_compareTo_2 K (fun r4 N5 => post r4 N5) N x0 x1))
theorem tX15_compareTo {l : Launch} {G : gG} (hO : gOk G) {post : Int32 → NM → Prop} {N : NM} {x0 : Nat} {x1 : Nat} {sz : Nat} (h : wX15_compareTo (gC G) post N x0 x1) : Met l yX15_compareTo (ws_ yX15_compareTo cX15_compareTo 2 (some .int)) ⟨1, 0, 0, 21⟩ (va_Pc [.ref x0, .ref x1] (cPre G [] N sz)) (gQ vI post (fun u H => cBw G (cA [] N sz) (jW u).1 (jW u).2 H) (cA [] N sz)) 0 0 (cA [] N sz) := by
  refine c_ofW (lw := jW) (by decide) hO (Nat.le_of_ble_eq_true rfl) (fun p e s m below meth c ls A X hr hlk hin hw hl => ?_)
  have hl : lv_has ls 2 [(0, .ref x0), (1, .ref x1)] := hl
  have hx := X.1.1
  have hb := X.1.2.1
  have hml := X.1.2.2.1
  have hown := X.1.2.2.2.1
  have hts := X.1.2.2.2.2
  obtain ⟨H, eH⟩ : ∃ z, z = s.heap := ⟨_, rfl⟩
  rw [← eH] at hw ⊢
  obtain ⟨locs, eLo⟩ : ∃ z : List Loc, z = [] := ⟨_, rfl⟩
  rw [← eLo] at hw ⊢
  unfold wX15_compareTo at h
  refine lv_aload_n (pc := 0) hx hb dX15_compareTo_0 rfl (lv_at hl 0 rfl) ?_
  refine lv_aload_n (pc := 1) hx hb dX15_compareTo_1 rfl (lv_at hl 1 rfl) ?_
  obtain ⟨f2, f3, hN1, h⟩ := h
  refine c_castS (pc := 2) X hw hN1 rfl q1085 dX15_compareTo_2 ?_
  obtain ⟨f7, f8, hN6, h⟩ := h
  refine c_callJ (pc := 5) (val := vI) X hw (va_runV (C := RX15) (As := [.ref x1]) (rest := []) X.1 (tX15_compareTo_2 X.2.2.1 (sz := H.size) h) (cwV 1 hts (lw_V q1086 q1087 q1088 q150 q1089) rfl rfl rfl ⟨rfl, by decide, by decide, (by decide +kernel : (parseMethodDescriptor yX15_compareTo_2.desc).map (fun d => d.parameters.length) = some 1)⟩ ⟨Nat.le_of_ble_eq_true rfl, Nat.le_of_ble_eq_true rfl⟩) ⟨cPre_blind, c_recv X hw hN6 rfl, fun U hU hW => ⟨rfl, X.preJ hw hU hW⟩⟩ rfl rfl hl.1 rfl (lv_room (Nat.le_of_ble_eq_true rfl)) dX15_compareTo_5 ⟨show 0 + 0 ≤ 0 by omega, show 0 + 0 ≤ 0 by omega⟩) (fun r4 N5 H locs h hw => ?_)
  refine W.eq (g2 := F0 m 8 ls (.int r4 :: [])) rfl ?_
  exact W.iret (pc := 8) hx hb hr (fun t ht hW => c_ret (val := vI) (lw := jW) (u := N5) hw h ht) hw.2.2.2 dX15_compareTo_8 hlk

def wJ15_copyOf_3_n_24 (K : Nat → Nat → Nat) (post : Nat → NM → Prop) (x0 : Nat) (x1 : Int32) (v0 : Nat) (mc ms : Nat) (N : NM) : Prop :=
  ∃ n12 f13, N x0 = some (eR 8 n12 f13) ∧ (wJ14_min (fun r14 => ∃ n16 f17, N v0 = some (eR 8 n16 f17) ∧ (¬ (0 : Int32) < 0 ∧ ¬ (0 : Int32) < 0 ∧ ¬ r14 < 0 ∧ (0 : Int32).toNatClampNeg + r14.toNatClampNeg ≤ n12 ∧ (0 : Int32).toNatClampNeg + r14.toNatClampNeg ≤ n16 ∧ (∀ i, i < r14.toNatClampNeg → ∀ y, f13 ((0 : Int32).toNatClampNeg + i) = some y → ∃ fs, N y = some (eO 14 fs)) ∧ (∀ N30, N30 = va_up N v0 (some (eR 8 n16 (va_cpy f13 f17 (0 : Int32).toNatClampNeg (0 : Int32).toNatClampNeg r14.toNatClampNeg))) → (post v0 N30)))) (nI n12) x1)
def wJ15_copyOf_3_n (K : Nat → Nat → Nat) (post : Nat → NM → Prop) (MC MS : Nat) (N : NM) (x0 : Nat) (x1 : Int32) (x2 : Nat) : Prop :=
  (((some x2) = (some (K 4 4))) → (¬ x1 < 0 ∧ x1.toNatClampNeg ≤ 65536 ∧ 1 ≤ MC ∧ x1.toNatClampNeg ≤ MS ∧ (∀ nq6, N nq6 = none → (∀ N8, N8 = va_up N nq6 (some (eR 8 x1.toNatClampNeg (fun _ => (none : Option Nat)))) → (wJ15_copyOf_3_n_24 K post x0 x1 nq6 (MC - 1) (MS - x1.toNatClampNeg) N8))))) ∧ (¬ ((some x2) = (some (K 4 4))) → (False))
theorem kJ15_copyOf_3_n_24 {p : Program} {l : Launch} {e : Env} {s : State} {m : MethodId} {args : Array Value} {below : List Frame} {meth : Method} {c : Code} {G : gG} {A : Nat → Prop} {MC MS : Nat} {post : Nat → NM → Prop} (X : cX G A RJ15 p s m args c cJ15_copyOf_3 4) (hr : meth.sig.returnType = (some (.array (.object "java/lang/Object")))) (hlk : meth.locks = false) : ∀ (x0 : Nat) (x1 : Int32) (v0 : Nat) (mc ms : Nat) (N : NM) (H : Heap) (locs : List Loc) (ls : Array Slot) (cells slots : Nat), wJ15_copyOf_3_n_24 (gC G) post x0 x1 v0 mc ms N → (cH G A s [] N H locs ∧ cells + mc ≤ MC ∧ slots + ms ≤ MS) → lv_has ls 4 [(0, .ref x0), (1, .int x1)] → W p l e ⟨1, MC, MS, 60⟩ s m args below meth c H locs cells slots (MQ below (gQ vR post (fun u H => cBw G A (jW u).1 (jW u).2 H) A) args s MC MS A) (F0 m 24 ls [.ref v0]) := by
  have hx := X.1.1
  have hb := X.1.2.1
  have hml := X.1.2.2.1
  have hown := X.1.2.2.2.1
  have hts := X.1.2.2.2.2
  intro x0 x1 v0 mc ms N H locs ls cells slots h hw0 hl
  obtain ⟨hw, hbud⟩ := hw0
  unfold wJ15_copyOf_3_n_24 at h
  refine lv_astore_n (pc := 24) (lv' := [(3, .ref v0), (0, .ref x0), (1, .int x1)]) hx hb dJ15_copyOf_3_24 rfl hl (by decide) rfl (fun ls hl => ?_)
  refine lv_aload_n (pc := 25) hx hb dJ15_copyOf_3_25 rfl (lv_at hl 1 rfl) ?_
  refine lv_iconst (pc := 26) (v := (0 : Int32)) hx hb dJ15_copyOf_3_26 (by decide) ?_
  refine lv_aload_n (pc := 27) hx hb dJ15_copyOf_3_27 rfl (lv_at hl 0 rfl) ?_
  refine lv_iconst (pc := 28) (v := (0 : Int32)) hx hb dJ15_copyOf_3_28 (by decide) ?_
  refine lv_aload_n (pc := 29) hx hb dJ15_copyOf_3_29 rfl (lv_at hl 1 rfl) ?_
  obtain ⟨n12, f13, hN11, h⟩ := h
  refine c_alen (pc := 30) X hw hN11 rfl dJ15_copyOf_3_30 ?_
  refine lv_iload_n (pc := 31) hx hb dJ15_copyOf_3_31 rfl (lv_at hl 2 rfl) ?_
  refine s_call (pc := 32) (val := vI) (As := [.int (nI n12), .int x1]) (rest := [.int (0 : Int32), .ref v0, .int (0 : Int32), .ref x0]) X.1 (tJ14_min h) (lw_S q545 q546 q121 q547) ⟨by decide, by decide, (by decide +kernel : (parseMethodDescriptor yJ14_min.desc).map (fun d => d.parameters.length) = some 2)⟩ ⟨Nat.le_of_ble_eq_true rfl, Nat.le_of_ble_eq_true rfl⟩ hl.1 (Nat.le_of_ble_eq_true rfl) ⟨show cells ≤ MC by omega, show slots ≤ MS by omega⟩ dJ15_copyOf_3_32 rfl (fun r14 h => ?_)
  refine W.eq (g2 := F0 m 35 ls (.int r14 :: [.int (0 : Int32), .ref v0, .int (0 : Int32), .ref x0])) rfl ?_
  obtain ⟨n16, f17, hN15, h⟩ := h
  obtain ⟨hm24, hm25, hm26, hm27, hm28, hm29, h⟩ := h
  refine c_copyM (pc := 35) (rest := []) X hw hl.1 q548 q374 q373 q112 8 hN11 hN15 rfl hm24 hm25 hm26 hm27 hm28 (fun i hi y hy => by obtain ⟨fs, hfs⟩ := hm29 i hi y hy; exact c_anyY X hw hfs rfl q2582) (Nat.le_of_ble_eq_true rfl) (Nat.le_of_ble_eq_true rfl) dJ15_copyOf_3_35 (fun H locs hw => ?_)
  obtain ⟨N30, e31⟩ : ∃ z, z = va_up N v0 (some (eR 8 n16 (va_cpy f13 f17 (0 : Int32).toNatClampNeg (0 : Int32).toNatClampNeg r14.toNatClampNeg))) := ⟨_, rfl⟩
  have hw : cH G A s [] N30 H locs := by rw [e31]; exact hw
  have h := h N30 e31
  have hN32 : N30 v0 = some (eR 8 n16 (va_cpy f13 f17 (0 : Int32).toNatClampNeg (0 : Int32).toNatClampNeg r14.toNatClampNeg)) := by rw [e31]; exact up_s
  refine lv_aload_n (pc := 38) hx hb dJ15_copyOf_3_38 rfl (lv_at hl 0 rfl) ?_
  refine W.widen (k := MC) (n := MS) (by omega) (by omega) ?_
  exact W.aret (pc := 39) (v := .ref v0) hx hb hr (Or.inr ⟨_, rfl⟩) (Or.inr ⟨_, rfl⟩) (fun t ht hW => c_ret (val := vR) (lw := jW) (u := N30) hw h ht) hw.2.2.2 dJ15_copyOf_3_39 hlk
theorem tJ15_copyOf_3_n {l : Launch} {G : gG} (hO : gOk G) {post : Nat → NM → Prop} {MC MS : Nat} {N : NM} {x0 : Nat} {x1 : Int32} {x2 : Nat} {sz : Nat} (h : wJ15_copyOf_3_n (gC G) post MC MS N x0 x1 x2) : Met l yJ15_copyOf_3 (ws_ yJ15_copyOf_3 cJ15_copyOf_3 4 (some (.array (.object "java/lang/Object")))) ⟨1, MC, MS, 60⟩ (va_Pc [.ref x0, .int x1, .ref x2] (cPre G [] N sz)) (gQ vR post (fun u H => cBw G (cA [] N sz) (jW u).1 (jW u).2 H) (cA [] N sz)) MC MS (cA [] N sz) := by
  refine c_ofW (lw := jW) (by decide) hO (Nat.le_of_ble_eq_true rfl) (fun p e s m below meth c ls A X hr hlk hin hw hl => ?_)
  have hl : lv_has ls 4 [(0, .ref x0), (1, .int x1), (2, .ref x2)] := hl
  have hx := X.1.1
  have hb := X.1.2.1
  have hml := X.1.2.2.1
  have hown := X.1.2.2.2.1
  have hts := X.1.2.2.2.2
  obtain ⟨H, eH⟩ : ∃ z, z = s.heap := ⟨_, rfl⟩
  rw [← eH] at hw ⊢
  obtain ⟨locs, eLo⟩ : ∃ z : List Loc, z = [] := ⟨_, rfl⟩
  rw [← eLo] at hw ⊢
  have hbud : 0 + MC ≤ MC ∧ 0 + MS ≤ MS := by omega
  unfold wJ15_copyOf_3_n at h
  refine lv_aload_n (pc := 0) hx hb dJ15_copyOf_3_0 rfl (lv_at hl 2 rfl) ?_
  refine c_ldcM (pc := 1) X q829 dJ15_copyOf_3_1 ?_
  refine lv_acmp_ne (pc := 3) (tgt := 13) (rx := (some x2)) (ry := (some (gC G 4 4))) hx hb dJ15_copyOf_3_3 rfl (fun c1 => ?_) (fun c1 => ?_)
  · have h := h.2 c1
    exact False.elim h
  · have h := h.1 c1
    refine lv_iload_n (pc := 6) hx hb dJ15_copyOf_3_6 rfl (lv_at hl 1 rfl) ?_
    obtain ⟨hm2, hm3, hm4, hm5, h⟩ := h
    refine c_newq (pc := 7) X hw q831 q830 8 rfl hm2 rfl (Nat.le_trans (Nat.mul_le_mul_right _ hm3) (Nat.le_of_ble_eq_true rfl)) (show 0 + 1 ≤ MC by omega) (show 0 + x1.toNatClampNeg ≤ MS by omega) dJ15_copyOf_3_7 (fun nq6 H hq7 _ hw => ?_)
    have h := h nq6 hq7
    obtain ⟨N8, e9⟩ : ∃ z, z = va_up N nq6 (some (eR 8 x1.toNatClampNeg (fun _ => (none : Option Nat)))) := ⟨_, rfl⟩
    have hw : cH G A s [] N8 H locs := by rw [e9]; exact hw
    have h := h N8 e9
    have hN10 : N8 nq6 = some (eR 8 x1.toNatClampNeg (fun _ => (none : Option Nat))) := by rw [e9]; exact up_s
    refine lv_goto (pc := 10) (tgt := 24) hx hb dJ15_copyOf_3_10 rfl ?_
    exact kJ15_copyOf_3_n_24 X hr hlk  _ _ _ _ _ _ _ _ _ _ _ h ⟨hw, by omega⟩ (lv_sub hl [0, 1] rfl)

def wJ15_copyOf_2_n (K : Nat → Nat → Nat) (post : Nat → NM → Prop) (MC MS : Nat) (N : NM) (x0 : Nat) (x1 : Int32) : Prop :=
  ∃ n2 f3, N x0 = some (eR 8 n2 f3) ∧ (∃ mc6 ms7, mc6 ≤ MC ∧ ms7 ≤ MS ∧ wJ15_copyOf_3_n K (fun r4 N5 => post r4 N5) mc6 ms7 N x0 x1 (K 4 4))
theorem tJ15_copyOf_2_n {l : Launch} {G : gG} (hO : gOk G) {post : Nat → NM → Prop} {MC MS : Nat} {N : NM} {x0 : Nat} {x1 : Int32} {sz : Nat} (h : wJ15_copyOf_2_n (gC G) post MC MS N x0 x1) : Met l yJ15_copyOf_2 (ws_ yJ15_copyOf_2 cJ15_copyOf_2 2 (some (.array (.object "java/lang/Object")))) ⟨2, MC, MS, 83⟩ (va_Pc [.ref x0, .int x1] (cPre G [] N sz)) (gQ vR post (fun u H => cBw G (cA [] N sz) (jW u).1 (jW u).2 H) (cA [] N sz)) MC MS (cA [] N sz) := by
  refine c_ofW (lw := jW) (by decide) hO (Nat.le_of_ble_eq_true rfl) (fun p e s m below meth c ls A X hr hlk hin hw hl => ?_)
  have hl : lv_has ls 2 [(0, .ref x0), (1, .int x1)] := hl
  have hx := X.1.1
  have hb := X.1.2.1
  have hml := X.1.2.2.1
  have hown := X.1.2.2.2.1
  have hts := X.1.2.2.2.2
  obtain ⟨H, eH⟩ : ∃ z, z = s.heap := ⟨_, rfl⟩
  rw [← eH] at hw ⊢
  obtain ⟨locs, eLo⟩ : ∃ z : List Loc, z = [] := ⟨_, rfl⟩
  rw [← eLo] at hw ⊢
  have hbud : 0 + MC ≤ MC ∧ 0 + MS ≤ MS := by omega
  unfold wJ15_copyOf_2_n at h
  refine lv_aload_n (pc := 0) hx hb dJ15_copyOf_2_0 rfl (lv_at hl 0 rfl) ?_
  refine lv_iload_n (pc := 1) hx hb dJ15_copyOf_2_1 rfl (lv_at hl 1 rfl) ?_
  refine lv_aload_n (pc := 2) hx hb dJ15_copyOf_2_2 rfl (lv_at hl 0 rfl) ?_
  obtain ⟨n2, f3, hN1, h⟩ := h
  refine c_getC (pc := 3) (rest := [.int x1, .ref x0]) X hw hl.1 q791 q2596 q2595 q792 q825 hN1 (Nat.le_of_ble_eq_true rfl) (Nat.le_of_ble_eq_true rfl) dJ15_copyOf_2_3 ?_
  obtain ⟨mc6, ms7, hm8, hm9, h⟩ := h
  refine c_callJ (pc := 6) (val := vR) X hw (va_runS (g := F0 m 6 ls _) (As := [.ref x0, .int x1, .ref (gC G 4 4)]) (rest := []) X.1 (tJ15_copyOf_3_n X.2.2.1 (sz := H.size) h) (va_cwS 3 hts (lw_S q826 q827 q122 q828) rfl rfl rfl ⟨by decide, by decide, (by decide +kernel : (parseMethodDescriptor yJ15_copyOf_3.desc).map (fun d => d.parameters.length) = some 3)⟩ ⟨Nat.le_of_ble_eq_true rfl, Nat.le_of_ble_eq_true rfl⟩) ⟨cPre_blind, fun U hU hW => ⟨rfl, X.preJ hw hU hW⟩⟩ rfl rfl hl.1 rfl (lv_room (Nat.le_of_ble_eq_true rfl)) dJ15_copyOf_2_6 ⟨show 0 + mc6 ≤ MC by omega, show 0 + ms7 ≤ MS by omega⟩) (fun r4 N5 H locs h hw => ?_)
  refine W.eq (g2 := F0 m 9 ls (.ref r4 :: [])) rfl ?_
  refine W.widen (k := MC) (n := MS) (by omega) (by omega) ?_
  exact W.aret (pc := 9) (v := .ref r4) hx hb hr (Or.inr ⟨_, rfl⟩) (Or.inr ⟨_, rfl⟩) (fun t ht hW => c_ret (val := vR) (lw := jW) (u := N5) hw h ht) hw.2.2.2 dJ15_copyOf_2_9 hlk

def wJ28_grow_n_25 (K : Nat → Nat → Nat) (post : Unit → NM → Prop) (x0 : Nat) (v0 : Int32) (v1 : Int32) (v2 : Int32) (mc ms : Nat) (N : NM) : Prop :=
  wJ13_newLength (fun r12 => ∃ f14 f15 f16 f17, N x0 = some (eO 21 [va_rf f14, .int f15, va_rf f16, .int f17]) ∧ (∃ a18, f14 = some a18 ∧ (∃ mc22 ms23, mc22 ≤ mc ∧ ms23 ≤ ms ∧ wJ15_copyOf_2_n K (fun r20 N21 => ∃ f27 f28 f29 f30, N21 x0 = some (eO 21 [va_rf f27, .int f28, va_rf f29, .int f30]) ∧ (∀ N31, N31 = va_up N21 x0 (some (eO 21 [va_rf (some r20), .int f28, va_rf f29, .int f30])) → (post () N31))) mc22 ms23 N a18 r12))) v2 v1 v0
def wJ28_grow_n (K : Nat → Nat → Nat) (post : Unit → NM → Prop) (MC MS : Nat) (N : NM) (x0 : Nat) (x1 : Int32) : Prop :=
  ∃ f2 f3 f4 f5, N x0 = some (eO 21 [va_rf f2, .int f3, va_rf f4, .int f5]) ∧ (∃ a6, f2 = some a6 ∧ (∃ n9 f10, N a6 = some (eR 8 n9 f10) ∧ ((((64 : Int32) ≤ (nI n9)) → (wJ28_grow_n_25 K post x0 ((nI n9) >>> ((1 : Int32) &&& 31)) (x1 - (nI n9)) (nI n9) MC MS N)) ∧ (¬ ((64 : Int32) ≤ (nI n9)) → (wJ28_grow_n_25 K post x0 ((nI n9) + (2 : Int32)) (x1 - (nI n9)) (nI n9) MC MS N)))))
theorem kJ28_grow_n_25 {p : Program} {l : Launch} {e : Env} {s : State} {m : MethodId} {args : Array Value} {below : List Frame} {meth : Method} {c : Code} {G : gG} {A : Nat → Prop} {MC MS : Nat} {post : Unit → NM → Prop} (X : cX G A RJ28 p s m args c cJ28_grow 4) (hr : meth.sig.returnType = none) (hlk : meth.locks = false) : ∀ (x0 : Nat) (v0 : Int32) (v1 : Int32) (v2 : Int32) (mc ms : Nat) (N : NM) (H : Heap) (locs : List Loc) (ls : Array Slot) (cells slots : Nat), wJ28_grow_n_25 (gC G) post x0 v0 v1 v2 mc ms N → (cH G A s [] N H locs ∧ cells + mc ≤ MC ∧ slots + ms ≤ MS) → lv_has ls 4 [(0, .ref x0)] → W p l e ⟨3, MC, MS, 104⟩ s m args below meth c H locs cells slots (MQ below (gQ vV post (fun u H => cBw G A (jW u).1 (jW u).2 H) A) args s MC MS A) (F0 m 25 ls [.int v0, .int v1, .int v2]) := by
  have hx := X.1.1
  have hb := X.1.2.1
  have hml := X.1.2.2.1
  have hown := X.1.2.2.2.1
  have hts := X.1.2.2.2.2
  intro x0 v0 v1 v2 mc ms N H locs ls cells slots h hw0 hl
  obtain ⟨hw, hbud⟩ := hw0
  unfold wJ28_grow_n_25 at h
  refine s_call (pc := 25) (val := vI) (As := [.int v2, .int v1, .int v0]) (rest := []) X.1 (tJ13_newLength h) (lw_S q1716 q525 q120 q526) ⟨by decide, by decide, (by decide +kernel : (parseMethodDescriptor yJ13_newLength.desc).map (fun d => d.parameters.length) = some 3)⟩ ⟨Nat.le_of_ble_eq_true rfl, Nat.le_of_ble_eq_true rfl⟩ hl.1 (Nat.le_of_ble_eq_true rfl) ⟨show cells ≤ MC by omega, show slots ≤ MS by omega⟩ dJ28_grow_25 rfl (fun r12 h => ?_)
  refine W.eq (g2 := F0 m 28 ls (.int r12 :: [])) rfl ?_
  refine lv_istore_n (pc := 28) (lv' := [(3, .int r12), (0, .ref x0)]) hx hb dJ28_grow_28 rfl hl (by decide) rfl (fun ls hl => ?_)
  refine lv_aload_n (pc := 29) hx hb dJ28_grow_29 rfl (lv_at hl 1 rfl) ?_
  refine lv_aload_n (pc := 30) hx hb dJ28_grow_30 rfl (lv_at hl 1 rfl) ?_
  obtain ⟨f14, f15, f16, f17, hN13, h⟩ := h
  refine c_get (pc := 31) X hw hN13 in_J28 rfl 0 (by decide) q1672 rfl rfl dJ28_grow_31 ?_
  refine lv_iload_n (pc := 34) hx hb dJ28_grow_34 rfl (lv_at hl 0 rfl) ?_
  obtain ⟨a18, hr19, h⟩ := h
  refine W.eq (g2 := F0 m 35 ls [.int r12, .ref a18, .ref x0]) (by rw [hr19]; rfl) ?_
  obtain ⟨mc22, ms23, hm24, hm25, h⟩ := h
  refine c_callJ (pc := 35) (val := vR) X hw (va_runS (g := F0 m 35 ls _) (As := [.ref a18, .int r12]) (rest := [.ref x0]) X.1 (tJ15_copyOf_2_n X.2.2.1 (sz := H.size) h) (va_cwS 2 hts (lw_S q1717 q789 q122 q790) rfl rfl rfl ⟨by decide, by decide, (by decide +kernel : (parseMethodDescriptor yJ15_copyOf_2.desc).map (fun d => d.parameters.length) = some 2)⟩ ⟨Nat.le_of_ble_eq_true rfl, Nat.le_of_ble_eq_true rfl⟩) ⟨cPre_blind, fun U hU hW => ⟨rfl, X.preJ hw hU hW⟩⟩ rfl rfl hl.1 rfl (lv_room (Nat.le_of_ble_eq_true rfl)) dJ28_grow_35 ⟨show cells + mc22 ≤ MC by omega, show slots + ms23 ≤ MS by omega⟩) (fun r20 N21 H locs h hw => ?_)
  refine W.eq (g2 := F0 m 38 ls (.ref r20 :: [.ref x0])) rfl ?_
  obtain ⟨f27, f28, f29, f30, hN26, h⟩ := h
  refine c_put (pc := 38) (v := va_rf (some r20)) X hw hN26 in_J28 tyJ28 tyJ28_ok nmJ28 rfl 0 (by decide) q1672 rfl rfl rfl (rf_na (some r20) _) (rf_fa (some r20) _) (Nat.le_of_ble_eq_true rfl) dJ28_grow_38 (fun H locs hw => ?_)
  obtain ⟨N31, e32⟩ : ∃ z, z = va_up N21 x0 (some (eO 21 [va_rf (some r20), .int f28, va_rf f29, .int f30])) := ⟨_, rfl⟩
  have hw : cH G A s [] N31 H locs := by rw [e32]; exact hw
  have h := h N31 e32
  have hN33 : N31 x0 = some (eO 21 [va_rf (some r20), .int f28, va_rf f29, .int f30]) := by rw [e32]; exact up_s
  refine W.widen (k := MC) (n := MS) (by omega) (by omega) ?_
  exact W.vret (pc := 41) hx hb hr (fun t ht hW => c_ret (val := vV) (lw := jW) (u := N31) (v := ()) hw h ht) hw.2.2.2 dJ28_grow_41 hlk
theorem tJ28_grow_n {l : Launch} {G : gG} (hO : gOk G) {post : Unit → NM → Prop} {MC MS : Nat} {N : NM} {x0 : Nat} {x1 : Int32} {sz : Nat} (h : wJ28_grow_n (gC G) post MC MS N x0 x1) : Met l yJ28_grow (ws_ yJ28_grow cJ28_grow 4 none) ⟨3, MC, MS, 104⟩ (va_Pc [.ref x0, .int x1] (cPre G [] N sz)) (gQ vV post (fun u H => cBw G (cA [] N sz) (jW u).1 (jW u).2 H) (cA [] N sz)) MC MS (cA [] N sz) := by
  refine c_ofW (lw := jW) (by decide) hO (Nat.le_of_ble_eq_true rfl) (fun p e s m below meth c ls A X hr hlk hin hw hl => ?_)
  have hl : lv_has ls 4 [(0, .ref x0), (1, .int x1)] := hl
  have hx := X.1.1
  have hb := X.1.2.1
  have hml := X.1.2.2.1
  have hown := X.1.2.2.2.1
  have hts := X.1.2.2.2.2
  obtain ⟨H, eH⟩ : ∃ z, z = s.heap := ⟨_, rfl⟩
  rw [← eH] at hw ⊢
  obtain ⟨locs, eLo⟩ : ∃ z : List Loc, z = [] := ⟨_, rfl⟩
  rw [← eLo] at hw ⊢
  have hbud : 0 + MC ≤ MC ∧ 0 + MS ≤ MS := by omega
  unfold wJ28_grow_n at h
  refine lv_aload_n (pc := 0) hx hb dJ28_grow_0 rfl (lv_at hl 0 rfl) ?_
  obtain ⟨f2, f3, f4, f5, hN1, h⟩ := h
  refine c_get (pc := 1) X hw hN1 in_J28 rfl 0 (by decide) q1672 rfl rfl dJ28_grow_1 ?_
  obtain ⟨a6, hr7, h⟩ := h
  refine W.eq (g2 := F0 m 4 ls [.ref a6]) (by rw [hr7]; rfl) ?_
  obtain ⟨n9, f10, hN8, h⟩ := h
  refine c_alen (pc := 4) X hw hN8 rfl dJ28_grow_4 ?_
  refine lv_istore_n (pc := 5) (lv' := [(2, .int (nI n9)), (0, .ref x0), (1, .int x1)]) hx hb dJ28_grow_5 rfl hl (by decide) rfl (fun ls hl => ?_)
  refine lv_iload_n (pc := 6) hx hb dJ28_grow_6 rfl (lv_at hl 0 rfl) ?_
  refine lv_iload_n (pc := 7) hx hb dJ28_grow_7 rfl (lv_at hl 2 rfl) ?_
  refine lv_iload_n (pc := 8) hx hb dJ28_grow_8 rfl (lv_at hl 0 rfl) ?_
  refine lv_isub (pc := 9) hx hb dJ28_grow_9 ?_
  refine lv_iload_n (pc := 10) hx hb dJ28_grow_10 rfl (lv_at hl 0 rfl) ?_
  refine lv_bipush (pc := 11) (v := (64 : Int32)) hx hb dJ28_grow_11 (by decide) ?_
  refine lv_icmp_ge (pc := 13) (tgt := 22) hx hb dJ28_grow_13 rfl (fun c11 => ?_) (fun c11 => ?_)
  · have h := h.1 c11
    refine lv_iload_n (pc := 22) hx hb dJ28_grow_22 rfl (lv_at hl 0 rfl) ?_
    refine lv_iconst (pc := 23) (v := (1 : Int32)) hx hb dJ28_grow_23 (by decide) ?_
    refine lv_ishr (pc := 24) hx hb dJ28_grow_24 ?_
    exact kJ28_grow_n_25 X hr hlk  _ _ _ _ _ _ _ _ _ _ _ _ h ⟨hw, by omega⟩ (lv_sub hl [1] rfl)
  · have h := h.2 c11
    refine lv_iload_n (pc := 16) hx hb dJ28_grow_16 rfl (lv_at hl 0 rfl) ?_
    refine lv_iconst (pc := 17) (v := (2 : Int32)) hx hb dJ28_grow_17 (by decide) ?_
    refine lv_iadd (pc := 18) hx hb dJ28_grow_18 ?_
    refine lv_goto (pc := 19) (tgt := 25) hx hb dJ28_grow_19 rfl ?_
    exact kJ28_grow_n_25 X hr hlk  _ _ _ _ _ _ _ _ _ _ _ _ h ⟨hw, by omega⟩ (lv_sub hl [1] rfl)

def wJ28_siftUpComparable_n_47 (K : Nat → Nat → Nat) (post : Unit → NM → Prop) (x0 : Int32) (x2 : Nat) (x3 : Nat) (N : NM) : Prop :=
  ∃ n6 f7, N x2 = some (eR 8 n6 f7) ∧ (vp_in x0 n6 ∧ (∃ f9 f10, N x3 = some (eO 14 [.int f9, .int f10]) ∧ (∀ N11, N11 = va_up N x2 (some (eR 8 n6 (va_up f7 x0.toNatClampNeg (some x3)))) → (post () N11))))
def wJ28_siftUpComparable_n_5 (K : Nat → Nat → Nat) (post : Unit → NM → Prop) : Nat → Int32 → Nat → Nat → NM → Prop
  | 0, _, _, _, _ => False
  | n + 1, x0, x2, x3, N => ((x0 ≤ (0 : Int32)) → (wJ28_siftUpComparable_n_47 K post x0 x2 x3 N)) ∧ (¬ (x0 ≤ (0 : Int32)) → (∃ n16 f17, N x2 = some (eR 8 n16 f17) ∧ (vp_in (((x0 - (1 : Int32)).toUInt32 >>> ((1 : Int32).toUInt32 &&& Int32.toUInt32 31)).toInt32) n16 ∧ (∃ a18, (f17 (((x0 - (1 : Int32)).toUInt32 >>> ((1 : Int32).toUInt32 &&& Int32.toUInt32 31)).toInt32).toNatClampNeg) = some a18 ∧ (∃ f23 f24, N x3 = some (eO 14 [.int f23, .int f24]) ∧ (wX15_compareTo K (fun r20 N21 => ((r20 < (0 : Int32)) → (∃ n27 f28, N21 x2 = some (eR 8 n27 f28) ∧ (vp_in x0 n27 ∧ (∃ f30 f31, N21 a18 = some (eO 14 [.int f30, .int f31]) ∧ (∀ N32, N32 = va_up N21 x2 (some (eR 8 n27 (va_up f28 x0.toNatClampNeg (some a18)))) → (wJ28_siftUpComparable_n_5 K post n (((x0 - (1 : Int32)).toUInt32 >>> ((1 : Int32).toUInt32 &&& Int32.toUInt32 31)).toInt32) x2 x3 N32)))))) ∧ (¬ (r20 < (0 : Int32)) → (wJ28_siftUpComparable_n_47 K post x0 x2 x3 N21))) N x3 a18))))))
def wJ28_siftUpComparable_n (K : Nat → Nat → Nat) (post : Unit → NM → Prop) (N : NM) (x0 : Int32) (x1 : Nat) (x2 : Nat) : Prop :=
  ∃ f2 f3, N x1 = some (eO 14 [.int f2, .int f3]) ∧ ((∃ k, wJ28_siftUpComparable_n_5 K post k x0 x2 x1 N))
theorem kJ28_siftUpComparable_n_47 {p : Program} {l : Launch} {e : Env} {s : State} {m : MethodId} {args : Array Value} {below : List Frame} {meth : Method} {c : Code} {G : gG} {A : Nat → Prop} {post : Unit → NM → Prop} (X : cX G A RJ28 p s m args c cJ28_siftUpComparable 6) (hr : meth.sig.returnType = none) (hlk : meth.locks = false) : ∀ (x0 : Int32) (x2 : Nat) (x3 : Nat) (N : NM) (H : Heap) (locs : List Loc) (ls : Array Slot), wJ28_siftUpComparable_n_47 (gC G) post x0 x2 x3 N → cH G A s [] N H locs → lv_has ls 6 [(0, .int x0), (2, .ref x2), (3, .ref x3)] → W p l e ⟨2, 0, 0, 42⟩ s m args below meth c H locs 0 0 (MQ below (gQ vV post (fun u H => cBw G A (jW u).1 (jW u).2 H) A) args s 0 0 A) (F0 m 47 ls []) := by
  have hx := X.1.1
  have hb := X.1.2.1
  have hml := X.1.2.2.1
  have hown := X.1.2.2.2.1
  have hts := X.1.2.2.2.2
  intro x0 x2 x3 N H locs ls h hw hl
  unfold wJ28_siftUpComparable_n_47 at h
  refine lv_aload_n (pc := 47) hx hb dJ28_siftUpComparable_47 rfl (lv_at hl 1 rfl) ?_
  refine lv_iload_n (pc := 48) hx hb dJ28_siftUpComparable_48 rfl (lv_at hl 0 rfl) ?_
  refine lv_aload_n (pc := 49) hx hb dJ28_siftUpComparable_49 rfl (lv_at hl 2 rfl) ?_
  obtain ⟨n6, f7, hN5, h⟩ := h
  obtain ⟨hi, h⟩ := h
  obtain ⟨f9, f10, hN8, h⟩ := h
  refine c_aast (pc := 50) X hw 8 hN5 rfl (c_anyY X hw hN8 rfl q2582) hi dJ28_siftUpComparable_50 (fun H locs hw => ?_)
  obtain ⟨N11, e12⟩ : ∃ z, z = va_up N x2 (some (eR 8 n6 (va_up f7 x0.toNatClampNeg (some x3)))) := ⟨_, rfl⟩
  have hw : cH G A s [] N11 H locs := by rw [e12]; exact hw
  have h := h N11 e12
  have hN13 : N11 x2 = some (eR 8 n6 (va_up f7 x0.toNatClampNeg (some x3))) := by rw [e12]; exact up_s
  have hN14 := up_k (x := some (eR 8 n6 (va_up f7 x0.toNatClampNeg (some x3)))) hN5 hN8 (show (17 : Nat) ≠ 28 by decide)
  rw [← e12] at hN14
  exact W.vret (pc := 51) hx hb hr (fun t ht hW => c_ret (val := vV) (lw := jW) (u := N11) (v := ()) hw h ht) hw.2.2.2 dJ28_siftUpComparable_51 hlk
theorem kJ28_siftUpComparable_n_5 {p : Program} {l : Launch} {e : Env} {s : State} {m : MethodId} {args : Array Value} {below : List Frame} {meth : Method} {c : Code} {G : gG} {A : Nat → Prop} {post : Unit → NM → Prop} (X : cX G A RJ28 p s m args c cJ28_siftUpComparable 6) (hr : meth.sig.returnType = none) (hlk : meth.locks = false) : ∀ (n : Nat) (x0 : Int32) (x2 : Nat) (x3 : Nat) (N : NM) (H : Heap) (locs : List Loc) (ls : Array Slot), wJ28_siftUpComparable_n_5 (gC G) post n x0 x2 x3 N → cH G A s [] N H locs → lv_has ls 6 [(0, .int x0), (2, .ref x2), (3, .ref x3)] → W p l e ⟨2, 0, 0, 42⟩ s m args below meth c H locs 0 0 (MQ below (gQ vV post (fun u H => cBw G A (jW u).1 (jW u).2 H) A) args s 0 0 A) (F0 m 5 ls []) := by
  have hx := X.1.1
  have hb := X.1.2.1
  have hml := X.1.2.2.1
  have hown := X.1.2.2.2.1
  have hts := X.1.2.2.2.2
  intro n
  induction n with
  | zero =>
    intro x0 x2 x3 N H locs ls h
    exact False.elim h
  | succ n ih =>
    intro x0 x2 x3 N H locs ls h hw hl
    unfold wJ28_siftUpComparable_n_5 at h
    refine lv_iload_n (pc := 5) hx hb dJ28_siftUpComparable_5 rfl (lv_at hl 0 rfl) ?_
    refine lv_if_le (pc := 6) (tgt := 47) hx hb dJ28_siftUpComparable_6 rfl (fun c4 => ?_) (fun c4 => ?_)
    · have h := h.1 c4
      exact kJ28_siftUpComparable_n_47 X hr hlk  _ _ _ _ _ _ _ h hw (lv_sub hl [0, 1, 2] rfl)
    · have h := h.2 c4
      refine lv_iload_n (pc := 9) hx hb dJ28_siftUpComparable_9 rfl (lv_at hl 0 rfl) ?_
      refine lv_iconst (pc := 10) (v := (1 : Int32)) hx hb dJ28_siftUpComparable_10 (by decide) ?_
      refine lv_isub (pc := 11) hx hb dJ28_siftUpComparable_11 ?_
      refine lv_iconst (pc := 12) (v := (1 : Int32)) hx hb dJ28_siftUpComparable_12 (by decide) ?_
      refine lv_iushr (pc := 13) hx hb dJ28_siftUpComparable_13 rfl ?_
      refine lv_istore (pc := 14) (lv' := [(4, .int (((x0 - (1 : Int32)).toUInt32 >>> ((1 : Int32).toUInt32 &&& Int32.toUInt32 31)).toInt32)), (0, .int x0), (2, .ref x2), (3, .ref x3)]) hx hb dJ28_siftUpComparable_14 hl (by decide) rfl (fun ls hl => ?_)
      refine lv_aload_n (pc := 16) hx hb dJ28_siftUpComparable_16 rfl (lv_at hl 2 rfl) ?_
      refine lv_iload (pc := 17) hx hb dJ28_siftUpComparable_17 (lv_at hl 0 rfl) ?_
      obtain ⟨n16, f17, hN15, h⟩ := h
      obtain ⟨hi, h⟩ := h
      refine c_aald (pc := 19) X hw 8 hN15 rfl hi dJ28_siftUpComparable_19 ?_
      refine lq_astore (pc := 20) (lv' := [(5, va_rf (f17 (((x0 - (1 : Int32)).toUInt32 >>> ((1 : Int32).toUInt32 &&& Int32.toUInt32 31)).toInt32).toNatClampNeg)), (4, .int (((x0 - (1 : Int32)).toUInt32 >>> ((1 : Int32).toUInt32 &&& Int32.toUInt32 31)).toInt32)), (0, .int x0), (2, .ref x2), (3, .ref x3)]) hx hb dJ28_siftUpComparable_20 hl (by decide) rfl (fun ls hl => ?_)
      refine lv_aload_n (pc := 22) hx hb dJ28_siftUpComparable_22 rfl (lv_at hl 4 rfl) ?_
      refine lq_aload (pc := 23) hx hb dJ28_siftUpComparable_23 (lv_at hl 0 rfl) ?_
      obtain ⟨a18, hr19, h⟩ := h
      refine W.eq (g2 := F0 m 25 ls [.ref a18, .ref x3]) (by rw [hr19]; rfl) ?_
      obtain ⟨f23, f24, hN22, h⟩ := h
      refine c_callF (pc := 25) (val := vI) X hw (va_runF (X.2.1.1 14 _ rfl).2 (As := [.ref a18]) (rest := []) X.1 (tX15_compareTo X.2.2.1 (sz := H.size) h) (va_cwF 1 hts (lw_app (lw_l4 q1732 q1080 q1082 q150) (lw_meth q1084)) rfl rfl rfl (X.2.2.2.1.Fw ⟨by decide, by decide⟩ X.2.2.1 q1040 q1039 q1083 q1081 q1079) ⟨by decide, by decide, (by decide +kernel : (parseMethodDescriptor yX15_compareTo.desc).map (fun d => d.parameters.length) = some 1)⟩ ⟨Nat.le_of_ble_eq_true rfl, Nat.le_of_ble_eq_true rfl⟩) ⟨cPre_blind, c_recv X hw hN22 rfl, fun U hU hW => ⟨rfl, X.preJ hw hU hW⟩⟩ rfl rfl hl.1 rfl (lv_room (Nat.le_of_ble_eq_true rfl)) dJ28_siftUpComparable_25 ⟨show 0 + 0 ≤ 0 by omega, show 0 + 0 ≤ 0 by omega⟩) (fun r20 N21 H locs h hw => ?_)
      refine W.eq (g2 := F0 m 30 ls (.int r20 :: [])) rfl ?_
      refine lv_if_lt (pc := 30) (tgt := 36) hx hb dJ28_siftUpComparable_30 rfl (fun c25 => ?_) (fun c25 => ?_)
      · have h := h.1 c25
        refine lv_aload_n (pc := 36) hx hb dJ28_siftUpComparable_36 rfl (lv_at hl 3 rfl) ?_
        refine lv_iload_n (pc := 37) hx hb dJ28_siftUpComparable_37 rfl (lv_at hl 2 rfl) ?_
        refine lq_aload (pc := 38) hx hb dJ28_siftUpComparable_38 (lv_at hl 0 rfl) ?_
        obtain ⟨n27, f28, hN26, h⟩ := h
        obtain ⟨hi, h⟩ := h
        refine W.eq (g2 := F0 m 40 ls [.ref a18, .int x0, .ref x2]) (by rw [hr19]; rfl) ?_
        obtain ⟨f30, f31, hN29, h⟩ := h
        refine c_aast (pc := 40) X hw 8 hN26 rfl (c_anyY X hw hN29 rfl q2582) hi dJ28_siftUpComparable_40 (fun H locs hw => ?_)
        obtain ⟨N32, e33⟩ : ∃ z, z = va_up N21 x2 (some (eR 8 n27 (va_up f28 x0.toNatClampNeg (some a18)))) := ⟨_, rfl⟩
        have hw : cH G A s [] N32 H locs := by rw [e33]; exact hw
        have h := h N32 e33
        have hN34 : N32 x2 = some (eR 8 n27 (va_up f28 x0.toNatClampNeg (some a18))) := by rw [e33]; exact up_s
        have hN35 := up_k (x := some (eR 8 n27 (va_up f28 x0.toNatClampNeg (some a18)))) hN26 hN29 (show (17 : Nat) ≠ 28 by decide)
        rw [← e33] at hN35
        refine lv_iload (pc := 41) hx hb dJ28_siftUpComparable_41 (lv_at hl 1 rfl) ?_
        refine lv_istore_n (pc := 43) (lv' := [(0, .int (((x0 - (1 : Int32)).toUInt32 >>> ((1 : Int32).toUInt32 &&& Int32.toUInt32 31)).toInt32)), (5, va_rf (f17 (((x0 - (1 : Int32)).toUInt32 >>> ((1 : Int32).toUInt32 &&& Int32.toUInt32 31)).toInt32).toNatClampNeg)), (4, .int (((x0 - (1 : Int32)).toUInt32 >>> ((1 : Int32).toUInt32 &&& Int32.toUInt32 31)).toInt32)), (2, .ref x2), (3, .ref x3)]) hx hb dJ28_siftUpComparable_43 rfl hl (by decide) rfl (fun ls hl => ?_)
        refine lv_goto (pc := 44) (tgt := 5) hx hb dJ28_siftUpComparable_44 rfl ?_
        exact ih _ _ _ _ _ _ _ h hw (lv_sub hl [0, 3, 4] rfl)
      · have h := h.2 c25
        refine lv_goto (pc := 33) (tgt := 47) hx hb dJ28_siftUpComparable_33 rfl ?_
        exact kJ28_siftUpComparable_n_47 X hr hlk  _ _ _ _ _ _ _ h hw (lv_sub hl [2, 3, 4] rfl)
theorem tJ28_siftUpComparable_n {l : Launch} {G : gG} (hO : gOk G) {post : Unit → NM → Prop} {N : NM} {x0 : Int32} {x1 : Nat} {x2 : Nat} {sz : Nat} (h : wJ28_siftUpComparable_n (gC G) post N x0 x1 x2) : Met l yJ28_siftUpComparable (ws_ yJ28_siftUpComparable cJ28_siftUpComparable 6 none) ⟨2, 0, 0, 42⟩ (va_Pc [.int x0, .ref x1, .ref x2] (cPre G [] N sz)) (gQ vV post (fun u H => cBw G (cA [] N sz) (jW u).1 (jW u).2 H) (cA [] N sz)) 0 0 (cA [] N sz) := by
  refine c_ofW (lw := jW) (by decide) hO (Nat.le_of_ble_eq_true rfl) (fun p e s m below meth c ls A X hr hlk hin hw hl => ?_)
  have hl : lv_has ls 6 [(0, .int x0), (1, .ref x1), (2, .ref x2)] := hl
  have hx := X.1.1
  have hb := X.1.2.1
  have hml := X.1.2.2.1
  have hown := X.1.2.2.2.1
  have hts := X.1.2.2.2.2
  obtain ⟨H, eH⟩ : ∃ z, z = s.heap := ⟨_, rfl⟩
  rw [← eH] at hw ⊢
  obtain ⟨locs, eLo⟩ : ∃ z : List Loc, z = [] := ⟨_, rfl⟩
  rw [← eLo] at hw ⊢
  unfold wJ28_siftUpComparable_n at h
  refine lv_aload_n (pc := 0) hx hb dJ28_siftUpComparable_0 rfl (lv_at hl 1 rfl) ?_
  obtain ⟨f2, f3, hN1, h⟩ := h
  refine c_castY (pc := 1) X hw hN1 rfl q1079 q1730 dJ28_siftUpComparable_1 ?_
  refine lv_astore_n (pc := 4) (lv' := [(3, .ref x1), (0, .int x0), (1, .ref x1), (2, .ref x2)]) hx hb dJ28_siftUpComparable_4 rfl hl (by decide) rfl (fun ls hl => ?_)
  obtain ⟨k, h⟩ := h
  exact kJ28_siftUpComparable_n_5 X hr hlk  k _ _ _ _ _ _ _ h hw (lv_sub hl [1, 3, 0] rfl)

def wJ28_siftDownComparable_n_94 (K : Nat → Nat → Nat) (post : Unit → NM → Prop) (x0 : Int32) (x2 : Nat) (x4 : Nat) (N : NM) : Prop :=
  ∃ n6 f7, N x2 = some (eR 8 n6 f7) ∧ (vp_in x0 n6 ∧ (∃ f9 f10, N x4 = some (eO 14 [.int f9, .int f10]) ∧ (∀ N11, N11 = va_up N x2 (some (eR 8 n6 (va_up f7 x0.toNatClampNeg (some x4)))) → (post () N11))))
def wJ28_siftDownComparable_n_68 (K : Nat → Nat → Nat) (K11 : Int32 → Nat → Int32 → Nat → Int32 → NM → Prop) (post : Unit → NM → Prop) (x0 : Int32) (x2 : Nat) (x3 : Int32) (x4 : Nat) (x5 : Int32) (x6 : Int32) (x7 : Option Nat) (N : NM) : Prop :=
  ∃ a19, x7 = some a19 ∧ (∃ f24 f25, N x4 = some (eO 14 [.int f24, .int f25]) ∧ (wX15_compareTo K (fun r21 N22 => (((0 : Int32) < r21) → (∃ n28 f29, N22 x2 = some (eR 8 n28 f29) ∧ (vp_in x0 n28 ∧ (∃ f31 f32, N22 a19 = some (eO 14 [.int f31, .int f32]) ∧ (∀ N33, N33 = va_up N22 x2 (some (eR 8 n28 (va_up f29 x0.toNatClampNeg (some a19)))) → (K11 x6 x2 x3 x4 x5 N33)))))) ∧ (¬ ((0 : Int32) < r21) → (wJ28_siftDownComparable_n_94 K post x0 x2 x4 N22))) N x4 a19))
def wJ28_siftDownComparable_n_11 (K : Nat → Nat → Nat) (post : Unit → NM → Prop) : Nat → Int32 → Nat → Int32 → Nat → Int32 → NM → Prop
  | 0, _, _, _, _, _, _ => False
  | n + 1, x0, x2, x3, x4, x5, N => ((x5 ≤ x0) → (wJ28_siftDownComparable_n_94 K post x0 x2 x4 N)) ∧ (¬ (x5 ≤ x0) → (∃ n16 f17, N x2 = some (eR 8 n16 f17) ∧ (vp_in ((x0 <<< ((1 : Int32) &&& 31)) + (1 : Int32)) n16 ∧ (((x3 ≤ (((x0 <<< ((1 : Int32) &&& 31)) + (1 : Int32)) + (1 : Int32))) → (wJ28_siftDownComparable_n_68 K (fun x0 x2 x3 x4 x5 N => wJ28_siftDownComparable_n_11 K post n x0 x2 x3 x4 x5 N) post x0 x2 x3 x4 x5 ((x0 <<< ((1 : Int32) &&& 31)) + (1 : Int32)) (f17 ((x0 <<< ((1 : Int32) &&& 31)) + (1 : Int32)).toNatClampNeg) N)) ∧ (¬ (x3 ≤ (((x0 <<< ((1 : Int32) &&& 31)) + (1 : Int32)) + (1 : Int32))) → (∃ a37, (f17 ((x0 <<< ((1 : Int32) &&& 31)) + (1 : Int32)).toNatClampNeg) = some a37 ∧ (∃ f40 f41, N a37 = some (eO 14 [.int f40, .int f41]) ∧ (vp_in (((x0 <<< ((1 : Int32) &&& 31)) + (1 : Int32)) + (1 : Int32)) n16 ∧ (∃ a42, (f17 (((x0 <<< ((1 : Int32) &&& 31)) + (1 : Int32)) + (1 : Int32)).toNatClampNeg) = some a42 ∧ (wX15_compareTo K (fun r44 N45 => ((r44 ≤ (0 : Int32)) → (wJ28_siftDownComparable_n_68 K (fun x0 x2 x3 x4 x5 N => wJ28_siftDownComparable_n_11 K post n x0 x2 x3 x4 x5 N) post x0 x2 x3 x4 x5 ((x0 <<< ((1 : Int32) &&& 31)) + (1 : Int32)) (f17 ((x0 <<< ((1 : Int32) &&& 31)) + (1 : Int32)).toNatClampNeg) N45)) ∧ (¬ (r44 ≤ (0 : Int32)) → (∃ n48 f49, N45 x2 = some (eR 8 n48 f49) ∧ (vp_in (((x0 <<< ((1 : Int32) &&& 31)) + (1 : Int32)) + (1 : Int32)) n48 ∧ (wJ28_siftDownComparable_n_68 K (fun x0 x2 x3 x4 x5 N => wJ28_siftDownComparable_n_11 K post n x0 x2 x3 x4 x5 N) post x0 x2 x3 x4 x5 (((x0 <<< ((1 : Int32) &&& 31)) + (1 : Int32)) + (1 : Int32)) (f49 (((x0 <<< ((1 : Int32) &&& 31)) + (1 : Int32)) + (1 : Int32)).toNatClampNeg) N45))))) N a37 a42))))))))))
def wJ28_siftDownComparable_n (K : Nat → Nat → Nat) (post : Unit → NM → Prop) (N : NM) (x0 : Int32) (x1 : Nat) (x2 : Nat) (x3 : Int32) : Prop :=
  ∃ f2 f3, N x1 = some (eO 14 [.int f2, .int f3]) ∧ ((∃ k, wJ28_siftDownComparable_n_11 K post k x0 x2 x3 x1 ((x3.toUInt32 >>> ((1 : Int32).toUInt32 &&& Int32.toUInt32 31)).toInt32) N))
theorem kJ28_siftDownComparable_n_94 {p : Program} {l : Launch} {e : Env} {s : State} {m : MethodId} {args : Array Value} {below : List Frame} {meth : Method} {c : Code} {G : gG} {A : Nat → Prop} {post : Unit → NM → Prop} (X : cX G A RJ28 p s m args c cJ28_siftDownComparable 9) (hr : meth.sig.returnType = none) (hlk : meth.locks = false) : ∀ (x0 : Int32) (x2 : Nat) (x4 : Nat) (N : NM) (H : Heap) (locs : List Loc) (ls : Array Slot), wJ28_siftDownComparable_n_94 (gC G) post x0 x2 x4 N → cH G A s [] N H locs → lv_has ls 9 [(0, .int x0), (2, .ref x2), (4, .ref x4)] → W p l e ⟨2, 0, 0, 42⟩ s m args below meth c H locs 0 0 (MQ below (gQ vV post (fun u H => cBw G A (jW u).1 (jW u).2 H) A) args s 0 0 A) (F0 m 94 ls []) := by
  have hx := X.1.1
  have hb := X.1.2.1
  have hml := X.1.2.2.1
  have hown := X.1.2.2.2.1
  have hts := X.1.2.2.2.2
  intro x0 x2 x4 N H locs ls h hw hl
  unfold wJ28_siftDownComparable_n_94 at h
  refine lv_aload_n (pc := 94) hx hb dJ28_siftDownComparable_94 rfl (lv_at hl 1 rfl) ?_
  refine lv_iload_n (pc := 95) hx hb dJ28_siftDownComparable_95 rfl (lv_at hl 0 rfl) ?_
  refine lv_aload (pc := 96) hx hb dJ28_siftDownComparable_96 (lv_at hl 2 rfl) ?_
  obtain ⟨n6, f7, hN5, h⟩ := h
  obtain ⟨hi, h⟩ := h
  obtain ⟨f9, f10, hN8, h⟩ := h
  refine c_aast (pc := 98) X hw 8 hN5 rfl (c_anyY X hw hN8 rfl q2582) hi dJ28_siftDownComparable_98 (fun H locs hw => ?_)
  obtain ⟨N11, e12⟩ : ∃ z, z = va_up N x2 (some (eR 8 n6 (va_up f7 x0.toNatClampNeg (some x4)))) := ⟨_, rfl⟩
  have hw : cH G A s [] N11 H locs := by rw [e12]; exact hw
  have h := h N11 e12
  have hN13 : N11 x2 = some (eR 8 n6 (va_up f7 x0.toNatClampNeg (some x4))) := by rw [e12]; exact up_s
  have hN14 := up_k (x := some (eR 8 n6 (va_up f7 x0.toNatClampNeg (some x4)))) hN5 hN8 (show (17 : Nat) ≠ 28 by decide)
  rw [← e12] at hN14
  exact W.vret (pc := 99) hx hb hr (fun t ht hW => c_ret (val := vV) (lw := jW) (u := N11) (v := ()) hw h ht) hw.2.2.2 dJ28_siftDownComparable_99 hlk
theorem kJ28_siftDownComparable_n_68 {p : Program} {l : Launch} {e : Env} {s : State} {m : MethodId} {args : Array Value} {below : List Frame} {meth : Method} {c : Code} {G : gG} {A : Nat → Prop} {K11 : Int32 → Nat → Int32 → Nat → Int32 → NM → Prop} {post : Unit → NM → Prop} (X : cX G A RJ28 p s m args c cJ28_siftDownComparable 9) (hr : meth.sig.returnType = none) (hlk : meth.locks = false) (hK11 : ∀ (x0 : Int32) (x2 : Nat) (x3 : Int32) (x4 : Nat) (x5 : Int32) (N : NM) (H : Heap) (locs : List Loc) (ls : Array Slot), K11 x0 x2 x3 x4 x5 N → cH G A s [] N H locs → lv_has ls 9 [(0, .int x0), (2, .ref x2), (3, .int x3), (4, .ref x4), (5, .int x5)] → W p l e ⟨2, 0, 0, 42⟩ s m args below meth c H locs 0 0 (MQ below (gQ vV post (fun u H => cBw G A (jW u).1 (jW u).2 H) A) args s 0 0 A) (F0 m 11 ls [])) : ∀ (x0 : Int32) (x2 : Nat) (x3 : Int32) (x4 : Nat) (x5 : Int32) (x6 : Int32) (x7 : Option Nat) (N : NM) (H : Heap) (locs : List Loc) (ls : Array Slot), wJ28_siftDownComparable_n_68 (gC G) K11 post x0 x2 x3 x4 x5 x6 x7 N → cH G A s [] N H locs → lv_has ls 9 [(0, .int x0), (2, .ref x2), (3, .int x3), (4, .ref x4), (5, .int x5), (6, .int x6), (7, va_rf x7)] → W p l e ⟨2, 0, 0, 42⟩ s m args below meth c H locs 0 0 (MQ below (gQ vV post (fun u H => cBw G A (jW u).1 (jW u).2 H) A) args s 0 0 A) (F0 m 68 ls []) := by
  have hx := X.1.1
  have hb := X.1.2.1
  have hml := X.1.2.2.1
  have hown := X.1.2.2.2.1
  have hts := X.1.2.2.2.2
  intro x0 x2 x3 x4 x5 x6 x7 N H locs ls h hw hl
  unfold wJ28_siftDownComparable_n_68 at h
  refine lv_aload (pc := 68) hx hb dJ28_siftDownComparable_68 (lv_at hl 3 rfl) ?_
  refine lq_aload (pc := 70) hx hb dJ28_siftDownComparable_70 (lv_at hl 6 rfl) ?_
  obtain ⟨a19, hr20, h⟩ := h
  refine W.eq (g2 := F0 m 72 ls [.ref a19, .ref x4]) (by rw [hr20]; rfl) ?_
  obtain ⟨f24, f25, hN23, h⟩ := h
  refine c_callF (pc := 72) (val := vI) X hw (va_runF (X.2.1.1 14 _ rfl).2 (As := [.ref a19]) (rest := []) X.1 (tX15_compareTo X.2.2.1 (sz := H.size) h) (va_cwF 1 hts (lw_app (lw_l4 q1732 q1080 q1082 q150) (lw_meth q1084)) rfl rfl rfl (X.2.2.2.1.Fw ⟨by decide, by decide⟩ X.2.2.1 q1040 q1039 q1083 q1081 q1079) ⟨by decide, by decide, (by decide +kernel : (parseMethodDescriptor yX15_compareTo.desc).map (fun d => d.parameters.length) = some 1)⟩ ⟨Nat.le_of_ble_eq_true rfl, Nat.le_of_ble_eq_true rfl⟩) ⟨cPre_blind, c_recv X hw hN23 rfl, fun U hU hW => ⟨rfl, X.preJ hw hU hW⟩⟩ rfl rfl hl.1 rfl (lv_room (Nat.le_of_ble_eq_true rfl)) dJ28_siftDownComparable_72 ⟨show 0 + 0 ≤ 0 by omega, show 0 + 0 ≤ 0 by omega⟩) (fun r21 N22 H locs h hw => ?_)
  refine W.eq (g2 := F0 m 77 ls (.int r21 :: [])) rfl ?_
  refine lv_if_gt (pc := 77) (tgt := 83) hx hb dJ28_siftDownComparable_77 rfl (fun c26 => ?_) (fun c26 => ?_)
  · have h := h.1 c26
    refine lv_aload_n (pc := 83) hx hb dJ28_siftDownComparable_83 rfl (lv_at hl 1 rfl) ?_
    refine lv_iload_n (pc := 84) hx hb dJ28_siftDownComparable_84 rfl (lv_at hl 0 rfl) ?_
    refine lq_aload (pc := 85) hx hb dJ28_siftDownComparable_85 (lv_at hl 6 rfl) ?_
    obtain ⟨n28, f29, hN27, h⟩ := h
    obtain ⟨hi, h⟩ := h
    refine W.eq (g2 := F0 m 87 ls [.ref a19, .int x0, .ref x2]) (by rw [hr20]; rfl) ?_
    obtain ⟨f31, f32, hN30, h⟩ := h
    refine c_aast (pc := 87) X hw 8 hN27 rfl (c_anyY X hw hN30 rfl q2582) hi dJ28_siftDownComparable_87 (fun H locs hw => ?_)
    obtain ⟨N33, e34⟩ : ∃ z, z = va_up N22 x2 (some (eR 8 n28 (va_up f29 x0.toNatClampNeg (some a19)))) := ⟨_, rfl⟩
    have hw : cH G A s [] N33 H locs := by rw [e34]; exact hw
    have h := h N33 e34
    have hN35 : N33 x2 = some (eR 8 n28 (va_up f29 x0.toNatClampNeg (some a19))) := by rw [e34]; exact up_s
    have hN36 := up_k (x := some (eR 8 n28 (va_up f29 x0.toNatClampNeg (some a19)))) hN27 hN30 (show (17 : Nat) ≠ 28 by decide)
    rw [← e34] at hN36
    refine lv_iload (pc := 88) hx hb dJ28_siftDownComparable_88 (lv_at hl 5 rfl) ?_
    refine lv_istore_n (pc := 90) (lv' := [(0, .int x6), (2, .ref x2), (3, .int x3), (4, .ref x4), (5, .int x5), (6, .int x6), (7, va_rf x7)]) hx hb dJ28_siftDownComparable_90 rfl hl (by decide) rfl (fun ls hl => ?_)
    refine lv_goto (pc := 91) (tgt := 11) hx hb dJ28_siftDownComparable_91 rfl ?_
    exact hK11 _ _ _ _ _ _ _ _ _ h hw (lv_sub hl [0, 1, 2, 3, 4] rfl)
  · have h := h.2 c26
    refine lv_goto (pc := 80) (tgt := 94) hx hb dJ28_siftDownComparable_80 rfl ?_
    exact kJ28_siftDownComparable_n_94 X hr hlk  _ _ _ _ _ _ _ h hw (lv_sub hl [0, 1, 3] rfl)
theorem kJ28_siftDownComparable_n_11 {p : Program} {l : Launch} {e : Env} {s : State} {m : MethodId} {args : Array Value} {below : List Frame} {meth : Method} {c : Code} {G : gG} {A : Nat → Prop} {post : Unit → NM → Prop} (X : cX G A RJ28 p s m args c cJ28_siftDownComparable 9) (hr : meth.sig.returnType = none) (hlk : meth.locks = false) : ∀ (n : Nat) (x0 : Int32) (x2 : Nat) (x3 : Int32) (x4 : Nat) (x5 : Int32) (N : NM) (H : Heap) (locs : List Loc) (ls : Array Slot), wJ28_siftDownComparable_n_11 (gC G) post n x0 x2 x3 x4 x5 N → cH G A s [] N H locs → lv_has ls 9 [(0, .int x0), (2, .ref x2), (3, .int x3), (4, .ref x4), (5, .int x5)] → W p l e ⟨2, 0, 0, 42⟩ s m args below meth c H locs 0 0 (MQ below (gQ vV post (fun u H => cBw G A (jW u).1 (jW u).2 H) A) args s 0 0 A) (F0 m 11 ls []) := by
  have hx := X.1.1
  have hb := X.1.2.1
  have hml := X.1.2.2.1
  have hown := X.1.2.2.2.1
  have hts := X.1.2.2.2.2
  intro n
  induction n with
  | zero =>
    intro x0 x2 x3 x4 x5 N H locs ls h
    exact False.elim h
  | succ n ih =>
    intro x0 x2 x3 x4 x5 N H locs ls h hw hl
    unfold wJ28_siftDownComparable_n_11 at h
    refine lv_iload_n (pc := 11) hx hb dJ28_siftDownComparable_11 rfl (lv_at hl 0 rfl) ?_
    refine lv_iload (pc := 12) hx hb dJ28_siftDownComparable_12 (lv_at hl 4 rfl) ?_
    refine lv_icmp_ge (pc := 14) (tgt := 94) hx hb dJ28_siftDownComparable_14 rfl (fun c4 => ?_) (fun c4 => ?_)
    · have h := h.1 c4
      exact kJ28_siftDownComparable_n_94 X hr hlk  _ _ _ _ _ _ _ h hw (lv_sub hl [0, 1, 3] rfl)
    · have h := h.2 c4
      refine lv_iload_n (pc := 17) hx hb dJ28_siftDownComparable_17 rfl (lv_at hl 0 rfl) ?_
      refine lv_iconst (pc := 18) (v := (1 : Int32)) hx hb dJ28_siftDownComparable_18 (by decide) ?_
      refine lv_ishl (pc := 19) hx hb dJ28_siftDownComparable_19 ?_
      refine lv_iconst (pc := 20) (v := (1 : Int32)) hx hb dJ28_siftDownComparable_20 (by decide) ?_
      refine lv_iadd (pc := 21) hx hb dJ28_siftDownComparable_21 ?_
      refine lv_istore (pc := 22) (lv' := [(6, .int ((x0 <<< ((1 : Int32) &&& 31)) + (1 : Int32))), (0, .int x0), (2, .ref x2), (3, .int x3), (4, .ref x4), (5, .int x5)]) hx hb dJ28_siftDownComparable_22 hl (by decide) rfl (fun ls hl => ?_)
      refine lv_aload_n (pc := 24) hx hb dJ28_siftDownComparable_24 rfl (lv_at hl 2 rfl) ?_
      refine lv_iload (pc := 25) hx hb dJ28_siftDownComparable_25 (lv_at hl 0 rfl) ?_
      obtain ⟨n16, f17, hN15, h⟩ := h
      obtain ⟨hi, h⟩ := h
      refine c_aald (pc := 27) X hw 8 hN15 rfl hi dJ28_siftDownComparable_27 ?_
      refine lq_astore (pc := 28) (lv' := [(7, va_rf (f17 ((x0 <<< ((1 : Int32) &&& 31)) + (1 : Int32)).toNatClampNeg)), (6, .int ((x0 <<< ((1 : Int32) &&& 31)) + (1 : Int32))), (0, .int x0), (2, .ref x2), (3, .int x3), (4, .ref x4), (5, .int x5)]) hx hb dJ28_siftDownComparable_28 hl (by decide) rfl (fun ls hl => ?_)
      refine lv_iload (pc := 30) hx hb dJ28_siftDownComparable_30 (lv_at hl 1 rfl) ?_
      refine lv_iconst (pc := 32) (v := (1 : Int32)) hx hb dJ28_siftDownComparable_32 (by decide) ?_
      refine lv_iadd (pc := 33) hx hb dJ28_siftDownComparable_33 ?_
      refine lv_istore (pc := 34) (i := 8) (lv' := [(8, .int (((x0 <<< ((1 : Int32) &&& 31)) + (1 : Int32)) + (1 : Int32))), (7, va_rf (f17 ((x0 <<< ((1 : Int32) &&& 31)) + (1 : Int32)).toNatClampNeg)), (6, .int ((x0 <<< ((1 : Int32) &&& 31)) + (1 : Int32))), (0, .int x0), (2, .ref x2), (3, .int x3), (4, .ref x4), (5, .int x5)]) hx hb dJ28_siftDownComparable_34 hl (by decide) (by simp [rf_c]) (fun ls hl => ?_)
      refine lv_iload (pc := 36) hx hb dJ28_siftDownComparable_36 (lv_at hl 0 rfl) ?_
      refine lv_iload_n (pc := 38) hx hb dJ28_siftDownComparable_38 rfl (lv_at hl 5 rfl) ?_
      refine lv_icmp_ge (pc := 39) (tgt := 68) hx hb dJ28_siftDownComparable_39 rfl (fun c18 => ?_) (fun c18 => ?_)
      · have h := h.1 c18
        exact kJ28_siftDownComparable_n_68 X hr hlk ih _ _ _ _ _ _ _ _ _ _ _ h hw (lv_sub hl [3, 4, 5, 6, 7, 2, 1] rfl)
      · have h := h.2 c18
        refine lq_aload (pc := 42) hx hb dJ28_siftDownComparable_42 (lv_at hl 1 rfl) ?_
        obtain ⟨a37, hr38, h⟩ := h
        refine W.eq (g2 := F0 m 44 ls [.ref a37]) (by rw [hr38]; rfl) ?_
        obtain ⟨f40, f41, hN39, h⟩ := h
        refine c_castY (pc := 44) X hw hN39 rfl q1079 q1730 dJ28_siftDownComparable_44 ?_
        refine lv_aload_n (pc := 47) hx hb dJ28_siftDownComparable_47 rfl (lv_at hl 4 rfl) ?_
        refine lv_iload (pc := 48) hx hb dJ28_siftDownComparable_48 (lv_at hl 0 rfl) ?_
        obtain ⟨hi, h⟩ := h
        refine c_aald (pc := 50) X hw 8 hN15 rfl hi dJ28_siftDownComparable_50 ?_
        obtain ⟨a42, hr43, h⟩ := h
        refine W.eq (g2 := F0 m 51 ls [.ref a42, .ref a37]) (by rw [hr43]; rfl) ?_
        refine c_callF (pc := 51) (val := vI) X hw (va_runF (X.2.1.1 14 _ rfl).2 (As := [.ref a42]) (rest := []) X.1 (tX15_compareTo X.2.2.1 (sz := H.size) h) (va_cwF 1 hts (lw_app (lw_l4 q1732 q1080 q1082 q150) (lw_meth q1084)) rfl rfl rfl (X.2.2.2.1.Fw ⟨by decide, by decide⟩ X.2.2.1 q1040 q1039 q1083 q1081 q1079) ⟨by decide, by decide, (by decide +kernel : (parseMethodDescriptor yX15_compareTo.desc).map (fun d => d.parameters.length) = some 1)⟩ ⟨Nat.le_of_ble_eq_true rfl, Nat.le_of_ble_eq_true rfl⟩) ⟨cPre_blind, c_recv X hw hN39 rfl, fun U hU hW => ⟨rfl, X.preJ hw hU hW⟩⟩ rfl rfl hl.1 rfl (lv_room (Nat.le_of_ble_eq_true rfl)) dJ28_siftDownComparable_51 ⟨show 0 + 0 ≤ 0 by omega, show 0 + 0 ≤ 0 by omega⟩) (fun r44 N45 H locs h hw => ?_)
        refine W.eq (g2 := F0 m 56 ls (.int r44 :: [])) rfl ?_
        refine lv_if_le (pc := 56) (tgt := 68) hx hb dJ28_siftDownComparable_56 rfl (fun c46 => ?_) (fun c46 => ?_)
        · have h := h.1 c46
          exact kJ28_siftDownComparable_n_68 X hr hlk ih _ _ _ _ _ _ _ _ _ _ _ h hw (lv_sub hl [3, 4, 5, 6, 7, 2, 1] rfl)
        · have h := h.2 c46
          refine lv_aload_n (pc := 59) hx hb dJ28_siftDownComparable_59 rfl (lv_at hl 4 rfl) ?_
          refine lv_iload (pc := 60) hx hb dJ28_siftDownComparable_60 (lv_at hl 0 rfl) ?_
          refine lv_dup (pc := 62) hx hb dJ28_siftDownComparable_62 rfl ?_
          refine lv_istore (pc := 63) (lv' := [(6, .int (((x0 <<< ((1 : Int32) &&& 31)) + (1 : Int32)) + (1 : Int32))), (8, .int (((x0 <<< ((1 : Int32) &&& 31)) + (1 : Int32)) + (1 : Int32))), (7, va_rf (f17 ((x0 <<< ((1 : Int32) &&& 31)) + (1 : Int32)).toNatClampNeg)), (0, .int x0), (2, .ref x2), (3, .int x3), (4, .ref x4), (5, .int x5)]) hx hb dJ28_siftDownComparable_63 hl (by decide) rfl (fun ls hl => ?_)
          obtain ⟨n48, f49, hN47, h⟩ := h
          obtain ⟨hi, h⟩ := h
          refine c_aald (pc := 65) X hw 8 hN47 rfl hi dJ28_siftDownComparable_65 ?_
          refine lq_astore (pc := 66) (lv' := [(7, va_rf (f49 (((x0 <<< ((1 : Int32) &&& 31)) + (1 : Int32)) + (1 : Int32)).toNatClampNeg)), (6, .int (((x0 <<< ((1 : Int32) &&& 31)) + (1 : Int32)) + (1 : Int32))), (8, .int (((x0 <<< ((1 : Int32) &&& 31)) + (1 : Int32)) + (1 : Int32))), (0, .int x0), (2, .ref x2), (3, .int x3), (4, .ref x4), (5, .int x5)]) hx hb dJ28_siftDownComparable_66 hl (by decide) rfl (fun ls hl => ?_)
          exact kJ28_siftDownComparable_n_68 X hr hlk ih _ _ _ _ _ _ _ _ _ _ _ h hw (lv_sub hl [3, 4, 5, 6, 7, 1, 0] rfl)
theorem tJ28_siftDownComparable_n {l : Launch} {G : gG} (hO : gOk G) {post : Unit → NM → Prop} {N : NM} {x0 : Int32} {x1 : Nat} {x2 : Nat} {x3 : Int32} {sz : Nat} (h : wJ28_siftDownComparable_n (gC G) post N x0 x1 x2 x3) : Met l yJ28_siftDownComparable (ws_ yJ28_siftDownComparable cJ28_siftDownComparable 9 none) ⟨2, 0, 0, 42⟩ (va_Pc [.int x0, .ref x1, .ref x2, .int x3] (cPre G [] N sz)) (gQ vV post (fun u H => cBw G (cA [] N sz) (jW u).1 (jW u).2 H) (cA [] N sz)) 0 0 (cA [] N sz) := by
  refine c_ofW (lw := jW) (by decide) hO (Nat.le_of_ble_eq_true rfl) (fun p e s m below meth c ls A X hr hlk hin hw hl => ?_)
  have hl : lv_has ls 9 [(0, .int x0), (1, .ref x1), (2, .ref x2), (3, .int x3)] := hl
  have hx := X.1.1
  have hb := X.1.2.1
  have hml := X.1.2.2.1
  have hown := X.1.2.2.2.1
  have hts := X.1.2.2.2.2
  obtain ⟨H, eH⟩ : ∃ z, z = s.heap := ⟨_, rfl⟩
  rw [← eH] at hw ⊢
  obtain ⟨locs, eLo⟩ : ∃ z : List Loc, z = [] := ⟨_, rfl⟩
  rw [← eLo] at hw ⊢
  unfold wJ28_siftDownComparable_n at h
  refine lv_aload_n (pc := 0) hx hb dJ28_siftDownComparable_0 rfl (lv_at hl 1 rfl) ?_
  obtain ⟨f2, f3, hN1, h⟩ := h
  refine c_castY (pc := 1) X hw hN1 rfl q1079 q1730 dJ28_siftDownComparable_1 ?_
  refine lv_astore (pc := 4) (lv' := [(4, .ref x1), (0, .int x0), (1, .ref x1), (2, .ref x2), (3, .int x3)]) hx hb dJ28_siftDownComparable_4 hl (by decide) rfl (fun ls hl => ?_)
  refine lv_iload_n (pc := 6) hx hb dJ28_siftDownComparable_6 rfl (lv_at hl 4 rfl) ?_
  refine lv_iconst (pc := 7) (v := (1 : Int32)) hx hb dJ28_siftDownComparable_7 (by decide) ?_
  refine lv_iushr (pc := 8) hx hb dJ28_siftDownComparable_8 rfl ?_
  refine lv_istore (pc := 9) (lv' := [(5, .int ((x3.toUInt32 >>> ((1 : Int32).toUInt32 &&& Int32.toUInt32 31)).toInt32)), (4, .ref x1), (0, .int x0), (1, .ref x1), (2, .ref x2), (3, .int x3)]) hx hb dJ28_siftDownComparable_9 hl (by decide) rfl (fun ls hl => ?_)
  obtain ⟨k, h⟩ := h
  exact kJ28_siftDownComparable_n_11 X hr hlk  k _ _ _ _ _ _ _ _ _ h hw (lv_sub hl [2, 4, 5, 1, 0] rfl)

def wJ28_siftUp_n (K : Nat → Nat → Nat) (post : Unit → NM → Prop) (N : NM) (x0 : Nat) (x1 : Int32) (x2 : Nat) : Prop :=
  ∃ f2 f3 f4 f5, N x0 = some (eO 21 [va_rf f2, .int f3, va_rf f4, .int f5]) ∧ ((f4 = none → (∃ a9, f2 = some a9 ∧ (wJ28_siftUpComparable_n K (fun _ N12 => post () N12) N x1 x2 a9))) ∧ (∀ a7, f4 = some a7 → (False)))
theorem tJ28_siftUp_n {l : Launch} {G : gG} (hO : gOk G) {post : Unit → NM → Prop} {N : NM} {x0 : Nat} {x1 : Int32} {x2 : Nat} {sz : Nat} (h : wJ28_siftUp_n (gC G) post N x0 x1 x2) : Met l yJ28_siftUp (ws_ yJ28_siftUp cJ28_siftUp 3 none) ⟨3, 0, 0, 67⟩ (va_Pc [.ref x0, .int x1, .ref x2] (cPre G [] N sz)) (gQ vV post (fun u H => cBw G (cA [] N sz) (jW u).1 (jW u).2 H) (cA [] N sz)) 0 0 (cA [] N sz) := by
  refine c_ofW (lw := jW) (by decide) hO (Nat.le_of_ble_eq_true rfl) (fun p e s m below meth c ls A X hr hlk hin hw hl => ?_)
  have hl : lv_has ls 3 [(0, .ref x0), (1, .int x1), (2, .ref x2)] := hl
  have hx := X.1.1
  have hb := X.1.2.1
  have hml := X.1.2.2.1
  have hown := X.1.2.2.2.1
  have hts := X.1.2.2.2.2
  obtain ⟨H, eH⟩ : ∃ z, z = s.heap := ⟨_, rfl⟩
  rw [← eH] at hw ⊢
  obtain ⟨locs, eLo⟩ : ∃ z : List Loc, z = [] := ⟨_, rfl⟩
  rw [← eLo] at hw ⊢
  unfold wJ28_siftUp_n at h
  refine lv_aload_n (pc := 0) hx hb dJ28_siftUp_0 rfl (lv_at hl 0 rfl) ?_
  obtain ⟨f2, f3, f4, f5, hN1, h⟩ := h
  refine c_get (pc := 1) X hw hN1 in_J28 rfl 2 (by decide) q1674 rfl rfl dJ28_siftUp_1 ?_
  refine lq_ifnull (pc := 4) (tgt := 23) hx hb dJ28_siftUp_4 rfl (fun hz6 => ?_) (fun a7 hr8 => ?_)
  · have h := h.1 hz6
    refine lv_iload_n (pc := 23) hx hb dJ28_siftUp_23 rfl (lv_at hl 1 rfl) ?_
    refine lv_aload_n (pc := 24) hx hb dJ28_siftUp_24 rfl (lv_at hl 2 rfl) ?_
    refine lv_aload_n (pc := 25) hx hb dJ28_siftUp_25 rfl (lv_at hl 0 rfl) ?_
    refine c_get (pc := 26) X hw hN1 in_J28 rfl 0 (by decide) q1672 rfl rfl dJ28_siftUp_26 ?_
    obtain ⟨a9, hr10, h⟩ := h
    refine W.eq (g2 := F0 m 29 ls [.ref a9, .ref x2, .int x1]) (by rw [hr10]; rfl) ?_
    refine c_callJ (pc := 29) (val := vV) X hw (va_runS (g := F0 m 29 ls _) (As := [.int x1, .ref x2, .ref a9]) (rest := []) X.1 (tJ28_siftUpComparable_n X.2.2.1 (sz := H.size) h) (va_cwS 3 hts (lw_S q1727 q1728 q149 q1729) rfl rfl rfl ⟨by decide, by decide, (by decide +kernel : (parseMethodDescriptor yJ28_siftUpComparable.desc).map (fun d => d.parameters.length) = some 3)⟩ ⟨Nat.le_of_ble_eq_true rfl, Nat.le_of_ble_eq_true rfl⟩) ⟨cPre_blind, fun U hU hW => ⟨rfl, X.preJ hw hU hW⟩⟩ rfl rfl hl.1 rfl (lv_room (Nat.le_of_ble_eq_true rfl)) dJ28_siftUp_29 ⟨show 0 + 0 ≤ 0 by omega, show 0 + 0 ≤ 0 by omega⟩) (fun _ N12 H locs h hw => ?_)
    refine W.eq (g2 := F0 m 32 ls ([])) rfl ?_
    exact W.vret (pc := 32) hx hb hr (fun t ht hW => c_ret (val := vV) (lw := jW) (u := N12) (v := ()) hw h ht) hw.2.2.2 dJ28_siftUp_32 hlk
  · have h := h.2 a7 hr8
    exact False.elim h

def wJ28_offer_n_43 (K : Nat → Nat → Nat) (post : Int32 → NM → Prop) (x0 : Nat) (x1 : Nat) (x2 : Int32) (mc ms : Nat) (N : NM) : Prop :=
  ∃ f18 f19 f20 f21, N x0 = some (eO 21 [va_rf f18, .int f19, va_rf f20, .int f21]) ∧ (wJ28_siftUp_n K (fun _ N16 => ∃ f23 f24 f25 f26, N16 x0 = some (eO 21 [va_rf f23, .int f24, va_rf f25, .int f26]) ∧ (∀ N27, N27 = va_up N16 x0 (some (eO 21 [va_rf f23, .int (x2 + (1 : Int32)), va_rf f25, .int f26])) → (post (1 : Int32) N27))) N x0 x2 x1)
def wJ28_offer_n (K : Nat → Nat → Nat) (post : Int32 → NM → Prop) (MC MS : Nat) (N : NM) (x0 : Nat) (x1 : Nat) : Prop :=
  ∃ f2 f3 f4 f5, N x0 = some (eO 21 [va_rf f2, .int f3, va_rf f4, .int f5]) ∧ (∀ N6, N6 = va_up N x0 (some (eO 21 [va_rf f2, .int f3, va_rf f4, .int (f5 + (1 : Int32))])) → (∃ a9, f2 = some a9 ∧ (∃ n12 f13, N6 a9 = some (eR 8 n12 f13) ∧ (((f3 < (nI n12)) → (wJ28_offer_n_43 K post x0 x1 f3 MC MS N6)) ∧ (¬ (f3 < (nI n12)) → (∃ mc32 ms33, mc32 ≤ MC ∧ ms33 ≤ MS ∧ wJ28_grow_n K (fun _ N31 => wJ28_offer_n_43 K post x0 x1 f3 (MC - mc32) (MS - ms33) N31) mc32 ms33 N6 x0 (f3 + (1 : Int32))))))))
theorem kJ28_offer_n_43 {p : Program} {l : Launch} {e : Env} {s : State} {m : MethodId} {args : Array Value} {below : List Frame} {meth : Method} {c : Code} {G : gG} {A : Nat → Prop} {MC MS : Nat} {post : Int32 → NM → Prop} (X : cX G A RJ28 p s m args c cJ28_offer 3) (hr : meth.sig.returnType = (some .boolean)) (hlk : meth.locks = false) : ∀ (x0 : Nat) (x1 : Nat) (x2 : Int32) (mc ms : Nat) (N : NM) (H : Heap) (locs : List Loc) (ls : Array Slot) (cells slots : Nat), wJ28_offer_n_43 (gC G) post x0 x1 x2 mc ms N → (cH G A s [] N H locs ∧ cells + mc ≤ MC ∧ slots + ms ≤ MS) → lv_has ls 3 [(0, .ref x0), (1, .ref x1), (2, .int x2)] → W p l e ⟨4, MC, MS, 127⟩ s m args below meth c H locs cells slots (MQ below (gQ vI post (fun u H => cBw G A (jW u).1 (jW u).2 H) A) args s MC MS A) (F0 m 43 ls []) := by
  have hx := X.1.1
  have hb := X.1.2.1
  have hml := X.1.2.2.1
  have hown := X.1.2.2.2.1
  have hts := X.1.2.2.2.2
  intro x0 x1 x2 mc ms N H locs ls cells slots h hw0 hl
  obtain ⟨hw, hbud⟩ := hw0
  unfold wJ28_offer_n_43 at h
  refine lv_aload_n (pc := 43) hx hb dJ28_offer_43 rfl (lv_at hl 0 rfl) ?_
  refine lv_iload_n (pc := 44) hx hb dJ28_offer_44 rfl (lv_at hl 2 rfl) ?_
  refine lv_aload_n (pc := 45) hx hb dJ28_offer_45 rfl (lv_at hl 1 rfl) ?_
  obtain ⟨f18, f19, f20, f21, hN17, h⟩ := h
  refine c_callJ (pc := 46) (val := vV) X hw (va_runV (C := RJ28) (As := [.int x2, .ref x1]) (rest := []) X.1 (tJ28_siftUp_n X.2.2.1 (sz := H.size) h) (cwV 2 hts (lw_V q1718 q1720 qs41 q149 q1721) rfl rfl rfl ⟨rfl, by decide, by decide, (by decide +kernel : (parseMethodDescriptor yJ28_siftUp.desc).map (fun d => d.parameters.length) = some 2)⟩ ⟨Nat.le_of_ble_eq_true rfl, Nat.le_of_ble_eq_true rfl⟩) ⟨cPre_blind, c_recv X hw hN17 rfl, fun U hU hW => ⟨rfl, X.preJ hw hU hW⟩⟩ rfl rfl hl.1 rfl (lv_room (Nat.le_of_ble_eq_true rfl)) dJ28_offer_46 ⟨show cells + 0 ≤ MC by omega, show slots + 0 ≤ MS by omega⟩) (fun _ N16 H locs h hw => ?_)
  refine W.eq (g2 := F0 m 49 ls ([])) rfl ?_
  refine lv_aload_n (pc := 49) hx hb dJ28_offer_49 rfl (lv_at hl 0 rfl) ?_
  refine lv_iload_n (pc := 50) hx hb dJ28_offer_50 rfl (lv_at hl 2 rfl) ?_
  refine lv_iconst (pc := 51) (v := (1 : Int32)) hx hb dJ28_offer_51 (by decide) ?_
  refine lv_iadd (pc := 52) hx hb dJ28_offer_52 ?_
  obtain ⟨f23, f24, f25, f26, hN22, h⟩ := h
  refine c_put (pc := 53) X hw hN22 in_J28 tyJ28 tyJ28_ok nmJ28 rfl 1 (by decide) q1673 rfl rfl rfl rfl rfl (Nat.le_of_ble_eq_true rfl) dJ28_offer_53 (fun H locs hw => ?_)
  obtain ⟨N27, e28⟩ : ∃ z, z = va_up N16 x0 (some (eO 21 [va_rf f23, .int (x2 + (1 : Int32)), va_rf f25, .int f26])) := ⟨_, rfl⟩
  have hw : cH G A s [] N27 H locs := by rw [e28]; exact hw
  have h := h N27 e28
  have hN29 : N27 x0 = some (eO 21 [va_rf f23, .int (x2 + (1 : Int32)), va_rf f25, .int f26]) := by rw [e28]; exact up_s
  refine lv_iconst (pc := 56) (v := (1 : Int32)) hx hb dJ28_offer_56 (by decide) ?_
  refine W.widen (k := MC) (n := MS) (by omega) (by omega) ?_
  exact W.zret (pc := 57) hx hb hr rfl (fun t ht hW => c_ret (val := vI) (lw := jW) (u := N27) hw h ht) hw.2.2.2 dJ28_offer_57 hlk
theorem tJ28_offer_n {l : Launch} {G : gG} (hO : gOk G) {post : Int32 → NM → Prop} {MC MS : Nat} {N : NM} {x0 : Nat} {x1 : Nat} {sz : Nat} (h : wJ28_offer_n (gC G) post MC MS N x0 x1) : Met l yJ28_offer (ws_ yJ28_offer cJ28_offer 3 (some .boolean)) ⟨4, MC, MS, 127⟩ (va_Pc [.ref x0, .ref x1] (cPre G [] N sz)) (gQ vI post (fun u H => cBw G (cA [] N sz) (jW u).1 (jW u).2 H) (cA [] N sz)) MC MS (cA [] N sz) := by
  refine c_ofW (lw := jW) (by decide) hO (Nat.le_of_ble_eq_true rfl) (fun p e s m below meth c ls A X hr hlk hin hw hl => ?_)
  have hl : lv_has ls 3 [(0, .ref x0), (1, .ref x1)] := hl
  have hx := X.1.1
  have hb := X.1.2.1
  have hml := X.1.2.2.1
  have hown := X.1.2.2.2.1
  have hts := X.1.2.2.2.2
  obtain ⟨H, eH⟩ : ∃ z, z = s.heap := ⟨_, rfl⟩
  rw [← eH] at hw ⊢
  obtain ⟨locs, eLo⟩ : ∃ z : List Loc, z = [] := ⟨_, rfl⟩
  rw [← eLo] at hw ⊢
  have hbud : 0 + MC ≤ MC ∧ 0 + MS ≤ MS := by omega
  unfold wJ28_offer_n at h
  refine lv_aload_n (pc := 0) hx hb dJ28_offer_0 rfl (lv_at hl 1 rfl) ?_
  refine lv_ifnonnull (pc := 1) (tgt := 12) hx hb dJ28_offer_1 rfl ?_
  refine lv_aload_n (pc := 12) hx hb dJ28_offer_12 rfl (lv_at hl 0 rfl) ?_
  refine lv_dup (pc := 13) hx hb dJ28_offer_13 rfl ?_
  obtain ⟨f2, f3, f4, f5, hN1, h⟩ := h
  refine c_get (pc := 14) X hw hN1 in_J28 rfl 3 (by decide) q1675 rfl rfl dJ28_offer_14 ?_
  refine lv_iconst (pc := 17) (v := (1 : Int32)) hx hb dJ28_offer_17 (by decide) ?_
  refine lv_iadd (pc := 18) hx hb dJ28_offer_18 ?_
  refine c_put (pc := 19) X hw hN1 in_J28 tyJ28 tyJ28_ok nmJ28 rfl 3 (by decide) q1675 rfl rfl rfl rfl rfl (Nat.le_of_ble_eq_true rfl) dJ28_offer_19 (fun H locs hw => ?_)
  obtain ⟨N6, e7⟩ : ∃ z, z = va_up N x0 (some (eO 21 [va_rf f2, .int f3, va_rf f4, .int (f5 + (1 : Int32))])) := ⟨_, rfl⟩
  have hw : cH G A s [] N6 H locs := by rw [e7]; exact hw
  have h := h N6 e7
  have hN8 : N6 x0 = some (eO 21 [va_rf f2, .int f3, va_rf f4, .int (f5 + (1 : Int32))]) := by rw [e7]; exact up_s
  refine lv_aload_n (pc := 22) hx hb dJ28_offer_22 rfl (lv_at hl 0 rfl) ?_
  refine c_get (pc := 23) X hw hN8 in_J28 rfl 1 (by decide) q1673 rfl rfl dJ28_offer_23 ?_
  refine lv_istore_n (pc := 26) (lv' := [(2, .int f3), (0, .ref x0), (1, .ref x1)]) hx hb dJ28_offer_26 rfl hl (by decide) rfl (fun ls hl => ?_)
  refine lv_iload_n (pc := 27) hx hb dJ28_offer_27 rfl (lv_at hl 0 rfl) ?_
  refine lv_aload_n (pc := 28) hx hb dJ28_offer_28 rfl (lv_at hl 1 rfl) ?_
  refine c_get (pc := 29) X hw hN8 in_J28 rfl 0 (by decide) q1672 rfl rfl dJ28_offer_29 ?_
  obtain ⟨a9, hr10, h⟩ := h
  refine W.eq (g2 := F0 m 32 ls [.ref a9, .int f3]) (by rw [hr10]; rfl) ?_
  obtain ⟨n12, f13, hN11, h⟩ := h
  refine c_alen (pc := 32) X hw hN11 rfl dJ28_offer_32 ?_
  refine lv_icmp_lt (pc := 33) (tgt := 43) hx hb dJ28_offer_33 rfl (fun c14 => ?_) (fun c14 => ?_)
  · have h := h.1 c14
    exact kJ28_offer_n_43 X hr hlk  _ _ _ _ _ _ _ _ _ _ _ h ⟨hw, by omega⟩ (lv_sub hl [1, 2, 0] rfl)
  · have h := h.2 c14
    refine lv_aload_n (pc := 36) hx hb dJ28_offer_36 rfl (lv_at hl 1 rfl) ?_
    refine lv_iload_n (pc := 37) hx hb dJ28_offer_37 rfl (lv_at hl 0 rfl) ?_
    refine lv_iconst (pc := 38) (v := (1 : Int32)) hx hb dJ28_offer_38 (by decide) ?_
    refine lv_iadd (pc := 39) hx hb dJ28_offer_39 ?_
    obtain ⟨mc32, ms33, hm34, hm35, h⟩ := h
    refine c_callJ (pc := 40) (val := vV) X hw (va_runV (C := RJ28) (As := [.int (f3 + (1 : Int32))]) (rest := []) X.1 (tJ28_grow_n X.2.2.1 (sz := H.size) h) (cwV 1 hts (lw_V q1712 q1714 qs40 q149 q1715) rfl rfl rfl ⟨rfl, by decide, by decide, (by decide +kernel : (parseMethodDescriptor yJ28_grow.desc).map (fun d => d.parameters.length) = some 1)⟩ ⟨Nat.le_of_ble_eq_true rfl, Nat.le_of_ble_eq_true rfl⟩) ⟨cPre_blind, c_recv X hw hN8 rfl, fun U hU hW => ⟨rfl, X.preJ hw hU hW⟩⟩ rfl rfl hl.1 rfl (lv_room (Nat.le_of_ble_eq_true rfl)) dJ28_offer_40 ⟨show 0 + mc32 ≤ MC by omega, show 0 + ms33 ≤ MS by omega⟩) (fun _ N31 H locs h hw => ?_)
    refine W.eq (g2 := F0 m 43 ls ([])) rfl ?_
    exact kJ28_offer_n_43 X hr hlk  _ _ _ _ _ _ _ _ _ _ _ h ⟨hw, by omega⟩ (lv_sub hl [1, 2, 0] rfl)

def wJ28_add_n (K : Nat → Nat → Nat) (post : Int32 → NM → Prop) (MC MS : Nat) (N : NM) (x0 : Nat) (x1 : Nat) : Prop :=
  ∃ f8 f9 f10 f11, N x0 = some (eO 21 [va_rf f8, .int f9, va_rf f10, .int f11]) ∧ (∃ mc3 ms4, mc3 ≤ MC ∧ ms4 ≤ MS ∧ wJ28_offer_n K (fun r1 N2 => isB r1 ∧ post r1 N2) mc3 ms4 N x0 x1)
theorem tJ28_add_n {l : Launch} {G : gG} (hO : gOk G) {post : Int32 → NM → Prop} {MC MS : Nat} {N : NM} {x0 : Nat} {x1 : Nat} {sz : Nat} (h : wJ28_add_n (gC G) post MC MS N x0 x1) : Met l yJ28_add (ws_ yJ28_add cJ28_add 2 (some .boolean)) ⟨5, MC, MS, 149⟩ (va_Pc [.ref x0, .ref x1] (cPre G [] N sz)) (gQ vI post (fun u H => cBw G (cA [] N sz) (jW u).1 (jW u).2 H) (cA [] N sz)) MC MS (cA [] N sz) := by
  refine c_ofW (lw := jW) (by decide) hO (Nat.le_of_ble_eq_true rfl) (fun p e s m below meth c ls A X hr hlk hin hw hl => ?_)
  have hl : lv_has ls 2 [(0, .ref x0), (1, .ref x1)] := hl
  have hx := X.1.1
  have hb := X.1.2.1
  have hml := X.1.2.2.1
  have hown := X.1.2.2.2.1
  have hts := X.1.2.2.2.2
  obtain ⟨H, eH⟩ : ∃ z, z = s.heap := ⟨_, rfl⟩
  rw [← eH] at hw ⊢
  obtain ⟨locs, eLo⟩ : ∃ z : List Loc, z = [] := ⟨_, rfl⟩
  rw [← eLo] at hw ⊢
  have hbud : 0 + MC ≤ MC ∧ 0 + MS ≤ MS := by omega
  unfold wJ28_add_n at h
  refine lv_aload_n (pc := 0) hx hb dJ28_add_0 rfl (lv_at hl 0 rfl) ?_
  refine lv_aload_n (pc := 1) hx hb dJ28_add_1 rfl (lv_at hl 1 rfl) ?_
  obtain ⟨f8, f9, f10, f11, hN7, h⟩ := h
  obtain ⟨mc3, ms4, hm5, hm6, h⟩ := h
  refine c_callJ (pc := 2) (val := vI) X hw (va_runV (C := RJ28) (As := [.ref x1]) (rest := []) X.1 (tJ28_offer_n X.2.2.1 (sz := H.size) h) (cwV 1 hts (lw_V q1706 q1707 q1708 q149 q1709) rfl rfl rfl ⟨rfl, by decide, by decide, (by decide +kernel : (parseMethodDescriptor yJ28_offer.desc).map (fun d => d.parameters.length) = some 1)⟩ ⟨Nat.le_of_ble_eq_true rfl, Nat.le_of_ble_eq_true rfl⟩) ⟨cPre_blind, c_recv X hw hN7 rfl, fun U hU hW => ⟨rfl, X.preJ hw hU hW⟩⟩ rfl rfl hl.1 rfl (lv_room (Nat.le_of_ble_eq_true rfl)) dJ28_add_2 ⟨show 0 + mc3 ≤ MC by omega, show 0 + ms4 ≤ MS by omega⟩) (fun r1 N2 H locs h hw => ?_)
  refine W.eq (g2 := F0 m 5 ls (.int r1 :: [])) rfl ?_
  obtain ⟨hB, h⟩ := h
  refine W.widen (k := MC) (n := MS) (by omega) (by omega) ?_
  exact W.zret (pc := 5) hx hb hr (isB_n hB) (fun t ht hW => c_ret (val := vI) (lw := jW) (u := N2) hw h ht) hw.2.2.2 dJ28_add_5 hlk

def wJ28_poll_n (K : Nat → Nat → Nat) (post : Option Nat → NM → Prop) (N : NM) (x0 : Nat) : Prop :=
  ∃ f2 f3 f4 f5, N x0 = some (eO 21 [va_rf f2, .int f3, va_rf f4, .int f5]) ∧ (∃ a6, f2 = some a6 ∧ (∃ n9 f10, N a6 = some (eR 8 n9 f10) ∧ (vp_in (0 : Int32) n9 ∧ (((f10 (0 : Int32).toNatClampNeg) = none → (post (f10 (0 : Int32).toNatClampNeg) N)) ∧ (∀ a12, (f10 (0 : Int32).toNatClampNeg) = some a12 → (∀ N14, N14 = va_up N x0 (some (eO 21 [va_rf f2, .int f3, va_rf f4, .int (f5 + (1 : Int32))])) → (∀ N18, N18 = va_up N14 x0 (some (eO 21 [va_rf f2, .int (f3 - (1 : Int32)), va_rf f4, .int (f5 + (1 : Int32))])) → (vp_in (f3 - (1 : Int32)) n9 ∧ (vp_in (f3 - (1 : Int32)) n9 ∧ (∀ N22, N22 = va_up N18 a6 (some (eR 8 n9 (va_up f10 (f3 - (1 : Int32)).toNatClampNeg none))) → ((((f3 - (1 : Int32)) ≤ (0 : Int32)) → (post (f10 (0 : Int32).toNatClampNeg) N22)) ∧ (¬ ((f3 - (1 : Int32)) ≤ (0 : Int32)) → ((f4 = none → (∃ a30, (f10 (f3 - (1 : Int32)).toNatClampNeg) = some a30 ∧ (wJ28_siftDownComparable_n K (fun _ N33 => post (f10 (0 : Int32).toNatClampNeg) N33) N22 (0 : Int32) a30 a6 (f3 - (1 : Int32))))) ∧ (∀ a28, f4 = some a28 → (False)))))))))))))))
theorem tJ28_poll_n {l : Launch} {G : gG} (hO : gOk G) {post : Option Nat → NM → Prop} {N : NM} {x0 : Nat} {sz : Nat} (h : wJ28_poll_n (gC G) post N x0) : Met l yJ28_poll (ws_ yJ28_poll cJ28_poll 6 (some (.object "java/lang/Object"))) ⟨3, 0, 0, 70⟩ (va_Pc [.ref x0] (cPre G [] N sz)) (gQ vQ post (fun u H => cBw G (cA [] N sz) (jW u).1 (jW u).2 H) (cA [] N sz)) 0 0 (cA [] N sz) := by
  refine c_ofW (lw := jW) (by decide) hO (Nat.le_of_ble_eq_true rfl) (fun p e s m below meth c ls A X hr hlk hin hw hl => ?_)
  have hl : lv_has ls 6 [(0, .ref x0)] := hl
  have hx := X.1.1
  have hb := X.1.2.1
  have hml := X.1.2.2.1
  have hown := X.1.2.2.2.1
  have hts := X.1.2.2.2.2
  obtain ⟨H, eH⟩ : ∃ z, z = s.heap := ⟨_, rfl⟩
  rw [← eH] at hw ⊢
  obtain ⟨locs, eLo⟩ : ∃ z : List Loc, z = [] := ⟨_, rfl⟩
  rw [← eLo] at hw ⊢
  unfold wJ28_poll_n at h
  refine lv_aload_n (pc := 0) hx hb dJ28_poll_0 rfl (lv_at hl 0 rfl) ?_
  obtain ⟨f2, f3, f4, f5, hN1, h⟩ := h
  refine c_get (pc := 1) X hw hN1 in_J28 rfl 0 (by decide) q1672 rfl rfl dJ28_poll_1 ?_
  refine lv_dup (pc := 4) hx hb dJ28_poll_4 (rf_c _) ?_
  refine lq_astore_n (pc := 5) (lv' := [(1, va_rf f2), (0, .ref x0)]) hx hb dJ28_poll_5 rfl hl (by decide) rfl (fun ls hl => ?_)
  refine lv_iconst (pc := 6) (v := (0 : Int32)) hx hb dJ28_poll_6 (by decide) ?_
  obtain ⟨a6, hr7, h⟩ := h
  refine W.eq (g2 := F0 m 7 ls [.int (0 : Int32), .ref a6]) (by rw [hr7]; rfl) ?_
  obtain ⟨n9, f10, hN8, h⟩ := h
  obtain ⟨hi, h⟩ := h
  refine c_aald (pc := 7) X hw 8 hN8 rfl hi dJ28_poll_7 ?_
  refine lv_dup (pc := 8) hx hb dJ28_poll_8 (rf_c _) ?_
  refine lq_astore_n (pc := 9) (i := 2) (lv' := [(2, va_rf (f10 (0 : Int32).toNatClampNeg)), (1, va_rf f2), (0, .ref x0)]) hx hb dJ28_poll_9 rfl hl (by decide) (by simp [rf_c]) (fun ls hl => ?_)
  refine lq_ifnull (pc := 10) (tgt := 79) hx hb dJ28_poll_10 rfl (fun hz11 => ?_) (fun a12 hr13 => ?_)
  · have h := h.1 hz11
    refine lq_aload_n (pc := 79) hx hb dJ28_poll_79 rfl (lv_at hl 0 rfl) ?_
    exact W.aret (pc := 80) (v := va_rf (f10 (0 : Int32).toNatClampNeg)) hx hb hr (Or.inl ⟨_, rfl⟩) (va_rf_or _) (fun t ht hW => c_ret (val := vQ) (lw := jW) (u := N) hw h ht) hw.2.2.2 dJ28_poll_80 hlk
  · have h := h.2 a12 hr13
    refine lv_aload_n (pc := 13) hx hb dJ28_poll_13 rfl (lv_at hl 2 rfl) ?_
    refine lv_dup (pc := 14) hx hb dJ28_poll_14 rfl ?_
    refine c_get (pc := 15) X hw hN1 in_J28 rfl 3 (by decide) q1675 rfl rfl dJ28_poll_15 ?_
    refine lv_iconst (pc := 18) (v := (1 : Int32)) hx hb dJ28_poll_18 (by decide) ?_
    refine lv_iadd (pc := 19) hx hb dJ28_poll_19 ?_
    refine c_put (pc := 20) X hw hN1 in_J28 tyJ28 tyJ28_ok nmJ28 rfl 3 (by decide) q1675 rfl rfl rfl rfl rfl (Nat.le_of_ble_eq_true rfl) dJ28_poll_20 (fun H locs hw => ?_)
    obtain ⟨N14, e15⟩ : ∃ z, z = va_up N x0 (some (eO 21 [va_rf f2, .int f3, va_rf f4, .int (f5 + (1 : Int32))])) := ⟨_, rfl⟩
    have hw : cH G A s [] N14 H locs := by rw [e15]; exact hw
    have h := h N14 e15
    have hN16 : N14 x0 = some (eO 21 [va_rf f2, .int f3, va_rf f4, .int (f5 + (1 : Int32))]) := by rw [e15]; exact up_s
    have hN17 := up_k (x := some (eO 21 [va_rf f2, .int f3, va_rf f4, .int (f5 + (1 : Int32))])) hN1 hN8 (show (42 : Nat) ≠ 17 by decide)
    rw [← e15] at hN17
    refine lq_aload_n (pc := 23) hx hb dJ28_poll_23 rfl (lv_at hl 1 rfl) ?_
    refine lv_aload_n (pc := 24) hx hb dJ28_poll_24 rfl (lv_at hl 2 rfl) ?_
    refine lv_dup (pc := 25) hx hb dJ28_poll_25 rfl ?_
    refine c_get (pc := 26) X hw hN16 in_J28 rfl 1 (by decide) q1673 rfl rfl dJ28_poll_26 ?_
    refine lv_iconst (pc := 29) (v := (1 : Int32)) hx hb dJ28_poll_29 (by decide) ?_
    refine lv_isub (pc := 30) hx hb dJ28_poll_30 ?_
    refine lv_dup_x1 (pc := 31) hx hb dJ28_poll_31 rfl rfl ?_
    refine c_put (pc := 32) X hw hN16 in_J28 tyJ28 tyJ28_ok nmJ28 rfl 1 (by decide) q1673 rfl rfl rfl rfl rfl (Nat.le_of_ble_eq_true rfl) dJ28_poll_32 (fun H locs hw => ?_)
    obtain ⟨N18, e19⟩ : ∃ z, z = va_up N14 x0 (some (eO 21 [va_rf f2, .int (f3 - (1 : Int32)), va_rf f4, .int (f5 + (1 : Int32))])) := ⟨_, rfl⟩
    have hw : cH G A s [] N18 H locs := by rw [e19]; exact hw
    have h := h N18 e19
    have hN20 : N18 x0 = some (eO 21 [va_rf f2, .int (f3 - (1 : Int32)), va_rf f4, .int (f5 + (1 : Int32))]) := by rw [e19]; exact up_s
    have hN21 := up_k (x := some (eO 21 [va_rf f2, .int (f3 - (1 : Int32)), va_rf f4, .int (f5 + (1 : Int32))])) hN16 hN17 (show (42 : Nat) ≠ 17 by decide)
    rw [← e19] at hN21
    refine lv_dup (pc := 35) hx hb dJ28_poll_35 rfl ?_
    refine lv_istore_n (pc := 36) (i := 3) (lv' := [(3, .int (f3 - (1 : Int32))), (2, va_rf (f10 (0 : Int32).toNatClampNeg)), (1, va_rf f2), (0, .ref x0)]) hx hb dJ28_poll_36 rfl hl (by decide) (by simp [rf_c]) (fun ls hl => ?_)
    refine W.eq (g2 := F0 m 37 ls [.int (f3 - (1 : Int32)), .ref a6]) (by rw [hr7]; rfl) ?_
    obtain ⟨hi, h⟩ := h
    refine c_aald (pc := 37) X hw 8 hN21 rfl hi dJ28_poll_37 ?_
    refine lq_astore (pc := 38) (lv' := [(4, va_rf (f10 (f3 - (1 : Int32)).toNatClampNeg)), (3, .int (f3 - (1 : Int32))), (2, va_rf (f10 (0 : Int32).toNatClampNeg)), (1, va_rf f2), (0, .ref x0)]) hx hb dJ28_poll_38 hl (by decide) rfl (fun ls hl => ?_)
    refine lq_aload_n (pc := 40) hx hb dJ28_poll_40 rfl (lv_at hl 3 rfl) ?_
    refine lv_iload_n (pc := 41) hx hb dJ28_poll_41 rfl (lv_at hl 1 rfl) ?_
    refine lv_null (pc := 42) hx hb dJ28_poll_42 ?_
    refine W.eq (g2 := F0 m 43 ls [.null, .int (f3 - (1 : Int32)), .ref a6]) (by rw [hr7]; rfl) ?_
    obtain ⟨hi, h⟩ := h
    refine c_aastN (pc := 43) X hw 8 hN21 rfl hi dJ28_poll_43 (fun H locs hw => ?_)
    obtain ⟨N22, e23⟩ : ∃ z, z = va_up N18 a6 (some (eR 8 n9 (va_up f10 (f3 - (1 : Int32)).toNatClampNeg none))) := ⟨_, rfl⟩
    have hw : cH G A s [] N22 H locs := by rw [e23]; exact hw
    have h := h N22 e23
    have hN24 : N22 a6 = some (eR 8 n9 (va_up f10 (f3 - (1 : Int32)).toNatClampNeg none)) := by rw [e23]; exact up_s
    have hN25 := up_k (x := some (eR 8 n9 (va_up f10 (f3 - (1 : Int32)).toNatClampNeg none))) hN21 hN20 (show (17 : Nat) ≠ 42 by decide)
    rw [← e23] at hN25
    refine lv_iload_n (pc := 44) hx hb dJ28_poll_44 rfl (lv_at hl 1 rfl) ?_
    refine lv_if_le (pc := 45) (tgt := 79) hx hb dJ28_poll_45 rfl (fun c26 => ?_) (fun c26 => ?_)
    · have h := h.1 c26
      refine lq_aload_n (pc := 79) hx hb dJ28_poll_79 rfl (lv_at hl 2 rfl) ?_
      exact W.aret (pc := 80) (v := va_rf (f10 (0 : Int32).toNatClampNeg)) hx hb hr (Or.inl ⟨_, rfl⟩) (va_rf_or _) (fun t ht hW => c_ret (val := vQ) (lw := jW) (u := N22) hw h ht) hw.2.2.2 dJ28_poll_80 hlk
    · have h := h.2 c26
      refine lv_aload_n (pc := 48) hx hb dJ28_poll_48 rfl (lv_at hl 4 rfl) ?_
      refine c_get (pc := 49) X hw hN25 in_J28 rfl 2 (by decide) q1674 rfl rfl dJ28_poll_49 ?_
      refine lv_dup (pc := 52) hx hb dJ28_poll_52 (rf_c _) ?_
      refine lq_astore (pc := 53) (i := 5) (lv' := [(5, va_rf f4), (4, va_rf (f10 (f3 - (1 : Int32)).toNatClampNeg)), (3, .int (f3 - (1 : Int32))), (2, va_rf (f10 (0 : Int32).toNatClampNeg)), (1, va_rf f2), (0, .ref x0)]) hx hb dJ28_poll_53 hl (by decide) (by simp [rf_c]) (fun ls hl => ?_)
      refine lq_ifnonnull (pc := 55) (tgt := 69) hx hb dJ28_poll_55 rfl (fun hz27 => ?_) (fun a28 hr29 => ?_)
      · have h := h.1 hz27
        refine lv_iconst (pc := 58) (v := (0 : Int32)) hx hb dJ28_poll_58 (by decide) ?_
        refine lq_aload (pc := 59) hx hb dJ28_poll_59 (lv_at hl 1 rfl) ?_
        refine lq_aload_n (pc := 61) hx hb dJ28_poll_61 rfl (lv_at hl 4 rfl) ?_
        refine lv_iload_n (pc := 62) hx hb dJ28_poll_62 rfl (lv_at hl 2 rfl) ?_
        obtain ⟨a30, hr31, h⟩ := h
        refine W.eq (g2 := F0 m 63 ls [.int (f3 - (1 : Int32)), va_rf f2, .ref a30, .int (0 : Int32)]) (by rw [hr31]; rfl) ?_
        refine W.eq (g2 := F0 m 63 ls [.int (f3 - (1 : Int32)), .ref a6, .ref a30, .int (0 : Int32)]) (by rw [hr7]; rfl) ?_
        refine c_callJ (pc := 63) (val := vV) X hw (va_runS (g := F0 m 63 ls _) (As := [.int (0 : Int32), .ref a30, .ref a6, .int (f3 - (1 : Int32))]) (rest := []) X.1 (tJ28_siftDownComparable_n X.2.2.1 (sz := H.size) h) (va_cwS 4 hts (lw_S q1750 q1751 q149 q1752) rfl rfl rfl ⟨by decide, by decide, (by decide +kernel : (parseMethodDescriptor yJ28_siftDownComparable.desc).map (fun d => d.parameters.length) = some 4)⟩ ⟨Nat.le_of_ble_eq_true rfl, Nat.le_of_ble_eq_true rfl⟩) ⟨cPre_blind, fun U hU hW => ⟨rfl, X.preJ hw hU hW⟩⟩ rfl rfl hl.1 rfl (lv_room (Nat.le_of_ble_eq_true rfl)) dJ28_poll_63 ⟨show 0 + 0 ≤ 0 by omega, show 0 + 0 ≤ 0 by omega⟩) (fun _ N33 H locs h hw => ?_)
        refine W.eq (g2 := F0 m 66 ls ([])) rfl ?_
        refine lv_goto (pc := 66) (tgt := 79) hx hb dJ28_poll_66 rfl ?_
        refine lq_aload_n (pc := 79) hx hb dJ28_poll_79 rfl (lv_at hl 3 rfl) ?_
        exact W.aret (pc := 80) (v := va_rf (f10 (0 : Int32).toNatClampNeg)) hx hb hr (Or.inl ⟨_, rfl⟩) (va_rf_or _) (fun t ht hW => c_ret (val := vQ) (lw := jW) (u := N33) hw h ht) hw.2.2.2 dJ28_poll_80 hlk
      · have h := h.2 a28 hr29
        exact False.elim h

def wJ28_peek_n (K : Nat → Nat → Nat) (post : Option Nat → NM → Prop) (N : NM) (x0 : Nat) : Prop :=
  ∃ f2 f3 f4 f5, N x0 = some (eO 21 [va_rf f2, .int f3, va_rf f4, .int f5]) ∧ (∃ a6, f2 = some a6 ∧ (∃ n9 f10, N a6 = some (eR 8 n9 f10) ∧ (vp_in (0 : Int32) n9 ∧ (post (f10 (0 : Int32).toNatClampNeg) N))))
theorem tJ28_peek_n {l : Launch} {G : gG} (hO : gOk G) {post : Option Nat → NM → Prop} {N : NM} {x0 : Nat} {sz : Nat} (h : wJ28_peek_n (gC G) post N x0) : Met l yJ28_peek (ws_ yJ28_peek cJ28_peek 1 (some (.object "java/lang/Object"))) ⟨0, 0, 0, 0⟩ (va_Pc [.ref x0] (cPre G [] N sz)) (gQ vQ post (fun u H => cBw G (cA [] N sz) (jW u).1 (jW u).2 H) (cA [] N sz)) 0 0 (cA [] N sz) := by
  refine c_ofW (lw := jW) (by decide) hO (Nat.le_of_ble_eq_true rfl) (fun p e s m below meth c ls A X hr hlk hin hw hl => ?_)
  have hl : lv_has ls 1 [(0, .ref x0)] := hl
  have hx := X.1.1
  have hb := X.1.2.1
  have hml := X.1.2.2.1
  have hown := X.1.2.2.2.1
  have hts := X.1.2.2.2.2
  obtain ⟨H, eH⟩ : ∃ z, z = s.heap := ⟨_, rfl⟩
  rw [← eH] at hw ⊢
  obtain ⟨locs, eLo⟩ : ∃ z : List Loc, z = [] := ⟨_, rfl⟩
  rw [← eLo] at hw ⊢
  unfold wJ28_peek_n at h
  refine lv_aload_n (pc := 0) hx hb dJ28_peek_0 rfl (lv_at hl 0 rfl) ?_
  obtain ⟨f2, f3, f4, f5, hN1, h⟩ := h
  refine c_get (pc := 1) X hw hN1 in_J28 rfl 0 (by decide) q1672 rfl rfl dJ28_peek_1 ?_
  refine lv_iconst (pc := 4) (v := (0 : Int32)) hx hb dJ28_peek_4 (by decide) ?_
  obtain ⟨a6, hr7, h⟩ := h
  refine W.eq (g2 := F0 m 5 ls [.int (0 : Int32), .ref a6]) (by rw [hr7]; rfl) ?_
  obtain ⟨n9, f10, hN8, h⟩ := h
  obtain ⟨hi, h⟩ := h
  refine c_aald (pc := 5) X hw 8 hN8 rfl hi dJ28_peek_5 ?_
  exact W.aret (pc := 6) (v := va_rf (f10 (0 : Int32).toNatClampNeg)) hx hb hr (Or.inl ⟨_, rfl⟩) (va_rf_or _) (fun t ht hW => c_ret (val := vQ) (lw := jW) (u := N) hw h ht) hw.2.2.2 dJ28_peek_6 hlk

def wX16_compareTo_2 (K : Nat → Nat → Nat) (post : Int32 → NM → Prop) (N : NM) (x0 : Nat) (x1 : Nat) : Prop :=
  ∃ f2 f3, N x0 = some (eO 15 [.int f2, .long f3]) ∧ (∃ f5 f6, N x1 = some (eO 15 [.int f5, .long f6]) ∧ (((f3 = f6) → (post (f2 - f5) N)) ∧ (¬ (f3 = f6) → (((f3 ≤ f6) → (post (1 : Int32) N)) ∧ (¬ (f3 ≤ f6) → (post (-1 : Int32) N))))))
theorem tX16_compareTo_2 {l : Launch} {G : gG} (hO : gOk G) {post : Int32 → NM → Prop} {N : NM} {x0 : Nat} {x1 : Nat} {sz : Nat} (h : wX16_compareTo_2 (gC G) post N x0 x1) : Met l yX16_compareTo_2 (ws_ yX16_compareTo_2 cX16_compareTo_2 2 (some .int)) ⟨0, 0, 0, 0⟩ (va_Pc [.ref x0, .ref x1] (cPre G [] N sz)) (gQ vI post (fun u H => cBw G (cA [] N sz) (jW u).1 (jW u).2 H) (cA [] N sz)) 0 0 (cA [] N sz) := by
  refine c_ofW (lw := jW) (by decide) hO (Nat.le_of_ble_eq_true rfl) (fun p e s m below meth c ls A X hr hlk hin hw hl => ?_)
  have hl : lv_has ls 2 [(0, .ref x0), (1, .ref x1)] := hl
  have hx := X.1.1
  have hb := X.1.2.1
  have hml := X.1.2.2.1
  have hown := X.1.2.2.2.1
  have hts := X.1.2.2.2.2
  obtain ⟨H, eH⟩ : ∃ z, z = s.heap := ⟨_, rfl⟩
  rw [← eH] at hw ⊢
  obtain ⟨locs, eLo⟩ : ∃ z : List Loc, z = [] := ⟨_, rfl⟩
  rw [← eLo] at hw ⊢
  unfold wX16_compareTo_2 at h
  refine lv_aload_n (pc := 0) hx hb dX16_compareTo_2_0 rfl (lv_at hl 0 rfl) ?_
  obtain ⟨f2, f3, hN1, h⟩ := h
  refine c_get (pc := 1) X hw hN1 in_X16 rfl 1 (by decide) q1884 rfl rfl dX16_compareTo_2_1 ?_
  refine lv_aload_n (pc := 4) hx hb dX16_compareTo_2_4 rfl (lv_at hl 1 rfl) ?_
  obtain ⟨f5, f6, hN4, h⟩ := h
  refine c_get (pc := 5) X hw hN4 in_X16 rfl 1 (by decide) q1884 rfl rfl dX16_compareTo_2_5 ?_
  refine W.lcmp (pc := 8) hx hb dX16_compareTo_2_8 ?_
  refine lv_if_eq (pc := 9) (tgt := 32) hx hb dX16_compareTo_2_9 rfl (fun c7 => ?_) (fun c7 => ?_)
  · have h := h.1 ((lg_cmp_eq _ _).mp c7)
    refine lv_aload_n (pc := 32) hx hb dX16_compareTo_2_32 rfl (lv_at hl 0 rfl) ?_
    refine c_get (pc := 33) X hw hN1 in_X16 rfl 0 (by decide) q1882 rfl rfl dX16_compareTo_2_33 ?_
    refine lv_aload_n (pc := 36) hx hb dX16_compareTo_2_36 rfl (lv_at hl 1 rfl) ?_
    refine c_get (pc := 37) X hw hN4 in_X16 rfl 0 (by decide) q1882 rfl rfl dX16_compareTo_2_37 ?_
    refine lv_isub (pc := 40) hx hb dX16_compareTo_2_40 ?_
    exact W.iret (pc := 41) hx hb hr (fun t ht hW => c_ret (val := vI) (lw := jW) (u := N) hw h ht) hw.2.2.2 dX16_compareTo_2_41 hlk
  · have h := h.2 (fun z => c7 ((lg_cmp_eq _ _).mpr z))
    refine lv_aload_n (pc := 12) hx hb dX16_compareTo_2_12 rfl (lv_at hl 0 rfl) ?_
    refine c_get (pc := 13) X hw hN1 in_X16 rfl 1 (by decide) q1884 rfl rfl dX16_compareTo_2_13 ?_
    refine lv_aload_n (pc := 16) hx hb dX16_compareTo_2_16 rfl (lv_at hl 1 rfl) ?_
    refine c_get (pc := 17) X hw hN4 in_X16 rfl 1 (by decide) q1884 rfl rfl dX16_compareTo_2_17 ?_
    refine W.lcmp (pc := 20) hx hb dX16_compareTo_2_20 ?_
    refine lv_if_le (pc := 21) (tgt := 28) hx hb dX16_compareTo_2_21 rfl (fun c8 => ?_) (fun c8 => ?_)
    · have h := h.1 ((lg_cmp_le _ _).mp c8)
      refine lv_iconst (pc := 28) (v := (1 : Int32)) hx hb dX16_compareTo_2_28 (by decide) ?_
      refine lv_goto (pc := 29) (tgt := 41) hx hb dX16_compareTo_2_29 rfl ?_
      exact W.iret (pc := 41) hx hb hr (fun t ht hW => c_ret (val := vI) (lw := jW) (u := N) hw h ht) hw.2.2.2 dX16_compareTo_2_41 hlk
    · have h := h.2 (fun z => c8 ((lg_cmp_le _ _).mpr z))
      refine lv_iconst (pc := 24) (v := (-1 : Int32)) hx hb dX16_compareTo_2_24 (by decide) ?_
      refine lv_goto (pc := 25) (tgt := 41) hx hb dX16_compareTo_2_25 rfl ?_
      exact W.iret (pc := 41) hx hb hr (fun t ht hW => c_ret (val := vI) (lw := jW) (u := N) hw h ht) hw.2.2.2 dX16_compareTo_2_41 hlk

def wX16_compareTo (K : Nat → Nat → Nat) (post : Int32 → NM → Prop) (N : NM) (x0 : Nat) (x1 : Nat) : Prop :=
  ∃ f2 f3, N x1 = some (eO 15 [.int f2, .long f3]) ∧ (∃ f7 f8, N x0 = some (eO 15 [.int f7, .long f8]) ∧ (wX16_compareTo_2 K (fun r4 N5 => post r4 N5) N x0 x1))
theorem tX16_compareTo {l : Launch} {G : gG} (hO : gOk G) {post : Int32 → NM → Prop} {N : NM} {x0 : Nat} {x1 : Nat} {sz : Nat} (h : wX16_compareTo (gC G) post N x0 x1) : Met l yX16_compareTo (ws_ yX16_compareTo cX16_compareTo 2 (some .int)) ⟨1, 0, 0, 21⟩ (va_Pc [.ref x0, .ref x1] (cPre G [] N sz)) (gQ vI post (fun u H => cBw G (cA [] N sz) (jW u).1 (jW u).2 H) (cA [] N sz)) 0 0 (cA [] N sz) := by
  refine c_ofW (lw := jW) (by decide) hO (Nat.le_of_ble_eq_true rfl) (fun p e s m below meth c ls A X hr hlk hin hw hl => ?_)
  have hl : lv_has ls 2 [(0, .ref x0), (1, .ref x1)] := hl
  have hx := X.1.1
  have hb := X.1.2.1
  have hml := X.1.2.2.1
  have hown := X.1.2.2.2.1
  have hts := X.1.2.2.2.2
  obtain ⟨H, eH⟩ : ∃ z, z = s.heap := ⟨_, rfl⟩
  rw [← eH] at hw ⊢
  obtain ⟨locs, eLo⟩ : ∃ z : List Loc, z = [] := ⟨_, rfl⟩
  rw [← eLo] at hw ⊢
  unfold wX16_compareTo at h
  refine lv_aload_n (pc := 0) hx hb dX16_compareTo_0 rfl (lv_at hl 0 rfl) ?_
  refine lv_aload_n (pc := 1) hx hb dX16_compareTo_1 rfl (lv_at hl 1 rfl) ?_
  obtain ⟨f2, f3, hN1, h⟩ := h
  refine c_castS (pc := 2) X hw hN1 rfl q1096 dX16_compareTo_2 ?_
  obtain ⟨f7, f8, hN6, h⟩ := h
  refine c_callJ (pc := 5) (val := vI) X hw (va_runV (C := RX16) (As := [.ref x1]) (rest := []) X.1 (tX16_compareTo_2 X.2.2.1 (sz := H.size) h) (cwV 1 hts (lw_V q1097 q1098 q1099 q151 q1100) rfl rfl rfl ⟨rfl, by decide, by decide, (by decide +kernel : (parseMethodDescriptor yX16_compareTo_2.desc).map (fun d => d.parameters.length) = some 1)⟩ ⟨Nat.le_of_ble_eq_true rfl, Nat.le_of_ble_eq_true rfl⟩) ⟨cPre_blind, c_recv X hw hN6 rfl, fun U hU hW => ⟨rfl, X.preJ hw hU hW⟩⟩ rfl rfl hl.1 rfl (lv_room (Nat.le_of_ble_eq_true rfl)) dX16_compareTo_5 ⟨show 0 + 0 ≤ 0 by omega, show 0 + 0 ≤ 0 by omega⟩) (fun r4 N5 H locs h hw => ?_)
  refine W.eq (g2 := F0 m 8 ls (.int r4 :: [])) rfl ?_
  exact W.iret (pc := 8) hx hb hr (fun t ht hW => c_ret (val := vI) (lw := jW) (u := N5) hw h ht) hw.2.2.2 dX16_compareTo_8 hlk

def wJ15_copyOf_3_r_24 (K : Nat → Nat → Nat) (post : Nat → NM → Prop) (x0 : Nat) (x1 : Int32) (v0 : Nat) (mc ms : Nat) (N : NM) : Prop :=
  ∃ n12 f13, N x0 = some (eR 8 n12 f13) ∧ (wJ14_min (fun r14 => ∃ n16 f17, N v0 = some (eR 8 n16 f17) ∧ (¬ (0 : Int32) < 0 ∧ ¬ (0 : Int32) < 0 ∧ ¬ r14 < 0 ∧ (0 : Int32).toNatClampNeg + r14.toNatClampNeg ≤ n12 ∧ (0 : Int32).toNatClampNeg + r14.toNatClampNeg ≤ n16 ∧ (∀ i, i < r14.toNatClampNeg → ∀ y, f13 ((0 : Int32).toNatClampNeg + i) = some y → ∃ fs, N y = some (eO 15 fs)) ∧ (∀ N30, N30 = va_up N v0 (some (eR 8 n16 (va_cpy f13 f17 (0 : Int32).toNatClampNeg (0 : Int32).toNatClampNeg r14.toNatClampNeg))) → (post v0 N30)))) (nI n12) x1)
def wJ15_copyOf_3_r (K : Nat → Nat → Nat) (post : Nat → NM → Prop) (MC MS : Nat) (N : NM) (x0 : Nat) (x1 : Int32) (x2 : Nat) : Prop :=
  (((some x2) = (some (K 4 4))) → (¬ x1 < 0 ∧ x1.toNatClampNeg ≤ 65536 ∧ 1 ≤ MC ∧ x1.toNatClampNeg ≤ MS ∧ (∀ nq6, N nq6 = none → (∀ N8, N8 = va_up N nq6 (some (eR 8 x1.toNatClampNeg (fun _ => (none : Option Nat)))) → (wJ15_copyOf_3_r_24 K post x0 x1 nq6 (MC - 1) (MS - x1.toNatClampNeg) N8))))) ∧ (¬ ((some x2) = (some (K 4 4))) → (False))
theorem kJ15_copyOf_3_r_24 {p : Program} {l : Launch} {e : Env} {s : State} {m : MethodId} {args : Array Value} {below : List Frame} {meth : Method} {c : Code} {G : gG} {A : Nat → Prop} {MC MS : Nat} {post : Nat → NM → Prop} (X : cX G A RJ15 p s m args c cJ15_copyOf_3 4) (hr : meth.sig.returnType = (some (.array (.object "java/lang/Object")))) (hlk : meth.locks = false) : ∀ (x0 : Nat) (x1 : Int32) (v0 : Nat) (mc ms : Nat) (N : NM) (H : Heap) (locs : List Loc) (ls : Array Slot) (cells slots : Nat), wJ15_copyOf_3_r_24 (gC G) post x0 x1 v0 mc ms N → (cH G A s [] N H locs ∧ cells + mc ≤ MC ∧ slots + ms ≤ MS) → lv_has ls 4 [(0, .ref x0), (1, .int x1)] → W p l e ⟨1, MC, MS, 60⟩ s m args below meth c H locs cells slots (MQ below (gQ vR post (fun u H => cBw G A (jW u).1 (jW u).2 H) A) args s MC MS A) (F0 m 24 ls [.ref v0]) := by
  have hx := X.1.1
  have hb := X.1.2.1
  have hml := X.1.2.2.1
  have hown := X.1.2.2.2.1
  have hts := X.1.2.2.2.2
  intro x0 x1 v0 mc ms N H locs ls cells slots h hw0 hl
  obtain ⟨hw, hbud⟩ := hw0
  unfold wJ15_copyOf_3_r_24 at h
  refine lv_astore_n (pc := 24) (lv' := [(3, .ref v0), (0, .ref x0), (1, .int x1)]) hx hb dJ15_copyOf_3_24 rfl hl (by decide) rfl (fun ls hl => ?_)
  refine lv_aload_n (pc := 25) hx hb dJ15_copyOf_3_25 rfl (lv_at hl 1 rfl) ?_
  refine lv_iconst (pc := 26) (v := (0 : Int32)) hx hb dJ15_copyOf_3_26 (by decide) ?_
  refine lv_aload_n (pc := 27) hx hb dJ15_copyOf_3_27 rfl (lv_at hl 0 rfl) ?_
  refine lv_iconst (pc := 28) (v := (0 : Int32)) hx hb dJ15_copyOf_3_28 (by decide) ?_
  refine lv_aload_n (pc := 29) hx hb dJ15_copyOf_3_29 rfl (lv_at hl 1 rfl) ?_
  obtain ⟨n12, f13, hN11, h⟩ := h
  refine c_alen (pc := 30) X hw hN11 rfl dJ15_copyOf_3_30 ?_
  refine lv_iload_n (pc := 31) hx hb dJ15_copyOf_3_31 rfl (lv_at hl 2 rfl) ?_
  refine s_call (pc := 32) (val := vI) (As := [.int (nI n12), .int x1]) (rest := [.int (0 : Int32), .ref v0, .int (0 : Int32), .ref x0]) X.1 (tJ14_min h) (lw_S q545 q546 q121 q547) ⟨by decide, by decide, (by decide +kernel : (parseMethodDescriptor yJ14_min.desc).map (fun d => d.parameters.length) = some 2)⟩ ⟨Nat.le_of_ble_eq_true rfl, Nat.le_of_ble_eq_true rfl⟩ hl.1 (Nat.le_of_ble_eq_true rfl) ⟨show cells ≤ MC by omega, show slots ≤ MS by omega⟩ dJ15_copyOf_3_32 rfl (fun r14 h => ?_)
  refine W.eq (g2 := F0 m 35 ls (.int r14 :: [.int (0 : Int32), .ref v0, .int (0 : Int32), .ref x0])) rfl ?_
  obtain ⟨n16, f17, hN15, h⟩ := h
  obtain ⟨hm24, hm25, hm26, hm27, hm28, hm29, h⟩ := h
  refine c_copyM (pc := 35) (rest := []) X hw hl.1 q548 q374 q373 q112 8 hN11 hN15 rfl hm24 hm25 hm26 hm27 hm28 (fun i hi y hy => by obtain ⟨fs, hfs⟩ := hm29 i hi y hy; exact c_anyY X hw hfs rfl q2583) (Nat.le_of_ble_eq_true rfl) (Nat.le_of_ble_eq_true rfl) dJ15_copyOf_3_35 (fun H locs hw => ?_)
  obtain ⟨N30, e31⟩ : ∃ z, z = va_up N v0 (some (eR 8 n16 (va_cpy f13 f17 (0 : Int32).toNatClampNeg (0 : Int32).toNatClampNeg r14.toNatClampNeg))) := ⟨_, rfl⟩
  have hw : cH G A s [] N30 H locs := by rw [e31]; exact hw
  have h := h N30 e31
  have hN32 : N30 v0 = some (eR 8 n16 (va_cpy f13 f17 (0 : Int32).toNatClampNeg (0 : Int32).toNatClampNeg r14.toNatClampNeg)) := by rw [e31]; exact up_s
  refine lv_aload_n (pc := 38) hx hb dJ15_copyOf_3_38 rfl (lv_at hl 0 rfl) ?_
  refine W.widen (k := MC) (n := MS) (by omega) (by omega) ?_
  exact W.aret (pc := 39) (v := .ref v0) hx hb hr (Or.inr ⟨_, rfl⟩) (Or.inr ⟨_, rfl⟩) (fun t ht hW => c_ret (val := vR) (lw := jW) (u := N30) hw h ht) hw.2.2.2 dJ15_copyOf_3_39 hlk
theorem tJ15_copyOf_3_r {l : Launch} {G : gG} (hO : gOk G) {post : Nat → NM → Prop} {MC MS : Nat} {N : NM} {x0 : Nat} {x1 : Int32} {x2 : Nat} {sz : Nat} (h : wJ15_copyOf_3_r (gC G) post MC MS N x0 x1 x2) : Met l yJ15_copyOf_3 (ws_ yJ15_copyOf_3 cJ15_copyOf_3 4 (some (.array (.object "java/lang/Object")))) ⟨1, MC, MS, 60⟩ (va_Pc [.ref x0, .int x1, .ref x2] (cPre G [] N sz)) (gQ vR post (fun u H => cBw G (cA [] N sz) (jW u).1 (jW u).2 H) (cA [] N sz)) MC MS (cA [] N sz) := by
  refine c_ofW (lw := jW) (by decide) hO (Nat.le_of_ble_eq_true rfl) (fun p e s m below meth c ls A X hr hlk hin hw hl => ?_)
  have hl : lv_has ls 4 [(0, .ref x0), (1, .int x1), (2, .ref x2)] := hl
  have hx := X.1.1
  have hb := X.1.2.1
  have hml := X.1.2.2.1
  have hown := X.1.2.2.2.1
  have hts := X.1.2.2.2.2
  obtain ⟨H, eH⟩ : ∃ z, z = s.heap := ⟨_, rfl⟩
  rw [← eH] at hw ⊢
  obtain ⟨locs, eLo⟩ : ∃ z : List Loc, z = [] := ⟨_, rfl⟩
  rw [← eLo] at hw ⊢
  have hbud : 0 + MC ≤ MC ∧ 0 + MS ≤ MS := by omega
  unfold wJ15_copyOf_3_r at h
  refine lv_aload_n (pc := 0) hx hb dJ15_copyOf_3_0 rfl (lv_at hl 2 rfl) ?_
  refine c_ldcM (pc := 1) X q829 dJ15_copyOf_3_1 ?_
  refine lv_acmp_ne (pc := 3) (tgt := 13) (rx := (some x2)) (ry := (some (gC G 4 4))) hx hb dJ15_copyOf_3_3 rfl (fun c1 => ?_) (fun c1 => ?_)
  · have h := h.2 c1
    exact False.elim h
  · have h := h.1 c1
    refine lv_iload_n (pc := 6) hx hb dJ15_copyOf_3_6 rfl (lv_at hl 1 rfl) ?_
    obtain ⟨hm2, hm3, hm4, hm5, h⟩ := h
    refine c_newq (pc := 7) X hw q831 q830 8 rfl hm2 rfl (Nat.le_trans (Nat.mul_le_mul_right _ hm3) (Nat.le_of_ble_eq_true rfl)) (show 0 + 1 ≤ MC by omega) (show 0 + x1.toNatClampNeg ≤ MS by omega) dJ15_copyOf_3_7 (fun nq6 H hq7 _ hw => ?_)
    have h := h nq6 hq7
    obtain ⟨N8, e9⟩ : ∃ z, z = va_up N nq6 (some (eR 8 x1.toNatClampNeg (fun _ => (none : Option Nat)))) := ⟨_, rfl⟩
    have hw : cH G A s [] N8 H locs := by rw [e9]; exact hw
    have h := h N8 e9
    have hN10 : N8 nq6 = some (eR 8 x1.toNatClampNeg (fun _ => (none : Option Nat))) := by rw [e9]; exact up_s
    refine lv_goto (pc := 10) (tgt := 24) hx hb dJ15_copyOf_3_10 rfl ?_
    exact kJ15_copyOf_3_r_24 X hr hlk  _ _ _ _ _ _ _ _ _ _ _ h ⟨hw, by omega⟩ (lv_sub hl [0, 1] rfl)

def wJ15_copyOf_2_r (K : Nat → Nat → Nat) (post : Nat → NM → Prop) (MC MS : Nat) (N : NM) (x0 : Nat) (x1 : Int32) : Prop :=
  ∃ n2 f3, N x0 = some (eR 8 n2 f3) ∧ (∃ mc6 ms7, mc6 ≤ MC ∧ ms7 ≤ MS ∧ wJ15_copyOf_3_r K (fun r4 N5 => post r4 N5) mc6 ms7 N x0 x1 (K 4 4))
theorem tJ15_copyOf_2_r {l : Launch} {G : gG} (hO : gOk G) {post : Nat → NM → Prop} {MC MS : Nat} {N : NM} {x0 : Nat} {x1 : Int32} {sz : Nat} (h : wJ15_copyOf_2_r (gC G) post MC MS N x0 x1) : Met l yJ15_copyOf_2 (ws_ yJ15_copyOf_2 cJ15_copyOf_2 2 (some (.array (.object "java/lang/Object")))) ⟨2, MC, MS, 83⟩ (va_Pc [.ref x0, .int x1] (cPre G [] N sz)) (gQ vR post (fun u H => cBw G (cA [] N sz) (jW u).1 (jW u).2 H) (cA [] N sz)) MC MS (cA [] N sz) := by
  refine c_ofW (lw := jW) (by decide) hO (Nat.le_of_ble_eq_true rfl) (fun p e s m below meth c ls A X hr hlk hin hw hl => ?_)
  have hl : lv_has ls 2 [(0, .ref x0), (1, .int x1)] := hl
  have hx := X.1.1
  have hb := X.1.2.1
  have hml := X.1.2.2.1
  have hown := X.1.2.2.2.1
  have hts := X.1.2.2.2.2
  obtain ⟨H, eH⟩ : ∃ z, z = s.heap := ⟨_, rfl⟩
  rw [← eH] at hw ⊢
  obtain ⟨locs, eLo⟩ : ∃ z : List Loc, z = [] := ⟨_, rfl⟩
  rw [← eLo] at hw ⊢
  have hbud : 0 + MC ≤ MC ∧ 0 + MS ≤ MS := by omega
  unfold wJ15_copyOf_2_r at h
  refine lv_aload_n (pc := 0) hx hb dJ15_copyOf_2_0 rfl (lv_at hl 0 rfl) ?_
  refine lv_iload_n (pc := 1) hx hb dJ15_copyOf_2_1 rfl (lv_at hl 1 rfl) ?_
  refine lv_aload_n (pc := 2) hx hb dJ15_copyOf_2_2 rfl (lv_at hl 0 rfl) ?_
  obtain ⟨n2, f3, hN1, h⟩ := h
  refine c_getC (pc := 3) (rest := [.int x1, .ref x0]) X hw hl.1 q791 q2596 q2595 q792 q825 hN1 (Nat.le_of_ble_eq_true rfl) (Nat.le_of_ble_eq_true rfl) dJ15_copyOf_2_3 ?_
  obtain ⟨mc6, ms7, hm8, hm9, h⟩ := h
  refine c_callJ (pc := 6) (val := vR) X hw (va_runS (g := F0 m 6 ls _) (As := [.ref x0, .int x1, .ref (gC G 4 4)]) (rest := []) X.1 (tJ15_copyOf_3_r X.2.2.1 (sz := H.size) h) (va_cwS 3 hts (lw_S q826 q827 q122 q828) rfl rfl rfl ⟨by decide, by decide, (by decide +kernel : (parseMethodDescriptor yJ15_copyOf_3.desc).map (fun d => d.parameters.length) = some 3)⟩ ⟨Nat.le_of_ble_eq_true rfl, Nat.le_of_ble_eq_true rfl⟩) ⟨cPre_blind, fun U hU hW => ⟨rfl, X.preJ hw hU hW⟩⟩ rfl rfl hl.1 rfl (lv_room (Nat.le_of_ble_eq_true rfl)) dJ15_copyOf_2_6 ⟨show 0 + mc6 ≤ MC by omega, show 0 + ms7 ≤ MS by omega⟩) (fun r4 N5 H locs h hw => ?_)
  refine W.eq (g2 := F0 m 9 ls (.ref r4 :: [])) rfl ?_
  refine W.widen (k := MC) (n := MS) (by omega) (by omega) ?_
  exact W.aret (pc := 9) (v := .ref r4) hx hb hr (Or.inr ⟨_, rfl⟩) (Or.inr ⟨_, rfl⟩) (fun t ht hW => c_ret (val := vR) (lw := jW) (u := N5) hw h ht) hw.2.2.2 dJ15_copyOf_2_9 hlk

def wJ28_grow_r_25 (K : Nat → Nat → Nat) (post : Unit → NM → Prop) (x0 : Nat) (v0 : Int32) (v1 : Int32) (v2 : Int32) (mc ms : Nat) (N : NM) : Prop :=
  wJ13_newLength (fun r12 => ∃ f14 f15 f16 f17, N x0 = some (eO 21 [va_rf f14, .int f15, va_rf f16, .int f17]) ∧ (∃ a18, f14 = some a18 ∧ (∃ mc22 ms23, mc22 ≤ mc ∧ ms23 ≤ ms ∧ wJ15_copyOf_2_r K (fun r20 N21 => ∃ f27 f28 f29 f30, N21 x0 = some (eO 21 [va_rf f27, .int f28, va_rf f29, .int f30]) ∧ (∀ N31, N31 = va_up N21 x0 (some (eO 21 [va_rf (some r20), .int f28, va_rf f29, .int f30])) → (post () N31))) mc22 ms23 N a18 r12))) v2 v1 v0
def wJ28_grow_r (K : Nat → Nat → Nat) (post : Unit → NM → Prop) (MC MS : Nat) (N : NM) (x0 : Nat) (x1 : Int32) : Prop :=
  ∃ f2 f3 f4 f5, N x0 = some (eO 21 [va_rf f2, .int f3, va_rf f4, .int f5]) ∧ (∃ a6, f2 = some a6 ∧ (∃ n9 f10, N a6 = some (eR 8 n9 f10) ∧ ((((64 : Int32) ≤ (nI n9)) → (wJ28_grow_r_25 K post x0 ((nI n9) >>> ((1 : Int32) &&& 31)) (x1 - (nI n9)) (nI n9) MC MS N)) ∧ (¬ ((64 : Int32) ≤ (nI n9)) → (wJ28_grow_r_25 K post x0 ((nI n9) + (2 : Int32)) (x1 - (nI n9)) (nI n9) MC MS N)))))
theorem kJ28_grow_r_25 {p : Program} {l : Launch} {e : Env} {s : State} {m : MethodId} {args : Array Value} {below : List Frame} {meth : Method} {c : Code} {G : gG} {A : Nat → Prop} {MC MS : Nat} {post : Unit → NM → Prop} (X : cX G A RJ28 p s m args c cJ28_grow 4) (hr : meth.sig.returnType = none) (hlk : meth.locks = false) : ∀ (x0 : Nat) (v0 : Int32) (v1 : Int32) (v2 : Int32) (mc ms : Nat) (N : NM) (H : Heap) (locs : List Loc) (ls : Array Slot) (cells slots : Nat), wJ28_grow_r_25 (gC G) post x0 v0 v1 v2 mc ms N → (cH G A s [] N H locs ∧ cells + mc ≤ MC ∧ slots + ms ≤ MS) → lv_has ls 4 [(0, .ref x0)] → W p l e ⟨3, MC, MS, 104⟩ s m args below meth c H locs cells slots (MQ below (gQ vV post (fun u H => cBw G A (jW u).1 (jW u).2 H) A) args s MC MS A) (F0 m 25 ls [.int v0, .int v1, .int v2]) := by
  have hx := X.1.1
  have hb := X.1.2.1
  have hml := X.1.2.2.1
  have hown := X.1.2.2.2.1
  have hts := X.1.2.2.2.2
  intro x0 v0 v1 v2 mc ms N H locs ls cells slots h hw0 hl
  obtain ⟨hw, hbud⟩ := hw0
  unfold wJ28_grow_r_25 at h
  refine s_call (pc := 25) (val := vI) (As := [.int v2, .int v1, .int v0]) (rest := []) X.1 (tJ13_newLength h) (lw_S q1716 q525 q120 q526) ⟨by decide, by decide, (by decide +kernel : (parseMethodDescriptor yJ13_newLength.desc).map (fun d => d.parameters.length) = some 3)⟩ ⟨Nat.le_of_ble_eq_true rfl, Nat.le_of_ble_eq_true rfl⟩ hl.1 (Nat.le_of_ble_eq_true rfl) ⟨show cells ≤ MC by omega, show slots ≤ MS by omega⟩ dJ28_grow_25 rfl (fun r12 h => ?_)
  refine W.eq (g2 := F0 m 28 ls (.int r12 :: [])) rfl ?_
  refine lv_istore_n (pc := 28) (lv' := [(3, .int r12), (0, .ref x0)]) hx hb dJ28_grow_28 rfl hl (by decide) rfl (fun ls hl => ?_)
  refine lv_aload_n (pc := 29) hx hb dJ28_grow_29 rfl (lv_at hl 1 rfl) ?_
  refine lv_aload_n (pc := 30) hx hb dJ28_grow_30 rfl (lv_at hl 1 rfl) ?_
  obtain ⟨f14, f15, f16, f17, hN13, h⟩ := h
  refine c_get (pc := 31) X hw hN13 in_J28 rfl 0 (by decide) q1672 rfl rfl dJ28_grow_31 ?_
  refine lv_iload_n (pc := 34) hx hb dJ28_grow_34 rfl (lv_at hl 0 rfl) ?_
  obtain ⟨a18, hr19, h⟩ := h
  refine W.eq (g2 := F0 m 35 ls [.int r12, .ref a18, .ref x0]) (by rw [hr19]; rfl) ?_
  obtain ⟨mc22, ms23, hm24, hm25, h⟩ := h
  refine c_callJ (pc := 35) (val := vR) X hw (va_runS (g := F0 m 35 ls _) (As := [.ref a18, .int r12]) (rest := [.ref x0]) X.1 (tJ15_copyOf_2_r X.2.2.1 (sz := H.size) h) (va_cwS 2 hts (lw_S q1717 q789 q122 q790) rfl rfl rfl ⟨by decide, by decide, (by decide +kernel : (parseMethodDescriptor yJ15_copyOf_2.desc).map (fun d => d.parameters.length) = some 2)⟩ ⟨Nat.le_of_ble_eq_true rfl, Nat.le_of_ble_eq_true rfl⟩) ⟨cPre_blind, fun U hU hW => ⟨rfl, X.preJ hw hU hW⟩⟩ rfl rfl hl.1 rfl (lv_room (Nat.le_of_ble_eq_true rfl)) dJ28_grow_35 ⟨show cells + mc22 ≤ MC by omega, show slots + ms23 ≤ MS by omega⟩) (fun r20 N21 H locs h hw => ?_)
  refine W.eq (g2 := F0 m 38 ls (.ref r20 :: [.ref x0])) rfl ?_
  obtain ⟨f27, f28, f29, f30, hN26, h⟩ := h
  refine c_put (pc := 38) (v := va_rf (some r20)) X hw hN26 in_J28 tyJ28 tyJ28_ok nmJ28 rfl 0 (by decide) q1672 rfl rfl rfl (rf_na (some r20) _) (rf_fa (some r20) _) (Nat.le_of_ble_eq_true rfl) dJ28_grow_38 (fun H locs hw => ?_)
  obtain ⟨N31, e32⟩ : ∃ z, z = va_up N21 x0 (some (eO 21 [va_rf (some r20), .int f28, va_rf f29, .int f30])) := ⟨_, rfl⟩
  have hw : cH G A s [] N31 H locs := by rw [e32]; exact hw
  have h := h N31 e32
  have hN33 : N31 x0 = some (eO 21 [va_rf (some r20), .int f28, va_rf f29, .int f30]) := by rw [e32]; exact up_s
  refine W.widen (k := MC) (n := MS) (by omega) (by omega) ?_
  exact W.vret (pc := 41) hx hb hr (fun t ht hW => c_ret (val := vV) (lw := jW) (u := N31) (v := ()) hw h ht) hw.2.2.2 dJ28_grow_41 hlk
theorem tJ28_grow_r {l : Launch} {G : gG} (hO : gOk G) {post : Unit → NM → Prop} {MC MS : Nat} {N : NM} {x0 : Nat} {x1 : Int32} {sz : Nat} (h : wJ28_grow_r (gC G) post MC MS N x0 x1) : Met l yJ28_grow (ws_ yJ28_grow cJ28_grow 4 none) ⟨3, MC, MS, 104⟩ (va_Pc [.ref x0, .int x1] (cPre G [] N sz)) (gQ vV post (fun u H => cBw G (cA [] N sz) (jW u).1 (jW u).2 H) (cA [] N sz)) MC MS (cA [] N sz) := by
  refine c_ofW (lw := jW) (by decide) hO (Nat.le_of_ble_eq_true rfl) (fun p e s m below meth c ls A X hr hlk hin hw hl => ?_)
  have hl : lv_has ls 4 [(0, .ref x0), (1, .int x1)] := hl
  have hx := X.1.1
  have hb := X.1.2.1
  have hml := X.1.2.2.1
  have hown := X.1.2.2.2.1
  have hts := X.1.2.2.2.2
  obtain ⟨H, eH⟩ : ∃ z, z = s.heap := ⟨_, rfl⟩
  rw [← eH] at hw ⊢
  obtain ⟨locs, eLo⟩ : ∃ z : List Loc, z = [] := ⟨_, rfl⟩
  rw [← eLo] at hw ⊢
  have hbud : 0 + MC ≤ MC ∧ 0 + MS ≤ MS := by omega
  unfold wJ28_grow_r at h
  refine lv_aload_n (pc := 0) hx hb dJ28_grow_0 rfl (lv_at hl 0 rfl) ?_
  obtain ⟨f2, f3, f4, f5, hN1, h⟩ := h
  refine c_get (pc := 1) X hw hN1 in_J28 rfl 0 (by decide) q1672 rfl rfl dJ28_grow_1 ?_
  obtain ⟨a6, hr7, h⟩ := h
  refine W.eq (g2 := F0 m 4 ls [.ref a6]) (by rw [hr7]; rfl) ?_
  obtain ⟨n9, f10, hN8, h⟩ := h
  refine c_alen (pc := 4) X hw hN8 rfl dJ28_grow_4 ?_
  refine lv_istore_n (pc := 5) (lv' := [(2, .int (nI n9)), (0, .ref x0), (1, .int x1)]) hx hb dJ28_grow_5 rfl hl (by decide) rfl (fun ls hl => ?_)
  refine lv_iload_n (pc := 6) hx hb dJ28_grow_6 rfl (lv_at hl 0 rfl) ?_
  refine lv_iload_n (pc := 7) hx hb dJ28_grow_7 rfl (lv_at hl 2 rfl) ?_
  refine lv_iload_n (pc := 8) hx hb dJ28_grow_8 rfl (lv_at hl 0 rfl) ?_
  refine lv_isub (pc := 9) hx hb dJ28_grow_9 ?_
  refine lv_iload_n (pc := 10) hx hb dJ28_grow_10 rfl (lv_at hl 0 rfl) ?_
  refine lv_bipush (pc := 11) (v := (64 : Int32)) hx hb dJ28_grow_11 (by decide) ?_
  refine lv_icmp_ge (pc := 13) (tgt := 22) hx hb dJ28_grow_13 rfl (fun c11 => ?_) (fun c11 => ?_)
  · have h := h.1 c11
    refine lv_iload_n (pc := 22) hx hb dJ28_grow_22 rfl (lv_at hl 0 rfl) ?_
    refine lv_iconst (pc := 23) (v := (1 : Int32)) hx hb dJ28_grow_23 (by decide) ?_
    refine lv_ishr (pc := 24) hx hb dJ28_grow_24 ?_
    exact kJ28_grow_r_25 X hr hlk  _ _ _ _ _ _ _ _ _ _ _ _ h ⟨hw, by omega⟩ (lv_sub hl [1] rfl)
  · have h := h.2 c11
    refine lv_iload_n (pc := 16) hx hb dJ28_grow_16 rfl (lv_at hl 0 rfl) ?_
    refine lv_iconst (pc := 17) (v := (2 : Int32)) hx hb dJ28_grow_17 (by decide) ?_
    refine lv_iadd (pc := 18) hx hb dJ28_grow_18 ?_
    refine lv_goto (pc := 19) (tgt := 25) hx hb dJ28_grow_19 rfl ?_
    exact kJ28_grow_r_25 X hr hlk  _ _ _ _ _ _ _ _ _ _ _ _ h ⟨hw, by omega⟩ (lv_sub hl [1] rfl)

def wJ28_siftUpComparable_r_47 (K : Nat → Nat → Nat) (post : Unit → NM → Prop) (x0 : Int32) (x2 : Nat) (x3 : Nat) (N : NM) : Prop :=
  ∃ n6 f7, N x2 = some (eR 8 n6 f7) ∧ (vp_in x0 n6 ∧ (∃ f9 f10, N x3 = some (eO 15 [.int f9, .long f10]) ∧ (∀ N11, N11 = va_up N x2 (some (eR 8 n6 (va_up f7 x0.toNatClampNeg (some x3)))) → (post () N11))))
def wJ28_siftUpComparable_r_5 (K : Nat → Nat → Nat) (post : Unit → NM → Prop) : Nat → Int32 → Nat → Nat → NM → Prop
  | 0, _, _, _, _ => False
  | n + 1, x0, x2, x3, N => ((x0 ≤ (0 : Int32)) → (wJ28_siftUpComparable_r_47 K post x0 x2 x3 N)) ∧ (¬ (x0 ≤ (0 : Int32)) → (∃ n16 f17, N x2 = some (eR 8 n16 f17) ∧ (vp_in (((x0 - (1 : Int32)).toUInt32 >>> ((1 : Int32).toUInt32 &&& Int32.toUInt32 31)).toInt32) n16 ∧ (∃ a18, (f17 (((x0 - (1 : Int32)).toUInt32 >>> ((1 : Int32).toUInt32 &&& Int32.toUInt32 31)).toInt32).toNatClampNeg) = some a18 ∧ (∃ f23 f24, N x3 = some (eO 15 [.int f23, .long f24]) ∧ (wX16_compareTo K (fun r20 N21 => ((r20 < (0 : Int32)) → (∃ n27 f28, N21 x2 = some (eR 8 n27 f28) ∧ (vp_in x0 n27 ∧ (∃ f30 f31, N21 a18 = some (eO 15 [.int f30, .long f31]) ∧ (∀ N32, N32 = va_up N21 x2 (some (eR 8 n27 (va_up f28 x0.toNatClampNeg (some a18)))) → (wJ28_siftUpComparable_r_5 K post n (((x0 - (1 : Int32)).toUInt32 >>> ((1 : Int32).toUInt32 &&& Int32.toUInt32 31)).toInt32) x2 x3 N32)))))) ∧ (¬ (r20 < (0 : Int32)) → (wJ28_siftUpComparable_r_47 K post x0 x2 x3 N21))) N x3 a18))))))
def wJ28_siftUpComparable_r (K : Nat → Nat → Nat) (post : Unit → NM → Prop) (N : NM) (x0 : Int32) (x1 : Nat) (x2 : Nat) : Prop :=
  ∃ f2 f3, N x1 = some (eO 15 [.int f2, .long f3]) ∧ ((∃ k, wJ28_siftUpComparable_r_5 K post k x0 x2 x1 N))
theorem kJ28_siftUpComparable_r_47 {p : Program} {l : Launch} {e : Env} {s : State} {m : MethodId} {args : Array Value} {below : List Frame} {meth : Method} {c : Code} {G : gG} {A : Nat → Prop} {post : Unit → NM → Prop} (X : cX G A RJ28 p s m args c cJ28_siftUpComparable 6) (hr : meth.sig.returnType = none) (hlk : meth.locks = false) : ∀ (x0 : Int32) (x2 : Nat) (x3 : Nat) (N : NM) (H : Heap) (locs : List Loc) (ls : Array Slot), wJ28_siftUpComparable_r_47 (gC G) post x0 x2 x3 N → cH G A s [] N H locs → lv_has ls 6 [(0, .int x0), (2, .ref x2), (3, .ref x3)] → W p l e ⟨2, 0, 0, 42⟩ s m args below meth c H locs 0 0 (MQ below (gQ vV post (fun u H => cBw G A (jW u).1 (jW u).2 H) A) args s 0 0 A) (F0 m 47 ls []) := by
  have hx := X.1.1
  have hb := X.1.2.1
  have hml := X.1.2.2.1
  have hown := X.1.2.2.2.1
  have hts := X.1.2.2.2.2
  intro x0 x2 x3 N H locs ls h hw hl
  unfold wJ28_siftUpComparable_r_47 at h
  refine lv_aload_n (pc := 47) hx hb dJ28_siftUpComparable_47 rfl (lv_at hl 1 rfl) ?_
  refine lv_iload_n (pc := 48) hx hb dJ28_siftUpComparable_48 rfl (lv_at hl 0 rfl) ?_
  refine lv_aload_n (pc := 49) hx hb dJ28_siftUpComparable_49 rfl (lv_at hl 2 rfl) ?_
  obtain ⟨n6, f7, hN5, h⟩ := h
  obtain ⟨hi, h⟩ := h
  obtain ⟨f9, f10, hN8, h⟩ := h
  refine c_aast (pc := 50) X hw 8 hN5 rfl (c_anyY X hw hN8 rfl q2583) hi dJ28_siftUpComparable_50 (fun H locs hw => ?_)
  obtain ⟨N11, e12⟩ : ∃ z, z = va_up N x2 (some (eR 8 n6 (va_up f7 x0.toNatClampNeg (some x3)))) := ⟨_, rfl⟩
  have hw : cH G A s [] N11 H locs := by rw [e12]; exact hw
  have h := h N11 e12
  have hN13 : N11 x2 = some (eR 8 n6 (va_up f7 x0.toNatClampNeg (some x3))) := by rw [e12]; exact up_s
  have hN14 := up_k (x := some (eR 8 n6 (va_up f7 x0.toNatClampNeg (some x3)))) hN5 hN8 (show (17 : Nat) ≠ 30 by decide)
  rw [← e12] at hN14
  exact W.vret (pc := 51) hx hb hr (fun t ht hW => c_ret (val := vV) (lw := jW) (u := N11) (v := ()) hw h ht) hw.2.2.2 dJ28_siftUpComparable_51 hlk
theorem kJ28_siftUpComparable_r_5 {p : Program} {l : Launch} {e : Env} {s : State} {m : MethodId} {args : Array Value} {below : List Frame} {meth : Method} {c : Code} {G : gG} {A : Nat → Prop} {post : Unit → NM → Prop} (X : cX G A RJ28 p s m args c cJ28_siftUpComparable 6) (hr : meth.sig.returnType = none) (hlk : meth.locks = false) : ∀ (n : Nat) (x0 : Int32) (x2 : Nat) (x3 : Nat) (N : NM) (H : Heap) (locs : List Loc) (ls : Array Slot), wJ28_siftUpComparable_r_5 (gC G) post n x0 x2 x3 N → cH G A s [] N H locs → lv_has ls 6 [(0, .int x0), (2, .ref x2), (3, .ref x3)] → W p l e ⟨2, 0, 0, 42⟩ s m args below meth c H locs 0 0 (MQ below (gQ vV post (fun u H => cBw G A (jW u).1 (jW u).2 H) A) args s 0 0 A) (F0 m 5 ls []) := by
  have hx := X.1.1
  have hb := X.1.2.1
  have hml := X.1.2.2.1
  have hown := X.1.2.2.2.1
  have hts := X.1.2.2.2.2
  intro n
  induction n with
  | zero =>
    intro x0 x2 x3 N H locs ls h
    exact False.elim h
  | succ n ih =>
    intro x0 x2 x3 N H locs ls h hw hl
    unfold wJ28_siftUpComparable_r_5 at h
    refine lv_iload_n (pc := 5) hx hb dJ28_siftUpComparable_5 rfl (lv_at hl 0 rfl) ?_
    refine lv_if_le (pc := 6) (tgt := 47) hx hb dJ28_siftUpComparable_6 rfl (fun c4 => ?_) (fun c4 => ?_)
    · have h := h.1 c4
      exact kJ28_siftUpComparable_r_47 X hr hlk  _ _ _ _ _ _ _ h hw (lv_sub hl [0, 1, 2] rfl)
    · have h := h.2 c4
      refine lv_iload_n (pc := 9) hx hb dJ28_siftUpComparable_9 rfl (lv_at hl 0 rfl) ?_
      refine lv_iconst (pc := 10) (v := (1 : Int32)) hx hb dJ28_siftUpComparable_10 (by decide) ?_
      refine lv_isub (pc := 11) hx hb dJ28_siftUpComparable_11 ?_
      refine lv_iconst (pc := 12) (v := (1 : Int32)) hx hb dJ28_siftUpComparable_12 (by decide) ?_
      refine lv_iushr (pc := 13) hx hb dJ28_siftUpComparable_13 rfl ?_
      refine lv_istore (pc := 14) (lv' := [(4, .int (((x0 - (1 : Int32)).toUInt32 >>> ((1 : Int32).toUInt32 &&& Int32.toUInt32 31)).toInt32)), (0, .int x0), (2, .ref x2), (3, .ref x3)]) hx hb dJ28_siftUpComparable_14 hl (by decide) rfl (fun ls hl => ?_)
      refine lv_aload_n (pc := 16) hx hb dJ28_siftUpComparable_16 rfl (lv_at hl 2 rfl) ?_
      refine lv_iload (pc := 17) hx hb dJ28_siftUpComparable_17 (lv_at hl 0 rfl) ?_
      obtain ⟨n16, f17, hN15, h⟩ := h
      obtain ⟨hi, h⟩ := h
      refine c_aald (pc := 19) X hw 8 hN15 rfl hi dJ28_siftUpComparable_19 ?_
      refine lq_astore (pc := 20) (lv' := [(5, va_rf (f17 (((x0 - (1 : Int32)).toUInt32 >>> ((1 : Int32).toUInt32 &&& Int32.toUInt32 31)).toInt32).toNatClampNeg)), (4, .int (((x0 - (1 : Int32)).toUInt32 >>> ((1 : Int32).toUInt32 &&& Int32.toUInt32 31)).toInt32)), (0, .int x0), (2, .ref x2), (3, .ref x3)]) hx hb dJ28_siftUpComparable_20 hl (by decide) rfl (fun ls hl => ?_)
      refine lv_aload_n (pc := 22) hx hb dJ28_siftUpComparable_22 rfl (lv_at hl 4 rfl) ?_
      refine lq_aload (pc := 23) hx hb dJ28_siftUpComparable_23 (lv_at hl 0 rfl) ?_
      obtain ⟨a18, hr19, h⟩ := h
      refine W.eq (g2 := F0 m 25 ls [.ref a18, .ref x3]) (by rw [hr19]; rfl) ?_
      obtain ⟨f23, f24, hN22, h⟩ := h
      refine c_callF (pc := 25) (val := vI) X hw (va_runF (X.2.1.1 15 _ rfl).2 (As := [.ref a18]) (rest := []) X.1 (tX16_compareTo X.2.2.1 (sz := H.size) h) (va_cwF 1 hts (lw_app (lw_l4 q1732 q1091 q1093 q151) (lw_meth q1095)) rfl rfl rfl (X.2.2.2.1.Fw ⟨by decide, by decide⟩ X.2.2.1 q1040 q1039 q1094 q1092 q1090) ⟨by decide, by decide, (by decide +kernel : (parseMethodDescriptor yX16_compareTo.desc).map (fun d => d.parameters.length) = some 1)⟩ ⟨Nat.le_of_ble_eq_true rfl, Nat.le_of_ble_eq_true rfl⟩) ⟨cPre_blind, c_recv X hw hN22 rfl, fun U hU hW => ⟨rfl, X.preJ hw hU hW⟩⟩ rfl rfl hl.1 rfl (lv_room (Nat.le_of_ble_eq_true rfl)) dJ28_siftUpComparable_25 ⟨show 0 + 0 ≤ 0 by omega, show 0 + 0 ≤ 0 by omega⟩) (fun r20 N21 H locs h hw => ?_)
      refine W.eq (g2 := F0 m 30 ls (.int r20 :: [])) rfl ?_
      refine lv_if_lt (pc := 30) (tgt := 36) hx hb dJ28_siftUpComparable_30 rfl (fun c25 => ?_) (fun c25 => ?_)
      · have h := h.1 c25
        refine lv_aload_n (pc := 36) hx hb dJ28_siftUpComparable_36 rfl (lv_at hl 3 rfl) ?_
        refine lv_iload_n (pc := 37) hx hb dJ28_siftUpComparable_37 rfl (lv_at hl 2 rfl) ?_
        refine lq_aload (pc := 38) hx hb dJ28_siftUpComparable_38 (lv_at hl 0 rfl) ?_
        obtain ⟨n27, f28, hN26, h⟩ := h
        obtain ⟨hi, h⟩ := h
        refine W.eq (g2 := F0 m 40 ls [.ref a18, .int x0, .ref x2]) (by rw [hr19]; rfl) ?_
        obtain ⟨f30, f31, hN29, h⟩ := h
        refine c_aast (pc := 40) X hw 8 hN26 rfl (c_anyY X hw hN29 rfl q2583) hi dJ28_siftUpComparable_40 (fun H locs hw => ?_)
        obtain ⟨N32, e33⟩ : ∃ z, z = va_up N21 x2 (some (eR 8 n27 (va_up f28 x0.toNatClampNeg (some a18)))) := ⟨_, rfl⟩
        have hw : cH G A s [] N32 H locs := by rw [e33]; exact hw
        have h := h N32 e33
        have hN34 : N32 x2 = some (eR 8 n27 (va_up f28 x0.toNatClampNeg (some a18))) := by rw [e33]; exact up_s
        have hN35 := up_k (x := some (eR 8 n27 (va_up f28 x0.toNatClampNeg (some a18)))) hN26 hN29 (show (17 : Nat) ≠ 30 by decide)
        rw [← e33] at hN35
        refine lv_iload (pc := 41) hx hb dJ28_siftUpComparable_41 (lv_at hl 1 rfl) ?_
        refine lv_istore_n (pc := 43) (lv' := [(0, .int (((x0 - (1 : Int32)).toUInt32 >>> ((1 : Int32).toUInt32 &&& Int32.toUInt32 31)).toInt32)), (5, va_rf (f17 (((x0 - (1 : Int32)).toUInt32 >>> ((1 : Int32).toUInt32 &&& Int32.toUInt32 31)).toInt32).toNatClampNeg)), (4, .int (((x0 - (1 : Int32)).toUInt32 >>> ((1 : Int32).toUInt32 &&& Int32.toUInt32 31)).toInt32)), (2, .ref x2), (3, .ref x3)]) hx hb dJ28_siftUpComparable_43 rfl hl (by decide) rfl (fun ls hl => ?_)
        refine lv_goto (pc := 44) (tgt := 5) hx hb dJ28_siftUpComparable_44 rfl ?_
        exact ih _ _ _ _ _ _ _ h hw (lv_sub hl [0, 3, 4] rfl)
      · have h := h.2 c25
        refine lv_goto (pc := 33) (tgt := 47) hx hb dJ28_siftUpComparable_33 rfl ?_
        exact kJ28_siftUpComparable_r_47 X hr hlk  _ _ _ _ _ _ _ h hw (lv_sub hl [2, 3, 4] rfl)
theorem tJ28_siftUpComparable_r {l : Launch} {G : gG} (hO : gOk G) {post : Unit → NM → Prop} {N : NM} {x0 : Int32} {x1 : Nat} {x2 : Nat} {sz : Nat} (h : wJ28_siftUpComparable_r (gC G) post N x0 x1 x2) : Met l yJ28_siftUpComparable (ws_ yJ28_siftUpComparable cJ28_siftUpComparable 6 none) ⟨2, 0, 0, 42⟩ (va_Pc [.int x0, .ref x1, .ref x2] (cPre G [] N sz)) (gQ vV post (fun u H => cBw G (cA [] N sz) (jW u).1 (jW u).2 H) (cA [] N sz)) 0 0 (cA [] N sz) := by
  refine c_ofW (lw := jW) (by decide) hO (Nat.le_of_ble_eq_true rfl) (fun p e s m below meth c ls A X hr hlk hin hw hl => ?_)
  have hl : lv_has ls 6 [(0, .int x0), (1, .ref x1), (2, .ref x2)] := hl
  have hx := X.1.1
  have hb := X.1.2.1
  have hml := X.1.2.2.1
  have hown := X.1.2.2.2.1
  have hts := X.1.2.2.2.2
  obtain ⟨H, eH⟩ : ∃ z, z = s.heap := ⟨_, rfl⟩
  rw [← eH] at hw ⊢
  obtain ⟨locs, eLo⟩ : ∃ z : List Loc, z = [] := ⟨_, rfl⟩
  rw [← eLo] at hw ⊢
  unfold wJ28_siftUpComparable_r at h
  refine lv_aload_n (pc := 0) hx hb dJ28_siftUpComparable_0 rfl (lv_at hl 1 rfl) ?_
  obtain ⟨f2, f3, hN1, h⟩ := h
  refine c_castY (pc := 1) X hw hN1 rfl q1090 q1730 dJ28_siftUpComparable_1 ?_
  refine lv_astore_n (pc := 4) (lv' := [(3, .ref x1), (0, .int x0), (1, .ref x1), (2, .ref x2)]) hx hb dJ28_siftUpComparable_4 rfl hl (by decide) rfl (fun ls hl => ?_)
  obtain ⟨k, h⟩ := h
  exact kJ28_siftUpComparable_r_5 X hr hlk  k _ _ _ _ _ _ _ h hw (lv_sub hl [1, 3, 0] rfl)

def wJ28_siftDownComparable_r_94 (K : Nat → Nat → Nat) (post : Unit → NM → Prop) (x0 : Int32) (x2 : Nat) (x4 : Nat) (N : NM) : Prop :=
  ∃ n6 f7, N x2 = some (eR 8 n6 f7) ∧ (vp_in x0 n6 ∧ (∃ f9 f10, N x4 = some (eO 15 [.int f9, .long f10]) ∧ (∀ N11, N11 = va_up N x2 (some (eR 8 n6 (va_up f7 x0.toNatClampNeg (some x4)))) → (post () N11))))
def wJ28_siftDownComparable_r_68 (K : Nat → Nat → Nat) (K11 : Int32 → Nat → Int32 → Nat → Int32 → NM → Prop) (post : Unit → NM → Prop) (x0 : Int32) (x2 : Nat) (x3 : Int32) (x4 : Nat) (x5 : Int32) (x6 : Int32) (x7 : Option Nat) (N : NM) : Prop :=
  ∃ a19, x7 = some a19 ∧ (∃ f24 f25, N x4 = some (eO 15 [.int f24, .long f25]) ∧ (wX16_compareTo K (fun r21 N22 => (((0 : Int32) < r21) → (∃ n28 f29, N22 x2 = some (eR 8 n28 f29) ∧ (vp_in x0 n28 ∧ (∃ f31 f32, N22 a19 = some (eO 15 [.int f31, .long f32]) ∧ (∀ N33, N33 = va_up N22 x2 (some (eR 8 n28 (va_up f29 x0.toNatClampNeg (some a19)))) → (K11 x6 x2 x3 x4 x5 N33)))))) ∧ (¬ ((0 : Int32) < r21) → (wJ28_siftDownComparable_r_94 K post x0 x2 x4 N22))) N x4 a19))
def wJ28_siftDownComparable_r_11 (K : Nat → Nat → Nat) (post : Unit → NM → Prop) : Nat → Int32 → Nat → Int32 → Nat → Int32 → NM → Prop
  | 0, _, _, _, _, _, _ => False
  | n + 1, x0, x2, x3, x4, x5, N => ((x5 ≤ x0) → (wJ28_siftDownComparable_r_94 K post x0 x2 x4 N)) ∧ (¬ (x5 ≤ x0) → (∃ n16 f17, N x2 = some (eR 8 n16 f17) ∧ (vp_in ((x0 <<< ((1 : Int32) &&& 31)) + (1 : Int32)) n16 ∧ (((x3 ≤ (((x0 <<< ((1 : Int32) &&& 31)) + (1 : Int32)) + (1 : Int32))) → (wJ28_siftDownComparable_r_68 K (fun x0 x2 x3 x4 x5 N => wJ28_siftDownComparable_r_11 K post n x0 x2 x3 x4 x5 N) post x0 x2 x3 x4 x5 ((x0 <<< ((1 : Int32) &&& 31)) + (1 : Int32)) (f17 ((x0 <<< ((1 : Int32) &&& 31)) + (1 : Int32)).toNatClampNeg) N)) ∧ (¬ (x3 ≤ (((x0 <<< ((1 : Int32) &&& 31)) + (1 : Int32)) + (1 : Int32))) → (∃ a37, (f17 ((x0 <<< ((1 : Int32) &&& 31)) + (1 : Int32)).toNatClampNeg) = some a37 ∧ (∃ f40 f41, N a37 = some (eO 15 [.int f40, .long f41]) ∧ (vp_in (((x0 <<< ((1 : Int32) &&& 31)) + (1 : Int32)) + (1 : Int32)) n16 ∧ (∃ a42, (f17 (((x0 <<< ((1 : Int32) &&& 31)) + (1 : Int32)) + (1 : Int32)).toNatClampNeg) = some a42 ∧ (wX16_compareTo K (fun r44 N45 => ((r44 ≤ (0 : Int32)) → (wJ28_siftDownComparable_r_68 K (fun x0 x2 x3 x4 x5 N => wJ28_siftDownComparable_r_11 K post n x0 x2 x3 x4 x5 N) post x0 x2 x3 x4 x5 ((x0 <<< ((1 : Int32) &&& 31)) + (1 : Int32)) (f17 ((x0 <<< ((1 : Int32) &&& 31)) + (1 : Int32)).toNatClampNeg) N45)) ∧ (¬ (r44 ≤ (0 : Int32)) → (∃ n48 f49, N45 x2 = some (eR 8 n48 f49) ∧ (vp_in (((x0 <<< ((1 : Int32) &&& 31)) + (1 : Int32)) + (1 : Int32)) n48 ∧ (wJ28_siftDownComparable_r_68 K (fun x0 x2 x3 x4 x5 N => wJ28_siftDownComparable_r_11 K post n x0 x2 x3 x4 x5 N) post x0 x2 x3 x4 x5 (((x0 <<< ((1 : Int32) &&& 31)) + (1 : Int32)) + (1 : Int32)) (f49 (((x0 <<< ((1 : Int32) &&& 31)) + (1 : Int32)) + (1 : Int32)).toNatClampNeg) N45))))) N a37 a42))))))))))
def wJ28_siftDownComparable_r (K : Nat → Nat → Nat) (post : Unit → NM → Prop) (N : NM) (x0 : Int32) (x1 : Nat) (x2 : Nat) (x3 : Int32) : Prop :=
  ∃ f2 f3, N x1 = some (eO 15 [.int f2, .long f3]) ∧ ((∃ k, wJ28_siftDownComparable_r_11 K post k x0 x2 x3 x1 ((x3.toUInt32 >>> ((1 : Int32).toUInt32 &&& Int32.toUInt32 31)).toInt32) N))
theorem kJ28_siftDownComparable_r_94 {p : Program} {l : Launch} {e : Env} {s : State} {m : MethodId} {args : Array Value} {below : List Frame} {meth : Method} {c : Code} {G : gG} {A : Nat → Prop} {post : Unit → NM → Prop} (X : cX G A RJ28 p s m args c cJ28_siftDownComparable 9) (hr : meth.sig.returnType = none) (hlk : meth.locks = false) : ∀ (x0 : Int32) (x2 : Nat) (x4 : Nat) (N : NM) (H : Heap) (locs : List Loc) (ls : Array Slot), wJ28_siftDownComparable_r_94 (gC G) post x0 x2 x4 N → cH G A s [] N H locs → lv_has ls 9 [(0, .int x0), (2, .ref x2), (4, .ref x4)] → W p l e ⟨2, 0, 0, 42⟩ s m args below meth c H locs 0 0 (MQ below (gQ vV post (fun u H => cBw G A (jW u).1 (jW u).2 H) A) args s 0 0 A) (F0 m 94 ls []) := by
  have hx := X.1.1
  have hb := X.1.2.1
  have hml := X.1.2.2.1
  have hown := X.1.2.2.2.1
  have hts := X.1.2.2.2.2
  intro x0 x2 x4 N H locs ls h hw hl
  unfold wJ28_siftDownComparable_r_94 at h
  refine lv_aload_n (pc := 94) hx hb dJ28_siftDownComparable_94 rfl (lv_at hl 1 rfl) ?_
  refine lv_iload_n (pc := 95) hx hb dJ28_siftDownComparable_95 rfl (lv_at hl 0 rfl) ?_
  refine lv_aload (pc := 96) hx hb dJ28_siftDownComparable_96 (lv_at hl 2 rfl) ?_
  obtain ⟨n6, f7, hN5, h⟩ := h
  obtain ⟨hi, h⟩ := h
  obtain ⟨f9, f10, hN8, h⟩ := h
  refine c_aast (pc := 98) X hw 8 hN5 rfl (c_anyY X hw hN8 rfl q2583) hi dJ28_siftDownComparable_98 (fun H locs hw => ?_)
  obtain ⟨N11, e12⟩ : ∃ z, z = va_up N x2 (some (eR 8 n6 (va_up f7 x0.toNatClampNeg (some x4)))) := ⟨_, rfl⟩
  have hw : cH G A s [] N11 H locs := by rw [e12]; exact hw
  have h := h N11 e12
  have hN13 : N11 x2 = some (eR 8 n6 (va_up f7 x0.toNatClampNeg (some x4))) := by rw [e12]; exact up_s
  have hN14 := up_k (x := some (eR 8 n6 (va_up f7 x0.toNatClampNeg (some x4)))) hN5 hN8 (show (17 : Nat) ≠ 30 by decide)
  rw [← e12] at hN14
  exact W.vret (pc := 99) hx hb hr (fun t ht hW => c_ret (val := vV) (lw := jW) (u := N11) (v := ()) hw h ht) hw.2.2.2 dJ28_siftDownComparable_99 hlk
theorem kJ28_siftDownComparable_r_68 {p : Program} {l : Launch} {e : Env} {s : State} {m : MethodId} {args : Array Value} {below : List Frame} {meth : Method} {c : Code} {G : gG} {A : Nat → Prop} {K11 : Int32 → Nat → Int32 → Nat → Int32 → NM → Prop} {post : Unit → NM → Prop} (X : cX G A RJ28 p s m args c cJ28_siftDownComparable 9) (hr : meth.sig.returnType = none) (hlk : meth.locks = false) (hK11 : ∀ (x0 : Int32) (x2 : Nat) (x3 : Int32) (x4 : Nat) (x5 : Int32) (N : NM) (H : Heap) (locs : List Loc) (ls : Array Slot), K11 x0 x2 x3 x4 x5 N → cH G A s [] N H locs → lv_has ls 9 [(0, .int x0), (2, .ref x2), (3, .int x3), (4, .ref x4), (5, .int x5)] → W p l e ⟨2, 0, 0, 42⟩ s m args below meth c H locs 0 0 (MQ below (gQ vV post (fun u H => cBw G A (jW u).1 (jW u).2 H) A) args s 0 0 A) (F0 m 11 ls [])) : ∀ (x0 : Int32) (x2 : Nat) (x3 : Int32) (x4 : Nat) (x5 : Int32) (x6 : Int32) (x7 : Option Nat) (N : NM) (H : Heap) (locs : List Loc) (ls : Array Slot), wJ28_siftDownComparable_r_68 (gC G) K11 post x0 x2 x3 x4 x5 x6 x7 N → cH G A s [] N H locs → lv_has ls 9 [(0, .int x0), (2, .ref x2), (3, .int x3), (4, .ref x4), (5, .int x5), (6, .int x6), (7, va_rf x7)] → W p l e ⟨2, 0, 0, 42⟩ s m args below meth c H locs 0 0 (MQ below (gQ vV post (fun u H => cBw G A (jW u).1 (jW u).2 H) A) args s 0 0 A) (F0 m 68 ls []) := by
  have hx := X.1.1
  have hb := X.1.2.1
  have hml := X.1.2.2.1
  have hown := X.1.2.2.2.1
  have hts := X.1.2.2.2.2
  intro x0 x2 x3 x4 x5 x6 x7 N H locs ls h hw hl
  unfold wJ28_siftDownComparable_r_68 at h
  refine lv_aload (pc := 68) hx hb dJ28_siftDownComparable_68 (lv_at hl 3 rfl) ?_
  refine lq_aload (pc := 70) hx hb dJ28_siftDownComparable_70 (lv_at hl 6 rfl) ?_
  obtain ⟨a19, hr20, h⟩ := h
  refine W.eq (g2 := F0 m 72 ls [.ref a19, .ref x4]) (by rw [hr20]; rfl) ?_
  obtain ⟨f24, f25, hN23, h⟩ := h
  refine c_callF (pc := 72) (val := vI) X hw (va_runF (X.2.1.1 15 _ rfl).2 (As := [.ref a19]) (rest := []) X.1 (tX16_compareTo X.2.2.1 (sz := H.size) h) (va_cwF 1 hts (lw_app (lw_l4 q1732 q1091 q1093 q151) (lw_meth q1095)) rfl rfl rfl (X.2.2.2.1.Fw ⟨by decide, by decide⟩ X.2.2.1 q1040 q1039 q1094 q1092 q1090) ⟨by decide, by decide, (by decide +kernel : (parseMethodDescriptor yX16_compareTo.desc).map (fun d => d.parameters.length) = some 1)⟩ ⟨Nat.le_of_ble_eq_true rfl, Nat.le_of_ble_eq_true rfl⟩) ⟨cPre_blind, c_recv X hw hN23 rfl, fun U hU hW => ⟨rfl, X.preJ hw hU hW⟩⟩ rfl rfl hl.1 rfl (lv_room (Nat.le_of_ble_eq_true rfl)) dJ28_siftDownComparable_72 ⟨show 0 + 0 ≤ 0 by omega, show 0 + 0 ≤ 0 by omega⟩) (fun r21 N22 H locs h hw => ?_)
  refine W.eq (g2 := F0 m 77 ls (.int r21 :: [])) rfl ?_
  refine lv_if_gt (pc := 77) (tgt := 83) hx hb dJ28_siftDownComparable_77 rfl (fun c26 => ?_) (fun c26 => ?_)
  · have h := h.1 c26
    refine lv_aload_n (pc := 83) hx hb dJ28_siftDownComparable_83 rfl (lv_at hl 1 rfl) ?_
    refine lv_iload_n (pc := 84) hx hb dJ28_siftDownComparable_84 rfl (lv_at hl 0 rfl) ?_
    refine lq_aload (pc := 85) hx hb dJ28_siftDownComparable_85 (lv_at hl 6 rfl) ?_
    obtain ⟨n28, f29, hN27, h⟩ := h
    obtain ⟨hi, h⟩ := h
    refine W.eq (g2 := F0 m 87 ls [.ref a19, .int x0, .ref x2]) (by rw [hr20]; rfl) ?_
    obtain ⟨f31, f32, hN30, h⟩ := h
    refine c_aast (pc := 87) X hw 8 hN27 rfl (c_anyY X hw hN30 rfl q2583) hi dJ28_siftDownComparable_87 (fun H locs hw => ?_)
    obtain ⟨N33, e34⟩ : ∃ z, z = va_up N22 x2 (some (eR 8 n28 (va_up f29 x0.toNatClampNeg (some a19)))) := ⟨_, rfl⟩
    have hw : cH G A s [] N33 H locs := by rw [e34]; exact hw
    have h := h N33 e34
    have hN35 : N33 x2 = some (eR 8 n28 (va_up f29 x0.toNatClampNeg (some a19))) := by rw [e34]; exact up_s
    have hN36 := up_k (x := some (eR 8 n28 (va_up f29 x0.toNatClampNeg (some a19)))) hN27 hN30 (show (17 : Nat) ≠ 30 by decide)
    rw [← e34] at hN36
    refine lv_iload (pc := 88) hx hb dJ28_siftDownComparable_88 (lv_at hl 5 rfl) ?_
    refine lv_istore_n (pc := 90) (lv' := [(0, .int x6), (2, .ref x2), (3, .int x3), (4, .ref x4), (5, .int x5), (6, .int x6), (7, va_rf x7)]) hx hb dJ28_siftDownComparable_90 rfl hl (by decide) rfl (fun ls hl => ?_)
    refine lv_goto (pc := 91) (tgt := 11) hx hb dJ28_siftDownComparable_91 rfl ?_
    exact hK11 _ _ _ _ _ _ _ _ _ h hw (lv_sub hl [0, 1, 2, 3, 4] rfl)
  · have h := h.2 c26
    refine lv_goto (pc := 80) (tgt := 94) hx hb dJ28_siftDownComparable_80 rfl ?_
    exact kJ28_siftDownComparable_r_94 X hr hlk  _ _ _ _ _ _ _ h hw (lv_sub hl [0, 1, 3] rfl)
theorem kJ28_siftDownComparable_r_11 {p : Program} {l : Launch} {e : Env} {s : State} {m : MethodId} {args : Array Value} {below : List Frame} {meth : Method} {c : Code} {G : gG} {A : Nat → Prop} {post : Unit → NM → Prop} (X : cX G A RJ28 p s m args c cJ28_siftDownComparable 9) (hr : meth.sig.returnType = none) (hlk : meth.locks = false) : ∀ (n : Nat) (x0 : Int32) (x2 : Nat) (x3 : Int32) (x4 : Nat) (x5 : Int32) (N : NM) (H : Heap) (locs : List Loc) (ls : Array Slot), wJ28_siftDownComparable_r_11 (gC G) post n x0 x2 x3 x4 x5 N → cH G A s [] N H locs → lv_has ls 9 [(0, .int x0), (2, .ref x2), (3, .int x3), (4, .ref x4), (5, .int x5)] → W p l e ⟨2, 0, 0, 42⟩ s m args below meth c H locs 0 0 (MQ below (gQ vV post (fun u H => cBw G A (jW u).1 (jW u).2 H) A) args s 0 0 A) (F0 m 11 ls []) := by
  have hx := X.1.1
  have hb := X.1.2.1
  have hml := X.1.2.2.1
  have hown := X.1.2.2.2.1
  have hts := X.1.2.2.2.2
  intro n
  induction n with
  | zero =>
    intro x0 x2 x3 x4 x5 N H locs ls h
    exact False.elim h
  | succ n ih =>
    intro x0 x2 x3 x4 x5 N H locs ls h hw hl
    unfold wJ28_siftDownComparable_r_11 at h
    refine lv_iload_n (pc := 11) hx hb dJ28_siftDownComparable_11 rfl (lv_at hl 0 rfl) ?_
    refine lv_iload (pc := 12) hx hb dJ28_siftDownComparable_12 (lv_at hl 4 rfl) ?_
    refine lv_icmp_ge (pc := 14) (tgt := 94) hx hb dJ28_siftDownComparable_14 rfl (fun c4 => ?_) (fun c4 => ?_)
    · have h := h.1 c4
      exact kJ28_siftDownComparable_r_94 X hr hlk  _ _ _ _ _ _ _ h hw (lv_sub hl [0, 1, 3] rfl)
    · have h := h.2 c4
      refine lv_iload_n (pc := 17) hx hb dJ28_siftDownComparable_17 rfl (lv_at hl 0 rfl) ?_
      refine lv_iconst (pc := 18) (v := (1 : Int32)) hx hb dJ28_siftDownComparable_18 (by decide) ?_
      refine lv_ishl (pc := 19) hx hb dJ28_siftDownComparable_19 ?_
      refine lv_iconst (pc := 20) (v := (1 : Int32)) hx hb dJ28_siftDownComparable_20 (by decide) ?_
      refine lv_iadd (pc := 21) hx hb dJ28_siftDownComparable_21 ?_
      refine lv_istore (pc := 22) (lv' := [(6, .int ((x0 <<< ((1 : Int32) &&& 31)) + (1 : Int32))), (0, .int x0), (2, .ref x2), (3, .int x3), (4, .ref x4), (5, .int x5)]) hx hb dJ28_siftDownComparable_22 hl (by decide) rfl (fun ls hl => ?_)
      refine lv_aload_n (pc := 24) hx hb dJ28_siftDownComparable_24 rfl (lv_at hl 2 rfl) ?_
      refine lv_iload (pc := 25) hx hb dJ28_siftDownComparable_25 (lv_at hl 0 rfl) ?_
      obtain ⟨n16, f17, hN15, h⟩ := h
      obtain ⟨hi, h⟩ := h
      refine c_aald (pc := 27) X hw 8 hN15 rfl hi dJ28_siftDownComparable_27 ?_
      refine lq_astore (pc := 28) (lv' := [(7, va_rf (f17 ((x0 <<< ((1 : Int32) &&& 31)) + (1 : Int32)).toNatClampNeg)), (6, .int ((x0 <<< ((1 : Int32) &&& 31)) + (1 : Int32))), (0, .int x0), (2, .ref x2), (3, .int x3), (4, .ref x4), (5, .int x5)]) hx hb dJ28_siftDownComparable_28 hl (by decide) rfl (fun ls hl => ?_)
      refine lv_iload (pc := 30) hx hb dJ28_siftDownComparable_30 (lv_at hl 1 rfl) ?_
      refine lv_iconst (pc := 32) (v := (1 : Int32)) hx hb dJ28_siftDownComparable_32 (by decide) ?_
      refine lv_iadd (pc := 33) hx hb dJ28_siftDownComparable_33 ?_
      refine lv_istore (pc := 34) (i := 8) (lv' := [(8, .int (((x0 <<< ((1 : Int32) &&& 31)) + (1 : Int32)) + (1 : Int32))), (7, va_rf (f17 ((x0 <<< ((1 : Int32) &&& 31)) + (1 : Int32)).toNatClampNeg)), (6, .int ((x0 <<< ((1 : Int32) &&& 31)) + (1 : Int32))), (0, .int x0), (2, .ref x2), (3, .int x3), (4, .ref x4), (5, .int x5)]) hx hb dJ28_siftDownComparable_34 hl (by decide) (by simp [rf_c]) (fun ls hl => ?_)
      refine lv_iload (pc := 36) hx hb dJ28_siftDownComparable_36 (lv_at hl 0 rfl) ?_
      refine lv_iload_n (pc := 38) hx hb dJ28_siftDownComparable_38 rfl (lv_at hl 5 rfl) ?_
      refine lv_icmp_ge (pc := 39) (tgt := 68) hx hb dJ28_siftDownComparable_39 rfl (fun c18 => ?_) (fun c18 => ?_)
      · have h := h.1 c18
        exact kJ28_siftDownComparable_r_68 X hr hlk ih _ _ _ _ _ _ _ _ _ _ _ h hw (lv_sub hl [3, 4, 5, 6, 7, 2, 1] rfl)
      · have h := h.2 c18
        refine lq_aload (pc := 42) hx hb dJ28_siftDownComparable_42 (lv_at hl 1 rfl) ?_
        obtain ⟨a37, hr38, h⟩ := h
        refine W.eq (g2 := F0 m 44 ls [.ref a37]) (by rw [hr38]; rfl) ?_
        obtain ⟨f40, f41, hN39, h⟩ := h
        refine c_castY (pc := 44) X hw hN39 rfl q1090 q1730 dJ28_siftDownComparable_44 ?_
        refine lv_aload_n (pc := 47) hx hb dJ28_siftDownComparable_47 rfl (lv_at hl 4 rfl) ?_
        refine lv_iload (pc := 48) hx hb dJ28_siftDownComparable_48 (lv_at hl 0 rfl) ?_
        obtain ⟨hi, h⟩ := h
        refine c_aald (pc := 50) X hw 8 hN15 rfl hi dJ28_siftDownComparable_50 ?_
        obtain ⟨a42, hr43, h⟩ := h
        refine W.eq (g2 := F0 m 51 ls [.ref a42, .ref a37]) (by rw [hr43]; rfl) ?_
        refine c_callF (pc := 51) (val := vI) X hw (va_runF (X.2.1.1 15 _ rfl).2 (As := [.ref a42]) (rest := []) X.1 (tX16_compareTo X.2.2.1 (sz := H.size) h) (va_cwF 1 hts (lw_app (lw_l4 q1732 q1091 q1093 q151) (lw_meth q1095)) rfl rfl rfl (X.2.2.2.1.Fw ⟨by decide, by decide⟩ X.2.2.1 q1040 q1039 q1094 q1092 q1090) ⟨by decide, by decide, (by decide +kernel : (parseMethodDescriptor yX16_compareTo.desc).map (fun d => d.parameters.length) = some 1)⟩ ⟨Nat.le_of_ble_eq_true rfl, Nat.le_of_ble_eq_true rfl⟩) ⟨cPre_blind, c_recv X hw hN39 rfl, fun U hU hW => ⟨rfl, X.preJ hw hU hW⟩⟩ rfl rfl hl.1 rfl (lv_room (Nat.le_of_ble_eq_true rfl)) dJ28_siftDownComparable_51 ⟨show 0 + 0 ≤ 0 by omega, show 0 + 0 ≤ 0 by omega⟩) (fun r44 N45 H locs h hw => ?_)
        refine W.eq (g2 := F0 m 56 ls (.int r44 :: [])) rfl ?_
        refine lv_if_le (pc := 56) (tgt := 68) hx hb dJ28_siftDownComparable_56 rfl (fun c46 => ?_) (fun c46 => ?_)
        · have h := h.1 c46
          exact kJ28_siftDownComparable_r_68 X hr hlk ih _ _ _ _ _ _ _ _ _ _ _ h hw (lv_sub hl [3, 4, 5, 6, 7, 2, 1] rfl)
        · have h := h.2 c46
          refine lv_aload_n (pc := 59) hx hb dJ28_siftDownComparable_59 rfl (lv_at hl 4 rfl) ?_
          refine lv_iload (pc := 60) hx hb dJ28_siftDownComparable_60 (lv_at hl 0 rfl) ?_
          refine lv_dup (pc := 62) hx hb dJ28_siftDownComparable_62 rfl ?_
          refine lv_istore (pc := 63) (lv' := [(6, .int (((x0 <<< ((1 : Int32) &&& 31)) + (1 : Int32)) + (1 : Int32))), (8, .int (((x0 <<< ((1 : Int32) &&& 31)) + (1 : Int32)) + (1 : Int32))), (7, va_rf (f17 ((x0 <<< ((1 : Int32) &&& 31)) + (1 : Int32)).toNatClampNeg)), (0, .int x0), (2, .ref x2), (3, .int x3), (4, .ref x4), (5, .int x5)]) hx hb dJ28_siftDownComparable_63 hl (by decide) rfl (fun ls hl => ?_)
          obtain ⟨n48, f49, hN47, h⟩ := h
          obtain ⟨hi, h⟩ := h
          refine c_aald (pc := 65) X hw 8 hN47 rfl hi dJ28_siftDownComparable_65 ?_
          refine lq_astore (pc := 66) (lv' := [(7, va_rf (f49 (((x0 <<< ((1 : Int32) &&& 31)) + (1 : Int32)) + (1 : Int32)).toNatClampNeg)), (6, .int (((x0 <<< ((1 : Int32) &&& 31)) + (1 : Int32)) + (1 : Int32))), (8, .int (((x0 <<< ((1 : Int32) &&& 31)) + (1 : Int32)) + (1 : Int32))), (0, .int x0), (2, .ref x2), (3, .int x3), (4, .ref x4), (5, .int x5)]) hx hb dJ28_siftDownComparable_66 hl (by decide) rfl (fun ls hl => ?_)
          exact kJ28_siftDownComparable_r_68 X hr hlk ih _ _ _ _ _ _ _ _ _ _ _ h hw (lv_sub hl [3, 4, 5, 6, 7, 1, 0] rfl)
theorem tJ28_siftDownComparable_r {l : Launch} {G : gG} (hO : gOk G) {post : Unit → NM → Prop} {N : NM} {x0 : Int32} {x1 : Nat} {x2 : Nat} {x3 : Int32} {sz : Nat} (h : wJ28_siftDownComparable_r (gC G) post N x0 x1 x2 x3) : Met l yJ28_siftDownComparable (ws_ yJ28_siftDownComparable cJ28_siftDownComparable 9 none) ⟨2, 0, 0, 42⟩ (va_Pc [.int x0, .ref x1, .ref x2, .int x3] (cPre G [] N sz)) (gQ vV post (fun u H => cBw G (cA [] N sz) (jW u).1 (jW u).2 H) (cA [] N sz)) 0 0 (cA [] N sz) := by
  refine c_ofW (lw := jW) (by decide) hO (Nat.le_of_ble_eq_true rfl) (fun p e s m below meth c ls A X hr hlk hin hw hl => ?_)
  have hl : lv_has ls 9 [(0, .int x0), (1, .ref x1), (2, .ref x2), (3, .int x3)] := hl
  have hx := X.1.1
  have hb := X.1.2.1
  have hml := X.1.2.2.1
  have hown := X.1.2.2.2.1
  have hts := X.1.2.2.2.2
  obtain ⟨H, eH⟩ : ∃ z, z = s.heap := ⟨_, rfl⟩
  rw [← eH] at hw ⊢
  obtain ⟨locs, eLo⟩ : ∃ z : List Loc, z = [] := ⟨_, rfl⟩
  rw [← eLo] at hw ⊢
  unfold wJ28_siftDownComparable_r at h
  refine lv_aload_n (pc := 0) hx hb dJ28_siftDownComparable_0 rfl (lv_at hl 1 rfl) ?_
  obtain ⟨f2, f3, hN1, h⟩ := h
  refine c_castY (pc := 1) X hw hN1 rfl q1090 q1730 dJ28_siftDownComparable_1 ?_
  refine lv_astore (pc := 4) (lv' := [(4, .ref x1), (0, .int x0), (1, .ref x1), (2, .ref x2), (3, .int x3)]) hx hb dJ28_siftDownComparable_4 hl (by decide) rfl (fun ls hl => ?_)
  refine lv_iload_n (pc := 6) hx hb dJ28_siftDownComparable_6 rfl (lv_at hl 4 rfl) ?_
  refine lv_iconst (pc := 7) (v := (1 : Int32)) hx hb dJ28_siftDownComparable_7 (by decide) ?_
  refine lv_iushr (pc := 8) hx hb dJ28_siftDownComparable_8 rfl ?_
  refine lv_istore (pc := 9) (lv' := [(5, .int ((x3.toUInt32 >>> ((1 : Int32).toUInt32 &&& Int32.toUInt32 31)).toInt32)), (4, .ref x1), (0, .int x0), (1, .ref x1), (2, .ref x2), (3, .int x3)]) hx hb dJ28_siftDownComparable_9 hl (by decide) rfl (fun ls hl => ?_)
  obtain ⟨k, h⟩ := h
  exact kJ28_siftDownComparable_r_11 X hr hlk  k _ _ _ _ _ _ _ _ _ h hw (lv_sub hl [2, 4, 5, 1, 0] rfl)

def wJ28_siftUp_r (K : Nat → Nat → Nat) (post : Unit → NM → Prop) (N : NM) (x0 : Nat) (x1 : Int32) (x2 : Nat) : Prop :=
  ∃ f2 f3 f4 f5, N x0 = some (eO 21 [va_rf f2, .int f3, va_rf f4, .int f5]) ∧ ((f4 = none → (∃ a9, f2 = some a9 ∧ (wJ28_siftUpComparable_r K (fun _ N12 => post () N12) N x1 x2 a9))) ∧ (∀ a7, f4 = some a7 → (False)))
theorem tJ28_siftUp_r {l : Launch} {G : gG} (hO : gOk G) {post : Unit → NM → Prop} {N : NM} {x0 : Nat} {x1 : Int32} {x2 : Nat} {sz : Nat} (h : wJ28_siftUp_r (gC G) post N x0 x1 x2) : Met l yJ28_siftUp (ws_ yJ28_siftUp cJ28_siftUp 3 none) ⟨3, 0, 0, 67⟩ (va_Pc [.ref x0, .int x1, .ref x2] (cPre G [] N sz)) (gQ vV post (fun u H => cBw G (cA [] N sz) (jW u).1 (jW u).2 H) (cA [] N sz)) 0 0 (cA [] N sz) := by
  refine c_ofW (lw := jW) (by decide) hO (Nat.le_of_ble_eq_true rfl) (fun p e s m below meth c ls A X hr hlk hin hw hl => ?_)
  have hl : lv_has ls 3 [(0, .ref x0), (1, .int x1), (2, .ref x2)] := hl
  have hx := X.1.1
  have hb := X.1.2.1
  have hml := X.1.2.2.1
  have hown := X.1.2.2.2.1
  have hts := X.1.2.2.2.2
  obtain ⟨H, eH⟩ : ∃ z, z = s.heap := ⟨_, rfl⟩
  rw [← eH] at hw ⊢
  obtain ⟨locs, eLo⟩ : ∃ z : List Loc, z = [] := ⟨_, rfl⟩
  rw [← eLo] at hw ⊢
  unfold wJ28_siftUp_r at h
  refine lv_aload_n (pc := 0) hx hb dJ28_siftUp_0 rfl (lv_at hl 0 rfl) ?_
  obtain ⟨f2, f3, f4, f5, hN1, h⟩ := h
  refine c_get (pc := 1) X hw hN1 in_J28 rfl 2 (by decide) q1674 rfl rfl dJ28_siftUp_1 ?_
  refine lq_ifnull (pc := 4) (tgt := 23) hx hb dJ28_siftUp_4 rfl (fun hz6 => ?_) (fun a7 hr8 => ?_)
  · have h := h.1 hz6
    refine lv_iload_n (pc := 23) hx hb dJ28_siftUp_23 rfl (lv_at hl 1 rfl) ?_
    refine lv_aload_n (pc := 24) hx hb dJ28_siftUp_24 rfl (lv_at hl 2 rfl) ?_
    refine lv_aload_n (pc := 25) hx hb dJ28_siftUp_25 rfl (lv_at hl 0 rfl) ?_
    refine c_get (pc := 26) X hw hN1 in_J28 rfl 0 (by decide) q1672 rfl rfl dJ28_siftUp_26 ?_
    obtain ⟨a9, hr10, h⟩ := h
    refine W.eq (g2 := F0 m 29 ls [.ref a9, .ref x2, .int x1]) (by rw [hr10]; rfl) ?_
    refine c_callJ (pc := 29) (val := vV) X hw (va_runS (g := F0 m 29 ls _) (As := [.int x1, .ref x2, .ref a9]) (rest := []) X.1 (tJ28_siftUpComparable_r X.2.2.1 (sz := H.size) h) (va_cwS 3 hts (lw_S q1727 q1728 q149 q1729) rfl rfl rfl ⟨by decide, by decide, (by decide +kernel : (parseMethodDescriptor yJ28_siftUpComparable.desc).map (fun d => d.parameters.length) = some 3)⟩ ⟨Nat.le_of_ble_eq_true rfl, Nat.le_of_ble_eq_true rfl⟩) ⟨cPre_blind, fun U hU hW => ⟨rfl, X.preJ hw hU hW⟩⟩ rfl rfl hl.1 rfl (lv_room (Nat.le_of_ble_eq_true rfl)) dJ28_siftUp_29 ⟨show 0 + 0 ≤ 0 by omega, show 0 + 0 ≤ 0 by omega⟩) (fun _ N12 H locs h hw => ?_)
    refine W.eq (g2 := F0 m 32 ls ([])) rfl ?_
    exact W.vret (pc := 32) hx hb hr (fun t ht hW => c_ret (val := vV) (lw := jW) (u := N12) (v := ()) hw h ht) hw.2.2.2 dJ28_siftUp_32 hlk
  · have h := h.2 a7 hr8
    exact False.elim h

def wJ28_offer_r_43 (K : Nat → Nat → Nat) (post : Int32 → NM → Prop) (x0 : Nat) (x1 : Nat) (x2 : Int32) (mc ms : Nat) (N : NM) : Prop :=
  ∃ f18 f19 f20 f21, N x0 = some (eO 21 [va_rf f18, .int f19, va_rf f20, .int f21]) ∧ (wJ28_siftUp_r K (fun _ N16 => ∃ f23 f24 f25 f26, N16 x0 = some (eO 21 [va_rf f23, .int f24, va_rf f25, .int f26]) ∧ (∀ N27, N27 = va_up N16 x0 (some (eO 21 [va_rf f23, .int (x2 + (1 : Int32)), va_rf f25, .int f26])) → (post (1 : Int32) N27))) N x0 x2 x1)
def wJ28_offer_r (K : Nat → Nat → Nat) (post : Int32 → NM → Prop) (MC MS : Nat) (N : NM) (x0 : Nat) (x1 : Nat) : Prop :=
  ∃ f2 f3 f4 f5, N x0 = some (eO 21 [va_rf f2, .int f3, va_rf f4, .int f5]) ∧ (∀ N6, N6 = va_up N x0 (some (eO 21 [va_rf f2, .int f3, va_rf f4, .int (f5 + (1 : Int32))])) → (∃ a9, f2 = some a9 ∧ (∃ n12 f13, N6 a9 = some (eR 8 n12 f13) ∧ (((f3 < (nI n12)) → (wJ28_offer_r_43 K post x0 x1 f3 MC MS N6)) ∧ (¬ (f3 < (nI n12)) → (∃ mc32 ms33, mc32 ≤ MC ∧ ms33 ≤ MS ∧ wJ28_grow_r K (fun _ N31 => wJ28_offer_r_43 K post x0 x1 f3 (MC - mc32) (MS - ms33) N31) mc32 ms33 N6 x0 (f3 + (1 : Int32))))))))
theorem kJ28_offer_r_43 {p : Program} {l : Launch} {e : Env} {s : State} {m : MethodId} {args : Array Value} {below : List Frame} {meth : Method} {c : Code} {G : gG} {A : Nat → Prop} {MC MS : Nat} {post : Int32 → NM → Prop} (X : cX G A RJ28 p s m args c cJ28_offer 3) (hr : meth.sig.returnType = (some .boolean)) (hlk : meth.locks = false) : ∀ (x0 : Nat) (x1 : Nat) (x2 : Int32) (mc ms : Nat) (N : NM) (H : Heap) (locs : List Loc) (ls : Array Slot) (cells slots : Nat), wJ28_offer_r_43 (gC G) post x0 x1 x2 mc ms N → (cH G A s [] N H locs ∧ cells + mc ≤ MC ∧ slots + ms ≤ MS) → lv_has ls 3 [(0, .ref x0), (1, .ref x1), (2, .int x2)] → W p l e ⟨4, MC, MS, 127⟩ s m args below meth c H locs cells slots (MQ below (gQ vI post (fun u H => cBw G A (jW u).1 (jW u).2 H) A) args s MC MS A) (F0 m 43 ls []) := by
  have hx := X.1.1
  have hb := X.1.2.1
  have hml := X.1.2.2.1
  have hown := X.1.2.2.2.1
  have hts := X.1.2.2.2.2
  intro x0 x1 x2 mc ms N H locs ls cells slots h hw0 hl
  obtain ⟨hw, hbud⟩ := hw0
  unfold wJ28_offer_r_43 at h
  refine lv_aload_n (pc := 43) hx hb dJ28_offer_43 rfl (lv_at hl 0 rfl) ?_
  refine lv_iload_n (pc := 44) hx hb dJ28_offer_44 rfl (lv_at hl 2 rfl) ?_
  refine lv_aload_n (pc := 45) hx hb dJ28_offer_45 rfl (lv_at hl 1 rfl) ?_
  obtain ⟨f18, f19, f20, f21, hN17, h⟩ := h
  refine c_callJ (pc := 46) (val := vV) X hw (va_runV (C := RJ28) (As := [.int x2, .ref x1]) (rest := []) X.1 (tJ28_siftUp_r X.2.2.1 (sz := H.size) h) (cwV 2 hts (lw_V q1718 q1720 qs41 q149 q1721) rfl rfl rfl ⟨rfl, by decide, by decide, (by decide +kernel : (parseMethodDescriptor yJ28_siftUp.desc).map (fun d => d.parameters.length) = some 2)⟩ ⟨Nat.le_of_ble_eq_true rfl, Nat.le_of_ble_eq_true rfl⟩) ⟨cPre_blind, c_recv X hw hN17 rfl, fun U hU hW => ⟨rfl, X.preJ hw hU hW⟩⟩ rfl rfl hl.1 rfl (lv_room (Nat.le_of_ble_eq_true rfl)) dJ28_offer_46 ⟨show cells + 0 ≤ MC by omega, show slots + 0 ≤ MS by omega⟩) (fun _ N16 H locs h hw => ?_)
  refine W.eq (g2 := F0 m 49 ls ([])) rfl ?_
  refine lv_aload_n (pc := 49) hx hb dJ28_offer_49 rfl (lv_at hl 0 rfl) ?_
  refine lv_iload_n (pc := 50) hx hb dJ28_offer_50 rfl (lv_at hl 2 rfl) ?_
  refine lv_iconst (pc := 51) (v := (1 : Int32)) hx hb dJ28_offer_51 (by decide) ?_
  refine lv_iadd (pc := 52) hx hb dJ28_offer_52 ?_
  obtain ⟨f23, f24, f25, f26, hN22, h⟩ := h
  refine c_put (pc := 53) X hw hN22 in_J28 tyJ28 tyJ28_ok nmJ28 rfl 1 (by decide) q1673 rfl rfl rfl rfl rfl (Nat.le_of_ble_eq_true rfl) dJ28_offer_53 (fun H locs hw => ?_)
  obtain ⟨N27, e28⟩ : ∃ z, z = va_up N16 x0 (some (eO 21 [va_rf f23, .int (x2 + (1 : Int32)), va_rf f25, .int f26])) := ⟨_, rfl⟩
  have hw : cH G A s [] N27 H locs := by rw [e28]; exact hw
  have h := h N27 e28
  have hN29 : N27 x0 = some (eO 21 [va_rf f23, .int (x2 + (1 : Int32)), va_rf f25, .int f26]) := by rw [e28]; exact up_s
  refine lv_iconst (pc := 56) (v := (1 : Int32)) hx hb dJ28_offer_56 (by decide) ?_
  refine W.widen (k := MC) (n := MS) (by omega) (by omega) ?_
  exact W.zret (pc := 57) hx hb hr rfl (fun t ht hW => c_ret (val := vI) (lw := jW) (u := N27) hw h ht) hw.2.2.2 dJ28_offer_57 hlk
theorem tJ28_offer_r {l : Launch} {G : gG} (hO : gOk G) {post : Int32 → NM → Prop} {MC MS : Nat} {N : NM} {x0 : Nat} {x1 : Nat} {sz : Nat} (h : wJ28_offer_r (gC G) post MC MS N x0 x1) : Met l yJ28_offer (ws_ yJ28_offer cJ28_offer 3 (some .boolean)) ⟨4, MC, MS, 127⟩ (va_Pc [.ref x0, .ref x1] (cPre G [] N sz)) (gQ vI post (fun u H => cBw G (cA [] N sz) (jW u).1 (jW u).2 H) (cA [] N sz)) MC MS (cA [] N sz) := by
  refine c_ofW (lw := jW) (by decide) hO (Nat.le_of_ble_eq_true rfl) (fun p e s m below meth c ls A X hr hlk hin hw hl => ?_)
  have hl : lv_has ls 3 [(0, .ref x0), (1, .ref x1)] := hl
  have hx := X.1.1
  have hb := X.1.2.1
  have hml := X.1.2.2.1
  have hown := X.1.2.2.2.1
  have hts := X.1.2.2.2.2
  obtain ⟨H, eH⟩ : ∃ z, z = s.heap := ⟨_, rfl⟩
  rw [← eH] at hw ⊢
  obtain ⟨locs, eLo⟩ : ∃ z : List Loc, z = [] := ⟨_, rfl⟩
  rw [← eLo] at hw ⊢
  have hbud : 0 + MC ≤ MC ∧ 0 + MS ≤ MS := by omega
  unfold wJ28_offer_r at h
  refine lv_aload_n (pc := 0) hx hb dJ28_offer_0 rfl (lv_at hl 1 rfl) ?_
  refine lv_ifnonnull (pc := 1) (tgt := 12) hx hb dJ28_offer_1 rfl ?_
  refine lv_aload_n (pc := 12) hx hb dJ28_offer_12 rfl (lv_at hl 0 rfl) ?_
  refine lv_dup (pc := 13) hx hb dJ28_offer_13 rfl ?_
  obtain ⟨f2, f3, f4, f5, hN1, h⟩ := h
  refine c_get (pc := 14) X hw hN1 in_J28 rfl 3 (by decide) q1675 rfl rfl dJ28_offer_14 ?_
  refine lv_iconst (pc := 17) (v := (1 : Int32)) hx hb dJ28_offer_17 (by decide) ?_
  refine lv_iadd (pc := 18) hx hb dJ28_offer_18 ?_
  refine c_put (pc := 19) X hw hN1 in_J28 tyJ28 tyJ28_ok nmJ28 rfl 3 (by decide) q1675 rfl rfl rfl rfl rfl (Nat.le_of_ble_eq_true rfl) dJ28_offer_19 (fun H locs hw => ?_)
  obtain ⟨N6, e7⟩ : ∃ z, z = va_up N x0 (some (eO 21 [va_rf f2, .int f3, va_rf f4, .int (f5 + (1 : Int32))])) := ⟨_, rfl⟩
  have hw : cH G A s [] N6 H locs := by rw [e7]; exact hw
  have h := h N6 e7
  have hN8 : N6 x0 = some (eO 21 [va_rf f2, .int f3, va_rf f4, .int (f5 + (1 : Int32))]) := by rw [e7]; exact up_s
  refine lv_aload_n (pc := 22) hx hb dJ28_offer_22 rfl (lv_at hl 0 rfl) ?_
  refine c_get (pc := 23) X hw hN8 in_J28 rfl 1 (by decide) q1673 rfl rfl dJ28_offer_23 ?_
  refine lv_istore_n (pc := 26) (lv' := [(2, .int f3), (0, .ref x0), (1, .ref x1)]) hx hb dJ28_offer_26 rfl hl (by decide) rfl (fun ls hl => ?_)
  refine lv_iload_n (pc := 27) hx hb dJ28_offer_27 rfl (lv_at hl 0 rfl) ?_
  refine lv_aload_n (pc := 28) hx hb dJ28_offer_28 rfl (lv_at hl 1 rfl) ?_
  refine c_get (pc := 29) X hw hN8 in_J28 rfl 0 (by decide) q1672 rfl rfl dJ28_offer_29 ?_
  obtain ⟨a9, hr10, h⟩ := h
  refine W.eq (g2 := F0 m 32 ls [.ref a9, .int f3]) (by rw [hr10]; rfl) ?_
  obtain ⟨n12, f13, hN11, h⟩ := h
  refine c_alen (pc := 32) X hw hN11 rfl dJ28_offer_32 ?_
  refine lv_icmp_lt (pc := 33) (tgt := 43) hx hb dJ28_offer_33 rfl (fun c14 => ?_) (fun c14 => ?_)
  · have h := h.1 c14
    exact kJ28_offer_r_43 X hr hlk  _ _ _ _ _ _ _ _ _ _ _ h ⟨hw, by omega⟩ (lv_sub hl [1, 2, 0] rfl)
  · have h := h.2 c14
    refine lv_aload_n (pc := 36) hx hb dJ28_offer_36 rfl (lv_at hl 1 rfl) ?_
    refine lv_iload_n (pc := 37) hx hb dJ28_offer_37 rfl (lv_at hl 0 rfl) ?_
    refine lv_iconst (pc := 38) (v := (1 : Int32)) hx hb dJ28_offer_38 (by decide) ?_
    refine lv_iadd (pc := 39) hx hb dJ28_offer_39 ?_
    obtain ⟨mc32, ms33, hm34, hm35, h⟩ := h
    refine c_callJ (pc := 40) (val := vV) X hw (va_runV (C := RJ28) (As := [.int (f3 + (1 : Int32))]) (rest := []) X.1 (tJ28_grow_r X.2.2.1 (sz := H.size) h) (cwV 1 hts (lw_V q1712 q1714 qs40 q149 q1715) rfl rfl rfl ⟨rfl, by decide, by decide, (by decide +kernel : (parseMethodDescriptor yJ28_grow.desc).map (fun d => d.parameters.length) = some 1)⟩ ⟨Nat.le_of_ble_eq_true rfl, Nat.le_of_ble_eq_true rfl⟩) ⟨cPre_blind, c_recv X hw hN8 rfl, fun U hU hW => ⟨rfl, X.preJ hw hU hW⟩⟩ rfl rfl hl.1 rfl (lv_room (Nat.le_of_ble_eq_true rfl)) dJ28_offer_40 ⟨show 0 + mc32 ≤ MC by omega, show 0 + ms33 ≤ MS by omega⟩) (fun _ N31 H locs h hw => ?_)
    refine W.eq (g2 := F0 m 43 ls ([])) rfl ?_
    exact kJ28_offer_r_43 X hr hlk  _ _ _ _ _ _ _ _ _ _ _ h ⟨hw, by omega⟩ (lv_sub hl [1, 2, 0] rfl)

def wJ28_add_r (K : Nat → Nat → Nat) (post : Int32 → NM → Prop) (MC MS : Nat) (N : NM) (x0 : Nat) (x1 : Nat) : Prop :=
  ∃ f8 f9 f10 f11, N x0 = some (eO 21 [va_rf f8, .int f9, va_rf f10, .int f11]) ∧ (∃ mc3 ms4, mc3 ≤ MC ∧ ms4 ≤ MS ∧ wJ28_offer_r K (fun r1 N2 => isB r1 ∧ post r1 N2) mc3 ms4 N x0 x1)
theorem tJ28_add_r {l : Launch} {G : gG} (hO : gOk G) {post : Int32 → NM → Prop} {MC MS : Nat} {N : NM} {x0 : Nat} {x1 : Nat} {sz : Nat} (h : wJ28_add_r (gC G) post MC MS N x0 x1) : Met l yJ28_add (ws_ yJ28_add cJ28_add 2 (some .boolean)) ⟨5, MC, MS, 149⟩ (va_Pc [.ref x0, .ref x1] (cPre G [] N sz)) (gQ vI post (fun u H => cBw G (cA [] N sz) (jW u).1 (jW u).2 H) (cA [] N sz)) MC MS (cA [] N sz) := by
  refine c_ofW (lw := jW) (by decide) hO (Nat.le_of_ble_eq_true rfl) (fun p e s m below meth c ls A X hr hlk hin hw hl => ?_)
  have hl : lv_has ls 2 [(0, .ref x0), (1, .ref x1)] := hl
  have hx := X.1.1
  have hb := X.1.2.1
  have hml := X.1.2.2.1
  have hown := X.1.2.2.2.1
  have hts := X.1.2.2.2.2
  obtain ⟨H, eH⟩ : ∃ z, z = s.heap := ⟨_, rfl⟩
  rw [← eH] at hw ⊢
  obtain ⟨locs, eLo⟩ : ∃ z : List Loc, z = [] := ⟨_, rfl⟩
  rw [← eLo] at hw ⊢
  have hbud : 0 + MC ≤ MC ∧ 0 + MS ≤ MS := by omega
  unfold wJ28_add_r at h
  refine lv_aload_n (pc := 0) hx hb dJ28_add_0 rfl (lv_at hl 0 rfl) ?_
  refine lv_aload_n (pc := 1) hx hb dJ28_add_1 rfl (lv_at hl 1 rfl) ?_
  obtain ⟨f8, f9, f10, f11, hN7, h⟩ := h
  obtain ⟨mc3, ms4, hm5, hm6, h⟩ := h
  refine c_callJ (pc := 2) (val := vI) X hw (va_runV (C := RJ28) (As := [.ref x1]) (rest := []) X.1 (tJ28_offer_r X.2.2.1 (sz := H.size) h) (cwV 1 hts (lw_V q1706 q1707 q1708 q149 q1709) rfl rfl rfl ⟨rfl, by decide, by decide, (by decide +kernel : (parseMethodDescriptor yJ28_offer.desc).map (fun d => d.parameters.length) = some 1)⟩ ⟨Nat.le_of_ble_eq_true rfl, Nat.le_of_ble_eq_true rfl⟩) ⟨cPre_blind, c_recv X hw hN7 rfl, fun U hU hW => ⟨rfl, X.preJ hw hU hW⟩⟩ rfl rfl hl.1 rfl (lv_room (Nat.le_of_ble_eq_true rfl)) dJ28_add_2 ⟨show 0 + mc3 ≤ MC by omega, show 0 + ms4 ≤ MS by omega⟩) (fun r1 N2 H locs h hw => ?_)
  refine W.eq (g2 := F0 m 5 ls (.int r1 :: [])) rfl ?_
  obtain ⟨hB, h⟩ := h
  refine W.widen (k := MC) (n := MS) (by omega) (by omega) ?_
  exact W.zret (pc := 5) hx hb hr (isB_n hB) (fun t ht hW => c_ret (val := vI) (lw := jW) (u := N2) hw h ht) hw.2.2.2 dJ28_add_5 hlk

def wJ28_poll_r (K : Nat → Nat → Nat) (post : Option Nat → NM → Prop) (N : NM) (x0 : Nat) : Prop :=
  ∃ f2 f3 f4 f5, N x0 = some (eO 21 [va_rf f2, .int f3, va_rf f4, .int f5]) ∧ (∃ a6, f2 = some a6 ∧ (∃ n9 f10, N a6 = some (eR 8 n9 f10) ∧ (vp_in (0 : Int32) n9 ∧ (((f10 (0 : Int32).toNatClampNeg) = none → (post (f10 (0 : Int32).toNatClampNeg) N)) ∧ (∀ a12, (f10 (0 : Int32).toNatClampNeg) = some a12 → (∀ N14, N14 = va_up N x0 (some (eO 21 [va_rf f2, .int f3, va_rf f4, .int (f5 + (1 : Int32))])) → (∀ N18, N18 = va_up N14 x0 (some (eO 21 [va_rf f2, .int (f3 - (1 : Int32)), va_rf f4, .int (f5 + (1 : Int32))])) → (vp_in (f3 - (1 : Int32)) n9 ∧ (vp_in (f3 - (1 : Int32)) n9 ∧ (∀ N22, N22 = va_up N18 a6 (some (eR 8 n9 (va_up f10 (f3 - (1 : Int32)).toNatClampNeg none))) → ((((f3 - (1 : Int32)) ≤ (0 : Int32)) → (post (f10 (0 : Int32).toNatClampNeg) N22)) ∧ (¬ ((f3 - (1 : Int32)) ≤ (0 : Int32)) → ((f4 = none → (∃ a30, (f10 (f3 - (1 : Int32)).toNatClampNeg) = some a30 ∧ (wJ28_siftDownComparable_r K (fun _ N33 => post (f10 (0 : Int32).toNatClampNeg) N33) N22 (0 : Int32) a30 a6 (f3 - (1 : Int32))))) ∧ (∀ a28, f4 = some a28 → (False)))))))))))))))
theorem tJ28_poll_r {l : Launch} {G : gG} (hO : gOk G) {post : Option Nat → NM → Prop} {N : NM} {x0 : Nat} {sz : Nat} (h : wJ28_poll_r (gC G) post N x0) : Met l yJ28_poll (ws_ yJ28_poll cJ28_poll 6 (some (.object "java/lang/Object"))) ⟨3, 0, 0, 70⟩ (va_Pc [.ref x0] (cPre G [] N sz)) (gQ vQ post (fun u H => cBw G (cA [] N sz) (jW u).1 (jW u).2 H) (cA [] N sz)) 0 0 (cA [] N sz) := by
  refine c_ofW (lw := jW) (by decide) hO (Nat.le_of_ble_eq_true rfl) (fun p e s m below meth c ls A X hr hlk hin hw hl => ?_)
  have hl : lv_has ls 6 [(0, .ref x0)] := hl
  have hx := X.1.1
  have hb := X.1.2.1
  have hml := X.1.2.2.1
  have hown := X.1.2.2.2.1
  have hts := X.1.2.2.2.2
  obtain ⟨H, eH⟩ : ∃ z, z = s.heap := ⟨_, rfl⟩
  rw [← eH] at hw ⊢
  obtain ⟨locs, eLo⟩ : ∃ z : List Loc, z = [] := ⟨_, rfl⟩
  rw [← eLo] at hw ⊢
  unfold wJ28_poll_r at h
  refine lv_aload_n (pc := 0) hx hb dJ28_poll_0 rfl (lv_at hl 0 rfl) ?_
  obtain ⟨f2, f3, f4, f5, hN1, h⟩ := h
  refine c_get (pc := 1) X hw hN1 in_J28 rfl 0 (by decide) q1672 rfl rfl dJ28_poll_1 ?_
  refine lv_dup (pc := 4) hx hb dJ28_poll_4 (rf_c _) ?_
  refine lq_astore_n (pc := 5) (lv' := [(1, va_rf f2), (0, .ref x0)]) hx hb dJ28_poll_5 rfl hl (by decide) rfl (fun ls hl => ?_)
  refine lv_iconst (pc := 6) (v := (0 : Int32)) hx hb dJ28_poll_6 (by decide) ?_
  obtain ⟨a6, hr7, h⟩ := h
  refine W.eq (g2 := F0 m 7 ls [.int (0 : Int32), .ref a6]) (by rw [hr7]; rfl) ?_
  obtain ⟨n9, f10, hN8, h⟩ := h
  obtain ⟨hi, h⟩ := h
  refine c_aald (pc := 7) X hw 8 hN8 rfl hi dJ28_poll_7 ?_
  refine lv_dup (pc := 8) hx hb dJ28_poll_8 (rf_c _) ?_
  refine lq_astore_n (pc := 9) (i := 2) (lv' := [(2, va_rf (f10 (0 : Int32).toNatClampNeg)), (1, va_rf f2), (0, .ref x0)]) hx hb dJ28_poll_9 rfl hl (by decide) (by simp [rf_c]) (fun ls hl => ?_)
  refine lq_ifnull (pc := 10) (tgt := 79) hx hb dJ28_poll_10 rfl (fun hz11 => ?_) (fun a12 hr13 => ?_)
  · have h := h.1 hz11
    refine lq_aload_n (pc := 79) hx hb dJ28_poll_79 rfl (lv_at hl 0 rfl) ?_
    exact W.aret (pc := 80) (v := va_rf (f10 (0 : Int32).toNatClampNeg)) hx hb hr (Or.inl ⟨_, rfl⟩) (va_rf_or _) (fun t ht hW => c_ret (val := vQ) (lw := jW) (u := N) hw h ht) hw.2.2.2 dJ28_poll_80 hlk
  · have h := h.2 a12 hr13
    refine lv_aload_n (pc := 13) hx hb dJ28_poll_13 rfl (lv_at hl 2 rfl) ?_
    refine lv_dup (pc := 14) hx hb dJ28_poll_14 rfl ?_
    refine c_get (pc := 15) X hw hN1 in_J28 rfl 3 (by decide) q1675 rfl rfl dJ28_poll_15 ?_
    refine lv_iconst (pc := 18) (v := (1 : Int32)) hx hb dJ28_poll_18 (by decide) ?_
    refine lv_iadd (pc := 19) hx hb dJ28_poll_19 ?_
    refine c_put (pc := 20) X hw hN1 in_J28 tyJ28 tyJ28_ok nmJ28 rfl 3 (by decide) q1675 rfl rfl rfl rfl rfl (Nat.le_of_ble_eq_true rfl) dJ28_poll_20 (fun H locs hw => ?_)
    obtain ⟨N14, e15⟩ : ∃ z, z = va_up N x0 (some (eO 21 [va_rf f2, .int f3, va_rf f4, .int (f5 + (1 : Int32))])) := ⟨_, rfl⟩
    have hw : cH G A s [] N14 H locs := by rw [e15]; exact hw
    have h := h N14 e15
    have hN16 : N14 x0 = some (eO 21 [va_rf f2, .int f3, va_rf f4, .int (f5 + (1 : Int32))]) := by rw [e15]; exact up_s
    have hN17 := up_k (x := some (eO 21 [va_rf f2, .int f3, va_rf f4, .int (f5 + (1 : Int32))])) hN1 hN8 (show (42 : Nat) ≠ 17 by decide)
    rw [← e15] at hN17
    refine lq_aload_n (pc := 23) hx hb dJ28_poll_23 rfl (lv_at hl 1 rfl) ?_
    refine lv_aload_n (pc := 24) hx hb dJ28_poll_24 rfl (lv_at hl 2 rfl) ?_
    refine lv_dup (pc := 25) hx hb dJ28_poll_25 rfl ?_
    refine c_get (pc := 26) X hw hN16 in_J28 rfl 1 (by decide) q1673 rfl rfl dJ28_poll_26 ?_
    refine lv_iconst (pc := 29) (v := (1 : Int32)) hx hb dJ28_poll_29 (by decide) ?_
    refine lv_isub (pc := 30) hx hb dJ28_poll_30 ?_
    refine lv_dup_x1 (pc := 31) hx hb dJ28_poll_31 rfl rfl ?_
    refine c_put (pc := 32) X hw hN16 in_J28 tyJ28 tyJ28_ok nmJ28 rfl 1 (by decide) q1673 rfl rfl rfl rfl rfl (Nat.le_of_ble_eq_true rfl) dJ28_poll_32 (fun H locs hw => ?_)
    obtain ⟨N18, e19⟩ : ∃ z, z = va_up N14 x0 (some (eO 21 [va_rf f2, .int (f3 - (1 : Int32)), va_rf f4, .int (f5 + (1 : Int32))])) := ⟨_, rfl⟩
    have hw : cH G A s [] N18 H locs := by rw [e19]; exact hw
    have h := h N18 e19
    have hN20 : N18 x0 = some (eO 21 [va_rf f2, .int (f3 - (1 : Int32)), va_rf f4, .int (f5 + (1 : Int32))]) := by rw [e19]; exact up_s
    have hN21 := up_k (x := some (eO 21 [va_rf f2, .int (f3 - (1 : Int32)), va_rf f4, .int (f5 + (1 : Int32))])) hN16 hN17 (show (42 : Nat) ≠ 17 by decide)
    rw [← e19] at hN21
    refine lv_dup (pc := 35) hx hb dJ28_poll_35 rfl ?_
    refine lv_istore_n (pc := 36) (i := 3) (lv' := [(3, .int (f3 - (1 : Int32))), (2, va_rf (f10 (0 : Int32).toNatClampNeg)), (1, va_rf f2), (0, .ref x0)]) hx hb dJ28_poll_36 rfl hl (by decide) (by simp [rf_c]) (fun ls hl => ?_)
    refine W.eq (g2 := F0 m 37 ls [.int (f3 - (1 : Int32)), .ref a6]) (by rw [hr7]; rfl) ?_
    obtain ⟨hi, h⟩ := h
    refine c_aald (pc := 37) X hw 8 hN21 rfl hi dJ28_poll_37 ?_
    refine lq_astore (pc := 38) (lv' := [(4, va_rf (f10 (f3 - (1 : Int32)).toNatClampNeg)), (3, .int (f3 - (1 : Int32))), (2, va_rf (f10 (0 : Int32).toNatClampNeg)), (1, va_rf f2), (0, .ref x0)]) hx hb dJ28_poll_38 hl (by decide) rfl (fun ls hl => ?_)
    refine lq_aload_n (pc := 40) hx hb dJ28_poll_40 rfl (lv_at hl 3 rfl) ?_
    refine lv_iload_n (pc := 41) hx hb dJ28_poll_41 rfl (lv_at hl 1 rfl) ?_
    refine lv_null (pc := 42) hx hb dJ28_poll_42 ?_
    refine W.eq (g2 := F0 m 43 ls [.null, .int (f3 - (1 : Int32)), .ref a6]) (by rw [hr7]; rfl) ?_
    obtain ⟨hi, h⟩ := h
    refine c_aastN (pc := 43) X hw 8 hN21 rfl hi dJ28_poll_43 (fun H locs hw => ?_)
    obtain ⟨N22, e23⟩ : ∃ z, z = va_up N18 a6 (some (eR 8 n9 (va_up f10 (f3 - (1 : Int32)).toNatClampNeg none))) := ⟨_, rfl⟩
    have hw : cH G A s [] N22 H locs := by rw [e23]; exact hw
    have h := h N22 e23
    have hN24 : N22 a6 = some (eR 8 n9 (va_up f10 (f3 - (1 : Int32)).toNatClampNeg none)) := by rw [e23]; exact up_s
    have hN25 := up_k (x := some (eR 8 n9 (va_up f10 (f3 - (1 : Int32)).toNatClampNeg none))) hN21 hN20 (show (17 : Nat) ≠ 42 by decide)
    rw [← e23] at hN25
    refine lv_iload_n (pc := 44) hx hb dJ28_poll_44 rfl (lv_at hl 1 rfl) ?_
    refine lv_if_le (pc := 45) (tgt := 79) hx hb dJ28_poll_45 rfl (fun c26 => ?_) (fun c26 => ?_)
    · have h := h.1 c26
      refine lq_aload_n (pc := 79) hx hb dJ28_poll_79 rfl (lv_at hl 2 rfl) ?_
      exact W.aret (pc := 80) (v := va_rf (f10 (0 : Int32).toNatClampNeg)) hx hb hr (Or.inl ⟨_, rfl⟩) (va_rf_or _) (fun t ht hW => c_ret (val := vQ) (lw := jW) (u := N22) hw h ht) hw.2.2.2 dJ28_poll_80 hlk
    · have h := h.2 c26
      refine lv_aload_n (pc := 48) hx hb dJ28_poll_48 rfl (lv_at hl 4 rfl) ?_
      refine c_get (pc := 49) X hw hN25 in_J28 rfl 2 (by decide) q1674 rfl rfl dJ28_poll_49 ?_
      refine lv_dup (pc := 52) hx hb dJ28_poll_52 (rf_c _) ?_
      refine lq_astore (pc := 53) (i := 5) (lv' := [(5, va_rf f4), (4, va_rf (f10 (f3 - (1 : Int32)).toNatClampNeg)), (3, .int (f3 - (1 : Int32))), (2, va_rf (f10 (0 : Int32).toNatClampNeg)), (1, va_rf f2), (0, .ref x0)]) hx hb dJ28_poll_53 hl (by decide) (by simp [rf_c]) (fun ls hl => ?_)
      refine lq_ifnonnull (pc := 55) (tgt := 69) hx hb dJ28_poll_55 rfl (fun hz27 => ?_) (fun a28 hr29 => ?_)
      · have h := h.1 hz27
        refine lv_iconst (pc := 58) (v := (0 : Int32)) hx hb dJ28_poll_58 (by decide) ?_
        refine lq_aload (pc := 59) hx hb dJ28_poll_59 (lv_at hl 1 rfl) ?_
        refine lq_aload_n (pc := 61) hx hb dJ28_poll_61 rfl (lv_at hl 4 rfl) ?_
        refine lv_iload_n (pc := 62) hx hb dJ28_poll_62 rfl (lv_at hl 2 rfl) ?_
        obtain ⟨a30, hr31, h⟩ := h
        refine W.eq (g2 := F0 m 63 ls [.int (f3 - (1 : Int32)), va_rf f2, .ref a30, .int (0 : Int32)]) (by rw [hr31]; rfl) ?_
        refine W.eq (g2 := F0 m 63 ls [.int (f3 - (1 : Int32)), .ref a6, .ref a30, .int (0 : Int32)]) (by rw [hr7]; rfl) ?_
        refine c_callJ (pc := 63) (val := vV) X hw (va_runS (g := F0 m 63 ls _) (As := [.int (0 : Int32), .ref a30, .ref a6, .int (f3 - (1 : Int32))]) (rest := []) X.1 (tJ28_siftDownComparable_r X.2.2.1 (sz := H.size) h) (va_cwS 4 hts (lw_S q1750 q1751 q149 q1752) rfl rfl rfl ⟨by decide, by decide, (by decide +kernel : (parseMethodDescriptor yJ28_siftDownComparable.desc).map (fun d => d.parameters.length) = some 4)⟩ ⟨Nat.le_of_ble_eq_true rfl, Nat.le_of_ble_eq_true rfl⟩) ⟨cPre_blind, fun U hU hW => ⟨rfl, X.preJ hw hU hW⟩⟩ rfl rfl hl.1 rfl (lv_room (Nat.le_of_ble_eq_true rfl)) dJ28_poll_63 ⟨show 0 + 0 ≤ 0 by omega, show 0 + 0 ≤ 0 by omega⟩) (fun _ N33 H locs h hw => ?_)
        refine W.eq (g2 := F0 m 66 ls ([])) rfl ?_
        refine lv_goto (pc := 66) (tgt := 79) hx hb dJ28_poll_66 rfl ?_
        refine lq_aload_n (pc := 79) hx hb dJ28_poll_79 rfl (lv_at hl 3 rfl) ?_
        exact W.aret (pc := 80) (v := va_rf (f10 (0 : Int32).toNatClampNeg)) hx hb hr (Or.inl ⟨_, rfl⟩) (va_rf_or _) (fun t ht hW => c_ret (val := vQ) (lw := jW) (u := N33) hw h ht) hw.2.2.2 dJ28_poll_80 hlk
      · have h := h.2 a28 hr29
        exact False.elim h

def wJ28_peek_r (K : Nat → Nat → Nat) (post : Option Nat → NM → Prop) (N : NM) (x0 : Nat) : Prop :=
  ∃ f2 f3 f4 f5, N x0 = some (eO 21 [va_rf f2, .int f3, va_rf f4, .int f5]) ∧ (∃ a6, f2 = some a6 ∧ (∃ n9 f10, N a6 = some (eR 8 n9 f10) ∧ (vp_in (0 : Int32) n9 ∧ (post (f10 (0 : Int32).toNatClampNeg) N))))
theorem tJ28_peek_r {l : Launch} {G : gG} (hO : gOk G) {post : Option Nat → NM → Prop} {N : NM} {x0 : Nat} {sz : Nat} (h : wJ28_peek_r (gC G) post N x0) : Met l yJ28_peek (ws_ yJ28_peek cJ28_peek 1 (some (.object "java/lang/Object"))) ⟨0, 0, 0, 0⟩ (va_Pc [.ref x0] (cPre G [] N sz)) (gQ vQ post (fun u H => cBw G (cA [] N sz) (jW u).1 (jW u).2 H) (cA [] N sz)) 0 0 (cA [] N sz) := by
  refine c_ofW (lw := jW) (by decide) hO (Nat.le_of_ble_eq_true rfl) (fun p e s m below meth c ls A X hr hlk hin hw hl => ?_)
  have hl : lv_has ls 1 [(0, .ref x0)] := hl
  have hx := X.1.1
  have hb := X.1.2.1
  have hml := X.1.2.2.1
  have hown := X.1.2.2.2.1
  have hts := X.1.2.2.2.2
  obtain ⟨H, eH⟩ : ∃ z, z = s.heap := ⟨_, rfl⟩
  rw [← eH] at hw ⊢
  obtain ⟨locs, eLo⟩ : ∃ z : List Loc, z = [] := ⟨_, rfl⟩
  rw [← eLo] at hw ⊢
  unfold wJ28_peek_r at h
  refine lv_aload_n (pc := 0) hx hb dJ28_peek_0 rfl (lv_at hl 0 rfl) ?_
  obtain ⟨f2, f3, f4, f5, hN1, h⟩ := h
  refine c_get (pc := 1) X hw hN1 in_J28 rfl 0 (by decide) q1672 rfl rfl dJ28_peek_1 ?_
  refine lv_iconst (pc := 4) (v := (0 : Int32)) hx hb dJ28_peek_4 (by decide) ?_
  obtain ⟨a6, hr7, h⟩ := h
  refine W.eq (g2 := F0 m 5 ls [.int (0 : Int32), .ref a6]) (by rw [hr7]; rfl) ?_
  obtain ⟨n9, f10, hN8, h⟩ := h
  obtain ⟨hi, h⟩ := h
  refine c_aald (pc := 5) X hw 8 hN8 rfl hi dJ28_peek_5 ?_
  exact W.aret (pc := 6) (v := va_rf (f10 (0 : Int32).toNatClampNeg)) hx hb hr (Or.inl ⟨_, rfl⟩) (va_rf_or _) (fun t ht hW => c_ret (val := vQ) (lw := jW) (u := N) hw h ht) hw.2.2.2 dJ28_peek_6 hlk
