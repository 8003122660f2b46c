set_option maxRecDepth 100000
set_option maxHeartbeats 4000000
def wJ1_init_3_w_41 (K : Nat → Nat → Nat) (post : Unit → NM → Prop) (x0 : Nat) (x1 : Option Nat) (x2 : Option Nat) (x3 : Int32) (N : NM) : Prop :=
  ∃ f28 f29 f30 f31 f32 f33 f34 f35, N x0 = some (eO 3 [va_rf f28, va_rf f29, va_rf f30, va_rf f31, va_rf f32, .int f33, .int f34, .int f35]) ∧ (∀ N36, N36 = va_up N x0 (some (eO 3 [va_rf f28, va_rf f29, va_rf f30, va_rf x1, va_rf f32, .int f33, .int f34, .int f35])) → (∀ N39, N39 = va_up N36 x0 (some (eO 3 [va_rf x2, va_rf f29, va_rf f30, va_rf x1, va_rf f32, .int f33, .int f34, .int f35])) → (((x3 = (0 : Int32)) → (∀ N43, N43 = va_up N39 x0 (some (eO 3 [va_rf x2, va_rf f29, va_rf none, va_rf x1, va_rf f32, .int f33, .int f34, .int f35])) → (post () N43))) ∧ (¬ (x3 = (0 : Int32)) → (post () N39)))))
def wJ1_init_3_w (K : Nat → Nat → Nat) (post : Unit → NM → Prop) (N : NM) (x0 : Nat) (x1 : Option Nat) (x2 : Option Nat) (x3 : Int32) (x4 : Int32) : Prop :=
  ∃ f2 f3 f4 f5 f6 f7 f8 f9, N x0 = some (eO 3 [va_rf f2, va_rf f3, va_rf f4, va_rf f5, va_rf f6, .int f7, .int f8, .int f9]) ∧ (∀ N10, N10 = va_up N x0 (some (eO 3 [va_rf (some x0), va_rf f3, va_rf f4, va_rf f5, va_rf f6, .int f7, .int f8, .int f9])) → (∀ z13 : Option Nat, (∀ N15, N15 = va_up N10 x0 (some (eO 3 [va_rf (some x0), va_rf z13, va_rf f4, va_rf f5, va_rf f6, .int f7, .int f8, .int f9])) → (∀ z18 : Option Nat, (∀ N20, N20 = va_up N15 x0 (some (eO 3 [va_rf (some x0), va_rf z13, va_rf z18, va_rf f5, va_rf f6, .int f7, .int f8, .int f9])) → (((x4 = (0 : Int32)) → (∀ N24, N24 = va_up N20 x0 (some (eO 3 [va_rf (some x0), va_rf none, va_rf z18, va_rf f5, va_rf f6, .int f7, .int f8, .int f9])) → (wJ1_init_3_w_41 K post x0 x1 x2 x3 N24))) ∧ (¬ (x4 = (0 : Int32)) → (False))))))))
theorem kJ1_init_3_w_41 {p : Program} {l : Launch} {e : Env} {s : State} {m : MethodId} {args : Array Value} {below : List Frame} {meth : Method} {c : Code} {G : gG} {A : Nat → Prop} {post : Unit → NM → Prop} (X : cX G A RJ1 p s m args c cJ1_init_3 5) (hr : meth.sig.returnType = none) (hlk : meth.locks = false) (hin : meth.name = "<init>") : ∀ (x0 : Nat) (x1 : Option Nat) (x2 : Option Nat) (x3 : Int32) (N : NM) (H : Heap) (locs : List Loc) (ls : Array Slot), wJ1_init_3_w_41 (gC G) post x0 x1 x2 x3 N → cH G A s [] N H locs → lv_has ls 5 [(0, .ref x0), (1, va_rf x1), (2, va_rf x2), (3, .int x3)] → W p l e ⟨1, 0, 0, 20⟩ s m args below meth c H locs 0 0 (MQ below (gQ vV post (fun u H => cBw G A (jW u).1 (jW u).2 H) A) args s 0 0 A) (F0 m 41 ls []) := by
  have hx := X.1.1
  have hb := X.1.2.1
  have hml := X.1.2.2.1
  have hown := X.1.2.2.2.1
  have hts := X.1.2.2.2.2
  intro x0 x1 x2 x3 N H locs ls h hw hl
  unfold wJ1_init_3_w_41 at h
  refine lv_aload_n (pc := 41) hx hb dJ1_init_3_41 rfl (lv_at hl 0 rfl) ?_
  refine lq_aload_n (pc := 42) hx hb dJ1_init_3_42 rfl (lv_at hl 1 rfl) ?_
  obtain ⟨f28, f29, f30, f31, f32, f33, f34, f35, hN27, h⟩ := h
  refine c_put (pc := 43) (v := va_rf x1) X hw hN27 in_X3 tyX3 tyX3_ok nmX3 rfl 3 (by decide) q331 rfl rfl rfl (rf_n x1 _) (rf_f x1 _) (Nat.le_of_ble_eq_true rfl) dJ1_init_3_43 (fun H locs hw => ?_)
  obtain ⟨N36, e37⟩ : ∃ z, z = va_up N x0 (some (eO 3 [va_rf f28, va_rf f29, va_rf f30, va_rf x1, va_rf f32, .int f33, .int f34, .int f35])) := ⟨_, rfl⟩
  have hw : cH G A s [] N36 H locs := by rw [e37]; exact hw
  have h := h N36 e37
  have hN38 : N36 x0 = some (eO 3 [va_rf f28, va_rf f29, va_rf f30, va_rf x1, va_rf f32, .int f33, .int f34, .int f35]) := by rw [e37]; exact up_s
  refine lv_aload_n (pc := 46) hx hb dJ1_init_3_46 rfl (lv_at hl 0 rfl) ?_
  refine lq_aload_n (pc := 47) hx hb dJ1_init_3_47 rfl (lv_at hl 2 rfl) ?_
  refine c_put (pc := 48) (v := va_rf x2) X hw hN38 in_X3 tyX3 tyX3_ok nmX3 rfl 0 (by decide) q332 rfl rfl rfl (rf_n x2 _) (rf_f x2 _) (Nat.le_of_ble_eq_true rfl) dJ1_init_3_48 (fun H locs hw => ?_)
  obtain ⟨N39, e40⟩ : ∃ z, z = va_up N36 x0 (some (eO 3 [va_rf x2, va_rf f29, va_rf f30, va_rf x1, va_rf f32, .int f33, .int f34, .int f35])) := ⟨_, rfl⟩
  have hw : cH G A s [] N39 H locs := by rw [e40]; exact hw
  have h := h N39 e40
  have hN41 : N39 x0 = some (eO 3 [va_rf x2, va_rf f29, va_rf f30, va_rf x1, va_rf f32, .int f33, .int f34, .int f35]) := by rw [e40]; exact up_s
  refine lv_iload_n (pc := 51) hx hb dJ1_init_3_51 rfl (lv_at hl 3 rfl) ?_
  refine lv_if_ne (pc := 52) (tgt := 60) hx hb dJ1_init_3_52 rfl (fun c42 => ?_) (fun c42 => ?_)
  · have h := h.2 c42
    exact W.vret (pc := 60) hx hb hr (fun t ht hW => c_ret (val := vV) (lw := jW) (u := N39) (v := ()) hw h ht) hw.2.2.2 dJ1_init_3_60 hlk
  · have h := h.1 c42
    refine lv_aload_n (pc := 55) hx hb dJ1_init_3_55 rfl (lv_at hl 0 rfl) ?_
    refine lv_null (pc := 56) hx hb dJ1_init_3_56 ?_
    refine c_put (pc := 57) (v := va_rf none) X hw hN41 in_X3 tyX3 tyX3_ok nmX3 rfl 2 (by decide) q334 rfl rfl rfl (rf_n none _) (rf_f none _) (Nat.le_of_ble_eq_true rfl) dJ1_init_3_57 (fun H locs hw => ?_)
    obtain ⟨N43, e44⟩ : ∃ z, z = va_up N39 x0 (some (eO 3 [va_rf x2, va_rf f29, va_rf none, va_rf x1, va_rf f32, .int f33, .int f34, .int f35])) := ⟨_, rfl⟩
    have hw : cH G A s [] N43 H locs := by rw [e44]; exact hw
    have h := h N43 e44
    have hN45 : N43 x0 = some (eO 3 [va_rf x2, va_rf f29, va_rf none, va_rf x1, va_rf f32, .int f33, .int f34, .int f35]) := by rw [e44]; exact up_s
    exact W.vret (pc := 60) hx hb hr (fun t ht hW => c_ret (val := vV) (lw := jW) (u := N43) (v := ()) hw h ht) hw.2.2.2 dJ1_init_3_60 hlk
theorem tJ1_init_3_w {l : Launch} {G : gG} (hO : gOk G) {post : Unit → NM → Prop} {N : NM} {x0 : Nat} {x1 : Option Nat} {x2 : Option Nat} {x3 : Int32} {x4 : Int32} {sz : Nat} (h : wJ1_init_3_w (gC G) post N x0 x1 x2 x3 x4) : Met l yJ1_init_3 (ws_ yJ1_init_3 cJ1_init_3 5 none) ⟨1, 0, 0, 20⟩ (va_Pc [.ref x0, va_rf x1, va_rf x2, .int x3, .int x4] (cPre G [] N sz)) (gQ vV post (fun u H => cBw G (cA [] N sz) (jW u).1 (jW u).2 H) (cA [] N sz)) 0 0 (cA [] N sz) := by
  refine c_ofW (lw := jW) (by decide) hO (by cases x1 <;> cases x2 <;> exact Nat.le_of_ble_eq_true rfl) (fun p e s m below meth c ls A X hr hlk hin hw hl => ?_)
  have hl : lv_has ls 5 [(0, .ref x0), (1, va_rf x1), (2, va_rf x2), (3, .int x3), (4, .int x4)] := by cases x1 <;> cases x2 <;> exact hl
  have hin := hin rfl
  have hx := X.1.1
  have hb := X.1.2.1
  have hml := X.1.2.2.1
  have hown := X.1.2.2.2.1
  have hts := X.1.2.2.2.2
  obtain ⟨H, eH⟩ : ∃ z, z = s.heap := ⟨_, rfl⟩
  rw [← eH] at hw ⊢
  obtain ⟨locs, eLo⟩ : ∃ z : List Loc, z = [] := ⟨_, rfl⟩
  rw [← eLo] at hw ⊢
  unfold wJ1_init_3_w at h
  refine lv_aload_n (pc := 0) hx hb dJ1_init_3_0 rfl (lv_at hl 0 rfl) ?_
  refine W.objInit hx hb hown (hts _ q298) (hts _ q181) (hts _ q182) rfl (by rw [hml]; exact hl.1) rfl dJ1_init_3_1 (Nat.le_of_ble_eq_true rfl) (Nat.le_of_ble_eq_true rfl) ?_
  refine W.eq (g2 := F0 m 4 ls []) rfl ?_
  refine lv_aload_n (pc := 4) hx hb dJ1_init_3_4 rfl (lv_at hl 0 rfl) ?_
  refine lv_aload_n (pc := 5) hx hb dJ1_init_3_5 rfl (lv_at hl 0 rfl) ?_
  obtain ⟨f2, f3, f4, f5, f6, f7, f8, f9, hN1, h⟩ := h
  refine c_put (pc := 6) (v := va_rf (some x0)) X hw hN1 in_X3 tyX3 tyX3_ok nmX3 rfl 0 (by decide) q332 rfl rfl rfl (rf_n (some x0) _) (rf_f (some x0) _) (Nat.le_of_ble_eq_true rfl) dJ1_init_3_6 (fun H locs hw => ?_)
  obtain ⟨N10, e11⟩ : ∃ z, z = va_up N x0 (some (eO 3 [va_rf (some x0), va_rf f3, va_rf f4, va_rf f5, va_rf f6, .int f7, .int f8, .int f9])) := ⟨_, rfl⟩
  have hw : cH G A s [] N10 H locs := by rw [e11]; exact hw
  have h := h N10 e11
  have hN12 : N10 x0 = some (eO 3 [va_rf (some x0), va_rf f3, va_rf f4, va_rf f5, va_rf f6, .int f7, .int f8, .int f9]) := by rw [e11]; exact up_s
  refine lv_aload_n (pc := 9) hx hb dJ1_init_3_9 rfl (lv_at hl 0 rfl) ?_
  obtain ⟨z13, hz14⟩ := X.Zq X.cs.2.2.2.2.2.2.2.1
  have h := h z13
  refine va_gets (pc := 10) hx hb hz14 hw.2 hown (hts _ q299) (fun x h => h) dJ1_init_3_10 ?_
  refine c_put (pc := 13) (v := va_rf z13) X hw hN12 in_X3 tyX3 tyX3_ok nmX3 rfl 1 (by decide) q333 rfl rfl rfl (rf_na z13 _) (rf_fa z13 _) (Nat.le_of_ble_eq_true rfl) dJ1_init_3_13 (fun H locs hw => ?_)
  obtain ⟨N15, e16⟩ : ∃ z, z = va_up N10 x0 (some (eO 3 [va_rf (some x0), va_rf z13, va_rf f4, va_rf f5, va_rf f6, .int f7, .int f8, .int f9])) := ⟨_, rfl⟩
  have hw : cH G A s [] N15 H locs := by rw [e16]; exact hw
  have h := h N15 e16
  have hN17 : N15 x0 = some (eO 3 [va_rf (some x0), va_rf z13, va_rf f4, va_rf f5, va_rf f6, .int f7, .int f8, .int f9]) := by rw [e16]; exact up_s
  refine lv_aload_n (pc := 16) hx hb dJ1_init_3_16 rfl (lv_at hl 0 rfl) ?_
  obtain ⟨z18, hz19⟩ := X.Zq X.cs.2.2.2.2.2.2.2.2
  have h := h z18
  refine va_gets (pc := 17) hx hb hz19 hw.2 hown (hts _ q301) (fun x h => h) dJ1_init_3_17 ?_
  refine c_put (pc := 20) (v := va_rf z18) X hw hN17 in_X3 tyX3 tyX3_ok nmX3 rfl 2 (by decide) q334 rfl rfl rfl (rf_n z18 _) (rf_f z18 _) (Nat.le_of_ble_eq_true rfl) dJ1_init_3_20 (fun H locs hw => ?_)
  obtain ⟨N20, e21⟩ : ∃ z, z = va_up N15 x0 (some (eO 3 [va_rf (some x0), va_rf z13, va_rf z18, va_rf f5, va_rf f6, .int f7, .int f8, .int f9])) := ⟨_, rfl⟩
  have hw : cH G A s [] N20 H locs := by rw [e21]; exact hw
  have h := h N20 e21
  have hN22 : N20 x0 = some (eO 3 [va_rf (some x0), va_rf z13, va_rf z18, va_rf f5, va_rf f6, .int f7, .int f8, .int f9]) := by rw [e21]; exact up_s
  refine lv_iload (pc := 23) hx hb dJ1_init_3_23 (lv_at hl 4 rfl) ?_
  refine lv_if_eq (pc := 25) (tgt := 36) hx hb dJ1_init_3_25 rfl (fun c23 => ?_) (fun c23 => ?_)
  · have h := h.1 c23
    refine lv_aload_n (pc := 36) hx hb dJ1_init_3_36 rfl (lv_at hl 0 rfl) ?_
    refine lv_null (pc := 37) hx hb dJ1_init_3_37 ?_
    refine c_put (pc := 38) (v := va_rf none) X hw hN22 in_X3 tyX3 tyX3_ok nmX3 rfl 1 (by decide) q333 rfl rfl rfl (rf_na none _) (rf_fa none _) (Nat.le_of_ble_eq_true rfl) dJ1_init_3_38 (fun H locs hw => ?_)
    obtain ⟨N24, e25⟩ : ∃ z, z = va_up N20 x0 (some (eO 3 [va_rf (some x0), va_rf none, va_rf z18, va_rf f5, va_rf f6, .int f7, .int f8, .int f9])) := ⟨_, rfl⟩
    have hw : cH G A s [] N24 H locs := by rw [e25]; exact hw
    have h := h N24 e25
    have hN26 : N24 x0 = some (eO 3 [va_rf (some x0), va_rf none, va_rf z18, va_rf f5, va_rf f6, .int f7, .int f8, .int f9]) := by rw [e25]; exact up_s
    exact kJ1_init_3_w_41 X hr hlk hin  _ _ _ _ _ _ _ _ h hw (lv_sub hl [0, 1, 2, 3] rfl)
  · have h := h.2 c23
    exact False.elim h

def wJ2_init_2_w (K : Nat → Nat → Nat) (post : Unit → NM → Prop) (N : NM) (x0 : Nat) (x1 : Option Nat) (x2 : Option Nat) (x3 : Int32) (x4 : Int32) : Prop :=
  wJ1_init_3_w K (fun _ N2 => post () N2) N x0 x1 x2 x3 x4
theorem tJ2_init_2_w {l : Launch} {G : gG} (hO : gOk G) {post : Unit → NM → Prop} {N : NM} {x0 : Nat} {x1 : Option Nat} {x2 : Option Nat} {x3 : Int32} {x4 : Int32} {sz : Nat} (h : wJ2_init_2_w (gC G) post N x0 x1 x2 x3 x4) : Met l yJ2_init_2 (ws_ yJ2_init_2 cJ2_init_2 5 none) ⟨2, 0, 0, 44⟩ (va_Pc [.ref x0, va_rf x1, va_rf x2, .int x3, .int x4] (cPre G [] N sz)) (gQ vV post (fun u H => cBw G (cA [] N sz) (jW u).1 (jW u).2 H) (cA [] N sz)) 0 0 (cA [] N sz) := by
  refine c_ofW (lw := jW) (by decide) hO (by cases x1 <;> cases x2 <;> exact Nat.le_of_ble_eq_true rfl) (fun p e s m below meth c ls A X hr hlk hin hw hl => ?_)
  have hl : lv_has ls 5 [(0, .ref x0), (1, va_rf x1), (2, va_rf x2), (3, .int x3), (4, .int x4)] := by cases x1 <;> cases x2 <;> exact hl
  have hin := hin rfl
  have hx := X.1.1
  have hb := X.1.2.1
  have hml := X.1.2.2.1
  have hown := X.1.2.2.2.1
  have hts := X.1.2.2.2.2
  obtain ⟨H, eH⟩ : ∃ z, z = s.heap := ⟨_, rfl⟩
  rw [← eH] at hw ⊢
  obtain ⟨locs, eLo⟩ : ∃ z : List Loc, z = [] := ⟨_, rfl⟩
  rw [← eLo] at hw ⊢
  unfold wJ2_init_2_w at h
  refine lv_aload_n (pc := 0) hx hb dJ2_init_2_0 rfl (lv_at hl 0 rfl) ?_
  refine lq_aload_n (pc := 1) hx hb dJ2_init_2_1 rfl (lv_at hl 1 rfl) ?_
  refine lq_aload_n (pc := 2) hx hb dJ2_init_2_2 rfl (lv_at hl 2 rfl) ?_
  refine lv_iload_n (pc := 3) hx hb dJ2_init_2_3 rfl (lv_at hl 3 rfl) ?_
  refine lv_iload (pc := 4) hx hb dJ2_init_2_4 (lv_at hl 4 rfl) ?_
  refine c_callJ (pc := 6) (val := vV) X hw (va_runI (As := [va_rf x1, va_rf x2, .int x3, .int x4]) (rest := []) X.1 (tJ1_init_3_w X.2.2.1 (sz := H.size) h) (cwI 4 hts (lw_meth q679) rfl rfl rfl (hts _ q106) (hts _ q677) (hts _ q678) rfl ⟨by decide, by decide, (by decide +kernel : (parseMethodDescriptor yJ1_init_3.desc).map (fun d => d.parameters.length) = some 4)⟩ ⟨Nat.le_of_ble_eq_true rfl, Nat.le_of_ble_eq_true rfl⟩) ⟨cPre_blind, fun U hU hW => ⟨rfl, X.preJ hw hU hW⟩⟩ rfl rfl hl.1 rfl (lv_room (Nat.le_of_ble_eq_true rfl)) dJ2_init_2_6 ⟨show 0 + 0 ≤ 0 by omega, show 0 + 0 ≤ 0 by omega⟩) (fun _ N2 H locs h hw => ?_)
  refine W.eq (g2 := F0 m 9 ls ([])) rfl ?_
  exact W.vret (pc := 9) hx hb hr (fun t ht hW => c_ret (val := vV) (lw := jW) (u := N2) (v := ()) hw h ht) hw.2.2.2 dJ2_init_2_9 hlk

def wX3_init (K : Nat → Nat → Nat) (post : Unit → NM → Prop) (N : NM) (x0 : Nat) (x1 : Int32) (x2 : Int32) : Prop :=
  wJ2_init_2_w K (fun _ N2 => ∃ f4 f5 f6 f7 f8 f9 f10 f11, N2 x0 = some (eO 3 [va_rf f4, va_rf f5, va_rf f6, va_rf f7, va_rf f8, .int f9, .int f10, .int f11]) ∧ (∀ N12, N12 = va_up N2 x0 (some (eO 3 [va_rf f4, va_rf f5, va_rf f6, va_rf f7, va_rf f8, .int f9, .int x1, .int f11])) → (∀ N15, N15 = va_up N12 x0 (some (eO 3 [va_rf f4, va_rf f5, va_rf f6, va_rf f7, va_rf f8, .int f9, .int x1, .int x2])) → (post () N15)))) N x0 none none (0 : Int32) (0 : Int32)
theorem tX3_init {l : Launch} {G : gG} (hO : gOk G) {post : Unit → NM → Prop} {N : NM} {x0 : Nat} {x1 : Int32} {x2 : Int32} {sz : Nat} (h : wX3_init (gC G) post N x0 x1 x2) : Met l yX3_init (ws_ yX3_init cX3_init 3 none) ⟨3, 0, 0, 68⟩ (va_Pc [.ref x0, .int x1, .int x2] (cPre G [] N sz)) (gQ vV post (fun u H => cBw G (cA [] N sz) (jW u).1 (jW u).2 H) (cA [] N sz)) 0 0 (cA [] N sz) := by
  refine c_ofW (lw := jW) (by decide) hO (Nat.le_of_ble_eq_true rfl) (fun p e s m below meth c ls A X hr hlk hin hw hl => ?_)
  have hl : lv_has ls 3 [(0, .ref x0), (1, .int x1), (2, .int x2)] := hl
  have hin := hin rfl
  have hx := X.1.1
  have hb := X.1.2.1
  have hml := X.1.2.2.1
  have hown := X.1.2.2.2.1
  have hts := X.1.2.2.2.2
  obtain ⟨H, eH⟩ : ∃ z, z = s.heap := ⟨_, rfl⟩
  rw [← eH] at hw ⊢
  obtain ⟨locs, eLo⟩ : ∃ z : List Loc, z = [] := ⟨_, rfl⟩
  rw [← eLo] at hw ⊢
  unfold wX3_init at h
  refine lv_aload_n (pc := 0) hx hb dX3_init_0 rfl (lv_at hl 0 rfl) ?_
  refine lv_null (pc := 1) hx hb dX3_init_1 ?_
  refine lv_null (pc := 2) hx hb dX3_init_2 ?_
  refine lv_iconst (pc := 3) (v := (0 : Int32)) hx hb dX3_init_3 (by decide) ?_
  refine lv_iconst (pc := 4) (v := (0 : Int32)) hx hb dX3_init_4 (by decide) ?_
  refine c_callJ (pc := 5) (val := vV) X hw (va_runI (As := [va_rf none, va_rf none, .int (0 : Int32), .int (0 : Int32)]) (rest := []) X.1 (tJ2_init_2_w X.2.2.1 (sz := H.size) h) (cwI 4 hts (lw_meth q676) rfl rfl rfl (hts _ q107) (hts _ q674) (hts _ q675) rfl ⟨by decide, by decide, (by decide +kernel : (parseMethodDescriptor yJ2_init_2.desc).map (fun d => d.parameters.length) = some 4)⟩ ⟨Nat.le_of_ble_eq_true rfl, Nat.le_of_ble_eq_true rfl⟩) ⟨cPre_blind, fun U hU hW => ⟨rfl, X.preJ hw hU hW⟩⟩ rfl rfl hl.1 rfl (lv_room (Nat.le_of_ble_eq_true rfl)) dX3_init_5 ⟨show 0 + 0 ≤ 0 by omega, show 0 + 0 ≤ 0 by omega⟩) (fun _ N2 H locs h hw => ?_)
  refine W.eq (g2 := F0 m 8 ls ([])) rfl ?_
  refine lv_aload_n (pc := 8) hx hb dX3_init_8 rfl (lv_at hl 0 rfl) ?_
  refine lv_iload_n (pc := 9) hx hb dX3_init_9 rfl (lv_at hl 1 rfl) ?_
  obtain ⟨f4, f5, f6, f7, f8, f9, f10, f11, hN3, h⟩ := h
  refine c_putF (pc := 10) X hw hN3 in_X3 tyX3 tyX3_ok nmX3 rfl 6 (by decide) q680 rfl rfl hin rfl rfl rfl rfl (Nat.le_of_ble_eq_true rfl) dX3_init_10 (fun H locs hw => ?_)
  obtain ⟨N12, e13⟩ : ∃ z, z = va_up N2 x0 (some (eO 3 [va_rf f4, va_rf f5, va_rf f6, va_rf f7, va_rf f8, .int f9, .int x1, .int f11])) := ⟨_, rfl⟩
  have hw : cH G A s [] N12 H locs := by rw [e13]; exact hw
  have h := h N12 e13
  have hN14 : N12 x0 = some (eO 3 [va_rf f4, va_rf f5, va_rf f6, va_rf f7, va_rf f8, .int f9, .int x1, .int f11]) := by rw [e13]; exact up_s
  refine lv_aload_n (pc := 13) hx hb dX3_init_13 rfl (lv_at hl 0 rfl) ?_
  refine lv_iload_n (pc := 14) hx hb dX3_init_14 rfl (lv_at hl 2 rfl) ?_
  refine c_putF (pc := 15) X hw hN14 in_X3 tyX3 tyX3_ok nmX3 rfl 7 (by decide) q682 rfl rfl hin rfl rfl rfl rfl (Nat.le_of_ble_eq_true rfl) dX3_init_15 (fun H locs hw => ?_)
  obtain ⟨N15, e16⟩ : ∃ z, z = va_up N12 x0 (some (eO 3 [va_rf f4, va_rf f5, va_rf f6, va_rf f7, va_rf f8, .int f9, .int x1, .int x2])) := ⟨_, rfl⟩
  have hw : cH G A s [] N15 H locs := by rw [e16]; exact hw
  have h := h N15 e16
  have hN17 : N15 x0 = some (eO 3 [va_rf f4, va_rf f5, va_rf f6, va_rf f7, va_rf f8, .int f9, .int x1, .int x2]) := by rw [e16]; exact up_s
  exact W.vret (pc := 18) hx hb hr (fun t ht hW => c_ret (val := vV) (lw := jW) (u := N15) (v := ()) hw h ht) hw.2.2.2 dX3_init_18 hlk

def wJ1_init_3_i_41 (K : Nat → Nat → Nat) (post : Unit → NM → Prop) (x0 : Nat) (x1 : Option Nat) (x2 : Option Nat) (x3 : Int32) (N : NM) : Prop :=
  ∃ f27 f28 f29 f30 f31 f32 f33, N x0 = some (eO 4 [va_rf f27, va_rf f28, va_rf f29, va_rf f30, va_rf f31, .int f32, .int f33]) ∧ (∀ N34, N34 = va_up N x0 (some (eO 4 [va_rf f27, va_rf f28, va_rf f29, va_rf x1, va_rf f31, .int f32, .int f33])) → (∀ N37, N37 = va_up N34 x0 (some (eO 4 [va_rf x2, va_rf f28, va_rf f29, va_rf x1, va_rf f31, .int f32, .int f33])) → (((x3 = (0 : Int32)) → (∀ N41, N41 = va_up N37 x0 (some (eO 4 [va_rf x2, va_rf f28, va_rf none, va_rf x1, va_rf f31, .int f32, .int f33])) → (post () N41))) ∧ (¬ (x3 = (0 : Int32)) → (post () N37)))))
def wJ1_init_3_i (K : Nat → Nat → Nat) (post : Unit → NM → Prop) (N : NM) (x0 : Nat) (x1 : Option Nat) (x2 : Option Nat) (x3 : Int32) (x4 : Int32) : Prop :=
  ∃ f2 f3 f4 f5 f6 f7 f8, N x0 = some (eO 4 [va_rf f2, va_rf f3, va_rf f4, va_rf f5, va_rf f6, .int f7, .int f8]) ∧ (∀ N9, N9 = va_up N x0 (some (eO 4 [va_rf (some x0), va_rf f3, va_rf f4, va_rf f5, va_rf f6, .int f7, .int f8])) → (∀ z12 : Option Nat, (∀ N14, N14 = va_up N9 x0 (some (eO 4 [va_rf (some x0), va_rf z12, va_rf f4, va_rf f5, va_rf f6, .int f7, .int f8])) → (∀ z17 : Option Nat, (∀ N19, N19 = va_up N14 x0 (some (eO 4 [va_rf (some x0), va_rf z12, va_rf z17, va_rf f5, va_rf f6, .int f7, .int f8])) → (((x4 = (0 : Int32)) → (∀ N23, N23 = va_up N19 x0 (some (eO 4 [va_rf (some x0), va_rf none, va_rf z17, va_rf f5, va_rf f6, .int f7, .int f8])) → (wJ1_init_3_i_41 K post x0 x1 x2 x3 N23))) ∧ (¬ (x4 = (0 : Int32)) → (False))))))))
theorem kJ1_init_3_i_41 {p : Program} {l : Launch} {e : Env} {s : State} {m : MethodId} {args : Array Value} {below : List Frame} {meth : Method} {c : Code} {G : gG} {A : Nat → Prop} {post : Unit → NM → Prop} (X : cX G A RJ1 p s m args c cJ1_init_3 5) (hr : meth.sig.returnType = none) (hlk : meth.locks = false) (hin : meth.name = "<init>") : ∀ (x0 : Nat) (x1 : Option Nat) (x2 : Option Nat) (x3 : Int32) (N : NM) (H : Heap) (locs : List Loc) (ls : Array Slot), wJ1_init_3_i_41 (gC G) post x0 x1 x2 x3 N → cH G A s [] N H locs → lv_has ls 5 [(0, .ref x0), (1, va_rf x1), (2, va_rf x2), (3, .int x3)] → W p l e ⟨1, 0, 0, 20⟩ s m args below meth c H locs 0 0 (MQ below (gQ vV post (fun u H => cBw G A (jW u).1 (jW u).2 H) A) args s 0 0 A) (F0 m 41 ls []) := by
  have hx := X.1.1
  have hb := X.1.2.1
  have hml := X.1.2.2.1
  have hown := X.1.2.2.2.1
  have hts := X.1.2.2.2.2
  intro x0 x1 x2 x3 N H locs ls h hw hl
  unfold wJ1_init_3_i_41 at h
  refine lv_aload_n (pc := 41) hx hb dJ1_init_3_41 rfl (lv_at hl 0 rfl) ?_
  refine lq_aload_n (pc := 42) hx hb dJ1_init_3_42 rfl (lv_at hl 1 rfl) ?_
  obtain ⟨f27, f28, f29, f30, f31, f32, f33, hN26, h⟩ := h
  refine c_put (pc := 43) (v := va_rf x1) X hw hN26 in_X8 tyX8 tyX8_ok nmX8 rfl 3 (by decide) q331 rfl rfl rfl (rf_n x1 _) (rf_f x1 _) (Nat.le_of_ble_eq_true rfl) dJ1_init_3_43 (fun H locs hw => ?_)
  obtain ⟨N34, e35⟩ : ∃ z, z = va_up N x0 (some (eO 4 [va_rf f27, va_rf f28, va_rf f29, va_rf x1, va_rf f31, .int f32, .int f33])) := ⟨_, rfl⟩
  have hw : cH G A s [] N34 H locs := by rw [e35]; exact hw
  have h := h N34 e35
  have hN36 : N34 x0 = some (eO 4 [va_rf f27, va_rf f28, va_rf f29, va_rf x1, va_rf f31, .int f32, .int f33]) := by rw [e35]; exact up_s
  refine lv_aload_n (pc := 46) hx hb dJ1_init_3_46 rfl (lv_at hl 0 rfl) ?_
  refine lq_aload_n (pc := 47) hx hb dJ1_init_3_47 rfl (lv_at hl 2 rfl) ?_
  refine c_put (pc := 48) (v := va_rf x2) X hw hN36 in_X8 tyX8 tyX8_ok nmX8 rfl 0 (by decide) q332 rfl rfl rfl (rf_n x2 _) (rf_f x2 _) (Nat.le_of_ble_eq_true rfl) dJ1_init_3_48 (fun H locs hw => ?_)
  obtain ⟨N37, e38⟩ : ∃ z, z = va_up N34 x0 (some (eO 4 [va_rf x2, va_rf f28, va_rf f29, va_rf x1, va_rf f31, .int f32, .int f33])) := ⟨_, rfl⟩
  have hw : cH G A s [] N37 H locs := by rw [e38]; exact hw
  have h := h N37 e38
  have hN39 : N37 x0 = some (eO 4 [va_rf x2, va_rf f28, va_rf f29, va_rf x1, va_rf f31, .int f32, .int f33]) := by rw [e38]; exact up_s
  refine lv_iload_n (pc := 51) hx hb dJ1_init_3_51 rfl (lv_at hl 3 rfl) ?_
  refine lv_if_ne (pc := 52) (tgt := 60) hx hb dJ1_init_3_52 rfl (fun c40 => ?_) (fun c40 => ?_)
  · have h := h.2 c40
    exact W.vret (pc := 60) hx hb hr (fun t ht hW => c_ret (val := vV) (lw := jW) (u := N37) (v := ()) hw h ht) hw.2.2.2 dJ1_init_3_60 hlk
  · have h := h.1 c40
    refine lv_aload_n (pc := 55) hx hb dJ1_init_3_55 rfl (lv_at hl 0 rfl) ?_
    refine lv_null (pc := 56) hx hb dJ1_init_3_56 ?_
    refine c_put (pc := 57) (v := va_rf none) X hw hN39 in_X8 tyX8 tyX8_ok nmX8 rfl 2 (by decide) q334 rfl rfl rfl (rf_n none _) (rf_f none _) (Nat.le_of_ble_eq_true rfl) dJ1_init_3_57 (fun H locs hw => ?_)
    obtain ⟨N41, e42⟩ : ∃ z, z = va_up N37 x0 (some (eO 4 [va_rf x2, va_rf f28, va_rf none, va_rf x1, va_rf f31, .int f32, .int f33])) := ⟨_, rfl⟩
    have hw : cH G A s [] N41 H locs := by rw [e42]; exact hw
    have h := h N41 e42
    have hN43 : N41 x0 = some (eO 4 [va_rf x2, va_rf f28, va_rf none, va_rf x1, va_rf f31, .int f32, .int f33]) := by rw [e42]; exact up_s
    exact W.vret (pc := 60) hx hb hr (fun t ht hW => c_ret (val := vV) (lw := jW) (u := N41) (v := ()) hw h ht) hw.2.2.2 dJ1_init_3_60 hlk
theorem tJ1_init_3_i {l : Launch} {G : gG} (hO : gOk G) {post : Unit → NM → Prop} {N : NM} {x0 : Nat} {x1 : Option Nat} {x2 : Option Nat} {x3 : Int32} {x4 : Int32} {sz : Nat} (h : wJ1_init_3_i (gC G) post N x0 x1 x2 x3 x4) : Met l yJ1_init_3 (ws_ yJ1_init_3 cJ1_init_3 5 none) ⟨1, 0, 0, 20⟩ (va_Pc [.ref x0, va_rf x1, va_rf x2, .int x3, .int x4] (cPre G [] N sz)) (gQ vV post (fun u H => cBw G (cA [] N sz) (jW u).1 (jW u).2 H) (cA [] N sz)) 0 0 (cA [] N sz) := by
  refine c_ofW (lw := jW) (by decide) hO (by cases x1 <;> cases x2 <;> exact Nat.le_of_ble_eq_true rfl) (fun p e s m below meth c ls A X hr hlk hin hw hl => ?_)
  have hl : lv_has ls 5 [(0, .ref x0), (1, va_rf x1), (2, va_rf x2), (3, .int x3), (4, .int x4)] := by cases x1 <;> cases x2 <;> exact hl
  have hin := hin rfl
  have hx := X.1.1
  have hb := X.1.2.1
  have hml := X.1.2.2.1
  have hown := X.1.2.2.2.1
  have hts := X.1.2.2.2.2
  obtain ⟨H, eH⟩ : ∃ z, z = s.heap := ⟨_, rfl⟩
  rw [← eH] at hw ⊢
  obtain ⟨locs, eLo⟩ : ∃ z : List Loc, z = [] := ⟨_, rfl⟩
  rw [← eLo] at hw ⊢
  unfold wJ1_init_3_i at h
  refine lv_aload_n (pc := 0) hx hb dJ1_init_3_0 rfl (lv_at hl 0 rfl) ?_
  refine W.objInit hx hb hown (hts _ q298) (hts _ q181) (hts _ q182) rfl (by rw [hml]; exact hl.1) rfl dJ1_init_3_1 (Nat.le_of_ble_eq_true rfl) (Nat.le_of_ble_eq_true rfl) ?_
  refine W.eq (g2 := F0 m 4 ls []) rfl ?_
  refine lv_aload_n (pc := 4) hx hb dJ1_init_3_4 rfl (lv_at hl 0 rfl) ?_
  refine lv_aload_n (pc := 5) hx hb dJ1_init_3_5 rfl (lv_at hl 0 rfl) ?_
  obtain ⟨f2, f3, f4, f5, f6, f7, f8, hN1, h⟩ := h
  refine c_put (pc := 6) (v := va_rf (some x0)) X hw hN1 in_X8 tyX8 tyX8_ok nmX8 rfl 0 (by decide) q332 rfl rfl rfl (rf_n (some x0) _) (rf_f (some x0) _) (Nat.le_of_ble_eq_true rfl) dJ1_init_3_6 (fun H locs hw => ?_)
  obtain ⟨N9, e10⟩ : ∃ z, z = va_up N x0 (some (eO 4 [va_rf (some x0), va_rf f3, va_rf f4, va_rf f5, va_rf f6, .int f7, .int f8])) := ⟨_, rfl⟩
  have hw : cH G A s [] N9 H locs := by rw [e10]; exact hw
  have h := h N9 e10
  have hN11 : N9 x0 = some (eO 4 [va_rf (some x0), va_rf f3, va_rf f4, va_rf f5, va_rf f6, .int f7, .int f8]) := by rw [e10]; exact up_s
  refine lv_aload_n (pc := 9) hx hb dJ1_init_3_9 rfl (lv_at hl 0 rfl) ?_
  obtain ⟨z12, hz13⟩ := X.Zq X.cs.2.2.2.2.2.2.2.1
  have h := h z12
  refine va_gets (pc := 10) hx hb hz13 hw.2 hown (hts _ q299) (fun x h => h) dJ1_init_3_10 ?_
  refine c_put (pc := 13) (v := va_rf z12) X hw hN11 in_X8 tyX8 tyX8_ok nmX8 rfl 1 (by decide) q333 rfl rfl rfl (rf_na z12 _) (rf_fa z12 _) (Nat.le_of_ble_eq_true rfl) dJ1_init_3_13 (fun H locs hw => ?_)
  obtain ⟨N14, e15⟩ : ∃ z, z = va_up N9 x0 (some (eO 4 [va_rf (some x0), va_rf z12, va_rf f4, va_rf f5, va_rf f6, .int f7, .int f8])) := ⟨_, rfl⟩
  have hw : cH G A s [] N14 H locs := by rw [e15]; exact hw
  have h := h N14 e15
  have hN16 : N14 x0 = some (eO 4 [va_rf (some x0), va_rf z12, va_rf f4, va_rf f5, va_rf f6, .int f7, .int f8]) := by rw [e15]; exact up_s
  refine lv_aload_n (pc := 16) hx hb dJ1_init_3_16 rfl (lv_at hl 0 rfl) ?_
  obtain ⟨z17, hz18⟩ := X.Zq X.cs.2.2.2.2.2.2.2.2
  have h := h z17
  refine va_gets (pc := 17) hx hb hz18 hw.2 hown (hts _ q301) (fun x h => h) dJ1_init_3_17 ?_
  refine c_put (pc := 20) (v := va_rf z17) X hw hN16 in_X8 tyX8 tyX8_ok nmX8 rfl 2 (by decide) q334 rfl rfl rfl (rf_n z17 _) (rf_f z17 _) (Nat.le_of_ble_eq_true rfl) dJ1_init_3_20 (fun H locs hw => ?_)
  obtain ⟨N19, e20⟩ : ∃ z, z = va_up N14 x0 (some (eO 4 [va_rf (some x0), va_rf z12, va_rf z17, va_rf f5, va_rf f6, .int f7, .int f8])) := ⟨_, rfl⟩
  have hw : cH G A s [] N19 H locs := by rw [e20]; exact hw
  have h := h N19 e20
  have hN21 : N19 x0 = some (eO 4 [va_rf (some x0), va_rf z12, va_rf z17, va_rf f5, va_rf f6, .int f7, .int f8]) := by rw [e20]; exact up_s
  refine lv_iload (pc := 23) hx hb dJ1_init_3_23 (lv_at hl 4 rfl) ?_
  refine lv_if_eq (pc := 25) (tgt := 36) hx hb dJ1_init_3_25 rfl (fun c22 => ?_) (fun c22 => ?_)
  · have h := h.1 c22
    refine lv_aload_n (pc := 36) hx hb dJ1_init_3_36 rfl (lv_at hl 0 rfl) ?_
    refine lv_null (pc := 37) hx hb dJ1_init_3_37 ?_
    refine c_put (pc := 38) (v := va_rf none) X hw hN21 in_X8 tyX8 tyX8_ok nmX8 rfl 1 (by decide) q333 rfl rfl rfl (rf_na none _) (rf_fa none _) (Nat.le_of_ble_eq_true rfl) dJ1_init_3_38 (fun H locs hw => ?_)
    obtain ⟨N23, e24⟩ : ∃ z, z = va_up N19 x0 (some (eO 4 [va_rf (some x0), va_rf none, va_rf z17, va_rf f5, va_rf f6, .int f7, .int f8])) := ⟨_, rfl⟩
    have hw : cH G A s [] N23 H locs := by rw [e24]; exact hw
    have h := h N23 e24
    have hN25 : N23 x0 = some (eO 4 [va_rf (some x0), va_rf none, va_rf z17, va_rf f5, va_rf f6, .int f7, .int f8]) := by rw [e24]; exact up_s
    exact kJ1_init_3_i_41 X hr hlk hin  _ _ _ _ _ _ _ _ h hw (lv_sub hl [0, 1, 2, 3] rfl)
  · have h := h.2 c22
    exact False.elim h

def wJ2_init_2_i (K : Nat → Nat → Nat) (post : Unit → NM → Prop) (N : NM) (x0 : Nat) (x1 : Option Nat) (x2 : Option Nat) (x3 : Int32) (x4 : Int32) : Prop :=
  wJ1_init_3_i K (fun _ N2 => post () N2) N x0 x1 x2 x3 x4
theorem tJ2_init_2_i {l : Launch} {G : gG} (hO : gOk G) {post : Unit → NM → Prop} {N : NM} {x0 : Nat} {x1 : Option Nat} {x2 : Option Nat} {x3 : Int32} {x4 : Int32} {sz : Nat} (h : wJ2_init_2_i (gC G) post N x0 x1 x2 x3 x4) : Met l yJ2_init_2 (ws_ yJ2_init_2 cJ2_init_2 5 none) ⟨2, 0, 0, 44⟩ (va_Pc [.ref x0, va_rf x1, va_rf x2, .int x3, .int x4] (cPre G [] N sz)) (gQ vV post (fun u H => cBw G (cA [] N sz) (jW u).1 (jW u).2 H) (cA [] N sz)) 0 0 (cA [] N sz) := by
  refine c_ofW (lw := jW) (by decide) hO (by cases x1 <;> cases x2 <;> exact Nat.le_of_ble_eq_true rfl) (fun p e s m below meth c ls A X hr hlk hin hw hl => ?_)
  have hl : lv_has ls 5 [(0, .ref x0), (1, va_rf x1), (2, va_rf x2), (3, .int x3), (4, .int x4)] := by cases x1 <;> cases x2 <;> exact hl
  have hin := hin rfl
  have hx := X.1.1
  have hb := X.1.2.1
  have hml := X.1.2.2.1
  have hown := X.1.2.2.2.1
  have hts := X.1.2.2.2.2
  obtain ⟨H, eH⟩ : ∃ z, z = s.heap := ⟨_, rfl⟩
  rw [← eH] at hw ⊢
  obtain ⟨locs, eLo⟩ : ∃ z : List Loc, z = [] := ⟨_, rfl⟩
  rw [← eLo] at hw ⊢
  unfold wJ2_init_2_i at h
  refine lv_aload_n (pc := 0) hx hb dJ2_init_2_0 rfl (lv_at hl 0 rfl) ?_
  refine lq_aload_n (pc := 1) hx hb dJ2_init_2_1 rfl (lv_at hl 1 rfl) ?_
  refine lq_aload_n (pc := 2) hx hb dJ2_init_2_2 rfl (lv_at hl 2 rfl) ?_
  refine lv_iload_n (pc := 3) hx hb dJ2_init_2_3 rfl (lv_at hl 3 rfl) ?_
  refine lv_iload (pc := 4) hx hb dJ2_init_2_4 (lv_at hl 4 rfl) ?_
  refine c_callJ (pc := 6) (val := vV) X hw (va_runI (As := [va_rf x1, va_rf x2, .int x3, .int x4]) (rest := []) X.1 (tJ1_init_3_i X.2.2.1 (sz := H.size) h) (cwI 4 hts (lw_meth q679) rfl rfl rfl (hts _ q106) (hts _ q677) (hts _ q678) rfl ⟨by decide, by decide, (by decide +kernel : (parseMethodDescriptor yJ1_init_3.desc).map (fun d => d.parameters.length) = some 4)⟩ ⟨Nat.le_of_ble_eq_true rfl, Nat.le_of_ble_eq_true rfl⟩) ⟨cPre_blind, fun U hU hW => ⟨rfl, X.preJ hw hU hW⟩⟩ rfl rfl hl.1 rfl (lv_room (Nat.le_of_ble_eq_true rfl)) dJ2_init_2_6 ⟨show 0 + 0 ≤ 0 by omega, show 0 + 0 ≤ 0 by omega⟩) (fun _ N2 H locs h hw => ?_)
  refine W.eq (g2 := F0 m 9 ls ([])) rfl ?_
  exact W.vret (pc := 9) hx hb hr (fun t ht hW => c_ret (val := vV) (lw := jW) (u := N2) (v := ()) hw h ht) hw.2.2.2 dJ2_init_2_9 hlk

def wX8_init (K : Nat → Nat → Nat) (post : Unit → NM → Prop) (N : NM) (x0 : Nat) (x1 : Int32) (x2 : Option Nat) : Prop :=
  wJ2_init_2_i K (fun _ N2 => ∃ f4 f5 f6 f7 f8 f9 f10, N2 x0 = some (eO 4 [va_rf f4, va_rf f5, va_rf f6, va_rf f7, va_rf f8, .int f9, .int f10]) ∧ (∀ N11, N11 = va_up N2 x0 (some (eO 4 [va_rf f4, va_rf f5, va_rf f6, va_rf f7, va_rf f8, .int f9, .int x1])) → (post () N11))) N x0 none x2 (0 : Int32) (0 : Int32)
theorem tX8_init {l : Launch} {G : gG} (hO : gOk G) {post : Unit → NM → Prop} {N : NM} {x0 : Nat} {x1 : Int32} {x2 : Option Nat} {sz : Nat} (h : wX8_init (gC G) post N x0 x1 x2) : Met l yX8_init (ws_ yX8_init cX8_init 3 none) ⟨3, 0, 0, 68⟩ (va_Pc [.ref x0, .int x1, va_rf x2] (cPre G [] N sz)) (gQ vV post (fun u H => cBw G (cA [] N sz) (jW u).1 (jW u).2 H) (cA [] N sz)) 0 0 (cA [] N sz) := by
  refine c_ofW (lw := jW) (by decide) hO (by cases x2 <;> exact Nat.le_of_ble_eq_true rfl) (fun p e s m below meth c ls A X hr hlk hin hw hl => ?_)
  have hl : lv_has ls 3 [(0, .ref x0), (1, .int x1), (2, va_rf x2)] := by cases x2 <;> exact hl
  have hin := hin rfl
  have hx := X.1.1
  have hb := X.1.2.1
  have hml := X.1.2.2.1
  have hown := X.1.2.2.2.1
  have hts := X.1.2.2.2.2
  obtain ⟨H, eH⟩ : ∃ z, z = s.heap := ⟨_, rfl⟩
  rw [← eH] at hw ⊢
  obtain ⟨locs, eLo⟩ : ∃ z : List Loc, z = [] := ⟨_, rfl⟩
  rw [← eLo] at hw ⊢
  unfold wX8_init at h
  refine lv_aload_n (pc := 0) hx hb dX8_init_0 rfl (lv_at hl 0 rfl) ?_
  refine lv_null (pc := 1) hx hb dX8_init_1 ?_
  refine lq_aload_n (pc := 2) hx hb dX8_init_2 rfl (lv_at hl 2 rfl) ?_
  refine lv_iconst (pc := 3) (v := (0 : Int32)) hx hb dX8_init_3 (by decide) ?_
  refine lv_iconst (pc := 4) (v := (0 : Int32)) hx hb dX8_init_4 (by decide) ?_
  refine c_callJ (pc := 5) (val := vV) X hw (va_runI (As := [va_rf none, va_rf x2, .int (0 : Int32), .int (0 : Int32)]) (rest := []) X.1 (tJ2_init_2_i X.2.2.1 (sz := H.size) h) (cwI 4 hts (lw_meth q676) rfl rfl rfl (hts _ q107) (hts _ q1404) (hts _ q675) rfl ⟨by decide, by decide, (by decide +kernel : (parseMethodDescriptor yJ2_init_2.desc).map (fun d => d.parameters.length) = some 4)⟩ ⟨Nat.le_of_ble_eq_true rfl, Nat.le_of_ble_eq_true rfl⟩) ⟨cPre_blind, fun U hU hW => ⟨rfl, X.preJ hw hU hW⟩⟩ rfl rfl hl.1 rfl (lv_room (Nat.le_of_ble_eq_true rfl)) dX8_init_5 ⟨show 0 + 0 ≤ 0 by omega, show 0 + 0 ≤ 0 by omega⟩) (fun _ N2 H locs h hw => ?_)
  refine W.eq (g2 := F0 m 8 ls ([])) rfl ?_
  refine lv_aload_n (pc := 8) hx hb dX8_init_8 rfl (lv_at hl 0 rfl) ?_
  refine lv_iload_n (pc := 9) hx hb dX8_init_9 rfl (lv_at hl 1 rfl) ?_
  obtain ⟨f4, f5, f6, f7, f8, f9, f10, hN3, h⟩ := h
  refine c_putF (pc := 10) X hw hN3 in_X8 tyX8 tyX8_ok nmX8 rfl 6 (by decide) q1405 rfl rfl hin rfl rfl rfl rfl (Nat.le_of_ble_eq_true rfl) dX8_init_10 (fun H locs hw => ?_)
  obtain ⟨N11, e12⟩ : ∃ z, z = va_up N2 x0 (some (eO 4 [va_rf f4, va_rf f5, va_rf f6, va_rf f7, va_rf f8, .int f9, .int x1])) := ⟨_, rfl⟩
  have hw : cH G A s [] N11 H locs := by rw [e12]; exact hw
  have h := h N11 e12
  have hN13 : N11 x0 = some (eO 4 [va_rf f4, va_rf f5, va_rf f6, va_rf f7, va_rf f8, .int f9, .int x1]) := by rw [e12]; exact up_s
  exact W.vret (pc := 13) hx hb hr (fun t ht hW => c_ret (val := vV) (lw := jW) (u := N11) (v := ()) hw h ht) hw.2.2.2 dX8_init_13 hlk

def wJ1_init_3_o_41 (K : Nat → Nat → Nat) (post : Unit → NM → Prop) (x0 : Nat) (x1 : Option Nat) (x2 : Option Nat) (x3 : Int32) (N : NM) : Prop :=
  ∃ f27 f28 f29 f30 f31 f32 f33, N x0 = some (eO 5 [va_rf f27, va_rf f28, va_rf f29, va_rf f30, va_rf f31, .int f32, .int f33]) ∧ (∀ N34, N34 = va_up N x0 (some (eO 5 [va_rf f27, va_rf f28, va_rf f29, va_rf x1, va_rf f31, .int f32, .int f33])) → (∀ N37, N37 = va_up N34 x0 (some (eO 5 [va_rf x2, va_rf f28, va_rf f29, va_rf x1, va_rf f31, .int f32, .int f33])) → (((x3 = (0 : Int32)) → (∀ N41, N41 = va_up N37 x0 (some (eO 5 [va_rf x2, va_rf f28, va_rf none, va_rf x1, va_rf f31, .int f32, .int f33])) → (post () N41))) ∧ (¬ (x3 = (0 : Int32)) → (post () N37)))))
def wJ1_init_3_o (K : Nat → Nat → Nat) (post : Unit → NM → Prop) (N : NM) (x0 : Nat) (x1 : Option Nat) (x2 : Option Nat) (x3 : Int32) (x4 : Int32) : Prop :=
  ∃ f2 f3 f4 f5 f6 f7 f8, N x0 = some (eO 5 [va_rf f2, va_rf f3, va_rf f4, va_rf f5, va_rf f6, .int f7, .int f8]) ∧ (∀ N9, N9 = va_up N x0 (some (eO 5 [va_rf (some x0), va_rf f3, va_rf f4, va_rf f5, va_rf f6, .int f7, .int f8])) → (∀ z12 : Option Nat, (∀ N14, N14 = va_up N9 x0 (some (eO 5 [va_rf (some x0), va_rf z12, va_rf f4, va_rf f5, va_rf f6, .int f7, .int f8])) → (∀ z17 : Option Nat, (∀ N19, N19 = va_up N14 x0 (some (eO 5 [va_rf (some x0), va_rf z12, va_rf z17, va_rf f5, va_rf f6, .int f7, .int f8])) → (((x4 = (0 : Int32)) → (∀ N23, N23 = va_up N19 x0 (some (eO 5 [va_rf (some x0), va_rf none, va_rf z17, va_rf f5, va_rf f6, .int f7, .int f8])) → (wJ1_init_3_o_41 K post x0 x1 x2 x3 N23))) ∧ (¬ (x4 = (0 : Int32)) → (False))))))))
theorem kJ1_init_3_o_41 {p : Program} {l : Launch} {e : Env} {s : State} {m : MethodId} {args : Array Value} {below : List Frame} {meth : Method} {c : Code} {G : gG} {A : Nat → Prop} {post : Unit → NM → Prop} (X : cX G A RJ1 p s m args c cJ1_init_3 5) (hr : meth.sig.returnType = none) (hlk : meth.locks = false) (hin : meth.name = "<init>") : ∀ (x0 : Nat) (x1 : Option Nat) (x2 : Option Nat) (x3 : Int32) (N : NM) (H : Heap) (locs : List Loc) (ls : Array Slot), wJ1_init_3_o_41 (gC G) post x0 x1 x2 x3 N → cH G A s [] N H locs → lv_has ls 5 [(0, .ref x0), (1, va_rf x1), (2, va_rf x2), (3, .int x3)] → W p l e ⟨1, 0, 0, 20⟩ s m args below meth c H locs 0 0 (MQ below (gQ vV post (fun u H => cBw G A (jW u).1 (jW u).2 H) A) args s 0 0 A) (F0 m 41 ls []) := by
  have hx := X.1.1
  have hb := X.1.2.1
  have hml := X.1.2.2.1
  have hown := X.1.2.2.2.1
  have hts := X.1.2.2.2.2
  intro x0 x1 x2 x3 N H locs ls h hw hl
  unfold wJ1_init_3_o_41 at h
  refine lv_aload_n (pc := 41) hx hb dJ1_init_3_41 rfl (lv_at hl 0 rfl) ?_
  refine lq_aload_n (pc := 42) hx hb dJ1_init_3_42 rfl (lv_at hl 1 rfl) ?_
  obtain ⟨f27, f28, f29, f30, f31, f32, f33, hN26, h⟩ := h
  refine c_put (pc := 43) (v := va_rf x1) X hw hN26 in_X5 tyX5 tyX5_ok nmX5 rfl 3 (by decide) q331 rfl rfl rfl (rf_n x1 _) (rf_f x1 _) (Nat.le_of_ble_eq_true rfl) dJ1_init_3_43 (fun H locs hw => ?_)
  obtain ⟨N34, e35⟩ : ∃ z, z = va_up N x0 (some (eO 5 [va_rf f27, va_rf f28, va_rf f29, va_rf x1, va_rf f31, .int f32, .int f33])) := ⟨_, rfl⟩
  have hw : cH G A s [] N34 H locs := by rw [e35]; exact hw
  have h := h N34 e35
  have hN36 : N34 x0 = some (eO 5 [va_rf f27, va_rf f28, va_rf f29, va_rf x1, va_rf f31, .int f32, .int f33]) := by rw [e35]; exact up_s
  refine lv_aload_n (pc := 46) hx hb dJ1_init_3_46 rfl (lv_at hl 0 rfl) ?_
  refine lq_aload_n (pc := 47) hx hb dJ1_init_3_47 rfl (lv_at hl 2 rfl) ?_
  refine c_put (pc := 48) (v := va_rf x2) X hw hN36 in_X5 tyX5 tyX5_ok nmX5 rfl 0 (by decide) q332 rfl rfl rfl (rf_n x2 _) (rf_f x2 _) (Nat.le_of_ble_eq_true rfl) dJ1_init_3_48 (fun H locs hw => ?_)
  obtain ⟨N37, e38⟩ : ∃ z, z = va_up N34 x0 (some (eO 5 [va_rf x2, va_rf f28, va_rf f29, va_rf x1, va_rf f31, .int f32, .int f33])) := ⟨_, rfl⟩
  have hw : cH G A s [] N37 H locs := by rw [e38]; exact hw
  have h := h N37 e38
  have hN39 : N37 x0 = some (eO 5 [va_rf x2, va_rf f28, va_rf f29, va_rf x1, va_rf f31, .int f32, .int f33]) := by rw [e38]; exact up_s
  refine lv_iload_n (pc := 51) hx hb dJ1_init_3_51 rfl (lv_at hl 3 rfl) ?_
  refine lv_if_ne (pc := 52) (tgt := 60) hx hb dJ1_init_3_52 rfl (fun c40 => ?_) (fun c40 => ?_)
  · have h := h.2 c40
    exact W.vret (pc := 60) hx hb hr (fun t ht hW => c_ret (val := vV) (lw := jW) (u := N37) (v := ()) hw h ht) hw.2.2.2 dJ1_init_3_60 hlk
  · have h := h.1 c40
    refine lv_aload_n (pc := 55) hx hb dJ1_init_3_55 rfl (lv_at hl 0 rfl) ?_
    refine lv_null (pc := 56) hx hb dJ1_init_3_56 ?_
    refine c_put (pc := 57) (v := va_rf none) X hw hN39 in_X5 tyX5 tyX5_ok nmX5 rfl 2 (by decide) q334 rfl rfl rfl (rf_n none _) (rf_f none _) (Nat.le_of_ble_eq_true rfl) dJ1_init_3_57 (fun H locs hw => ?_)
    obtain ⟨N41, e42⟩ : ∃ z, z = va_up N37 x0 (some (eO 5 [va_rf x2, va_rf f28, va_rf none, va_rf x1, va_rf f31, .int f32, .int f33])) := ⟨_, rfl⟩
    have hw : cH G A s [] N41 H locs := by rw [e42]; exact hw
    have h := h N41 e42
    have hN43 : N41 x0 = some (eO 5 [va_rf x2, va_rf f28, va_rf none, va_rf x1, va_rf f31, .int f32, .int f33]) := by rw [e42]; exact up_s
    exact W.vret (pc := 60) hx hb hr (fun t ht hW => c_ret (val := vV) (lw := jW) (u := N41) (v := ()) hw h ht) hw.2.2.2 dJ1_init_3_60 hlk
theorem tJ1_init_3_o {l : Launch} {G : gG} (hO : gOk G) {post : Unit → NM → Prop} {N : NM} {x0 : Nat} {x1 : Option Nat} {x2 : Option Nat} {x3 : Int32} {x4 : Int32} {sz : Nat} (h : wJ1_init_3_o (gC G) post N x0 x1 x2 x3 x4) : Met l yJ1_init_3 (ws_ yJ1_init_3 cJ1_init_3 5 none) ⟨1, 0, 0, 20⟩ (va_Pc [.ref x0, va_rf x1, va_rf x2, .int x3, .int x4] (cPre G [] N sz)) (gQ vV post (fun u H => cBw G (cA [] N sz) (jW u).1 (jW u).2 H) (cA [] N sz)) 0 0 (cA [] N sz) := by
  refine c_ofW (lw := jW) (by decide) hO (by cases x1 <;> cases x2 <;> exact Nat.le_of_ble_eq_true rfl) (fun p e s m below meth c ls A X hr hlk hin hw hl => ?_)
  have hl : lv_has ls 5 [(0, .ref x0), (1, va_rf x1), (2, va_rf x2), (3, .int x3), (4, .int x4)] := by cases x1 <;> cases x2 <;> exact hl
  have hin := hin rfl
  have hx := X.1.1
  have hb := X.1.2.1
  have hml := X.1.2.2.1
  have hown := X.1.2.2.2.1
  have hts := X.1.2.2.2.2
  obtain ⟨H, eH⟩ : ∃ z, z = s.heap := ⟨_, rfl⟩
  rw [← eH] at hw ⊢
  obtain ⟨locs, eLo⟩ : ∃ z : List Loc, z = [] := ⟨_, rfl⟩
  rw [← eLo] at hw ⊢
  unfold wJ1_init_3_o at h
  refine lv_aload_n (pc := 0) hx hb dJ1_init_3_0 rfl (lv_at hl 0 rfl) ?_
  refine W.objInit hx hb hown (hts _ q298) (hts _ q181) (hts _ q182) rfl (by rw [hml]; exact hl.1) rfl dJ1_init_3_1 (Nat.le_of_ble_eq_true rfl) (Nat.le_of_ble_eq_true rfl) ?_
  refine W.eq (g2 := F0 m 4 ls []) rfl ?_
  refine lv_aload_n (pc := 4) hx hb dJ1_init_3_4 rfl (lv_at hl 0 rfl) ?_
  refine lv_aload_n (pc := 5) hx hb dJ1_init_3_5 rfl (lv_at hl 0 rfl) ?_
  obtain ⟨f2, f3, f4, f5, f6, f7, f8, hN1, h⟩ := h
  refine c_put (pc := 6) (v := va_rf (some x0)) X hw hN1 in_X5 tyX5 tyX5_ok nmX5 rfl 0 (by decide) q332 rfl rfl rfl (rf_n (some x0) _) (rf_f (some x0) _) (Nat.le_of_ble_eq_true rfl) dJ1_init_3_6 (fun H locs hw => ?_)
  obtain ⟨N9, e10⟩ : ∃ z, z = va_up N x0 (some (eO 5 [va_rf (some x0), va_rf f3, va_rf f4, va_rf f5, va_rf f6, .int f7, .int f8])) := ⟨_, rfl⟩
  have hw : cH G A s [] N9 H locs := by rw [e10]; exact hw
  have h := h N9 e10
  have hN11 : N9 x0 = some (eO 5 [va_rf (some x0), va_rf f3, va_rf f4, va_rf f5, va_rf f6, .int f7, .int f8]) := by rw [e10]; exact up_s
  refine lv_aload_n (pc := 9) hx hb dJ1_init_3_9 rfl (lv_at hl 0 rfl) ?_
  obtain ⟨z12, hz13⟩ := X.Zq X.cs.2.2.2.2.2.2.2.1
  have h := h z12
  refine va_gets (pc := 10) hx hb hz13 hw.2 hown (hts _ q299) (fun x h => h) dJ1_init_3_10 ?_
  refine c_put (pc := 13) (v := va_rf z12) X hw hN11 in_X5 tyX5 tyX5_ok nmX5 rfl 1 (by decide) q333 rfl rfl rfl (rf_na z12 _) (rf_fa z12 _) (Nat.le_of_ble_eq_true rfl) dJ1_init_3_13 (fun H locs hw => ?_)
  obtain ⟨N14, e15⟩ : ∃ z, z = va_up N9 x0 (some (eO 5 [va_rf (some x0), va_rf z12, va_rf f4, va_rf f5, va_rf f6, .int f7, .int f8])) := ⟨_, rfl⟩
  have hw : cH G A s [] N14 H locs := by rw [e15]; exact hw
  have h := h N14 e15
  have hN16 : N14 x0 = some (eO 5 [va_rf (some x0), va_rf z12, va_rf f4, va_rf f5, va_rf f6, .int f7, .int f8]) := by rw [e15]; exact up_s
  refine lv_aload_n (pc := 16) hx hb dJ1_init_3_16 rfl (lv_at hl 0 rfl) ?_
  obtain ⟨z17, hz18⟩ := X.Zq X.cs.2.2.2.2.2.2.2.2
  have h := h z17
  refine va_gets (pc := 17) hx hb hz18 hw.2 hown (hts _ q301) (fun x h => h) dJ1_init_3_17 ?_
  refine c_put (pc := 20) (v := va_rf z17) X hw hN16 in_X5 tyX5 tyX5_ok nmX5 rfl 2 (by decide) q334 rfl rfl rfl (rf_n z17 _) (rf_f z17 _) (Nat.le_of_ble_eq_true rfl) dJ1_init_3_20 (fun H locs hw => ?_)
  obtain ⟨N19, e20⟩ : ∃ z, z = va_up N14 x0 (some (eO 5 [va_rf (some x0), va_rf z12, va_rf z17, va_rf f5, va_rf f6, .int f7, .int f8])) := ⟨_, rfl⟩
  have hw : cH G A s [] N19 H locs := by rw [e20]; exact hw
  have h := h N19 e20
  have hN21 : N19 x0 = some (eO 5 [va_rf (some x0), va_rf z12, va_rf z17, va_rf f5, va_rf f6, .int f7, .int f8]) := by rw [e20]; exact up_s
  refine lv_iload (pc := 23) hx hb dJ1_init_3_23 (lv_at hl 4 rfl) ?_
  refine lv_if_eq (pc := 25) (tgt := 36) hx hb dJ1_init_3_25 rfl (fun c22 => ?_) (fun c22 => ?_)
  · have h := h.1 c22
    refine lv_aload_n (pc := 36) hx hb dJ1_init_3_36 rfl (lv_at hl 0 rfl) ?_
    refine lv_null (pc := 37) hx hb dJ1_init_3_37 ?_
    refine c_put (pc := 38) (v := va_rf none) X hw hN21 in_X5 tyX5 tyX5_ok nmX5 rfl 1 (by decide) q333 rfl rfl rfl (rf_na none _) (rf_fa none _) (Nat.le_of_ble_eq_true rfl) dJ1_init_3_38 (fun H locs hw => ?_)
    obtain ⟨N23, e24⟩ : ∃ z, z = va_up N19 x0 (some (eO 5 [va_rf (some x0), va_rf none, va_rf z17, va_rf f5, va_rf f6, .int f7, .int f8])) := ⟨_, rfl⟩
    have hw : cH G A s [] N23 H locs := by rw [e24]; exact hw
    have h := h N23 e24
    have hN25 : N23 x0 = some (eO 5 [va_rf (some x0), va_rf none, va_rf z17, va_rf f5, va_rf f6, .int f7, .int f8]) := by rw [e24]; exact up_s
    exact kJ1_init_3_o_41 X hr hlk hin  _ _ _ _ _ _ _ _ h hw (lv_sub hl [0, 1, 2, 3] rfl)
  · have h := h.2 c22
    exact False.elim h

def wJ2_init_2_o (K : Nat → Nat → Nat) (post : Unit → NM → Prop) (N : NM) (x0 : Nat) (x1 : Option Nat) (x2 : Option Nat) (x3 : Int32) (x4 : Int32) : Prop :=
  wJ1_init_3_o K (fun _ N2 => post () N2) N x0 x1 x2 x3 x4
theorem tJ2_init_2_o {l : Launch} {G : gG} (hO : gOk G) {post : Unit → NM → Prop} {N : NM} {x0 : Nat} {x1 : Option Nat} {x2 : Option Nat} {x3 : Int32} {x4 : Int32} {sz : Nat} (h : wJ2_init_2_o (gC G) post N x0 x1 x2 x3 x4) : Met l yJ2_init_2 (ws_ yJ2_init_2 cJ2_init_2 5 none) ⟨2, 0, 0, 44⟩ (va_Pc [.ref x0, va_rf x1, va_rf x2, .int x3, .int x4] (cPre G [] N sz)) (gQ vV post (fun u H => cBw G (cA [] N sz) (jW u).1 (jW u).2 H) (cA [] N sz)) 0 0 (cA [] N sz) := by
  refine c_ofW (lw := jW) (by decide) hO (by cases x1 <;> cases x2 <;> exact Nat.le_of_ble_eq_true rfl) (fun p e s m below meth c ls A X hr hlk hin hw hl => ?_)
  have hl : lv_has ls 5 [(0, .ref x0), (1, va_rf x1), (2, va_rf x2), (3, .int x3), (4, .int x4)] := by cases x1 <;> cases x2 <;> exact hl
  have hin := hin rfl
  have hx := X.1.1
  have hb := X.1.2.1
  have hml := X.1.2.2.1
  have hown := X.1.2.2.2.1
  have hts := X.1.2.2.2.2
  obtain ⟨H, eH⟩ : ∃ z, z = s.heap := ⟨_, rfl⟩
  rw [← eH] at hw ⊢
  obtain ⟨locs, eLo⟩ : ∃ z : List Loc, z = [] := ⟨_, rfl⟩
  rw [← eLo] at hw ⊢
  unfold wJ2_init_2_o at h
  refine lv_aload_n (pc := 0) hx hb dJ2_init_2_0 rfl (lv_at hl 0 rfl) ?_
  refine lq_aload_n (pc := 1) hx hb dJ2_init_2_1 rfl (lv_at hl 1 rfl) ?_
  refine lq_aload_n (pc := 2) hx hb dJ2_init_2_2 rfl (lv_at hl 2 rfl) ?_
  refine lv_iload_n (pc := 3) hx hb dJ2_init_2_3 rfl (lv_at hl 3 rfl) ?_
  refine lv_iload (pc := 4) hx hb dJ2_init_2_4 (lv_at hl 4 rfl) ?_
  refine c_callJ (pc := 6) (val := vV) X hw (va_runI (As := [va_rf x1, va_rf x2, .int x3, .int x4]) (rest := []) X.1 (tJ1_init_3_o X.2.2.1 (sz := H.size) h) (cwI 4 hts (lw_meth q679) rfl rfl rfl (hts _ q106) (hts _ q677) (hts _ q678) rfl ⟨by decide, by decide, (by decide +kernel : (parseMethodDescriptor yJ1_init_3.desc).map (fun d => d.parameters.length) = some 4)⟩ ⟨Nat.le_of_ble_eq_true rfl, Nat.le_of_ble_eq_true rfl⟩) ⟨cPre_blind, fun U hU hW => ⟨rfl, X.preJ hw hU hW⟩⟩ rfl rfl hl.1 rfl (lv_room (Nat.le_of_ble_eq_true rfl)) dJ2_init_2_6 ⟨show 0 + 0 ≤ 0 by omega, show 0 + 0 ≤ 0 by omega⟩) (fun _ N2 H locs h hw => ?_)
  refine W.eq (g2 := F0 m 9 ls ([])) rfl ?_
  exact W.vret (pc := 9) hx hb hr (fun t ht hW => c_ret (val := vV) (lw := jW) (u := N2) (v := ()) hw h ht) hw.2.2.2 dJ2_init_2_9 hlk

def wX5_init (K : Nat → Nat → Nat) (post : Unit → NM → Prop) (N : NM) (x0 : Nat) (x1 : Int32) (x2 : Option Nat) : Prop :=
  wJ2_init_2_o K (fun _ N2 => ∃ f4 f5 f6 f7 f8 f9 f10, N2 x0 = some (eO 5 [va_rf f4, va_rf f5, va_rf f6, va_rf f7, va_rf f8, .int f9, .int f10]) ∧ (∀ N11, N11 = va_up N2 x0 (some (eO 5 [va_rf f4, va_rf f5, va_rf f6, va_rf f7, va_rf f8, .int f9, .int x1])) → (post () N11))) N x0 none x2 (0 : Int32) (0 : Int32)
theorem tX5_init {l : Launch} {G : gG} (hO : gOk G) {post : Unit → NM → Prop} {N : NM} {x0 : Nat} {x1 : Int32} {x2 : Option Nat} {sz : Nat} (h : wX5_init (gC G) post N x0 x1 x2) : Met l yX5_init (ws_ yX5_init cX5_init 3 none) ⟨3, 0, 0, 68⟩ (va_Pc [.ref x0, .int x1, va_rf x2] (cPre G [] N sz)) (gQ vV post (fun u H => cBw G (cA [] N sz) (jW u).1 (jW u).2 H) (cA [] N sz)) 0 0 (cA [] N sz) := by
  refine c_ofW (lw := jW) (by decide) hO (by cases x2 <;> exact Nat.le_of_ble_eq_true rfl) (fun p e s m below meth c ls A X hr hlk hin hw hl => ?_)
  have hl : lv_has ls 3 [(0, .ref x0), (1, .int x1), (2, va_rf x2)] := by cases x2 <;> exact hl
  have hin := hin rfl
  have hx := X.1.1
  have hb := X.1.2.1
  have hml := X.1.2.2.1
  have hown := X.1.2.2.2.1
  have hts := X.1.2.2.2.2
  obtain ⟨H, eH⟩ : ∃ z, z = s.heap := ⟨_, rfl⟩
  rw [← eH] at hw ⊢
  obtain ⟨locs, eLo⟩ : ∃ z : List Loc, z = [] := ⟨_, rfl⟩
  rw [← eLo] at hw ⊢
  unfold wX5_init at h
  refine lv_aload_n (pc := 0) hx hb dX5_init_0 rfl (lv_at hl 0 rfl) ?_
  refine lv_null (pc := 1) hx hb dX5_init_1 ?_
  refine lq_aload_n (pc := 2) hx hb dX5_init_2 rfl (lv_at hl 2 rfl) ?_
  refine lv_iconst (pc := 3) (v := (0 : Int32)) hx hb dX5_init_3 (by decide) ?_
  refine lv_iconst (pc := 4) (v := (0 : Int32)) hx hb dX5_init_4 (by decide) ?_
  refine c_callJ (pc := 5) (val := vV) X hw (va_runI (As := [va_rf none, va_rf x2, .int (0 : Int32), .int (0 : Int32)]) (rest := []) X.1 (tJ2_init_2_o X.2.2.1 (sz := H.size) h) (cwI 4 hts (lw_meth q676) rfl rfl rfl (hts _ q107) (hts _ q854) (hts _ q675) rfl ⟨by decide, by decide, (by decide +kernel : (parseMethodDescriptor yJ2_init_2.desc).map (fun d => d.parameters.length) = some 4)⟩ ⟨Nat.le_of_ble_eq_true rfl, Nat.le_of_ble_eq_true rfl⟩) ⟨cPre_blind, fun U hU hW => ⟨rfl, X.preJ hw hU hW⟩⟩ rfl rfl hl.1 rfl (lv_room (Nat.le_of_ble_eq_true rfl)) dX5_init_5 ⟨show 0 + 0 ≤ 0 by omega, show 0 + 0 ≤ 0 by omega⟩) (fun _ N2 H locs h hw => ?_)
  refine W.eq (g2 := F0 m 8 ls ([])) rfl ?_
  refine lv_aload_n (pc := 8) hx hb dX5_init_8 rfl (lv_at hl 0 rfl) ?_
  refine lv_iload_n (pc := 9) hx hb dX5_init_9 rfl (lv_at hl 1 rfl) ?_
  obtain ⟨f4, f5, f6, f7, f8, f9, f10, hN3, h⟩ := h
  refine c_putF (pc := 10) X hw hN3 in_X5 tyX5 tyX5_ok nmX5 rfl 6 (by decide) q855 rfl rfl hin rfl rfl rfl rfl (Nat.le_of_ble_eq_true rfl) dX5_init_10 (fun H locs hw => ?_)
  obtain ⟨N11, e12⟩ : ∃ z, z = va_up N2 x0 (some (eO 5 [va_rf f4, va_rf f5, va_rf f6, va_rf f7, va_rf f8, .int f9, .int x1])) := ⟨_, rfl⟩
  have hw : cH G A s [] N11 H locs := by rw [e12]; exact hw
  have h := h N11 e12
  have hN13 : N11 x0 = some (eO 5 [va_rf f4, va_rf f5, va_rf f6, va_rf f7, va_rf f8, .int f9, .int x1]) := by rw [e12]; exact up_s
  exact W.vret (pc := 13) hx hb hr (fun t ht hW => c_ret (val := vV) (lw := jW) (u := N11) (v := ()) hw h ht) hw.2.2.2 dX5_init_13 hlk

def wX0_isIn (post : Int32 → Prop) (x0 : Int64) (x2 : Int64) (x4 : Int64) : Prop :=
  ((x0 < x2) → (post (0 : Int32))) ∧ (¬ (x0 < x2) → (((x4 < x0) → (post (0 : Int32))) ∧ (¬ (x4 < x0) → (post (1 : Int32)))))
theorem tX0_isIn {l : Launch} {post : Int32 → Prop} {x0 : Int64} {x2 : Int64} {x4 : Int64} (h : wX0_isIn post x0 x2 x4) : Met l yX0_isIn (ws_ yX0_isIn cX0_isIn 6 (some .boolean)) ⟨0, 0, 0, 0⟩ (va_Pc [.long x0, .long x2, .long x4] (fun _ => True)) (pQ vI post) 0 0 (fun _ => False) := by
  refine s_ofW (by decide) (Nat.le_of_ble_eq_true rfl) (fun p e s m below meth c ls X hr hlk hl => ?_)
  have hl : lv_has ls 6 [(0, .long x0), (2, .long x2), (4, .long x4)] := hl
  have hx := X.1
  have hb := X.2.1
  have hml := X.2.2.1
  have hown := X.2.2.2.1
  have hts := X.2.2.2.2
  unfold wX0_isIn at h
  refine lv_lload_n (pc := 0) hx hb dX0_isIn_0 rfl (lv_at hl 0 rfl) ?_
  refine lv_lload_n (pc := 1) hx hb dX0_isIn_1 rfl (lv_at hl 1 rfl) ?_
  refine W.lcmp (pc := 2) hx hb dX0_isIn_2 ?_
  refine lv_if_lt (pc := 3) (tgt := 17) hx hb dX0_isIn_3 rfl (fun c1 => ?_) (fun c1 => ?_)
  · have h := h.1 ((lg_cmp_lt _ _).mp c1)
    refine lv_iconst (pc := 17) (v := (0 : Int32)) hx hb dX0_isIn_17 (by decide) ?_
    exact W.zret (pc := 18) hx hb hr rfl (fun t ht hW => s_ret (val := vI) h ht) (fun _ hq => absurd hq List.not_mem_nil) dX0_isIn_18 hlk
  · have h := h.2 (fun z => c1 ((lg_cmp_lt _ _).mpr z))
    refine lv_lload_n (pc := 6) hx hb dX0_isIn_6 rfl (lv_at hl 0 rfl) ?_
    refine lv_lload (pc := 7) hx hb dX0_isIn_7 (lv_at hl 2 rfl) ?_
    refine W.lcmp (pc := 9) hx hb dX0_isIn_9 ?_
    refine lv_if_gt (pc := 10) (tgt := 17) hx hb dX0_isIn_10 rfl (fun c2 => ?_) (fun c2 => ?_)
    · have h := h.1 ((lg_cmp_gt _ _).mp c2)
      refine lv_iconst (pc := 17) (v := (0 : Int32)) hx hb dX0_isIn_17 (by decide) ?_
      exact W.zret (pc := 18) hx hb hr rfl (fun t ht hW => s_ret (val := vI) h ht) (fun _ hq => absurd hq List.not_mem_nil) dX0_isIn_18 hlk
    · have h := h.2 (fun z => c2 ((lg_cmp_gt _ _).mpr z))
      refine lv_iconst (pc := 13) (v := (1 : Int32)) hx hb dX0_isIn_13 (by decide) ?_
      refine lv_goto (pc := 14) (tgt := 18) hx hb dX0_isIn_14 rfl ?_
      exact W.zret (pc := 18) hx hb hr rfl (fun t ht hW => s_ret (val := vI) h ht) (fun _ hq => absurd hq List.not_mem_nil) dX0_isIn_18 hlk
theorem uX0_isIn {p : Program} {l : Launch} {e : Env} {R : Room} {s : State} {m : MethodId} {args : Array Value} {below : List Frame} {meth : Method} {c : Code} {H : Heap} {locs : List Loc} {cells slots : Nat} {Q : Jvm.State → Prop} {cc : ByteArray} {pc : Nat} {ls : Array Slot} {rest : List Value} {post : Int32 → Prop} {x0 : Int64} {x2 : Int64} {x4 : Int64} {nL : Nat} (X : CallFix p m c cc nL s args lw_all RX0) (h : wX0_isIn post x0 x2 x4) (hR : 0 + 1 ≤ R.frames ∧ 8 + (6 + 11) + 0 ≤ R.locals) (hsz : ls.size = nL) (hr : (rest.map fun v => v.category).sum ≤ 8) (hc : cells ≤ R.cells ∧ slots ≤ R.slots) (d : decode cc pc = .ok (.invokestatic 21, 3)) (kk : ∀ r : Int32, post r → W p l e R s m args below meth c H locs cells slots Q (F0 m (pc + 3) ls (.int r :: rest))) : W p l e R s m args below meth c H locs cells slots Q (F0 m pc ls (.long x4 :: .long x2 :: .long x0 :: rest)) :=
  s_call (val := vI) (post := post) (As := [.long x0, .long x2, .long x4]) X (tX0_isIn h) (lw_S q380 q381 q102 q382) ⟨by decide, by decide, (by decide +kernel : (parseMethodDescriptor yX0_isIn.desc).map (fun d => d.parameters.length) = some 3)⟩ hR hsz hr hc d rfl kk

def wX0_isSlot (post : Int32 → Prop) (x0 : Int32) : Prop :=
  wX0_isIn (fun r1 => isB r1 ∧ post r1) x0.toInt64 (0 : Int64) (3 : Int64)
theorem tX0_isSlot {l : Launch} {post : Int32 → Prop} {x0 : Int32} (h : wX0_isSlot post x0) : Met l yX0_isSlot (ws_ yX0_isSlot cX0_isSlot 1 (some .boolean)) ⟨1, 0, 0, 25⟩ (va_Pc [.int x0] (fun _ => True)) (pQ vI post) 0 0 (fun _ => False) := by
  refine s_ofW (by decide) (Nat.le_of_ble_eq_true rfl) (fun p e s m below meth c ls X hr hlk hl => ?_)
  have hl : lv_has ls 1 [(0, .int x0)] := hl
  have hx := X.1
  have hb := X.2.1
  have hml := X.2.2.1
  have hown := X.2.2.2.1
  have hts := X.2.2.2.2
  unfold wX0_isSlot at h
  refine lv_iload_n (pc := 0) hx hb dX0_isSlot_0 rfl (lv_at hl 0 rfl) ?_
  refine lv_i2l (pc := 1) hx hb dX0_isSlot_1 rfl ?_
  refine lv_lconst (pc := 2) (v := (0 : Int64)) hx hb dX0_isSlot_2 (by decide) ?_
  refine lv_ldc2 (pc := 3) hx hb hown (hts _ q391) dX0_isSlot_3 ?_
  refine uX0_isIn (pc := 6) X h ⟨Nat.le_of_ble_eq_true rfl, Nat.le_of_ble_eq_true rfl⟩ hl.1 (Nat.le_of_ble_eq_true rfl) ⟨Nat.le_refl _, Nat.le_refl _⟩ dX0_isSlot_6 (fun r1 h => ?_)
  obtain ⟨hB, h⟩ := h
  exact W.zret (pc := 9) hx hb hr (isB_n hB) (fun t ht hW => s_ret (val := vI) h ht) (fun _ hq => absurd hq List.not_mem_nil) dX0_isSlot_9 hlk
theorem uX0_isSlot {p : Program} {l : Launch} {e : Env} {R : Room} {s : State} {m : MethodId} {args : Array Value} {below : List Frame} {meth : Method} {c : Code} {H : Heap} {locs : List Loc} {cells slots : Nat} {Q : Jvm.State → Prop} {cc : ByteArray} {pc : Nat} {ls : Array Slot} {rest : List Value} {post : Int32 → Prop} {x0 : Int32} {nL : Nat} (X : CallFix p m c cc nL s args lw_all RX0) (h : wX0_isSlot post x0) (hR : 1 + 1 ≤ R.frames ∧ 8 + (1 + 11) + 25 ≤ R.locals) (hsz : ls.size = nL) (hr : (rest.map fun v => v.category).sum ≤ 8) (hc : cells ≤ R.cells ∧ slots ≤ R.slots) (d : decode cc pc = .ok (.invokestatic 226, 3)) (kk : ∀ r : Int32, post r → W p l e R s m args below meth c H locs cells slots Q (F0 m (pc + 3) ls (.int r :: rest))) : W p l e R s m args below meth c H locs cells slots Q (F0 m pc ls (.int x0 :: rest)) :=
  s_call (val := vI) (post := post) (As := [.int x0]) X (tX0_isSlot h) (lw_S q388 q389 q102 q390) ⟨by decide, by decide, (by decide +kernel : (parseMethodDescriptor yX0_isSlot.desc).map (fun d => d.parameters.length) = some 1)⟩ hR hsz hr hc d rfl kk

def wX0_isNumber (post : Int32 → Prop) (x0 : Int32) : Prop :=
  wX0_isIn (fun r1 => isB r1 ∧ post r1) x0.toInt64 (-3000 : Int64) (3000 : Int64)
theorem tX0_isNumber {l : Launch} {post : Int32 → Prop} {x0 : Int32} (h : wX0_isNumber post x0) : Met l yX0_isNumber (ws_ yX0_isNumber cX0_isNumber 1 (some .boolean)) ⟨1, 0, 0, 25⟩ (va_Pc [.int x0] (fun _ => True)) (pQ vI post) 0 0 (fun _ => False) := by
  refine s_ofW (by decide) (Nat.le_of_ble_eq_true rfl) (fun p e s m below meth c ls X hr hlk hl => ?_)
  have hl : lv_has ls 1 [(0, .int x0)] := hl
  have hx := X.1
  have hb := X.2.1
  have hml := X.2.2.1
  have hown := X.2.2.2.1
  have hts := X.2.2.2.2
  unfold wX0_isNumber at h
  refine lv_iload_n (pc := 0) hx hb dX0_isNumber_0 rfl (lv_at hl 0 rfl) ?_
  refine lv_i2l (pc := 1) hx hb dX0_isNumber_1 rfl ?_
  refine lv_ldc2 (pc := 2) hx hb hown (hts _ q978) dX0_isNumber_2 ?_
  refine lv_ldc2 (pc := 5) hx hb hown (hts _ q979) dX0_isNumber_5 ?_
  refine uX0_isIn (pc := 8) X h ⟨Nat.le_of_ble_eq_true rfl, Nat.le_of_ble_eq_true rfl⟩ hl.1 (Nat.le_of_ble_eq_true rfl) ⟨Nat.le_refl _, Nat.le_refl _⟩ dX0_isNumber_8 (fun r1 h => ?_)
  obtain ⟨hB, h⟩ := h
  exact W.zret (pc := 11) hx hb hr (isB_n hB) (fun t ht hW => s_ret (val := vI) h ht) (fun _ hq => absurd hq List.not_mem_nil) dX0_isNumber_11 hlk
theorem uX0_isNumber {p : Program} {l : Launch} {e : Env} {R : Room} {s : State} {m : MethodId} {args : Array Value} {below : List Frame} {meth : Method} {c : Code} {H : Heap} {locs : List Loc} {cells slots : Nat} {Q : Jvm.State → Prop} {cc : ByteArray} {pc : Nat} {ls : Array Slot} {rest : List Value} {post : Int32 → Prop} {x0 : Int32} {nL : Nat} (X : CallFix p m c cc nL s args lw_all RX0) (h : wX0_isNumber post x0) (hR : 1 + 1 ≤ R.frames ∧ 8 + (1 + 11) + 25 ≤ R.locals) (hsz : ls.size = nL) (hr : (rest.map fun v => v.category).sum ≤ 8) (hc : cells ≤ R.cells ∧ slots ≤ R.slots) (d : decode cc pc = .ok (.invokestatic 29, 3)) (kk : ∀ r : Int32, post r → W p l e R s m args below meth c H locs cells slots Q (F0 m (pc + 3) ls (.int r :: rest))) : W p l e R s m args below meth c H locs cells slots Q (F0 m pc ls (.int x0 :: rest)) :=
  s_call (val := vI) (post := post) (As := [.int x0]) X (tX0_isNumber h) (lw_S q1555 q976 q102 q977) ⟨by decide, by decide, (by decide +kernel : (parseMethodDescriptor yX0_isNumber.desc).map (fun d => d.parameters.length) = some 1)⟩ hR hsz hr hc d rfl kk

def wX0_adds_6 (K : Nat → Nat → Nat) (post : Unit → NM → Prop) : Nat → Nat → Nat → Int32 → Int32 → NM → Prop
  | 0, _, _, _, _, _ => False
  | n + 1, x0, x1, x2, x3, N => (((30001 : Int32) ≤ x3) → (post () N)) ∧ (¬ ((30001 : Int32) ≤ x3) → ((((30001 : Int32) ≤ (x3 - x2)) → (post () N)) ∧ (¬ ((30001 : Int32) ≤ (x3 - x2)) → (∃ n5 f6, N x0 = some (eL 1 n5 f6) ∧ (vp_in x3 n5 ∧ (∃ n8 f9, N x1 = some (eL 1 n8 f9) ∧ (vp_in (x3 - x2) n8 ∧ (vp_in x3 n5 ∧ (∀ N10, N10 = va_up N x0 (some (eL 1 n5 (vp_updL f6 x3.toNatClampNeg ((f6 x3.toNatClampNeg) + (f9 (x3 - x2).toNatClampNeg))))) → (wX0_adds_6 K post n x0 x1 x2 (x3 + (1 : Int32)) N10))))))))))
def wX0_adds (K : Nat → Nat → Nat) (post : Unit → NM → Prop) (N : NM) (x0 : Nat) (x1 : Nat) (x2 : Int32) : Prop :=
  wJ14_max (fun r1 => (∃ k, wX0_adds_6 K post k x0 x1 x2 r1 N)) (0 : Int32) x2
theorem kX0_adds_6 {p : Program} {l : Launch} {e : Env} {s : State} {m : MethodId} {args : Array Value} {below : List Frame} {meth : Method} {c : Code} {G : gG} {A : Nat → Prop} {post : Unit → NM → Prop} (X : cX G A RX0 p s m args c cX0_adds 4) (hr : meth.sig.returnType = none) (hlk : meth.locks = false) : ∀ (n : Nat) (x0 : Nat) (x1 : Nat) (x2 : Int32) (x3 : Int32) (N : NM) (H : Heap) (locs : List Loc) (ls : Array Slot), wX0_adds_6 (gC G) post n x0 x1 x2 x3 N → cH G A s [] N H locs → lv_has ls 4 [(0, .ref x0), (1, .ref x1), (2, .int x2), (3, .int x3)] → W p l e ⟨1, 0, 0, 21⟩ s m args below meth c H locs 0 0 (MQ below (gQ vV post (fun u H => cBw G A (jW u).1 (jW u).2 H) A) args s 0 0 A) (F0 m 6 ls []) := by
  have hx := X.1.1
  have hb := X.1.2.1
  have hml := X.1.2.2.1
  have hown := X.1.2.2.2.1
  have hts := X.1.2.2.2.2
  intro n
  induction n with
  | zero =>
    intro x0 x1 x2 x3 N H locs ls h
    exact False.elim h
  | succ n ih =>
    intro x0 x1 x2 x3 N H locs ls h hw hl
    unfold wX0_adds_6 at h
    refine lv_iload_n (pc := 6) hx hb dX0_adds_6 rfl (lv_at hl 3 rfl) ?_
    refine lv_sipush (pc := 7) (v := (30001 : Int32)) hx hb dX0_adds_7 (by decide) ?_
    refine lv_icmp_ge (pc := 10) (tgt := 39) hx hb dX0_adds_10 rfl (fun c2 => ?_) (fun c2 => ?_)
    · have h := h.1 c2
      exact W.vret (pc := 39) hx hb hr (fun t ht hW => c_ret (val := vV) (lw := jW) (u := N) (v := ()) hw h ht) hw.2.2.2 dX0_adds_39 hlk
    · have h := h.2 c2
      refine lv_iload_n (pc := 13) hx hb dX0_adds_13 rfl (lv_at hl 3 rfl) ?_
      refine lv_iload_n (pc := 14) hx hb dX0_adds_14 rfl (lv_at hl 2 rfl) ?_
      refine lv_isub (pc := 15) hx hb dX0_adds_15 ?_
      refine lv_sipush (pc := 16) (v := (30001 : Int32)) hx hb dX0_adds_16 (by decide) ?_
      refine lv_icmp_ge (pc := 19) (tgt := 39) hx hb dX0_adds_19 rfl (fun c3 => ?_) (fun c3 => ?_)
      · have h := h.1 c3
        exact W.vret (pc := 39) hx hb hr (fun t ht hW => c_ret (val := vV) (lw := jW) (u := N) (v := ()) hw h ht) hw.2.2.2 dX0_adds_39 hlk
      · have h := h.2 c3
        refine lv_aload_n (pc := 22) hx hb dX0_adds_22 rfl (lv_at hl 0 rfl) ?_
        refine lv_iload_n (pc := 23) hx hb dX0_adds_23 rfl (lv_at hl 3 rfl) ?_
        refine lv_dup2_11 (pc := 24) hx hb dX0_adds_24 rfl rfl ?_
        obtain ⟨n5, f6, hN4, h⟩ := h
        obtain ⟨hi, h⟩ := h
        refine c_lald (pc := 25) X hw hN4 hi dX0_adds_25 ?_
        refine lv_aload_n (pc := 26) hx hb dX0_adds_26 rfl (lv_at hl 1 rfl) ?_
        refine lv_iload_n (pc := 27) hx hb dX0_adds_27 rfl (lv_at hl 3 rfl) ?_
        refine lv_iload_n (pc := 28) hx hb dX0_adds_28 rfl (lv_at hl 2 rfl) ?_
        refine lv_isub (pc := 29) hx hb dX0_adds_29 ?_
        obtain ⟨n8, f9, hN7, h⟩ := h
        obtain ⟨hi, h⟩ := h
        refine c_lald (pc := 30) X hw hN7 hi dX0_adds_30 ?_
        refine lv_ladd (pc := 31) hx hb dX0_adds_31 ?_
        obtain ⟨hi, h⟩ := h
        refine c_last (pc := 32) X hw hN4 hi dX0_adds_32 (fun H locs hw => ?_)
        obtain ⟨N10, e11⟩ : ∃ z, z = va_up N x0 (some (eL 1 n5 (vp_updL f6 x3.toNatClampNeg ((f6 x3.toNatClampNeg) + (f9 (x3 - x2).toNatClampNeg))))) := ⟨_, rfl⟩
        have hw : cH G A s [] N10 H locs := by rw [e11]; exact hw
        have h := h N10 e11
        have hN12 : N10 x0 = some (eL 1 n5 (vp_updL f6 x3.toNatClampNeg ((f6 x3.toNatClampNeg) + (f9 (x3 - x2).toNatClampNeg)))) := by rw [e11]; exact up_s
        refine lv_iinc (pc := 33) (v := x3 + (1 : Int32)) (lv' := [(3, .int (x3 + (1 : Int32))), (0, .ref x0), (1, .ref x1), (2, .int x2)]) hx hb dX0_adds_33 hl (k := 3) rfl rfl (by decide) rfl (fun ls hl => ?_)
        refine lv_goto (pc := 36) (tgt := 6) hx hb dX0_adds_36 rfl ?_
        exact ih _ _ _ _ _ _ _ _ h hw (lv_sub hl [1, 2, 3, 0] rfl)
theorem tX0_adds {l : Launch} {G : gG} (hO : gOk G) {post : Unit → NM → Prop} {N : NM} {x0 : Nat} {x1 : Nat} {x2 : Int32} {sz : Nat} (h : wX0_adds (gC G) post N x0 x1 x2) : Met l yX0_adds (ws_ yX0_adds cX0_adds 4 none) ⟨1, 0, 0, 21⟩ (va_Pc [.ref x0, .ref x1, .int x2] (cPre G [] N sz)) (gQ vV post (fun u H => cBw G (cA [] N sz) (jW u).1 (jW u).2 H) (cA [] N sz)) 0 0 (cA [] N sz) := by
  refine c_ofW (lw := jW) (by decide) hO (Nat.le_of_ble_eq_true rfl) (fun p e s m below meth c ls A X hr hlk hin hw hl => ?_)
  have hl : lv_has ls 4 [(0, .ref x0), (1, .ref x1), (2, .int x2)] := hl
  have hx := X.1.1
  have hb := X.1.2.1
  have hml := X.1.2.2.1
  have hown := X.1.2.2.2.1
  have hts := X.1.2.2.2.2
  obtain ⟨H, eH⟩ : ∃ z, z = s.heap := ⟨_, rfl⟩
  rw [← eH] at hw ⊢
  obtain ⟨locs, eLo⟩ : ∃ z : List Loc, z = [] := ⟨_, rfl⟩
  rw [← eLo] at hw ⊢
  unfold wX0_adds at h
  refine lv_iconst (pc := 0) (v := (0 : Int32)) hx hb dX0_adds_0 (by decide) ?_
  refine lv_iload_n (pc := 1) hx hb dX0_adds_1 rfl (lv_at hl 2 rfl) ?_
  refine s_call (pc := 2) (val := vI) (As := [.int (0 : Int32), .int x2]) (rest := []) X.1 (tJ14_max h) (lw_S q1387 q528 q121 q529) ⟨by decide, by decide, (by decide +kernel : (parseMethodDescriptor yJ14_max.desc).map (fun d => d.parameters.length) = some 2)⟩ ⟨Nat.le_of_ble_eq_true rfl, Nat.le_of_ble_eq_true rfl⟩ hl.1 (Nat.le_of_ble_eq_true rfl) ⟨show 0 ≤ 0 by omega, show 0 ≤ 0 by omega⟩ dX0_adds_2 rfl (fun r1 h => ?_)
  refine W.eq (g2 := F0 m 5 ls (.int r1 :: [])) rfl ?_
  refine lv_istore_n (pc := 5) (lv' := [(3, .int r1), (0, .ref x0), (1, .ref x1), (2, .int x2)]) hx hb dX0_adds_5 rfl hl (by decide) rfl (fun ls hl => ?_)
  obtain ⟨k, h⟩ := h
  exact kX0_adds_6 X hr hlk  k _ _ _ _ _ _ _ _ h hw (lv_sub hl [1, 2, 3, 0] rfl)

def wX0_rest (K : Nat → Nat → Nat) (post : Int64 → NM → Prop) (N : NM) (x0 : Nat) (x1 : Int32) (x2 : Int64) : Prop :=
  wX0_isIn (fun r1 => ((r1 = (0 : Int32)) → (post (0 : Int64) N)) ∧ (¬ (r1 = (0 : Int32)) → (∃ f4 f5 f6 f7 f8 f9 f10 f11 f12 f13 f14 f15 f16 f17 f18 f19 f20 f21 f22, N x0 = some (eO 1 [va_rf f4, va_rf f5, va_rf f6, va_rf f7, va_rf f8, va_rf f9, va_rf f10, va_rf f11, va_rf f12, .int f13, .int f14, va_rf f15, va_rf f16, .int f17, va_rf f18, va_rf f19, va_rf f20, va_rf f21, va_rf f22]) ∧ (∃ a23, f7 = some a23 ∧ (∃ n26 f27, N a23 = some (eR 6 n26 f27) ∧ (vp_in (x1 + (1 : Int32)) n26 ∧ (∃ a28, (f27 (x1 + (1 : Int32)).toNatClampNeg) = some a28 ∧ (∃ n31 f32, N a28 = some (eL 1 n31 f32) ∧ (vp_in (x2.toInt32 + (15000 : Int32)) n31 ∧ (post (f32 (x2.toInt32 + (15000 : Int32)).toNatClampNeg) N)))))))))) x2 (-15000 : Int64) (15000 : Int64)
theorem tX0_rest {l : Launch} {G : gG} (hO : gOk G) {post : Int64 → NM → Prop} {N : NM} {x0 : Nat} {x1 : Int32} {x2 : Int64} {sz : Nat} (h : wX0_rest (gC G) post N x0 x1 x2) : Met l yX0_rest (ws_ yX0_rest cX0_rest 4 (some .long)) ⟨1, 0, 0, 25⟩ (va_Pc [.ref x0, .int x1, .long x2] (cPre G [] N sz)) (gQ vL post (fun u H => cBw G (cA [] N sz) (jW u).1 (jW u).2 H) (cA [] N sz)) 0 0 (cA [] N sz) := by
  refine c_ofW (lw := jW) (by decide) hO (Nat.le_of_ble_eq_true rfl) (fun p e s m below meth c ls A X hr hlk hin hw hl => ?_)
  have hl : lv_has ls 4 [(0, .ref x0), (1, .int x1), (2, .long x2)] := hl
  have hx := X.1.1
  have hb := X.1.2.1
  have hml := X.1.2.2.1
  have hown := X.1.2.2.2.1
  have hts := X.1.2.2.2.2
  obtain ⟨H, eH⟩ : ∃ z, z = s.heap := ⟨_, rfl⟩
  rw [← eH] at hw ⊢
  obtain ⟨locs, eLo⟩ : ∃ z : List Loc, z = [] := ⟨_, rfl⟩
  rw [← eLo] at hw ⊢
  unfold wX0_rest at h
  refine lv_lload_n (pc := 0) hx hb dX0_rest_0 rfl (lv_at hl 2 rfl) ?_
  refine lv_ldc2 (pc := 1) hx hb hown (hts _ q1582) dX0_rest_1 ?_
  refine lv_ldc2 (pc := 4) hx hb hown (hts _ q1583) dX0_rest_4 ?_
  refine s_call (pc := 7) (val := vI) (As := [.long x2, .long (-15000 : Int64), .long (15000 : Int64)]) (rest := []) X.1 (tX0_isIn h) (lw_S q380 q381 q102 q382) ⟨by decide, by decide, (by decide +kernel : (parseMethodDescriptor yX0_isIn.desc).map (fun d => d.parameters.length) = some 3)⟩ ⟨Nat.le_of_ble_eq_true rfl, Nat.le_of_ble_eq_true rfl⟩ hl.1 (Nat.le_of_ble_eq_true rfl) ⟨show 0 ≤ 0 by omega, show 0 ≤ 0 by omega⟩ dX0_rest_7 rfl (fun r1 h => ?_)
  refine W.eq (g2 := F0 m 10 ls (.int r1 :: [])) rfl ?_
  refine lv_if_eq (pc := 10) (tgt := 31) hx hb dX0_rest_10 rfl (fun c2 => ?_) (fun c2 => ?_)
  · have h := h.1 c2
    refine lv_lconst (pc := 31) (v := (0 : Int64)) hx hb dX0_rest_31 (by decide) ?_
    exact W.lret (pc := 32) hx hb hr (fun t ht hW => c_ret (val := vL) (lw := jW) (u := N) hw h ht) hw.2.2.2 dX0_rest_32 hlk
  · have h := h.2 c2
    refine lv_aload_n (pc := 13) hx hb dX0_rest_13 rfl (lv_at hl 0 rfl) ?_
    obtain ⟨f4, f5, f6, f7, f8, f9, f10, f11, f12, f13, f14, f15, f16, f17, f18, f19, f20, f21, f22, hN3, h⟩ := h
    refine c_get (pc := 14) X hw hN3 in_X0 rfl 3 (by decide) q214 rfl rfl dX0_rest_14 ?_
    refine lv_iload_n (pc := 17) hx hb dX0_rest_17 rfl (lv_at hl 1 rfl) ?_
    refine lv_iconst (pc := 18) (v := (1 : Int32)) hx hb dX0_rest_18 (by decide) ?_
    refine lv_iadd (pc := 19) hx hb dX0_rest_19 ?_
    obtain ⟨a23, hr24, h⟩ := h
    refine W.eq (g2 := F0 m 20 ls [.int (x1 + (1 : Int32)), .ref a23]) (by rw [hr24]; rfl) ?_
    obtain ⟨n26, f27, hN25, h⟩ := h
    obtain ⟨hi, h⟩ := h
    refine c_aaldT (pc := 20) X hw 6 hN25 rfl hi dX0_rest_20 ?_
    refine lv_lload_n (pc := 21) hx hb dX0_rest_21 rfl (lv_at hl 2 rfl) ?_
    refine lv_l2i (pc := 22) hx hb dX0_rest_22 rfl ?_
    refine lv_sipush (pc := 23) (v := (15000 : Int32)) hx hb dX0_rest_23 (by decide) ?_
    refine lv_iadd (pc := 26) hx hb dX0_rest_26 ?_
    obtain ⟨a28, hr29, h⟩ := h
    refine W.eq (g2 := F0 m 27 ls [.int (x2.toInt32 + (15000 : Int32)), .ref a28]) (by rw [hr29]; rfl) ?_
    obtain ⟨n31, f32, hN30, h⟩ := h
    obtain ⟨hi, h⟩ := h
    refine c_lald (pc := 27) X hw hN30 hi dX0_rest_27 ?_
    refine lv_goto (pc := 28) (tgt := 32) hx hb dX0_rest_28 rfl ?_
    exact W.lret (pc := 32) hx hb hr (fun t ht hW => c_ret (val := vL) (lw := jW) (u := N) hw h ht) hw.2.2.2 dX0_rest_32 hlk

def wX0_isSpan (post : Int32 → Prop) (x0 : Int32) (x1 : Int32) : Prop :=
  wX0_isNumber (fun r1 => ((r1 = (0 : Int32)) → (post (0 : Int32))) ∧ (¬ (r1 = (0 : Int32)) → (wX0_isNumber (fun r3 => ((r3 = (0 : Int32)) → (post (0 : Int32))) ∧ (¬ (r3 = (0 : Int32)) → (((x1 < x0) → (post (0 : Int32))) ∧ (¬ (x1 < x0) → (post (1 : Int32)))))) x1))) x0
theorem tX0_isSpan {l : Launch} {post : Int32 → Prop} {x0 : Int32} {x1 : Int32} (h : wX0_isSpan post x0 x1) : Met l yX0_isSpan (ws_ yX0_isSpan cX0_isSpan 2 (some .boolean)) ⟨2, 0, 0, 45⟩ (va_Pc [.int x0, .int x1] (fun _ => True)) (pQ vI post) 0 0 (fun _ => False) := by
  refine s_ofW (by decide) (Nat.le_of_ble_eq_true rfl) (fun p e s m below meth c ls X hr hlk hl => ?_)
  have hl : lv_has ls 2 [(0, .int x0), (1, .int x1)] := hl
  have hx := X.1
  have hb := X.2.1
  have hml := X.2.2.1
  have hown := X.2.2.2.1
  have hts := X.2.2.2.2
  unfold wX0_isSpan at h
  refine lv_iload_n (pc := 0) hx hb dX0_isSpan_0 rfl (lv_at hl 0 rfl) ?_
  refine uX0_isNumber (pc := 1) X h ⟨Nat.le_of_ble_eq_true rfl, Nat.le_of_ble_eq_true rfl⟩ hl.1 (Nat.le_of_ble_eq_true rfl) ⟨Nat.le_refl _, Nat.le_refl _⟩ dX0_isSpan_1 (fun r1 h => ?_)
  refine lv_if_eq (pc := 4) (tgt := 23) hx hb dX0_isSpan_4 rfl (fun c2 => ?_) (fun c2 => ?_)
  · have h := h.1 c2
    refine lv_iconst (pc := 23) (v := (0 : Int32)) hx hb dX0_isSpan_23 (by decide) ?_
    exact W.zret (pc := 24) hx hb hr rfl (fun t ht hW => s_ret (val := vI) h ht) (fun _ hq => absurd hq List.not_mem_nil) dX0_isSpan_24 hlk
  · have h := h.2 c2
    refine lv_iload_n (pc := 7) hx hb dX0_isSpan_7 rfl (lv_at hl 1 rfl) ?_
    refine uX0_isNumber (pc := 8) X h ⟨Nat.le_of_ble_eq_true rfl, Nat.le_of_ble_eq_true rfl⟩ hl.1 (Nat.le_of_ble_eq_true rfl) ⟨Nat.le_refl _, Nat.le_refl _⟩ dX0_isSpan_8 (fun r3 h => ?_)
    refine lv_if_eq (pc := 11) (tgt := 23) hx hb dX0_isSpan_11 rfl (fun c4 => ?_) (fun c4 => ?_)
    · have h := h.1 c4
      refine lv_iconst (pc := 23) (v := (0 : Int32)) hx hb dX0_isSpan_23 (by decide) ?_
      exact W.zret (pc := 24) hx hb hr rfl (fun t ht hW => s_ret (val := vI) h ht) (fun _ hq => absurd hq List.not_mem_nil) dX0_isSpan_24 hlk
    · have h := h.2 c4
      refine lv_iload_n (pc := 14) hx hb dX0_isSpan_14 rfl (lv_at hl 0 rfl) ?_
      refine lv_iload_n (pc := 15) hx hb dX0_isSpan_15 rfl (lv_at hl 1 rfl) ?_
      refine lv_icmp_gt (pc := 16) (tgt := 23) hx hb dX0_isSpan_16 rfl (fun c5 => ?_) (fun c5 => ?_)
      · have h := h.1 c5
        refine lv_iconst (pc := 23) (v := (0 : Int32)) hx hb dX0_isSpan_23 (by decide) ?_
        exact W.zret (pc := 24) hx hb hr rfl (fun t ht hW => s_ret (val := vI) h ht) (fun _ hq => absurd hq List.not_mem_nil) dX0_isSpan_24 hlk
      · have h := h.2 c5
        refine lv_iconst (pc := 19) (v := (1 : Int32)) hx hb dX0_isSpan_19 (by decide) ?_
        refine lv_goto (pc := 20) (tgt := 24) hx hb dX0_isSpan_20 rfl ?_
        exact W.zret (pc := 24) hx hb hr rfl (fun t ht hW => s_ret (val := vI) h ht) (fun _ hq => absurd hq List.not_mem_nil) dX0_isSpan_24 hlk
theorem uX0_isSpan {p : Program} {l : Launch} {e : Env} {R : Room} {s : State} {m : MethodId} {args : Array Value} {below : List Frame} {meth : Method} {c : Code} {H : Heap} {locs : List Loc} {cells slots : Nat} {Q : Jvm.State → Prop} {cc : ByteArray} {pc : Nat} {ls : Array Slot} {rest : List Value} {post : Int32 → Prop} {x0 : Int32} {x1 : Int32} {nL : Nat} (X : CallFix p m c cc nL s args lw_all RX0) (h : wX0_isSpan post x0 x1) (hR : 2 + 1 ≤ R.frames ∧ 8 + (2 + 11) + 45 ≤ R.locals) (hsz : ls.size = nL) (hr : (rest.map fun v => v.category).sum ≤ 8) (hc : cells ≤ R.cells ∧ slots ≤ R.slots) (d : decode cc pc = .ok (.invokestatic 282, 3)) (kk : ∀ r : Int32, post r → W p l e R s m args below meth c H locs cells slots Q (F0 m (pc + 3) ls (.int r :: rest))) : W p l e R s m args below meth c H locs cells slots Q (F0 m pc ls (.int x1 :: .int x0 :: rest)) :=
  s_call (val := vI) (post := post) (As := [.int x0, .int x1]) X (tX0_isSpan h) (lw_S q1592 q1593 q102 q1594) ⟨by decide, by decide, (by decide +kernel : (parseMethodDescriptor yX0_isSpan.desc).map (fun d => d.parameters.length) = some 2)⟩ hR hsz hr hc d rfl kk

def wX0_isModulus (post : Int32 → Prop) (x0 : Int32) : Prop :=
  wX0_isIn (fun r1 => isB r1 ∧ post r1) x0.toInt64 (1 : Int64) (60 : Int64)
theorem tX0_isModulus {l : Launch} {post : Int32 → Prop} {x0 : Int32} (h : wX0_isModulus post x0) : Met l yX0_isModulus (ws_ yX0_isModulus cX0_isModulus 1 (some .boolean)) ⟨1, 0, 0, 25⟩ (va_Pc [.int x0] (fun _ => True)) (pQ vI post) 0 0 (fun _ => False) := by
  refine s_ofW (by decide) (Nat.le_of_ble_eq_true rfl) (fun p e s m below meth c ls X hr hlk hl => ?_)
  have hl : lv_has ls 1 [(0, .int x0)] := hl
  have hx := X.1
  have hb := X.2.1
  have hml := X.2.2.1
  have hown := X.2.2.2.1
  have hts := X.2.2.2.2
  unfold wX0_isModulus at h
  refine lv_iload_n (pc := 0) hx hb dX0_isModulus_0 rfl (lv_at hl 0 rfl) ?_
  refine lv_i2l (pc := 1) hx hb dX0_isModulus_1 rfl ?_
  refine lv_lconst (pc := 2) (v := (1 : Int64)) hx hb dX0_isModulus_2 (by decide) ?_
  refine lv_ldc2 (pc := 3) hx hb hown (hts _ q1602) dX0_isModulus_3 ?_
  refine uX0_isIn (pc := 6) X h ⟨Nat.le_of_ble_eq_true rfl, Nat.le_of_ble_eq_true rfl⟩ hl.1 (Nat.le_of_ble_eq_true rfl) ⟨Nat.le_refl _, Nat.le_refl _⟩ dX0_isModulus_6 (fun r1 h => ?_)
  obtain ⟨hB, h⟩ := h
  exact W.zret (pc := 9) hx hb hr (isB_n hB) (fun t ht hW => s_ret (val := vI) h ht) (fun _ hq => absurd hq List.not_mem_nil) dX0_isModulus_9 hlk
theorem uX0_isModulus {p : Program} {l : Launch} {e : Env} {R : Room} {s : State} {m : MethodId} {args : Array Value} {below : List Frame} {meth : Method} {c : Code} {H : Heap} {locs : List Loc} {cells slots : Nat} {Q : Jvm.State → Prop} {cc : ByteArray} {pc : Nat} {ls : Array Slot} {rest : List Value} {post : Int32 → Prop} {x0 : Int32} {nL : Nat} (X : CallFix p m c cc nL s args lw_all RX0) (h : wX0_isModulus post x0) (hR : 1 + 1 ≤ R.frames ∧ 8 + (1 + 11) + 25 ≤ R.locals) (hsz : ls.size = nL) (hr : (rest.map fun v => v.category).sum ≤ 8) (hc : cells ≤ R.cells ∧ slots ≤ R.slots) (d : decode cc pc = .ok (.invokestatic 291, 3)) (kk : ∀ r : Int32, post r → W p l e R s m args below meth c H locs cells slots Q (F0 m (pc + 3) ls (.int r :: rest))) : W p l e R s m args below meth c H locs cells slots Q (F0 m pc ls (.int x0 :: rest)) :=
  s_call (val := vI) (post := post) (As := [.int x0]) X (tX0_isModulus h) (lw_S q1599 q1600 q102 q1601) ⟨by decide, by decide, (by decide +kernel : (parseMethodDescriptor yX0_isModulus.desc).map (fun d => d.parameters.length) = some 1)⟩ hR hsz hr hc d rfl kk

def wX0_shows (K : Nat → Nat → Nat) (post : Int32 → NM → Prop) (MC MS : Nat) (N : NM) (x0 : Nat) (x1 : Option Nat) : Prop :=
  ∃ a1, x1 = some a1 ∧ (∃ f10 f11 f12 f13, N a1 = some (eO 17 [va_rf f10, .int f11, .int f12, .int f13]) ∧ (∃ mc5 ms6, mc5 ≤ MC ∧ ms6 ≤ MS ∧ wJ11_toString K (fun r3 N4 => ∃ f15 f16 f17 f18 f19 f20 f21 f22 f23 f24 f25 f26 f27 f28 f29 f30 f31 f32 f33, N4 x0 = some (eO 1 [va_rf f15, va_rf f16, va_rf f17, va_rf f18, va_rf f19, va_rf f20, va_rf f21, va_rf f22, va_rf f23, .int f24, .int f25, va_rf f26, va_rf f27, .int f28, va_rf f29, va_rf f30, va_rf f31, va_rf f32, va_rf f33]) ∧ (∀ N34, N34 = va_up N4 x0 (some (eO 1 [va_rf f15, va_rf f16, va_rf f17, va_rf f18, va_rf f19, va_rf f20, va_rf f21, va_rf f22, va_rf f23, .int f24, .int f25, va_rf f26, va_rf f27, .int f28, va_rf f29, va_rf f30, va_rf f31, va_rf (some r3), va_rf f33])) → (∃ a37, (some r3) = some a37 ∧ (∃ sv39 sn40 sf41, sKn K N34 a37 sv39 sn40 sf41 ∧ (post (nI sn40) N34))))) mc5 ms6 N a1))
theorem tX0_shows {l : Launch} {G : gG} (hO : gOk G) {post : Int32 → NM → Prop} {MC MS : Nat} {N : NM} {x0 : Nat} {x1 : Option Nat} {sz : Nat} (h : wX0_shows (gC G) post MC MS N x0 x1) : Met l yX0_shows (ws_ yX0_shows cX0_shows 2 (some .int)) ⟨6, MC, MS, 171⟩ (va_Pc [.ref x0, va_rf x1] (cPre G [] N sz)) (gQ vI post (fun u H => cBw G (cA [] N sz) (jW u).1 (jW u).2 H) (cA [] N sz)) MC MS (cA [] N sz) := by
  refine c_ofW (lw := jW) (by decide) hO (by cases x1 <;> exact Nat.le_of_ble_eq_true rfl) (fun p e s m below meth c ls A X hr hlk hin hw hl => ?_)
  have hl : lv_has ls 2 [(0, .ref x0), (1, va_rf x1)] := by cases x1 <;> exact hl
  have hx := X.1.1
  have hb := X.1.2.1
  have hml := X.1.2.2.1
  have hown := X.1.2.2.2.1
  have hts := X.1.2.2.2.2
  obtain ⟨H, eH⟩ : ∃ z, z = s.heap := ⟨_, rfl⟩
  rw [← eH] at hw ⊢
  obtain ⟨locs, eLo⟩ : ∃ z : List Loc, z = [] := ⟨_, rfl⟩
  rw [← eLo] at hw ⊢
  have hbud : 0 + MC ≤ MC ∧ 0 + MS ≤ MS := by omega
  unfold wX0_shows at h
  refine lv_aload_n (pc := 0) hx hb dX0_shows_0 rfl (lv_at hl 0 rfl) ?_
  refine lq_aload_n (pc := 1) hx hb dX0_shows_1 rfl (lv_at hl 1 rfl) ?_
  obtain ⟨a1, hr2, h⟩ := h
  refine W.eq (g2 := F0 m 2 ls [.ref a1, .ref x0]) (by rw [hr2]; rfl) ?_
  obtain ⟨f10, f11, f12, f13, hN9, h⟩ := h
  obtain ⟨mc5, ms6, hm7, hm8, h⟩ := h
  refine c_callJ (pc := 2) (val := vR) X hw (va_runV (C := RJ11) (As := []) (rest := [.ref x0]) X.1 (tJ11_toString X.2.2.1 (sz := H.size) h) (cwV 0 hts (lw_V q1855 q603 q604 q118 q605) rfl rfl rfl ⟨rfl, by decide, by decide, (by decide +kernel : (parseMethodDescriptor yJ11_toString.desc).map (fun d => d.parameters.length) = some 0)⟩ ⟨Nat.le_of_ble_eq_true rfl, Nat.le_of_ble_eq_true rfl⟩) ⟨cPre_blind, c_recv X hw hN9 rfl, fun U hU hW => ⟨rfl, X.preJ hw hU hW⟩⟩ rfl rfl hl.1 rfl (lv_room (Nat.le_of_ble_eq_true rfl)) dX0_shows_2 ⟨show 0 + mc5 ≤ MC by omega, show 0 + ms6 ≤ MS by omega⟩) (fun r3 N4 H locs h hw => ?_)
  refine W.eq (g2 := F0 m 5 ls (.ref r3 :: [.ref x0])) rfl ?_
  obtain ⟨f15, f16, f17, f18, f19, f20, f21, f22, f23, f24, f25, f26, f27, f28, f29, f30, f31, f32, f33, hN14, h⟩ := h
  refine c_put (pc := 5) (v := va_rf (some r3)) X hw hN14 in_X0 tyX0 tyX0_ok nmX0 rfl 17 (by decide) q234 rfl rfl rfl (rf_n (some r3) _) (rf_f (some r3) _) (Nat.le_of_ble_eq_true rfl) dX0_shows_5 (fun H locs hw => ?_)
  obtain ⟨N34, e35⟩ : ∃ z, z = va_up N4 x0 (some (eO 1 [va_rf f15, va_rf f16, va_rf f17, va_rf f18, va_rf f19, va_rf f20, va_rf f21, va_rf f22, va_rf f23, .int f24, .int f25, va_rf f26, va_rf f27, .int f28, va_rf f29, va_rf f30, va_rf f31, va_rf (some r3), va_rf f33])) := ⟨_, rfl⟩
  have hw : cH G A s [] N34 H locs := by rw [e35]; exact hw
  have h := h N34 e35
  have hN36 : N34 x0 = some (eO 1 [va_rf f15, va_rf f16, va_rf f17, va_rf f18, va_rf f19, va_rf f20, va_rf f21, va_rf f22, va_rf f23, .int f24, .int f25, va_rf f26, va_rf f27, .int f28, va_rf f29, va_rf f30, va_rf f31, va_rf (some r3), va_rf f33]) := by rw [e35]; exact up_s
  refine lv_aload_n (pc := 8) hx hb dX0_shows_8 rfl (lv_at hl 0 rfl) ?_
  refine c_get (pc := 9) X hw hN36 in_X0 rfl 17 (by decide) q234 rfl rfl dX0_shows_9 ?_
  obtain ⟨a37, hr38, h⟩ := h
  refine W.eq (g2 := F0 m 12 ls [.ref a37]) (by rw [hr38]; rfl) ?_
  obtain ⟨sv39, sn40, sf41, hK42, h⟩ := h
  refine str_len (pc := 12) (rest := []) X.1 X.2.2.1 (c_sk X hw hK42) (fun U hU hW => X.go hw hU hW) (lw_V q1856 q696 q697 q111 q698) ⟨Nat.le_of_ble_eq_true rfl, Nat.le_of_ble_eq_true rfl⟩ hl.1 (Nat.le_of_ble_eq_true rfl) ⟨show 0 + mc5 ≤ MC by omega, show 0 + ms6 ≤ MS by omega⟩ dX0_shows_12 ?_
  refine W.widen (k := MC) (n := MS) (by omega) (by omega) ?_
  exact W.iret (pc := 15) hx hb hr (fun t ht hW => c_ret (val := vI) (lw := jW) (u := N34) hw h ht) hw.2.2.2 dX0_shows_15 hlk

def wX0_out (K : Nat → Nat → Nat) (post : Int32 → NM → Prop) (N : NM) (x0 : Nat) (x1 : Int32) : Prop :=
  ∃ f2 f3 f4 f5 f6 f7 f8 f9 f10 f11 f12 f13 f14 f15 f16 f17 f18 f19 f20, N x0 = some (eO 1 [va_rf f2, va_rf f3, va_rf f4, va_rf f5, va_rf f6, va_rf f7, va_rf f8, va_rf f9, va_rf f10, .int f11, .int f12, va_rf f13, va_rf f14, .int f15, va_rf f16, va_rf f17, va_rf f18, va_rf f19, va_rf f20]) ∧ (∃ a21, f19 = some a21 ∧ (∃ sv23 sn24 sf25, sKn K N a21 sv23 sn24 sf25 ∧ (wX0_isIn (fun r27 => ((r27 = (0 : Int32)) → (post (-1 : Int32) N)) ∧ (¬ (r27 = (0 : Int32)) → (vp_in x1 sn24 ∧ (post (((sf25 x1.toNatClampNeg &&& 255).toUInt32 % 65536).toInt32) N)))) x1.toInt64 (0 : Int64) (((nI sn24) - (1 : Int32)).toInt64))))
theorem tX0_out {l : Launch} {G : gG} (hO : gOk G) {post : Int32 → NM → Prop} {N : NM} {x0 : Nat} {x1 : Int32} {sz : Nat} (h : wX0_out (gC G) post N x0 x1) : Met l yX0_out (ws_ yX0_out cX0_out 2 (some .int)) ⟨4, 0, 0, 85⟩ (va_Pc [.ref x0, .int x1] (cPre G [] N sz)) (gQ vI post (fun u H => cBw G (cA [] N sz) (jW u).1 (jW u).2 H) (cA [] N sz)) 0 0 (cA [] N sz) := by
  refine c_ofW (lw := jW) (by decide) hO (Nat.le_of_ble_eq_true rfl) (fun p e s m below meth c ls A X hr hlk hin hw hl => ?_)
  have hl : lv_has ls 2 [(0, .ref x0), (1, .int x1)] := hl
  have hx := X.1.1
  have hb := X.1.2.1
  have hml := X.1.2.2.1
  have hown := X.1.2.2.2.1
  have hts := X.1.2.2.2.2
  obtain ⟨H, eH⟩ : ∃ z, z = s.heap := ⟨_, rfl⟩
  rw [← eH] at hw ⊢
  obtain ⟨locs, eLo⟩ : ∃ z : List Loc, z = [] := ⟨_, rfl⟩
  rw [← eLo] at hw ⊢
  unfold wX0_out at h
  refine lv_iload_n (pc := 0) hx hb dX0_out_0 rfl (lv_at hl 1 rfl) ?_
  refine lv_i2l (pc := 1) hx hb dX0_out_1 rfl ?_
  refine lv_lconst (pc := 2) (v := (0 : Int64)) hx hb dX0_out_2 (by decide) ?_
  refine lv_aload_n (pc := 3) hx hb dX0_out_3 rfl (lv_at hl 0 rfl) ?_
  obtain ⟨f2, f3, f4, f5, f6, f7, f8, f9, f10, f11, f12, f13, f14, f15, f16, f17, f18, f19, f20, hN1, h⟩ := h
  refine c_get (pc := 4) X hw hN1 in_X0 rfl 17 (by decide) q234 rfl rfl dX0_out_4 ?_
  obtain ⟨a21, hr22, h⟩ := h
  refine W.eq (g2 := F0 m 7 ls [.ref a21, .long (0 : Int64), .long x1.toInt64]) (by rw [hr22]; rfl) ?_
  obtain ⟨sv23, sn24, sf25, hK26, h⟩ := h
  refine str_len (pc := 7) (rest := [.long (0 : Int64), .long x1.toInt64]) X.1 X.2.2.1 (c_sk X hw hK26) (fun U hU hW => X.go hw hU hW) (lw_V q1856 q696 q697 q111 q698) ⟨Nat.le_of_ble_eq_true rfl, Nat.le_of_ble_eq_true rfl⟩ hl.1 (Nat.le_of_ble_eq_true rfl) ⟨show 0 ≤ 0 by omega, show 0 ≤ 0 by omega⟩ dX0_out_7 ?_
  refine lv_iconst (pc := 10) (v := (1 : Int32)) hx hb dX0_out_10 (by decide) ?_
  refine lv_isub (pc := 11) hx hb dX0_out_11 ?_
  refine lv_i2l (pc := 12) hx hb dX0_out_12 rfl ?_
  refine s_call (pc := 13) (val := vI) (As := [.long x1.toInt64, .long (0 : Int64), .long (((nI sn24) - (1 : Int32)).toInt64)]) (rest := []) X.1 (tX0_isIn h) (lw_S q380 q381 q102 q382) ⟨by decide, by decide, (by decide +kernel : (parseMethodDescriptor yX0_isIn.desc).map (fun d => d.parameters.length) = some 3)⟩ ⟨Nat.le_of_ble_eq_true rfl, Nat.le_of_ble_eq_true rfl⟩ hl.1 (Nat.le_of_ble_eq_true rfl) ⟨show 0 ≤ 0 by omega, show 0 ≤ 0 by omega⟩ dX0_out_13 rfl (fun r27 h => ?_)
  refine W.eq (g2 := F0 m 16 ls (.int r27 :: [])) rfl ?_
  refine lv_if_eq (pc := 16) (tgt := 30) hx hb dX0_out_16 rfl (fun c28 => ?_) (fun c28 => ?_)
  · have h := h.1 c28
    refine lv_iconst (pc := 30) (v := (-1 : Int32)) hx hb dX0_out_30 (by decide) ?_
    exact W.iret (pc := 31) hx hb hr (fun t ht hW => c_ret (val := vI) (lw := jW) (u := N) hw h ht) hw.2.2.2 dX0_out_31 hlk
  · have h := h.2 c28
    refine lv_aload_n (pc := 19) hx hb dX0_out_19 rfl (lv_at hl 0 rfl) ?_
    refine c_get (pc := 20) X hw hN1 in_X0 rfl 17 (by decide) q234 rfl rfl dX0_out_20 ?_
    refine lv_iload_n (pc := 23) hx hb dX0_out_23 rfl (lv_at hl 1 rfl) ?_
    refine W.eq (g2 := F0 m 24 ls [.int x1, .ref a21]) (by rw [hr22]; rfl) ?_
    obtain ⟨hi, h⟩ := h
    refine str_charAt (pc := 24) (rest := []) X.1 X.2.2.1 (c_sk X hw hK26) hK26.1 (fun U hU hW => X.go hw hU hW) hi (lw_V q1867 q1451 q1452 q111 q1453) ⟨Nat.le_of_ble_eq_true rfl, Nat.le_of_ble_eq_true rfl⟩ hl.1 (Nat.le_of_ble_eq_true rfl) ⟨show 0 ≤ 0 by omega, show 0 ≤ 0 by omega⟩ dX0_out_24 ?_
    refine lv_goto (pc := 27) (tgt := 31) hx hb dX0_out_27 rfl ?_
    exact W.iret (pc := 31) hx hb hr (fun t ht hW => c_ret (val := vI) (lw := jW) (u := N) hw h ht) hw.2.2.2 dX0_out_31 hlk

def wX0_goesRound_82 (post : Int32 → Prop) : Prop :=
  post (1 : Int32)
def wX0_goesRound (post : Int32 → Prop) (x0 : Int32) (x1 : Int64) (x3 : Int64) (x5 : Int64) : Prop :=
  ((x0 = (43 : Int32)) → ((((0 : Int64) ≤ ((x1 ^^^ x5) &&& (x3 ^^^ x5))) → (post (0 : Int32))) ∧ (¬ ((0 : Int64) ≤ ((x1 ^^^ x5) &&& (x3 ^^^ x5))) → (post (1 : Int32))))) ∧ (¬ (x0 = (43 : Int32)) → (((x0 = (45 : Int32)) → ((((0 : Int64) ≤ ((x1 ^^^ x3) &&& (x1 ^^^ x5))) → (post (0 : Int32))) ∧ (¬ ((0 : Int64) ≤ ((x1 ^^^ x3) &&& (x1 ^^^ x5))) → (post (1 : Int32))))) ∧ (¬ (x0 = (45 : Int32)) → (((x1 = (0 : Int64)) → (post (0 : Int32))) ∧ (¬ (x1 = (0 : Int64)) → (¬ x1 = 0 ∧ ((((x5 / x1) = x3) → (((x1 = (-1 : Int64)) → (((x3 = (-9223372036854775808 : Int64)) → (wX0_goesRound_82 post)) ∧ (¬ (x3 = (-9223372036854775808 : Int64)) → (post (0 : Int32))))) ∧ (¬ (x1 = (-1 : Int64)) → (post (0 : Int32))))) ∧ (¬ ((x5 / x1) = x3) → (wX0_goesRound_82 post)))))))))
theorem kX0_goesRound_82 {p : Program} {l : Launch} {e : Env} {s : State} {m : MethodId} {args : Array Value} {below : List Frame} {meth : Method} {c : Code} {post : Int32 → Prop} (X : CallFix p m c cX0_goesRound 7 s args lw_all RX0) (hr : meth.sig.returnType = (some .boolean)) (hlk : meth.locks = false) : ∀ (ls : Array Slot), wX0_goesRound_82 post → True → lv_has ls 7 [] → W p l e ⟨0, 0, 0, 0⟩ s m args below meth c s.heap [] 0 0 (MQ below (pQ vI post) args s 0 0 (fun _ => False)) (F0 m 82 ls []) := by
  have hx := X.1
  have hb := X.2.1
  have hml := X.2.2.1
  have hown := X.2.2.2.1
  have hts := X.2.2.2.2
  intro ls h _ hl
  unfold wX0_goesRound_82 at h
  refine lv_iconst (pc := 82) (v := (1 : Int32)) hx hb dX0_goesRound_82 (by decide) ?_
  refine lv_goto (pc := 83) (tgt := 87) hx hb dX0_goesRound_83 rfl ?_
  exact W.zret (pc := 87) hx hb hr rfl (fun t ht hW => s_ret (val := vI) h ht) (fun _ hq => absurd hq List.not_mem_nil) dX0_goesRound_87 hlk
theorem tX0_goesRound {l : Launch} {post : Int32 → Prop} {x0 : Int32} {x1 : Int64} {x3 : Int64} {x5 : Int64} (h : wX0_goesRound post x0 x1 x3 x5) : Met l yX0_goesRound (ws_ yX0_goesRound cX0_goesRound 7 (some .boolean)) ⟨0, 0, 0, 0⟩ (va_Pc [.int x0, .long x1, .long x3, .long x5] (fun _ => True)) (pQ vI post) 0 0 (fun _ => False) := by
  refine s_ofW (by decide) (Nat.le_of_ble_eq_true rfl) (fun p e s m below meth c ls X hr hlk hl => ?_)
  have hl : lv_has ls 7 [(0, .int x0), (1, .long x1), (3, .long x3), (5, .long x5)] := hl
  have hx := X.1
  have hb := X.2.1
  have hml := X.2.2.1
  have hown := X.2.2.2.1
  have hts := X.2.2.2.2
  unfold wX0_goesRound at h
  refine lv_iload_n (pc := 0) hx hb dX0_goesRound_0 rfl (lv_at hl 0 rfl) ?_
  refine lv_bipush (pc := 1) (v := (43 : Int32)) hx hb dX0_goesRound_1 (by decide) ?_
  refine lv_icmp_ne (pc := 3) (tgt := 26) hx hb dX0_goesRound_3 rfl (fun c1 => ?_) (fun c1 => ?_)
  · have h := h.2 c1
    refine lv_iload_n (pc := 26) hx hb dX0_goesRound_26 rfl (lv_at hl 0 rfl) ?_
    refine lv_bipush (pc := 27) (v := (45 : Int32)) hx hb dX0_goesRound_27 (by decide) ?_
    refine lv_icmp_ne (pc := 29) (tgt := 51) hx hb dX0_goesRound_29 rfl (fun c2 => ?_) (fun c2 => ?_)
    · have h := h.2 c2
      refine lv_lload_n (pc := 51) hx hb dX0_goesRound_51 rfl (lv_at hl 1 rfl) ?_
      refine lv_lconst (pc := 52) (v := (0 : Int64)) hx hb dX0_goesRound_52 (by decide) ?_
      refine W.lcmp (pc := 53) hx hb dX0_goesRound_53 ?_
      refine lv_if_eq (pc := 54) (tgt := 86) hx hb dX0_goesRound_54 rfl (fun c3 => ?_) (fun c3 => ?_)
      · have h := h.1 ((lg_cmp_eq _ _).mp c3)
        refine lv_iconst (pc := 86) (v := (0 : Int32)) hx hb dX0_goesRound_86 (by decide) ?_
        exact W.zret (pc := 87) hx hb hr rfl (fun t ht hW => s_ret (val := vI) h ht) (fun _ hq => absurd hq List.not_mem_nil) dX0_goesRound_87 hlk
      · have h := h.2 (fun z => c3 ((lg_cmp_eq _ _).mpr z))
        refine lv_lload (pc := 57) hx hb dX0_goesRound_57 (lv_at hl 3 rfl) ?_
        refine lv_lload_n (pc := 59) hx hb dX0_goesRound_59 rfl (lv_at hl 1 rfl) ?_
        obtain ⟨hne, h⟩ := h
        refine lv_ldiv (pc := 60) hx hb dX0_goesRound_60 hne ?_
        refine lv_lload_n (pc := 61) hx hb dX0_goesRound_61 rfl (lv_at hl 2 rfl) ?_
        refine W.lcmp (pc := 62) hx hb dX0_goesRound_62 ?_
        refine lv_if_ne (pc := 63) (tgt := 82) hx hb dX0_goesRound_63 rfl (fun c4 => ?_) (fun c4 => ?_)
        · have h := h.2 (fun z => c4 ((lg_cmp_eq _ _).mpr z))
          exact kX0_goesRound_82 X hr hlk   _ h trivial (lv_sub hl [] rfl)
        · have h := h.1 ((lg_cmp_eq _ _).mp c4)
          refine lv_lload_n (pc := 66) hx hb dX0_goesRound_66 rfl (lv_at hl 1 rfl) ?_
          refine lv_ldc2 (pc := 67) hx hb hown (hts _ q1556) dX0_goesRound_67 ?_
          refine W.lcmp (pc := 70) hx hb dX0_goesRound_70 ?_
          refine lv_if_ne (pc := 71) (tgt := 86) hx hb dX0_goesRound_71 rfl (fun c5 => ?_) (fun c5 => ?_)
          · have h := h.2 (fun z => c5 ((lg_cmp_eq _ _).mpr z))
            refine lv_iconst (pc := 86) (v := (0 : Int32)) hx hb dX0_goesRound_86 (by decide) ?_
            exact W.zret (pc := 87) hx hb hr rfl (fun t ht hW => s_ret (val := vI) h ht) (fun _ hq => absurd hq List.not_mem_nil) dX0_goesRound_87 hlk
          · have h := h.1 ((lg_cmp_eq _ _).mp c5)
            refine lv_lload_n (pc := 74) hx hb dX0_goesRound_74 rfl (lv_at hl 2 rfl) ?_
            refine lv_ldc2 (pc := 75) hx hb hown (hts _ q1925) dX0_goesRound_75 ?_
            refine W.lcmp (pc := 78) hx hb dX0_goesRound_78 ?_
            refine lv_if_ne (pc := 79) (tgt := 86) hx hb dX0_goesRound_79 rfl (fun c6 => ?_) (fun c6 => ?_)
            · have h := h.2 (fun z => c6 ((lg_cmp_eq _ _).mpr z))
              refine lv_iconst (pc := 86) (v := (0 : Int32)) hx hb dX0_goesRound_86 (by decide) ?_
              exact W.zret (pc := 87) hx hb hr rfl (fun t ht hW => s_ret (val := vI) h ht) (fun _ hq => absurd hq List.not_mem_nil) dX0_goesRound_87 hlk
            · have h := h.1 ((lg_cmp_eq _ _).mp c6)
              exact kX0_goesRound_82 X hr hlk   _ h trivial (lv_sub hl [] rfl)
    · have h := h.1 c2
      refine lv_lload_n (pc := 32) hx hb dX0_goesRound_32 rfl (lv_at hl 1 rfl) ?_
      refine lv_lload_n (pc := 33) hx hb dX0_goesRound_33 rfl (lv_at hl 2 rfl) ?_
      refine lv_lxor (pc := 34) hx hb dX0_goesRound_34 ?_
      refine lv_lload_n (pc := 35) hx hb dX0_goesRound_35 rfl (lv_at hl 1 rfl) ?_
      refine lv_lload (pc := 36) hx hb dX0_goesRound_36 (lv_at hl 3 rfl) ?_
      refine lv_lxor (pc := 38) hx hb dX0_goesRound_38 ?_
      refine lv_land (pc := 39) hx hb dX0_goesRound_39 ?_
      refine lv_lconst (pc := 40) (v := (0 : Int64)) hx hb dX0_goesRound_40 (by decide) ?_
      refine W.lcmp (pc := 41) hx hb dX0_goesRound_41 ?_
      refine lv_if_ge (pc := 42) (tgt := 49) hx hb dX0_goesRound_42 rfl (fun c7 => ?_) (fun c7 => ?_)
      · have h := h.1 ((lg_cmp_ge _ _).mp c7)
        refine lv_iconst (pc := 49) (v := (0 : Int32)) hx hb dX0_goesRound_49 (by decide) ?_
        exact W.zret (pc := 50) hx hb hr rfl (fun t ht hW => s_ret (val := vI) h ht) (fun _ hq => absurd hq List.not_mem_nil) dX0_goesRound_50 hlk
      · have h := h.2 (fun z => c7 ((lg_cmp_ge _ _).mpr z))
        refine lv_iconst (pc := 45) (v := (1 : Int32)) hx hb dX0_goesRound_45 (by decide) ?_
        refine lv_goto (pc := 46) (tgt := 50) hx hb dX0_goesRound_46 rfl ?_
        exact W.zret (pc := 50) hx hb hr rfl (fun t ht hW => s_ret (val := vI) h ht) (fun _ hq => absurd hq List.not_mem_nil) dX0_goesRound_50 hlk
  · have h := h.1 c1
    refine lv_lload_n (pc := 6) hx hb dX0_goesRound_6 rfl (lv_at hl 1 rfl) ?_
    refine lv_lload (pc := 7) hx hb dX0_goesRound_7 (lv_at hl 3 rfl) ?_
    refine lv_lxor (pc := 9) hx hb dX0_goesRound_9 ?_
    refine lv_lload_n (pc := 10) hx hb dX0_goesRound_10 rfl (lv_at hl 2 rfl) ?_
    refine lv_lload (pc := 11) hx hb dX0_goesRound_11 (lv_at hl 3 rfl) ?_
    refine lv_lxor (pc := 13) hx hb dX0_goesRound_13 ?_
    refine lv_land (pc := 14) hx hb dX0_goesRound_14 ?_
    refine lv_lconst (pc := 15) (v := (0 : Int64)) hx hb dX0_goesRound_15 (by decide) ?_
    refine W.lcmp (pc := 16) hx hb dX0_goesRound_16 ?_
    refine lv_if_ge (pc := 17) (tgt := 24) hx hb dX0_goesRound_17 rfl (fun c8 => ?_) (fun c8 => ?_)
    · have h := h.1 ((lg_cmp_ge _ _).mp c8)
      refine lv_iconst (pc := 24) (v := (0 : Int32)) hx hb dX0_goesRound_24 (by decide) ?_
      exact W.zret (pc := 25) hx hb hr rfl (fun t ht hW => s_ret (val := vI) h ht) (fun _ hq => absurd hq List.not_mem_nil) dX0_goesRound_25 hlk
    · have h := h.2 (fun z => c8 ((lg_cmp_ge _ _).mpr z))
      refine lv_iconst (pc := 20) (v := (1 : Int32)) hx hb dX0_goesRound_20 (by decide) ?_
      refine lv_goto (pc := 21) (tgt := 25) hx hb dX0_goesRound_21 rfl ?_
      exact W.zret (pc := 25) hx hb hr rfl (fun t ht hW => s_ret (val := vI) h ht) (fun _ hq => absurd hq List.not_mem_nil) dX0_goesRound_25 hlk
theorem uX0_goesRound {p : Program} {l : Launch} {e : Env} {R : Room} {s : State} {m : MethodId} {args : Array Value} {below : List Frame} {meth : Method} {c : Code} {H : Heap} {locs : List Loc} {cells slots : Nat} {Q : Jvm.State → Prop} {cc : ByteArray} {pc : Nat} {ls : Array Slot} {rest : List Value} {post : Int32 → Prop} {x0 : Int32} {x1 : Int64} {x3 : Int64} {x5 : Int64} {nL : Nat} (X : CallFix p m c cc nL s args lw_all RX0) (h : wX0_goesRound post x0 x1 x3 x5) (hR : 0 + 1 ≤ R.frames ∧ 8 + (7 + 11) + 0 ≤ R.locals) (hsz : ls.size = nL) (hr : (rest.map fun v => v.category).sum ≤ 8) (hc : cells ≤ R.cells ∧ slots ≤ R.slots) (d : decode cc pc = .ok (.invokestatic 101, 3)) (kk : ∀ r : Int32, post r → W p l e R s m args below meth c H locs cells slots Q (F0 m (pc + 3) ls (.int r :: rest))) : W p l e R s m args below meth c H locs cells slots Q (F0 m pc ls (.long x5 :: .long x3 :: .long x1 :: .int x0 :: rest)) :=
  s_call (val := vI) (post := post) (As := [.int x0, .long x1, .long x3, .long x5]) X (tX0_goesRound h) (lw_S q1922 q1923 q102 q1924) ⟨by decide, by decide, (by decide +kernel : (parseMethodDescriptor yX0_goesRound.desc).map (fun d => d.parameters.length) = some 4)⟩ hR hsz hr hc d rfl kk

def wX0_goesOn_41 (K : Nat → Nat → Nat) (K2 : Nat → Nat → Int32 → Int32 → NM → Prop) (post : Int32 → NM → Prop) (x0 : Nat) (x1 : Nat) (x2 : Int32) (x3 : Int32) (N : NM) : Prop :=
  K2 x0 x1 x2 (x3 + (-1 : Int32)) N
def wX0_goesOn_2 (K : Nat → Nat → Nat) (post : Int32 → NM → Prop) : Nat → Nat → Nat → Int32 → Int32 → NM → Prop
  | 0, _, _, _, _, _ => False
  | n + 1, x0, x1, x2, x3, N => ((x3 < (0 : Int32)) → (post (0 : Int32) N)) ∧ (¬ (x3 < (0 : Int32)) → (∃ f3 f4 f5 f6 f7 f8 f9 f10 f11 f12 f13 f14 f15 f16 f17 f18 f19 f20 f21, N x0 = some (eO 1 [va_rf f3, va_rf f4, va_rf f5, va_rf f6, va_rf f7, va_rf f8, va_rf f9, va_rf f10, va_rf f11, .int f12, .int f13, va_rf f14, va_rf f15, .int f16, va_rf f17, va_rf f18, va_rf f19, va_rf f20, va_rf f21]) ∧ (((((f12 >>> (x3 &&& 31)) &&& (1 : Int32)) = (0 : Int32)) → (wX0_goesOn_41 K (fun x0 x1 x2 x3 N => wX0_goesOn_2 K post n x0 x1 x2 x3 N) post x0 x1 x2 x3 N)) ∧ (¬ (((f12 >>> (x3 &&& 31)) &&& (1 : Int32)) = (0 : Int32)) → (∃ n24 f25, N x1 = some (eN 0 n24 f25) ∧ (vp_in x3 n24 ∧ (((x2 ≤ (f25 x3.toNatClampNeg)) → (vp_in x3 n24 ∧ (∀ N27, N27 = va_up N x1 (some (eN 0 n24 (upd f25 x3.toNatClampNeg (-x2)))) → (wX0_goesOn_41 K (fun x0 x1 x2 x3 N => wX0_goesOn_2 K post n x0 x1 x2 x3 N) post x0 x1 x2 x3 N27)))) ∧ (¬ (x2 ≤ (f25 x3.toNatClampNeg)) → (vp_in x3 n24 ∧ (vp_in x3 n24 ∧ (∀ N31, N31 = va_up N x1 (some (eN 0 n24 (upd f25 x3.toNatClampNeg ((f25 x3.toNatClampNeg) + (1 : Int32))))) → (post (1 : Int32) N31))))))))))))
def wX0_goesOn (K : Nat → Nat → Nat) (post : Int32 → NM → Prop) (N : NM) (x0 : Nat) (x1 : Nat) (x2 : Int32) : Prop :=
  (∃ k, wX0_goesOn_2 K post k x0 x1 x2 (5 : Int32) N)
theorem kX0_goesOn_41 {p : Program} {l : Launch} {e : Env} {s : State} {m : MethodId} {args : Array Value} {below : List Frame} {meth : Method} {c : Code} {G : gG} {A : Nat → Prop} {K2 : Nat → Nat → Int32 → Int32 → NM → Prop} {post : Int32 → NM → Prop} (X : cX G A RX0 p s m args c cX0_goesOn 4) (hr : meth.sig.returnType = (some .boolean)) (hlk : meth.locks = false) (hK2 : ∀ (x0 : Nat) (x1 : Nat) (x2 : Int32) (x3 : Int32) (N : NM) (H : Heap) (locs : List Loc) (ls : Array Slot), K2 x0 x1 x2 x3 N → cH G A s [] N H locs → lv_has ls 4 [(0, .ref x0), (1, .ref x1), (2, .int x2), (3, .int x3)] → W p l e ⟨0, 0, 0, 0⟩ s m args below meth c H locs 0 0 (MQ below (gQ vI post (fun u H => cBw G A (jW u).1 (jW u).2 H) A) args s 0 0 A) (F0 m 2 ls [])) : ∀ (x0 : Nat) (x1 : Nat) (x2 : Int32) (x3 : Int32) (N : NM) (H : Heap) (locs : List Loc) (ls : Array Slot), wX0_goesOn_41 (gC G) K2 post x0 x1 x2 x3 N → cH G A s [] N H locs → lv_has ls 4 [(0, .ref x0), (1, .ref x1), (2, .int x2), (3, .int x3)] → W p l e ⟨0, 0, 0, 0⟩ s m args below meth c H locs 0 0 (MQ below (gQ vI post (fun u H => cBw G A (jW u).1 (jW u).2 H) A) args s 0 0 A) (F0 m 41 ls []) := by
  have hx := X.1.1
  have hb := X.1.2.1
  have hml := X.1.2.2.1
  have hown := X.1.2.2.2.1
  have hts := X.1.2.2.2.2
  intro x0 x1 x2 x3 N H locs ls h hw hl
  unfold wX0_goesOn_41 at h
  refine lv_iinc (pc := 41) (v := x3 + (-1 : Int32)) (lv' := [(3, .int (x3 + (-1 : Int32))), (0, .ref x0), (1, .ref x1), (2, .int x2)]) hx hb dX0_goesOn_41 hl (k := 3) rfl rfl (by decide) rfl (fun ls hl => ?_)
  refine lv_goto (pc := 44) (tgt := 2) hx hb dX0_goesOn_44 rfl ?_
  exact hK2 _ _ _ _ _ _ _ _ h hw (lv_sub hl [1, 2, 3, 0] rfl)
theorem kX0_goesOn_2 {p : Program} {l : Launch} {e : Env} {s : State} {m : MethodId} {args : Array Value} {below : List Frame} {meth : Method} {c : Code} {G : gG} {A : Nat → Prop} {post : Int32 → NM → Prop} (X : cX G A RX0 p s m args c cX0_goesOn 4) (hr : meth.sig.returnType = (some .boolean)) (hlk : meth.locks = false) : ∀ (n : Nat) (x0 : Nat) (x1 : Nat) (x2 : Int32) (x3 : Int32) (N : NM) (H : Heap) (locs : List Loc) (ls : Array Slot), wX0_goesOn_2 (gC G) post n x0 x1 x2 x3 N → cH G A s [] N H locs → lv_has ls 4 [(0, .ref x0), (1, .ref x1), (2, .int x2), (3, .int x3)] → W p l e ⟨0, 0, 0, 0⟩ s m args below meth c H locs 0 0 (MQ below (gQ vI post (fun u H => cBw G A (jW u).1 (jW u).2 H) A) args s 0 0 A) (F0 m 2 ls []) := by
  have hx := X.1.1
  have hb := X.1.2.1
  have hml := X.1.2.2.1
  have hown := X.1.2.2.2.1
  have hts := X.1.2.2.2.2
  intro n
  induction n with
  | zero =>
    intro x0 x1 x2 x3 N H locs ls h
    exact False.elim h
  | succ n ih =>
    intro x0 x1 x2 x3 N H locs ls h hw hl
    unfold wX0_goesOn_2 at h
    refine lv_iload_n (pc := 2) hx hb dX0_goesOn_2 rfl (lv_at hl 3 rfl) ?_
    refine lv_if_lt (pc := 3) (tgt := 47) hx hb dX0_goesOn_3 rfl (fun c1 => ?_) (fun c1 => ?_)
    · have h := h.1 c1
      refine lv_iconst (pc := 47) (v := (0 : Int32)) hx hb dX0_goesOn_47 (by decide) ?_
      exact W.zret (pc := 48) hx hb hr rfl (fun t ht hW => c_ret (val := vI) (lw := jW) (u := N) hw h ht) hw.2.2.2 dX0_goesOn_48 hlk
    · have h := h.2 c1
      refine lv_aload_n (pc := 6) hx hb dX0_goesOn_6 rfl (lv_at hl 0 rfl) ?_
      obtain ⟨f3, f4, f5, f6, f7, f8, f9, f10, f11, f12, f13, f14, f15, f16, f17, f18, f19, f20, f21, hN2, h⟩ := h
      refine c_get (pc := 7) X hw hN2 in_X0 rfl 9 (by decide) q223 rfl rfl dX0_goesOn_7 ?_
      refine lv_iload_n (pc := 10) hx hb dX0_goesOn_10 rfl (lv_at hl 3 rfl) ?_
      refine lv_ishr (pc := 11) hx hb dX0_goesOn_11 ?_
      refine lv_iconst (pc := 12) (v := (1 : Int32)) hx hb dX0_goesOn_12 (by decide) ?_
      refine lv_iand (pc := 13) hx hb dX0_goesOn_13 ?_
      refine lv_if_ne (pc := 14) (tgt := 20) hx hb dX0_goesOn_14 rfl (fun c22 => ?_) (fun c22 => ?_)
      · have h := h.2 c22
        refine lv_aload_n (pc := 20) hx hb dX0_goesOn_20 rfl (lv_at hl 1 rfl) ?_
        refine lv_iload_n (pc := 21) hx hb dX0_goesOn_21 rfl (lv_at hl 3 rfl) ?_
        obtain ⟨n24, f25, hN23, h⟩ := h
        obtain ⟨hi, h⟩ := h
        refine c_iald (pc := 22) X hw hN23 hi dX0_goesOn_22 ?_
        refine lv_iload_n (pc := 23) hx hb dX0_goesOn_23 rfl (lv_at hl 2 rfl) ?_
        refine lv_icmp_ge (pc := 24) (tgt := 36) hx hb dX0_goesOn_24 rfl (fun c26 => ?_) (fun c26 => ?_)
        · have h := h.1 c26
          refine lv_aload_n (pc := 36) hx hb dX0_goesOn_36 rfl (lv_at hl 1 rfl) ?_
          refine lv_iload_n (pc := 37) hx hb dX0_goesOn_37 rfl (lv_at hl 3 rfl) ?_
          refine lv_iload_n (pc := 38) hx hb dX0_goesOn_38 rfl (lv_at hl 2 rfl) ?_
          refine lv_ineg (pc := 39) hx hb dX0_goesOn_39 ?_
          obtain ⟨hi, h⟩ := h
          refine c_iast (pc := 40) X hw hN23 hi dX0_goesOn_40 (fun H locs hw => ?_)
          obtain ⟨N27, e28⟩ : ∃ z, z = va_up N x1 (some (eN 0 n24 (upd f25 x3.toNatClampNeg (-x2)))) := ⟨_, rfl⟩
          have hw : cH G A s [] N27 H locs := by rw [e28]; exact hw
          have h := h N27 e28
          have hN29 : N27 x1 = some (eN 0 n24 (upd f25 x3.toNatClampNeg (-x2))) := by rw [e28]; exact up_s
          have hN30 := up_k (x := some (eN 0 n24 (upd f25 x3.toNatClampNeg (-x2)))) hN23 hN2 (show (1 : Nat) ≠ 2 by decide)
          rw [← e28] at hN30
          exact kX0_goesOn_41 X hr hlk ih _ _ _ _ _ _ _ _ h hw (lv_sub hl [0, 1, 2, 3] rfl)
        · have h := h.2 c26
          refine lv_aload_n (pc := 27) hx hb dX0_goesOn_27 rfl (lv_at hl 1 rfl) ?_
          refine lv_iload_n (pc := 28) hx hb dX0_goesOn_28 rfl (lv_at hl 3 rfl) ?_
          refine lv_dup2_11 (pc := 29) hx hb dX0_goesOn_29 rfl rfl ?_
          obtain ⟨hi, h⟩ := h
          refine c_iald (pc := 30) X hw hN23 hi dX0_goesOn_30 ?_
          refine lv_iconst (pc := 31) (v := (1 : Int32)) hx hb dX0_goesOn_31 (by decide) ?_
          refine lv_iadd (pc := 32) hx hb dX0_goesOn_32 ?_
          obtain ⟨hi, h⟩ := h
          refine c_iast (pc := 33) X hw hN23 hi dX0_goesOn_33 (fun H locs hw => ?_)
          obtain ⟨N31, e32⟩ : ∃ z, z = va_up N x1 (some (eN 0 n24 (upd f25 x3.toNatClampNeg ((f25 x3.toNatClampNeg) + (1 : Int32))))) := ⟨_, rfl⟩
          have hw : cH G A s [] N31 H locs := by rw [e32]; exact hw
          have h := h N31 e32
          have hN33 : N31 x1 = some (eN 0 n24 (upd f25 x3.toNatClampNeg ((f25 x3.toNatClampNeg) + (1 : Int32)))) := by rw [e32]; exact up_s
          have hN34 := up_k (x := some (eN 0 n24 (upd f25 x3.toNatClampNeg ((f25 x3.toNatClampNeg) + (1 : Int32))))) hN23 hN2 (show (1 : Nat) ≠ 2 by decide)
          rw [← e32] at hN34
          refine lv_iconst (pc := 34) (v := (1 : Int32)) hx hb dX0_goesOn_34 (by decide) ?_
          exact W.zret (pc := 35) hx hb hr rfl (fun t ht hW => c_ret (val := vI) (lw := jW) (u := N31) hw h ht) hw.2.2.2 dX0_goesOn_35 hlk
      · have h := h.1 c22
        refine lv_goto (pc := 17) (tgt := 41) hx hb dX0_goesOn_17 rfl ?_
        exact kX0_goesOn_41 X hr hlk ih _ _ _ _ _ _ _ _ h hw (lv_sub hl [0, 1, 2, 3] rfl)
theorem tX0_goesOn {l : Launch} {G : gG} (hO : gOk G) {post : Int32 → NM → Prop} {N : NM} {x0 : Nat} {x1 : Nat} {x2 : Int32} {sz : Nat} (h : wX0_goesOn (gC G) post N x0 x1 x2) : Met l yX0_goesOn (ws_ yX0_goesOn cX0_goesOn 4 (some .boolean)) ⟨0, 0, 0, 0⟩ (va_Pc [.ref x0, .ref x1, .int x2] (cPre G [] N sz)) (gQ vI post (fun u H => cBw G (cA [] N sz) (jW u).1 (jW u).2 H) (cA [] N sz)) 0 0 (cA [] N sz) := by
  refine c_ofW (lw := jW) (by decide) hO (Nat.le_of_ble_eq_true rfl) (fun p e s m below meth c ls A X hr hlk hin hw hl => ?_)
  have hl : lv_has ls 4 [(0, .ref x0), (1, .ref x1), (2, .int x2)] := hl
  have hx := X.1.1
  have hb := X.1.2.1
  have hml := X.1.2.2.1
  have hown := X.1.2.2.2.1
  have hts := X.1.2.2.2.2
  obtain ⟨H, eH⟩ : ∃ z, z = s.heap := ⟨_, rfl⟩
  rw [← eH] at hw ⊢
  obtain ⟨locs, eLo⟩ : ∃ z : List Loc, z = [] := ⟨_, rfl⟩
  rw [← eLo] at hw ⊢
  unfold wX0_goesOn at h
  refine lv_iconst (pc := 0) (v := (5 : Int32)) hx hb dX0_goesOn_0 (by decide) ?_
  refine lv_istore_n (pc := 1) (lv' := [(3, .int (5 : Int32)), (0, .ref x0), (1, .ref x1), (2, .int x2)]) hx hb dX0_goesOn_1 rfl hl (by decide) rfl (fun ls hl => ?_)
  obtain ⟨k, h⟩ := h
  exact kX0_goesOn_2 X hr hlk  k _ _ _ _ _ _ _ _ h hw (lv_sub hl [1, 2, 3, 0] rfl)

def wX10_init (K : Nat → Nat → Nat) (post : Unit → NM → Prop) (N : NM) (x0 : Nat) : Prop :=
  post () N
theorem tX10_init {l : Launch} {G : gG} (hO : gOk G) {post : Unit → NM → Prop} {N : NM} {x0 : Nat} {sz : Nat} (h : wX10_init (gC G) post N x0) : Met l yX10_init (ws_ yX10_init cX10_init 1 none) ⟨1, 0, 0, 20⟩ (va_Pc [.ref x0] (cPre G [] N sz)) (gQ vV post (fun u H => cBw G (cA [] N sz) (jW u).1 (jW u).2 H) (cA [] N sz)) 0 0 (cA [] N sz) := by
  refine c_ofW (lw := jW) (by decide) hO (Nat.le_of_ble_eq_true rfl) (fun p e s m below meth c ls A X hr hlk hin hw hl => ?_)
  have hl : lv_has ls 1 [(0, .ref x0)] := hl
  have hin := hin rfl
  have hx := X.1.1
  have hb := X.1.2.1
  have hml := X.1.2.2.1
  have hown := X.1.2.2.2.1
  have hts := X.1.2.2.2.2
  obtain ⟨H, eH⟩ : ∃ z, z = s.heap := ⟨_, rfl⟩
  rw [← eH] at hw ⊢
  obtain ⟨locs, eLo⟩ : ∃ z : List Loc, z = [] := ⟨_, rfl⟩
  rw [← eLo] at hw ⊢
  unfold wX10_init at h
  refine lv_aload_n (pc := 0) hx hb dX10_init_0 rfl (lv_at hl 0 rfl) ?_
  refine W.objInit hx hb hown (hts _ q1477) (hts _ q181) (hts _ q182) rfl (by rw [hml]; exact hl.1) rfl dX10_init_1 (Nat.le_of_ble_eq_true rfl) (Nat.le_of_ble_eq_true rfl) ?_
  refine W.eq (g2 := F0 m 4 ls []) rfl ?_
  exact W.vret (pc := 4) hx hb hr (fun t ht hW => c_ret (val := vV) (lw := jW) (u := N) (v := ()) hw h ht) hw.2.2.2 dX10_init_4 hlk

def wX11_init (K : Nat → Nat → Nat) (post : Unit → NM → Prop) (N : NM) (x0 : Nat) (x1 : Int64) : Prop :=
  ∃ f2, N x0 = some (eO 8 [.long f2]) ∧ (∀ N3, N3 = va_up N x0 (some (eO 8 [.long x1])) → (wX10_init K (fun _ N7 => post () N7) N3 x0))
theorem tX11_init {l : Launch} {G : gG} (hO : gOk G) {post : Unit → NM → Prop} {N : NM} {x0 : Nat} {x1 : Int64} {sz : Nat} (h : wX11_init (gC G) post N x0 x1) : Met l yX11_init (ws_ yX11_init cX11_init 3 none) ⟨2, 0, 0, 40⟩ (va_Pc [.ref x0, .long x1] (cPre G [] N sz)) (gQ vV post (fun u H => cBw G (cA [] N sz) (jW u).1 (jW u).2 H) (cA [] N sz)) 0 0 (cA [] N sz) := by
  refine c_ofW (lw := jW) (by decide) hO (Nat.le_of_ble_eq_true rfl) (fun p e s m below meth c ls A X hr hlk hin hw hl => ?_)
  have hl : lv_has ls 3 [(0, .ref x0), (1, .long x1)] := hl
  have hin := hin rfl
  have hx := X.1.1
  have hb := X.1.2.1
  have hml := X.1.2.2.1
  have hown := X.1.2.2.2.1
  have hts := X.1.2.2.2.2
  obtain ⟨H, eH⟩ : ∃ z, z = s.heap := ⟨_, rfl⟩
  rw [← eH] at hw ⊢
  obtain ⟨locs, eLo⟩ : ∃ z : List Loc, z = [] := ⟨_, rfl⟩
  rw [← eLo] at hw ⊢
  unfold wX11_init at h
  refine lv_aload_n (pc := 0) hx hb dX11_init_0 rfl (lv_at hl 0 rfl) ?_
  refine lv_lload_n (pc := 1) hx hb dX11_init_1 rfl (lv_at hl 1 rfl) ?_
  obtain ⟨f2, hN1, h⟩ := h
  refine c_putF (pc := 2) X hw hN1 in_X11 tyX11 tyX11_ok nmX11 rfl 0 (by decide) q1478 rfl rfl hin rfl rfl rfl rfl (Nat.le_of_ble_eq_true rfl) dX11_init_2 (fun H locs hw => ?_)
  obtain ⟨N3, e4⟩ : ∃ z, z = va_up N x0 (some (eO 8 [.long x1])) := ⟨_, rfl⟩
  have hw : cH G A s [] N3 H locs := by rw [e4]; exact hw
  have h := h N3 e4
  have hN5 : N3 x0 = some (eO 8 [.long x1]) := by rw [e4]; exact up_s
  refine lv_aload_n (pc := 5) hx hb dX11_init_5 rfl (lv_at hl 0 rfl) ?_
  refine c_callJ (pc := 6) (val := vV) X hw (va_runIN (As := []) (rest := []) X.1 (tX10_init X.2.2.1 (sz := H.size) h) ⟨va_cnB 0 hts (lw_meth q1476) rfl rfl rfl (X.nest q1474) (hts _ q143) ⟨by decide, by decide, (by decide +kernel : (parseMethodDescriptor yX10_init.desc).map (fun d => d.parameters.length) = some 0)⟩ ⟨Nat.le_of_ble_eq_true rfl, Nat.le_of_ble_eq_true rfl⟩, rfl, hts _ q1475⟩ ⟨cPre_blind, fun U hU hW => ⟨rfl, X.preJ hw hU hW⟩⟩ rfl rfl hl.1 rfl (lv_room (Nat.le_of_ble_eq_true rfl)) dX11_init_6 ⟨show 0 + 0 ≤ 0 by omega, show 0 + 0 ≤ 0 by omega⟩) (fun _ N7 H locs h hw => ?_)
  refine W.eq (g2 := F0 m 9 ls ([])) rfl ?_
  exact W.vret (pc := 9) hx hb hr (fun t ht hW => c_ret (val := vV) (lw := jW) (u := N7) (v := ()) hw h ht) hw.2.2.2 dX11_init_9 hlk

def wX11_of (K : Nat → Nat → Nat) (post : Int64 → NM → Prop) (N : NM) (x0 : Nat) (x1 : Nat) : Prop :=
  ∃ f2, N x0 = some (eO 8 [.long f2]) ∧ (post f2 N)
theorem tX11_of {l : Launch} {G : gG} (hO : gOk G) {post : Int64 → NM → Prop} {N : NM} {x0 : Nat} {x1 : Nat} {sz : Nat} (h : wX11_of (gC G) post N x0 x1) : Met l yX11_of (ws_ yX11_of cX11_of 2 (some .long)) ⟨0, 0, 0, 0⟩ (va_Pc [.ref x0, .ref x1] (cPre G [] N sz)) (gQ vL post (fun u H => cBw G (cA [] N sz) (jW u).1 (jW u).2 H) (cA [] N sz)) 0 0 (cA [] N sz) := by
  refine c_ofW (lw := jW) (by decide) hO (Nat.le_of_ble_eq_true rfl) (fun p e s m below meth c ls A X hr hlk hin hw hl => ?_)
  have hl : lv_has ls 2 [(0, .ref x0), (1, .ref x1)] := hl
  have hx := X.1.1
  have hb := X.1.2.1
  have hml := X.1.2.2.1
  have hown := X.1.2.2.2.1
  have hts := X.1.2.2.2.2
  obtain ⟨H, eH⟩ : ∃ z, z = s.heap := ⟨_, rfl⟩
  rw [← eH] at hw ⊢
  obtain ⟨locs, eLo⟩ : ∃ z : List Loc, z = [] := ⟨_, rfl⟩
  rw [← eLo] at hw ⊢
  unfold wX11_of at h
  refine lv_aload_n (pc := 0) hx hb dX11_of_0 rfl (lv_at hl 0 rfl) ?_
  obtain ⟨f2, hN1, h⟩ := h
  refine c_get (pc := 1) X hw hN1 in_X11 rfl 0 (by decide) q1478 rfl rfl dX11_of_1 ?_
  exact W.lret (pc := 4) hx hb hr (fun t ht hW => c_ret (val := vL) (lw := jW) (u := N) hw h ht) hw.2.2.2 dX11_of_4 hlk

def wX12_init (K : Nat → Nat → Nat) (post : Unit → NM → Prop) (N : NM) (x0 : Nat) (x1 : Int32) : Prop :=
  ∃ f2, N x0 = some (eO 9 [.int f2]) ∧ (∀ N3, N3 = va_up N x0 (some (eO 9 [.int x1])) → (wX10_init K (fun _ N7 => post () N7) N3 x0))
theorem tX12_init {l : Launch} {G : gG} (hO : gOk G) {post : Unit → NM → Prop} {N : NM} {x0 : Nat} {x1 : Int32} {sz : Nat} (h : wX12_init (gC G) post N x0 x1) : Met l yX12_init (ws_ yX12_init cX12_init 2 none) ⟨2, 0, 0, 40⟩ (va_Pc [.ref x0, .int x1] (cPre G [] N sz)) (gQ vV post (fun u H => cBw G (cA [] N sz) (jW u).1 (jW u).2 H) (cA [] N sz)) 0 0 (cA [] N sz) := by
  refine c_ofW (lw := jW) (by decide) hO (Nat.le_of_ble_eq_true rfl) (fun p e s m below meth c ls A X hr hlk hin hw hl => ?_)
  have hl : lv_has ls 2 [(0, .ref x0), (1, .int x1)] := hl
  have hin := hin rfl
  have hx := X.1.1
  have hb := X.1.2.1
  have hml := X.1.2.2.1
  have hown := X.1.2.2.2.1
  have hts := X.1.2.2.2.2
  obtain ⟨H, eH⟩ : ∃ z, z = s.heap := ⟨_, rfl⟩
  rw [← eH] at hw ⊢
  obtain ⟨locs, eLo⟩ : ∃ z : List Loc, z = [] := ⟨_, rfl⟩
  rw [← eLo] at hw ⊢
  unfold wX12_init at h
  refine lv_aload_n (pc := 0) hx hb dX12_init_0 rfl (lv_at hl 0 rfl) ?_
  refine lv_iload_n (pc := 1) hx hb dX12_init_1 rfl (lv_at hl 1 rfl) ?_
  obtain ⟨f2, hN1, h⟩ := h
  refine c_putF (pc := 2) X hw hN1 in_X12 tyX12 tyX12_ok nmX12 rfl 0 (by decide) q1491 rfl rfl hin rfl rfl rfl rfl (Nat.le_of_ble_eq_true rfl) dX12_init_2 (fun H locs hw => ?_)
  obtain ⟨N3, e4⟩ : ∃ z, z = va_up N x0 (some (eO 9 [.int x1])) := ⟨_, rfl⟩
  have hw : cH G A s [] N3 H locs := by rw [e4]; exact hw
  have h := h N3 e4
  have hN5 : N3 x0 = some (eO 9 [.int x1]) := by rw [e4]; exact up_s
  refine lv_aload_n (pc := 5) hx hb dX12_init_5 rfl (lv_at hl 0 rfl) ?_
  refine c_callJ (pc := 6) (val := vV) X hw (va_runIN (As := []) (rest := []) X.1 (tX10_init X.2.2.1 (sz := H.size) h) ⟨va_cnB 0 hts (lw_meth q1476) rfl rfl rfl (X.nest q1490) (hts _ q143) ⟨by decide, by decide, (by decide +kernel : (parseMethodDescriptor yX10_init.desc).map (fun d => d.parameters.length) = some 0)⟩ ⟨Nat.le_of_ble_eq_true rfl, Nat.le_of_ble_eq_true rfl⟩, rfl, hts _ q1475⟩ ⟨cPre_blind, fun U hU hW => ⟨rfl, X.preJ hw hU hW⟩⟩ rfl rfl hl.1 rfl (lv_room (Nat.le_of_ble_eq_true rfl)) dX12_init_6 ⟨show 0 + 0 ≤ 0 by omega, show 0 + 0 ≤ 0 by omega⟩) (fun _ N7 H locs h hw => ?_)
  refine W.eq (g2 := F0 m 9 ls ([])) rfl ?_
  exact W.vret (pc := 9) hx hb hr (fun t ht hW => c_ret (val := vV) (lw := jW) (u := N7) (v := ()) hw h ht) hw.2.2.2 dX12_init_9 hlk

def wX12_of (K : Nat → Nat → Nat) (post : Int64 → NM → Prop) (N : NM) (x0 : Nat) (x1 : Nat) : Prop :=
  ∃ f2, N x0 = some (eO 9 [.int f2]) ∧ (∃ n4 f5, N x1 = some (eN 0 n4 f5) ∧ (vp_in f2 n4 ∧ (post ((f5 f2.toNatClampNeg).toInt64) N)))
theorem tX12_of {l : Launch} {G : gG} (hO : gOk G) {post : Int64 → NM → Prop} {N : NM} {x0 : Nat} {x1 : Nat} {sz : Nat} (h : wX12_of (gC G) post N x0 x1) : Met l yX12_of (ws_ yX12_of cX12_of 2 (some .long)) ⟨0, 0, 0, 0⟩ (va_Pc [.ref x0, .ref x1] (cPre G [] N sz)) (gQ vL post (fun u H => cBw G (cA [] N sz) (jW u).1 (jW u).2 H) (cA [] N sz)) 0 0 (cA [] N sz) := by
  refine c_ofW (lw := jW) (by decide) hO (Nat.le_of_ble_eq_true rfl) (fun p e s m below meth c ls A X hr hlk hin hw hl => ?_)
  have hl : lv_has ls 2 [(0, .ref x0), (1, .ref x1)] := hl
  have hx := X.1.1
  have hb := X.1.2.1
  have hml := X.1.2.2.1
  have hown := X.1.2.2.2.1
  have hts := X.1.2.2.2.2
  obtain ⟨H, eH⟩ : ∃ z, z = s.heap := ⟨_, rfl⟩
  rw [← eH] at hw ⊢
  obtain ⟨locs, eLo⟩ : ∃ z : List Loc, z = [] := ⟨_, rfl⟩
  rw [← eLo] at hw ⊢
  unfold wX12_of at h
  refine lv_aload_n (pc := 0) hx hb dX12_of_0 rfl (lv_at hl 1 rfl) ?_
  refine lv_aload_n (pc := 1) hx hb dX12_of_1 rfl (lv_at hl 0 rfl) ?_
  obtain ⟨f2, hN1, h⟩ := h
  refine c_get (pc := 2) X hw hN1 in_X12 rfl 0 (by decide) q1491 rfl rfl dX12_of_2 ?_
  obtain ⟨n4, f5, hN3, h⟩ := h
  obtain ⟨hi, h⟩ := h
  refine c_iald (pc := 5) X hw hN3 hi dX12_of_5 ?_
  refine lv_i2l (pc := 6) hx hb dX12_of_6 rfl ?_
  exact W.lret (pc := 7) hx hb hr (fun t ht hW => c_ret (val := vL) (lw := jW) (u := N) hw h ht) hw.2.2.2 dX12_of_7 hlk

def wX13_init (K : Nat → Nat → Nat) (post : Unit → NM → Prop) (N : NM) (x0 : Nat) (x1 : Option Nat) (x2 : Int32) : Prop :=
  ∃ f2 f3, N x0 = some (eO 11 [va_rf f2, .int f3]) ∧ (∀ N4, N4 = va_up N x0 (some (eO 11 [va_rf x1, .int f3])) → (∀ N7, N7 = va_up N4 x0 (some (eO 11 [va_rf x1, .int x2])) → (wX10_init K (fun _ N11 => post () N11) N7 x0)))
theorem tX13_init {l : Launch} {G : gG} (hO : gOk G) {post : Unit → NM → Prop} {N : NM} {x0 : Nat} {x1 : Option Nat} {x2 : Int32} {sz : Nat} (h : wX13_init (gC G) post N x0 x1 x2) : Met l yX13_init (ws_ yX13_init cX13_init 3 none) ⟨2, 0, 0, 40⟩ (va_Pc [.ref x0, va_rf x1, .int x2] (cPre G [] N sz)) (gQ vV post (fun u H => cBw G (cA [] N sz) (jW u).1 (jW u).2 H) (cA [] N sz)) 0 0 (cA [] N sz) := by
  refine c_ofW (lw := jW) (by decide) hO (by cases x1 <;> exact Nat.le_of_ble_eq_true rfl) (fun p e s m below meth c ls A X hr hlk hin hw hl => ?_)
  have hl : lv_has ls 3 [(0, .ref x0), (1, va_rf x1), (2, .int x2)] := by cases x1 <;> exact hl
  have hin := hin rfl
  have hx := X.1.1
  have hb := X.1.2.1
  have hml := X.1.2.2.1
  have hown := X.1.2.2.2.1
  have hts := X.1.2.2.2.2
  obtain ⟨H, eH⟩ : ∃ z, z = s.heap := ⟨_, rfl⟩
  rw [← eH] at hw ⊢
  obtain ⟨locs, eLo⟩ : ∃ z : List Loc, z = [] := ⟨_, rfl⟩
  rw [← eLo] at hw ⊢
  unfold wX13_init at h
  refine lv_aload_n (pc := 0) hx hb dX13_init_0 rfl (lv_at hl 0 rfl) ?_
  refine lq_aload_n (pc := 1) hx hb dX13_init_1 rfl (lv_at hl 1 rfl) ?_
  obtain ⟨f2, f3, hN1, h⟩ := h
  refine c_putF (pc := 2) (v := va_rf x1) X hw hN1 in_X13 tyX13 tyX13_ok nmX13 rfl 0 (by decide) q1504 rfl rfl hin rfl rfl (rf_n x1 _) (rf_f x1 _) (Nat.le_of_ble_eq_true rfl) dX13_init_2 (fun H locs hw => ?_)
  obtain ⟨N4, e5⟩ : ∃ z, z = va_up N x0 (some (eO 11 [va_rf x1, .int f3])) := ⟨_, rfl⟩
  have hw : cH G A s [] N4 H locs := by rw [e5]; exact hw
  have h := h N4 e5
  have hN6 : N4 x0 = some (eO 11 [va_rf x1, .int f3]) := by rw [e5]; exact up_s
  refine lv_aload_n (pc := 5) hx hb dX13_init_5 rfl (lv_at hl 0 rfl) ?_
  refine lv_iload_n (pc := 6) hx hb dX13_init_6 rfl (lv_at hl 2 rfl) ?_
  refine c_putF (pc := 7) X hw hN6 in_X13 tyX13 tyX13_ok nmX13 rfl 1 (by decide) q1505 rfl rfl hin rfl rfl rfl rfl (Nat.le_of_ble_eq_true rfl) dX13_init_7 (fun H locs hw => ?_)
  obtain ⟨N7, e8⟩ : ∃ z, z = va_up N4 x0 (some (eO 11 [va_rf x1, .int x2])) := ⟨_, rfl⟩
  have hw : cH G A s [] N7 H locs := by rw [e8]; exact hw
  have h := h N7 e8
  have hN9 : N7 x0 = some (eO 11 [va_rf x1, .int x2]) := by rw [e8]; exact up_s
  refine lv_aload_n (pc := 10) hx hb dX13_init_10 rfl (lv_at hl 0 rfl) ?_
  refine c_callJ (pc := 11) (val := vV) X hw (va_runIN (As := []) (rest := []) X.1 (tX10_init X.2.2.1 (sz := H.size) h) ⟨va_cnB 0 hts (lw_meth q1476) rfl rfl rfl (X.nest q1503) (hts _ q143) ⟨by decide, by decide, (by decide +kernel : (parseMethodDescriptor yX10_init.desc).map (fun d => d.parameters.length) = some 0)⟩ ⟨Nat.le_of_ble_eq_true rfl, Nat.le_of_ble_eq_true rfl⟩, rfl, hts _ q1475⟩ ⟨cPre_blind, fun U hU hW => ⟨rfl, X.preJ hw hU hW⟩⟩ rfl rfl hl.1 rfl (lv_room (Nat.le_of_ble_eq_true rfl)) dX13_init_11 ⟨show 0 + 0 ≤ 0 by omega, show 0 + 0 ≤ 0 by omega⟩) (fun _ N11 H locs h hw => ?_)
  refine W.eq (g2 := F0 m 14 ls ([])) rfl ?_
  exact W.vret (pc := 14) hx hb hr (fun t ht hW => c_ret (val := vV) (lw := jW) (u := N11) (v := ()) hw h ht) hw.2.2.2 dX13_init_14 hlk

def wX14_init (K : Nat → Nat → Nat) (post : Unit → NM → Prop) (N : NM) (x0 : Nat) (x1 : Option Nat) (x2 : Option Nat) (x3 : Int32) : Prop :=
  ∃ f2 f3 f4, N x0 = some (eO 10 [va_rf f2, va_rf f3, .int f4]) ∧ (∀ N5, N5 = va_up N x0 (some (eO 10 [va_rf x1, va_rf f3, .int f4])) → (∀ N8, N8 = va_up N5 x0 (some (eO 10 [va_rf x1, va_rf x2, .int f4])) → (∀ N11, N11 = va_up N8 x0 (some (eO 10 [va_rf x1, va_rf x2, .int x3])) → (wX10_init K (fun _ N15 => post () N15) N11 x0))))
theorem tX14_init {l : Launch} {G : gG} (hO : gOk G) {post : Unit → NM → Prop} {N : NM} {x0 : Nat} {x1 : Option Nat} {x2 : Option Nat} {x3 : Int32} {sz : Nat} (h : wX14_init (gC G) post N x0 x1 x2 x3) : Met l yX14_init (ws_ yX14_init cX14_init 4 none) ⟨2, 0, 0, 40⟩ (va_Pc [.ref x0, va_rf x1, va_rf x2, .int x3] (cPre G [] N sz)) (gQ vV post (fun u H => cBw G (cA [] N sz) (jW u).1 (jW u).2 H) (cA [] N sz)) 0 0 (cA [] N sz) := by
  refine c_ofW (lw := jW) (by decide) hO (by cases x1 <;> cases x2 <;> exact Nat.le_of_ble_eq_true rfl) (fun p e s m below meth c ls A X hr hlk hin hw hl => ?_)
  have hl : lv_has ls 4 [(0, .ref x0), (1, va_rf x1), (2, va_rf x2), (3, .int x3)] := by cases x1 <;> cases x2 <;> exact hl
  have hin := hin rfl
  have hx := X.1.1
  have hb := X.1.2.1
  have hml := X.1.2.2.1
  have hown := X.1.2.2.2.1
  have hts := X.1.2.2.2.2
  obtain ⟨H, eH⟩ : ∃ z, z = s.heap := ⟨_, rfl⟩
  rw [← eH] at hw ⊢
  obtain ⟨locs, eLo⟩ : ∃ z : List Loc, z = [] := ⟨_, rfl⟩
  rw [← eLo] at hw ⊢
  unfold wX14_init at h
  refine lv_aload_n (pc := 0) hx hb dX14_init_0 rfl (lv_at hl 0 rfl) ?_
  refine lq_aload_n (pc := 1) hx hb dX14_init_1 rfl (lv_at hl 1 rfl) ?_
  obtain ⟨f2, f3, f4, hN1, h⟩ := h
  refine c_putF (pc := 2) (v := va_rf x1) X hw hN1 in_X14 tyX14 tyX14_ok nmX14 rfl 0 (by decide) q1520 rfl rfl hin rfl rfl (rf_n x1 _) (rf_f x1 _) (Nat.le_of_ble_eq_true rfl) dX14_init_2 (fun H locs hw => ?_)
  obtain ⟨N5, e6⟩ : ∃ z, z = va_up N x0 (some (eO 10 [va_rf x1, va_rf f3, .int f4])) := ⟨_, rfl⟩
  have hw : cH G A s [] N5 H locs := by rw [e6]; exact hw
  have h := h N5 e6
  have hN7 : N5 x0 = some (eO 10 [va_rf x1, va_rf f3, .int f4]) := by rw [e6]; exact up_s
  refine lv_aload_n (pc := 5) hx hb dX14_init_5 rfl (lv_at hl 0 rfl) ?_
  refine lq_aload_n (pc := 6) hx hb dX14_init_6 rfl (lv_at hl 2 rfl) ?_
  refine c_putF (pc := 7) (v := va_rf x2) X hw hN7 in_X14 tyX14 tyX14_ok nmX14 rfl 1 (by decide) q1521 rfl rfl hin rfl rfl (rf_n x2 _) (rf_f x2 _) (Nat.le_of_ble_eq_true rfl) dX14_init_7 (fun H locs hw => ?_)
  obtain ⟨N8, e9⟩ : ∃ z, z = va_up N5 x0 (some (eO 10 [va_rf x1, va_rf x2, .int f4])) := ⟨_, rfl⟩
  have hw : cH G A s [] N8 H locs := by rw [e9]; exact hw
  have h := h N8 e9
  have hN10 : N8 x0 = some (eO 10 [va_rf x1, va_rf x2, .int f4]) := by rw [e9]; exact up_s
  refine lv_aload_n (pc := 10) hx hb dX14_init_10 rfl (lv_at hl 0 rfl) ?_
  refine lv_iload_n (pc := 11) hx hb dX14_init_11 rfl (lv_at hl 3 rfl) ?_
  refine c_putF (pc := 12) X hw hN10 in_X14 tyX14 tyX14_ok nmX14 rfl 2 (by decide) q1522 rfl rfl hin rfl rfl rfl rfl (Nat.le_of_ble_eq_true rfl) dX14_init_12 (fun H locs hw => ?_)
  obtain ⟨N11, e12⟩ : ∃ z, z = va_up N8 x0 (some (eO 10 [va_rf x1, va_rf x2, .int x3])) := ⟨_, rfl⟩
  have hw : cH G A s [] N11 H locs := by rw [e12]; exact hw
  have h := h N11 e12
  have hN13 : N11 x0 = some (eO 10 [va_rf x1, va_rf x2, .int x3]) := by rw [e12]; exact up_s
  refine lv_aload_n (pc := 15) hx hb dX14_init_15 rfl (lv_at hl 0 rfl) ?_
  refine c_callJ (pc := 16) (val := vV) X hw (va_runIN (As := []) (rest := []) X.1 (tX10_init X.2.2.1 (sz := H.size) h) ⟨va_cnB 0 hts (lw_meth q1476) rfl rfl rfl (X.nest q1519) (hts _ q143) ⟨by decide, by decide, (by decide +kernel : (parseMethodDescriptor yX10_init.desc).map (fun d => d.parameters.length) = some 0)⟩ ⟨Nat.le_of_ble_eq_true rfl, Nat.le_of_ble_eq_true rfl⟩, rfl, hts _ q1475⟩ ⟨cPre_blind, fun U hU hW => ⟨rfl, X.preJ hw hU hW⟩⟩ rfl rfl hl.1 rfl (lv_room (Nat.le_of_ble_eq_true rfl)) dX14_init_16 ⟨show 0 + 0 ≤ 0 by omega, show 0 + 0 ≤ 0 by omega⟩) (fun _ N15 H locs h hw => ?_)
  refine W.eq (g2 := F0 m 19 ls ([])) rfl ?_
  exact W.vret (pc := 19) hx hb hr (fun t ht hW => c_ret (val := vV) (lw := jW) (u := N15) (v := ()) hw h ht) hw.2.2.2 dX14_init_19 hlk

def wX15_init (K : Nat → Nat → Nat) (post : Unit → NM → Prop) (N : NM) (x0 : Nat) (x1 : Int32) (x2 : Int32) : Prop :=
  ∃ f2 f3, N x0 = some (eO 14 [.int f2, .int f3]) ∧ (∀ N4, N4 = va_up N x0 (some (eO 14 [.int x1, .int f3])) → (wJ14_abs (fun r7 => ∀ N8, N8 = va_up N4 x0 (some (eO 14 [.int x1, .int r7])) → (post () N8)) (x1 - x2)))
theorem tX15_init {l : Launch} {G : gG} (hO : gOk G) {post : Unit → NM → Prop} {N : NM} {x0 : Nat} {x1 : Int32} {x2 : Int32} {sz : Nat} (h : wX15_init (gC G) post N x0 x1 x2) : Met l yX15_init (ws_ yX15_init cX15_init 3 none) ⟨1, 0, 0, 20⟩ (va_Pc [.ref x0, .int x1, .int x2] (cPre G [] N sz)) (gQ vV post (fun u H => cBw G (cA [] N sz) (jW u).1 (jW u).2 H) (cA [] N sz)) 0 0 (cA [] N sz) := by
  refine c_ofW (lw := jW) (by decide) hO (Nat.le_of_ble_eq_true rfl) (fun p e s m below meth c ls A X hr hlk hin hw hl => ?_)
  have hl : lv_has ls 3 [(0, .ref x0), (1, .int x1), (2, .int x2)] := hl
  have hin := hin rfl
  have hx := X.1.1
  have hb := X.1.2.1
  have hml := X.1.2.2.1
  have hown := X.1.2.2.2.1
  have hts := X.1.2.2.2.2
  obtain ⟨H, eH⟩ : ∃ z, z = s.heap := ⟨_, rfl⟩
  rw [← eH] at hw ⊢
  obtain ⟨locs, eLo⟩ : ∃ z : List Loc, z = [] := ⟨_, rfl⟩
  rw [← eLo] at hw ⊢
  unfold wX15_init at h
  refine lv_aload_n (pc := 0) hx hb dX15_init_0 rfl (lv_at hl 0 rfl) ?_
  refine W.objInit hx hb hown (hts _ q1690) (hts _ q181) (hts _ q182) rfl (by rw [hml]; exact hl.1) rfl dX15_init_1 (Nat.le_of_ble_eq_true rfl) (Nat.le_of_ble_eq_true rfl) ?_
  refine W.eq (g2 := F0 m 4 ls []) rfl ?_
  refine lv_aload_n (pc := 4) hx hb dX15_init_4 rfl (lv_at hl 0 rfl) ?_
  refine lv_iload_n (pc := 5) hx hb dX15_init_5 rfl (lv_at hl 1 rfl) ?_
  obtain ⟨f2, f3, hN1, h⟩ := h
  refine c_putF (pc := 6) X hw hN1 in_X15 tyX15 tyX15_ok nmX15 rfl 0 (by decide) q1694 rfl rfl hin rfl rfl rfl rfl (Nat.le_of_ble_eq_true rfl) dX15_init_6 (fun H locs hw => ?_)
  obtain ⟨N4, e5⟩ : ∃ z, z = va_up N x0 (some (eO 14 [.int x1, .int f3])) := ⟨_, rfl⟩
  have hw : cH G A s [] N4 H locs := by rw [e5]; exact hw
  have h := h N4 e5
  have hN6 : N4 x0 = some (eO 14 [.int x1, .int f3]) := by rw [e5]; exact up_s
  refine lv_aload_n (pc := 9) hx hb dX15_init_9 rfl (lv_at hl 0 rfl) ?_
  refine lv_iload_n (pc := 10) hx hb dX15_init_10 rfl (lv_at hl 1 rfl) ?_
  refine lv_iload_n (pc := 11) hx hb dX15_init_11 rfl (lv_at hl 2 rfl) ?_
  refine lv_isub (pc := 12) hx hb dX15_init_12 ?_
  refine s_call (pc := 13) (val := vI) (As := [.int (x1 - x2)]) (rest := [.ref x0]) X.1 (tJ14_abs h) (lw_S q1691 q1692 q121 q1693) ⟨by decide, by decide, (by decide +kernel : (parseMethodDescriptor yJ14_abs.desc).map (fun d => d.parameters.length) = some 1)⟩ ⟨Nat.le_of_ble_eq_true rfl, Nat.le_of_ble_eq_true rfl⟩ hl.1 (Nat.le_of_ble_eq_true rfl) ⟨show 0 ≤ 0 by omega, show 0 ≤ 0 by omega⟩ dX15_init_13 rfl (fun r7 h => ?_)
  refine W.eq (g2 := F0 m 16 ls (.int r7 :: [.ref x0])) rfl ?_
  refine c_putF (pc := 16) X hw hN6 in_X15 tyX15 tyX15_ok nmX15 rfl 1 (by decide) q1696 rfl rfl hin rfl rfl rfl rfl (Nat.le_of_ble_eq_true rfl) dX15_init_16 (fun H locs hw => ?_)
  obtain ⟨N8, e9⟩ : ∃ z, z = va_up N4 x0 (some (eO 14 [.int x1, .int r7])) := ⟨_, rfl⟩
  have hw : cH G A s [] N8 H locs := by rw [e9]; exact hw
  have h := h N8 e9
  have hN10 : N8 x0 = some (eO 14 [.int x1, .int r7]) := by rw [e9]; exact up_s
  exact W.vret (pc := 19) hx hb hr (fun t ht hW => c_ret (val := vV) (lw := jW) (u := N8) (v := ()) hw h ht) hw.2.2.2 dX15_init_19 hlk

def wX16_init (K : Nat → Nat → Nat) (post : Unit → NM → Prop) (N : NM) (x0 : Nat) (x1 : Int32) (x2 : Int64) : Prop :=
  ∃ f2 f3, N x0 = some (eO 15 [.int f2, .long f3]) ∧ (∀ N4, N4 = va_up N x0 (some (eO 15 [.int x1, .long f3])) → (∀ N7, N7 = va_up N4 x0 (some (eO 15 [.int x1, .long x2])) → (post () N7)))
theorem tX16_init {l : Launch} {G : gG} (hO : gOk G) {post : Unit → NM → Prop} {N : NM} {x0 : Nat} {x1 : Int32} {x2 : Int64} {sz : Nat} (h : wX16_init (gC G) post N x0 x1 x2) : Met l yX16_init (ws_ yX16_init cX16_init 4 none) ⟨1, 0, 0, 20⟩ (va_Pc [.ref x0, .int x1, .long x2] (cPre G [] N sz)) (gQ vV post (fun u H => cBw G (cA [] N sz) (jW u).1 (jW u).2 H) (cA [] N sz)) 0 0 (cA [] N sz) := by
  refine c_ofW (lw := jW) (by decide) hO (Nat.le_of_ble_eq_true rfl) (fun p e s m below meth c ls A X hr hlk hin hw hl => ?_)
  have hl : lv_has ls 4 [(0, .ref x0), (1, .int x1), (2, .long x2)] := hl
  have hin := hin rfl
  have hx := X.1.1
  have hb := X.1.2.1
  have hml := X.1.2.2.1
  have hown := X.1.2.2.2.1
  have hts := X.1.2.2.2.2
  obtain ⟨H, eH⟩ : ∃ z, z = s.heap := ⟨_, rfl⟩
  rw [← eH] at hw ⊢
  obtain ⟨locs, eLo⟩ : ∃ z : List Loc, z = [] := ⟨_, rfl⟩
  rw [← eLo] at hw ⊢
  unfold wX16_init at h
  refine lv_aload_n (pc := 0) hx hb dX16_init_0 rfl (lv_at hl 0 rfl) ?_
  refine W.objInit hx hb hown (hts _ q1881) (hts _ q181) (hts _ q182) rfl (by rw [hml]; exact hl.1) rfl dX16_init_1 (Nat.le_of_ble_eq_true rfl) (Nat.le_of_ble_eq_true rfl) ?_
  refine W.eq (g2 := F0 m 4 ls []) rfl ?_
  refine lv_aload_n (pc := 4) hx hb dX16_init_4 rfl (lv_at hl 0 rfl) ?_
  refine lv_iload_n (pc := 5) hx hb dX16_init_5 rfl (lv_at hl 1 rfl) ?_
  obtain ⟨f2, f3, hN1, h⟩ := h
  refine c_putF (pc := 6) X hw hN1 in_X16 tyX16 tyX16_ok nmX16 rfl 0 (by decide) q1882 rfl rfl hin rfl rfl rfl rfl (Nat.le_of_ble_eq_true rfl) dX16_init_6 (fun H locs hw => ?_)
  obtain ⟨N4, e5⟩ : ∃ z, z = va_up N x0 (some (eO 15 [.int x1, .long f3])) := ⟨_, rfl⟩
  have hw : cH G A s [] N4 H locs := by rw [e5]; exact hw
  have h := h N4 e5
  have hN6 : N4 x0 = some (eO 15 [.int x1, .long f3]) := by rw [e5]; exact up_s
  refine lv_aload_n (pc := 9) hx hb dX16_init_9 rfl (lv_at hl 0 rfl) ?_
  refine lv_lload_n (pc := 10) hx hb dX16_init_10 rfl (lv_at hl 2 rfl) ?_
  refine c_putF (pc := 11) X hw hN6 in_X16 tyX16 tyX16_ok nmX16 rfl 1 (by decide) q1884 rfl rfl hin rfl rfl rfl rfl (Nat.le_of_ble_eq_true rfl) dX16_init_11 (fun H locs hw => ?_)
  obtain ⟨N7, e8⟩ : ∃ z, z = va_up N4 x0 (some (eO 15 [.int x1, .long x2])) := ⟨_, rfl⟩
  have hw : cH G A s [] N7 H locs := by rw [e8]; exact hw
  have h := h N7 e8
  have hN9 : N7 x0 = some (eO 15 [.int x1, .long x2]) := by rw [e8]; exact up_s
  exact W.vret (pc := 14) hx hb hr (fun t ht hW => c_ret (val := vV) (lw := jW) (u := N7) (v := ()) hw h ht) hw.2.2.2 dX16_init_14 hlk

def wX2_here (K : Nat → Nat → Nat) (post : Int32 → NM → Prop) (N : NM) (x0 : Nat) : Prop :=
  ∃ f2 f3 f4 f5, N x0 = some (eO 2 [.int f2, .int f3, .int f4, va_rf f5]) ∧ (∃ a6, f5 = some a6 ∧ (∃ f9 f10 f11 f12 f13 f14 f15 f16 f17 f18 f19 f20 f21 f22 f23 f24 f25 f26 f27, N a6 = some (eO 1 [va_rf f9, va_rf f10, va_rf f11, va_rf f12, va_rf f13, va_rf f14, va_rf f15, va_rf f16, va_rf f17, .int f18, .int f19, va_rf f20, va_rf f21, .int f22, va_rf f23, va_rf f24, va_rf f25, va_rf f26, va_rf f27]) ∧ (((f22 ≤ f2) → (post (-1 : Int32) N)) ∧ (¬ (f22 ≤ f2) → (∃ a29, f21 = some a29 ∧ (∃ n32 f33, N a29 = some (eN 3 n32 f33) ∧ (vp_in f2 n32 ∧ (post ((f33 f2.toNatClampNeg) &&& (255 : Int32)) N))))))))
theorem tX2_here {l : Launch} {G : gG} (hO : gOk G) {post : Int32 → NM → Prop} {N : NM} {x0 : Nat} {sz : Nat} (h : wX2_here (gC G) post N x0) : Met l yX2_here (ws_ yX2_here cX2_here 1 (some .int)) ⟨0, 0, 0, 0⟩ (va_Pc [.ref x0] (cPre G [] N sz)) (gQ vI post (fun u H => cBw G (cA [] N sz) (jW u).1 (jW u).2 H) (cA [] N sz)) 0 0 (cA [] N sz) := by
  refine c_ofW (lw := jW) (by decide) hO (Nat.le_of_ble_eq_true rfl) (fun p e s m below meth c ls A X hr hlk hin hw hl => ?_)
  have hl : lv_has ls 1 [(0, .ref x0)] := hl
  have hx := X.1.1
  have hb := X.1.2.1
  have hml := X.1.2.2.1
  have hown := X.1.2.2.2.1
  have hts := X.1.2.2.2.2
  obtain ⟨H, eH⟩ : ∃ z, z = s.heap := ⟨_, rfl⟩
  rw [← eH] at hw ⊢
  obtain ⟨locs, eLo⟩ : ∃ z : List Loc, z = [] := ⟨_, rfl⟩
  rw [← eLo] at hw ⊢
  unfold wX2_here at h
  refine lv_aload_n (pc := 0) hx hb dX2_here_0 rfl (lv_at hl 0 rfl) ?_
  obtain ⟨f2, f3, f4, f5, hN1, h⟩ := h
  refine c_get (pc := 1) X hw hN1 in_X2 rfl 0 (by decide) q406 rfl rfl dX2_here_1 ?_
  refine lv_aload_n (pc := 4) hx hb dX2_here_4 rfl (lv_at hl 0 rfl) ?_
  refine c_get (pc := 5) X hw hN1 in_X2 rfl 3 (by decide) q409 rfl rfl dX2_here_5 ?_
  obtain ⟨a6, hr7, h⟩ := h
  refine W.eq (g2 := F0 m 8 ls [.ref a6, .int f2]) (by rw [hr7]; rfl) ?_
  obtain ⟨f9, f10, f11, f12, f13, f14, f15, f16, f17, f18, f19, f20, f21, f22, f23, f24, f25, f26, f27, hN8, h⟩ := h
  refine c_getN (pc := 8) X hw hN8 in_X0 rfl 13 (by decide) q229 rfl rfl dX2_here_8 ?_
  refine lv_icmp_ge (pc := 11) (tgt := 33) hx hb dX2_here_11 rfl (fun c28 => ?_) (fun c28 => ?_)
  · have h := h.1 c28
    refine lv_iconst (pc := 33) (v := (-1 : Int32)) hx hb dX2_here_33 (by decide) ?_
    exact W.iret (pc := 34) hx hb hr (fun t ht hW => c_ret (val := vI) (lw := jW) (u := N) hw h ht) hw.2.2.2 dX2_here_34 hlk
  · have h := h.2 c28
    refine lv_aload_n (pc := 14) hx hb dX2_here_14 rfl (lv_at hl 0 rfl) ?_
    refine c_get (pc := 15) X hw hN1 in_X2 rfl 3 (by decide) q409 rfl rfl dX2_here_15 ?_
    refine W.eq (g2 := F0 m 18 ls [.ref a6]) (by rw [hr7]; rfl) ?_
    refine c_getN (pc := 18) X hw hN8 in_X0 rfl 12 (by decide) q227 rfl rfl dX2_here_18 ?_
    refine lv_aload_n (pc := 21) hx hb dX2_here_21 rfl (lv_at hl 0 rfl) ?_
    refine c_get (pc := 22) X hw hN1 in_X2 rfl 0 (by decide) q406 rfl rfl dX2_here_22 ?_
    obtain ⟨a29, hr30, h⟩ := h
    refine W.eq (g2 := F0 m 25 ls [.int f2, .ref a29]) (by rw [hr30]; rfl) ?_
    obtain ⟨n32, f33, hN31, h⟩ := h
    obtain ⟨hi, h⟩ := h
    refine c_bald (pc := 25) X hw hN31 hi dX2_here_25 ?_
    refine lv_sipush (pc := 26) (v := (255 : Int32)) hx hb dX2_here_26 (by decide) ?_
    refine lv_iand (pc := 29) hx hb dX2_here_29 ?_
    refine lv_goto (pc := 30) (tgt := 34) hx hb dX2_here_30 rfl ?_
    exact W.iret (pc := 34) hx hb hr (fun t ht hW => c_ret (val := vI) (lw := jW) (u := N) hw h ht) hw.2.2.2 dX2_here_34 hlk

def wX2_isDigit (K : Nat → Nat → Nat) (post : Int32 → NM → Prop) (N : NM) (x0 : Nat) : Prop :=
  ∃ f4 f5 f6 f7, N x0 = some (eO 2 [.int f4, .int f5, .int f6, va_rf f7]) ∧ (wX2_here K (fun r1 N2 => wX0_isIn (fun r8 => isB r8 ∧ post r8 N2) r1.toInt64 (48 : Int64) (57 : Int64)) N x0)
theorem tX2_isDigit {l : Launch} {G : gG} (hO : gOk G) {post : Int32 → NM → Prop} {N : NM} {x0 : Nat} {sz : Nat} (h : wX2_isDigit (gC G) post N x0) : Met l yX2_isDigit (ws_ yX2_isDigit cX2_isDigit 1 (some .boolean)) ⟨1, 0, 0, 25⟩ (va_Pc [.ref x0] (cPre G [] N sz)) (gQ vI post (fun u H => cBw G (cA [] N sz) (jW u).1 (jW u).2 H) (cA [] N sz)) 0 0 (cA [] N sz) := by
  refine c_ofW (lw := jW) (by decide) hO (Nat.le_of_ble_eq_true rfl) (fun p e s m below meth c ls A X hr hlk hin hw hl => ?_)
  have hl : lv_has ls 1 [(0, .ref x0)] := hl
  have hx := X.1.1
  have hb := X.1.2.1
  have hml := X.1.2.2.1
  have hown := X.1.2.2.2.1
  have hts := X.1.2.2.2.2
  obtain ⟨H, eH⟩ : ∃ z, z = s.heap := ⟨_, rfl⟩
  rw [← eH] at hw ⊢
  obtain ⟨locs, eLo⟩ : ∃ z : List Loc, z = [] := ⟨_, rfl⟩
  rw [← eLo] at hw ⊢
  unfold wX2_isDigit at h
  refine lv_aload_n (pc := 0) hx hb dX2_isDigit_0 rfl (lv_at hl 0 rfl) ?_
  obtain ⟨f4, f5, f6, f7, hN3, h⟩ := h
  refine c_callJ (pc := 1) (val := vI) X hw (va_runV (C := RX2) (As := []) (rest := []) X.1 (tX2_here X.2.2.1 (sz := H.size) h) (cwV 0 hts (lw_V q402 q404 qs4 q113 q405) rfl rfl rfl ⟨rfl, by decide, by decide, (by decide +kernel : (parseMethodDescriptor yX2_here.desc).map (fun d => d.parameters.length) = some 0)⟩ ⟨Nat.le_of_ble_eq_true rfl, Nat.le_of_ble_eq_true rfl⟩) ⟨cPre_blind, c_recv X hw hN3 rfl, fun U hU hW => ⟨rfl, X.preJ hw hU hW⟩⟩ rfl rfl hl.1 rfl (lv_room (Nat.le_of_ble_eq_true rfl)) dX2_isDigit_1 ⟨show 0 + 0 ≤ 0 by omega, show 0 + 0 ≤ 0 by omega⟩) (fun r1 N2 H locs h hw => ?_)
  refine W.eq (g2 := F0 m 4 ls (.int r1 :: [])) rfl ?_
  refine lv_i2l (pc := 4) hx hb dX2_isDigit_4 rfl ?_
  refine lv_ldc2 (pc := 5) hx hb hown (hts _ q458) dX2_isDigit_5 ?_
  refine lv_ldc2 (pc := 8) hx hb hown (hts _ q459) dX2_isDigit_8 ?_
  refine p_call (pc := 11) (val := vI) ((va_runSN (As := [.long r1.toInt64, .long (48 : Int64), .long (57 : Int64)]) (rest := []) X.1 (tX0_isIn h) ⟨va_cnB 3 hts (lw_meth q382) rfl rfl rfl (X.nest q460) (hts _ q102) ⟨by decide, by decide, (by decide +kernel : (parseMethodDescriptor yX0_isIn.desc).map (fun d => d.parameters.length) = some 3)⟩ ⟨Nat.le_of_ble_eq_true rfl, Nat.le_of_ble_eq_true rfl⟩, hts _ q381, trivial⟩ ⟨pc_blind, fun U _ _ => ⟨rfl, trivial⟩⟩ rfl rfl hl.1 rfl (lv_room (Nat.le_of_ble_eq_true rfl)) dX2_isDigit_11 ⟨show 0 ≤ 0 by omega, show 0 ≤ 0 by omega⟩).run) (fun r8 h => ?_)
  refine W.eq (g2 := F0 m 14 ls (.int r8 :: [])) rfl ?_
  obtain ⟨hB, h⟩ := h
  exact W.zret (pc := 14) hx hb hr (isB_n hB) (fun t ht hW => c_ret (val := vI) (lw := jW) (u := N2) hw h ht) hw.2.2.2 dX2_isDigit_14 hlk

def wX2_seen_76 (K : Nat → Nat → Nat) (post : Option Nat → NM → Prop) (x1 : Nat) (mc ms : Nat) (N : NM) : Prop :=
  ∃ f54 f55 f56 f57, N x1 = some (eO 17 [va_rf f54, .int f55, .int f56, .int f57]) ∧ (∃ mc49 ms50, mc49 ≤ mc ∧ ms50 ≤ ms ∧ wJ11_toString K (fun r47 N48 => post (some r47) N48) mc49 ms50 N x1)
def wX2_seen_13 (K : Nat → Nat → Nat) (post : Option Nat → NM → Prop) : Nat → Nat → Nat → Int32 → Nat → Nat → NM → Prop
  | 0, _, _, _, _, _, _ => False
  | n + 1, x0, x1, x2, mc, ms, N => ∃ f20 f21 f22 f23, N x0 = some (eO 2 [.int f20, .int f21, .int f22, va_rf f23]) ∧ (∃ a24, f23 = some a24 ∧ (∃ f27 f28 f29 f30 f31 f32 f33 f34 f35 f36 f37 f38 f39 f40 f41 f42 f43 f44 f45, N a24 = some (eO 1 [va_rf f27, va_rf f28, va_rf f29, va_rf f30, va_rf f31, va_rf f32, va_rf f33, va_rf f34, va_rf f35, .int f36, .int f37, va_rf f38, va_rf f39, .int f40, va_rf f41, va_rf f42, va_rf f43, va_rf f44, va_rf f45]) ∧ (((f40 ≤ x2) → (wX2_seen_76 K post x1 mc ms N)) ∧ (¬ (f40 ≤ x2) → (∃ a58, f39 = some a58 ∧ (∃ n61 f62, N a58 = some (eN 3 n61 f62) ∧ (vp_in x2 n61 ∧ (wX0_isIn (fun r63 => ((r63 = (0 : Int32)) → (wX2_seen_76 K post x1 mc ms N)) ∧ (¬ (r63 = (0 : Int32)) → (∃ f68 f69 f70 f71, N x1 = some (eO 17 [va_rf f68, .int f69, .int f70, .int f71]) ∧ (wJ11_length K (fun r65 N66 => (((8 : Int32) ≤ r65) → (wX2_seen_76 K post x1 mc ms N66)) ∧ (¬ ((8 : Int32) ≤ r65) → (∃ f74 f75 f76 f77, N66 x0 = some (eO 2 [.int f74, .int f75, .int f76, va_rf f77]) ∧ (∃ a78, f77 = some a78 ∧ (∃ f81 f82 f83 f84 f85 f86 f87 f88 f89 f90 f91 f92 f93 f94 f95 f96 f97 f98 f99, N66 a78 = some (eO 1 [va_rf f81, va_rf f82, va_rf f83, va_rf f84, va_rf f85, va_rf f86, va_rf f87, va_rf f88, va_rf f89, .int f90, .int f91, va_rf f92, va_rf f93, .int f94, va_rf f95, va_rf f96, va_rf f97, va_rf f98, va_rf f99]) ∧ (∃ a100, f93 = some a100 ∧ (∃ n103 f104, N66 a100 = some (eN 3 n103 f104) ∧ (vp_in x2 n103 ∧ (∃ f112 f113 f114 f115, N66 x1 = some (eO 17 [va_rf f112, .int f113, .int f114, .int f115]) ∧ (∃ mc107 ms108, mc107 ≤ mc ∧ ms108 ≤ ms ∧ wJ11_append K (fun r105 N106 => wX2_seen_13 K post n x0 x1 (x2 + (1 : Int32)) (mc - mc107) (ms - ms108) N106) mc107 ms108 N66 x1 (((f104 x2.toNatClampNeg).toUInt32 % 65536).toInt32))))))))))) N x1)))) ((f62 x2.toNatClampNeg).toInt64) (97 : Int64) (122 : Int64)))))))))
def wX2_seen (K : Nat → Nat → Nat) (post : Option Nat → NM → Prop) (MC MS : Nat) (N : NM) (x0 : Nat) : Prop :=
  1 ≤ MC ∧ 4 ≤ MS ∧ (∀ nq3, N nq3 = none → (∀ N5, N5 = va_up N nq3 (some (eO 17 [va_rf none, .int (0 : Int32), .int (0 : Int32), .int (0 : Int32)])) → (∃ mc10 ms11, mc10 ≤ (MC - 1) ∧ ms11 ≤ (MS - 4) ∧ wJ11_init K (fun _ N9 => ∃ f15 f16 f17 f18, N9 x0 = some (eO 2 [.int f15, .int f16, .int f17, va_rf f18]) ∧ ((∃ k, wX2_seen_13 K post k x0 nq3 f15 ((MC - 1) - mc10) ((MS - 4) - ms11) N9))) mc10 ms11 N5 nq3)))
theorem kX2_seen_76 {p : Program} {l : Launch} {e : Env} {s : State} {m : MethodId} {args : Array Value} {below : List Frame} {meth : Method} {c : Code} {G : gG} {A : Nat → Prop} {MC MS : Nat} {post : Option Nat → NM → Prop} (X : cX G A RX2 p s m args c cX2_seen 3) (hr : meth.sig.returnType = (some (.object "java/lang/String"))) (hlk : meth.locks = false) : ∀ (x1 : Nat) (mc ms : Nat) (N : NM) (H : Heap) (locs : List Loc) (ls : Array Slot) (cells slots : Nat), wX2_seen_76 (gC G) post x1 mc ms N → (cH G A s [] N H locs ∧ cells + mc ≤ MC ∧ slots + ms ≤ MS) → lv_has ls 3 [(1, .ref x1)] → W p l e ⟨6, MC, MS, 171⟩ s m args below meth c H locs cells slots (MQ below (gQ vQ post (fun u H => cBw G A (jW u).1 (jW u).2 H) A) args s MC MS A) (F0 m 76 ls []) := by
  have hx := X.1.1
  have hb := X.1.2.1
  have hml := X.1.2.2.1
  have hown := X.1.2.2.2.1
  have hts := X.1.2.2.2.2
  intro x1 mc ms N H locs ls cells slots h hw0 hl
  obtain ⟨hw, hbud⟩ := hw0
  unfold wX2_seen_76 at h
  refine lv_aload_n (pc := 76) hx hb dX2_seen_76 rfl (lv_at hl 0 rfl) ?_
  obtain ⟨f54, f55, f56, f57, hN53, h⟩ := h
  obtain ⟨mc49, ms50, hm51, hm52, h⟩ := h
  refine c_callJ (pc := 77) (val := vR) X hw (va_runV (C := RJ11) (As := []) (rest := []) X.1 (tJ11_toString X.2.2.1 (sz := H.size) h) (cwV 0 hts (lw_V q602 q603 q604 q118 q605) rfl rfl rfl ⟨rfl, by decide, by decide, (by decide +kernel : (parseMethodDescriptor yJ11_toString.desc).map (fun d => d.parameters.length) = some 0)⟩ ⟨Nat.le_of_ble_eq_true rfl, Nat.le_of_ble_eq_true rfl⟩) ⟨cPre_blind, c_recv X hw hN53 rfl, fun U hU hW => ⟨rfl, X.preJ hw hU hW⟩⟩ rfl rfl hl.1 rfl (lv_room (Nat.le_of_ble_eq_true rfl)) dX2_seen_77 ⟨show cells + mc49 ≤ MC by omega, show slots + ms50 ≤ MS by omega⟩) (fun r47 N48 H locs h hw => ?_)
  refine W.eq (g2 := F0 m 80 ls (.ref r47 :: [])) rfl ?_
  refine W.widen (k := MC) (n := MS) (by omega) (by omega) ?_
  exact W.aret (pc := 80) (v := va_rf (some r47)) hx hb hr (Or.inl ⟨_, rfl⟩) (va_rf_or _) (fun t ht hW => c_ret (val := vQ) (lw := jW) (u := N48) hw h ht) hw.2.2.2 dX2_seen_80 hlk
theorem kX2_seen_13 {p : Program} {l : Launch} {e : Env} {s : State} {m : MethodId} {args : Array Value} {below : List Frame} {meth : Method} {c : Code} {G : gG} {A : Nat → Prop} {MC MS : Nat} {post : Option Nat → NM → Prop} (X : cX G A RX2 p s m args c cX2_seen 3) (hr : meth.sig.returnType = (some (.object "java/lang/String"))) (hlk : meth.locks = false) : ∀ (n : Nat) (x0 : Nat) (x1 : Nat) (x2 : Int32) (mc ms : Nat) (N : NM) (H : Heap) (locs : List Loc) (ls : Array Slot) (cells slots : Nat), wX2_seen_13 (gC G) post n x0 x1 x2 mc ms N → (cH G A s [] N H locs ∧ cells + mc ≤ MC ∧ slots + ms ≤ MS) → lv_has ls 3 [(0, .ref x0), (1, .ref x1), (2, .int x2)] → W p l e ⟨6, MC, MS, 171⟩ s m args below meth c H locs cells slots (MQ below (gQ vQ post (fun u H => cBw G A (jW u).1 (jW u).2 H) A) args s MC MS A) (F0 m 13 ls []) := by
  have hx := X.1.1
  have hb := X.1.2.1
  have hml := X.1.2.2.1
  have hown := X.1.2.2.2.1
  have hts := X.1.2.2.2.2
  intro n
  induction n with
  | zero =>
    intro x0 x1 x2 mc ms N H locs ls cells slots h
    exact False.elim h
  | succ n ih =>
    intro x0 x1 x2 mc ms N H locs ls cells slots h hw0 hl
    obtain ⟨hw, hbud⟩ := hw0
    unfold wX2_seen_13 at h
    refine lv_iload_n (pc := 13) hx hb dX2_seen_13 rfl (lv_at hl 2 rfl) ?_
    refine lv_aload_n (pc := 14) hx hb dX2_seen_14 rfl (lv_at hl 0 rfl) ?_
    obtain ⟨f20, f21, f22, f23, hN19, h⟩ := h
    refine c_get (pc := 15) X hw hN19 in_X2 rfl 3 (by decide) q409 rfl rfl dX2_seen_15 ?_
    obtain ⟨a24, hr25, h⟩ := h
    refine W.eq (g2 := F0 m 18 ls [.ref a24, .int x2]) (by rw [hr25]; rfl) ?_
    obtain ⟨f27, f28, f29, f30, f31, f32, f33, f34, f35, f36, f37, f38, f39, f40, f41, f42, f43, f44, f45, hN26, h⟩ := h
    refine c_getN (pc := 18) X hw hN26 in_X0 rfl 13 (by decide) q229 rfl rfl dX2_seen_18 ?_
    refine lv_icmp_ge (pc := 21) (tgt := 76) hx hb dX2_seen_21 rfl (fun c46 => ?_) (fun c46 => ?_)
    · have h := h.1 c46
      exact kX2_seen_76 X hr hlk  _ _ _ _ _ _ _ _ _ h ⟨hw, by omega⟩ (lv_sub hl [1] rfl)
    · have h := h.2 c46
      refine lv_aload_n (pc := 24) hx hb dX2_seen_24 rfl (lv_at hl 0 rfl) ?_
      refine c_get (pc := 25) X hw hN19 in_X2 rfl 3 (by decide) q409 rfl rfl dX2_seen_25 ?_
      refine W.eq (g2 := F0 m 28 ls [.ref a24]) (by rw [hr25]; rfl) ?_
      refine c_getN (pc := 28) X hw hN26 in_X0 rfl 12 (by decide) q227 rfl rfl dX2_seen_28 ?_
      refine lv_iload_n (pc := 31) hx hb dX2_seen_31 rfl (lv_at hl 2 rfl) ?_
      obtain ⟨a58, hr59, h⟩ := h
      refine W.eq (g2 := F0 m 32 ls [.int x2, .ref a58]) (by rw [hr59]; rfl) ?_
      obtain ⟨n61, f62, hN60, h⟩ := h
      obtain ⟨hi, h⟩ := h
      refine c_bald (pc := 32) X hw hN60 hi dX2_seen_32 ?_
      refine lv_i2l (pc := 33) hx hb dX2_seen_33 rfl ?_
      refine lv_ldc2 (pc := 34) hx hb hown (hts _ q500) dX2_seen_34 ?_
      refine lv_ldc2 (pc := 37) hx hb hown (hts _ q501) dX2_seen_37 ?_
      refine p_call (pc := 40) (val := vI) ((va_runSN (As := [.long ((f62 x2.toNatClampNeg).toInt64), .long (97 : Int64), .long (122 : Int64)]) (rest := []) X.1 (tX0_isIn h) ⟨va_cnB 3 hts (lw_meth q382) rfl rfl rfl (X.nest q460) (hts _ q102) ⟨by decide, by decide, (by decide +kernel : (parseMethodDescriptor yX0_isIn.desc).map (fun d => d.parameters.length) = some 3)⟩ ⟨Nat.le_of_ble_eq_true rfl, Nat.le_of_ble_eq_true rfl⟩, hts _ q381, trivial⟩ ⟨pc_blind, fun U _ _ => ⟨rfl, trivial⟩⟩ rfl rfl hl.1 rfl (lv_room (Nat.le_of_ble_eq_true rfl)) dX2_seen_40 ⟨show cells ≤ MC by omega, show slots ≤ MS by omega⟩).run) (fun r63 h => ?_)
      refine W.eq (g2 := F0 m 43 ls (.int r63 :: [])) rfl ?_
      refine lv_if_eq (pc := 43) (tgt := 76) hx hb dX2_seen_43 rfl (fun c64 => ?_) (fun c64 => ?_)
      · have h := h.1 c64
        exact kX2_seen_76 X hr hlk  _ _ _ _ _ _ _ _ _ h ⟨hw, by omega⟩ (lv_sub hl [1] rfl)
      · have h := h.2 c64
        refine lv_aload_n (pc := 46) hx hb dX2_seen_46 rfl (lv_at hl 1 rfl) ?_
        obtain ⟨f68, f69, f70, f71, hN67, h⟩ := h
        refine c_callJ (pc := 47) (val := vI) X hw (va_runV (C := RJ11) (As := []) (rest := []) X.1 (tJ11_length X.2.2.1 (sz := H.size) h) (cwV 0 hts (lw_V q502 q503 q504 q118 q505) rfl rfl rfl ⟨rfl, by decide, by decide, (by decide +kernel : (parseMethodDescriptor yJ11_length.desc).map (fun d => d.parameters.length) = some 0)⟩ ⟨Nat.le_of_ble_eq_true rfl, Nat.le_of_ble_eq_true rfl⟩) ⟨cPre_blind, c_recv X hw hN67 rfl, fun U hU hW => ⟨rfl, X.preJ hw hU hW⟩⟩ rfl rfl hl.1 rfl (lv_room (Nat.le_of_ble_eq_true rfl)) dX2_seen_47 ⟨show cells + 0 ≤ MC by omega, show slots + 0 ≤ MS by omega⟩) (fun r65 N66 H locs h hw => ?_)
        refine W.eq (g2 := F0 m 50 ls (.int r65 :: [])) rfl ?_
        refine lv_bipush (pc := 50) (v := (8 : Int32)) hx hb dX2_seen_50 (by decide) ?_
        refine lv_icmp_ge (pc := 52) (tgt := 76) hx hb dX2_seen_52 rfl (fun c72 => ?_) (fun c72 => ?_)
        · have h := h.1 c72
          exact kX2_seen_76 X hr hlk  _ _ _ _ _ _ _ _ _ h ⟨hw, by omega⟩ (lv_sub hl [1] rfl)
        · have h := h.2 c72
          refine lv_aload_n (pc := 55) hx hb dX2_seen_55 rfl (lv_at hl 1 rfl) ?_
          refine lv_aload_n (pc := 56) hx hb dX2_seen_56 rfl (lv_at hl 0 rfl) ?_
          obtain ⟨f74, f75, f76, f77, hN73, h⟩ := h
          refine c_get (pc := 57) X hw hN73 in_X2 rfl 3 (by decide) q409 rfl rfl dX2_seen_57 ?_
          obtain ⟨a78, hr79, h⟩ := h
          refine W.eq (g2 := F0 m 60 ls [.ref a78, .ref x1]) (by rw [hr79]; rfl) ?_
          obtain ⟨f81, f82, f83, f84, f85, f86, f87, f88, f89, f90, f91, f92, f93, f94, f95, f96, f97, f98, f99, hN80, h⟩ := h
          refine c_getN (pc := 60) X hw hN80 in_X0 rfl 12 (by decide) q227 rfl rfl dX2_seen_60 ?_
          refine lv_iload_n (pc := 63) hx hb dX2_seen_63 rfl (lv_at hl 2 rfl) ?_
          obtain ⟨a100, hr101, h⟩ := h
          refine W.eq (g2 := F0 m 64 ls [.int x2, .ref a100, .ref x1]) (by rw [hr101]; rfl) ?_
          obtain ⟨n103, f104, hN102, h⟩ := h
          obtain ⟨hi, h⟩ := h
          refine c_bald (pc := 64) X hw hN102 hi dX2_seen_64 ?_
          refine lv_i2c (pc := 65) hx hb dX2_seen_65 rfl ?_
          obtain ⟨f112, f113, f114, f115, hN111, h⟩ := h
          obtain ⟨mc107, ms108, hm109, hm110, h⟩ := h
          refine c_callJ (pc := 66) (val := vR) X hw (va_runV (C := RJ11) (As := [.int (((f104 x2.toNatClampNeg).toUInt32 % 65536).toInt32)]) (rest := []) X.1 (tJ11_append X.2.2.1 (sz := H.size) h) (cwV 1 hts (lw_V q509 q510 q511 q118 q512) rfl rfl rfl ⟨rfl, by decide, by decide, (by decide +kernel : (parseMethodDescriptor yJ11_append.desc).map (fun d => d.parameters.length) = some 1)⟩ ⟨Nat.le_of_ble_eq_true rfl, Nat.le_of_ble_eq_true rfl⟩) ⟨cPre_blind, c_recv X hw hN111 rfl, fun U hU hW => ⟨rfl, X.preJ hw hU hW⟩⟩ rfl rfl hl.1 rfl (lv_room (Nat.le_of_ble_eq_true rfl)) dX2_seen_66 ⟨show cells + 0 + mc107 ≤ MC by omega, show slots + 0 + ms108 ≤ MS by omega⟩) (fun r105 N106 H locs h hw => ?_)
          refine W.eq (g2 := F0 m 69 ls (.ref r105 :: [])) rfl ?_
          refine lv_pop (pc := 69) hx hb dX2_seen_69 rfl ?_
          refine lv_iinc (pc := 70) (v := x2 + (1 : Int32)) (lv' := [(2, .int (x2 + (1 : Int32))), (0, .ref x0), (1, .ref x1)]) hx hb dX2_seen_70 hl (k := 2) rfl rfl (by decide) rfl (fun ls hl => ?_)
          refine lv_goto (pc := 73) (tgt := 13) hx hb dX2_seen_73 rfl ?_
          exact ih _ _ _ _ _ _ _ _ _ _ _ h ⟨hw, by omega⟩ (lv_sub hl [1, 2, 0] rfl)
theorem tX2_seen {l : Launch} {G : gG} (hO : gOk G) {post : Option Nat → NM → Prop} {MC MS : Nat} {N : NM} {x0 : Nat} {sz : Nat} (h : wX2_seen (gC G) post MC MS N x0) : Met l yX2_seen (ws_ yX2_seen cX2_seen 3 (some (.object "java/lang/String"))) ⟨6, MC, MS, 171⟩ (va_Pc [.ref x0] (cPre G [] N sz)) (gQ vQ post (fun u H => cBw G (cA [] N sz) (jW u).1 (jW u).2 H) (cA [] N sz)) MC MS (cA [] N sz) := by
  refine c_ofW (lw := jW) (by decide) hO (Nat.le_of_ble_eq_true rfl) (fun p e s m below meth c ls A X hr hlk hin hw hl => ?_)
  have hl : lv_has ls 3 [(0, .ref x0)] := hl
  have hx := X.1.1
  have hb := X.1.2.1
  have hml := X.1.2.2.1
  have hown := X.1.2.2.2.1
  have hts := X.1.2.2.2.2
  obtain ⟨H, eH⟩ : ∃ z, z = s.heap := ⟨_, rfl⟩
  rw [← eH] at hw ⊢
  obtain ⟨locs, eLo⟩ : ∃ z : List Loc, z = [] := ⟨_, rfl⟩
  rw [← eLo] at hw ⊢
  have hbud : 0 + MC ≤ MC ∧ 0 + MS ≤ MS := by omega
  unfold wX2_seen at h
  obtain ⟨hm1, hm2, h⟩ := h
  refine c_new (pc := 0) (ci := 17) (fs := [va_rf none, .int (0 : Int32), .int (0 : Int32), .int (0 : Int32)]) X hw in_J11 tyJ11 tyJ11_ok q469 q470 q118 rfl nf_J11 (show 0 + 1 ≤ MC by omega) (show 0 + 4 ≤ MS by omega) dX2_seen_0 (fun nq3 H hq4 _ hw => ?_)
  have h := h nq3 hq4
  obtain ⟨N5, e6⟩ : ∃ z, z = va_up N nq3 (some (eO 17 [va_rf none, .int (0 : Int32), .int (0 : Int32), .int (0 : Int32)])) := ⟨_, rfl⟩
  have hw : cH G A s [] N5 H locs := by rw [e6]; exact hw
  have h := h N5 e6
  have hN7 : N5 nq3 = some (eO 17 [va_rf none, .int (0 : Int32), .int (0 : Int32), .int (0 : Int32)]) := by rw [e6]; exact up_s
  refine lv_dup (pc := 3) hx hb dX2_seen_3 rfl ?_
  obtain ⟨mc10, ms11, hm12, hm13, h⟩ := h
  refine c_callJ (pc := 4) (val := vV) X hw (va_runI (As := []) (rest := [.ref nq3]) X.1 (tJ11_init X.2.2.1 (sz := H.size) h) (cwI 0 hts (lw_meth q473) rfl rfl rfl (hts _ q118) (hts _ q471) (hts _ q472) rfl ⟨by decide, by decide, (by decide +kernel : (parseMethodDescriptor yJ11_init.desc).map (fun d => d.parameters.length) = some 0)⟩ ⟨Nat.le_of_ble_eq_true rfl, Nat.le_of_ble_eq_true rfl⟩) ⟨cPre_blind, fun U hU hW => ⟨rfl, X.preJ hw hU hW⟩⟩ rfl rfl hl.1 rfl (lv_room (Nat.le_of_ble_eq_true rfl)) dX2_seen_4 ⟨show 0 + 1 + mc10 ≤ MC by omega, show 0 + 4 + ms11 ≤ MS by omega⟩) (fun _ N9 H locs h hw => ?_)
  refine W.eq (g2 := F0 m 7 ls ([.ref nq3])) rfl ?_
  refine lv_astore_n (pc := 7) (lv' := [(1, .ref nq3), (0, .ref x0)]) hx hb dX2_seen_7 rfl hl (by decide) rfl (fun ls hl => ?_)
  refine lv_aload_n (pc := 8) hx hb dX2_seen_8 rfl (lv_at hl 1 rfl) ?_
  obtain ⟨f15, f16, f17, f18, hN14, h⟩ := h
  refine c_get (pc := 9) X hw hN14 in_X2 rfl 0 (by decide) q406 rfl rfl dX2_seen_9 ?_
  refine lv_istore_n (pc := 12) (lv' := [(2, .int f15), (1, .ref nq3), (0, .ref x0)]) hx hb dX2_seen_12 rfl hl (by decide) rfl (fun ls hl => ?_)
  obtain ⟨k, h⟩ := h
  exact kX2_seen_13 X hr hlk  k _ _ _ _ _ _ _ _ _ _ _ h ⟨hw, by omega⟩ (lv_sub hl [2, 1, 0] rfl)

def wX2_isOver (K : Nat → Nat → Nat) (post : Int32 → NM → Prop) (N : NM) (x0 : Nat) : Prop :=
  ∃ f4 f5 f6 f7, N x0 = some (eO 2 [.int f4, .int f5, .int f6, va_rf f7]) ∧ (wX2_here K (fun r1 N2 => ((r1 = (-1 : Int32)) → (post (1 : Int32) N2)) ∧ (¬ (r1 = (-1 : Int32)) → (post (0 : Int32) N2))) N x0)
theorem tX2_isOver {l : Launch} {G : gG} (hO : gOk G) {post : Int32 → NM → Prop} {N : NM} {x0 : Nat} {sz : Nat} (h : wX2_isOver (gC G) post N x0) : Met l yX2_isOver (ws_ yX2_isOver cX2_isOver 1 (some .boolean)) ⟨1, 0, 0, 20⟩ (va_Pc [.ref x0] (cPre G [] N sz)) (gQ vI post (fun u H => cBw G (cA [] N sz) (jW u).1 (jW u).2 H) (cA [] N sz)) 0 0 (cA [] N sz) := by
  refine c_ofW (lw := jW) (by decide) hO (Nat.le_of_ble_eq_true rfl) (fun p e s m below meth c ls A X hr hlk hin hw hl => ?_)
  have hl : lv_has ls 1 [(0, .ref x0)] := hl
  have hx := X.1.1
  have hb := X.1.2.1
  have hml := X.1.2.2.1
  have hown := X.1.2.2.2.1
  have hts := X.1.2.2.2.2
  obtain ⟨H, eH⟩ : ∃ z, z = s.heap := ⟨_, rfl⟩
  rw [← eH] at hw ⊢
  obtain ⟨locs, eLo⟩ : ∃ z : List Loc, z = [] := ⟨_, rfl⟩
  rw [← eLo] at hw ⊢
  unfold wX2_isOver at h
  refine lv_aload_n (pc := 0) hx hb dX2_isOver_0 rfl (lv_at hl 0 rfl) ?_
  obtain ⟨f4, f5, f6, f7, hN3, h⟩ := h
  refine c_callJ (pc := 1) (val := vI) X hw (va_runV (C := RX2) (As := []) (rest := []) X.1 (tX2_here X.2.2.1 (sz := H.size) h) (cwV 0 hts (lw_V q402 q404 qs4 q113 q405) rfl rfl rfl ⟨rfl, by decide, by decide, (by decide +kernel : (parseMethodDescriptor yX2_here.desc).map (fun d => d.parameters.length) = some 0)⟩ ⟨Nat.le_of_ble_eq_true rfl, Nat.le_of_ble_eq_true rfl⟩) ⟨cPre_blind, c_recv X hw hN3 rfl, fun U hU hW => ⟨rfl, X.preJ hw hU hW⟩⟩ rfl rfl hl.1 rfl (lv_room (Nat.le_of_ble_eq_true rfl)) dX2_isOver_1 ⟨show 0 + 0 ≤ 0 by omega, show 0 + 0 ≤ 0 by omega⟩) (fun r1 N2 H locs h hw => ?_)
  refine W.eq (g2 := F0 m 4 ls (.int r1 :: [])) rfl ?_
  refine lv_iconst (pc := 4) (v := (-1 : Int32)) hx hb dX2_isOver_4 (by decide) ?_
  refine lv_icmp_ne (pc := 5) (tgt := 12) hx hb dX2_isOver_5 rfl (fun c8 => ?_) (fun c8 => ?_)
  · have h := h.2 c8
    refine lv_iconst (pc := 12) (v := (0 : Int32)) hx hb dX2_isOver_12 (by decide) ?_
    exact W.zret (pc := 13) hx hb hr rfl (fun t ht hW => c_ret (val := vI) (lw := jW) (u := N2) hw h ht) hw.2.2.2 dX2_isOver_13 hlk
  · have h := h.1 c8
    refine lv_iconst (pc := 8) (v := (1 : Int32)) hx hb dX2_isOver_8 (by decide) ?_
    refine lv_goto (pc := 9) (tgt := 13) hx hb dX2_isOver_9 rfl ?_
    exact W.zret (pc := 13) hx hb hr rfl (fun t ht hW => c_ret (val := vI) (lw := jW) (u := N2) hw h ht) hw.2.2.2 dX2_isOver_13 hlk

def wX4_init (K : Nat → Nat → Nat) (post : Unit → NM → Prop) (N : NM) (x0 : Nat) (x1 : Int32) (x2 : Option Nat) (x3 : Int32) (x4 : Int32) : Prop :=
  ∃ f2 f3 f4 f5, N x0 = some (eO 6 [.int f2, .int f3, .int f4, va_rf f5]) ∧ (∀ N6, N6 = va_up N x0 (some (eO 6 [.int x1, .int f3, .int f4, va_rf f5])) → (∀ N9, N9 = va_up N6 x0 (some (eO 6 [.int x1, .int f3, .int f4, va_rf x2])) → (∀ N12, N12 = va_up N9 x0 (some (eO 6 [.int x1, .int x3, .int f4, va_rf x2])) → (∀ N15, N15 = va_up N12 x0 (some (eO 6 [.int x1, .int x3, .int x4, va_rf x2])) → (post () N15)))))
theorem tX4_init {l : Launch} {G : gG} (hO : gOk G) {post : Unit → NM → Prop} {N : NM} {x0 : Nat} {x1 : Int32} {x2 : Option Nat} {x3 : Int32} {x4 : Int32} {sz : Nat} (h : wX4_init (gC G) post N x0 x1 x2 x3 x4) : Met l yX4_init (ws_ yX4_init cX4_init 5 none) ⟨1, 0, 0, 20⟩ (va_Pc [.ref x0, .int x1, va_rf x2, .int x3, .int x4] (cPre G [] N sz)) (gQ vV post (fun u H => cBw G (cA [] N sz) (jW u).1 (jW u).2 H) (cA [] N sz)) 0 0 (cA [] N sz) := by
  refine c_ofW (lw := jW) (by decide) hO (by cases x2 <;> exact Nat.le_of_ble_eq_true rfl) (fun p e s m below meth c ls A X hr hlk hin hw hl => ?_)
  have hl : lv_has ls 5 [(0, .ref x0), (1, .int x1), (2, va_rf x2), (3, .int x3), (4, .int x4)] := by cases x2 <;> exact hl
  have hin := hin rfl
  have hx := X.1.1
  have hb := X.1.2.1
  have hml := X.1.2.2.1
  have hown := X.1.2.2.2.1
  have hts := X.1.2.2.2.2
  obtain ⟨H, eH⟩ : ∃ z, z = s.heap := ⟨_, rfl⟩
  rw [← eH] at hw ⊢
  obtain ⟨locs, eLo⟩ : ∃ z : List Loc, z = [] := ⟨_, rfl⟩
  rw [← eLo] at hw ⊢
  unfold wX4_init at h
  refine lv_aload_n (pc := 0) hx hb dX4_init_0 rfl (lv_at hl 0 rfl) ?_
  refine W.objInit hx hb hown (hts _ q708) (hts _ q181) (hts _ q182) rfl (by rw [hml]; exact hl.1) rfl dX4_init_1 (Nat.le_of_ble_eq_true rfl) (Nat.le_of_ble_eq_true rfl) ?_
  refine W.eq (g2 := F0 m 4 ls []) rfl ?_
  refine lv_aload_n (pc := 4) hx hb dX4_init_4 rfl (lv_at hl 0 rfl) ?_
  refine lv_iload_n (pc := 5) hx hb dX4_init_5 rfl (lv_at hl 1 rfl) ?_
  obtain ⟨f2, f3, f4, f5, hN1, h⟩ := h
  refine c_putF (pc := 6) X hw hN1 in_X4 tyX4 tyX4_ok nmX4 rfl 0 (by decide) q709 rfl rfl hin rfl rfl rfl rfl (Nat.le_of_ble_eq_true rfl) dX4_init_6 (fun H locs hw => ?_)
  obtain ⟨N6, e7⟩ : ∃ z, z = va_up N x0 (some (eO 6 [.int x1, .int f3, .int f4, va_rf f5])) := ⟨_, rfl⟩
  have hw : cH G A s [] N6 H locs := by rw [e7]; exact hw
  have h := h N6 e7
  have hN8 : N6 x0 = some (eO 6 [.int x1, .int f3, .int f4, va_rf f5]) := by rw [e7]; exact up_s
  refine lv_aload_n (pc := 9) hx hb dX4_init_9 rfl (lv_at hl 0 rfl) ?_
  refine lq_aload_n (pc := 10) hx hb dX4_init_10 rfl (lv_at hl 2 rfl) ?_
  refine c_putF (pc := 11) (v := va_rf x2) X hw hN8 in_X4 tyX4 tyX4_ok nmX4 rfl 3 (by decide) q717 rfl rfl hin rfl rfl (rf_n x2 _) (rf_f x2 _) (Nat.le_of_ble_eq_true rfl) dX4_init_11 (fun H locs hw => ?_)
  obtain ⟨N9, e10⟩ : ∃ z, z = va_up N6 x0 (some (eO 6 [.int x1, .int f3, .int f4, va_rf x2])) := ⟨_, rfl⟩
  have hw : cH G A s [] N9 H locs := by rw [e10]; exact hw
  have h := h N9 e10
  have hN11 : N9 x0 = some (eO 6 [.int x1, .int f3, .int f4, va_rf x2]) := by rw [e10]; exact up_s
  refine lv_aload_n (pc := 14) hx hb dX4_init_14 rfl (lv_at hl 0 rfl) ?_
  refine lv_iload_n (pc := 15) hx hb dX4_init_15 rfl (lv_at hl 3 rfl) ?_
  refine c_putF (pc := 16) X hw hN11 in_X4 tyX4 tyX4_ok nmX4 rfl 1 (by decide) q711 rfl rfl hin rfl rfl rfl rfl (Nat.le_of_ble_eq_true rfl) dX4_init_16 (fun H locs hw => ?_)
  obtain ⟨N12, e13⟩ : ∃ z, z = va_up N9 x0 (some (eO 6 [.int x1, .int x3, .int f4, va_rf x2])) := ⟨_, rfl⟩
  have hw : cH G A s [] N12 H locs := by rw [e13]; exact hw
  have h := h N12 e13
  have hN14 : N12 x0 = some (eO 6 [.int x1, .int x3, .int f4, va_rf x2]) := by rw [e13]; exact up_s
  refine lv_aload_n (pc := 19) hx hb dX4_init_19 rfl (lv_at hl 0 rfl) ?_
  refine lv_iload (pc := 20) hx hb dX4_init_20 (lv_at hl 4 rfl) ?_
  refine c_putF (pc := 22) X hw hN14 in_X4 tyX4 tyX4_ok nmX4 rfl 2 (by decide) q714 rfl rfl hin rfl rfl rfl rfl (Nat.le_of_ble_eq_true rfl) dX4_init_22 (fun H locs hw => ?_)
  obtain ⟨N15, e16⟩ : ∃ z, z = va_up N12 x0 (some (eO 6 [.int x1, .int x3, .int x4, va_rf x2])) := ⟨_, rfl⟩
  have hw : cH G A s [] N15 H locs := by rw [e16]; exact hw
  have h := h N15 e16
  have hN17 : N15 x0 = some (eO 6 [.int x1, .int x3, .int x4, va_rf x2]) := by rw [e16]; exact up_s
  exact W.vret (pc := 25) hx hb hr (fun t ht hW => c_ret (val := vV) (lw := jW) (u := N15) (v := ()) hw h ht) hw.2.2.2 dX4_init_25 hlk

def wX4_value (K : Nat → Nat → Nat) (post : Int64 → NM → Prop) (N : NM) (x0 : Nat) (x1 : Int64) : Prop :=
  ∃ f2 f3 f4 f5, N x0 = some (eO 6 [.int f2, .int f3, .int f4, va_rf f5]) ∧ (∃ a6, f5 = some a6 ∧ (∃ kk8, kk8 < 5 ∧ a6 = K 2 kk8 ∧ (post (f2.toInt64 * (kVal kk8 x1)) N)))
theorem tX4_value {l : Launch} {G : gG} (hO : gOk G) {post : Int64 → NM → Prop} {N : NM} {x0 : Nat} {x1 : Int64} {sz : Nat} (h : wX4_value (gC G) post N x0 x1) : Met l yX4_value (ws_ yX4_value cX4_value 3 (some .long)) ⟨1, 0, 0, 30⟩ (va_Pc [.ref x0, .long x1] (cPre G [] N sz)) (gQ vL post (fun u H => cBw G (cA [] N sz) (jW u).1 (jW u).2 H) (cA [] N sz)) 0 0 (cA [] N sz) := by
  refine c_ofW (lw := jW) (by decide) hO (Nat.le_of_ble_eq_true rfl) (fun p e s m below meth c ls A X hr hlk hin hw hl => ?_)
  have hl : lv_has ls 3 [(0, .ref x0), (1, .long x1)] := hl
  have hx := X.1.1
  have hb := X.1.2.1
  have hml := X.1.2.2.1
  have hown := X.1.2.2.2.1
  have hts := X.1.2.2.2.2
  obtain ⟨H, eH⟩ : ∃ z, z = s.heap := ⟨_, rfl⟩
  rw [← eH] at hw ⊢
  obtain ⟨locs, eLo⟩ : ∃ z : List Loc, z = [] := ⟨_, rfl⟩
  rw [← eLo] at hw ⊢
  unfold wX4_value at h
  refine lv_aload_n (pc := 0) hx hb dX4_value_0 rfl (lv_at hl 0 rfl) ?_
  obtain ⟨f2, f3, f4, f5, hN1, h⟩ := h
  refine c_get (pc := 1) X hw hN1 in_X4 rfl 0 (by decide) q709 rfl rfl dX4_value_1 ?_
  refine lv_i2l (pc := 4) hx hb dX4_value_4 rfl ?_
  refine lv_aload_n (pc := 5) hx hb dX4_value_5 rfl (lv_at hl 0 rfl) ?_
  refine c_get (pc := 6) X hw hN1 in_X4 rfl 3 (by decide) q717 rfl rfl dX4_value_6 ?_
  refine lv_lload_n (pc := 9) hx hb dX4_value_9 rfl (lv_at hl 1 rfl) ?_
  obtain ⟨a6, hr7, h⟩ := h
  refine W.eq (g2 := F0 m 10 ls [.long x1, .ref a6, .long f2.toInt64]) (by rw [hr7]; rfl) ?_
  obtain ⟨kk8, hk9, ha10, h⟩ := h
  refine W.eq (g2 := F0 m 10 ls [.long x1, .ref (gC G 2 kk8), .long f2.toInt64]) (by rw [ha10]) ?_
  refine c_kindOf (pc := 10) (rest := [.long f2.toInt64]) X hw hk9 hl.1 ⟨Nat.le_of_ble_eq_true rfl, Nat.le_of_ble_eq_true rfl⟩ (Nat.le_of_ble_eq_true rfl) ⟨show 0 ≤ 0 by omega, show 0 ≤ 0 by omega⟩ dX4_value_10 (fun H locs hw => ?_)
  refine lv_lmul (pc := 13) hx hb dX4_value_13 ?_
  exact W.lret (pc := 14) hx hb hr (fun t ht hW => c_ret (val := vL) (lw := jW) (u := N) hw h ht) hw.2.2.2 dX4_value_14 hlk

def wX4_isLike (K : Nat → Nat → Nat) (post : Int32 → NM → Prop) (N : NM) (x0 : Nat) (x1 : Option Nat) : Prop :=
  ∃ f2 f3 f4 f5, N x0 = some (eO 6 [.int f2, .int f3, .int f4, va_rf f5]) ∧ (∃ a6, x1 = some a6 ∧ (∃ f9 f10 f11 f12, N a6 = some (eO 6 [.int f9, .int f10, .int f11, va_rf f12]) ∧ (((f2 = f9) → (((f5 = f12) → (((f3 = f10) → (((f4 = f11) → (post (1 : Int32) N)) ∧ (¬ (f4 = f11) → (post (0 : Int32) N)))) ∧ (¬ (f3 = f10) → (post (0 : Int32) N)))) ∧ (¬ (f5 = f12) → (post (0 : Int32) N)))) ∧ (¬ (f2 = f9) → (post (0 : Int32) N)))))
theorem tX4_isLike {l : Launch} {G : gG} (hO : gOk G) {post : Int32 → NM → Prop} {N : NM} {x0 : Nat} {x1 : Option Nat} {sz : Nat} (h : wX4_isLike (gC G) post N x0 x1) : Met l yX4_isLike (ws_ yX4_isLike cX4_isLike 2 (some .boolean)) ⟨0, 0, 0, 0⟩ (va_Pc [.ref x0, va_rf x1] (cPre G [] N sz)) (gQ vI post (fun u H => cBw G (cA [] N sz) (jW u).1 (jW u).2 H) (cA [] N sz)) 0 0 (cA [] N sz) := by
  refine c_ofW (lw := jW) (by decide) hO (by cases x1 <;> exact Nat.le_of_ble_eq_true rfl) (fun p e s m below meth c ls A X hr hlk hin hw hl => ?_)
  have hl : lv_has ls 2 [(0, .ref x0), (1, va_rf x1)] := by cases x1 <;> exact hl
  have hx := X.1.1
  have hb := X.1.2.1
  have hml := X.1.2.2.1
  have hown := X.1.2.2.2.1
  have hts := X.1.2.2.2.2
  obtain ⟨H, eH⟩ : ∃ z, z = s.heap := ⟨_, rfl⟩
  rw [← eH] at hw ⊢
  obtain ⟨locs, eLo⟩ : ∃ z : List Loc, z = [] := ⟨_, rfl⟩
  rw [← eLo] at hw ⊢
  unfold wX4_isLike at h
  refine lv_aload_n (pc := 0) hx hb dX4_isLike_0 rfl (lv_at hl 0 rfl) ?_
  obtain ⟨f2, f3, f4, f5, hN1, h⟩ := h
  refine c_get (pc := 1) X hw hN1 in_X4 rfl 0 (by decide) q709 rfl rfl dX4_isLike_1 ?_
  refine lq_aload_n (pc := 4) hx hb dX4_isLike_4 rfl (lv_at hl 1 rfl) ?_
  obtain ⟨a6, hr7, h⟩ := h
  refine W.eq (g2 := F0 m 5 ls [.ref a6, .int f2]) (by rw [hr7]; rfl) ?_
  obtain ⟨f9, f10, f11, f12, hN8, h⟩ := h
  refine c_get (pc := 5) X hw hN8 in_X4 rfl 0 (by decide) q709 rfl rfl dX4_isLike_5 ?_
  refine lv_icmp_ne (pc := 8) (tgt := 48) hx hb dX4_isLike_8 rfl (fun c13 => ?_) (fun c13 => ?_)
  · have h := h.2 c13
    refine lv_iconst (pc := 48) (v := (0 : Int32)) hx hb dX4_isLike_48 (by decide) ?_
    exact W.zret (pc := 49) hx hb hr rfl (fun t ht hW => c_ret (val := vI) (lw := jW) (u := N) hw h ht) hw.2.2.2 dX4_isLike_49 hlk
  · have h := h.1 c13
    refine lv_aload_n (pc := 11) hx hb dX4_isLike_11 rfl (lv_at hl 0 rfl) ?_
    refine c_get (pc := 12) X hw hN1 in_X4 rfl 3 (by decide) q717 rfl rfl dX4_isLike_12 ?_
    refine lq_aload_n (pc := 15) hx hb dX4_isLike_15 rfl (lv_at hl 1 rfl) ?_
    refine W.eq (g2 := F0 m 16 ls [.ref a6, va_rf f5]) (by rw [hr7]; rfl) ?_
    refine c_get (pc := 16) X hw hN8 in_X4 rfl 3 (by decide) q717 rfl rfl dX4_isLike_16 ?_
    refine lv_acmp_ne (pc := 19) (tgt := 48) (rx := f5) (ry := f12) hx hb dX4_isLike_19 rfl (fun c14 => ?_) (fun c14 => ?_)
    · have h := h.2 c14
      refine lv_iconst (pc := 48) (v := (0 : Int32)) hx hb dX4_isLike_48 (by decide) ?_
      exact W.zret (pc := 49) hx hb hr rfl (fun t ht hW => c_ret (val := vI) (lw := jW) (u := N) hw h ht) hw.2.2.2 dX4_isLike_49 hlk
    · have h := h.1 c14
      refine lv_aload_n (pc := 22) hx hb dX4_isLike_22 rfl (lv_at hl 0 rfl) ?_
      refine c_get (pc := 23) X hw hN1 in_X4 rfl 1 (by decide) q711 rfl rfl dX4_isLike_23 ?_
      refine lq_aload_n (pc := 26) hx hb dX4_isLike_26 rfl (lv_at hl 1 rfl) ?_
      refine W.eq (g2 := F0 m 27 ls [.ref a6, .int f3]) (by rw [hr7]; rfl) ?_
      refine c_get (pc := 27) X hw hN8 in_X4 rfl 1 (by decide) q711 rfl rfl dX4_isLike_27 ?_
      refine lv_icmp_ne (pc := 30) (tgt := 48) hx hb dX4_isLike_30 rfl (fun c15 => ?_) (fun c15 => ?_)
      · have h := h.2 c15
        refine lv_iconst (pc := 48) (v := (0 : Int32)) hx hb dX4_isLike_48 (by decide) ?_
        exact W.zret (pc := 49) hx hb hr rfl (fun t ht hW => c_ret (val := vI) (lw := jW) (u := N) hw h ht) hw.2.2.2 dX4_isLike_49 hlk
      · have h := h.1 c15
        refine lv_aload_n (pc := 33) hx hb dX4_isLike_33 rfl (lv_at hl 0 rfl) ?_
        refine c_get (pc := 34) X hw hN1 in_X4 rfl 2 (by decide) q714 rfl rfl dX4_isLike_34 ?_
        refine lq_aload_n (pc := 37) hx hb dX4_isLike_37 rfl (lv_at hl 1 rfl) ?_
        refine W.eq (g2 := F0 m 38 ls [.ref a6, .int f4]) (by rw [hr7]; rfl) ?_
        refine c_get (pc := 38) X hw hN8 in_X4 rfl 2 (by decide) q714 rfl rfl dX4_isLike_38 ?_
        refine lv_icmp_ne (pc := 41) (tgt := 48) hx hb dX4_isLike_41 rfl (fun c16 => ?_) (fun c16 => ?_)
        · have h := h.2 c16
          refine lv_iconst (pc := 48) (v := (0 : Int32)) hx hb dX4_isLike_48 (by decide) ?_
          exact W.zret (pc := 49) hx hb hr rfl (fun t ht hW => c_ret (val := vI) (lw := jW) (u := N) hw h ht) hw.2.2.2 dX4_isLike_49 hlk
        · have h := h.1 c16
          refine lv_iconst (pc := 44) (v := (1 : Int32)) hx hb dX4_isLike_44 (by decide) ?_
          refine lv_goto (pc := 45) (tgt := 49) hx hb dX4_isLike_45 rfl ?_
          exact W.zret (pc := 49) hx hb hr rfl (fun t ht hW => c_ret (val := vI) (lw := jW) (u := N) hw h ht) hw.2.2.2 dX4_isLike_49 hlk

def wX4_rounds (K : Nat → Nat → Nat) (post : Int32 → NM → Prop) (N : NM) (x0 : Nat) (x1 : Int32) : Prop :=
  ∃ f2 f3 f4 f5, N x0 = some (eO 6 [.int f2, .int f3, .int f4, va_rf f5]) ∧ (((f5 = (some (K 2 4))) → (post ((2 : Int32) * x1) N)) ∧ (¬ (f5 = (some (K 2 4))) → (post x1 N)))
theorem tX4_rounds {l : Launch} {G : gG} (hO : gOk G) {post : Int32 → NM → Prop} {N : NM} {x0 : Nat} {x1 : Int32} {sz : Nat} (h : wX4_rounds (gC G) post N x0 x1) : Met l yX4_rounds (ws_ yX4_rounds cX4_rounds 2 (some .int)) ⟨0, 0, 0, 0⟩ (va_Pc [.ref x0, .int x1] (cPre G [] N sz)) (gQ vI post (fun u H => cBw G (cA [] N sz) (jW u).1 (jW u).2 H) (cA [] N sz)) 0 0 (cA [] N sz) := by
  refine c_ofW (lw := jW) (by decide) hO (Nat.le_of_ble_eq_true rfl) (fun p e s m below meth c ls A X hr hlk hin hw hl => ?_)
  have hl : lv_has ls 2 [(0, .ref x0), (1, .int x1)] := hl
  have hx := X.1.1
  have hb := X.1.2.1
  have hml := X.1.2.2.1
  have hown := X.1.2.2.2.1
  have hts := X.1.2.2.2.2
  obtain ⟨H, eH⟩ : ∃ z, z = s.heap := ⟨_, rfl⟩
  rw [← eH] at hw ⊢
  obtain ⟨locs, eLo⟩ : ∃ z : List Loc, z = [] := ⟨_, rfl⟩
  rw [← eLo] at hw ⊢
  unfold wX4_rounds at h
  refine lv_aload_n (pc := 0) hx hb dX4_rounds_0 rfl (lv_at hl 0 rfl) ?_
  obtain ⟨f2, f3, f4, f5, hN1, h⟩ := h
  refine c_get (pc := 1) X hw hN1 in_X4 rfl 3 (by decide) q717 rfl rfl dX4_rounds_1 ?_
  refine va_gets (pc := 4) hx hb (va_Z.narrow (X.2.2.2.1.Z (X.cs.2.2.1.1 4 (by decide)).1) X.2.2.2.2.2) hw.2 hown (hts _ q1611) (fun x h => h) dX4_rounds_4 ?_
  refine lv_acmp_ne (pc := 7) (tgt := 16) (rx := f5) (ry := (some (gC G 2 4))) hx hb dX4_rounds_7 rfl (fun c6 => ?_) (fun c6 => ?_)
  · have h := h.2 c6
    refine lv_iload_n (pc := 16) hx hb dX4_rounds_16 rfl (lv_at hl 1 rfl) ?_
    exact W.iret (pc := 17) hx hb hr (fun t ht hW => c_ret (val := vI) (lw := jW) (u := N) hw h ht) hw.2.2.2 dX4_rounds_17 hlk
  · have h := h.1 c6
    refine lv_iconst (pc := 10) (v := (2 : Int32)) hx hb dX4_rounds_10 (by decide) ?_
    refine lv_iload_n (pc := 11) hx hb dX4_rounds_11 rfl (lv_at hl 1 rfl) ?_
    refine lv_imul (pc := 12) hx hb dX4_rounds_12 ?_
    refine lv_goto (pc := 13) (tgt := 17) hx hb dX4_rounds_13 rfl ?_
    exact W.iret (pc := 17) hx hb hr (fun t ht hW => c_ret (val := vI) (lw := jW) (u := N) hw h ht) hw.2.2.2 dX4_rounds_17 hlk

def wX6_init (K : Nat → Nat → Nat) (post : Unit → NM → Prop) (N : NM) (x0 : Nat) (x1 : Nat) : Prop :=
  ∃ f2, N x0 = some (eO 7 [va_rf f2]) ∧ (∀ N3, N3 = va_up N x0 (some (eO 7 [va_rf (some x1)])) → (post () N3))
theorem tX6_init {l : Launch} {G : gG} (hO : gOk G) {post : Unit → NM → Prop} {N : NM} {x0 : Nat} {x1 : Nat} {sz : Nat} (h : wX6_init (gC G) post N x0 x1) : Met l yX6_init (ws_ yX6_init cX6_init 2 none) ⟨1, 0, 0, 20⟩ (va_Pc [.ref x0, .ref x1] (cPre G [] N sz)) (gQ vV post (fun u H => cBw G (cA [] N sz) (jW u).1 (jW u).2 H) (cA [] N sz)) 0 0 (cA [] N sz) := by
  refine c_ofW (lw := jW) (by decide) hO (Nat.le_of_ble_eq_true rfl) (fun p e s m below meth c ls A X hr hlk hin hw hl => ?_)
  have hl : lv_has ls 2 [(0, .ref x0), (1, .ref x1)] := hl
  have hin := hin rfl
  have hx := X.1.1
  have hb := X.1.2.1
  have hml := X.1.2.2.1
  have hown := X.1.2.2.2.1
  have hts := X.1.2.2.2.2
  obtain ⟨H, eH⟩ : ∃ z, z = s.heap := ⟨_, rfl⟩
  rw [← eH] at hw ⊢
  obtain ⟨locs, eLo⟩ : ∃ z : List Loc, z = [] := ⟨_, rfl⟩
  rw [← eLo] at hw ⊢
  unfold wX6_init at h
  refine lv_aload_n (pc := 0) hx hb dX6_init_0 rfl (lv_at hl 0 rfl) ?_
  refine W.objInit hx hb hown (hts _ q883) (hts _ q181) (hts _ q182) rfl (by rw [hml]; exact hl.1) rfl dX6_init_1 (Nat.le_of_ble_eq_true rfl) (Nat.le_of_ble_eq_true rfl) ?_
  refine W.eq (g2 := F0 m 4 ls []) rfl ?_
  refine lv_aload_n (pc := 4) hx hb dX6_init_4 rfl (lv_at hl 0 rfl) ?_
  refine lv_aload_n (pc := 5) hx hb dX6_init_5 rfl (lv_at hl 1 rfl) ?_
  obtain ⟨f2, hN1, h⟩ := h
  refine c_putF (pc := 6) (v := va_rf (some x1)) X hw hN1 in_X6 tyX6 tyX6_ok nmX6 rfl 0 (by decide) q884 rfl rfl hin rfl rfl (rf_na (some x1) _) (rf_fa (some x1) _) (Nat.le_of_ble_eq_true rfl) dX6_init_6 (fun H locs hw => ?_)
  obtain ⟨N3, e4⟩ : ∃ z, z = va_up N x0 (some (eO 7 [va_rf (some x1)])) := ⟨_, rfl⟩
  have hw : cH G A s [] N3 H locs := by rw [e4]; exact hw
  have h := h N3 e4
  have hN5 : N3 x0 = some (eO 7 [va_rf (some x1)]) := by rw [e4]; exact up_s
  exact W.vret (pc := 9) hx hb hr (fun t ht hW => c_ret (val := vV) (lw := jW) (u := N3) (v := ()) hw h ht) hw.2.2.2 dX6_init_9 hlk

def wX6_many (K : Nat → Nat → Nat) (post : Int32 → NM → Prop) (N : NM) (x0 : Nat) : Prop :=
  ∃ f2, N x0 = some (eO 7 [va_rf f2]) ∧ (∃ a3, f2 = some a3 ∧ (∃ n6 f7, N a3 = some (eR 5 n6 f7) ∧ (post (nI n6) N)))
theorem tX6_many {l : Launch} {G : gG} (hO : gOk G) {post : Int32 → NM → Prop} {N : NM} {x0 : Nat} {sz : Nat} (h : wX6_many (gC G) post N x0) : Met l yX6_many (ws_ yX6_many cX6_many 1 (some .int)) ⟨0, 0, 0, 0⟩ (va_Pc [.ref x0] (cPre G [] N sz)) (gQ vI post (fun u H => cBw G (cA [] N sz) (jW u).1 (jW u).2 H) (cA [] N sz)) 0 0 (cA [] N sz) := by
  refine c_ofW (lw := jW) (by decide) hO (Nat.le_of_ble_eq_true rfl) (fun p e s m below meth c ls A X hr hlk hin hw hl => ?_)
  have hl : lv_has ls 1 [(0, .ref x0)] := hl
  have hx := X.1.1
  have hb := X.1.2.1
  have hml := X.1.2.2.1
  have hown := X.1.2.2.2.1
  have hts := X.1.2.2.2.2
  obtain ⟨H, eH⟩ : ∃ z, z = s.heap := ⟨_, rfl⟩
  rw [← eH] at hw ⊢
  obtain ⟨locs, eLo⟩ : ∃ z : List Loc, z = [] := ⟨_, rfl⟩
  rw [← eLo] at hw ⊢
  unfold wX6_many at h
  refine lv_aload_n (pc := 0) hx hb dX6_many_0 rfl (lv_at hl 0 rfl) ?_
  obtain ⟨f2, hN1, h⟩ := h
  refine c_get (pc := 1) X hw hN1 in_X6 rfl 0 (by decide) q884 rfl rfl dX6_many_1 ?_
  obtain ⟨a3, hr4, h⟩ := h
  refine W.eq (g2 := F0 m 4 ls [.ref a3]) (by rw [hr4]; rfl) ?_
  obtain ⟨n6, f7, hN5, h⟩ := h
  refine c_alen (pc := 4) X hw hN5 rfl dX6_many_4 ?_
  exact W.iret (pc := 5) hx hb hr (fun t ht hW => c_ret (val := vI) (lw := jW) (u := N) hw h ht) hw.2.2.2 dX6_many_5 hlk

def wX7_init (K : Nat → Nat → Nat) (post : Unit → NM → Prop) (N : NM) (x0 : Nat) : Prop :=
  post () N
theorem tX7_init {l : Launch} {G : gG} (hO : gOk G) {post : Unit → NM → Prop} {N : NM} {x0 : Nat} {sz : Nat} (h : wX7_init (gC G) post N x0) : Met l yX7_init (ws_ yX7_init cX7_init 1 none) ⟨1, 0, 0, 20⟩ (va_Pc [.ref x0] (cPre G [] N sz)) (gQ vV post (fun u H => cBw G (cA [] N sz) (jW u).1 (jW u).2 H) (cA [] N sz)) 0 0 (cA [] N sz) := by
  refine c_ofW (lw := jW) (by decide) hO (Nat.le_of_ble_eq_true rfl) (fun p e s m below meth c ls A X hr hlk hin hw hl => ?_)
  have hl : lv_has ls 1 [(0, .ref x0)] := hl
  have hin := hin rfl
  have hx := X.1.1
  have hb := X.1.2.1
  have hml := X.1.2.2.1
  have hown := X.1.2.2.2.1
  have hts := X.1.2.2.2.2
  obtain ⟨H, eH⟩ : ∃ z, z = s.heap := ⟨_, rfl⟩
  rw [← eH] at hw ⊢
  obtain ⟨locs, eLo⟩ : ∃ z : List Loc, z = [] := ⟨_, rfl⟩
  rw [← eLo] at hw ⊢
  unfold wX7_init at h
  refine lv_aload_n (pc := 0) hx hb dX7_init_0 rfl (lv_at hl 0 rfl) ?_
  refine W.objInit hx hb hown (hts _ q939) (hts _ q181) (hts _ q182) rfl (by rw [hml]; exact hl.1) rfl dX7_init_1 (Nat.le_of_ble_eq_true rfl) (Nat.le_of_ble_eq_true rfl) ?_
  refine W.eq (g2 := F0 m 4 ls []) rfl ?_
  exact W.vret (pc := 4) hx hb hr (fun t ht hW => c_ret (val := vV) (lw := jW) (u := N) (v := ()) hw h ht) hw.2.2.2 dX7_init_4 hlk

def wX9_init (K : Nat → Nat → Nat) (post : Unit → NM → Prop) (N : NM) (x0 : Nat) : Prop :=
  post () N
theorem tX9_init {l : Launch} {G : gG} (hO : gOk G) {post : Unit → NM → Prop} {N : NM} {x0 : Nat} {sz : Nat} (h : wX9_init (gC G) post N x0) : Met l yX9_init (ws_ yX9_init cX9_init 1 none) ⟨1, 0, 0, 20⟩ (va_Pc [.ref x0] (cPre G [] N sz)) (gQ vV post (fun u H => cBw G (cA [] N sz) (jW u).1 (jW u).2 H) (cA [] N sz)) 0 0 (cA [] N sz) := by
  refine c_ofW (lw := jW) (by decide) hO (Nat.le_of_ble_eq_true rfl) (fun p e s m below meth c ls A X hr hlk hin hw hl => ?_)
  have hl : lv_has ls 1 [(0, .ref x0)] := hl
  have hin := hin rfl
  have hx := X.1.1
  have hb := X.1.2.1
  have hml := X.1.2.2.1
  have hown := X.1.2.2.2.1
  have hts := X.1.2.2.2.2
  obtain ⟨H, eH⟩ : ∃ z, z = s.heap := ⟨_, rfl⟩
  rw [← eH] at hw ⊢
  obtain ⟨locs, eLo⟩ : ∃ z : List Loc, z = [] := ⟨_, rfl⟩
  rw [← eLo] at hw ⊢
  unfold wX9_init at h
  refine lv_aload_n (pc := 0) hx hb dX9_init_0 rfl (lv_at hl 0 rfl) ?_
  refine W.objInit hx hb hown (hts _ q1426) (hts _ q181) (hts _ q182) rfl (by rw [hml]; exact hl.1) rfl dX9_init_1 (Nat.le_of_ble_eq_true rfl) (Nat.le_of_ble_eq_true rfl) ?_
  refine W.eq (g2 := F0 m 4 ls []) rfl ?_
  exact W.vret (pc := 4) hx hb hr (fun t ht hW => c_ret (val := vV) (lw := jW) (u := N) (v := ()) hw h ht) hw.2.2.2 dX9_init_4 hlk

def wX0_end (K : Nat → Nat → Nat) (post : Int32 → NM → Prop) (N : NM) (x0 : Nat) (x1 : Int32) : Prop :=
  ∃ f2 f3 f4 f5 f6 f7 f8 f9 f10 f11 f12 f13 f14 f15 f16 f17 f18 f19 f20, N x0 = some (eO 1 [va_rf f2, va_rf f3, va_rf f4, va_rf f5, va_rf f6, va_rf f7, va_rf f8, va_rf f9, va_rf f10, .int f11, .int f12, va_rf f13, va_rf f14, .int f15, va_rf f16, va_rf f17, va_rf f18, va_rf f19, va_rf f20]) ∧ (wX0_isIn (fun r21 => ((r21 = (0 : Int32)) → (post (0 : Int32) N)) ∧ (¬ (r21 = (0 : Int32)) → (∀ N23, N23 = va_up N x0 (some (eO 1 [va_rf f2, va_rf f3, va_rf f4, va_rf f5, va_rf f6, va_rf f7, va_rf f8, va_rf f9, va_rf f10, .int f11, .int f12, va_rf f13, va_rf f14, .int x1, va_rf f16, va_rf f17, va_rf f18, va_rf f19, va_rf f20])) → (post (1 : Int32) N23)))) x1.toInt64 (0 : Int64) f15.toInt64)
theorem tX0_end {l : Launch} {G : gG} (hO : gOk G) {post : Int32 → NM → Prop} {N : NM} {x0 : Nat} {x1 : Int32} {sz : Nat} (h : wX0_end (gC G) post N x0 x1) : Met l yX0_end (ws_ yX0_end cX0_end 2 (some .boolean)) ⟨1, 0, 0, 25⟩ (va_Pc [.ref x0, .int x1] (cPre G [] N sz)) (gQ vI post (fun u H => cBw G (cA [] N sz) (jW u).1 (jW u).2 H) (cA [] N sz)) 0 0 (cA [] N sz) := by
  refine c_ofW (lw := jW) (by decide) hO (Nat.le_of_ble_eq_true rfl) (fun p e s m below meth c ls A X hr hlk hin hw hl => ?_)
  have hl : lv_has ls 2 [(0, .ref x0), (1, .int x1)] := hl
  have hx := X.1.1
  have hb := X.1.2.1
  have hml := X.1.2.2.1
  have hown := X.1.2.2.2.1
  have hts := X.1.2.2.2.2
  obtain ⟨H, eH⟩ : ∃ z, z = s.heap := ⟨_, rfl⟩
  rw [← eH] at hw ⊢
  obtain ⟨locs, eLo⟩ : ∃ z : List Loc, z = [] := ⟨_, rfl⟩
  rw [← eLo] at hw ⊢
  unfold wX0_end at h
  refine lv_iload_n (pc := 0) hx hb dX0_end_0 rfl (lv_at hl 1 rfl) ?_
  refine lv_i2l (pc := 1) hx hb dX0_end_1 rfl ?_
  refine lv_lconst (pc := 2) (v := (0 : Int64)) hx hb dX0_end_2 (by decide) ?_
  refine lv_aload_n (pc := 3) hx hb dX0_end_3 rfl (lv_at hl 0 rfl) ?_
  obtain ⟨f2, f3, f4, f5, f6, f7, f8, f9, f10, f11, f12, f13, f14, f15, f16, f17, f18, f19, f20, hN1, h⟩ := h
  refine c_get (pc := 4) X hw hN1 in_X0 rfl 13 (by decide) q230 rfl rfl dX0_end_4 ?_
  refine lv_i2l (pc := 7) hx hb dX0_end_7 rfl ?_
  refine s_call (pc := 8) (val := vI) (As := [.long x1.toInt64, .long (0 : Int64), .long f15.toInt64]) (rest := []) X.1 (tX0_isIn h) (lw_S q380 q381 q102 q382) ⟨by decide, by decide, (by decide +kernel : (parseMethodDescriptor yX0_isIn.desc).map (fun d => d.parameters.length) = some 3)⟩ ⟨Nat.le_of_ble_eq_true rfl, Nat.le_of_ble_eq_true rfl⟩ hl.1 (Nat.le_of_ble_eq_true rfl) ⟨show 0 ≤ 0 by omega, show 0 ≤ 0 by omega⟩ dX0_end_8 rfl (fun r21 h => ?_)
  refine W.eq (g2 := F0 m 11 ls (.int r21 :: [])) rfl ?_
  refine lv_if_ne (pc := 11) (tgt := 16) hx hb dX0_end_11 rfl (fun c22 => ?_) (fun c22 => ?_)
  · have h := h.2 c22
    refine lv_aload_n (pc := 16) hx hb dX0_end_16 rfl (lv_at hl 0 rfl) ?_
    refine lv_iload_n (pc := 17) hx hb dX0_end_17 rfl (lv_at hl 1 rfl) ?_
    refine c_put (pc := 18) X hw hN1 in_X0 tyX0 tyX0_ok nmX0 rfl 13 (by decide) q230 rfl rfl rfl rfl rfl (Nat.le_of_ble_eq_true rfl) dX0_end_18 (fun H locs hw => ?_)
    obtain ⟨N23, e24⟩ : ∃ z, z = va_up N x0 (some (eO 1 [va_rf f2, va_rf f3, va_rf f4, va_rf f5, va_rf f6, va_rf f7, va_rf f8, va_rf f9, va_rf f10, .int f11, .int f12, va_rf f13, va_rf f14, .int x1, va_rf f16, va_rf f17, va_rf f18, va_rf f19, va_rf f20])) := ⟨_, rfl⟩
    have hw : cH G A s [] N23 H locs := by rw [e24]; exact hw
    have h := h N23 e24
    have hN25 : N23 x0 = some (eO 1 [va_rf f2, va_rf f3, va_rf f4, va_rf f5, va_rf f6, va_rf f7, va_rf f8, va_rf f9, va_rf f10, .int f11, .int f12, va_rf f13, va_rf f14, .int x1, va_rf f16, va_rf f17, va_rf f18, va_rf f19, va_rf f20]) := by rw [e24]; exact up_s
    refine lv_iconst (pc := 21) (v := (1 : Int32)) hx hb dX0_end_21 (by decide) ?_
    exact W.zret (pc := 22) hx hb hr rfl (fun t ht hW => c_ret (val := vI) (lw := jW) (u := N23) hw h ht) hw.2.2.2 dX0_end_22 hlk
  · have h := h.1 c22
    refine lv_iconst (pc := 14) (v := (0 : Int32)) hx hb dX0_end_14 (by decide) ?_
    exact W.zret (pc := 15) hx hb hr rfl (fun t ht hW => c_ret (val := vI) (lw := jW) (u := N) hw h ht) hw.2.2.2 dX0_end_15 hlk

def wX0_laysWays_72 (K : Nat → Nat → Nat) (K48 : Nat → Option Nat → Int32 → NM → Prop) (post : Unit → NM → Prop) : Nat → Nat → Option Nat → Int32 → Int32 → NM → Prop
  | 0, _, _, _, _, _ => False
  | n + 1, x0, x1, x2, x3, N => ∃ a128, x1 = some a128 ∧ (∃ f131, N a128 = some (eO 7 [va_rf f131]) ∧ (∃ a132, f131 = some a132 ∧ (∃ n135 f136, N a132 = some (eR 5 n135 f136) ∧ (vp_in x2 n135 ∧ (∃ a137, (f136 x2.toNatClampNeg) = some a137 ∧ (∃ f140 f141 f142 f143, N a137 = some (eO 6 [.int f140, .int f141, .int f142, va_rf f143]) ∧ (((f142 < x3) → (K48 x0 x1 (x2 + (-1 : Int32)) N)) ∧ (¬ (f142 < x3) → (∃ f146 f147 f148 f149 f150 f151 f152 f153 f154 f155 f156 f157 f158 f159 f160 f161 f162 f163 f164, N x0 = some (eO 1 [va_rf f146, va_rf f147, va_rf f148, va_rf f149, va_rf f150, va_rf f151, va_rf f152, va_rf f153, va_rf f154, .int f155, .int f156, va_rf f157, va_rf f158, .int f159, va_rf f160, va_rf f161, va_rf f162, va_rf f163, va_rf f164]) ∧ (∃ a165, f149 = some a165 ∧ (∃ n168 f169, N a165 = some (eR 6 n168 f169) ∧ (vp_in x2 n168 ∧ (vp_in (x2 + (1 : Int32)) n168 ∧ (vp_in x2 n135 ∧ (wX4_value K (fun r170 N171 => ∃ a172, (f169 x2.toNatClampNeg) = some a172 ∧ (∃ a174, (f169 (x2 + (1 : Int32)).toNatClampNeg) = some a174 ∧ (wX0_adds K (fun _ N177 => wX0_laysWays_72 K K48 post n x0 x1 x2 (x3 + (1 : Int32)) N177) N171 a172 a174 r170.toInt32))) N a137 x3.toInt64)))))))))))))))
def wX0_laysWays_48 (K : Nat → Nat → Nat) (post : Unit → NM → Prop) : Nat → Nat → Option Nat → Int32 → NM → Prop
  | 0, _, _, _, _ => False
  | n + 1, x0, x1, x2, N => ((x2 < (0 : Int32)) → (post () N)) ∧ (¬ (x2 < (0 : Int32)) → (∃ f84 f85 f86 f87 f88 f89 f90 f91 f92 f93 f94 f95 f96 f97 f98 f99 f100 f101 f102, N x0 = some (eO 1 [va_rf f84, va_rf f85, va_rf f86, va_rf f87, va_rf f88, va_rf f89, va_rf f90, va_rf f91, va_rf f92, .int f93, .int f94, va_rf f95, va_rf f96, .int f97, va_rf f98, va_rf f99, va_rf f100, va_rf f101, va_rf f102]) ∧ (∃ a103, f87 = some a103 ∧ (∃ n106 f107, N a103 = some (eR 6 n106 f107) ∧ (vp_in x2 n106 ∧ (∃ a108, (f107 x2.toNatClampNeg) = some a108 ∧ (wJ15_fill K (fun _ N111 => ∃ a112, x1 = some a112 ∧ (∃ f115, N111 a112 = some (eO 7 [va_rf f115]) ∧ (∃ a116, f115 = some a116 ∧ (∃ n119 f120, N111 a116 = some (eR 5 n119 f120) ∧ (vp_in x2 n119 ∧ (∃ a121, (f120 x2.toNatClampNeg) = some a121 ∧ (∃ f124 f125 f126 f127, N111 a121 = some (eO 6 [.int f124, .int f125, .int f126, va_rf f127]) ∧ ((∃ k, wX0_laysWays_72 K (fun x0 x1 x2 N => wX0_laysWays_48 K post n x0 x1 x2 N) post k x0 x1 x2 f125 N111))))))))) N a108 (0 : Int64))))))))
def wX0_laysWays (K : Nat → Nat → Nat) (post : Unit → NM → Prop) (N : NM) (x0 : Nat) (x1 : Option Nat) : Prop :=
  ∃ f2 f3 f4 f5 f6 f7 f8 f9 f10 f11 f12 f13 f14 f15 f16 f17 f18 f19 f20, N x0 = some (eO 1 [va_rf f2, va_rf f3, va_rf f4, va_rf f5, va_rf f6, va_rf f7, va_rf f8, va_rf f9, va_rf f10, .int f11, .int f12, va_rf f13, va_rf f14, .int f15, va_rf f16, va_rf f17, va_rf f18, va_rf f19, va_rf f20]) ∧ (((f7 = x1) → (post () N)) ∧ (¬ (f7 = x1) → (∀ N22, N22 = va_up N x0 (some (eO 1 [va_rf f2, va_rf f3, va_rf f4, va_rf f5, va_rf f6, va_rf x1, va_rf f8, va_rf f9, va_rf f10, .int f11, .int f12, va_rf f13, va_rf f14, .int f15, va_rf f16, va_rf f17, va_rf f18, va_rf f19, va_rf f20])) → (∃ a25, x1 = some a25 ∧ (∃ f30, N22 a25 = some (eO 7 [va_rf f30]) ∧ (wX6_many K (fun r27 N28 => ∃ a31, f5 = some a31 ∧ (∃ n34 f35, N28 a31 = some (eR 6 n34 f35) ∧ (vp_in r27 n34 ∧ (∃ a36, (f35 r27.toNatClampNeg) = some a36 ∧ (wJ15_fill K (fun _ N39 => ∃ f41 f42 f43 f44 f45 f46 f47 f48 f49 f50 f51 f52 f53 f54 f55 f56 f57 f58 f59, N39 x0 = some (eO 1 [va_rf f41, va_rf f42, va_rf f43, va_rf f44, va_rf f45, va_rf f46, va_rf f47, va_rf f48, va_rf f49, .int f50, .int f51, va_rf f52, va_rf f53, .int f54, va_rf f55, va_rf f56, va_rf f57, va_rf f58, va_rf f59]) ∧ (∃ f63, N39 a25 = some (eO 7 [va_rf f63]) ∧ (wX6_many K (fun r60 N61 => ∃ a64, f44 = some a64 ∧ (∃ n67 f68, N61 a64 = some (eR 6 n67 f68) ∧ (vp_in r60 n67 ∧ (∃ a69, (f68 r60.toNatClampNeg) = some a69 ∧ (∃ n72 f73, N61 a69 = some (eL 1 n72 f73) ∧ (vp_in (15000 : Int32) n72 ∧ (∀ N74, N74 = va_up N61 a69 (some (eL 1 n72 (vp_updL f73 (15000 : Int32).toNatClampNeg (1 : Int64)))) → (∃ f81, N74 a25 = some (eO 7 [va_rf f81]) ∧ (wX6_many K (fun r78 N79 => (∃ k, wX0_laysWays_48 K post k x0 x1 (r78 - (1 : Int32)) N79)) N74 a25))))))))) N39 a25))) N28 a36 (0 : Int64)))))) N22 a25))))))
theorem kX0_laysWays_72 {p : Program} {l : Launch} {e : Env} {s : State} {m : MethodId} {args : Array Value} {below : List Frame} {meth : Method} {c : Code} {G : gG} {A : Nat → Prop} {K48 : Nat → Option Nat → Int32 → NM → Prop} {post : Unit → NM → Prop} (X : cX G A RX0 p s m args c cX0_laysWays 4) (hr : meth.sig.returnType = none) (hlk : meth.locks = false) (hK48 : ∀ (x0 : Nat) (x1 : Option Nat) (x2 : Int32) (N : NM) (H : Heap) (locs : List Loc) (ls : Array Slot), K48 x0 x1 x2 N → cH G A s [] N H locs → lv_has ls 4 [(0, .ref x0), (1, va_rf x1), (2, .int x2)] → W p l e ⟨2, 0, 0, 52⟩ s m args below meth c H locs 0 0 (MQ below (gQ vV post (fun u H => cBw G A (jW u).1 (jW u).2 H) A) args s 0 0 A) (F0 m 48 ls [])) : ∀ (n : Nat) (x0 : Nat) (x1 : Option Nat) (x2 : Int32) (x3 : Int32) (N : NM) (H : Heap) (locs : List Loc) (ls : Array Slot), wX0_laysWays_72 (gC G) K48 post n x0 x1 x2 x3 N → cH G A s [] N H locs → lv_has ls 4 [(0, .ref x0), (1, va_rf x1), (2, .int x2), (3, .int x3)] → W p l e ⟨2, 0, 0, 52⟩ s m args below meth c H locs 0 0 (MQ below (gQ vV post (fun u H => cBw G A (jW u).1 (jW u).2 H) A) args s 0 0 A) (F0 m 72 ls []) := by
  have hx := X.1.1
  have hb := X.1.2.1
  have hml := X.1.2.2.1
  have hown := X.1.2.2.2.1
  have hts := X.1.2.2.2.2
  intro n
  induction n with
  | zero =>
    intro x0 x1 x2 x3 N H locs ls h
    exact False.elim h
  | succ n ih =>
    intro x0 x1 x2 x3 N H locs ls h hw hl
    unfold wX0_laysWays_72 at h
    refine lv_iload_n (pc := 72) hx hb dX0_laysWays_72 rfl (lv_at hl 3 rfl) ?_
    refine lq_aload_n (pc := 73) hx hb dX0_laysWays_73 rfl (lv_at hl 1 rfl) ?_
    obtain ⟨a128, hr129, h⟩ := h
    refine W.eq (g2 := F0 m 74 ls [.ref a128, .int x3]) (by rw [hr129]; rfl) ?_
    obtain ⟨f131, hN130, h⟩ := h
    refine c_getN (pc := 74) X hw hN130 in_X6 rfl 0 (by decide) q885 rfl rfl dX0_laysWays_74 ?_
    refine lv_iload_n (pc := 77) hx hb dX0_laysWays_77 rfl (lv_at hl 2 rfl) ?_
    obtain ⟨a132, hr133, h⟩ := h
    refine W.eq (g2 := F0 m 78 ls [.int x2, .ref a132, .int x3]) (by rw [hr133]; rfl) ?_
    obtain ⟨n135, f136, hN134, h⟩ := h
    obtain ⟨hi, h⟩ := h
    refine c_aald (pc := 78) X hw 5 hN134 rfl hi dX0_laysWays_78 ?_
    obtain ⟨a137, hr138, h⟩ := h
    refine W.eq (g2 := F0 m 79 ls [.ref a137, .int x3]) (by rw [hr138]; rfl) ?_
    obtain ⟨f140, f141, f142, f143, hN139, h⟩ := h
    refine c_getN (pc := 79) X hw hN139 in_X4 rfl 2 (by decide) q715 rfl rfl dX0_laysWays_79 ?_
    refine lv_icmp_gt (pc := 82) (tgt := 120) hx hb dX0_laysWays_82 rfl (fun c144 => ?_) (fun c144 => ?_)
    · have h := h.1 c144
      refine lv_iinc (pc := 120) (v := x2 + (-1 : Int32)) (lv' := [(2, .int (x2 + (-1 : Int32))), (0, .ref x0), (1, va_rf x1), (3, .int x3)]) hx hb dX0_laysWays_120 hl (k := 2) rfl rfl (by decide) (by simp [rf_c]) (fun ls hl => ?_)
      refine lv_goto (pc := 123) (tgt := 48) hx hb dX0_laysWays_123 rfl ?_
      exact hK48 _ _ _ _ _ _ _ h hw (lv_sub hl [1, 2, 0] rfl)
    · have h := h.2 c144
      refine lv_aload_n (pc := 85) hx hb dX0_laysWays_85 rfl (lv_at hl 0 rfl) ?_
      obtain ⟨f146, f147, f148, f149, f150, f151, f152, f153, f154, f155, f156, f157, f158, f159, f160, f161, f162, f163, f164, hN145, h⟩ := h
      refine c_get (pc := 86) X hw hN145 in_X0 rfl 3 (by decide) q214 rfl rfl dX0_laysWays_86 ?_
      refine lv_iload_n (pc := 89) hx hb dX0_laysWays_89 rfl (lv_at hl 2 rfl) ?_
      obtain ⟨a165, hr166, h⟩ := h
      refine W.eq (g2 := F0 m 90 ls [.int x2, .ref a165]) (by rw [hr166]; rfl) ?_
      obtain ⟨n168, f169, hN167, h⟩ := h
      obtain ⟨hi, h⟩ := h
      refine c_aaldT (pc := 90) X hw 6 hN167 rfl hi dX0_laysWays_90 ?_
      refine lv_aload_n (pc := 91) hx hb dX0_laysWays_91 rfl (lv_at hl 0 rfl) ?_
      refine c_get (pc := 92) X hw hN145 in_X0 rfl 3 (by decide) q214 rfl rfl dX0_laysWays_92 ?_
      refine lv_iload_n (pc := 95) hx hb dX0_laysWays_95 rfl (lv_at hl 2 rfl) ?_
      refine lv_iconst (pc := 96) (v := (1 : Int32)) hx hb dX0_laysWays_96 (by decide) ?_
      refine lv_iadd (pc := 97) hx hb dX0_laysWays_97 ?_
      refine W.eq (g2 := F0 m 98 ls [.int (x2 + (1 : Int32)), .ref a165, va_rf (f169 x2.toNatClampNeg)]) (by rw [hr166]; rfl) ?_
      obtain ⟨hi, h⟩ := h
      refine c_aaldT (pc := 98) X hw 6 hN167 rfl hi dX0_laysWays_98 ?_
      refine lq_aload_n (pc := 99) hx hb dX0_laysWays_99 rfl (lv_at hl 1 rfl) ?_
      refine W.eq (g2 := F0 m 100 ls [.ref a128, va_rf (f169 (x2 + (1 : Int32)).toNatClampNeg), va_rf (f169 x2.toNatClampNeg)]) (by rw [hr129]; rfl) ?_
      refine c_getN (pc := 100) X hw hN130 in_X6 rfl 0 (by decide) q885 rfl rfl dX0_laysWays_100 ?_
      refine lv_iload_n (pc := 103) hx hb dX0_laysWays_103 rfl (lv_at hl 2 rfl) ?_
      refine W.eq (g2 := F0 m 104 ls [.int x2, .ref a132, va_rf (f169 (x2 + (1 : Int32)).toNatClampNeg), va_rf (f169 x2.toNatClampNeg)]) (by rw [hr133]; rfl) ?_
      obtain ⟨hi, h⟩ := h
      refine c_aald (pc := 104) X hw 5 hN134 rfl hi dX0_laysWays_104 ?_
      refine lv_iload_n (pc := 105) hx hb dX0_laysWays_105 rfl (lv_at hl 3 rfl) ?_
      refine lv_i2l (pc := 106) hx hb dX0_laysWays_106 rfl ?_
      refine W.eq (g2 := F0 m 107 ls [.long x3.toInt64, .ref a137, va_rf (f169 (x2 + (1 : Int32)).toNatClampNeg), va_rf (f169 x2.toNatClampNeg)]) (by rw [hr138]; rfl) ?_
      refine c_callJ (pc := 107) (val := vL) X hw (va_runV (C := RX4) (As := [.long x3.toInt64]) (rest := [va_rf (f169 (x2 + (1 : Int32)).toNatClampNeg), va_rf (f169 x2.toNatClampNeg)]) X.1 (tX4_value X.2.2.1 (sz := H.size) h) (cwV 1 hts (lw_V q1383 q738 q739 q126 q740) rfl rfl rfl ⟨rfl, by decide, by decide, (by decide +kernel : (parseMethodDescriptor yX4_value.desc).map (fun d => d.parameters.length) = some 1)⟩ ⟨Nat.le_of_ble_eq_true rfl, Nat.le_of_ble_eq_true rfl⟩) ⟨cPre_blind, c_recv X hw hN139 rfl, fun U hU hW => ⟨rfl, X.preJ hw hU hW⟩⟩ rfl rfl hl.1 rfl (lv_room (rsum_le (Nat.le_of_ble_eq_true rfl))) dX0_laysWays_107 ⟨show 0 + 0 ≤ 0 by omega, show 0 + 0 ≤ 0 by omega⟩) (fun r170 N171 H locs h hw => ?_)
      refine W.eq (g2 := F0 m 110 ls (.long r170 :: [va_rf (f169 (x2 + (1 : Int32)).toNatClampNeg), va_rf (f169 x2.toNatClampNeg)])) rfl ?_
      refine lv_l2i (pc := 110) hx hb dX0_laysWays_110 rfl ?_
      obtain ⟨a172, hr173, h⟩ := h
      refine W.eq (g2 := F0 m 111 ls [.int r170.toInt32, va_rf (f169 (x2 + (1 : Int32)).toNatClampNeg), .ref a172]) (by rw [hr173]; rfl) ?_
      obtain ⟨a174, hr175, h⟩ := h
      refine W.eq (g2 := F0 m 111 ls [.int r170.toInt32, .ref a174, .ref a172]) (by rw [hr175]; rfl) ?_
      refine c_callJ (pc := 111) (val := vV) X hw (va_runS (g := F0 m 111 ls _) (As := [.ref a172, .ref a174, .int r170.toInt32]) (rest := []) X.1 (tX0_adds X.2.2.1 (sz := H.size) h) (va_cwS 3 hts (lw_S q1384 q1385 q102 q1386) rfl rfl rfl ⟨by decide, by decide, (by decide +kernel : (parseMethodDescriptor yX0_adds.desc).map (fun d => d.parameters.length) = some 3)⟩ ⟨Nat.le_of_ble_eq_true rfl, Nat.le_of_ble_eq_true rfl⟩) ⟨cPre_blind, fun U hU hW => ⟨rfl, X.preJ hw hU hW⟩⟩ rfl rfl hl.1 rfl (lv_room (Nat.le_of_ble_eq_true rfl)) dX0_laysWays_111 ⟨show 0 + 0 ≤ 0 by omega, show 0 + 0 ≤ 0 by omega⟩) (fun _ N177 H locs h hw => ?_)
      refine W.eq (g2 := F0 m 114 ls ([])) rfl ?_
      refine lv_iinc (pc := 114) (v := x3 + (1 : Int32)) (lv' := [(3, .int (x3 + (1 : Int32))), (0, .ref x0), (1, va_rf x1), (2, .int x2)]) hx hb dX0_laysWays_114 hl (k := 3) rfl rfl (by decide) rfl (fun ls hl => ?_)
      refine lv_goto (pc := 117) (tgt := 72) hx hb dX0_laysWays_117 rfl ?_
      exact ih _ _ _ _ _ _ _ _ h hw (lv_sub hl [1, 2, 3, 0] rfl)
theorem kX0_laysWays_48 {p : Program} {l : Launch} {e : Env} {s : State} {m : MethodId} {args : Array Value} {below : List Frame} {meth : Method} {c : Code} {G : gG} {A : Nat → Prop} {post : Unit → NM → Prop} (X : cX G A RX0 p s m args c cX0_laysWays 4) (hr : meth.sig.returnType = none) (hlk : meth.locks = false) : ∀ (n : Nat) (x0 : Nat) (x1 : Option Nat) (x2 : Int32) (N : NM) (H : Heap) (locs : List Loc) (ls : Array Slot), wX0_laysWays_48 (gC G) post n x0 x1 x2 N → cH G A s [] N H locs → lv_has ls 4 [(0, .ref x0), (1, va_rf x1), (2, .int x2)] → W p l e ⟨2, 0, 0, 52⟩ s m args below meth c H locs 0 0 (MQ below (gQ vV post (fun u H => cBw G A (jW u).1 (jW u).2 H) A) args s 0 0 A) (F0 m 48 ls []) := by
  have hx := X.1.1
  have hb := X.1.2.1
  have hml := X.1.2.2.1
  have hown := X.1.2.2.2.1
  have hts := X.1.2.2.2.2
  intro n
  induction n with
  | zero =>
    intro x0 x1 x2 N H locs ls h
    exact False.elim h
  | succ n ih =>
    intro x0 x1 x2 N H locs ls h hw hl
    unfold wX0_laysWays_48 at h
    refine lv_iload_n (pc := 48) hx hb dX0_laysWays_48 rfl (lv_at hl 2 rfl) ?_
    refine lv_if_lt (pc := 49) (tgt := 126) hx hb dX0_laysWays_49 rfl (fun c82 => ?_) (fun c82 => ?_)
    · have h := h.1 c82
      exact W.vret (pc := 126) hx hb hr (fun t ht hW => c_ret (val := vV) (lw := jW) (u := N) (v := ()) hw h ht) hw.2.2.2 dX0_laysWays_126 hlk
    · have h := h.2 c82
      refine lv_aload_n (pc := 52) hx hb dX0_laysWays_52 rfl (lv_at hl 0 rfl) ?_
      obtain ⟨f84, f85, f86, f87, f88, f89, f90, f91, f92, f93, f94, f95, f96, f97, f98, f99, f100, f101, f102, hN83, h⟩ := h
      refine c_get (pc := 53) X hw hN83 in_X0 rfl 3 (by decide) q214 rfl rfl dX0_laysWays_53 ?_
      refine lv_iload_n (pc := 56) hx hb dX0_laysWays_56 rfl (lv_at hl 2 rfl) ?_
      obtain ⟨a103, hr104, h⟩ := h
      refine W.eq (g2 := F0 m 57 ls [.int x2, .ref a103]) (by rw [hr104]; rfl) ?_
      obtain ⟨n106, f107, hN105, h⟩ := h
      obtain ⟨hi, h⟩ := h
      refine c_aaldT (pc := 57) X hw 6 hN105 rfl hi dX0_laysWays_57 ?_
      refine lv_lconst (pc := 58) (v := (0 : Int64)) hx hb dX0_laysWays_58 (by decide) ?_
      obtain ⟨a108, hr109, h⟩ := h
      refine W.eq (g2 := F0 m 59 ls [.long (0 : Int64), .ref a108]) (by rw [hr109]; rfl) ?_
      refine c_callJ (pc := 59) (val := vV) X hw (va_runS (g := F0 m 59 ls _) (As := [.ref a108, .long (0 : Int64)]) (rest := []) X.1 (tJ15_fill X.2.2.1 (sz := H.size) h) (va_cwS 2 hts (lw_S q1380 q1381 q122 q1382) rfl rfl rfl ⟨by decide, by decide, (by decide +kernel : (parseMethodDescriptor yJ15_fill.desc).map (fun d => d.parameters.length) = some 2)⟩ ⟨Nat.le_of_ble_eq_true rfl, Nat.le_of_ble_eq_true rfl⟩) ⟨cPre_blind, fun U hU hW => ⟨rfl, X.preJ hw hU hW⟩⟩ rfl rfl hl.1 rfl (lv_room (Nat.le_of_ble_eq_true rfl)) dX0_laysWays_59 ⟨show 0 + 0 ≤ 0 by omega, show 0 + 0 ≤ 0 by omega⟩) (fun _ N111 H locs h hw => ?_)
      refine W.eq (g2 := F0 m 62 ls ([])) rfl ?_
      refine lq_aload_n (pc := 62) hx hb dX0_laysWays_62 rfl (lv_at hl 1 rfl) ?_
      obtain ⟨a112, hr113, h⟩ := h
      refine W.eq (g2 := F0 m 63 ls [.ref a112]) (by rw [hr113]; rfl) ?_
      obtain ⟨f115, hN114, h⟩ := h
      refine c_getN (pc := 63) X hw hN114 in_X6 rfl 0 (by decide) q885 rfl rfl dX0_laysWays_63 ?_
      refine lv_iload_n (pc := 66) hx hb dX0_laysWays_66 rfl (lv_at hl 2 rfl) ?_
      obtain ⟨a116, hr117, h⟩ := h
      refine W.eq (g2 := F0 m 67 ls [.int x2, .ref a116]) (by rw [hr117]; rfl) ?_
      obtain ⟨n119, f120, hN118, h⟩ := h
      obtain ⟨hi, h⟩ := h
      refine c_aald (pc := 67) X hw 5 hN118 rfl hi dX0_laysWays_67 ?_
      obtain ⟨a121, hr122, h⟩ := h
      refine W.eq (g2 := F0 m 68 ls [.ref a121]) (by rw [hr122]; rfl) ?_
      obtain ⟨f124, f125, f126, f127, hN123, h⟩ := h
      refine c_getN (pc := 68) X hw hN123 in_X4 rfl 1 (by decide) q712 rfl rfl dX0_laysWays_68 ?_
      refine lv_istore_n (pc := 71) (lv' := [(3, .int f125), (0, .ref x0), (1, va_rf x1), (2, .int x2)]) hx hb dX0_laysWays_71 rfl hl (by decide) rfl (fun ls hl => ?_)
      obtain ⟨k, h⟩ := h
      exact kX0_laysWays_72 X hr hlk ih k _ _ _ _ _ _ _ _ h hw (lv_sub hl [1, 2, 3, 0] rfl)
theorem tX0_laysWays {l : Launch} {G : gG} (hO : gOk G) {post : Unit → NM → Prop} {N : NM} {x0 : Nat} {x1 : Option Nat} {sz : Nat} (h : wX0_laysWays (gC G) post N x0 x1) : Met l yX0_laysWays (ws_ yX0_laysWays cX0_laysWays 4 none) ⟨2, 0, 0, 52⟩ (va_Pc [.ref x0, va_rf x1] (cPre G [] N sz)) (gQ vV post (fun u H => cBw G (cA [] N sz) (jW u).1 (jW u).2 H) (cA [] N sz)) 0 0 (cA [] N sz) := by
  refine c_ofW (lw := jW) (by decide) hO (by cases x1 <;> exact Nat.le_of_ble_eq_true rfl) (fun p e s m below meth c ls A X hr hlk hin hw hl => ?_)
  have hl : lv_has ls 4 [(0, .ref x0), (1, va_rf x1)] := by cases x1 <;> exact hl
  have hx := X.1.1
  have hb := X.1.2.1
  have hml := X.1.2.2.1
  have hown := X.1.2.2.2.1
  have hts := X.1.2.2.2.2
  obtain ⟨H, eH⟩ : ∃ z, z = s.heap := ⟨_, rfl⟩
  rw [← eH] at hw ⊢
  obtain ⟨locs, eLo⟩ : ∃ z : List Loc, z = [] := ⟨_, rfl⟩
  rw [← eLo] at hw ⊢
  unfold wX0_laysWays at h
  refine lv_aload_n (pc := 0) hx hb dX0_laysWays_0 rfl (lv_at hl 0 rfl) ?_
  obtain ⟨f2, f3, f4, f5, f6, f7, f8, f9, f10, f11, f12, f13, f14, f15, f16, f17, f18, f19, f20, hN1, h⟩ := h
  refine c_get (pc := 1) X hw hN1 in_X0 rfl 5 (by decide) q216 rfl rfl dX0_laysWays_1 ?_
  refine lq_aload_n (pc := 4) hx hb dX0_laysWays_4 rfl (lv_at hl 1 rfl) ?_
  refine lv_acmp_ne (pc := 5) (tgt := 9) (rx := f7) (ry := x1) hx hb dX0_laysWays_5 rfl (fun c21 => ?_) (fun c21 => ?_)
  · have h := h.2 c21
    refine lv_aload_n (pc := 9) hx hb dX0_laysWays_9 rfl (lv_at hl 0 rfl) ?_
    refine lq_aload_n (pc := 10) hx hb dX0_laysWays_10 rfl (lv_at hl 1 rfl) ?_
    refine c_put (pc := 11) (v := va_rf x1) X hw hN1 in_X0 tyX0 tyX0_ok nmX0 rfl 5 (by decide) q216 rfl rfl rfl (rf_n x1 _) (rf_f x1 _) (Nat.le_of_ble_eq_true rfl) dX0_laysWays_11 (fun H locs hw => ?_)
    obtain ⟨N22, e23⟩ : ∃ z, z = va_up N x0 (some (eO 1 [va_rf f2, va_rf f3, va_rf f4, va_rf f5, va_rf f6, va_rf x1, va_rf f8, va_rf f9, va_rf f10, .int f11, .int f12, va_rf f13, va_rf f14, .int f15, va_rf f16, va_rf f17, va_rf f18, va_rf f19, va_rf f20])) := ⟨_, rfl⟩
    have hw : cH G A s [] N22 H locs := by rw [e23]; exact hw
    have h := h N22 e23
    have hN24 : N22 x0 = some (eO 1 [va_rf f2, va_rf f3, va_rf f4, va_rf f5, va_rf f6, va_rf x1, va_rf f8, va_rf f9, va_rf f10, .int f11, .int f12, va_rf f13, va_rf f14, .int f15, va_rf f16, va_rf f17, va_rf f18, va_rf f19, va_rf f20]) := by rw [e23]; exact up_s
    refine lv_aload_n (pc := 14) hx hb dX0_laysWays_14 rfl (lv_at hl 0 rfl) ?_
    refine c_get (pc := 15) X hw hN24 in_X0 rfl 3 (by decide) q214 rfl rfl dX0_laysWays_15 ?_
    refine lq_aload_n (pc := 18) hx hb dX0_laysWays_18 rfl (lv_at hl 1 rfl) ?_
    obtain ⟨a25, hr26, h⟩ := h
    refine W.eq (g2 := F0 m 19 ls [.ref a25, va_rf f5]) (by rw [hr26]; rfl) ?_
    obtain ⟨f30, hN29, h⟩ := h
    refine c_callJ (pc := 19) (val := vI) X hw (va_runV (C := RX6) (As := []) (rest := [va_rf f5]) X.1 (tX6_many X.2.2.1 (sz := H.size) h) (cwV 0 hts (lw_V q890 q891 q892 q129 q893) rfl rfl rfl ⟨rfl, by decide, by decide, (by decide +kernel : (parseMethodDescriptor yX6_many.desc).map (fun d => d.parameters.length) = some 0)⟩ ⟨Nat.le_of_ble_eq_true rfl, Nat.le_of_ble_eq_true rfl⟩) ⟨cPre_blind, c_recv X hw hN29 rfl, fun U hU hW => ⟨rfl, X.preJ hw hU hW⟩⟩ rfl rfl hl.1 rfl (lv_room (rsum_le (Nat.le_of_ble_eq_true rfl))) dX0_laysWays_19 ⟨show 0 + 0 ≤ 0 by omega, show 0 + 0 ≤ 0 by omega⟩) (fun r27 N28 H locs h hw => ?_)
    refine W.eq (g2 := F0 m 22 ls (.int r27 :: [va_rf f5])) rfl ?_
    obtain ⟨a31, hr32, h⟩ := h
    refine W.eq (g2 := F0 m 22 ls [.int r27, .ref a31]) (by rw [hr32]; rfl) ?_
    obtain ⟨n34, f35, hN33, h⟩ := h
    obtain ⟨hi, h⟩ := h
    refine c_aaldT (pc := 22) X hw 6 hN33 rfl hi dX0_laysWays_22 ?_
    refine lv_lconst (pc := 23) (v := (0 : Int64)) hx hb dX0_laysWays_23 (by decide) ?_
    obtain ⟨a36, hr37, h⟩ := h
    refine W.eq (g2 := F0 m 24 ls [.long (0 : Int64), .ref a36]) (by rw [hr37]; rfl) ?_
    refine c_callJ (pc := 24) (val := vV) X hw (va_runS (g := F0 m 24 ls _) (As := [.ref a36, .long (0 : Int64)]) (rest := []) X.1 (tJ15_fill X.2.2.1 (sz := H.size) h) (va_cwS 2 hts (lw_S q1380 q1381 q122 q1382) rfl rfl rfl ⟨by decide, by decide, (by decide +kernel : (parseMethodDescriptor yJ15_fill.desc).map (fun d => d.parameters.length) = some 2)⟩ ⟨Nat.le_of_ble_eq_true rfl, Nat.le_of_ble_eq_true rfl⟩) ⟨cPre_blind, fun U hU hW => ⟨rfl, X.preJ hw hU hW⟩⟩ rfl rfl hl.1 rfl (lv_room (Nat.le_of_ble_eq_true rfl)) dX0_laysWays_24 ⟨show 0 + 0 ≤ 0 by omega, show 0 + 0 ≤ 0 by omega⟩) (fun _ N39 H locs h hw => ?_)
    refine W.eq (g2 := F0 m 27 ls ([])) rfl ?_
    refine lv_aload_n (pc := 27) hx hb dX0_laysWays_27 rfl (lv_at hl 0 rfl) ?_
    obtain ⟨f41, f42, f43, f44, f45, f46, f47, f48, f49, f50, f51, f52, f53, f54, f55, f56, f57, f58, f59, hN40, h⟩ := h
    refine c_get (pc := 28) X hw hN40 in_X0 rfl 3 (by decide) q214 rfl rfl dX0_laysWays_28 ?_
    refine lq_aload_n (pc := 31) hx hb dX0_laysWays_31 rfl (lv_at hl 1 rfl) ?_
    refine W.eq (g2 := F0 m 32 ls [.ref a25, va_rf f44]) (by rw [hr26]; rfl) ?_
    obtain ⟨f63, hN62, h⟩ := h
    refine c_callJ (pc := 32) (val := vI) X hw (va_runV (C := RX6) (As := []) (rest := [va_rf f44]) X.1 (tX6_many X.2.2.1 (sz := H.size) h) (cwV 0 hts (lw_V q890 q891 q892 q129 q893) rfl rfl rfl ⟨rfl, by decide, by decide, (by decide +kernel : (parseMethodDescriptor yX6_many.desc).map (fun d => d.parameters.length) = some 0)⟩ ⟨Nat.le_of_ble_eq_true rfl, Nat.le_of_ble_eq_true rfl⟩) ⟨cPre_blind, c_recv X hw hN62 rfl, fun U hU hW => ⟨rfl, X.preJ hw hU hW⟩⟩ rfl rfl hl.1 rfl (lv_room (rsum_le (Nat.le_of_ble_eq_true rfl))) dX0_laysWays_32 ⟨show 0 + 0 ≤ 0 by omega, show 0 + 0 ≤ 0 by omega⟩) (fun r60 N61 H locs h hw => ?_)
    refine W.eq (g2 := F0 m 35 ls (.int r60 :: [va_rf f44])) rfl ?_
    obtain ⟨a64, hr65, h⟩ := h
    refine W.eq (g2 := F0 m 35 ls [.int r60, .ref a64]) (by rw [hr65]; rfl) ?_
    obtain ⟨n67, f68, hN66, h⟩ := h
    obtain ⟨hi, h⟩ := h
    refine c_aaldT (pc := 35) X hw 6 hN66 rfl hi dX0_laysWays_35 ?_
    refine lv_sipush (pc := 36) (v := (15000 : Int32)) hx hb dX0_laysWays_36 (by decide) ?_
    refine lv_lconst (pc := 39) (v := (1 : Int64)) hx hb dX0_laysWays_39 (by decide) ?_
    obtain ⟨a69, hr70, h⟩ := h
    refine W.eq (g2 := F0 m 40 ls [.long (1 : Int64), .int (15000 : Int32), .ref a69]) (by rw [hr70]; rfl) ?_
    obtain ⟨n72, f73, hN71, h⟩ := h
    obtain ⟨hi, h⟩ := h
    refine c_last (pc := 40) X hw hN71 hi dX0_laysWays_40 (fun H locs hw => ?_)
    obtain ⟨N74, e75⟩ : ∃ z, z = va_up N61 a69 (some (eL 1 n72 (vp_updL f73 (15000 : Int32).toNatClampNeg (1 : Int64)))) := ⟨_, rfl⟩
    have hw : cH G A s [] N74 H locs := by rw [e75]; exact hw
    have h := h N74 e75
    have hN76 : N74 a69 = some (eL 1 n72 (vp_updL f73 (15000 : Int32).toNatClampNeg (1 : Int64))) := by rw [e75]; exact up_s
    have hN77 := up_k (x := some (eL 1 n72 (vp_updL f73 (15000 : Int32).toNatClampNeg (1 : Int64)))) hN71 hN66 (show (3 : Nat) ≠ 13 by decide)
    rw [← e75] at hN77
    refine lq_aload_n (pc := 41) hx hb dX0_laysWays_41 rfl (lv_at hl 1 rfl) ?_
    refine W.eq (g2 := F0 m 42 ls [.ref a25]) (by rw [hr26]; rfl) ?_
    obtain ⟨f81, hN80, h⟩ := h
    refine c_callJ (pc := 42) (val := vI) X hw (va_runV (C := RX6) (As := []) (rest := []) X.1 (tX6_many X.2.2.1 (sz := H.size) h) (cwV 0 hts (lw_V q890 q891 q892 q129 q893) rfl rfl rfl ⟨rfl, by decide, by decide, (by decide +kernel : (parseMethodDescriptor yX6_many.desc).map (fun d => d.parameters.length) = some 0)⟩ ⟨Nat.le_of_ble_eq_true rfl, Nat.le_of_ble_eq_true rfl⟩) ⟨cPre_blind, c_recv X hw hN80 rfl, fun U hU hW => ⟨rfl, X.preJ hw hU hW⟩⟩ rfl rfl hl.1 rfl (lv_room (Nat.le_of_ble_eq_true rfl)) dX0_laysWays_42 ⟨show 0 + 0 ≤ 0 by omega, show 0 + 0 ≤ 0 by omega⟩) (fun r78 N79 H locs h hw => ?_)
    refine W.eq (g2 := F0 m 45 ls (.int r78 :: [])) rfl ?_
    refine lv_iconst (pc := 45) (v := (1 : Int32)) hx hb dX0_laysWays_45 (by decide) ?_
    refine lv_isub (pc := 46) hx hb dX0_laysWays_46 ?_
    refine lv_istore_n (pc := 47) (i := 2) (lv' := [(2, .int (r78 - (1 : Int32))), (0, .ref x0), (1, va_rf x1)]) hx hb dX0_laysWays_47 rfl hl (by decide) (by simp [rf_c]) (fun ls hl => ?_)
    obtain ⟨k, h⟩ := h
    exact kX0_laysWays_48 X hr hlk  k _ _ _ _ _ _ _ h hw (lv_sub hl [1, 2, 0] rfl)
  · have h := h.1 c21
    exact W.vret (pc := 8) hx hb hr (fun t ht hW => c_ret (val := vV) (lw := jW) (u := N) (v := ()) hw h ht) hw.2.2.2 dX0_laysWays_8 hlk

def wX0_plain (K : Nat → Nat → Nat) (post : Option Nat → NM → Prop) (MC MS : Nat) (N : NM) (x0 : Int64) : Prop :=
  1 ≤ MC ∧ 1 ≤ MS ∧ (∀ nq3, N nq3 = none → (∀ N5, N5 = va_up N nq3 (some (eO 8 [.long (0 : Int64)])) → (wX11_init K (fun _ N9 => post (some nq3) N9) N5 nq3 x0)))
theorem tX0_plain {l : Launch} {G : gG} (hO : gOk G) {post : Option Nat → NM → Prop} {MC MS : Nat} {N : NM} {x0 : Int64} {sz : Nat} (h : wX0_plain (gC G) post MC MS N x0) : Met l yX0_plain (ws_ yX0_plain cX0_plain 2 (some (.object "ToldPowers$Sum"))) ⟨3, MC, MS, 62⟩ (va_Pc [.long x0] (cPre G [] N sz)) (gQ vQ post (fun u H => cBw G (cA [] N sz) (jW u).1 (jW u).2 H) (cA [] N sz)) MC MS (cA [] N sz) := by
  refine c_ofW (lw := jW) (by decide) hO (Nat.le_of_ble_eq_true rfl) (fun p e s m below meth c ls A X hr hlk hin hw hl => ?_)
  have hl : lv_has ls 2 [(0, .long x0)] := hl
  have hx := X.1.1
  have hb := X.1.2.1
  have hml := X.1.2.2.1
  have hown := X.1.2.2.2.1
  have hts := X.1.2.2.2.2
  obtain ⟨H, eH⟩ : ∃ z, z = s.heap := ⟨_, rfl⟩
  rw [← eH] at hw ⊢
  obtain ⟨locs, eLo⟩ : ∃ z : List Loc, z = [] := ⟨_, rfl⟩
  rw [← eLo] at hw ⊢
  have hbud : 0 + MC ≤ MC ∧ 0 + MS ≤ MS := by omega
  unfold wX0_plain at h
  obtain ⟨hm1, hm2, h⟩ := h
  refine c_new (pc := 0) (ci := 8) (fs := [.long (0 : Int64)]) X hw in_X11 tyX11 tyX11_ok q1469 q1470 q144 rfl nf_X11 (show 0 + 1 ≤ MC by omega) (show 0 + 1 ≤ MS by omega) dX0_plain_0 (fun nq3 H hq4 _ hw => ?_)
  have h := h nq3 hq4
  obtain ⟨N5, e6⟩ : ∃ z, z = va_up N nq3 (some (eO 8 [.long (0 : Int64)])) := ⟨_, rfl⟩
  have hw : cH G A s [] N5 H locs := by rw [e6]; exact hw
  have h := h N5 e6
  have hN7 : N5 nq3 = some (eO 8 [.long (0 : Int64)]) := by rw [e6]; exact up_s
  refine lv_dup (pc := 3) hx hb dX0_plain_3 rfl ?_
  refine lv_lload_n (pc := 4) hx hb dX0_plain_4 rfl (lv_at hl 0 rfl) ?_
  refine c_callJ (pc := 5) (val := vV) X hw (va_runI (As := [.long x0]) (rest := [.ref nq3]) X.1 (tX11_init X.2.2.1 (sz := H.size) h) (cwI 1 hts (lw_meth q1473) rfl rfl rfl (hts _ q144) (hts _ q1471) (hts _ q1472) rfl ⟨by decide, by decide, (by decide +kernel : (parseMethodDescriptor yX11_init.desc).map (fun d => d.parameters.length) = some 1)⟩ ⟨Nat.le_of_ble_eq_true rfl, Nat.le_of_ble_eq_true rfl⟩) ⟨cPre_blind, fun U hU hW => ⟨rfl, X.preJ hw hU hW⟩⟩ rfl rfl hl.1 rfl (lv_room (Nat.le_of_ble_eq_true rfl)) dX0_plain_5 ⟨show 0 + 1 + 0 ≤ MC by omega, show 0 + 1 + 0 ≤ MS by omega⟩) (fun _ N9 H locs h hw => ?_)
  refine W.eq (g2 := F0 m 8 ls ([.ref nq3])) rfl ?_
  refine W.widen (k := MC) (n := MS) (by omega) (by omega) ?_
  exact W.aret (pc := 8) (v := va_rf (some nq3)) hx hb hr (Or.inl ⟨_, rfl⟩) (va_rf_or _) (fun t ht hW => c_ret (val := vQ) (lw := jW) (u := N9) hw h ht) hw.2.2.2 dX0_plain_8 hlk

def wX0_letter (K : Nat → Nat → Nat) (post : Option Nat → NM → Prop) (MC MS : Nat) (N : NM) (x0 : Int32) : Prop :=
  1 ≤ MC ∧ 1 ≤ MS ∧ (∀ nq3, N nq3 = none → (∀ N5, N5 = va_up N nq3 (some (eO 9 [.int (0 : Int32)])) → (wX12_init K (fun _ N9 => post (some nq3) N9) N5 nq3 x0)))
theorem tX0_letter {l : Launch} {G : gG} (hO : gOk G) {post : Option Nat → NM → Prop} {MC MS : Nat} {N : NM} {x0 : Int32} {sz : Nat} (h : wX0_letter (gC G) post MC MS N x0) : Met l yX0_letter (ws_ yX0_letter cX0_letter 1 (some (.object "ToldPowers$Sum"))) ⟨3, MC, MS, 61⟩ (va_Pc [.int x0] (cPre G [] N sz)) (gQ vQ post (fun u H => cBw G (cA [] N sz) (jW u).1 (jW u).2 H) (cA [] N sz)) MC MS (cA [] N sz) := by
  refine c_ofW (lw := jW) (by decide) hO (Nat.le_of_ble_eq_true rfl) (fun p e s m below meth c ls A X hr hlk hin hw hl => ?_)
  have hl : lv_has ls 1 [(0, .int x0)] := hl
  have hx := X.1.1
  have hb := X.1.2.1
  have hml := X.1.2.2.1
  have hown := X.1.2.2.2.1
  have hts := X.1.2.2.2.2
  obtain ⟨H, eH⟩ : ∃ z, z = s.heap := ⟨_, rfl⟩
  rw [← eH] at hw ⊢
  obtain ⟨locs, eLo⟩ : ∃ z : List Loc, z = [] := ⟨_, rfl⟩
  rw [← eLo] at hw ⊢
  have hbud : 0 + MC ≤ MC ∧ 0 + MS ≤ MS := by omega
  unfold wX0_letter at h
  obtain ⟨hm1, hm2, h⟩ := h
  refine c_new (pc := 0) (ci := 9) (fs := [.int (0 : Int32)]) X hw in_X12 tyX12 tyX12_ok q1485 q1486 q145 rfl nf_X12 (show 0 + 1 ≤ MC by omega) (show 0 + 1 ≤ MS by omega) dX0_letter_0 (fun nq3 H hq4 _ hw => ?_)
  have h := h nq3 hq4
  obtain ⟨N5, e6⟩ : ∃ z, z = va_up N nq3 (some (eO 9 [.int (0 : Int32)])) := ⟨_, rfl⟩
  have hw : cH G A s [] N5 H locs := by rw [e6]; exact hw
  have h := h N5 e6
  have hN7 : N5 nq3 = some (eO 9 [.int (0 : Int32)]) := by rw [e6]; exact up_s
  refine lv_dup (pc := 3) hx hb dX0_letter_3 rfl ?_
  refine lv_iload_n (pc := 4) hx hb dX0_letter_4 rfl (lv_at hl 0 rfl) ?_
  refine c_callJ (pc := 5) (val := vV) X hw (va_runI (As := [.int x0]) (rest := [.ref nq3]) X.1 (tX12_init X.2.2.1 (sz := H.size) h) (cwI 1 hts (lw_meth q1489) rfl rfl rfl (hts _ q145) (hts _ q1487) (hts _ q1488) rfl ⟨by decide, by decide, (by decide +kernel : (parseMethodDescriptor yX12_init.desc).map (fun d => d.parameters.length) = some 1)⟩ ⟨Nat.le_of_ble_eq_true rfl, Nat.le_of_ble_eq_true rfl⟩) ⟨cPre_blind, fun U hU hW => ⟨rfl, X.preJ hw hU hW⟩⟩ rfl rfl hl.1 rfl (lv_room (Nat.le_of_ble_eq_true rfl)) dX0_letter_5 ⟨show 0 + 1 + 0 ≤ MC by omega, show 0 + 1 + 0 ≤ MS by omega⟩) (fun _ N9 H locs h hw => ?_)
  refine W.eq (g2 := F0 m 8 ls ([.ref nq3])) rfl ?_
  refine W.widen (k := MC) (n := MS) (by omega) (by omega) ?_
  exact W.aret (pc := 8) (v := va_rf (some nq3)) hx hb hr (Or.inl ⟨_, rfl⟩) (va_rf_or _) (fun t ht hW => c_ret (val := vQ) (lw := jW) (u := N9) hw h ht) hw.2.2.2 dX0_letter_8 hlk

def wX0_power (K : Nat → Nat → Nat) (post : Option Nat → NM → Prop) (MC MS : Nat) (N : NM) (x0 : Option Nat) (x1 : Int32) : Prop :=
  1 ≤ MC ∧ 2 ≤ MS ∧ (∀ nq3, N nq3 = none → (∀ N5, N5 = va_up N nq3 (some (eO 11 [va_rf none, .int (0 : Int32)])) → (wX13_init K (fun _ N9 => post (some nq3) N9) N5 nq3 x0 x1)))
theorem tX0_power {l : Launch} {G : gG} (hO : gOk G) {post : Option Nat → NM → Prop} {MC MS : Nat} {N : NM} {x0 : Option Nat} {x1 : Int32} {sz : Nat} (h : wX0_power (gC G) post MC MS N x0 x1) : Met l yX0_power (ws_ yX0_power cX0_power 2 (some (.object "ToldPowers$Sum"))) ⟨3, MC, MS, 62⟩ (va_Pc [va_rf x0, .int x1] (cPre G [] N sz)) (gQ vQ post (fun u H => cBw G (cA [] N sz) (jW u).1 (jW u).2 H) (cA [] N sz)) MC MS (cA [] N sz) := by
  refine c_ofW (lw := jW) (by decide) hO (by cases x0 <;> exact Nat.le_of_ble_eq_true rfl) (fun p e s m below meth c ls A X hr hlk hin hw hl => ?_)
  have hl : lv_has ls 2 [(0, va_rf x0), (1, .int x1)] := by cases x0 <;> exact hl
  have hx := X.1.1
  have hb := X.1.2.1
  have hml := X.1.2.2.1
  have hown := X.1.2.2.2.1
  have hts := X.1.2.2.2.2
  obtain ⟨H, eH⟩ : ∃ z, z = s.heap := ⟨_, rfl⟩
  rw [← eH] at hw ⊢
  obtain ⟨locs, eLo⟩ : ∃ z : List Loc, z = [] := ⟨_, rfl⟩
  rw [← eLo] at hw ⊢
  have hbud : 0 + MC ≤ MC ∧ 0 + MS ≤ MS := by omega
  unfold wX0_power at h
  obtain ⟨hm1, hm2, h⟩ := h
  refine c_new (pc := 0) (ci := 11) (fs := [va_rf none, .int (0 : Int32)]) X hw in_X13 tyX13 tyX13_ok q1498 q1499 q146 rfl nf_X13 (show 0 + 1 ≤ MC by omega) (show 0 + 2 ≤ MS by omega) dX0_power_0 (fun nq3 H hq4 _ hw => ?_)
  have h := h nq3 hq4
  obtain ⟨N5, e6⟩ : ∃ z, z = va_up N nq3 (some (eO 11 [va_rf none, .int (0 : Int32)])) := ⟨_, rfl⟩
  have hw : cH G A s [] N5 H locs := by rw [e6]; exact hw
  have h := h N5 e6
  have hN7 : N5 nq3 = some (eO 11 [va_rf none, .int (0 : Int32)]) := by rw [e6]; exact up_s
  refine lv_dup (pc := 3) hx hb dX0_power_3 rfl ?_
  refine lq_aload_n (pc := 4) hx hb dX0_power_4 rfl (lv_at hl 0 rfl) ?_
  refine lv_iload_n (pc := 5) hx hb dX0_power_5 rfl (lv_at hl 1 rfl) ?_
  refine c_callJ (pc := 6) (val := vV) X hw (va_runI (As := [va_rf x0, .int x1]) (rest := [.ref nq3]) X.1 (tX13_init X.2.2.1 (sz := H.size) h) (cwI 2 hts (lw_meth q1502) rfl rfl rfl (hts _ q146) (hts _ q1500) (hts _ q1501) rfl ⟨by decide, by decide, (by decide +kernel : (parseMethodDescriptor yX13_init.desc).map (fun d => d.parameters.length) = some 2)⟩ ⟨Nat.le_of_ble_eq_true rfl, Nat.le_of_ble_eq_true rfl⟩) ⟨cPre_blind, fun U hU hW => ⟨rfl, X.preJ hw hU hW⟩⟩ rfl rfl hl.1 rfl (lv_room (Nat.le_of_ble_eq_true rfl)) dX0_power_6 ⟨show 0 + 1 + 0 ≤ MC by omega, show 0 + 2 + 0 ≤ MS by omega⟩) (fun _ N9 H locs h hw => ?_)
  refine W.eq (g2 := F0 m 9 ls ([.ref nq3])) rfl ?_
  refine W.widen (k := MC) (n := MS) (by omega) (by omega) ?_
  exact W.aret (pc := 9) (v := va_rf (some nq3)) hx hb hr (Or.inl ⟨_, rfl⟩) (va_rf_or _) (fun t ht hW => c_ret (val := vQ) (lw := jW) (u := N9) hw h ht) hw.2.2.2 dX0_power_9 hlk

def wX0_both (K : Nat → Nat → Nat) (post : Option Nat → NM → Prop) (MC MS : Nat) (N : NM) (x0 : Int32) (x1 : Option Nat) (x2 : Option Nat) : Prop :=
  1 ≤ MC ∧ 3 ≤ MS ∧ (∀ nq3, N nq3 = none → (∀ N5, N5 = va_up N nq3 (some (eO 10 [va_rf none, va_rf none, .int (0 : Int32)])) → (wX14_init K (fun _ N9 => post (some nq3) N9) N5 nq3 x1 x2 x0)))
theorem tX0_both {l : Launch} {G : gG} (hO : gOk G) {post : Option Nat → NM → Prop} {MC MS : Nat} {N : NM} {x0 : Int32} {x1 : Option Nat} {x2 : Option Nat} {sz : Nat} (h : wX0_both (gC G) post MC MS N x0 x1 x2) : Met l yX0_both (ws_ yX0_both cX0_both 3 (some (.object "ToldPowers$Sum"))) ⟨3, MC, MS, 63⟩ (va_Pc [.int x0, va_rf x1, va_rf x2] (cPre G [] N sz)) (gQ vQ post (fun u H => cBw G (cA [] N sz) (jW u).1 (jW u).2 H) (cA [] N sz)) MC MS (cA [] N sz) := by
  refine c_ofW (lw := jW) (by decide) hO (by cases x1 <;> cases x2 <;> exact Nat.le_of_ble_eq_true rfl) (fun p e s m below meth c ls A X hr hlk hin hw hl => ?_)
  have hl : lv_has ls 3 [(0, .int x0), (1, va_rf x1), (2, va_rf x2)] := by cases x1 <;> cases x2 <;> exact hl
  have hx := X.1.1
  have hb := X.1.2.1
  have hml := X.1.2.2.1
  have hown := X.1.2.2.2.1
  have hts := X.1.2.2.2.2
  obtain ⟨H, eH⟩ : ∃ z, z = s.heap := ⟨_, rfl⟩
  rw [← eH] at hw ⊢
  obtain ⟨locs, eLo⟩ : ∃ z : List Loc, z = [] := ⟨_, rfl⟩
  rw [← eLo] at hw ⊢
  have hbud : 0 + MC ≤ MC ∧ 0 + MS ≤ MS := by omega
  unfold wX0_both at h
  obtain ⟨hm1, hm2, h⟩ := h
  refine c_new (pc := 0) (ci := 10) (fs := [va_rf none, va_rf none, .int (0 : Int32)]) X hw in_X14 tyX14 tyX14_ok q1514 q1515 q147 rfl nf_X14 (show 0 + 1 ≤ MC by omega) (show 0 + 3 ≤ MS by omega) dX0_both_0 (fun nq3 H hq4 _ hw => ?_)
  have h := h nq3 hq4
  obtain ⟨N5, e6⟩ : ∃ z, z = va_up N nq3 (some (eO 10 [va_rf none, va_rf none, .int (0 : Int32)])) := ⟨_, rfl⟩
  have hw : cH G A s [] N5 H locs := by rw [e6]; exact hw
  have h := h N5 e6
  have hN7 : N5 nq3 = some (eO 10 [va_rf none, va_rf none, .int (0 : Int32)]) := by rw [e6]; exact up_s
  refine lv_dup (pc := 3) hx hb dX0_both_3 rfl ?_
  refine lq_aload_n (pc := 4) hx hb dX0_both_4 rfl (lv_at hl 1 rfl) ?_
  refine lq_aload_n (pc := 5) hx hb dX0_both_5 rfl (lv_at hl 2 rfl) ?_
  refine lv_iload_n (pc := 6) hx hb dX0_both_6 rfl (lv_at hl 0 rfl) ?_
  refine c_callJ (pc := 7) (val := vV) X hw (va_runI (As := [va_rf x1, va_rf x2, .int x0]) (rest := [.ref nq3]) X.1 (tX14_init X.2.2.1 (sz := H.size) h) (cwI 3 hts (lw_meth q1518) rfl rfl rfl (hts _ q147) (hts _ q1516) (hts _ q1517) rfl ⟨by decide, by decide, (by decide +kernel : (parseMethodDescriptor yX14_init.desc).map (fun d => d.parameters.length) = some 3)⟩ ⟨Nat.le_of_ble_eq_true rfl, Nat.le_of_ble_eq_true rfl⟩) ⟨cPre_blind, fun U hU hW => ⟨rfl, X.preJ hw hU hW⟩⟩ rfl rfl hl.1 rfl (lv_room (Nat.le_of_ble_eq_true rfl)) dX0_both_7 ⟨show 0 + 1 + 0 ≤ MC by omega, show 0 + 3 + 0 ≤ MS by omega⟩) (fun _ N9 H locs h hw => ?_)
  refine W.eq (g2 := F0 m 10 ls ([.ref nq3])) rfl ?_
  refine W.widen (k := MC) (n := MS) (by omega) (by omega) ?_
  exact W.aret (pc := 10) (v := va_rf (some nq3)) hx hb hr (Or.inl ⟨_, rfl⟩) (va_rf_or _) (fun t ht hW => c_ret (val := vQ) (lw := jW) (u := N9) hw h ht) hw.2.2.2 dX0_both_10 hlk

def wX0_laysUnlike_222 (K : Nat → Nat → Nat) (K28 : Nat → Option Nat → Int32 → NM → Prop) (post : Unit → NM → Prop) (x0 : Nat) (x1 : Option Nat) (x2 : Int32) (N : NM) : Prop :=
  K28 x0 x1 (x2 + (1 : Int32)) N
def wX0_laysUnlike_152 (K : Nat → Nat → Nat) (K28 : Nat → Option Nat → Int32 → NM → Prop) (K135 : Nat → Option Nat → Int32 → Int32 → Int32 → NM → Prop) (post : Unit → NM → Prop) : Nat → Nat → Option Nat → Int32 → Int32 → Int32 → Int32 → NM → Prop
  | 0, _, _, _, _, _, _, _ => False
  | n + 1, x0, x1, x2, x3, x4, x5, N => ((x3 < x5) → (K135 x0 x1 x2 x3 (x4 + (1 : Int32)) N)) ∧ (¬ (x3 < x5) → (∃ f174 f175 f176 f177 f178 f179 f180 f181 f182 f183 f184 f185 f186 f187 f188 f189 f190 f191 f192, N x0 = some (eO 1 [va_rf f174, va_rf f175, va_rf f176, va_rf f177, va_rf f178, va_rf f179, va_rf f180, va_rf f181, va_rf f182, .int f183, .int f184, va_rf f185, va_rf f186, .int f187, va_rf f188, va_rf f189, va_rf f190, va_rf f191, va_rf f192]) ∧ (∃ a193, f178 = some a193 ∧ (∃ n196 f197, N a193 = some (eR 6 n196 f197) ∧ (vp_in x5 n196 ∧ (vp_in (x5 - (1 : Int32)) n196 ∧ (∃ a198, x1 = some a198 ∧ (∃ f201, N a198 = some (eO 7 [va_rf f201]) ∧ (∃ a202, f201 = some a202 ∧ (∃ n205 f206, N a202 = some (eR 5 n205 f206) ∧ (vp_in x2 n205 ∧ (∃ a207, (f206 x2.toNatClampNeg) = some a207 ∧ (∃ f212 f213 f214 f215, N a207 = some (eO 6 [.int f212, .int f213, .int f214, va_rf f215]) ∧ (wX4_value K (fun r209 N210 => ∃ a216, (f197 x5.toNatClampNeg) = some a216 ∧ (∃ a218, (f197 (x5 - (1 : Int32)).toNatClampNeg) = some a218 ∧ (wX0_adds K (fun _ N221 => wX0_laysUnlike_152 K K28 K135 post n x0 x1 x2 x3 x4 (x5 + (1 : Int32)) N221) N210 a216 a218 r209.toInt32))) N a207 x4.toInt64))))))))))))))
def wX0_laysUnlike_135 (K : Nat → Nat → Nat) (K28 : Nat → Option Nat → Int32 → NM → Prop) (post : Unit → NM → Prop) : Nat → Nat → Option Nat → Int32 → Int32 → Int32 → NM → Prop
  | 0, _, _, _, _, _, _ => False
  | n + 1, x0, x1, x2, x3, x4, N => ∃ a100, x1 = some a100 ∧ (∃ f103, N a100 = some (eO 7 [va_rf f103]) ∧ (∃ a104, f103 = some a104 ∧ (∃ n107 f108, N a104 = some (eR 5 n107 f108) ∧ (vp_in x2 n107 ∧ (∃ a109, (f108 x2.toNatClampNeg) = some a109 ∧ (∃ f112 f113 f114 f115, N a109 = some (eO 6 [.int f112, .int f113, .int f114, va_rf f115]) ∧ (((f114 < x4) → (∃ f118 f119 f120 f121 f122 f123 f124 f125 f126 f127 f128 f129 f130 f131 f132 f133 f134 f135 f136, N x0 = some (eO 1 [va_rf f118, va_rf f119, va_rf f120, va_rf f121, va_rf f122, va_rf f123, va_rf f124, va_rf f125, va_rf f126, .int f127, .int f128, va_rf f129, va_rf f130, .int f131, va_rf f132, va_rf f133, va_rf f134, va_rf f135, va_rf f136]) ∧ (∃ a137, f122 = some a137 ∧ (∃ n140 f141, N a137 = some (eR 6 n140 f141) ∧ (vp_in x3 n140 ∧ (vp_in (0 : Int32) n140 ∧ (∃ a142, (f141 (0 : Int32).toNatClampNeg) = some a142 ∧ (∃ a144, (f141 x3.toNatClampNeg) = some a144 ∧ (∃ n147 f148, N a142 = some (eL 1 n147 f148) ∧ (∃ n156 f157, N a144 = some (eL 1 n156 f157) ∧ (¬ (0 : Int32) < 0 ∧ ¬ (0 : Int32) < 0 ∧ ¬ (30001 : Int32) < 0 ∧ (0 : Int32).toNatClampNeg + (30001 : Int32).toNatClampNeg ≤ n156 ∧ (0 : Int32).toNatClampNeg + (30001 : Int32).toNatClampNeg ≤ n147 ∧ (∀ N164, N164 = va_up N a142 (some (eL 1 n147 (va_cpy f157 f148 (0 : Int32).toNatClampNeg (0 : Int32).toNatClampNeg (30001 : Int32).toNatClampNeg))) → (wX0_laysUnlike_222 K K28 post x0 x1 x2 N164))))))))))))) ∧ (¬ (f114 < x4) → ((∃ k, wX0_laysUnlike_152 K K28 (fun x0 x1 x2 x3 x4 N => wX0_laysUnlike_135 K K28 post n x0 x1 x2 x3 x4 N) post k x0 x1 x2 x3 x4 (1 : Int32) N))))))))))
def wX0_laysUnlike_101 (K : Nat → Nat → Nat) (K28 : Nat → Option Nat → Int32 → NM → Prop) (post : Unit → NM → Prop) : Nat → Nat → Option Nat → Int32 → Int32 → Int32 → NM → Prop
  | 0, _, _, _, _, _, _ => False
  | n + 1, x0, x1, x2, x3, x4, N => ((x3 < x4) → (∃ a84, x1 = some a84 ∧ (∃ f87, N a84 = some (eO 7 [va_rf f87]) ∧ (∃ a88, f87 = some a88 ∧ (∃ n91 f92, N a88 = some (eR 5 n91 f92) ∧ (vp_in x2 n91 ∧ (∃ a93, (f92 x2.toNatClampNeg) = some a93 ∧ (∃ f96 f97 f98 f99, N a93 = some (eO 6 [.int f96, .int f97, .int f98, va_rf f99]) ∧ ((∃ k, wX0_laysUnlike_135 K K28 post k x0 x1 x2 x3 f97 N)))))))))) ∧ (¬ (x3 < x4) → (∃ f223 f224 f225 f226 f227 f228 f229 f230 f231 f232 f233 f234 f235 f236 f237 f238 f239 f240 f241, N x0 = some (eO 1 [va_rf f223, va_rf f224, va_rf f225, va_rf f226, va_rf f227, va_rf f228, va_rf f229, va_rf f230, va_rf f231, .int f232, .int f233, va_rf f234, va_rf f235, .int f236, va_rf f237, va_rf f238, va_rf f239, va_rf f240, va_rf f241]) ∧ (∃ a242, f227 = some a242 ∧ (∃ n245 f246, N a242 = some (eR 6 n245 f246) ∧ (vp_in x4 n245 ∧ (∃ a247, (f246 x4.toNatClampNeg) = some a247 ∧ (wJ15_fill K (fun _ N250 => wX0_laysUnlike_101 K K28 post n x0 x1 x2 x3 (x4 + (1 : Int32)) N250) N a247 (0 : Int64))))))))
def wX0_laysUnlike_84 (K : Nat → Nat → Nat) (K28 : Nat → Option Nat → Int32 → NM → Prop) (K41 : Nat → Option Nat → Int32 → Int32 → Int32 → NM → Prop) (post : Unit → NM → Prop) (x0 : Nat) (x1 : Option Nat) (x2 : Int32) (x3 : Int32) (x4 : Int32) (N : NM) : Prop :=
  K41 x0 x1 x2 x3 (x4 + (1 : Int32)) N
def wX0_laysUnlike_82 (K : Nat → Nat → Nat) (K28 : Nat → Option Nat → Int32 → NM → Prop) (K41 : Nat → Option Nat → Int32 → Int32 → Int32 → NM → Prop) (post : Unit → NM → Prop) (x0 : Nat) (x1 : Option Nat) (x2 : Int32) (x4 : Int32) (v0 : Int32) (v1 : Int32) (N : NM) : Prop :=
  wX0_laysUnlike_84 K K28 K41 post x0 x1 x2 (v1 + v0) x4 N
def wX0_laysUnlike_41 (K : Nat → Nat → Nat) (K28 : Nat → Option Nat → Int32 → NM → Prop) (post : Unit → NM → Prop) : Nat → Nat → Option Nat → Int32 → Int32 → Int32 → NM → Prop
  | 0, _, _, _, _, _, _ => False
  | n + 1, x0, x1, x2, x3, x4, N => ∃ a75, x1 = some a75 ∧ (∃ f80, N a75 = some (eO 7 [va_rf f80]) ∧ (wX6_many K (fun r77 N78 => ((r77 ≤ x4) → (((x3 ≤ (5 : Int32)) → ((∃ k, wX0_laysUnlike_101 K K28 post k x0 x1 x2 x3 (1 : Int32) N78))) ∧ (¬ (x3 ≤ (5 : Int32)) → (wX0_laysUnlike_222 K K28 post x0 x1 x2 N78)))) ∧ (¬ (r77 ≤ x4) → (∃ f252, N78 a75 = some (eO 7 [va_rf f252]) ∧ (∃ a253, f252 = some a253 ∧ (∃ n256 f257, N78 a253 = some (eR 5 n256 f257) ∧ (vp_in x4 n256 ∧ (vp_in x2 n256 ∧ (∃ a258, (f257 x4.toNatClampNeg) = some a258 ∧ (∃ f263 f264 f265 f266, N78 a258 = some (eO 6 [.int f263, .int f264, .int f265, va_rf f266]) ∧ (wX4_isLike K (fun r260 N261 => ((r260 = (0 : Int32)) → (wX0_laysUnlike_84 K K28 (fun x0 x1 x2 x3 x4 N => wX0_laysUnlike_41 K K28 post n x0 x1 x2 x3 x4 N) post x0 x1 x2 x3 x4 N261)) ∧ (¬ (r260 = (0 : Int32)) → (((x2 ≤ x4) → (wX0_laysUnlike_82 K K28 (fun x0 x1 x2 x3 x4 N => wX0_laysUnlike_41 K K28 post n x0 x1 x2 x3 x4 N) post x0 x1 x2 x4 (1 : Int32) x3 N261)) ∧ (¬ (x2 ≤ x4) → (wX0_laysUnlike_82 K K28 (fun x0 x1 x2 x3 x4 N => wX0_laysUnlike_41 K K28 post n x0 x1 x2 x3 x4 N) post x0 x1 x2 x4 (6 : Int32) x3 N261))))) N78 a258 (f257 x2.toNatClampNeg))))))))))) N a75))
def wX0_laysUnlike_28 (K : Nat → Nat → Nat) (post : Unit → NM → Prop) : Nat → Nat → Option Nat → Int32 → NM → Prop
  | 0, _, _, _, _ => False
  | n + 1, x0, x1, x2, N => ∃ a68, x1 = some a68 ∧ (∃ f73, N a68 = some (eO 7 [va_rf f73]) ∧ (wX6_many K (fun r70 N71 => ((r70 ≤ x2) → (post () N71)) ∧ (¬ (r70 ≤ x2) → ((∃ k, wX0_laysUnlike_41 K (fun x0 x1 x2 N => wX0_laysUnlike_28 K post n x0 x1 x2 N) post k x0 x1 x2 (0 : Int32) (0 : Int32) N71)))) N a68))
def wX0_laysUnlike (K : Nat → Nat → Nat) (post : Unit → NM → Prop) (N : NM) (x0 : Nat) (x1 : Option Nat) : Prop :=
  ∃ f2 f3 f4 f5 f6 f7 f8 f9 f10 f11 f12 f13 f14 f15 f16 f17 f18 f19 f20, N x0 = some (eO 1 [va_rf f2, va_rf f3, va_rf f4, va_rf f5, va_rf f6, va_rf f7, va_rf f8, va_rf f9, va_rf f10, .int f11, .int f12, va_rf f13, va_rf f14, .int f15, va_rf f16, va_rf f17, va_rf f18, va_rf f19, va_rf f20]) ∧ (∀ N21, N21 = va_up N x0 (some (eO 1 [va_rf f2, va_rf f3, va_rf f4, va_rf f5, va_rf f6, va_rf f7, va_rf x1, va_rf f9, va_rf f10, .int f11, .int f12, va_rf f13, va_rf f14, .int f15, va_rf f16, va_rf f17, va_rf f18, va_rf f19, va_rf f20])) → (∃ a24, f6 = some a24 ∧ (∃ n27 f28, N21 a24 = some (eR 6 n27 f28) ∧ (vp_in (0 : Int32) n27 ∧ (∃ a29, (f28 (0 : Int32).toNatClampNeg) = some a29 ∧ (wJ15_fill K (fun _ N32 => ∃ f34 f35 f36 f37 f38 f39 f40 f41 f42 f43 f44 f45 f46 f47 f48 f49 f50 f51 f52, N32 x0 = some (eO 1 [va_rf f34, va_rf f35, va_rf f36, va_rf f37, va_rf f38, va_rf f39, va_rf f40, va_rf f41, va_rf f42, .int f43, .int f44, va_rf f45, va_rf f46, .int f47, va_rf f48, va_rf f49, va_rf f50, va_rf f51, va_rf f52]) ∧ (∃ a53, f38 = some a53 ∧ (∃ n56 f57, N32 a53 = some (eR 6 n56 f57) ∧ (vp_in (0 : Int32) n56 ∧ (∃ a58, (f57 (0 : Int32).toNatClampNeg) = some a58 ∧ (∃ n61 f62, N32 a58 = some (eL 1 n61 f62) ∧ (vp_in (15000 : Int32) n61 ∧ (∀ N63, N63 = va_up N32 a58 (some (eL 1 n61 (vp_updL f62 (15000 : Int32).toNatClampNeg (1 : Int64)))) → ((∃ k, wX0_laysUnlike_28 K post k x0 x1 (0 : Int32) N63)))))))))) N21 a29 (0 : Int64)))))))
theorem kX0_laysUnlike_222 {p : Program} {l : Launch} {e : Env} {s : State} {m : MethodId} {args : Array Value} {below : List Frame} {meth : Method} {c : Code} {G : gG} {A : Nat → Prop} {K28 : Nat → Option Nat → Int32 → NM → Prop} {post : Unit → NM → Prop} (X : cX G A RX0 p s m args c cX0_laysUnlike 6) (hr : meth.sig.returnType = none) (hlk : meth.locks = false) (hK28 : ∀ (x0 : Nat) (x1 : Option Nat) (x2 : Int32) (N : NM) (H : Heap) (locs : List Loc) (ls : Array Slot), K28 x0 x1 x2 N → cH G A s [] N H locs → lv_has ls 6 [(0, .ref x0), (1, va_rf x1), (2, .int x2)] → W p l e ⟨2, 0, 0, 60⟩ s m args below meth c H locs 0 0 (MQ below (gQ vV post (fun u H => cBw G A (jW u).1 (jW u).2 H) A) args s 0 0 A) (F0 m 28 ls [])) : ∀ (x0 : Nat) (x1 : Option Nat) (x2 : Int32) (N : NM) (H : Heap) (locs : List Loc) (ls : Array Slot), wX0_laysUnlike_222 (gC G) K28 post x0 x1 x2 N → cH G A s [] N H locs → lv_has ls 6 [(0, .ref x0), (1, va_rf x1), (2, .int x2)] → W p l e ⟨2, 0, 0, 60⟩ s m args below meth c H locs 0 0 (MQ below (gQ vV post (fun u H => cBw G A (jW u).1 (jW u).2 H) A) args s 0 0 A) (F0 m 222 ls []) := by
  have hx := X.1.1
  have hb := X.1.2.1
  have hml := X.1.2.2.1
  have hown := X.1.2.2.2.1
  have hts := X.1.2.2.2.2
  intro x0 x1 x2 N H locs ls h hw hl
  unfold wX0_laysUnlike_222 at h
  refine lv_iinc (pc := 222) (v := x2 + (1 : Int32)) (lv' := [(2, .int (x2 + (1 : Int32))), (0, .ref x0), (1, va_rf x1)]) hx hb dX0_laysUnlike_222 hl (k := 2) rfl rfl (by decide) (by simp [rf_c]) (fun ls hl => ?_)
  refine lv_goto (pc := 225) (tgt := 28) hx hb dX0_laysUnlike_225 rfl ?_
  exact hK28 _ _ _ _ _ _ _ h hw (lv_sub hl [1, 2, 0] rfl)
theorem kX0_laysUnlike_152 {p : Program} {l : Launch} {e : Env} {s : State} {m : MethodId} {args : Array Value} {below : List Frame} {meth : Method} {c : Code} {G : gG} {A : Nat → Prop} {K28 : Nat → Option Nat → Int32 → NM → Prop} {K135 : Nat → Option Nat → Int32 → Int32 → Int32 → NM → Prop} {post : Unit → NM → Prop} (X : cX G A RX0 p s m args c cX0_laysUnlike 6) (hr : meth.sig.returnType = none) (hlk : meth.locks = false) (hK28 : ∀ (x0 : Nat) (x1 : Option Nat) (x2 : Int32) (N : NM) (H : Heap) (locs : List Loc) (ls : Array Slot), K28 x0 x1 x2 N → cH G A s [] N H locs → lv_has ls 6 [(0, .ref x0), (1, va_rf x1), (2, .int x2)] → W p l e ⟨2, 0, 0, 60⟩ s m args below meth c H locs 0 0 (MQ below (gQ vV post (fun u H => cBw G A (jW u).1 (jW u).2 H) A) args s 0 0 A) (F0 m 28 ls [])) (hK135 : ∀ (x0 : Nat) (x1 : Option Nat) (x2 : Int32) (x3 : Int32) (x4 : Int32) (N : NM) (H : Heap) (locs : List Loc) (ls : Array Slot), K135 x0 x1 x2 x3 x4 N → cH G A s [] N H locs → lv_has ls 6 [(0, .ref x0), (1, va_rf x1), (2, .int x2), (3, .int x3), (4, .int x4)] → W p l e ⟨2, 0, 0, 60⟩ s m args below meth c H locs 0 0 (MQ below (gQ vV post (fun u H => cBw G A (jW u).1 (jW u).2 H) A) args s 0 0 A) (F0 m 135 ls [])) : ∀ (n : Nat) (x0 : Nat) (x1 : Option Nat) (x2 : Int32) (x3 : Int32) (x4 : Int32) (x5 : Int32) (N : NM) (H : Heap) (locs : List Loc) (ls : Array Slot), wX0_laysUnlike_152 (gC G) K28 K135 post n x0 x1 x2 x3 x4 x5 N → cH G A s [] N H locs → lv_has ls 6 [(0, .ref x0), (1, va_rf x1), (2, .int x2), (3, .int x3), (4, .int x4), (5, .int x5)] → W p l e ⟨2, 0, 0, 60⟩ s m args below meth c H locs 0 0 (MQ below (gQ vV post (fun u H => cBw G A (jW u).1 (jW u).2 H) A) args s 0 0 A) (F0 m 152 ls []) := by
  have hx := X.1.1
  have hb := X.1.2.1
  have hml := X.1.2.2.1
  have hown := X.1.2.2.2.1
  have hts := X.1.2.2.2.2
  intro n
  induction n with
  | zero =>
    intro x0 x1 x2 x3 x4 x5 N H locs ls h
    exact False.elim h
  | succ n ih =>
    intro x0 x1 x2 x3 x4 x5 N H locs ls h hw hl
    unfold wX0_laysUnlike_152 at h
    refine lv_iload (pc := 152) hx hb dX0_laysUnlike_152 (lv_at hl 5 rfl) ?_
    refine lv_iload_n (pc := 154) hx hb dX0_laysUnlike_154 rfl (lv_at hl 3 rfl) ?_
    refine lv_icmp_gt (pc := 155) (tgt := 196) hx hb dX0_laysUnlike_155 rfl (fun c172 => ?_) (fun c172 => ?_)
    · have h := h.1 c172
      refine lv_iinc (pc := 196) (v := x4 + (1 : Int32)) (lv' := [(4, .int (x4 + (1 : Int32))), (0, .ref x0), (1, va_rf x1), (2, .int x2), (3, .int x3), (5, .int x5)]) hx hb dX0_laysUnlike_196 hl (k := 4) rfl rfl (by decide) rfl (fun ls hl => ?_)
      refine lv_goto (pc := 199) (tgt := 135) hx hb dX0_laysUnlike_199 rfl ?_
      exact hK135 _ _ _ _ _ _ _ _ _ h hw (lv_sub hl [1, 2, 3, 4, 0] rfl)
    · have h := h.2 c172
      refine lv_aload_n (pc := 158) hx hb dX0_laysUnlike_158 rfl (lv_at hl 0 rfl) ?_
      obtain ⟨f174, f175, f176, f177, f178, f179, f180, f181, f182, f183, f184, f185, f186, f187, f188, f189, f190, f191, f192, hN173, h⟩ := h
      refine c_get (pc := 159) X hw hN173 in_X0 rfl 4 (by decide) q215 rfl rfl dX0_laysUnlike_159 ?_
      refine lv_iload (pc := 162) hx hb dX0_laysUnlike_162 (lv_at hl 5 rfl) ?_
      obtain ⟨a193, hr194, h⟩ := h
      refine W.eq (g2 := F0 m 164 ls [.int x5, .ref a193]) (by rw [hr194]; rfl) ?_
      obtain ⟨n196, f197, hN195, h⟩ := h
      obtain ⟨hi, h⟩ := h
      refine c_aaldT (pc := 164) X hw 6 hN195 rfl hi dX0_laysUnlike_164 ?_
      refine lv_aload_n (pc := 165) hx hb dX0_laysUnlike_165 rfl (lv_at hl 0 rfl) ?_
      refine c_get (pc := 166) X hw hN173 in_X0 rfl 4 (by decide) q215 rfl rfl dX0_laysUnlike_166 ?_
      refine lv_iload (pc := 169) hx hb dX0_laysUnlike_169 (lv_at hl 5 rfl) ?_
      refine lv_iconst (pc := 171) (v := (1 : Int32)) hx hb dX0_laysUnlike_171 (by decide) ?_
      refine lv_isub (pc := 172) hx hb dX0_laysUnlike_172 ?_
      refine W.eq (g2 := F0 m 173 ls [.int (x5 - (1 : Int32)), .ref a193, va_rf (f197 x5.toNatClampNeg)]) (by rw [hr194]; rfl) ?_
      obtain ⟨hi, h⟩ := h
      refine c_aaldT (pc := 173) X hw 6 hN195 rfl hi dX0_laysUnlike_173 ?_
      refine lq_aload_n (pc := 174) hx hb dX0_laysUnlike_174 rfl (lv_at hl 1 rfl) ?_
      obtain ⟨a198, hr199, h⟩ := h
      refine W.eq (g2 := F0 m 175 ls [.ref a198, va_rf (f197 (x5 - (1 : Int32)).toNatClampNeg), va_rf (f197 x5.toNatClampNeg)]) (by rw [hr199]; rfl) ?_
      obtain ⟨f201, hN200, h⟩ := h
      refine c_getN (pc := 175) X hw hN200 in_X6 rfl 0 (by decide) q885 rfl rfl dX0_laysUnlike_175 ?_
      refine lv_iload_n (pc := 178) hx hb dX0_laysUnlike_178 rfl (lv_at hl 2 rfl) ?_
      obtain ⟨a202, hr203, h⟩ := h
      refine W.eq (g2 := F0 m 179 ls [.int x2, .ref a202, va_rf (f197 (x5 - (1 : Int32)).toNatClampNeg), va_rf (f197 x5.toNatClampNeg)]) (by rw [hr203]; rfl) ?_
      obtain ⟨n205, f206, hN204, h⟩ := h
      obtain ⟨hi, h⟩ := h
      refine c_aald (pc := 179) X hw 5 hN204 rfl hi dX0_laysUnlike_179 ?_
      refine lv_iload (pc := 180) hx hb dX0_laysUnlike_180 (lv_at hl 4 rfl) ?_
      refine lv_i2l (pc := 182) hx hb dX0_laysUnlike_182 rfl ?_
      obtain ⟨a207, hr208, h⟩ := h
      refine W.eq (g2 := F0 m 183 ls [.long x4.toInt64, .ref a207, va_rf (f197 (x5 - (1 : Int32)).toNatClampNeg), va_rf (f197 x5.toNatClampNeg)]) (by rw [hr208]; rfl) ?_
      obtain ⟨f212, f213, f214, f215, hN211, h⟩ := h
      refine c_callJ (pc := 183) (val := vL) X hw (va_runV (C := RX4) (As := [.long x4.toInt64]) (rest := [va_rf (f197 (x5 - (1 : Int32)).toNatClampNeg), va_rf (f197 x5.toNatClampNeg)]) X.1 (tX4_value X.2.2.1 (sz := H.size) h) (cwV 1 hts (lw_V q1383 q738 q739 q126 q740) rfl rfl rfl ⟨rfl, by decide, by decide, (by decide +kernel : (parseMethodDescriptor yX4_value.desc).map (fun d => d.parameters.length) = some 1)⟩ ⟨Nat.le_of_ble_eq_true rfl, Nat.le_of_ble_eq_true rfl⟩) ⟨cPre_blind, c_recv X hw hN211 rfl, fun U hU hW => ⟨rfl, X.preJ hw hU hW⟩⟩ rfl rfl hl.1 rfl (lv_room (rsum_le (Nat.le_of_ble_eq_true rfl))) dX0_laysUnlike_183 ⟨show 0 + 0 ≤ 0 by omega, show 0 + 0 ≤ 0 by omega⟩) (fun r209 N210 H locs h hw => ?_)
      refine W.eq (g2 := F0 m 186 ls (.long r209 :: [va_rf (f197 (x5 - (1 : Int32)).toNatClampNeg), va_rf (f197 x5.toNatClampNeg)])) rfl ?_
      refine lv_l2i (pc := 186) hx hb dX0_laysUnlike_186 rfl ?_
      obtain ⟨a216, hr217, h⟩ := h
      refine W.eq (g2 := F0 m 187 ls [.int r209.toInt32, va_rf (f197 (x5 - (1 : Int32)).toNatClampNeg), .ref a216]) (by rw [hr217]; rfl) ?_
      obtain ⟨a218, hr219, h⟩ := h
      refine W.eq (g2 := F0 m 187 ls [.int r209.toInt32, .ref a218, .ref a216]) (by rw [hr219]; rfl) ?_
      refine c_callJ (pc := 187) (val := vV) X hw (va_runS (g := F0 m 187 ls _) (As := [.ref a216, .ref a218, .int r209.toInt32]) (rest := []) X.1 (tX0_adds X.2.2.1 (sz := H.size) h) (va_cwS 3 hts (lw_S q1384 q1385 q102 q1386) rfl rfl rfl ⟨by decide, by decide, (by decide +kernel : (parseMethodDescriptor yX0_adds.desc).map (fun d => d.parameters.length) = some 3)⟩ ⟨Nat.le_of_ble_eq_true rfl, Nat.le_of_ble_eq_true rfl⟩) ⟨cPre_blind, fun U hU hW => ⟨rfl, X.preJ hw hU hW⟩⟩ rfl rfl hl.1 rfl (lv_room (Nat.le_of_ble_eq_true rfl)) dX0_laysUnlike_187 ⟨show 0 + 0 ≤ 0 by omega, show 0 + 0 ≤ 0 by omega⟩) (fun _ N221 H locs h hw => ?_)
      refine W.eq (g2 := F0 m 190 ls ([])) rfl ?_
      refine lv_iinc (pc := 190) (v := x5 + (1 : Int32)) (lv' := [(5, .int (x5 + (1 : Int32))), (0, .ref x0), (1, va_rf x1), (2, .int x2), (3, .int x3), (4, .int x4)]) hx hb dX0_laysUnlike_190 hl (k := 5) rfl rfl (by decide) rfl (fun ls hl => ?_)
      refine lv_goto (pc := 193) (tgt := 152) hx hb dX0_laysUnlike_193 rfl ?_
      exact ih _ _ _ _ _ _ _ _ _ _ h hw (lv_sub hl [1, 2, 3, 4, 5, 0] rfl)
theorem kX0_laysUnlike_135 {p : Program} {l : Launch} {e : Env} {s : State} {m : MethodId} {args : Array Value} {below : List Frame} {meth : Method} {c : Code} {G : gG} {A : Nat → Prop} {K28 : Nat → Option Nat → Int32 → NM → Prop} {post : Unit → NM → Prop} (X : cX G A RX0 p s m args c cX0_laysUnlike 6) (hr : meth.sig.returnType = none) (hlk : meth.locks = false) (hK28 : ∀ (x0 : Nat) (x1 : Option Nat) (x2 : Int32) (N : NM) (H : Heap) (locs : List Loc) (ls : Array Slot), K28 x0 x1 x2 N → cH G A s [] N H locs → lv_has ls 6 [(0, .ref x0), (1, va_rf x1), (2, .int x2)] → W p l e ⟨2, 0, 0, 60⟩ s m args below meth c H locs 0 0 (MQ below (gQ vV post (fun u H => cBw G A (jW u).1 (jW u).2 H) A) args s 0 0 A) (F0 m 28 ls [])) : ∀ (n : Nat) (x0 : Nat) (x1 : Option Nat) (x2 : Int32) (x3 : Int32) (x4 : Int32) (N : NM) (H : Heap) (locs : List Loc) (ls : Array Slot), wX0_laysUnlike_135 (gC G) K28 post n x0 x1 x2 x3 x4 N → cH G A s [] N H locs → lv_has ls 6 [(0, .ref x0), (1, va_rf x1), (2, .int x2), (3, .int x3), (4, .int x4)] → W p l e ⟨2, 0, 0, 60⟩ s m args below meth c H locs 0 0 (MQ below (gQ vV post (fun u H => cBw G A (jW u).1 (jW u).2 H) A) args s 0 0 A) (F0 m 135 ls []) := by
  have hx := X.1.1
  have hb := X.1.2.1
  have hml := X.1.2.2.1
  have hown := X.1.2.2.2.1
  have hts := X.1.2.2.2.2
  intro n
  induction n with
  | zero =>
    intro x0 x1 x2 x3 x4 N H locs ls h
    exact False.elim h
  | succ n ih =>
    intro x0 x1 x2 x3 x4 N H locs ls h hw hl
    unfold wX0_laysUnlike_135 at h
    refine lv_iload (pc := 135) hx hb dX0_laysUnlike_135 (lv_at hl 4 rfl) ?_
    refine lq_aload_n (pc := 137) hx hb dX0_laysUnlike_137 rfl (lv_at hl 1 rfl) ?_
    obtain ⟨a100, hr101, h⟩ := h
    refine W.eq (g2 := F0 m 138 ls [.ref a100, .int x4]) (by rw [hr101]; rfl) ?_
    obtain ⟨f103, hN102, h⟩ := h
    refine c_getN (pc := 138) X hw hN102 in_X6 rfl 0 (by decide) q885 rfl rfl dX0_laysUnlike_138 ?_
    refine lv_iload_n (pc := 141) hx hb dX0_laysUnlike_141 rfl (lv_at hl 2 rfl) ?_
    obtain ⟨a104, hr105, h⟩ := h
    refine W.eq (g2 := F0 m 142 ls [.int x2, .ref a104, .int x4]) (by rw [hr105]; rfl) ?_
    obtain ⟨n107, f108, hN106, h⟩ := h
    obtain ⟨hi, h⟩ := h
    refine c_aald (pc := 142) X hw 5 hN106 rfl hi dX0_laysUnlike_142 ?_
    obtain ⟨a109, hr110, h⟩ := h
    refine W.eq (g2 := F0 m 143 ls [.ref a109, .int x4]) (by rw [hr110]; rfl) ?_
    obtain ⟨f112, f113, f114, f115, hN111, h⟩ := h
    refine c_getN (pc := 143) X hw hN111 in_X4 rfl 2 (by decide) q715 rfl rfl dX0_laysUnlike_143 ?_
    refine lv_icmp_gt (pc := 146) (tgt := 202) hx hb dX0_laysUnlike_146 rfl (fun c116 => ?_) (fun c116 => ?_)
    · have h := h.1 c116
      refine lv_aload_n (pc := 202) hx hb dX0_laysUnlike_202 rfl (lv_at hl 0 rfl) ?_
      obtain ⟨f118, f119, f120, f121, f122, f123, f124, f125, f126, f127, f128, f129, f130, f131, f132, f133, f134, f135, f136, hN117, h⟩ := h
      refine c_get (pc := 203) X hw hN117 in_X0 rfl 4 (by decide) q215 rfl rfl dX0_laysUnlike_203 ?_
      refine lv_iload_n (pc := 206) hx hb dX0_laysUnlike_206 rfl (lv_at hl 3 rfl) ?_
      obtain ⟨a137, hr138, h⟩ := h
      refine W.eq (g2 := F0 m 207 ls [.int x3, .ref a137]) (by rw [hr138]; rfl) ?_
      obtain ⟨n140, f141, hN139, h⟩ := h
      obtain ⟨hi, h⟩ := h
      refine c_aaldT (pc := 207) X hw 6 hN139 rfl hi dX0_laysUnlike_207 ?_
      refine lv_iconst (pc := 208) (v := (0 : Int32)) hx hb dX0_laysUnlike_208 (by decide) ?_
      refine lv_aload_n (pc := 209) hx hb dX0_laysUnlike_209 rfl (lv_at hl 0 rfl) ?_
      refine c_get (pc := 210) X hw hN117 in_X0 rfl 4 (by decide) q215 rfl rfl dX0_laysUnlike_210 ?_
      refine lv_iconst (pc := 213) (v := (0 : Int32)) hx hb dX0_laysUnlike_213 (by decide) ?_
      refine W.eq (g2 := F0 m 214 ls [.int (0 : Int32), .ref a137, .int (0 : Int32), va_rf (f141 x3.toNatClampNeg)]) (by rw [hr138]; rfl) ?_
      obtain ⟨hi, h⟩ := h
      refine c_aaldT (pc := 214) X hw 6 hN139 rfl hi dX0_laysUnlike_214 ?_
      refine lv_iconst (pc := 215) (v := (0 : Int32)) hx hb dX0_laysUnlike_215 (by decide) ?_
      refine lv_sipush (pc := 216) (v := (30001 : Int32)) hx hb dX0_laysUnlike_216 (by decide) ?_
      obtain ⟨a142, hr143, h⟩ := h
      refine W.eq (g2 := F0 m 219 ls [.int (30001 : Int32), .int (0 : Int32), .ref a142, .int (0 : Int32), va_rf (f141 x3.toNatClampNeg)]) (by rw [hr143]; rfl) ?_
      obtain ⟨a144, hr145, h⟩ := h
      refine W.eq (g2 := F0 m 219 ls [.int (30001 : Int32), .int (0 : Int32), .ref a142, .int (0 : Int32), .ref a144]) (by rw [hr145]; rfl) ?_
      obtain ⟨n147, f148, hN146, h⟩ := h
      obtain ⟨n156, f157, hN155, h⟩ := h
      obtain ⟨hm158, hm159, hm160, hm161, hm162, h⟩ := h
      refine c_copyl (pc := 219) (rest := []) X hw hl.1 q372 q374 q373 q112 hN155 hN146 hm158 hm159 hm160 hm161 hm162 (Nat.le_of_ble_eq_true rfl) (Nat.le_of_ble_eq_true rfl) dX0_laysUnlike_219 (fun H locs hw => ?_)
      obtain ⟨N164, e165⟩ : ∃ z, z = va_up N a142 (some (eL 1 n147 (va_cpy f157 f148 (0 : Int32).toNatClampNeg (0 : Int32).toNatClampNeg (30001 : Int32).toNatClampNeg))) := ⟨_, rfl⟩
      have hw : cH G A s [] N164 H locs := by rw [e165]; exact hw
      have h := h N164 e165
      have hN166 : N164 a142 = some (eL 1 n147 (va_cpy f157 f148 (0 : Int32).toNatClampNeg (0 : Int32).toNatClampNeg (30001 : Int32).toNatClampNeg)) := by rw [e165]; exact up_s
      have hN167 := up_k (x := some (eL 1 n147 (va_cpy f157 f148 (0 : Int32).toNatClampNeg (0 : Int32).toNatClampNeg (30001 : Int32).toNatClampNeg))) hN146 hN102 (show (3 : Nat) ≠ 14 by decide)
      rw [← e165] at hN167
      have hN168 := up_k (x := some (eL 1 n147 (va_cpy f157 f148 (0 : Int32).toNatClampNeg (0 : Int32).toNatClampNeg (30001 : Int32).toNatClampNeg))) hN146 hN106 (show (3 : Nat) ≠ 11 by decide)
      rw [← e165] at hN168
      have hN169 := up_k (x := some (eL 1 n147 (va_cpy f157 f148 (0 : Int32).toNatClampNeg (0 : Int32).toNatClampNeg (30001 : Int32).toNatClampNeg))) hN146 hN111 (show (3 : Nat) ≠ 12 by decide)
      rw [← e165] at hN169
      have hN170 := up_k (x := some (eL 1 n147 (va_cpy f157 f148 (0 : Int32).toNatClampNeg (0 : Int32).toNatClampNeg (30001 : Int32).toNatClampNeg))) hN146 hN117 (show (3 : Nat) ≠ 2 by decide)
      rw [← e165] at hN170
      have hN171 := up_k (x := some (eL 1 n147 (va_cpy f157 f148 (0 : Int32).toNatClampNeg (0 : Int32).toNatClampNeg (30001 : Int32).toNatClampNeg))) hN146 hN139 (show (3 : Nat) ≠ 13 by decide)
      rw [← e165] at hN171
      exact kX0_laysUnlike_222 X hr hlk hK28 _ _ _ _ _ _ _ h hw (lv_sub hl [0, 1, 2] rfl)
    · have h := h.2 c116
      refine lv_iconst (pc := 149) (v := (1 : Int32)) hx hb dX0_laysUnlike_149 (by decide) ?_
      refine lv_istore (pc := 150) (lv' := [(5, .int (1 : Int32)), (0, .ref x0), (1, va_rf x1), (2, .int x2), (3, .int x3), (4, .int x4)]) hx hb dX0_laysUnlike_150 hl (by decide) rfl (fun ls hl => ?_)
      obtain ⟨k, h⟩ := h
      exact kX0_laysUnlike_152 X hr hlk hK28 ih k _ _ _ _ _ _ _ _ _ _ h hw (lv_sub hl [1, 2, 3, 4, 5, 0] rfl)
theorem kX0_laysUnlike_101 {p : Program} {l : Launch} {e : Env} {s : State} {m : MethodId} {args : Array Value} {below : List Frame} {meth : Method} {c : Code} {G : gG} {A : Nat → Prop} {K28 : Nat → Option Nat → Int32 → NM → Prop} {post : Unit → NM → Prop} (X : cX G A RX0 p s m args c cX0_laysUnlike 6) (hr : meth.sig.returnType = none) (hlk : meth.locks = false) (hK28 : ∀ (x0 : Nat) (x1 : Option Nat) (x2 : Int32) (N : NM) (H : Heap) (locs : List Loc) (ls : Array Slot), K28 x0 x1 x2 N → cH G A s [] N H locs → lv_has ls 6 [(0, .ref x0), (1, va_rf x1), (2, .int x2)] → W p l e ⟨2, 0, 0, 60⟩ s m args below meth c H locs 0 0 (MQ below (gQ vV post (fun u H => cBw G A (jW u).1 (jW u).2 H) A) args s 0 0 A) (F0 m 28 ls [])) : ∀ (n : Nat) (x0 : Nat) (x1 : Option Nat) (x2 : Int32) (x3 : Int32) (x4 : Int32) (N : NM) (H : Heap) (locs : List Loc) (ls : Array Slot), wX0_laysUnlike_101 (gC G) K28 post n x0 x1 x2 x3 x4 N → cH G A s [] N H locs → lv_has ls 6 [(0, .ref x0), (1, va_rf x1), (2, .int x2), (3, .int x3), (4, .int x4)] → W p l e ⟨2, 0, 0, 60⟩ s m args below meth c H locs 0 0 (MQ below (gQ vV post (fun u H => cBw G A (jW u).1 (jW u).2 H) A) args s 0 0 A) (F0 m 101 ls []) := by
  have hx := X.1.1
  have hb := X.1.2.1
  have hml := X.1.2.2.1
  have hown := X.1.2.2.2.1
  have hts := X.1.2.2.2.2
  intro n
  induction n with
  | zero =>
    intro x0 x1 x2 x3 x4 N H locs ls h
    exact False.elim h
  | succ n ih =>
    intro x0 x1 x2 x3 x4 N H locs ls h hw hl
    unfold wX0_laysUnlike_101 at h
    refine lv_iload (pc := 101) hx hb dX0_laysUnlike_101 (lv_at hl 4 rfl) ?_
    refine lv_iload_n (pc := 103) hx hb dX0_laysUnlike_103 rfl (lv_at hl 3 rfl) ?_
    refine lv_icmp_gt (pc := 104) (tgt := 124) hx hb dX0_laysUnlike_104 rfl (fun c83 => ?_) (fun c83 => ?_)
    · have h := h.1 c83
      refine lq_aload_n (pc := 124) hx hb dX0_laysUnlike_124 rfl (lv_at hl 1 rfl) ?_
      obtain ⟨a84, hr85, h⟩ := h
      refine W.eq (g2 := F0 m 125 ls [.ref a84]) (by rw [hr85]; rfl) ?_
      obtain ⟨f87, hN86, h⟩ := h
      refine c_getN (pc := 125) X hw hN86 in_X6 rfl 0 (by decide) q885 rfl rfl dX0_laysUnlike_125 ?_
      refine lv_iload_n (pc := 128) hx hb dX0_laysUnlike_128 rfl (lv_at hl 2 rfl) ?_
      obtain ⟨a88, hr89, h⟩ := h
      refine W.eq (g2 := F0 m 129 ls [.int x2, .ref a88]) (by rw [hr89]; rfl) ?_
      obtain ⟨n91, f92, hN90, h⟩ := h
      obtain ⟨hi, h⟩ := h
      refine c_aald (pc := 129) X hw 5 hN90 rfl hi dX0_laysUnlike_129 ?_
      obtain ⟨a93, hr94, h⟩ := h
      refine W.eq (g2 := F0 m 130 ls [.ref a93]) (by rw [hr94]; rfl) ?_
      obtain ⟨f96, f97, f98, f99, hN95, h⟩ := h
      refine c_getN (pc := 130) X hw hN95 in_X4 rfl 1 (by decide) q712 rfl rfl dX0_laysUnlike_130 ?_
      refine lv_istore (pc := 133) (lv' := [(4, .int f97), (0, .ref x0), (1, va_rf x1), (2, .int x2), (3, .int x3)]) hx hb dX0_laysUnlike_133 hl (by decide) rfl (fun ls hl => ?_)
      obtain ⟨k, h⟩ := h
      exact kX0_laysUnlike_135 X hr hlk hK28 k _ _ _ _ _ _ _ _ _ h hw (lv_sub hl [1, 2, 3, 4, 0] rfl)
    · have h := h.2 c83
      refine lv_aload_n (pc := 107) hx hb dX0_laysUnlike_107 rfl (lv_at hl 0 rfl) ?_
      obtain ⟨f223, f224, f225, f226, f227, f228, f229, f230, f231, f232, f233, f234, f235, f236, f237, f238, f239, f240, f241, hN222, h⟩ := h
      refine c_get (pc := 108) X hw hN222 in_X0 rfl 4 (by decide) q215 rfl rfl dX0_laysUnlike_108 ?_
      refine lv_iload (pc := 111) hx hb dX0_laysUnlike_111 (lv_at hl 4 rfl) ?_
      obtain ⟨a242, hr243, h⟩ := h
      refine W.eq (g2 := F0 m 113 ls [.int x4, .ref a242]) (by rw [hr243]; rfl) ?_
      obtain ⟨n245, f246, hN244, h⟩ := h
      obtain ⟨hi, h⟩ := h
      refine c_aaldT (pc := 113) X hw 6 hN244 rfl hi dX0_laysUnlike_113 ?_
      refine lv_lconst (pc := 114) (v := (0 : Int64)) hx hb dX0_laysUnlike_114 (by decide) ?_
      obtain ⟨a247, hr248, h⟩ := h
      refine W.eq (g2 := F0 m 115 ls [.long (0 : Int64), .ref a247]) (by rw [hr248]; rfl) ?_
      refine c_callJ (pc := 115) (val := vV) X hw (va_runS (g := F0 m 115 ls _) (As := [.ref a247, .long (0 : Int64)]) (rest := []) X.1 (tJ15_fill X.2.2.1 (sz := H.size) h) (va_cwS 2 hts (lw_S q1380 q1381 q122 q1382) rfl rfl rfl ⟨by decide, by decide, (by decide +kernel : (parseMethodDescriptor yJ15_fill.desc).map (fun d => d.parameters.length) = some 2)⟩ ⟨Nat.le_of_ble_eq_true rfl, Nat.le_of_ble_eq_true rfl⟩) ⟨cPre_blind, fun U hU hW => ⟨rfl, X.preJ hw hU hW⟩⟩ rfl rfl hl.1 rfl (lv_room (Nat.le_of_ble_eq_true rfl)) dX0_laysUnlike_115 ⟨show 0 + 0 ≤ 0 by omega, show 0 + 0 ≤ 0 by omega⟩) (fun _ N250 H locs h hw => ?_)
      refine W.eq (g2 := F0 m 118 ls ([])) rfl ?_
      refine lv_iinc (pc := 118) (v := x4 + (1 : Int32)) (lv' := [(4, .int (x4 + (1 : Int32))), (0, .ref x0), (1, va_rf x1), (2, .int x2), (3, .int x3)]) hx hb dX0_laysUnlike_118 hl (k := 4) rfl rfl (by decide) rfl (fun ls hl => ?_)
      refine lv_goto (pc := 121) (tgt := 101) hx hb dX0_laysUnlike_121 rfl ?_
      exact ih _ _ _ _ _ _ _ _ _ h hw (lv_sub hl [1, 2, 3, 4, 0] rfl)
theorem kX0_laysUnlike_84 {p : Program} {l : Launch} {e : Env} {s : State} {m : MethodId} {args : Array Value} {below : List Frame} {meth : Method} {c : Code} {G : gG} {A : Nat → Prop} {K28 : Nat → Option Nat → Int32 → NM → Prop} {K41 : Nat → Option Nat → Int32 → Int32 → Int32 → NM → Prop} {post : Unit → NM → Prop} (X : cX G A RX0 p s m args c cX0_laysUnlike 6) (hr : meth.sig.returnType = none) (hlk : meth.locks = false) (hK28 : ∀ (x0 : Nat) (x1 : Option Nat) (x2 : Int32) (N : NM) (H : Heap) (locs : List Loc) (ls : Array Slot), K28 x0 x1 x2 N → cH G A s [] N H locs → lv_has ls 6 [(0, .ref x0), (1, va_rf x1), (2, .int x2)] → W p l e ⟨2, 0, 0, 60⟩ s m args below meth c H locs 0 0 (MQ below (gQ vV post (fun u H => cBw G A (jW u).1 (jW u).2 H) A) args s 0 0 A) (F0 m 28 ls [])) (hK41 : ∀ (x0 : Nat) (x1 : Option Nat) (x2 : Int32) (x3 : Int32) (x4 : Int32) (N : NM) (H : Heap) (locs : List Loc) (ls : Array Slot), K41 x0 x1 x2 x3 x4 N → cH G A s [] N H locs → lv_has ls 6 [(0, .ref x0), (1, va_rf x1), (2, .int x2), (3, .int x3), (4, .int x4)] → W p l e ⟨2, 0, 0, 60⟩ s m args below meth c H locs 0 0 (MQ below (gQ vV post (fun u H => cBw G A (jW u).1 (jW u).2 H) A) args s 0 0 A) (F0 m 41 ls [])) : ∀ (x0 : Nat) (x1 : Option Nat) (x2 : Int32) (x3 : Int32) (x4 : Int32) (N : NM) (H : Heap) (locs : List Loc) (ls : Array Slot), wX0_laysUnlike_84 (gC G) K28 K41 post x0 x1 x2 x3 x4 N → cH G A s [] N H locs → lv_has ls 6 [(0, .ref x0), (1, va_rf x1), (2, .int x2), (3, .int x3), (4, .int x4)] → W p l e ⟨2, 0, 0, 60⟩ s m args below meth c H locs 0 0 (MQ below (gQ vV post (fun u H => cBw G A (jW u).1 (jW u).2 H) A) args s 0 0 A) (F0 m 84 ls []) := by
  have hx := X.1.1
  have hb := X.1.2.1
  have hml := X.1.2.2.1
  have hown := X.1.2.2.2.1
  have hts := X.1.2.2.2.2
  intro x0 x1 x2 x3 x4 N H locs ls h hw hl
  unfold wX0_laysUnlike_84 at h
  refine lv_iinc (pc := 84) (v := x4 + (1 : Int32)) (lv' := [(4, .int (x4 + (1 : Int32))), (0, .ref x0), (1, va_rf x1), (2, .int x2), (3, .int x3)]) hx hb dX0_laysUnlike_84 hl (k := 4) rfl rfl (by decide) rfl (fun ls hl => ?_)
  refine lv_goto (pc := 87) (tgt := 41) hx hb dX0_laysUnlike_87 rfl ?_
  exact hK41 _ _ _ _ _ _ _ _ _ h hw (lv_sub hl [1, 2, 3, 4, 0] rfl)
theorem kX0_laysUnlike_82 {p : Program} {l : Launch} {e : Env} {s : State} {m : MethodId} {args : Array Value} {below : List Frame} {meth : Method} {c : Code} {G : gG} {A : Nat → Prop} {K28 : Nat → Option Nat → Int32 → NM → Prop} {K41 : Nat → Option Nat → Int32 → Int32 → Int32 → NM → Prop} {post : Unit → NM → Prop} (X : cX G A RX0 p s m args c cX0_laysUnlike 6) (hr : meth.sig.returnType = none) (hlk : meth.locks = false) (hK28 : ∀ (x0 : Nat) (x1 : Option Nat) (x2 : Int32) (N : NM) (H : Heap) (locs : List Loc) (ls : Array Slot), K28 x0 x1 x2 N → cH G A s [] N H locs → lv_has ls 6 [(0, .ref x0), (1, va_rf x1), (2, .int x2)] → W p l e ⟨2, 0, 0, 60⟩ s m args below meth c H locs 0 0 (MQ below (gQ vV post (fun u H => cBw G A (jW u).1 (jW u).2 H) A) args s 0 0 A) (F0 m 28 ls [])) (hK41 : ∀ (x0 : Nat) (x1 : Option Nat) (x2 : Int32) (x3 : Int32) (x4 : Int32) (N : NM) (H : Heap) (locs : List Loc) (ls : Array Slot), K41 x0 x1 x2 x3 x4 N → cH G A s [] N H locs → lv_has ls 6 [(0, .ref x0), (1, va_rf x1), (2, .int x2), (3, .int x3), (4, .int x4)] → W p l e ⟨2, 0, 0, 60⟩ s m args below meth c H locs 0 0 (MQ below (gQ vV post (fun u H => cBw G A (jW u).1 (jW u).2 H) A) args s 0 0 A) (F0 m 41 ls [])) : ∀ (x0 : Nat) (x1 : Option Nat) (x2 : Int32) (x4 : Int32) (v0 : Int32) (v1 : Int32) (N : NM) (H : Heap) (locs : List Loc) (ls : Array Slot), wX0_laysUnlike_82 (gC G) K28 K41 post x0 x1 x2 x4 v0 v1 N → cH G A s [] N H locs → lv_has ls 6 [(0, .ref x0), (1, va_rf x1), (2, .int x2), (4, .int x4)] → W p l e ⟨2, 0, 0, 60⟩ s m args below meth c H locs 0 0 (MQ below (gQ vV post (fun u H => cBw G A (jW u).1 (jW u).2 H) A) args s 0 0 A) (F0 m 82 ls [.int v0, .int v1]) := by
  have hx := X.1.1
  have hb := X.1.2.1
  have hml := X.1.2.2.1
  have hown := X.1.2.2.2.1
  have hts := X.1.2.2.2.2
  intro x0 x1 x2 x4 v0 v1 N H locs ls h hw hl
  unfold wX0_laysUnlike_82 at h
  refine lv_iadd (pc := 82) hx hb dX0_laysUnlike_82 ?_
  refine lv_istore_n (pc := 83) (lv' := [(3, .int (v1 + v0)), (0, .ref x0), (1, va_rf x1), (2, .int x2), (4, .int x4)]) hx hb dX0_laysUnlike_83 rfl hl (by decide) rfl (fun ls hl => ?_)
  exact kX0_laysUnlike_84 X hr hlk hK28 hK41 _ _ _ _ _ _ _ _ _ h hw (lv_sub hl [1, 2, 3, 0, 4] rfl)
theorem kX0_laysUnlike_41 {p : Program} {l : Launch} {e : Env} {s : State} {m : MethodId} {args : Array Value} {below : List Frame} {meth : Method} {c : Code} {G : gG} {A : Nat → Prop} {K28 : Nat → Option Nat → Int32 → NM → Prop} {post : Unit → NM → Prop} (X : cX G A RX0 p s m args c cX0_laysUnlike 6) (hr : meth.sig.returnType = none) (hlk : meth.locks = false) (hK28 : ∀ (x0 : Nat) (x1 : Option Nat) (x2 : Int32) (N : NM) (H : Heap) (locs : List Loc) (ls : Array Slot), K28 x0 x1 x2 N → cH G A s [] N H locs → lv_has ls 6 [(0, .ref x0), (1, va_rf x1), (2, .int x2)] → W p l e ⟨2, 0, 0, 60⟩ s m args below meth c H locs 0 0 (MQ below (gQ vV post (fun u H => cBw G A (jW u).1 (jW u).2 H) A) args s 0 0 A) (F0 m 28 ls [])) : ∀ (n : Nat) (x0 : Nat) (x1 : Option Nat) (x2 : Int32) (x3 : Int32) (x4 : Int32) (N : NM) (H : Heap) (locs : List Loc) (ls : Array Slot), wX0_laysUnlike_41 (gC G) K28 post n x0 x1 x2 x3 x4 N → cH G A s [] N H locs → lv_has ls 6 [(0, .ref x0), (1, va_rf x1), (2, .int x2), (3, .int x3), (4, .int x4)] → W p l e ⟨2, 0, 0, 60⟩ s m args below meth c H locs 0 0 (MQ below (gQ vV post (fun u H => cBw G A (jW u).1 (jW u).2 H) A) args s 0 0 A) (F0 m 41 ls []) := by
  have hx := X.1.1
  have hb := X.1.2.1
  have hml := X.1.2.2.1
  have hown := X.1.2.2.2.1
  have hts := X.1.2.2.2.2
  intro n
  induction n with
  | zero =>
    intro x0 x1 x2 x3 x4 N H locs ls h
    exact False.elim h
  | succ n ih =>
    intro x0 x1 x2 x3 x4 N H locs ls h hw hl
    unfold wX0_laysUnlike_41 at h
    refine lv_iload (pc := 41) hx hb dX0_laysUnlike_41 (lv_at hl 4 rfl) ?_
    refine lq_aload_n (pc := 43) hx hb dX0_laysUnlike_43 rfl (lv_at hl 1 rfl) ?_
    obtain ⟨a75, hr76, h⟩ := h
    refine W.eq (g2 := F0 m 44 ls [.ref a75, .int x4]) (by rw [hr76]; rfl) ?_
    obtain ⟨f80, hN79, h⟩ := h
    refine c_callJ (pc := 44) (val := vI) X hw (va_runV (C := RX6) (As := []) (rest := [.int x4]) X.1 (tX6_many X.2.2.1 (sz := H.size) h) (cwV 0 hts (lw_V q890 q891 q892 q129 q893) rfl rfl rfl ⟨rfl, by decide, by decide, (by decide +kernel : (parseMethodDescriptor yX6_many.desc).map (fun d => d.parameters.length) = some 0)⟩ ⟨Nat.le_of_ble_eq_true rfl, Nat.le_of_ble_eq_true rfl⟩) ⟨cPre_blind, c_recv X hw hN79 rfl, fun U hU hW => ⟨rfl, X.preJ hw hU hW⟩⟩ rfl rfl hl.1 rfl (lv_room (Nat.le_of_ble_eq_true rfl)) dX0_laysUnlike_44 ⟨show 0 + 0 ≤ 0 by omega, show 0 + 0 ≤ 0 by omega⟩) (fun r77 N78 H locs h hw => ?_)
    refine W.eq (g2 := F0 m 47 ls (.int r77 :: [.int x4])) rfl ?_
    refine lv_icmp_ge (pc := 47) (tgt := 90) hx hb dX0_laysUnlike_47 rfl (fun c81 => ?_) (fun c81 => ?_)
    · have h := h.1 c81
      refine lv_iload_n (pc := 90) hx hb dX0_laysUnlike_90 rfl (lv_at hl 3 rfl) ?_
      refine lv_iconst (pc := 91) (v := (5 : Int32)) hx hb dX0_laysUnlike_91 (by decide) ?_
      refine lv_icmp_le (pc := 92) (tgt := 98) hx hb dX0_laysUnlike_92 rfl (fun c82 => ?_) (fun c82 => ?_)
      · have h := h.1 c82
        refine lv_iconst (pc := 98) (v := (1 : Int32)) hx hb dX0_laysUnlike_98 (by decide) ?_
        refine lv_istore (pc := 99) (lv' := [(4, .int (1 : Int32)), (0, .ref x0), (1, va_rf x1), (2, .int x2), (3, .int x3)]) hx hb dX0_laysUnlike_99 hl (by decide) rfl (fun ls hl => ?_)
        obtain ⟨k, h⟩ := h
        exact kX0_laysUnlike_101 X hr hlk hK28 k _ _ _ _ _ _ _ _ _ h hw (lv_sub hl [1, 2, 3, 4, 0] rfl)
      · have h := h.2 c82
        refine lv_goto (pc := 95) (tgt := 222) hx hb dX0_laysUnlike_95 rfl ?_
        exact kX0_laysUnlike_222 X hr hlk hK28 _ _ _ _ _ _ _ h hw (lv_sub hl [0, 1, 2] rfl)
    · have h := h.2 c81
      refine lq_aload_n (pc := 50) hx hb dX0_laysUnlike_50 rfl (lv_at hl 1 rfl) ?_
      refine W.eq (g2 := F0 m 51 ls [.ref a75]) (by rw [hr76]; rfl) ?_
      obtain ⟨f252, hN251, h⟩ := h
      refine c_getN (pc := 51) X hw hN251 in_X6 rfl 0 (by decide) q885 rfl rfl dX0_laysUnlike_51 ?_
      refine lv_iload (pc := 54) hx hb dX0_laysUnlike_54 (lv_at hl 4 rfl) ?_
      obtain ⟨a253, hr254, h⟩ := h
      refine W.eq (g2 := F0 m 56 ls [.int x4, .ref a253]) (by rw [hr254]; rfl) ?_
      obtain ⟨n256, f257, hN255, h⟩ := h
      obtain ⟨hi, h⟩ := h
      refine c_aald (pc := 56) X hw 5 hN255 rfl hi dX0_laysUnlike_56 ?_
      refine lq_aload_n (pc := 57) hx hb dX0_laysUnlike_57 rfl (lv_at hl 1 rfl) ?_
      refine W.eq (g2 := F0 m 58 ls [.ref a75, va_rf (f257 x4.toNatClampNeg)]) (by rw [hr76]; rfl) ?_
      refine c_getN (pc := 58) X hw hN251 in_X6 rfl 0 (by decide) q885 rfl rfl dX0_laysUnlike_58 ?_
      refine lv_iload_n (pc := 61) hx hb dX0_laysUnlike_61 rfl (lv_at hl 2 rfl) ?_
      refine W.eq (g2 := F0 m 62 ls [.int x2, .ref a253, va_rf (f257 x4.toNatClampNeg)]) (by rw [hr254]; rfl) ?_
      obtain ⟨hi, h⟩ := h
      refine c_aald (pc := 62) X hw 5 hN255 rfl hi dX0_laysUnlike_62 ?_
      obtain ⟨a258, hr259, h⟩ := h
      refine W.eq (g2 := F0 m 63 ls [va_rf (f257 x2.toNatClampNeg), .ref a258]) (by rw [hr259]; rfl) ?_
      obtain ⟨f263, f264, f265, f266, hN262, h⟩ := h
      refine c_callJ (pc := 63) (val := vI) X hw (va_runV (C := RX4) (As := [va_rf (f257 x2.toNatClampNeg)]) (rest := []) X.1 (tX4_isLike X.2.2.1 (sz := H.size) h) (cwV 1 hts (lw_V q1570 q1571 q1572 q126 q1573) rfl rfl rfl ⟨rfl, by decide, by decide, (by decide +kernel : (parseMethodDescriptor yX4_isLike.desc).map (fun d => d.parameters.length) = some 1)⟩ ⟨Nat.le_of_ble_eq_true rfl, Nat.le_of_ble_eq_true rfl⟩) ⟨cPre_blind, c_recv X hw hN262 rfl, fun U hU hW => ⟨rfl, X.preJ hw hU hW⟩⟩ rfl rfl hl.1 rfl (lv_room (Nat.le_of_ble_eq_true rfl)) dX0_laysUnlike_63 ⟨show 0 + 0 ≤ 0 by omega, show 0 + 0 ≤ 0 by omega⟩) (fun r260 N261 H locs h hw => ?_)
      refine W.eq (g2 := F0 m 66 ls (.int r260 :: [])) rfl ?_
      refine lv_if_eq (pc := 66) (tgt := 84) hx hb dX0_laysUnlike_66 rfl (fun c267 => ?_) (fun c267 => ?_)
      · have h := h.1 c267
        exact kX0_laysUnlike_84 X hr hlk hK28 ih _ _ _ _ _ _ _ _ _ h hw (lv_sub hl [0, 1, 2, 3, 4] rfl)
      · have h := h.2 c267
        refine lv_iload_n (pc := 69) hx hb dX0_laysUnlike_69 rfl (lv_at hl 3 rfl) ?_
        refine lv_iload (pc := 70) hx hb dX0_laysUnlike_70 (lv_at hl 4 rfl) ?_
        refine lv_iload_n (pc := 72) hx hb dX0_laysUnlike_72 rfl (lv_at hl 2 rfl) ?_
        refine lv_icmp_ge (pc := 73) (tgt := 81) hx hb dX0_laysUnlike_73 rfl (fun c268 => ?_) (fun c268 => ?_)
        · have h := h.1 c268
          refine lv_iconst (pc := 81) (v := (1 : Int32)) hx hb dX0_laysUnlike_81 (by decide) ?_
          exact kX0_laysUnlike_82 X hr hlk hK28 ih _ _ _ _ _ _ _ _ _ _ h hw (lv_sub hl [0, 1, 2, 4] rfl)
        · have h := h.2 c268
          refine lv_bipush (pc := 76) (v := (6 : Int32)) hx hb dX0_laysUnlike_76 (by decide) ?_
          refine lv_goto (pc := 78) (tgt := 82) hx hb dX0_laysUnlike_78 rfl ?_
          exact kX0_laysUnlike_82 X hr hlk hK28 ih _ _ _ _ _ _ _ _ _ _ h hw (lv_sub hl [0, 1, 2, 4] rfl)
theorem kX0_laysUnlike_28 {p : Program} {l : Launch} {e : Env} {s : State} {m : MethodId} {args : Array Value} {below : List Frame} {meth : Method} {c : Code} {G : gG} {A : Nat → Prop} {post : Unit → NM → Prop} (X : cX G A RX0 p s m args c cX0_laysUnlike 6) (hr : meth.sig.returnType = none) (hlk : meth.locks = false) : ∀ (n : Nat) (x0 : Nat) (x1 : Option Nat) (x2 : Int32) (N : NM) (H : Heap) (locs : List Loc) (ls : Array Slot), wX0_laysUnlike_28 (gC G) post n x0 x1 x2 N → cH G A s [] N H locs → lv_has ls 6 [(0, .ref x0), (1, va_rf x1), (2, .int x2)] → W p l e ⟨2, 0, 0, 60⟩ s m args below meth c H locs 0 0 (MQ below (gQ vV post (fun u H => cBw G A (jW u).1 (jW u).2 H) A) args s 0 0 A) (F0 m 28 ls []) := by
  have hx := X.1.1
  have hb := X.1.2.1
  have hml := X.1.2.2.1
  have hown := X.1.2.2.2.1
  have hts := X.1.2.2.2.2
  intro n
  induction n with
  | zero =>
    intro x0 x1 x2 N H locs ls h
    exact False.elim h
  | succ n ih =>
    intro x0 x1 x2 N H locs ls h hw hl
    unfold wX0_laysUnlike_28 at h
    refine lv_iload_n (pc := 28) hx hb dX0_laysUnlike_28 rfl (lv_at hl 2 rfl) ?_
    refine lq_aload_n (pc := 29) hx hb dX0_laysUnlike_29 rfl (lv_at hl 1 rfl) ?_
    obtain ⟨a68, hr69, h⟩ := h
    refine W.eq (g2 := F0 m 30 ls [.ref a68, .int x2]) (by rw [hr69]; rfl) ?_
    obtain ⟨f73, hN72, h⟩ := h
    refine c_callJ (pc := 30) (val := vI) X hw (va_runV (C := RX6) (As := []) (rest := [.int x2]) X.1 (tX6_many X.2.2.1 (sz := H.size) h) (cwV 0 hts (lw_V q890 q891 q892 q129 q893) rfl rfl rfl ⟨rfl, by decide, by decide, (by decide +kernel : (parseMethodDescriptor yX6_many.desc).map (fun d => d.parameters.length) = some 0)⟩ ⟨Nat.le_of_ble_eq_true rfl, Nat.le_of_ble_eq_true rfl⟩) ⟨cPre_blind, c_recv X hw hN72 rfl, fun U hU hW => ⟨rfl, X.preJ hw hU hW⟩⟩ rfl rfl hl.1 rfl (lv_room (Nat.le_of_ble_eq_true rfl)) dX0_laysUnlike_30 ⟨show 0 + 0 ≤ 0 by omega, show 0 + 0 ≤ 0 by omega⟩) (fun r70 N71 H locs h hw => ?_)
    refine W.eq (g2 := F0 m 33 ls (.int r70 :: [.int x2])) rfl ?_
    refine lv_icmp_ge (pc := 33) (tgt := 228) hx hb dX0_laysUnlike_33 rfl (fun c74 => ?_) (fun c74 => ?_)
    · have h := h.1 c74
      exact W.vret (pc := 228) hx hb hr (fun t ht hW => c_ret (val := vV) (lw := jW) (u := N71) (v := ()) hw h ht) hw.2.2.2 dX0_laysUnlike_228 hlk
    · have h := h.2 c74
      refine lv_iconst (pc := 36) (v := (0 : Int32)) hx hb dX0_laysUnlike_36 (by decide) ?_
      refine lv_istore_n (pc := 37) (lv' := [(3, .int (0 : Int32)), (0, .ref x0), (1, va_rf x1), (2, .int x2)]) hx hb dX0_laysUnlike_37 rfl hl (by decide) rfl (fun ls hl => ?_)
      refine lv_iconst (pc := 38) (v := (0 : Int32)) hx hb dX0_laysUnlike_38 (by decide) ?_
      refine lv_istore (pc := 39) (lv' := [(4, .int (0 : Int32)), (3, .int (0 : Int32)), (0, .ref x0), (1, va_rf x1), (2, .int x2)]) hx hb dX0_laysUnlike_39 hl (by decide) rfl (fun ls hl => ?_)
      obtain ⟨k, h⟩ := h
      exact kX0_laysUnlike_41 X hr hlk ih k _ _ _ _ _ _ _ _ _ h hw (lv_sub hl [2, 3, 4, 1, 0] rfl)
theorem tX0_laysUnlike {l : Launch} {G : gG} (hO : gOk G) {post : Unit → NM → Prop} {N : NM} {x0 : Nat} {x1 : Option Nat} {sz : Nat} (h : wX0_laysUnlike (gC G) post N x0 x1) : Met l yX0_laysUnlike (ws_ yX0_laysUnlike cX0_laysUnlike 6 none) ⟨2, 0, 0, 60⟩ (va_Pc [.ref x0, va_rf x1] (cPre G [] N sz)) (gQ vV post (fun u H => cBw G (cA [] N sz) (jW u).1 (jW u).2 H) (cA [] N sz)) 0 0 (cA [] N sz) := by
  refine c_ofW (lw := jW) (by decide) hO (by cases x1 <;> exact Nat.le_of_ble_eq_true rfl) (fun p e s m below meth c ls A X hr hlk hin hw hl => ?_)
  have hl : lv_has ls 6 [(0, .ref x0), (1, va_rf x1)] := by cases x1 <;> exact hl
  have hx := X.1.1
  have hb := X.1.2.1
  have hml := X.1.2.2.1
  have hown := X.1.2.2.2.1
  have hts := X.1.2.2.2.2
  obtain ⟨H, eH⟩ : ∃ z, z = s.heap := ⟨_, rfl⟩
  rw [← eH] at hw ⊢
  obtain ⟨locs, eLo⟩ : ∃ z : List Loc, z = [] := ⟨_, rfl⟩
  rw [← eLo] at hw ⊢
  unfold wX0_laysUnlike at h
  refine lv_aload_n (pc := 0) hx hb dX0_laysUnlike_0 rfl (lv_at hl 0 rfl) ?_
  refine lq_aload_n (pc := 1) hx hb dX0_laysUnlike_1 rfl (lv_at hl 1 rfl) ?_
  obtain ⟨f2, f3, f4, f5, f6, f7, f8, f9, f10, f11, f12, f13, f14, f15, f16, f17, f18, f19, f20, hN1, h⟩ := h
  refine c_put (pc := 2) (v := va_rf x1) X hw hN1 in_X0 tyX0 tyX0_ok nmX0 rfl 6 (by decide) q217 rfl rfl rfl (rf_n x1 _) (rf_f x1 _) (Nat.le_of_ble_eq_true rfl) dX0_laysUnlike_2 (fun H locs hw => ?_)
  obtain ⟨N21, e22⟩ : ∃ z, z = va_up N x0 (some (eO 1 [va_rf f2, va_rf f3, va_rf f4, va_rf f5, va_rf f6, va_rf f7, va_rf x1, va_rf f9, va_rf f10, .int f11, .int f12, va_rf f13, va_rf f14, .int f15, va_rf f16, va_rf f17, va_rf f18, va_rf f19, va_rf f20])) := ⟨_, rfl⟩
  have hw : cH G A s [] N21 H locs := by rw [e22]; exact hw
  have h := h N21 e22
  have hN23 : N21 x0 = some (eO 1 [va_rf f2, va_rf f3, va_rf f4, va_rf f5, va_rf f6, va_rf f7, va_rf x1, va_rf f9, va_rf f10, .int f11, .int f12, va_rf f13, va_rf f14, .int f15, va_rf f16, va_rf f17, va_rf f18, va_rf f19, va_rf f20]) := by rw [e22]; exact up_s
  refine lv_aload_n (pc := 5) hx hb dX0_laysUnlike_5 rfl (lv_at hl 0 rfl) ?_
  refine c_get (pc := 6) X hw hN23 in_X0 rfl 4 (by decide) q215 rfl rfl dX0_laysUnlike_6 ?_
  refine lv_iconst (pc := 9) (v := (0 : Int32)) hx hb dX0_laysUnlike_9 (by decide) ?_
  obtain ⟨a24, hr25, h⟩ := h
  refine W.eq (g2 := F0 m 10 ls [.int (0 : Int32), .ref a24]) (by rw [hr25]; rfl) ?_
  obtain ⟨n27, f28, hN26, h⟩ := h
  obtain ⟨hi, h⟩ := h
  refine c_aaldT (pc := 10) X hw 6 hN26 rfl hi dX0_laysUnlike_10 ?_
  refine lv_lconst (pc := 11) (v := (0 : Int64)) hx hb dX0_laysUnlike_11 (by decide) ?_
  obtain ⟨a29, hr30, h⟩ := h
  refine W.eq (g2 := F0 m 12 ls [.long (0 : Int64), .ref a29]) (by rw [hr30]; rfl) ?_
  refine c_callJ (pc := 12) (val := vV) X hw (va_runS (g := F0 m 12 ls _) (As := [.ref a29, .long (0 : Int64)]) (rest := []) X.1 (tJ15_fill X.2.2.1 (sz := H.size) h) (va_cwS 2 hts (lw_S q1380 q1381 q122 q1382) rfl rfl rfl ⟨by decide, by decide, (by decide +kernel : (parseMethodDescriptor yJ15_fill.desc).map (fun d => d.parameters.length) = some 2)⟩ ⟨Nat.le_of_ble_eq_true rfl, Nat.le_of_ble_eq_true rfl⟩) ⟨cPre_blind, fun U hU hW => ⟨rfl, X.preJ hw hU hW⟩⟩ rfl rfl hl.1 rfl (lv_room (Nat.le_of_ble_eq_true rfl)) dX0_laysUnlike_12 ⟨show 0 + 0 ≤ 0 by omega, show 0 + 0 ≤ 0 by omega⟩) (fun _ N32 H locs h hw => ?_)
  refine W.eq (g2 := F0 m 15 ls ([])) rfl ?_
  refine lv_aload_n (pc := 15) hx hb dX0_laysUnlike_15 rfl (lv_at hl 0 rfl) ?_
  obtain ⟨f34, f35, f36, f37, f38, f39, f40, f41, f42, f43, f44, f45, f46, f47, f48, f49, f50, f51, f52, hN33, h⟩ := h
  refine c_get (pc := 16) X hw hN33 in_X0 rfl 4 (by decide) q215 rfl rfl dX0_laysUnlike_16 ?_
  refine lv_iconst (pc := 19) (v := (0 : Int32)) hx hb dX0_laysUnlike_19 (by decide) ?_
  obtain ⟨a53, hr54, h⟩ := h
  refine W.eq (g2 := F0 m 20 ls [.int (0 : Int32), .ref a53]) (by rw [hr54]; rfl) ?_
  obtain ⟨n56, f57, hN55, h⟩ := h
  obtain ⟨hi, h⟩ := h
  refine c_aaldT (pc := 20) X hw 6 hN55 rfl hi dX0_laysUnlike_20 ?_
  refine lv_sipush (pc := 21) (v := (15000 : Int32)) hx hb dX0_laysUnlike_21 (by decide) ?_
  refine lv_lconst (pc := 24) (v := (1 : Int64)) hx hb dX0_laysUnlike_24 (by decide) ?_
  obtain ⟨a58, hr59, h⟩ := h
  refine W.eq (g2 := F0 m 25 ls [.long (1 : Int64), .int (15000 : Int32), .ref a58]) (by rw [hr59]; rfl) ?_
  obtain ⟨n61, f62, hN60, h⟩ := h
  obtain ⟨hi, h⟩ := h
  refine c_last (pc := 25) X hw hN60 hi dX0_laysUnlike_25 (fun H locs hw => ?_)
  obtain ⟨N63, e64⟩ : ∃ z, z = va_up N32 a58 (some (eL 1 n61 (vp_updL f62 (15000 : Int32).toNatClampNeg (1 : Int64)))) := ⟨_, rfl⟩
  have hw : cH G A s [] N63 H locs := by rw [e64]; exact hw
  have h := h N63 e64
  have hN65 : N63 a58 = some (eL 1 n61 (vp_updL f62 (15000 : Int32).toNatClampNeg (1 : Int64))) := by rw [e64]; exact up_s
  have hN66 := up_k (x := some (eL 1 n61 (vp_updL f62 (15000 : Int32).toNatClampNeg (1 : Int64)))) hN60 hN33 (show (3 : Nat) ≠ 2 by decide)
  rw [← e64] at hN66
  have hN67 := up_k (x := some (eL 1 n61 (vp_updL f62 (15000 : Int32).toNatClampNeg (1 : Int64)))) hN60 hN55 (show (3 : Nat) ≠ 13 by decide)
  rw [← e64] at hN67
  refine lv_iconst (pc := 26) (v := (0 : Int32)) hx hb dX0_laysUnlike_26 (by decide) ?_
  refine lv_istore_n (pc := 27) (i := 2) (lv' := [(2, .int (0 : Int32)), (0, .ref x0), (1, va_rf x1)]) hx hb dX0_laysUnlike_27 rfl hl (by decide) (by simp [rf_c]) (fun ls hl => ?_)
  obtain ⟨k, h⟩ := h
  exact kX0_laysUnlike_28 X hr hlk  k _ _ _ _ _ _ _ h hw (lv_sub hl [1, 2, 0] rfl)

def wX0_laysClasses_79 (K : Nat → Nat → Nat) (K27 : Nat → Int32 → Option Nat → Int32 → Int32 → NM → Prop) (K51 : Nat → Int32 → Option Nat → Int32 → Int32 → Option Nat → Int32 → NM → Prop) (post : Unit → NM → Prop) : Nat → Nat → Int32 → Option Nat → Int32 → Int32 → Option Nat → Int32 → Int32 → Int32 → NM → Prop
  | 0, _, _, _, _, _, _, _, _, _, _ => False
  | n + 1, x0, x2, x3, x4, x5, x6, x7, x8, x9, N => ((x2 ≤ x9) → (K51 x0 x2 x3 x4 x5 x6 (x7 + (1 : Int32)) N)) ∧ (¬ (x2 ≤ x9) → (∃ f158 f159 f160 f161 f162 f163 f164 f165 f166 f167 f168 f169 f170 f171 f172 f173 f174 f175 f176, N x0 = some (eO 1 [va_rf f158, va_rf f159, va_rf f160, va_rf f161, va_rf f162, va_rf f163, va_rf f164, va_rf f165, va_rf f166, .int f167, .int f168, va_rf f169, va_rf f170, .int f171, va_rf f172, va_rf f173, va_rf f174, va_rf f175, va_rf f176]) ∧ (¬ x2 = 0 ∧ (∃ a177, f173 = some a177 ∧ (∃ n180 f181, N a177 = some (eL 1 n180 f181) ∧ (vp_in ((x9 + x8) - (x9 + x8) / x2 * x2) n180 ∧ (∃ a182, f172 = some a182 ∧ (∃ n185 f186, N a182 = some (eL 1 n185 f186) ∧ (vp_in x9 n185 ∧ (vp_in ((x9 + x8) - (x9 + x8) / x2 * x2) n180 ∧ (∀ N187, N187 = va_up N a177 (some (eL 1 n180 (vp_updL f181 ((x9 + x8) - (x9 + x8) / x2 * x2).toNatClampNeg ((f181 ((x9 + x8) - (x9 + x8) / x2 * x2).toNatClampNeg) + (f186 x9.toNatClampNeg))))) → (wX0_laysClasses_79 K K27 K51 post n x0 x2 x3 x4 x5 x6 x7 x8 (x9 + (1 : Int32)) N187))))))))))))
def wX0_laysClasses_51 (K : Nat → Nat → Nat) (K27 : Nat → Int32 → Option Nat → Int32 → Int32 → NM → Prop) (post : Unit → NM → Prop) : Nat → Nat → Int32 → Option Nat → Int32 → Int32 → Option Nat → Int32 → NM → Prop
  | 0, _, _, _, _, _, _, _, _ => False
  | n + 1, x0, x2, x3, x4, x5, x6, x7, N => ∃ a93, x6 = some a93 ∧ (∃ f98 f99 f100 f101, N a93 = some (eO 6 [.int f98, .int f99, .int f100, va_rf f101]) ∧ (wX4_rounds K (fun r95 N96 => ((r95 ≤ x7) → (∃ f104 f105 f106 f107 f108 f109 f110 f111 f112 f113 f114 f115 f116 f117 f118 f119 f120 f121 f122, N96 x0 = some (eO 1 [va_rf f104, va_rf f105, va_rf f106, va_rf f107, va_rf f108, va_rf f109, va_rf f110, va_rf f111, va_rf f112, .int f113, .int f114, va_rf f115, va_rf f116, .int f117, va_rf f118, va_rf f119, va_rf f120, va_rf f121, va_rf f122]) ∧ (∃ a123, f118 = some a123 ∧ (∃ a125, f119 = some a125 ∧ (∃ n128 f129, N96 a123 = some (eL 1 n128 f129) ∧ (∃ n137 f138, N96 a125 = some (eL 1 n137 f138) ∧ (¬ (0 : Int32) < 0 ∧ ¬ (0 : Int32) < 0 ∧ ¬ (60 : Int32) < 0 ∧ (0 : Int32).toNatClampNeg + (60 : Int32).toNatClampNeg ≤ n137 ∧ (0 : Int32).toNatClampNeg + (60 : Int32).toNatClampNeg ≤ n128 ∧ (∀ N145, N145 = va_up N96 a123 (some (eL 1 n128 (va_cpy f138 f129 (0 : Int32).toNatClampNeg (0 : Int32).toNatClampNeg (60 : Int32).toNatClampNeg))) → (K27 x0 x2 x3 x4 (x5 + (1 : Int32)) N145))))))))) ∧ (¬ (r95 ≤ x7) → (∃ f152 f153 f154 f155, N96 a93 = some (eO 6 [.int f152, .int f153, .int f154, va_rf f155]) ∧ (wX4_value K (fun r149 N150 => ¬ x2.toInt64 = 0 ∧ ((∃ k, wX0_laysClasses_79 K K27 (fun x0 x2 x3 x4 x5 x6 x7 N => wX0_laysClasses_51 K K27 post n x0 x2 x3 x4 x5 x6 x7 N) post k x0 x2 x3 x4 x5 x6 x7 ((r149 - r149 / x2.toInt64 * x2.toInt64).toInt32) (0 : Int32) N150))) N96 a93 x7.toInt64)))) N a93 x2))
def wX0_laysClasses_27 (K : Nat → Nat → Nat) (post : Unit → NM → Prop) : Nat → Nat → Int32 → Option Nat → Int32 → Int32 → NM → Prop
  | 0, _, _, _, _, _, _ => False
  | n + 1, x0, x2, x3, x4, x5, N => ((x4 ≤ x5) → (post () N)) ∧ (¬ (x4 ≤ x5) → (∃ a64, x3 = some a64 ∧ (∃ n67 f68, N a64 = some (eR 5 n67 f68) ∧ (vp_in x5 n67 ∧ (∃ f70 f71 f72 f73 f74 f75 f76 f77 f78 f79 f80 f81 f82 f83 f84 f85 f86 f87 f88, N x0 = some (eO 1 [va_rf f70, va_rf f71, va_rf f72, va_rf f73, va_rf f74, va_rf f75, va_rf f76, va_rf f77, va_rf f78, .int f79, .int f80, va_rf f81, va_rf f82, .int f83, va_rf f84, va_rf f85, va_rf f86, va_rf f87, va_rf f88]) ∧ (∃ a89, f85 = some a89 ∧ (wJ15_fill K (fun _ N92 => (∃ k, wX0_laysClasses_51 K (fun x0 x2 x3 x4 x5 N => wX0_laysClasses_27 K post n x0 x2 x3 x4 x5 N) post k x0 x2 x3 x4 x5 (f68 x5.toNatClampNeg) (0 : Int32) N92)) N a89 (0 : Int64))))))))
def wX0_laysClasses (K : Nat → Nat → Nat) (post : Unit → NM → Prop) (N : NM) (x0 : Nat) (x1 : Option Nat) (x2 : Int32) : Prop :=
  ∃ f2 f3 f4 f5 f6 f7 f8 f9 f10 f11 f12 f13 f14 f15 f16 f17 f18 f19 f20, N x0 = some (eO 1 [va_rf f2, va_rf f3, va_rf f4, va_rf f5, va_rf f6, va_rf f7, va_rf f8, va_rf f9, va_rf f10, .int f11, .int f12, va_rf f13, va_rf f14, .int f15, va_rf f16, va_rf f17, va_rf f18, va_rf f19, va_rf f20]) ∧ (∃ a21, f16 = some a21 ∧ (wJ15_fill K (fun _ N24 => ∃ f26 f27 f28 f29 f30 f31 f32 f33 f34 f35 f36 f37 f38 f39 f40 f41 f42 f43 f44, N24 x0 = some (eO 1 [va_rf f26, va_rf f27, va_rf f28, va_rf f29, va_rf f30, va_rf f31, va_rf f32, va_rf f33, va_rf f34, .int f35, .int f36, va_rf f37, va_rf f38, .int f39, va_rf f40, va_rf f41, va_rf f42, va_rf f43, va_rf f44]) ∧ (∃ a45, f40 = some a45 ∧ (∃ n48 f49, N24 a45 = some (eL 1 n48 f49) ∧ (vp_in (0 : Int32) n48 ∧ (∀ N50, N50 = va_up N24 a45 (some (eL 1 n48 (vp_updL f49 (0 : Int32).toNatClampNeg (1 : Int64)))) → (∃ a54, x1 = some a54 ∧ (∃ f57, N50 a54 = some (eO 7 [va_rf f57]) ∧ (∃ a58, f57 = some a58 ∧ (∃ n61 f62, N50 a58 = some (eR 5 n61 f62) ∧ ((∃ k, wX0_laysClasses_27 K post k x0 x2 f57 (nI n61) (0 : Int32) N50))))))))))) N a21 (0 : Int64)))
theorem kX0_laysClasses_79 {p : Program} {l : Launch} {e : Env} {s : State} {m : MethodId} {args : Array Value} {below : List Frame} {meth : Method} {c : Code} {G : gG} {A : Nat → Prop} {K27 : Nat → Int32 → Option Nat → Int32 → Int32 → NM → Prop} {K51 : Nat → Int32 → Option Nat → Int32 → Int32 → Option Nat → Int32 → NM → Prop} {post : Unit → NM → Prop} (X : cX G A RX0 p s m args c cX0_laysClasses 10) (hr : meth.sig.returnType = none) (hlk : meth.locks = false) (hK27 : ∀ (x0 : Nat) (x2 : Int32) (x3 : Option Nat) (x4 : Int32) (x5 : Int32) (N : NM) (H : Heap) (locs : List Loc) (ls : Array Slot), K27 x0 x2 x3 x4 x5 N → cH G A s [] N H locs → lv_has ls 10 [(0, .ref x0), (2, .int x2), (3, va_rf x3), (4, .int x4), (5, .int x5)] → W p l e ⟨2, 0, 0, 60⟩ s m args below meth c H locs 0 0 (MQ below (gQ vV post (fun u H => cBw G A (jW u).1 (jW u).2 H) A) args s 0 0 A) (F0 m 27 ls [])) (hK51 : ∀ (x0 : Nat) (x2 : Int32) (x3 : Option Nat) (x4 : Int32) (x5 : Int32) (x6 : Option Nat) (x7 : Int32) (N : NM) (H : Heap) (locs : List Loc) (ls : Array Slot), K51 x0 x2 x3 x4 x5 x6 x7 N → cH G A s [] N H locs → lv_has ls 10 [(0, .ref x0), (2, .int x2), (3, va_rf x3), (4, .int x4), (5, .int x5), (6, va_rf x6), (7, .int x7)] → W p l e ⟨2, 0, 0, 60⟩ s m args below meth c H locs 0 0 (MQ below (gQ vV post (fun u H => cBw G A (jW u).1 (jW u).2 H) A) args s 0 0 A) (F0 m 51 ls [])) : ∀ (n : Nat) (x0 : Nat) (x2 : Int32) (x3 : Option Nat) (x4 : Int32) (x5 : Int32) (x6 : Option Nat) (x7 : Int32) (x8 : Int32) (x9 : Int32) (N : NM) (H : Heap) (locs : List Loc) (ls : Array Slot), wX0_laysClasses_79 (gC G) K27 K51 post n x0 x2 x3 x4 x5 x6 x7 x8 x9 N → cH G A s [] N H locs → lv_has ls 10 [(0, .ref x0), (2, .int x2), (3, va_rf x3), (4, .int x4), (5, .int x5), (6, va_rf x6), (7, .int x7), (8, .int x8), (9, .int x9)] → W p l e ⟨2, 0, 0, 60⟩ s m args below meth c H locs 0 0 (MQ below (gQ vV post (fun u H => cBw G A (jW u).1 (jW u).2 H) A) args s 0 0 A) (F0 m 79 ls []) := by
  have hx := X.1.1
  have hb := X.1.2.1
  have hml := X.1.2.2.1
  have hown := X.1.2.2.2.1
  have hts := X.1.2.2.2.2
  intro n
  induction n with
  | zero =>
    intro x0 x2 x3 x4 x5 x6 x7 x8 x9 N H locs ls h
    exact False.elim h
  | succ n ih =>
    intro x0 x2 x3 x4 x5 x6 x7 x8 x9 N H locs ls h hw hl
    unfold wX0_laysClasses_79 at h
    refine lv_iload (pc := 79) hx hb dX0_laysClasses_79 (lv_at hl 8 rfl) ?_
    refine lv_iload_n (pc := 81) hx hb dX0_laysClasses_81 rfl (lv_at hl 1 rfl) ?_
    refine lv_icmp_ge (pc := 82) (tgt := 113) hx hb dX0_laysClasses_82 rfl (fun c156 => ?_) (fun c156 => ?_)
    · have h := h.1 c156
      refine lv_iinc (pc := 113) (v := x7 + (1 : Int32)) (lv' := [(7, .int (x7 + (1 : Int32))), (0, .ref x0), (2, .int x2), (3, va_rf x3), (4, .int x4), (5, .int x5), (6, va_rf x6), (8, .int x8), (9, .int x9)]) hx hb dX0_laysClasses_113 hl (k := 6) rfl rfl (by decide) (by simp [rf_c]) (fun ls hl => ?_)
      refine lv_goto (pc := 116) (tgt := 51) hx hb dX0_laysClasses_116 rfl ?_
      exact hK51 _ _ _ _ _ _ _ _ _ _ _ h hw (lv_sub hl [1, 2, 3, 4, 5, 6, 0] rfl)
    · have h := h.2 c156
      refine lv_aload_n (pc := 85) hx hb dX0_laysClasses_85 rfl (lv_at hl 0 rfl) ?_
      obtain ⟨f158, f159, f160, f161, f162, f163, f164, f165, f166, f167, f168, f169, f170, f171, f172, f173, f174, f175, f176, hN157, h⟩ := h
      refine c_get (pc := 86) X hw hN157 in_X0 rfl 15 (by decide) q232 rfl rfl dX0_laysClasses_86 ?_
      refine lv_iload (pc := 89) hx hb dX0_laysClasses_89 (lv_at hl 8 rfl) ?_
      refine lv_iload (pc := 91) hx hb dX0_laysClasses_91 (lv_at hl 7 rfl) ?_
      refine lv_iadd (pc := 93) hx hb dX0_laysClasses_93 ?_
      refine lv_iload_n (pc := 94) hx hb dX0_laysClasses_94 rfl (lv_at hl 1 rfl) ?_
      obtain ⟨hne, h⟩ := h
      refine lv_irem (pc := 95) hx hb dX0_laysClasses_95 hne ?_
      refine lv_dup2_11 (pc := 96) hx hb dX0_laysClasses_96 rfl (rf_c _) ?_
      obtain ⟨a177, hr178, h⟩ := h
      refine W.eq (g2 := F0 m 97 ls [.int ((x9 + x8) - (x9 + x8) / x2 * x2), .ref a177, .int ((x9 + x8) - (x9 + x8) / x2 * x2), va_rf f173]) (by rw [hr178]; rfl) ?_
      obtain ⟨n180, f181, hN179, h⟩ := h
      obtain ⟨hi, h⟩ := h
      refine c_lald (pc := 97) X hw hN179 hi dX0_laysClasses_97 ?_
      refine lv_aload_n (pc := 98) hx hb dX0_laysClasses_98 rfl (lv_at hl 0 rfl) ?_
      refine c_get (pc := 99) X hw hN157 in_X0 rfl 14 (by decide) q231 rfl rfl dX0_laysClasses_99 ?_
      refine lv_iload (pc := 102) hx hb dX0_laysClasses_102 (lv_at hl 8 rfl) ?_
      obtain ⟨a182, hr183, h⟩ := h
      refine W.eq (g2 := F0 m 104 ls [.int x9, .ref a182, .long (f181 ((x9 + x8) - (x9 + x8) / x2 * x2).toNatClampNeg), .int ((x9 + x8) - (x9 + x8) / x2 * x2), va_rf f173]) (by rw [hr183]; rfl) ?_
      obtain ⟨n185, f186, hN184, h⟩ := h
      obtain ⟨hi, h⟩ := h
      refine c_lald (pc := 104) X hw hN184 hi dX0_laysClasses_104 ?_
      refine lv_ladd (pc := 105) hx hb dX0_laysClasses_105 ?_
      refine W.eq (g2 := F0 m 106 ls [.long ((f181 ((x9 + x8) - (x9 + x8) / x2 * x2).toNatClampNeg) + (f186 x9.toNatClampNeg)), .int ((x9 + x8) - (x9 + x8) / x2 * x2), .ref a177]) (by rw [hr178]; rfl) ?_
      obtain ⟨hi, h⟩ := h
      refine c_last (pc := 106) X hw hN179 hi dX0_laysClasses_106 (fun H locs hw => ?_)
      obtain ⟨N187, e188⟩ : ∃ z, z = va_up N a177 (some (eL 1 n180 (vp_updL f181 ((x9 + x8) - (x9 + x8) / x2 * x2).toNatClampNeg ((f181 ((x9 + x8) - (x9 + x8) / x2 * x2).toNatClampNeg) + (f186 x9.toNatClampNeg))))) := ⟨_, rfl⟩
      have hw : cH G A s [] N187 H locs := by rw [e188]; exact hw
      have h := h N187 e188
      have hN189 : N187 a177 = some (eL 1 n180 (vp_updL f181 ((x9 + x8) - (x9 + x8) / x2 * x2).toNatClampNeg ((f181 ((x9 + x8) - (x9 + x8) / x2 * x2).toNatClampNeg) + (f186 x9.toNatClampNeg)))) := by rw [e188]; exact up_s
      have hN190 := up_k (x := some (eL 1 n180 (vp_updL f181 ((x9 + x8) - (x9 + x8) / x2 * x2).toNatClampNeg ((f181 ((x9 + x8) - (x9 + x8) / x2 * x2).toNatClampNeg) + (f186 x9.toNatClampNeg))))) hN179 hN157 (show (3 : Nat) ≠ 2 by decide)
      rw [← e188] at hN190
      refine lv_iinc (pc := 107) (v := x9 + (1 : Int32)) (lv' := [(9, .int (x9 + (1 : Int32))), (0, .ref x0), (2, .int x2), (3, va_rf x3), (4, .int x4), (5, .int x5), (6, va_rf x6), (7, .int x7), (8, .int x8)]) hx hb dX0_laysClasses_107 hl (k := 8) rfl rfl (by decide) rfl (fun ls hl => ?_)
      refine lv_goto (pc := 110) (tgt := 79) hx hb dX0_laysClasses_110 rfl ?_
      exact ih _ _ _ _ _ _ _ _ _ _ _ _ _ h hw (lv_sub hl [1, 2, 3, 4, 5, 6, 7, 8, 0] rfl)
theorem kX0_laysClasses_51 {p : Program} {l : Launch} {e : Env} {s : State} {m : MethodId} {args : Array Value} {below : List Frame} {meth : Method} {c : Code} {G : gG} {A : Nat → Prop} {K27 : Nat → Int32 → Option Nat → Int32 → Int32 → NM → Prop} {post : Unit → NM → Prop} (X : cX G A RX0 p s m args c cX0_laysClasses 10) (hr : meth.sig.returnType = none) (hlk : meth.locks = false) (hK27 : ∀ (x0 : Nat) (x2 : Int32) (x3 : Option Nat) (x4 : Int32) (x5 : Int32) (N : NM) (H : Heap) (locs : List Loc) (ls : Array Slot), K27 x0 x2 x3 x4 x5 N → cH G A s [] N H locs → lv_has ls 10 [(0, .ref x0), (2, .int x2), (3, va_rf x3), (4, .int x4), (5, .int x5)] → W p l e ⟨2, 0, 0, 60⟩ s m args below meth c H locs 0 0 (MQ below (gQ vV post (fun u H => cBw G A (jW u).1 (jW u).2 H) A) args s 0 0 A) (F0 m 27 ls [])) : ∀ (n : Nat) (x0 : Nat) (x2 : Int32) (x3 : Option Nat) (x4 : Int32) (x5 : Int32) (x6 : Option Nat) (x7 : Int32) (N : NM) (H : Heap) (locs : List Loc) (ls : Array Slot), wX0_laysClasses_51 (gC G) K27 post n x0 x2 x3 x4 x5 x6 x7 N → cH G A s [] N H locs → lv_has ls 10 [(0, .ref x0), (2, .int x2), (3, va_rf x3), (4, .int x4), (5, .int x5), (6, va_rf x6), (7, .int x7)] → W p l e ⟨2, 0, 0, 60⟩ s m args below meth c H locs 0 0 (MQ below (gQ vV post (fun u H => cBw G A (jW u).1 (jW u).2 H) A) args s 0 0 A) (F0 m 51 ls []) := by
  have hx := X.1.1
  have hb := X.1.2.1
  have hml := X.1.2.2.1
  have hown := X.1.2.2.2.1
  have hts := X.1.2.2.2.2
  intro n
  induction n with
  | zero =>
    intro x0 x2 x3 x4 x5 x6 x7 N H locs ls h
    exact False.elim h
  | succ n ih =>
    intro x0 x2 x3 x4 x5 x6 x7 N H locs ls h hw hl
    unfold wX0_laysClasses_51 at h
    refine lv_iload (pc := 51) hx hb dX0_laysClasses_51 (lv_at hl 6 rfl) ?_
    refine lq_aload (pc := 53) hx hb dX0_laysClasses_53 (lv_at hl 5 rfl) ?_
    refine lv_iload_n (pc := 55) hx hb dX0_laysClasses_55 rfl (lv_at hl 1 rfl) ?_
    obtain ⟨a93, hr94, h⟩ := h
    refine W.eq (g2 := F0 m 56 ls [.int x2, .ref a93, .int x7]) (by rw [hr94]; rfl) ?_
    obtain ⟨f98, f99, f100, f101, hN97, h⟩ := h
    refine c_callJ (pc := 56) (val := vI) X hw (va_runV (C := RX4) (As := [.int x2]) (rest := [.int x7]) X.1 (tX4_rounds X.2.2.1 (sz := H.size) h) (cwV 1 hts (lw_V q1607 q1608 q1609 q126 q1610) rfl rfl rfl ⟨rfl, by decide, by decide, (by decide +kernel : (parseMethodDescriptor yX4_rounds.desc).map (fun d => d.parameters.length) = some 1)⟩ ⟨Nat.le_of_ble_eq_true rfl, Nat.le_of_ble_eq_true rfl⟩) ⟨cPre_blind, c_recv X hw hN97 rfl, fun U hU hW => ⟨rfl, X.preJ hw hU hW⟩⟩ rfl rfl hl.1 rfl (lv_room (Nat.le_of_ble_eq_true rfl)) dX0_laysClasses_56 ⟨show 0 + 0 ≤ 0 by omega, show 0 + 0 ≤ 0 by omega⟩) (fun r95 N96 H locs h hw => ?_)
    refine W.eq (g2 := F0 m 59 ls (.int r95 :: [.int x7])) rfl ?_
    refine lv_icmp_ge (pc := 59) (tgt := 119) hx hb dX0_laysClasses_59 rfl (fun c102 => ?_) (fun c102 => ?_)
    · have h := h.1 c102
      refine lv_aload_n (pc := 119) hx hb dX0_laysClasses_119 rfl (lv_at hl 0 rfl) ?_
      obtain ⟨f104, f105, f106, f107, f108, f109, f110, f111, f112, f113, f114, f115, f116, f117, f118, f119, f120, f121, f122, hN103, h⟩ := h
      refine c_get (pc := 120) X hw hN103 in_X0 rfl 15 (by decide) q232 rfl rfl dX0_laysClasses_120 ?_
      refine lv_iconst (pc := 123) (v := (0 : Int32)) hx hb dX0_laysClasses_123 (by decide) ?_
      refine lv_aload_n (pc := 124) hx hb dX0_laysClasses_124 rfl (lv_at hl 0 rfl) ?_
      refine c_get (pc := 125) X hw hN103 in_X0 rfl 14 (by decide) q231 rfl rfl dX0_laysClasses_125 ?_
      refine lv_iconst (pc := 128) (v := (0 : Int32)) hx hb dX0_laysClasses_128 (by decide) ?_
      refine lv_bipush (pc := 129) (v := (60 : Int32)) hx hb dX0_laysClasses_129 (by decide) ?_
      obtain ⟨a123, hr124, h⟩ := h
      refine W.eq (g2 := F0 m 131 ls [.int (60 : Int32), .int (0 : Int32), .ref a123, .int (0 : Int32), va_rf f119]) (by rw [hr124]; rfl) ?_
      obtain ⟨a125, hr126, h⟩ := h
      refine W.eq (g2 := F0 m 131 ls [.int (60 : Int32), .int (0 : Int32), .ref a123, .int (0 : Int32), .ref a125]) (by rw [hr126]; rfl) ?_
      obtain ⟨n128, f129, hN127, h⟩ := h
      obtain ⟨n137, f138, hN136, h⟩ := h
      obtain ⟨hm139, hm140, hm141, hm142, hm143, h⟩ := h
      refine c_copyl (pc := 131) (rest := []) X hw hl.1 q372 q374 q373 q112 hN136 hN127 hm139 hm140 hm141 hm142 hm143 (Nat.le_of_ble_eq_true rfl) (Nat.le_of_ble_eq_true rfl) dX0_laysClasses_131 (fun H locs hw => ?_)
      obtain ⟨N145, e146⟩ : ∃ z, z = va_up N96 a123 (some (eL 1 n128 (va_cpy f138 f129 (0 : Int32).toNatClampNeg (0 : Int32).toNatClampNeg (60 : Int32).toNatClampNeg))) := ⟨_, rfl⟩
      have hw : cH G A s [] N145 H locs := by rw [e146]; exact hw
      have h := h N145 e146
      have hN147 : N145 a123 = some (eL 1 n128 (va_cpy f138 f129 (0 : Int32).toNatClampNeg (0 : Int32).toNatClampNeg (60 : Int32).toNatClampNeg)) := by rw [e146]; exact up_s
      have hN148 := up_k (x := some (eL 1 n128 (va_cpy f138 f129 (0 : Int32).toNatClampNeg (0 : Int32).toNatClampNeg (60 : Int32).toNatClampNeg))) hN127 hN103 (show (3 : Nat) ≠ 2 by decide)
      rw [← e146] at hN148
      refine lv_iinc (pc := 134) (v := x5 + (1 : Int32)) (lv' := [(5, .int (x5 + (1 : Int32))), (0, .ref x0), (2, .int x2), (3, va_rf x3), (4, .int x4), (6, va_rf x6), (7, .int x7)]) hx hb dX0_laysClasses_134 hl (k := 4) rfl rfl (by decide) rfl (fun ls hl => ?_)
      refine lv_goto (pc := 137) (tgt := 27) hx hb dX0_laysClasses_137 rfl ?_
      exact hK27 _ _ _ _ _ _ _ _ _ h hw (lv_sub hl [1, 2, 3, 4, 0] rfl)
    · have h := h.2 c102
      refine lq_aload (pc := 62) hx hb dX0_laysClasses_62 (lv_at hl 5 rfl) ?_
      refine lv_iload (pc := 64) hx hb dX0_laysClasses_64 (lv_at hl 6 rfl) ?_
      refine lv_i2l (pc := 66) hx hb dX0_laysClasses_66 rfl ?_
      refine W.eq (g2 := F0 m 67 ls [.long x7.toInt64, .ref a93]) (by rw [hr94]; rfl) ?_
      obtain ⟨f152, f153, f154, f155, hN151, h⟩ := h
      refine c_callJ (pc := 67) (val := vL) X hw (va_runV (C := RX4) (As := [.long x7.toInt64]) (rest := []) X.1 (tX4_value X.2.2.1 (sz := H.size) h) (cwV 1 hts (lw_V q1383 q738 q739 q126 q740) rfl rfl rfl ⟨rfl, by decide, by decide, (by decide +kernel : (parseMethodDescriptor yX4_value.desc).map (fun d => d.parameters.length) = some 1)⟩ ⟨Nat.le_of_ble_eq_true rfl, Nat.le_of_ble_eq_true rfl⟩) ⟨cPre_blind, c_recv X hw hN151 rfl, fun U hU hW => ⟨rfl, X.preJ hw hU hW⟩⟩ rfl rfl hl.1 rfl (lv_room (Nat.le_of_ble_eq_true rfl)) dX0_laysClasses_67 ⟨show 0 + 0 ≤ 0 by omega, show 0 + 0 ≤ 0 by omega⟩) (fun r149 N150 H locs h hw => ?_)
      refine W.eq (g2 := F0 m 70 ls (.long r149 :: [])) rfl ?_
      refine lv_iload_n (pc := 70) hx hb dX0_laysClasses_70 rfl (lv_at hl 1 rfl) ?_
      refine lv_i2l (pc := 71) hx hb dX0_laysClasses_71 rfl ?_
      obtain ⟨hne, h⟩ := h
      refine lv_lrem (pc := 72) hx hb dX0_laysClasses_72 hne ?_
      refine lv_l2i (pc := 73) hx hb dX0_laysClasses_73 rfl ?_
      refine lv_istore (pc := 74) (lv' := [(8, .int ((r149 - r149 / x2.toInt64 * x2.toInt64).toInt32)), (0, .ref x0), (2, .int x2), (3, va_rf x3), (4, .int x4), (5, .int x5), (6, va_rf x6), (7, .int x7)]) hx hb dX0_laysClasses_74 hl (by decide) rfl (fun ls hl => ?_)
      refine lv_iconst (pc := 76) (v := (0 : Int32)) hx hb dX0_laysClasses_76 (by decide) ?_
      refine lv_istore (pc := 77) (lv' := [(9, .int (0 : Int32)), (8, .int ((r149 - r149 / x2.toInt64 * x2.toInt64).toInt32)), (0, .ref x0), (2, .int x2), (3, va_rf x3), (4, .int x4), (5, .int x5), (6, va_rf x6), (7, .int x7)]) hx hb dX0_laysClasses_77 hl (by decide) rfl (fun ls hl => ?_)
      obtain ⟨k, h⟩ := h
      exact kX0_laysClasses_79 X hr hlk hK27 ih k _ _ _ _ _ _ _ _ _ _ _ _ _ h hw (lv_sub hl [2, 3, 4, 5, 6, 7, 8, 1, 0] rfl)
theorem kX0_laysClasses_27 {p : Program} {l : Launch} {e : Env} {s : State} {m : MethodId} {args : Array Value} {below : List Frame} {meth : Method} {c : Code} {G : gG} {A : Nat → Prop} {post : Unit → NM → Prop} (X : cX G A RX0 p s m args c cX0_laysClasses 10) (hr : meth.sig.returnType = none) (hlk : meth.locks = false) : ∀ (n : Nat) (x0 : Nat) (x2 : Int32) (x3 : Option Nat) (x4 : Int32) (x5 : Int32) (N : NM) (H : Heap) (locs : List Loc) (ls : Array Slot), wX0_laysClasses_27 (gC G) post n x0 x2 x3 x4 x5 N → cH G A s [] N H locs → lv_has ls 10 [(0, .ref x0), (2, .int x2), (3, va_rf x3), (4, .int x4), (5, .int x5)] → W p l e ⟨2, 0, 0, 60⟩ s m args below meth c H locs 0 0 (MQ below (gQ vV post (fun u H => cBw G A (jW u).1 (jW u).2 H) A) args s 0 0 A) (F0 m 27 ls []) := by
  have hx := X.1.1
  have hb := X.1.2.1
  have hml := X.1.2.2.1
  have hown := X.1.2.2.2.1
  have hts := X.1.2.2.2.2
  intro n
  induction n with
  | zero =>
    intro x0 x2 x3 x4 x5 N H locs ls h
    exact False.elim h
  | succ n ih =>
    intro x0 x2 x3 x4 x5 N H locs ls h hw hl
    unfold wX0_laysClasses_27 at h
    refine lv_iload (pc := 27) hx hb dX0_laysClasses_27 (lv_at hl 4 rfl) ?_
    refine lv_iload (pc := 29) hx hb dX0_laysClasses_29 (lv_at hl 3 rfl) ?_
    refine lv_icmp_ge (pc := 31) (tgt := 140) hx hb dX0_laysClasses_31 rfl (fun c63 => ?_) (fun c63 => ?_)
    · have h := h.1 c63
      exact W.vret (pc := 140) hx hb hr (fun t ht hW => c_ret (val := vV) (lw := jW) (u := N) (v := ()) hw h ht) hw.2.2.2 dX0_laysClasses_140 hlk
    · have h := h.2 c63
      refine lq_aload_n (pc := 34) hx hb dX0_laysClasses_34 rfl (lv_at hl 2 rfl) ?_
      refine lv_iload (pc := 35) hx hb dX0_laysClasses_35 (lv_at hl 4 rfl) ?_
      obtain ⟨a64, hr65, h⟩ := h
      refine W.eq (g2 := F0 m 37 ls [.int x5, .ref a64]) (by rw [hr65]; rfl) ?_
      obtain ⟨n67, f68, hN66, h⟩ := h
      obtain ⟨hi, h⟩ := h
      refine c_aald (pc := 37) X hw 5 hN66 rfl hi dX0_laysClasses_37 ?_
      refine lq_astore (pc := 38) (lv' := [(6, va_rf (f68 x5.toNatClampNeg)), (0, .ref x0), (2, .int x2), (3, va_rf x3), (4, .int x4), (5, .int x5)]) hx hb dX0_laysClasses_38 hl (by decide) rfl (fun ls hl => ?_)
      refine lv_aload_n (pc := 40) hx hb dX0_laysClasses_40 rfl (lv_at hl 1 rfl) ?_
      obtain ⟨f70, f71, f72, f73, f74, f75, f76, f77, f78, f79, f80, f81, f82, f83, f84, f85, f86, f87, f88, hN69, h⟩ := h
      refine c_get (pc := 41) X hw hN69 in_X0 rfl 15 (by decide) q232 rfl rfl dX0_laysClasses_41 ?_
      refine lv_lconst (pc := 44) (v := (0 : Int64)) hx hb dX0_laysClasses_44 (by decide) ?_
      obtain ⟨a89, hr90, h⟩ := h
      refine W.eq (g2 := F0 m 45 ls [.long (0 : Int64), .ref a89]) (by rw [hr90]; rfl) ?_
      refine c_callJ (pc := 45) (val := vV) X hw (va_runS (g := F0 m 45 ls _) (As := [.ref a89, .long (0 : Int64)]) (rest := []) X.1 (tJ15_fill X.2.2.1 (sz := H.size) h) (va_cwS 2 hts (lw_S q1380 q1381 q122 q1382) rfl rfl rfl ⟨by decide, by decide, (by decide +kernel : (parseMethodDescriptor yJ15_fill.desc).map (fun d => d.parameters.length) = some 2)⟩ ⟨Nat.le_of_ble_eq_true rfl, Nat.le_of_ble_eq_true rfl⟩) ⟨cPre_blind, fun U hU hW => ⟨rfl, X.preJ hw hU hW⟩⟩ rfl rfl hl.1 rfl (lv_room (Nat.le_of_ble_eq_true rfl)) dX0_laysClasses_45 ⟨show 0 + 0 ≤ 0 by omega, show 0 + 0 ≤ 0 by omega⟩) (fun _ N92 H locs h hw => ?_)
      refine W.eq (g2 := F0 m 48 ls ([])) rfl ?_
      refine lv_iconst (pc := 48) (v := (0 : Int32)) hx hb dX0_laysClasses_48 (by decide) ?_
      refine lv_istore (pc := 49) (i := 7) (lv' := [(7, .int (0 : Int32)), (6, va_rf (f68 x5.toNatClampNeg)), (0, .ref x0), (2, .int x2), (3, va_rf x3), (4, .int x4), (5, .int x5)]) hx hb dX0_laysClasses_49 hl (by decide) (by simp [rf_c]) (fun ls hl => ?_)
      obtain ⟨k, h⟩ := h
      exact kX0_laysClasses_51 X hr hlk ih k _ _ _ _ _ _ _ _ _ _ _ h hw (lv_sub hl [2, 3, 4, 5, 6, 1, 0] rfl)
theorem tX0_laysClasses {l : Launch} {G : gG} (hO : gOk G) {post : Unit → NM → Prop} {N : NM} {x0 : Nat} {x1 : Option Nat} {x2 : Int32} {sz : Nat} (h : wX0_laysClasses (gC G) post N x0 x1 x2) : Met l yX0_laysClasses (ws_ yX0_laysClasses cX0_laysClasses 10 none) ⟨2, 0, 0, 60⟩ (va_Pc [.ref x0, va_rf x1, .int x2] (cPre G [] N sz)) (gQ vV post (fun u H => cBw G (cA [] N sz) (jW u).1 (jW u).2 H) (cA [] N sz)) 0 0 (cA [] N sz) := by
  refine c_ofW (lw := jW) (by decide) hO (by cases x1 <;> exact Nat.le_of_ble_eq_true rfl) (fun p e s m below meth c ls A X hr hlk hin hw hl => ?_)
  have hl : lv_has ls 10 [(0, .ref x0), (1, va_rf x1), (2, .int x2)] := by cases x1 <;> exact hl
  have hx := X.1.1
  have hb := X.1.2.1
  have hml := X.1.2.2.1
  have hown := X.1.2.2.2.1
  have hts := X.1.2.2.2.2
  obtain ⟨H, eH⟩ : ∃ z, z = s.heap := ⟨_, rfl⟩
  rw [← eH] at hw ⊢
  obtain ⟨locs, eLo⟩ : ∃ z : List Loc, z = [] := ⟨_, rfl⟩
  rw [← eLo] at hw ⊢
  unfold wX0_laysClasses at h
  refine lv_aload_n (pc := 0) hx hb dX0_laysClasses_0 rfl (lv_at hl 0 rfl) ?_
  obtain ⟨f2, f3, f4, f5, f6, f7, f8, f9, f10, f11, f12, f13, f14, f15, f16, f17, f18, f19, f20, hN1, h⟩ := h
  refine c_get (pc := 1) X hw hN1 in_X0 rfl 14 (by decide) q231 rfl rfl dX0_laysClasses_1 ?_
  refine lv_lconst (pc := 4) (v := (0 : Int64)) hx hb dX0_laysClasses_4 (by decide) ?_
  obtain ⟨a21, hr22, h⟩ := h
  refine W.eq (g2 := F0 m 5 ls [.long (0 : Int64), .ref a21]) (by rw [hr22]; rfl) ?_
  refine c_callJ (pc := 5) (val := vV) X hw (va_runS (g := F0 m 5 ls _) (As := [.ref a21, .long (0 : Int64)]) (rest := []) X.1 (tJ15_fill X.2.2.1 (sz := H.size) h) (va_cwS 2 hts (lw_S q1380 q1381 q122 q1382) rfl rfl rfl ⟨by decide, by decide, (by decide +kernel : (parseMethodDescriptor yJ15_fill.desc).map (fun d => d.parameters.length) = some 2)⟩ ⟨Nat.le_of_ble_eq_true rfl, Nat.le_of_ble_eq_true rfl⟩) ⟨cPre_blind, fun U hU hW => ⟨rfl, X.preJ hw hU hW⟩⟩ rfl rfl hl.1 rfl (lv_room (Nat.le_of_ble_eq_true rfl)) dX0_laysClasses_5 ⟨show 0 + 0 ≤ 0 by omega, show 0 + 0 ≤ 0 by omega⟩) (fun _ N24 H locs h hw => ?_)
  refine W.eq (g2 := F0 m 8 ls ([])) rfl ?_
  refine lv_aload_n (pc := 8) hx hb dX0_laysClasses_8 rfl (lv_at hl 0 rfl) ?_
  obtain ⟨f26, f27, f28, f29, f30, f31, f32, f33, f34, f35, f36, f37, f38, f39, f40, f41, f42, f43, f44, hN25, h⟩ := h
  refine c_get (pc := 9) X hw hN25 in_X0 rfl 14 (by decide) q231 rfl rfl dX0_laysClasses_9 ?_
  refine lv_iconst (pc := 12) (v := (0 : Int32)) hx hb dX0_laysClasses_12 (by decide) ?_
  refine lv_lconst (pc := 13) (v := (1 : Int64)) hx hb dX0_laysClasses_13 (by decide) ?_
  obtain ⟨a45, hr46, h⟩ := h
  refine W.eq (g2 := F0 m 14 ls [.long (1 : Int64), .int (0 : Int32), .ref a45]) (by rw [hr46]; rfl) ?_
  obtain ⟨n48, f49, hN47, h⟩ := h
  obtain ⟨hi, h⟩ := h
  refine c_last (pc := 14) X hw hN47 hi dX0_laysClasses_14 (fun H locs hw => ?_)
  obtain ⟨N50, e51⟩ : ∃ z, z = va_up N24 a45 (some (eL 1 n48 (vp_updL f49 (0 : Int32).toNatClampNeg (1 : Int64)))) := ⟨_, rfl⟩
  have hw : cH G A s [] N50 H locs := by rw [e51]; exact hw
  have h := h N50 e51
  have hN52 : N50 a45 = some (eL 1 n48 (vp_updL f49 (0 : Int32).toNatClampNeg (1 : Int64))) := by rw [e51]; exact up_s
  have hN53 := up_k (x := some (eL 1 n48 (vp_updL f49 (0 : Int32).toNatClampNeg (1 : Int64)))) hN47 hN25 (show (3 : Nat) ≠ 2 by decide)
  rw [← e51] at hN53
  refine lq_aload_n (pc := 15) hx hb dX0_laysClasses_15 rfl (lv_at hl 1 rfl) ?_
  obtain ⟨a54, hr55, h⟩ := h
  refine W.eq (g2 := F0 m 16 ls [.ref a54]) (by rw [hr55]; rfl) ?_
  obtain ⟨f57, hN56, h⟩ := h
  refine c_getN (pc := 16) X hw hN56 in_X6 rfl 0 (by decide) q885 rfl rfl dX0_laysClasses_16 ?_
  refine lq_astore_n (pc := 19) (lv' := [(3, va_rf f57), (0, .ref x0), (1, va_rf x1), (2, .int x2)]) hx hb dX0_laysClasses_19 rfl hl (by decide) rfl (fun ls hl => ?_)
  refine lq_aload_n (pc := 20) hx hb dX0_laysClasses_20 rfl (lv_at hl 0 rfl) ?_
  obtain ⟨a58, hr59, h⟩ := h
  refine W.eq (g2 := F0 m 21 ls [.ref a58]) (by rw [hr59]; rfl) ?_
  obtain ⟨n61, f62, hN60, h⟩ := h
  refine c_alen (pc := 21) X hw hN60 rfl dX0_laysClasses_21 ?_
  refine lv_istore (pc := 22) (i := 4) (lv' := [(4, .int (nI n61)), (3, va_rf f57), (0, .ref x0), (1, va_rf x1), (2, .int x2)]) hx hb dX0_laysClasses_22 hl (by decide) (by simp [rf_c]) (fun ls hl => ?_)
  refine lv_iconst (pc := 24) (v := (0 : Int32)) hx hb dX0_laysClasses_24 (by decide) ?_
  refine lv_istore (pc := 25) (lv' := [(5, .int (0 : Int32)), (4, .int (nI n61)), (3, va_rf f57), (0, .ref x0), (1, va_rf x1), (2, .int x2)]) hx hb dX0_laysClasses_25 hl (by decide) rfl (fun ls hl => ?_)
  obtain ⟨k, h⟩ := h
  exact kX0_laysClasses_27 X hr hlk  k _ _ _ _ _ _ _ _ _ h hw (lv_sub hl [3, 5, 2, 1, 0] rfl)

def wX0_laysCan_99 (K : Nat → Nat → Nat) (K56 : Nat → Option Nat → Int32 → Int32 → NM → Prop) (K63 : Nat → Option Nat → Int32 → Int32 → Int32 → NM → Prop) (post : Unit → NM → Prop) : Nat → Nat → Option Nat → Int32 → Int32 → Int32 → Int32 → Int32 → NM → Prop
  | 0, _, _, _, _, _, _, _, _ => False
  | n + 1, x0, x1, x2, x3, x4, x5, x6, N => ((x2 ≤ x6) → (K63 x0 x1 x2 x3 (x4 + (1 : Int32)) N)) ∧ (¬ (x2 ≤ x6) → (∃ f109 f110 f111 f112 f113 f114 f115 f116 f117 f118 f119 f120 f121 f122 f123 f124 f125 f126 f127, N x0 = some (eO 1 [va_rf f109, va_rf f110, va_rf f111, va_rf f112, va_rf f113, va_rf f114, va_rf f115, va_rf f116, va_rf f117, .int f118, .int f119, va_rf f120, va_rf f121, .int f122, va_rf f123, va_rf f124, va_rf f125, va_rf f126, va_rf f127]) ∧ (∃ a128, f125 = some a128 ∧ (∃ n131 f132, N a128 = some (eR 7 n131 f132) ∧ (vp_in x3 n131 ∧ (¬ x2 = 0 ∧ (∃ a133, (f132 x3.toNatClampNeg) = some a133 ∧ (∃ n136 f137, N a133 = some (eN 2 n136 f137) ∧ (vp_in ((x6 + x5) - (x6 + x5) / x2 * x2) n136 ∧ (vp_in (x3 + (1 : Int32)) n131 ∧ (∃ a138, (f132 (x3 + (1 : Int32)).toNatClampNeg) = some a138 ∧ (∃ n141 f142, N a138 = some (eN 2 n141 f142) ∧ (vp_in x6 n141 ∧ (vp_in ((x6 + x5) - (x6 + x5) / x2 * x2) n136 ∧ (∀ N143, N143 = va_up N a133 (some (eN 2 n136 (upd f137 ((x6 + x5) - (x6 + x5) / x2 * x2).toNatClampNeg (vp_nar .boolean ((f137 ((x6 + x5) - (x6 + x5) / x2 * x2).toNatClampNeg) ||| (f142 x6.toNatClampNeg)))))) → (wX0_laysCan_99 K K56 K63 post n x0 x1 x2 x3 x4 x5 (x6 + (1 : Int32)) N143))))))))))))))))
def wX0_laysCan_63 (K : Nat → Nat → Nat) (K56 : Nat → Option Nat → Int32 → Int32 → NM → Prop) (post : Unit → NM → Prop) : Nat → Nat → Option Nat → Int32 → Int32 → Int32 → NM → Prop
  | 0, _, _, _, _, _, _ => False
  | n + 1, x0, x1, x2, x3, x4, N => ∃ a72, x1 = some a72 ∧ (∃ f75, N a72 = some (eO 7 [va_rf f75]) ∧ (∃ a76, f75 = some a76 ∧ (∃ n79 f80, N a76 = some (eR 5 n79 f80) ∧ (vp_in x3 n79 ∧ (∃ a81, (f80 x3.toNatClampNeg) = some a81 ∧ (∃ f86 f87 f88 f89, N a81 = some (eO 6 [.int f86, .int f87, .int f88, va_rf f89]) ∧ (wX4_rounds K (fun r83 N84 => ((r83 ≤ x4) → (K56 x0 x1 x2 (x3 + (-1 : Int32)) N84)) ∧ (¬ (r83 ≤ x4) → (∃ f92, N84 a72 = some (eO 7 [va_rf f92]) ∧ (∃ a93, f92 = some a93 ∧ (∃ n96 f97, N84 a93 = some (eR 5 n96 f97) ∧ (vp_in x3 n96 ∧ (∃ a98, (f97 x3.toNatClampNeg) = some a98 ∧ (∃ f103 f104 f105 f106, N84 a98 = some (eO 6 [.int f103, .int f104, .int f105, va_rf f106]) ∧ (wX4_value K (fun r100 N101 => ¬ x2.toInt64 = 0 ∧ ((∃ k, wX0_laysCan_99 K K56 (fun x0 x1 x2 x3 x4 N => wX0_laysCan_63 K K56 post n x0 x1 x2 x3 x4 N) post k x0 x1 x2 x3 x4 ((r100 - r100 / x2.toInt64 * x2.toInt64).toInt32) (0 : Int32) N101))) N84 a98 x4.toInt64))))))))) N a81 x2)))))))
def wX0_laysCan_56 (K : Nat → Nat → Nat) (post : Unit → NM → Prop) : Nat → Nat → Option Nat → Int32 → Int32 → NM → Prop
  | 0, _, _, _, _, _ => False
  | n + 1, x0, x1, x2, x3, N => ((x3 < (0 : Int32)) → (post () N)) ∧ (¬ (x3 < (0 : Int32)) → ((∃ k, wX0_laysCan_63 K (fun x0 x1 x2 x3 N => wX0_laysCan_56 K post n x0 x1 x2 x3 N) post k x0 x1 x2 x3 (0 : Int32) N)))
def wX0_laysCan_12 (K : Nat → Nat → Nat) (post : Unit → NM → Prop) : Nat → Nat → Option Nat → Int32 → Option Nat → Int32 → Int32 → NM → Prop
  | 0, _, _, _, _, _, _, _ => False
  | n + 1, x0, x1, x2, x3, x4, x5, N => ((x4 ≤ x5) → (∃ f28 f29 f30 f31 f32 f33 f34 f35 f36 f37 f38 f39 f40 f41 f42 f43 f44 f45 f46, N x0 = some (eO 1 [va_rf f28, va_rf f29, va_rf f30, va_rf f31, va_rf f32, va_rf f33, va_rf f34, va_rf f35, va_rf f36, .int f37, .int f38, va_rf f39, va_rf f40, .int f41, va_rf f42, va_rf f43, va_rf f44, va_rf f45, va_rf f46]) ∧ (∃ a47, x1 = some a47 ∧ (∃ f52, N a47 = some (eO 7 [va_rf f52]) ∧ (wX6_many K (fun r49 N50 => ∃ a53, f44 = some a53 ∧ (∃ n56 f57, N50 a53 = some (eR 7 n56 f57) ∧ (vp_in r49 n56 ∧ (∃ a58, (f57 r49.toNatClampNeg) = some a58 ∧ (∃ n61 f62, N50 a58 = some (eN 2 n61 f62) ∧ (vp_in (0 : Int32) n61 ∧ (∀ N63, N63 = va_up N50 a58 (some (eN 2 n61 (upd f62 (0 : Int32).toNatClampNeg (vp_nar .boolean (1 : Int32))))) → (∃ f70, N63 a47 = some (eO 7 [va_rf f70]) ∧ (wX6_many K (fun r67 N68 => (∃ k, wX0_laysCan_56 K post k x0 x1 x2 (r67 - (1 : Int32)) N68)) N63 a47))))))))) N a47))))) ∧ (¬ (x4 ≤ x5) → (∃ a148, x3 = some a148 ∧ (∃ n151 f152, N a148 = some (eR 7 n151 f152) ∧ (vp_in x5 n151 ∧ (∃ a153, (f152 x5.toNatClampNeg) = some a153 ∧ (wJ15_fill_2 K (fun _ N156 => wX0_laysCan_12 K post n x0 x1 x2 x3 x4 (x5 + (1 : Int32)) N156) N a153 (0 : Int32)))))))
def wX0_laysCan (K : Nat → Nat → Nat) (post : Unit → NM → Prop) (N : NM) (x0 : Nat) (x1 : Option Nat) (x2 : Int32) : Prop :=
  ∃ f2 f3 f4 f5 f6 f7 f8 f9 f10 f11 f12 f13 f14 f15 f16 f17 f18 f19 f20, N x0 = some (eO 1 [va_rf f2, va_rf f3, va_rf f4, va_rf f5, va_rf f6, va_rf f7, va_rf f8, va_rf f9, va_rf f10, .int f11, .int f12, va_rf f13, va_rf f14, .int f15, va_rf f16, va_rf f17, va_rf f18, va_rf f19, va_rf f20]) ∧ (∃ a21, f18 = some a21 ∧ (∃ n24 f25, N a21 = some (eR 7 n24 f25) ∧ ((∃ k, wX0_laysCan_12 K post k x0 x1 x2 f18 (nI n24) (0 : Int32) N))))
theorem kX0_laysCan_99 {p : Program} {l : Launch} {e : Env} {s : State} {m : MethodId} {args : Array Value} {below : List Frame} {meth : Method} {c : Code} {G : gG} {A : Nat → Prop} {K56 : Nat → Option Nat → Int32 → Int32 → NM → Prop} {K63 : Nat → Option Nat → Int32 → Int32 → Int32 → NM → Prop} {post : Unit → NM → Prop} (X : cX G A RX0 p s m args c cX0_laysCan 7) (hr : meth.sig.returnType = none) (hlk : meth.locks = false) (hK56 : ∀ (x0 : Nat) (x1 : Option Nat) (x2 : Int32) (x3 : Int32) (N : NM) (H : Heap) (locs : List Loc) (ls : Array Slot), K56 x0 x1 x2 x3 N → cH G A s [] N H locs → lv_has ls 7 [(0, .ref x0), (1, va_rf x1), (2, .int x2), (3, .int x3)] → W p l e ⟨2, 0, 0, 52⟩ s m args below meth c H locs 0 0 (MQ below (gQ vV post (fun u H => cBw G A (jW u).1 (jW u).2 H) A) args s 0 0 A) (F0 m 56 ls [])) (hK63 : ∀ (x0 : Nat) (x1 : Option Nat) (x2 : Int32) (x3 : Int32) (x4 : Int32) (N : NM) (H : Heap) (locs : List Loc) (ls : Array Slot), K63 x0 x1 x2 x3 x4 N → cH G A s [] N H locs → lv_has ls 7 [(0, .ref x0), (1, va_rf x1), (2, .int x2), (3, .int x3), (4, .int x4)] → W p l e ⟨2, 0, 0, 52⟩ s m args below meth c H locs 0 0 (MQ below (gQ vV post (fun u H => cBw G A (jW u).1 (jW u).2 H) A) args s 0 0 A) (F0 m 63 ls [])) : ∀ (n : Nat) (x0 : Nat) (x1 : Option Nat) (x2 : Int32) (x3 : Int32) (x4 : Int32) (x5 : Int32) (x6 : Int32) (N : NM) (H : Heap) (locs : List Loc) (ls : Array Slot), wX0_laysCan_99 (gC G) K56 K63 post n x0 x1 x2 x3 x4 x5 x6 N → cH G A s [] N H locs → lv_has ls 7 [(0, .ref x0), (1, va_rf x1), (2, .int x2), (3, .int x3), (4, .int x4), (5, .int x5), (6, .int x6)] → W p l e ⟨2, 0, 0, 52⟩ s m args below meth c H locs 0 0 (MQ below (gQ vV post (fun u H => cBw G A (jW u).1 (jW u).2 H) A) args s 0 0 A) (F0 m 99 ls []) := by
  have hx := X.1.1
  have hb := X.1.2.1
  have hml := X.1.2.2.1
  have hown := X.1.2.2.2.1
  have hts := X.1.2.2.2.2
  intro n
  induction n with
  | zero =>
    intro x0 x1 x2 x3 x4 x5 x6 N H locs ls h
    exact False.elim h
  | succ n ih =>
    intro x0 x1 x2 x3 x4 x5 x6 N H locs ls h hw hl
    unfold wX0_laysCan_99 at h
    refine lv_iload (pc := 99) hx hb dX0_laysCan_99 (lv_at hl 6 rfl) ?_
    refine lv_iload_n (pc := 101) hx hb dX0_laysCan_101 rfl (lv_at hl 2 rfl) ?_
    refine lv_icmp_ge (pc := 102) (tgt := 139) hx hb dX0_laysCan_102 rfl (fun c107 => ?_) (fun c107 => ?_)
    · have h := h.1 c107
      refine lv_iinc (pc := 139) (v := x4 + (1 : Int32)) (lv' := [(4, .int (x4 + (1 : Int32))), (0, .ref x0), (1, va_rf x1), (2, .int x2), (3, .int x3), (5, .int x5), (6, .int x6)]) hx hb dX0_laysCan_139 hl (k := 4) rfl rfl (by decide) rfl (fun ls hl => ?_)
      refine lv_goto (pc := 142) (tgt := 63) hx hb dX0_laysCan_142 rfl ?_
      exact hK63 _ _ _ _ _ _ _ _ _ h hw (lv_sub hl [1, 2, 3, 4, 0] rfl)
    · have h := h.2 c107
      refine lv_aload_n (pc := 105) hx hb dX0_laysCan_105 rfl (lv_at hl 0 rfl) ?_
      obtain ⟨f109, f110, f111, f112, f113, f114, f115, f116, f117, f118, f119, f120, f121, f122, f123, f124, f125, f126, f127, hN108, h⟩ := h
      refine c_get (pc := 106) X hw hN108 in_X0 rfl 16 (by decide) q233 rfl rfl dX0_laysCan_106 ?_
      refine lv_iload_n (pc := 109) hx hb dX0_laysCan_109 rfl (lv_at hl 3 rfl) ?_
      obtain ⟨a128, hr129, h⟩ := h
      refine W.eq (g2 := F0 m 110 ls [.int x3, .ref a128]) (by rw [hr129]; rfl) ?_
      obtain ⟨n131, f132, hN130, h⟩ := h
      obtain ⟨hi, h⟩ := h
      refine c_aaldT (pc := 110) X hw 7 hN130 rfl hi dX0_laysCan_110 ?_
      refine lv_iload (pc := 111) hx hb dX0_laysCan_111 (lv_at hl 6 rfl) ?_
      refine lv_iload (pc := 113) hx hb dX0_laysCan_113 (lv_at hl 5 rfl) ?_
      refine lv_iadd (pc := 115) hx hb dX0_laysCan_115 ?_
      refine lv_iload_n (pc := 116) hx hb dX0_laysCan_116 rfl (lv_at hl 2 rfl) ?_
      obtain ⟨hne, h⟩ := h
      refine lv_irem (pc := 117) hx hb dX0_laysCan_117 hne ?_
      refine lv_dup2_11 (pc := 118) hx hb dX0_laysCan_118 rfl (rf_c _) ?_
      obtain ⟨a133, hr134, h⟩ := h
      refine W.eq (g2 := F0 m 119 ls [.int ((x6 + x5) - (x6 + x5) / x2 * x2), .ref a133, .int ((x6 + x5) - (x6 + x5) / x2 * x2), va_rf (f132 x3.toNatClampNeg)]) (by rw [hr134]; rfl) ?_
      obtain ⟨n136, f137, hN135, h⟩ := h
      obtain ⟨hi, h⟩ := h
      refine c_zald (pc := 119) X hw hN135 hi dX0_laysCan_119 ?_
      refine lv_aload_n (pc := 120) hx hb dX0_laysCan_120 rfl (lv_at hl 0 rfl) ?_
      refine c_get (pc := 121) X hw hN108 in_X0 rfl 16 (by decide) q233 rfl rfl dX0_laysCan_121 ?_
      refine lv_iload_n (pc := 124) hx hb dX0_laysCan_124 rfl (lv_at hl 3 rfl) ?_
      refine lv_iconst (pc := 125) (v := (1 : Int32)) hx hb dX0_laysCan_125 (by decide) ?_
      refine lv_iadd (pc := 126) hx hb dX0_laysCan_126 ?_
      refine W.eq (g2 := F0 m 127 ls [.int (x3 + (1 : Int32)), .ref a128, .int (f137 ((x6 + x5) - (x6 + x5) / x2 * x2).toNatClampNeg), .int ((x6 + x5) - (x6 + x5) / x2 * x2), va_rf (f132 x3.toNatClampNeg)]) (by rw [hr129]; rfl) ?_
      obtain ⟨hi, h⟩ := h
      refine c_aaldT (pc := 127) X hw 7 hN130 rfl hi dX0_laysCan_127 ?_
      refine lv_iload (pc := 128) hx hb dX0_laysCan_128 (lv_at hl 6 rfl) ?_
      obtain ⟨a138, hr139, h⟩ := h
      refine W.eq (g2 := F0 m 130 ls [.int x6, .ref a138, .int (f137 ((x6 + x5) - (x6 + x5) / x2 * x2).toNatClampNeg), .int ((x6 + x5) - (x6 + x5) / x2 * x2), va_rf (f132 x3.toNatClampNeg)]) (by rw [hr139]; rfl) ?_
      obtain ⟨n141, f142, hN140, h⟩ := h
      obtain ⟨hi, h⟩ := h
      refine c_zald (pc := 130) X hw hN140 hi dX0_laysCan_130 ?_
      refine lv_ior (pc := 131) hx hb dX0_laysCan_131 ?_
      refine W.eq (g2 := F0 m 132 ls [.int ((f137 ((x6 + x5) - (x6 + x5) / x2 * x2).toNatClampNeg) ||| (f142 x6.toNatClampNeg)), .int ((x6 + x5) - (x6 + x5) / x2 * x2), .ref a133]) (by rw [hr134]; rfl) ?_
      obtain ⟨hi, h⟩ := h
      refine c_zast (pc := 132) X hw hN135 hi dX0_laysCan_132 (fun H locs hw => ?_)
      obtain ⟨N143, e144⟩ : ∃ z, z = va_up N a133 (some (eN 2 n136 (upd f137 ((x6 + x5) - (x6 + x5) / x2 * x2).toNatClampNeg (vp_nar .boolean ((f137 ((x6 + x5) - (x6 + x5) / x2 * x2).toNatClampNeg) ||| (f142 x6.toNatClampNeg)))))) := ⟨_, rfl⟩
      have hw : cH G A s [] N143 H locs := by rw [e144]; exact hw
      have h := h N143 e144
      have hN145 : N143 a133 = some (eN 2 n136 (upd f137 ((x6 + x5) - (x6 + x5) / x2 * x2).toNatClampNeg (vp_nar .boolean ((f137 ((x6 + x5) - (x6 + x5) / x2 * x2).toNatClampNeg) ||| (f142 x6.toNatClampNeg))))) := by rw [e144]; exact up_s
      have hN146 := up_k (x := some (eN 2 n136 (upd f137 ((x6 + x5) - (x6 + x5) / x2 * x2).toNatClampNeg (vp_nar .boolean ((f137 ((x6 + x5) - (x6 + x5) / x2 * x2).toNatClampNeg) ||| (f142 x6.toNatClampNeg)))))) hN135 hN108 (show (5 : Nat) ≠ 2 by decide)
      rw [← e144] at hN146
      have hN147 := up_k (x := some (eN 2 n136 (upd f137 ((x6 + x5) - (x6 + x5) / x2 * x2).toNatClampNeg (vp_nar .boolean ((f137 ((x6 + x5) - (x6 + x5) / x2 * x2).toNatClampNeg) ||| (f142 x6.toNatClampNeg)))))) hN135 hN130 (show (5 : Nat) ≠ 15 by decide)
      rw [← e144] at hN147
      refine lv_iinc (pc := 133) (v := x6 + (1 : Int32)) (lv' := [(6, .int (x6 + (1 : Int32))), (0, .ref x0), (1, va_rf x1), (2, .int x2), (3, .int x3), (4, .int x4), (5, .int x5)]) hx hb dX0_laysCan_133 hl (k := 6) rfl rfl (by decide) rfl (fun ls hl => ?_)
      refine lv_goto (pc := 136) (tgt := 99) hx hb dX0_laysCan_136 rfl ?_
      exact ih _ _ _ _ _ _ _ _ _ _ _ h hw (lv_sub hl [1, 2, 3, 4, 5, 6, 0] rfl)
theorem kX0_laysCan_63 {p : Program} {l : Launch} {e : Env} {s : State} {m : MethodId} {args : Array Value} {below : List Frame} {meth : Method} {c : Code} {G : gG} {A : Nat → Prop} {K56 : Nat → Option Nat → Int32 → Int32 → NM → Prop} {post : Unit → NM → Prop} (X : cX G A RX0 p s m args c cX0_laysCan 7) (hr : meth.sig.returnType = none) (hlk : meth.locks = false) (hK56 : ∀ (x0 : Nat) (x1 : Option Nat) (x2 : Int32) (x3 : Int32) (N : NM) (H : Heap) (locs : List Loc) (ls : Array Slot), K56 x0 x1 x2 x3 N → cH G A s [] N H locs → lv_has ls 7 [(0, .ref x0), (1, va_rf x1), (2, .int x2), (3, .int x3)] → W p l e ⟨2, 0, 0, 52⟩ s m args below meth c H locs 0 0 (MQ below (gQ vV post (fun u H => cBw G A (jW u).1 (jW u).2 H) A) args s 0 0 A) (F0 m 56 ls [])) : ∀ (n : Nat) (x0 : Nat) (x1 : Option Nat) (x2 : Int32) (x3 : Int32) (x4 : Int32) (N : NM) (H : Heap) (locs : List Loc) (ls : Array Slot), wX0_laysCan_63 (gC G) K56 post n x0 x1 x2 x3 x4 N → cH G A s [] N H locs → lv_has ls 7 [(0, .ref x0), (1, va_rf x1), (2, .int x2), (3, .int x3), (4, .int x4)] → W p l e ⟨2, 0, 0, 52⟩ s m args below meth c H locs 0 0 (MQ below (gQ vV post (fun u H => cBw G A (jW u).1 (jW u).2 H) A) args s 0 0 A) (F0 m 63 ls []) := by
  have hx := X.1.1
  have hb := X.1.2.1
  have hml := X.1.2.2.1
  have hown := X.1.2.2.2.1
  have hts := X.1.2.2.2.2
  intro n
  induction n with
  | zero =>
    intro x0 x1 x2 x3 x4 N H locs ls h
    exact False.elim h
  | succ n ih =>
    intro x0 x1 x2 x3 x4 N H locs ls h hw hl
    unfold wX0_laysCan_63 at h
    refine lv_iload (pc := 63) hx hb dX0_laysCan_63 (lv_at hl 4 rfl) ?_
    refine lq_aload_n (pc := 65) hx hb dX0_laysCan_65 rfl (lv_at hl 1 rfl) ?_
    obtain ⟨a72, hr73, h⟩ := h
    refine W.eq (g2 := F0 m 66 ls [.ref a72, .int x4]) (by rw [hr73]; rfl) ?_
    obtain ⟨f75, hN74, h⟩ := h
    refine c_getN (pc := 66) X hw hN74 in_X6 rfl 0 (by decide) q885 rfl rfl dX0_laysCan_66 ?_
    refine lv_iload_n (pc := 69) hx hb dX0_laysCan_69 rfl (lv_at hl 3 rfl) ?_
    obtain ⟨a76, hr77, h⟩ := h
    refine W.eq (g2 := F0 m 70 ls [.int x3, .ref a76, .int x4]) (by rw [hr77]; rfl) ?_
    obtain ⟨n79, f80, hN78, h⟩ := h
    obtain ⟨hi, h⟩ := h
    refine c_aald (pc := 70) X hw 5 hN78 rfl hi dX0_laysCan_70 ?_
    refine lv_iload_n (pc := 71) hx hb dX0_laysCan_71 rfl (lv_at hl 2 rfl) ?_
    obtain ⟨a81, hr82, h⟩ := h
    refine W.eq (g2 := F0 m 72 ls [.int x2, .ref a81, .int x4]) (by rw [hr82]; rfl) ?_
    obtain ⟨f86, f87, f88, f89, hN85, h⟩ := h
    refine c_callJ (pc := 72) (val := vI) X hw (va_runV (C := RX4) (As := [.int x2]) (rest := [.int x4]) X.1 (tX4_rounds X.2.2.1 (sz := H.size) h) (cwV 1 hts (lw_V q1607 q1608 q1609 q126 q1610) rfl rfl rfl ⟨rfl, by decide, by decide, (by decide +kernel : (parseMethodDescriptor yX4_rounds.desc).map (fun d => d.parameters.length) = some 1)⟩ ⟨Nat.le_of_ble_eq_true rfl, Nat.le_of_ble_eq_true rfl⟩) ⟨cPre_blind, c_recv X hw hN85 rfl, fun U hU hW => ⟨rfl, X.preJ hw hU hW⟩⟩ rfl rfl hl.1 rfl (lv_room (Nat.le_of_ble_eq_true rfl)) dX0_laysCan_72 ⟨show 0 + 0 ≤ 0 by omega, show 0 + 0 ≤ 0 by omega⟩) (fun r83 N84 H locs h hw => ?_)
    refine W.eq (g2 := F0 m 75 ls (.int r83 :: [.int x4])) rfl ?_
    refine lv_icmp_ge (pc := 75) (tgt := 145) hx hb dX0_laysCan_75 rfl (fun c90 => ?_) (fun c90 => ?_)
    · have h := h.1 c90
      refine lv_iinc (pc := 145) (v := x3 + (-1 : Int32)) (lv' := [(3, .int (x3 + (-1 : Int32))), (0, .ref x0), (1, va_rf x1), (2, .int x2), (4, .int x4)]) hx hb dX0_laysCan_145 hl (k := 3) rfl rfl (by decide) rfl (fun ls hl => ?_)
      refine lv_goto (pc := 148) (tgt := 56) hx hb dX0_laysCan_148 rfl ?_
      exact hK56 _ _ _ _ _ _ _ _ h hw (lv_sub hl [1, 2, 3, 0] rfl)
    · have h := h.2 c90
      refine lq_aload_n (pc := 78) hx hb dX0_laysCan_78 rfl (lv_at hl 1 rfl) ?_
      refine W.eq (g2 := F0 m 79 ls [.ref a72]) (by rw [hr73]; rfl) ?_
      obtain ⟨f92, hN91, h⟩ := h
      refine c_getN (pc := 79) X hw hN91 in_X6 rfl 0 (by decide) q885 rfl rfl dX0_laysCan_79 ?_
      refine lv_iload_n (pc := 82) hx hb dX0_laysCan_82 rfl (lv_at hl 3 rfl) ?_
      obtain ⟨a93, hr94, h⟩ := h
      refine W.eq (g2 := F0 m 83 ls [.int x3, .ref a93]) (by rw [hr94]; rfl) ?_
      obtain ⟨n96, f97, hN95, h⟩ := h
      obtain ⟨hi, h⟩ := h
      refine c_aald (pc := 83) X hw 5 hN95 rfl hi dX0_laysCan_83 ?_
      refine lv_iload (pc := 84) hx hb dX0_laysCan_84 (lv_at hl 4 rfl) ?_
      refine lv_i2l (pc := 86) hx hb dX0_laysCan_86 rfl ?_
      obtain ⟨a98, hr99, h⟩ := h
      refine W.eq (g2 := F0 m 87 ls [.long x4.toInt64, .ref a98]) (by rw [hr99]; rfl) ?_
      obtain ⟨f103, f104, f105, f106, hN102, h⟩ := h
      refine c_callJ (pc := 87) (val := vL) X hw (va_runV (C := RX4) (As := [.long x4.toInt64]) (rest := []) X.1 (tX4_value X.2.2.1 (sz := H.size) h) (cwV 1 hts (lw_V q1383 q738 q739 q126 q740) rfl rfl rfl ⟨rfl, by decide, by decide, (by decide +kernel : (parseMethodDescriptor yX4_value.desc).map (fun d => d.parameters.length) = some 1)⟩ ⟨Nat.le_of_ble_eq_true rfl, Nat.le_of_ble_eq_true rfl⟩) ⟨cPre_blind, c_recv X hw hN102 rfl, fun U hU hW => ⟨rfl, X.preJ hw hU hW⟩⟩ rfl rfl hl.1 rfl (lv_room (Nat.le_of_ble_eq_true rfl)) dX0_laysCan_87 ⟨show 0 + 0 ≤ 0 by omega, show 0 + 0 ≤ 0 by omega⟩) (fun r100 N101 H locs h hw => ?_)
      refine W.eq (g2 := F0 m 90 ls (.long r100 :: [])) rfl ?_
      refine lv_iload_n (pc := 90) hx hb dX0_laysCan_90 rfl (lv_at hl 2 rfl) ?_
      refine lv_i2l (pc := 91) hx hb dX0_laysCan_91 rfl ?_
      obtain ⟨hne, h⟩ := h
      refine lv_lrem (pc := 92) hx hb dX0_laysCan_92 hne ?_
      refine lv_l2i (pc := 93) hx hb dX0_laysCan_93 rfl ?_
      refine lv_istore (pc := 94) (lv' := [(5, .int ((r100 - r100 / x2.toInt64 * x2.toInt64).toInt32)), (0, .ref x0), (1, va_rf x1), (2, .int x2), (3, .int x3), (4, .int x4)]) hx hb dX0_laysCan_94 hl (by decide) rfl (fun ls hl => ?_)
      refine lv_iconst (pc := 96) (v := (0 : Int32)) hx hb dX0_laysCan_96 (by decide) ?_
      refine lv_istore (pc := 97) (lv' := [(6, .int (0 : Int32)), (5, .int ((r100 - r100 / x2.toInt64 * x2.toInt64).toInt32)), (0, .ref x0), (1, va_rf x1), (2, .int x2), (3, .int x3), (4, .int x4)]) hx hb dX0_laysCan_97 hl (by decide) rfl (fun ls hl => ?_)
      obtain ⟨k, h⟩ := h
      exact kX0_laysCan_99 X hr hlk hK56 ih k _ _ _ _ _ _ _ _ _ _ _ h hw (lv_sub hl [2, 3, 4, 5, 6, 1, 0] rfl)
theorem kX0_laysCan_56 {p : Program} {l : Launch} {e : Env} {s : State} {m : MethodId} {args : Array Value} {below : List Frame} {meth : Method} {c : Code} {G : gG} {A : Nat → Prop} {post : Unit → NM → Prop} (X : cX G A RX0 p s m args c cX0_laysCan 7) (hr : meth.sig.returnType = none) (hlk : meth.locks = false) : ∀ (n : Nat) (x0 : Nat) (x1 : Option Nat) (x2 : Int32) (x3 : Int32) (N : NM) (H : Heap) (locs : List Loc) (ls : Array Slot), wX0_laysCan_56 (gC G) post n x0 x1 x2 x3 N → cH G A s [] N H locs → lv_has ls 7 [(0, .ref x0), (1, va_rf x1), (2, .int x2), (3, .int x3)] → W p l e ⟨2, 0, 0, 52⟩ s m args below meth c H locs 0 0 (MQ below (gQ vV post (fun u H => cBw G A (jW u).1 (jW u).2 H) A) args s 0 0 A) (F0 m 56 ls []) := by
  have hx := X.1.1
  have hb := X.1.2.1
  have hml := X.1.2.2.1
  have hown := X.1.2.2.2.1
  have hts := X.1.2.2.2.2
  intro n
  induction n with
  | zero =>
    intro x0 x1 x2 x3 N H locs ls h
    exact False.elim h
  | succ n ih =>
    intro x0 x1 x2 x3 N H locs ls h hw hl
    unfold wX0_laysCan_56 at h
    refine lv_iload_n (pc := 56) hx hb dX0_laysCan_56 rfl (lv_at hl 3 rfl) ?_
    refine lv_if_lt (pc := 57) (tgt := 151) hx hb dX0_laysCan_57 rfl (fun c71 => ?_) (fun c71 => ?_)
    · have h := h.1 c71
      exact W.vret (pc := 151) hx hb hr (fun t ht hW => c_ret (val := vV) (lw := jW) (u := N) (v := ()) hw h ht) hw.2.2.2 dX0_laysCan_151 hlk
    · have h := h.2 c71
      refine lv_iconst (pc := 60) (v := (0 : Int32)) hx hb dX0_laysCan_60 (by decide) ?_
      refine lv_istore (pc := 61) (lv' := [(4, .int (0 : Int32)), (0, .ref x0), (1, va_rf x1), (2, .int x2), (3, .int x3)]) hx hb dX0_laysCan_61 hl (by decide) rfl (fun ls hl => ?_)
      obtain ⟨k, h⟩ := h
      exact kX0_laysCan_63 X hr hlk ih k _ _ _ _ _ _ _ _ _ h hw (lv_sub hl [1, 2, 3, 4, 0] rfl)
theorem kX0_laysCan_12 {p : Program} {l : Launch} {e : Env} {s : State} {m : MethodId} {args : Array Value} {below : List Frame} {meth : Method} {c : Code} {G : gG} {A : Nat → Prop} {post : Unit → NM → Prop} (X : cX G A RX0 p s m args c cX0_laysCan 7) (hr : meth.sig.returnType = none) (hlk : meth.locks = false) : ∀ (n : Nat) (x0 : Nat) (x1 : Option Nat) (x2 : Int32) (x3 : Option Nat) (x4 : Int32) (x5 : Int32) (N : NM) (H : Heap) (locs : List Loc) (ls : Array Slot), wX0_laysCan_12 (gC G) post n x0 x1 x2 x3 x4 x5 N → cH G A s [] N H locs → lv_has ls 7 [(0, .ref x0), (1, va_rf x1), (2, .int x2), (3, va_rf x3), (4, .int x4), (5, .int x5)] → W p l e ⟨2, 0, 0, 52⟩ s m args below meth c H locs 0 0 (MQ below (gQ vV post (fun u H => cBw G A (jW u).1 (jW u).2 H) A) args s 0 0 A) (F0 m 12 ls []) := by
  have hx := X.1.1
  have hb := X.1.2.1
  have hml := X.1.2.2.1
  have hown := X.1.2.2.2.1
  have hts := X.1.2.2.2.2
  intro n
  induction n with
  | zero =>
    intro x0 x1 x2 x3 x4 x5 N H locs ls h
    exact False.elim h
  | succ n ih =>
    intro x0 x1 x2 x3 x4 x5 N H locs ls h hw hl
    unfold wX0_laysCan_12 at h
    refine lv_iload (pc := 12) hx hb dX0_laysCan_12 (lv_at hl 5 rfl) ?_
    refine lv_iload (pc := 14) hx hb dX0_laysCan_14 (lv_at hl 4 rfl) ?_
    refine lv_icmp_ge (pc := 16) (tgt := 37) hx hb dX0_laysCan_16 rfl (fun c26 => ?_) (fun c26 => ?_)
    · have h := h.1 c26
      refine lv_aload_n (pc := 37) hx hb dX0_laysCan_37 rfl (lv_at hl 0 rfl) ?_
      obtain ⟨f28, f29, f30, f31, f32, f33, f34, f35, f36, f37, f38, f39, f40, f41, f42, f43, f44, f45, f46, hN27, h⟩ := h
      refine c_get (pc := 38) X hw hN27 in_X0 rfl 16 (by decide) q233 rfl rfl dX0_laysCan_38 ?_
      refine lq_aload_n (pc := 41) hx hb dX0_laysCan_41 rfl (lv_at hl 1 rfl) ?_
      obtain ⟨a47, hr48, h⟩ := h
      refine W.eq (g2 := F0 m 42 ls [.ref a47, va_rf f44]) (by rw [hr48]; rfl) ?_
      obtain ⟨f52, hN51, h⟩ := h
      refine c_callJ (pc := 42) (val := vI) X hw (va_runV (C := RX6) (As := []) (rest := [va_rf f44]) X.1 (tX6_many X.2.2.1 (sz := H.size) h) (cwV 0 hts (lw_V q890 q891 q892 q129 q893) rfl rfl rfl ⟨rfl, by decide, by decide, (by decide +kernel : (parseMethodDescriptor yX6_many.desc).map (fun d => d.parameters.length) = some 0)⟩ ⟨Nat.le_of_ble_eq_true rfl, Nat.le_of_ble_eq_true rfl⟩) ⟨cPre_blind, c_recv X hw hN51 rfl, fun U hU hW => ⟨rfl, X.preJ hw hU hW⟩⟩ rfl rfl hl.1 rfl (lv_room (rsum_le (Nat.le_of_ble_eq_true rfl))) dX0_laysCan_42 ⟨show 0 + 0 ≤ 0 by omega, show 0 + 0 ≤ 0 by omega⟩) (fun r49 N50 H locs h hw => ?_)
      refine W.eq (g2 := F0 m 45 ls (.int r49 :: [va_rf f44])) rfl ?_
      obtain ⟨a53, hr54, h⟩ := h
      refine W.eq (g2 := F0 m 45 ls [.int r49, .ref a53]) (by rw [hr54]; rfl) ?_
      obtain ⟨n56, f57, hN55, h⟩ := h
      obtain ⟨hi, h⟩ := h
      refine c_aaldT (pc := 45) X hw 7 hN55 rfl hi dX0_laysCan_45 ?_
      refine lv_iconst (pc := 46) (v := (0 : Int32)) hx hb dX0_laysCan_46 (by decide) ?_
      refine lv_iconst (pc := 47) (v := (1 : Int32)) hx hb dX0_laysCan_47 (by decide) ?_
      obtain ⟨a58, hr59, h⟩ := h
      refine W.eq (g2 := F0 m 48 ls [.int (1 : Int32), .int (0 : Int32), .ref a58]) (by rw [hr59]; rfl) ?_
      obtain ⟨n61, f62, hN60, h⟩ := h
      obtain ⟨hi, h⟩ := h
      refine c_zast (pc := 48) X hw hN60 hi dX0_laysCan_48 (fun H locs hw => ?_)
      obtain ⟨N63, e64⟩ : ∃ z, z = va_up N50 a58 (some (eN 2 n61 (upd f62 (0 : Int32).toNatClampNeg (vp_nar .boolean (1 : Int32))))) := ⟨_, rfl⟩
      have hw : cH G A s [] N63 H locs := by rw [e64]; exact hw
      have h := h N63 e64
      have hN65 : N63 a58 = some (eN 2 n61 (upd f62 (0 : Int32).toNatClampNeg (vp_nar .boolean (1 : Int32)))) := by rw [e64]; exact up_s
      have hN66 := up_k (x := some (eN 2 n61 (upd f62 (0 : Int32).toNatClampNeg (vp_nar .boolean (1 : Int32))))) hN60 hN55 (show (5 : Nat) ≠ 15 by decide)
      rw [← e64] at hN66
      refine lq_aload_n (pc := 49) hx hb dX0_laysCan_49 rfl (lv_at hl 1 rfl) ?_
      refine W.eq (g2 := F0 m 50 ls [.ref a47]) (by rw [hr48]; rfl) ?_
      obtain ⟨f70, hN69, h⟩ := h
      refine c_callJ (pc := 50) (val := vI) X hw (va_runV (C := RX6) (As := []) (rest := []) X.1 (tX6_many X.2.2.1 (sz := H.size) h) (cwV 0 hts (lw_V q890 q891 q892 q129 q893) rfl rfl rfl ⟨rfl, by decide, by decide, (by decide +kernel : (parseMethodDescriptor yX6_many.desc).map (fun d => d.parameters.length) = some 0)⟩ ⟨Nat.le_of_ble_eq_true rfl, Nat.le_of_ble_eq_true rfl⟩) ⟨cPre_blind, c_recv X hw hN69 rfl, fun U hU hW => ⟨rfl, X.preJ hw hU hW⟩⟩ rfl rfl hl.1 rfl (lv_room (Nat.le_of_ble_eq_true rfl)) dX0_laysCan_50 ⟨show 0 + 0 ≤ 0 by omega, show 0 + 0 ≤ 0 by omega⟩) (fun r67 N68 H locs h hw => ?_)
      refine W.eq (g2 := F0 m 53 ls (.int r67 :: [])) rfl ?_
      refine lv_iconst (pc := 53) (v := (1 : Int32)) hx hb dX0_laysCan_53 (by decide) ?_
      refine lv_isub (pc := 54) hx hb dX0_laysCan_54 ?_
      refine lv_istore_n (pc := 55) (lv' := [(3, .int (r67 - (1 : Int32))), (0, .ref x0), (1, va_rf x1), (2, .int x2), (4, .int x4), (5, .int x5)]) hx hb dX0_laysCan_55 rfl hl (by decide) rfl (fun ls hl => ?_)
      obtain ⟨k, h⟩ := h
      exact kX0_laysCan_56 X hr hlk  k _ _ _ _ _ _ _ _ h hw (lv_sub hl [1, 2, 3, 0] rfl)
    · have h := h.2 c26
      refine lq_aload_n (pc := 19) hx hb dX0_laysCan_19 rfl (lv_at hl 3 rfl) ?_
      refine lv_iload (pc := 20) hx hb dX0_laysCan_20 (lv_at hl 5 rfl) ?_
      obtain ⟨a148, hr149, h⟩ := h
      refine W.eq (g2 := F0 m 22 ls [.int x5, .ref a148]) (by rw [hr149]; rfl) ?_
      obtain ⟨n151, f152, hN150, h⟩ := h
      obtain ⟨hi, h⟩ := h
      refine c_aaldT (pc := 22) X hw 7 hN150 rfl hi dX0_laysCan_22 ?_
      refine lq_astore (pc := 23) (lv' := [(6, va_rf (f152 x5.toNatClampNeg)), (0, .ref x0), (1, va_rf x1), (2, .int x2), (3, va_rf x3), (4, .int x4), (5, .int x5)]) hx hb dX0_laysCan_23 hl (by decide) rfl (fun ls hl => ?_)
      refine lq_aload (pc := 25) hx hb dX0_laysCan_25 (lv_at hl 0 rfl) ?_
      refine lv_iconst (pc := 27) (v := (0 : Int32)) hx hb dX0_laysCan_27 (by decide) ?_
      obtain ⟨a153, hr154, h⟩ := h
      refine W.eq (g2 := F0 m 28 ls [.int (0 : Int32), .ref a153]) (by rw [hr154]; rfl) ?_
      refine c_callJ (pc := 28) (val := vV) X hw (va_runS (g := F0 m 28 ls _) (As := [.ref a153, .int (0 : Int32)]) (rest := []) X.1 (tJ15_fill_2 X.2.2.1 (sz := H.size) h) (va_cwS 2 hts (lw_S q1631 q1632 q122 q1633) rfl rfl rfl ⟨by decide, by decide, (by decide +kernel : (parseMethodDescriptor yJ15_fill_2.desc).map (fun d => d.parameters.length) = some 2)⟩ ⟨Nat.le_of_ble_eq_true rfl, Nat.le_of_ble_eq_true rfl⟩) ⟨cPre_blind, fun U hU hW => ⟨rfl, X.preJ hw hU hW⟩⟩ rfl rfl hl.1 rfl (lv_room (Nat.le_of_ble_eq_true rfl)) dX0_laysCan_28 ⟨show 0 + 0 ≤ 0 by omega, show 0 + 0 ≤ 0 by omega⟩) (fun _ N156 H locs h hw => ?_)
      refine W.eq (g2 := F0 m 31 ls ([])) rfl ?_
      refine lv_iinc (pc := 31) (v := x5 + (1 : Int32)) (lv' := [(5, .int (x5 + (1 : Int32))), (6, va_rf (f152 x5.toNatClampNeg)), (0, .ref x0), (1, va_rf x1), (2, .int x2), (3, va_rf x3), (4, .int x4)]) hx hb dX0_laysCan_31 hl (k := 6) rfl rfl (by decide) rfl (fun ls hl => ?_)
      refine lv_goto (pc := 34) (tgt := 12) hx hb dX0_laysCan_34 rfl ?_
      exact ih _ _ _ _ _ _ _ _ _ _ h hw (lv_sub hl [2, 3, 4, 5, 6, 0] rfl)
theorem tX0_laysCan {l : Launch} {G : gG} (hO : gOk G) {post : Unit → NM → Prop} {N : NM} {x0 : Nat} {x1 : Option Nat} {x2 : Int32} {sz : Nat} (h : wX0_laysCan (gC G) post N x0 x1 x2) : Met l yX0_laysCan (ws_ yX0_laysCan cX0_laysCan 7 none) ⟨2, 0, 0, 52⟩ (va_Pc [.ref x0, va_rf x1, .int x2] (cPre G [] N sz)) (gQ vV post (fun u H => cBw G (cA [] N sz) (jW u).1 (jW u).2 H) (cA [] N sz)) 0 0 (cA [] N sz) := by
  refine c_ofW (lw := jW) (by decide) hO (by cases x1 <;> exact Nat.le_of_ble_eq_true rfl) (fun p e s m below meth c ls A X hr hlk hin hw hl => ?_)
  have hl : lv_has ls 7 [(0, .ref x0), (1, va_rf x1), (2, .int x2)] := by cases x1 <;> exact hl
  have hx := X.1.1
  have hb := X.1.2.1
  have hml := X.1.2.2.1
  have hown := X.1.2.2.2.1
  have hts := X.1.2.2.2.2
  obtain ⟨H, eH⟩ : ∃ z, z = s.heap := ⟨_, rfl⟩
  rw [← eH] at hw ⊢
  obtain ⟨locs, eLo⟩ : ∃ z : List Loc, z = [] := ⟨_, rfl⟩
  rw [← eLo] at hw ⊢
  unfold wX0_laysCan at h
  refine lv_aload_n (pc := 0) hx hb dX0_laysCan_0 rfl (lv_at hl 0 rfl) ?_
  obtain ⟨f2, f3, f4, f5, f6, f7, f8, f9, f10, f11, f12, f13, f14, f15, f16, f17, f18, f19, f20, hN1, h⟩ := h
  refine c_get (pc := 1) X hw hN1 in_X0 rfl 16 (by decide) q233 rfl rfl dX0_laysCan_1 ?_
  refine lq_astore_n (pc := 4) (lv' := [(3, va_rf f18), (0, .ref x0), (1, va_rf x1), (2, .int x2)]) hx hb dX0_laysCan_4 rfl hl (by decide) rfl (fun ls hl => ?_)
  refine lq_aload_n (pc := 5) hx hb dX0_laysCan_5 rfl (lv_at hl 0 rfl) ?_
  obtain ⟨a21, hr22, h⟩ := h
  refine W.eq (g2 := F0 m 6 ls [.ref a21]) (by rw [hr22]; rfl) ?_
  obtain ⟨n24, f25, hN23, h⟩ := h
  refine c_alen (pc := 6) X hw hN23 rfl dX0_laysCan_6 ?_
  refine lv_istore (pc := 7) (i := 4) (lv' := [(4, .int (nI n24)), (3, va_rf f18), (0, .ref x0), (1, va_rf x1), (2, .int x2)]) hx hb dX0_laysCan_7 hl (by decide) (by simp [rf_c]) (fun ls hl => ?_)
  refine lv_iconst (pc := 9) (v := (0 : Int32)) hx hb dX0_laysCan_9 (by decide) ?_
  refine lv_istore (pc := 10) (lv' := [(5, .int (0 : Int32)), (4, .int (nI n24)), (3, va_rf f18), (0, .ref x0), (1, va_rf x1), (2, .int x2)]) hx hb dX0_laysCan_10 hl (by decide) rfl (fun ls hl => ?_)
  obtain ⟨k, h⟩ := h
  exact kX0_laysCan_12 X hr hlk  k _ _ _ _ _ _ _ _ _ _ h hw (lv_sub hl [3, 4, 5, 2, 1, 0] rfl)

def wX0_greedyOf_109 (K : Nat → Nat → Nat) (K13 : Option Nat → Int64 → Int32 → Int32 → NM → Prop) (post : Int32 → NM → Prop) (x0 : Option Nat) (x1 : Int64) (x4 : Int32) (v0 : Int32) (N : NM) : Prop :=
  K13 x0 x1 v0 (x4 + (1 : Int32)) N
def wX0_greedyOf_96 (K : Nat → Nat → Nat) (K13 : Option Nat → Int64 → Int32 → Int32 → NM → Prop) (post : Int32 → NM → Prop) (x0 : Option Nat) (x1 : Int64) (x3 : Int32) (x4 : Int32) (v0 : Int32) (N : NM) : Prop :=
  ((v0 = (0 : Int32)) → (wX0_greedyOf_109 K K13 post x0 x1 x4 x3 N)) ∧ (¬ (v0 = (0 : Int32)) → (wX0_greedyOf_109 K K13 post x0 x1 x4 x4 N))
def wX0_greedyOf_95 (K : Nat → Nat → Nat) (K13 : Option Nat → Int64 → Int32 → Int32 → NM → Prop) (post : Int32 → NM → Prop) (x0 : Option Nat) (x1 : Int64) (x3 : Int32) (x4 : Int32) (N : NM) : Prop :=
  wX0_greedyOf_96 K K13 post x0 x1 x3 x4 (0 : Int32) N
def wX0_greedyOf_44 (K : Nat → Nat → Nat) (K13 : Option Nat → Int64 → Int32 → Int32 → NM → Prop) (post : Int32 → NM → Prop) (x0 : Option Nat) (x1 : Int64) (x3 : Int32) (x4 : Int32) (v0 : Int32) (N : NM) : Prop :=
  ∃ a26, x0 = some a26 ∧ (∃ f31 f32 f33 f34, N a26 = some (eO 6 [.int f31, .int f32, .int f33, va_rf f34]) ∧ (wX4_value K (fun r28 N29 => ((r28 ≤ x1) → (∃ f39 f40 f41 f42, N29 a26 = some (eO 6 [.int f39, .int f40, .int f41, va_rf f42]) ∧ (wX4_value K (fun r36 N37 => ((x1 < r36) → (wX0_greedyOf_95 K K13 post x0 x1 x3 x4 N37)) ∧ (¬ (x1 < r36) → (∃ f48 f49 f50 f51, N37 a26 = some (eO 6 [.int f48, .int f49, .int f50, va_rf f51]) ∧ (wX4_value K (fun r45 N46 => ∃ f55 f56 f57 f58, N46 a26 = some (eO 6 [.int f55, .int f56, .int f57, va_rf f58]) ∧ (wX4_value K (fun r52 N53 => ((r45 ≤ r52) → (wX0_greedyOf_95 K K13 post x0 x1 x3 x4 N53)) ∧ (¬ (r45 ≤ r52) → (wX0_greedyOf_96 K K13 post x0 x1 x3 x4 (1 : Int32) N53))) N46 a26 x3.toInt64)) N37 a26 x4.toInt64)))) N29 a26 x4.toInt64))) ∧ (¬ (r28 ≤ x1) → (wX0_greedyOf_96 K K13 post x0 x1 x3 x4 v0 N29))) N a26 x3.toInt64))
def wX0_greedyOf_13 (K : Nat → Nat → Nat) (post : Int32 → NM → Prop) : Nat → Option Nat → Int64 → Int32 → Int32 → NM → Prop
  | 0, _, _, _, _, _ => False
  | n + 1, x0, x1, x3, x4, N => ∃ a8, x0 = some a8 ∧ (∃ f11 f12 f13 f14, N a8 = some (eO 6 [.int f11, .int f12, .int f13, va_rf f14]) ∧ (((f13 < x4) → (post x3 N)) ∧ (¬ (f13 < x4) → (wX4_value K (fun r16 N17 => ∃ f21 f22 f23 f24, N17 a8 = some (eO 6 [.int f21, .int f22, .int f23, va_rf f24]) ∧ (wX4_value K (fun r18 N19 => ((r18 ≤ r16) → (wX0_greedyOf_44 K (fun x0 x1 x3 x4 N => wX0_greedyOf_13 K post n x0 x1 x3 x4 N) post x0 x1 x3 x4 (0 : Int32) N19)) ∧ (¬ (r18 ≤ r16) → (wX0_greedyOf_44 K (fun x0 x1 x3 x4 N => wX0_greedyOf_13 K post n x0 x1 x3 x4 N) post x0 x1 x3 x4 (1 : Int32) N19))) N17 a8 x3.toInt64)) N a8 x4.toInt64))))
def wX0_greedyOf (K : Nat → Nat → Nat) (post : Int32 → NM → Prop) (N : NM) (x0 : Option Nat) (x1 : Int64) : Prop :=
  ∃ a1, x0 = some a1 ∧ (∃ f4 f5 f6 f7, N a1 = some (eO 6 [.int f4, .int f5, .int f6, va_rf f7]) ∧ ((∃ k, wX0_greedyOf_13 K post k x0 x1 f5 (f5 + (1 : Int32)) N)))
theorem kX0_greedyOf_109 {p : Program} {l : Launch} {e : Env} {s : State} {m : MethodId} {args : Array Value} {below : List Frame} {meth : Method} {c : Code} {G : gG} {A : Nat → Prop} {K13 : Option Nat → Int64 → Int32 → Int32 → NM → Prop} {post : Int32 → NM → Prop} (X : cX G A RX0 p s m args c cX0_greedyOf 7) (hr : meth.sig.returnType = (some .int)) (hlk : meth.locks = false) (hK13 : ∀ (x0 : Option Nat) (x1 : Int64) (x3 : Int32) (x4 : Int32) (N : NM) (H : Heap) (locs : List Loc) (ls : Array Slot), K13 x0 x1 x3 x4 N → cH G A s [] N H locs → lv_has ls 7 [(0, va_rf x0), (1, .long x1), (3, .int x3), (4, .int x4)] → W p l e ⟨2, 0, 0, 52⟩ s m args below meth c H locs 0 0 (MQ below (gQ vI post (fun u H => cBw G A (jW u).1 (jW u).2 H) A) args s 0 0 A) (F0 m 13 ls [])) : ∀ (x0 : Option Nat) (x1 : Int64) (x4 : Int32) (v0 : Int32) (N : NM) (H : Heap) (locs : List Loc) (ls : Array Slot), wX0_greedyOf_109 (gC G) K13 post x0 x1 x4 v0 N → cH G A s [] N H locs → lv_has ls 7 [(0, va_rf x0), (1, .long x1), (4, .int x4)] → W p l e ⟨2, 0, 0, 52⟩ s m args below meth c H locs 0 0 (MQ below (gQ vI post (fun u H => cBw G A (jW u).1 (jW u).2 H) A) args s 0 0 A) (F0 m 109 ls [.int v0]) := by
  have hx := X.1.1
  have hb := X.1.2.1
  have hml := X.1.2.2.1
  have hown := X.1.2.2.2.1
  have hts := X.1.2.2.2.2
  intro x0 x1 x4 v0 N H locs ls h hw hl
  unfold wX0_greedyOf_109 at h
  refine lv_istore_n (pc := 109) (lv' := [(3, .int v0), (0, va_rf x0), (1, .long x1), (4, .int x4)]) hx hb dX0_greedyOf_109 rfl hl (by decide) rfl (fun ls hl => ?_)
  refine lv_iinc (pc := 110) (v := x4 + (1 : Int32)) (lv' := [(4, .int (x4 + (1 : Int32))), (3, .int v0), (0, va_rf x0), (1, .long x1)]) hx hb dX0_greedyOf_110 hl (k := 3) rfl rfl (by decide) rfl (fun ls hl => ?_)
  refine lv_goto (pc := 113) (tgt := 13) hx hb dX0_greedyOf_113 rfl ?_
  exact hK13 _ _ _ _ _ _ _ _ h hw (lv_sub hl [2, 3, 1, 0] rfl)
theorem kX0_greedyOf_96 {p : Program} {l : Launch} {e : Env} {s : State} {m : MethodId} {args : Array Value} {below : List Frame} {meth : Method} {c : Code} {G : gG} {A : Nat → Prop} {K13 : Option Nat → Int64 → Int32 → Int32 → NM → Prop} {post : Int32 → NM → Prop} (X : cX G A RX0 p s m args c cX0_greedyOf 7) (hr : meth.sig.returnType = (some .int)) (hlk : meth.locks = false) (hK13 : ∀ (x0 : Option Nat) (x1 : Int64) (x3 : Int32) (x4 : Int32) (N : NM) (H : Heap) (locs : List Loc) (ls : Array Slot), K13 x0 x1 x3 x4 N → cH G A s [] N H locs → lv_has ls 7 [(0, va_rf x0), (1, .long x1), (3, .int x3), (4, .int x4)] → W p l e ⟨2, 0, 0, 52⟩ s m args below meth c H locs 0 0 (MQ below (gQ vI post (fun u H => cBw G A (jW u).1 (jW u).2 H) A) args s 0 0 A) (F0 m 13 ls [])) : ∀ (x0 : Option Nat) (x1 : Int64) (x3 : Int32) (x4 : Int32) (v0 : Int32) (N : NM) (H : Heap) (locs : List Loc) (ls : Array Slot), wX0_greedyOf_96 (gC G) K13 post x0 x1 x3 x4 v0 N → cH G A s [] N H locs → lv_has ls 7 [(0, va_rf x0), (1, .long x1), (3, .int x3), (4, .int x4)] → W p l e ⟨2, 0, 0, 52⟩ s m args below meth c H locs 0 0 (MQ below (gQ vI post (fun u H => cBw G A (jW u).1 (jW u).2 H) A) args s 0 0 A) (F0 m 96 ls [.int v0]) := by
  have hx := X.1.1
  have hb := X.1.2.1
  have hml := X.1.2.2.1
  have hown := X.1.2.2.2.1
  have hts := X.1.2.2.2.2
  intro x0 x1 x3 x4 v0 N H locs ls h hw hl
  unfold wX0_greedyOf_96 at h
  refine lv_istore (pc := 96) (lv' := [(6, .int v0), (0, va_rf x0), (1, .long x1), (3, .int x3), (4, .int x4)]) hx hb dX0_greedyOf_96 hl (by decide) rfl (fun ls hl => ?_)
  refine lv_iload (pc := 98) hx hb dX0_greedyOf_98 (lv_at hl 0 rfl) ?_
  refine lv_if_eq (pc := 100) (tgt := 108) hx hb dX0_greedyOf_100 rfl (fun c44 => ?_) (fun c44 => ?_)
  · have h := h.1 c44
    refine lv_iload_n (pc := 108) hx hb dX0_greedyOf_108 rfl (lv_at hl 3 rfl) ?_
    exact kX0_greedyOf_109 X hr hlk hK13 _ _ _ _ _ _ _ _ h hw (lv_sub hl [1, 2, 4] rfl)
  · have h := h.2 c44
    refine lv_iload (pc := 103) hx hb dX0_greedyOf_103 (lv_at hl 4 rfl) ?_
    refine lv_goto (pc := 105) (tgt := 109) hx hb dX0_greedyOf_105 rfl ?_
    exact kX0_greedyOf_109 X hr hlk hK13 _ _ _ _ _ _ _ _ h hw (lv_sub hl [1, 2, 4] rfl)
theorem kX0_greedyOf_95 {p : Program} {l : Launch} {e : Env} {s : State} {m : MethodId} {args : Array Value} {below : List Frame} {meth : Method} {c : Code} {G : gG} {A : Nat → Prop} {K13 : Option Nat → Int64 → Int32 → Int32 → NM → Prop} {post : Int32 → NM → Prop} (X : cX G A RX0 p s m args c cX0_greedyOf 7) (hr : meth.sig.returnType = (some .int)) (hlk : meth.locks = false) (hK13 : ∀ (x0 : Option Nat) (x1 : Int64) (x3 : Int32) (x4 : Int32) (N : NM) (H : Heap) (locs : List Loc) (ls : Array Slot), K13 x0 x1 x3 x4 N → cH G A s [] N H locs → lv_has ls 7 [(0, va_rf x0), (1, .long x1), (3, .int x3), (4, .int x4)] → W p l e ⟨2, 0, 0, 52⟩ s m args below meth c H locs 0 0 (MQ below (gQ vI post (fun u H => cBw G A (jW u).1 (jW u).2 H) A) args s 0 0 A) (F0 m 13 ls [])) : ∀ (x0 : Option Nat) (x1 : Int64) (x3 : Int32) (x4 : Int32) (N : NM) (H : Heap) (locs : List Loc) (ls : Array Slot), wX0_greedyOf_95 (gC G) K13 post x0 x1 x3 x4 N → cH G A s [] N H locs → lv_has ls 7 [(0, va_rf x0), (1, .long x1), (3, .int x3), (4, .int x4)] → W p l e ⟨2, 0, 0, 52⟩ s m args below meth c H locs 0 0 (MQ below (gQ vI post (fun u H => cBw G A (jW u).1 (jW u).2 H) A) args s 0 0 A) (F0 m 95 ls []) := by
  have hx := X.1.1
  have hb := X.1.2.1
  have hml := X.1.2.2.1
  have hown := X.1.2.2.2.1
  have hts := X.1.2.2.2.2
  intro x0 x1 x3 x4 N H locs ls h hw hl
  unfold wX0_greedyOf_95 at h
  refine lv_iconst (pc := 95) (v := (0 : Int32)) hx hb dX0_greedyOf_95 (by decide) ?_
  exact kX0_greedyOf_96 X hr hlk hK13 _ _ _ _ _ _ _ _ _ h hw (lv_sub hl [0, 1, 2, 3] rfl)
theorem kX0_greedyOf_44 {p : Program} {l : Launch} {e : Env} {s : State} {m : MethodId} {args : Array Value} {below : List Frame} {meth : Method} {c : Code} {G : gG} {A : Nat → Prop} {K13 : Option Nat → Int64 → Int32 → Int32 → NM → Prop} {post : Int32 → NM → Prop} (X : cX G A RX0 p s m args c cX0_greedyOf 7) (hr : meth.sig.returnType = (some .int)) (hlk : meth.locks = false) (hK13 : ∀ (x0 : Option Nat) (x1 : Int64) (x3 : Int32) (x4 : Int32) (N : NM) (H : Heap) (locs : List Loc) (ls : Array Slot), K13 x0 x1 x3 x4 N → cH G A s [] N H locs → lv_has ls 7 [(0, va_rf x0), (1, .long x1), (3, .int x3), (4, .int x4)] → W p l e ⟨2, 0, 0, 52⟩ s m args below meth c H locs 0 0 (MQ below (gQ vI post (fun u H => cBw G A (jW u).1 (jW u).2 H) A) args s 0 0 A) (F0 m 13 ls [])) : ∀ (x0 : Option Nat) (x1 : Int64) (x3 : Int32) (x4 : Int32) (v0 : Int32) (N : NM) (H : Heap) (locs : List Loc) (ls : Array Slot), wX0_greedyOf_44 (gC G) K13 post x0 x1 x3 x4 v0 N → cH G A s [] N H locs → lv_has ls 7 [(0, va_rf x0), (1, .long x1), (3, .int x3), (4, .int x4)] → W p l e ⟨2, 0, 0, 52⟩ s m args below meth c H locs 0 0 (MQ below (gQ vI post (fun u H => cBw G A (jW u).1 (jW u).2 H) A) args s 0 0 A) (F0 m 44 ls [.int v0]) := by
  have hx := X.1.1
  have hb := X.1.2.1
  have hml := X.1.2.2.1
  have hown := X.1.2.2.2.1
  have hts := X.1.2.2.2.2
  intro x0 x1 x3 x4 v0 N H locs ls h hw hl
  unfold wX0_greedyOf_44 at h
  refine lv_istore (pc := 44) (lv' := [(5, .int v0), (0, va_rf x0), (1, .long x1), (3, .int x3), (4, .int x4)]) hx hb dX0_greedyOf_44 hl (by decide) rfl (fun ls hl => ?_)
  refine lq_aload_n (pc := 46) hx hb dX0_greedyOf_46 rfl (lv_at hl 1 rfl) ?_
  refine lv_iload_n (pc := 47) hx hb dX0_greedyOf_47 rfl (lv_at hl 3 rfl) ?_
  refine lv_i2l (pc := 48) hx hb dX0_greedyOf_48 rfl ?_
  obtain ⟨a26, hr27, h⟩ := h
  refine W.eq (g2 := F0 m 49 ls [.long x3.toInt64, .ref a26]) (by rw [hr27]; rfl) ?_
  obtain ⟨f31, f32, f33, f34, hN30, h⟩ := h
  refine c_callJ (pc := 49) (val := vL) X hw (va_runV (C := RX4) (As := [.long x3.toInt64]) (rest := []) X.1 (tX4_value X.2.2.1 (sz := H.size) h) (cwV 1 hts (lw_V q1383 q738 q739 q126 q740) rfl rfl rfl ⟨rfl, by decide, by decide, (by decide +kernel : (parseMethodDescriptor yX4_value.desc).map (fun d => d.parameters.length) = some 1)⟩ ⟨Nat.le_of_ble_eq_true rfl, Nat.le_of_ble_eq_true rfl⟩) ⟨cPre_blind, c_recv X hw hN30 rfl, fun U hU hW => ⟨rfl, X.preJ hw hU hW⟩⟩ rfl rfl hl.1 rfl (lv_room (Nat.le_of_ble_eq_true rfl)) dX0_greedyOf_49 ⟨show 0 + 0 ≤ 0 by omega, show 0 + 0 ≤ 0 by omega⟩) (fun r28 N29 H locs h hw => ?_)
  refine W.eq (g2 := F0 m 52 ls (.long r28 :: [])) rfl ?_
  refine lv_lload_n (pc := 52) hx hb dX0_greedyOf_52 rfl (lv_at hl 2 rfl) ?_
  refine W.lcmp (pc := 53) hx hb dX0_greedyOf_53 ?_
  refine lv_if_le (pc := 54) (tgt := 62) hx hb dX0_greedyOf_54 rfl (fun c35 => ?_) (fun c35 => ?_)
  · have h := h.1 ((lg_cmp_le _ _).mp c35)
    refine lq_aload_n (pc := 62) hx hb dX0_greedyOf_62 rfl (lv_at hl 1 rfl) ?_
    refine lv_iload (pc := 63) hx hb dX0_greedyOf_63 (lv_at hl 4 rfl) ?_
    refine lv_i2l (pc := 65) hx hb dX0_greedyOf_65 rfl ?_
    refine W.eq (g2 := F0 m 66 ls [.long x4.toInt64, .ref a26]) (by rw [hr27]; rfl) ?_
    obtain ⟨f39, f40, f41, f42, hN38, h⟩ := h
    refine c_callJ (pc := 66) (val := vL) X hw (va_runV (C := RX4) (As := [.long x4.toInt64]) (rest := []) X.1 (tX4_value X.2.2.1 (sz := H.size) h) (cwV 1 hts (lw_V q1383 q738 q739 q126 q740) rfl rfl rfl ⟨rfl, by decide, by decide, (by decide +kernel : (parseMethodDescriptor yX4_value.desc).map (fun d => d.parameters.length) = some 1)⟩ ⟨Nat.le_of_ble_eq_true rfl, Nat.le_of_ble_eq_true rfl⟩) ⟨cPre_blind, c_recv X hw hN38 rfl, fun U hU hW => ⟨rfl, X.preJ hw hU hW⟩⟩ rfl rfl hl.1 rfl (lv_room (Nat.le_of_ble_eq_true rfl)) dX0_greedyOf_66 ⟨show 0 + 0 ≤ 0 by omega, show 0 + 0 ≤ 0 by omega⟩) (fun r36 N37 H locs h hw => ?_)
    refine W.eq (g2 := F0 m 69 ls (.long r36 :: [])) rfl ?_
    refine lv_lload_n (pc := 69) hx hb dX0_greedyOf_69 rfl (lv_at hl 2 rfl) ?_
    refine W.lcmp (pc := 70) hx hb dX0_greedyOf_70 ?_
    refine lv_if_gt (pc := 71) (tgt := 95) hx hb dX0_greedyOf_71 rfl (fun c43 => ?_) (fun c43 => ?_)
    · have h := h.1 ((lg_cmp_gt _ _).mp c43)
      exact kX0_greedyOf_95 X hr hlk hK13 _ _ _ _ _ _ _ _ h hw (lv_sub hl [1, 2, 3, 4] rfl)
    · have h := h.2 (fun z => c43 ((lg_cmp_gt _ _).mpr z))
      refine lq_aload_n (pc := 74) hx hb dX0_greedyOf_74 rfl (lv_at hl 1 rfl) ?_
      refine lv_iload (pc := 75) hx hb dX0_greedyOf_75 (lv_at hl 4 rfl) ?_
      refine lv_i2l (pc := 77) hx hb dX0_greedyOf_77 rfl ?_
      refine W.eq (g2 := F0 m 78 ls [.long x4.toInt64, .ref a26]) (by rw [hr27]; rfl) ?_
      obtain ⟨f48, f49, f50, f51, hN47, h⟩ := h
      refine c_callJ (pc := 78) (val := vL) X hw (va_runV (C := RX4) (As := [.long x4.toInt64]) (rest := []) X.1 (tX4_value X.2.2.1 (sz := H.size) h) (cwV 1 hts (lw_V q1383 q738 q739 q126 q740) rfl rfl rfl ⟨rfl, by decide, by decide, (by decide +kernel : (parseMethodDescriptor yX4_value.desc).map (fun d => d.parameters.length) = some 1)⟩ ⟨Nat.le_of_ble_eq_true rfl, Nat.le_of_ble_eq_true rfl⟩) ⟨cPre_blind, c_recv X hw hN47 rfl, fun U hU hW => ⟨rfl, X.preJ hw hU hW⟩⟩ rfl rfl hl.1 rfl (lv_room (Nat.le_of_ble_eq_true rfl)) dX0_greedyOf_78 ⟨show 0 + 0 ≤ 0 by omega, show 0 + 0 ≤ 0 by omega⟩) (fun r45 N46 H locs h hw => ?_)
      refine W.eq (g2 := F0 m 81 ls (.long r45 :: [])) rfl ?_
      refine lq_aload_n (pc := 81) hx hb dX0_greedyOf_81 rfl (lv_at hl 1 rfl) ?_
      refine lv_iload_n (pc := 82) hx hb dX0_greedyOf_82 rfl (lv_at hl 3 rfl) ?_
      refine lv_i2l (pc := 83) hx hb dX0_greedyOf_83 rfl ?_
      refine W.eq (g2 := F0 m 84 ls [.long x3.toInt64, .ref a26, .long r45]) (by rw [hr27]; rfl) ?_
      obtain ⟨f55, f56, f57, f58, hN54, h⟩ := h
      refine c_callJ (pc := 84) (val := vL) X hw (va_runV (C := RX4) (As := [.long x3.toInt64]) (rest := [.long r45]) X.1 (tX4_value X.2.2.1 (sz := H.size) h) (cwV 1 hts (lw_V q1383 q738 q739 q126 q740) rfl rfl rfl ⟨rfl, by decide, by decide, (by decide +kernel : (parseMethodDescriptor yX4_value.desc).map (fun d => d.parameters.length) = some 1)⟩ ⟨Nat.le_of_ble_eq_true rfl, Nat.le_of_ble_eq_true rfl⟩) ⟨cPre_blind, c_recv X hw hN54 rfl, fun U hU hW => ⟨rfl, X.preJ hw hU hW⟩⟩ rfl rfl hl.1 rfl (lv_room (Nat.le_of_ble_eq_true rfl)) dX0_greedyOf_84 ⟨show 0 + 0 ≤ 0 by omega, show 0 + 0 ≤ 0 by omega⟩) (fun r52 N53 H locs h hw => ?_)
      refine W.eq (g2 := F0 m 87 ls (.long r52 :: [.long r45])) rfl ?_
      refine W.lcmp (pc := 87) hx hb dX0_greedyOf_87 ?_
      refine lv_if_le (pc := 88) (tgt := 95) hx hb dX0_greedyOf_88 rfl (fun c59 => ?_) (fun c59 => ?_)
      · have h := h.1 ((lg_cmp_le _ _).mp c59)
        exact kX0_greedyOf_95 X hr hlk hK13 _ _ _ _ _ _ _ _ h hw (lv_sub hl [1, 2, 3, 4] rfl)
      · have h := h.2 (fun z => c59 ((lg_cmp_le _ _).mpr z))
        refine lv_iconst (pc := 91) (v := (1 : Int32)) hx hb dX0_greedyOf_91 (by decide) ?_
        refine lv_goto (pc := 92) (tgt := 96) hx hb dX0_greedyOf_92 rfl ?_
        exact kX0_greedyOf_96 X hr hlk hK13 _ _ _ _ _ _ _ _ _ h hw (lv_sub hl [1, 2, 3, 4] rfl)
  · have h := h.2 (fun z => c35 ((lg_cmp_le _ _).mpr z))
    refine lv_iload (pc := 57) hx hb dX0_greedyOf_57 (lv_at hl 0 rfl) ?_
    refine lv_goto (pc := 59) (tgt := 96) hx hb dX0_greedyOf_59 rfl ?_
    exact kX0_greedyOf_96 X hr hlk hK13 _ _ _ _ _ _ _ _ _ h hw (lv_sub hl [1, 2, 3, 4] rfl)
theorem kX0_greedyOf_13 {p : Program} {l : Launch} {e : Env} {s : State} {m : MethodId} {args : Array Value} {below : List Frame} {meth : Method} {c : Code} {G : gG} {A : Nat → Prop} {post : Int32 → NM → Prop} (X : cX G A RX0 p s m args c cX0_greedyOf 7) (hr : meth.sig.returnType = (some .int)) (hlk : meth.locks = false) : ∀ (n : Nat) (x0 : Option Nat) (x1 : Int64) (x3 : Int32) (x4 : Int32) (N : NM) (H : Heap) (locs : List Loc) (ls : Array Slot), wX0_greedyOf_13 (gC G) post n x0 x1 x3 x4 N → cH G A s [] N H locs → lv_has ls 7 [(0, va_rf x0), (1, .long x1), (3, .int x3), (4, .int x4)] → W p l e ⟨2, 0, 0, 52⟩ s m args below meth c H locs 0 0 (MQ below (gQ vI post (fun u H => cBw G A (jW u).1 (jW u).2 H) A) args s 0 0 A) (F0 m 13 ls []) := by
  have hx := X.1.1
  have hb := X.1.2.1
  have hml := X.1.2.2.1
  have hown := X.1.2.2.2.1
  have hts := X.1.2.2.2.2
  intro n
  induction n with
  | zero =>
    intro x0 x1 x3 x4 N H locs ls h
    exact False.elim h
  | succ n ih =>
    intro x0 x1 x3 x4 N H locs ls h hw hl
    unfold wX0_greedyOf_13 at h
    refine lv_iload (pc := 13) hx hb dX0_greedyOf_13 (lv_at hl 3 rfl) ?_
    refine lq_aload_n (pc := 15) hx hb dX0_greedyOf_15 rfl (lv_at hl 0 rfl) ?_
    obtain ⟨a8, hr9, h⟩ := h
    refine W.eq (g2 := F0 m 16 ls [.ref a8, .int x4]) (by rw [hr9]; rfl) ?_
    obtain ⟨f11, f12, f13, f14, hN10, h⟩ := h
    refine c_getN (pc := 16) X hw hN10 in_X4 rfl 2 (by decide) q715 rfl rfl dX0_greedyOf_16 ?_
    refine lv_icmp_gt (pc := 19) (tgt := 116) hx hb dX0_greedyOf_19 rfl (fun c15 => ?_) (fun c15 => ?_)
    · have h := h.1 c15
      refine lv_iload_n (pc := 116) hx hb dX0_greedyOf_116 rfl (lv_at hl 2 rfl) ?_
      exact W.iret (pc := 117) hx hb hr (fun t ht hW => c_ret (val := vI) (lw := jW) (u := N) hw h ht) hw.2.2.2 dX0_greedyOf_117 hlk
    · have h := h.2 c15
      refine lq_aload_n (pc := 22) hx hb dX0_greedyOf_22 rfl (lv_at hl 0 rfl) ?_
      refine lv_iload (pc := 23) hx hb dX0_greedyOf_23 (lv_at hl 3 rfl) ?_
      refine lv_i2l (pc := 25) hx hb dX0_greedyOf_25 rfl ?_
      refine W.eq (g2 := F0 m 26 ls [.long x4.toInt64, .ref a8]) (by rw [hr9]; rfl) ?_
      refine c_callJ (pc := 26) (val := vL) X hw (va_runV (C := RX4) (As := [.long x4.toInt64]) (rest := []) X.1 (tX4_value X.2.2.1 (sz := H.size) h) (cwV 1 hts (lw_V q1383 q738 q739 q126 q740) rfl rfl rfl ⟨rfl, by decide, by decide, (by decide +kernel : (parseMethodDescriptor yX4_value.desc).map (fun d => d.parameters.length) = some 1)⟩ ⟨Nat.le_of_ble_eq_true rfl, Nat.le_of_ble_eq_true rfl⟩) ⟨cPre_blind, c_recv X hw hN10 rfl, fun U hU hW => ⟨rfl, X.preJ hw hU hW⟩⟩ rfl rfl hl.1 rfl (lv_room (Nat.le_of_ble_eq_true rfl)) dX0_greedyOf_26 ⟨show 0 + 0 ≤ 0 by omega, show 0 + 0 ≤ 0 by omega⟩) (fun r16 N17 H locs h hw => ?_)
      refine W.eq (g2 := F0 m 29 ls (.long r16 :: [])) rfl ?_
      refine lq_aload_n (pc := 29) hx hb dX0_greedyOf_29 rfl (lv_at hl 0 rfl) ?_
      refine lv_iload_n (pc := 30) hx hb dX0_greedyOf_30 rfl (lv_at hl 2 rfl) ?_
      refine lv_i2l (pc := 31) hx hb dX0_greedyOf_31 rfl ?_
      refine W.eq (g2 := F0 m 32 ls [.long x3.toInt64, .ref a8, .long r16]) (by rw [hr9]; rfl) ?_
      obtain ⟨f21, f22, f23, f24, hN20, h⟩ := h
      refine c_callJ (pc := 32) (val := vL) X hw (va_runV (C := RX4) (As := [.long x3.toInt64]) (rest := [.long r16]) X.1 (tX4_value X.2.2.1 (sz := H.size) h) (cwV 1 hts (lw_V q1383 q738 q739 q126 q740) rfl rfl rfl ⟨rfl, by decide, by decide, (by decide +kernel : (parseMethodDescriptor yX4_value.desc).map (fun d => d.parameters.length) = some 1)⟩ ⟨Nat.le_of_ble_eq_true rfl, Nat.le_of_ble_eq_true rfl⟩) ⟨cPre_blind, c_recv X hw hN20 rfl, fun U hU hW => ⟨rfl, X.preJ hw hU hW⟩⟩ rfl rfl hl.1 rfl (lv_room (Nat.le_of_ble_eq_true rfl)) dX0_greedyOf_32 ⟨show 0 + 0 ≤ 0 by omega, show 0 + 0 ≤ 0 by omega⟩) (fun r18 N19 H locs h hw => ?_)
      refine W.eq (g2 := F0 m 35 ls (.long r18 :: [.long r16])) rfl ?_
      refine W.lcmp (pc := 35) hx hb dX0_greedyOf_35 ?_
      refine lv_if_ge (pc := 36) (tgt := 43) hx hb dX0_greedyOf_36 rfl (fun c25 => ?_) (fun c25 => ?_)
      · have h := h.1 ((lg_cmp_ge _ _).mp c25)
        refine lv_iconst (pc := 43) (v := (0 : Int32)) hx hb dX0_greedyOf_43 (by decide) ?_
        exact kX0_greedyOf_44 X hr hlk ih _ _ _ _ _ _ _ _ _ h hw (lv_sub hl [0, 1, 2, 3] rfl)
      · have h := h.2 (fun z => c25 ((lg_cmp_ge _ _).mpr z))
        refine lv_iconst (pc := 39) (v := (1 : Int32)) hx hb dX0_greedyOf_39 (by decide) ?_
        refine lv_goto (pc := 40) (tgt := 44) hx hb dX0_greedyOf_40 rfl ?_
        exact kX0_greedyOf_44 X hr hlk ih _ _ _ _ _ _ _ _ _ h hw (lv_sub hl [0, 1, 2, 3] rfl)
theorem tX0_greedyOf {l : Launch} {G : gG} (hO : gOk G) {post : Int32 → NM → Prop} {N : NM} {x0 : Option Nat} {x1 : Int64} {sz : Nat} (h : wX0_greedyOf (gC G) post N x0 x1) : Met l yX0_greedyOf (ws_ yX0_greedyOf cX0_greedyOf 7 (some .int)) ⟨2, 0, 0, 52⟩ (va_Pc [va_rf x0, .long x1] (cPre G [] N sz)) (gQ vI post (fun u H => cBw G (cA [] N sz) (jW u).1 (jW u).2 H) (cA [] N sz)) 0 0 (cA [] N sz) := by
  refine c_ofW (lw := jW) (by decide) hO (by cases x0 <;> exact Nat.le_of_ble_eq_true rfl) (fun p e s m below meth c ls A X hr hlk hin hw hl => ?_)
  have hl : lv_has ls 7 [(0, va_rf x0), (1, .long x1)] := by cases x0 <;> exact hl
  have hx := X.1.1
  have hb := X.1.2.1
  have hml := X.1.2.2.1
  have hown := X.1.2.2.2.1
  have hts := X.1.2.2.2.2
  obtain ⟨H, eH⟩ : ∃ z, z = s.heap := ⟨_, rfl⟩
  rw [← eH] at hw ⊢
  obtain ⟨locs, eLo⟩ : ∃ z : List Loc, z = [] := ⟨_, rfl⟩
  rw [← eLo] at hw ⊢
  unfold wX0_greedyOf at h
  refine lq_aload_n (pc := 0) hx hb dX0_greedyOf_0 rfl (lv_at hl 0 rfl) ?_
  obtain ⟨a1, hr2, h⟩ := h
  refine W.eq (g2 := F0 m 1 ls [.ref a1]) (by rw [hr2]; rfl) ?_
  obtain ⟨f4, f5, f6, f7, hN3, h⟩ := h
  refine c_getN (pc := 1) X hw hN3 in_X4 rfl 1 (by decide) q712 rfl rfl dX0_greedyOf_1 ?_
  refine lv_istore_n (pc := 4) (lv' := [(3, .int f5), (0, va_rf x0), (1, .long x1)]) hx hb dX0_greedyOf_4 rfl hl (by decide) rfl (fun ls hl => ?_)
  refine lq_aload_n (pc := 5) hx hb dX0_greedyOf_5 rfl (lv_at hl 1 rfl) ?_
  refine W.eq (g2 := F0 m 6 ls [.ref a1]) (by rw [hr2]; rfl) ?_
  refine c_getN (pc := 6) X hw hN3 in_X4 rfl 1 (by decide) q712 rfl rfl dX0_greedyOf_6 ?_
  refine lv_iconst (pc := 9) (v := (1 : Int32)) hx hb dX0_greedyOf_9 (by decide) ?_
  refine lv_iadd (pc := 10) hx hb dX0_greedyOf_10 ?_
  refine lv_istore (pc := 11) (lv' := [(4, .int (f5 + (1 : Int32))), (3, .int f5), (0, va_rf x0), (1, .long x1)]) hx hb dX0_greedyOf_11 hl (by decide) rfl (fun ls hl => ?_)
  obtain ⟨k, h⟩ := h
  exact kX0_greedyOf_13 X hr hlk  k _ _ _ _ _ _ _ _ h hw (lv_sub hl [2, 3, 1, 0] rfl)

def wX0_formOf (K : Nat → Nat → Nat) (post : Option Nat → NM → Prop) (MC MS : Nat) (N : NM) (x0 : Nat) (x1 : Int32) : Prop :=
  ¬ x1 < 0 ∧ x1.toNatClampNeg ≤ 65536 ∧ 1 ≤ MC ∧ x1.toNatClampNeg ≤ MS ∧ (∀ nq5, N nq5 = none → (∀ N7, N7 = va_up N nq5 (some (eR 5 x1.toNatClampNeg (fun _ => (none : Option Nat)))) → (∃ n17 f18, N7 x0 = some (eR 5 n17 f18) ∧ (¬ (0 : Int32) < 0 ∧ ¬ (0 : Int32) < 0 ∧ ¬ x1 < 0 ∧ (0 : Int32).toNatClampNeg + x1.toNatClampNeg ≤ n17 ∧ (0 : Int32).toNatClampNeg + x1.toNatClampNeg ≤ x1.toNatClampNeg ∧ (∀ i, i < x1.toNatClampNeg → ∀ y, f18 ((0 : Int32).toNatClampNeg + i) = some y → ∃ fs, N7 y = some (eO 6 fs)) ∧ (∀ N25, N25 = va_up N7 nq5 (some (eR 5 x1.toNatClampNeg (va_cpy f18 (fun _ => (none : Option Nat)) (0 : Int32).toNatClampNeg (0 : Int32).toNatClampNeg x1.toNatClampNeg))) → (1 ≤ (MC - 1) ∧ 1 ≤ (MS - x1.toNatClampNeg) ∧ (∀ nq30, N25 nq30 = none → (∀ N32, N32 = va_up N25 nq30 (some (eO 7 [va_rf none])) → (wX6_init K (fun _ N37 => post (some nq30) N37) N32 nq30 nq5)))))))))
theorem tX0_formOf {l : Launch} {G : gG} (hO : gOk G) {post : Option Nat → NM → Prop} {MC MS : Nat} {N : NM} {x0 : Nat} {x1 : Int32} {sz : Nat} (h : wX0_formOf (gC G) post MC MS N x0 x1) : Met l yX0_formOf (ws_ yX0_formOf cX0_formOf 3 (some (.object "ToldPowers$Form"))) ⟨2, MC, MS, 60⟩ (va_Pc [.ref x0, .int x1] (cPre G [] N sz)) (gQ vQ post (fun u H => cBw G (cA [] N sz) (jW u).1 (jW u).2 H) (cA [] N sz)) MC MS (cA [] N sz) := by
  refine c_ofW (lw := jW) (by decide) hO (Nat.le_of_ble_eq_true rfl) (fun p e s m below meth c ls A X hr hlk hin hw hl => ?_)
  have hl : lv_has ls 3 [(0, .ref x0), (1, .int x1)] := hl
  have hx := X.1.1
  have hb := X.1.2.1
  have hml := X.1.2.2.1
  have hown := X.1.2.2.2.1
  have hts := X.1.2.2.2.2
  obtain ⟨H, eH⟩ : ∃ z, z = s.heap := ⟨_, rfl⟩
  rw [← eH] at hw ⊢
  obtain ⟨locs, eLo⟩ : ∃ z : List Loc, z = [] := ⟨_, rfl⟩
  rw [← eLo] at hw ⊢
  have hbud : 0 + MC ≤ MC ∧ 0 + MS ≤ MS := by omega
  unfold wX0_formOf at h
  refine lv_iload_n (pc := 0) hx hb dX0_formOf_0 rfl (lv_at hl 1 rfl) ?_
  obtain ⟨hm1, hm2, hm3, hm4, h⟩ := h
  refine c_newq (pc := 1) X hw q1764 q865 5 rfl hm1 rfl (Nat.le_trans (Nat.mul_le_mul_right _ hm2) (Nat.le_of_ble_eq_true rfl)) (show 0 + 1 ≤ MC by omega) (show 0 + x1.toNatClampNeg ≤ MS by omega) dX0_formOf_1 (fun nq5 H hq6 _ hw => ?_)
  have h := h nq5 hq6
  obtain ⟨N7, e8⟩ : ∃ z, z = va_up N nq5 (some (eR 5 x1.toNatClampNeg (fun _ => (none : Option Nat)))) := ⟨_, rfl⟩
  have hw : cH G A s [] N7 H locs := by rw [e8]; exact hw
  have h := h N7 e8
  have hN9 : N7 nq5 = some (eR 5 x1.toNatClampNeg (fun _ => (none : Option Nat))) := by rw [e8]; exact up_s
  refine lv_astore_n (pc := 4) (lv' := [(2, .ref nq5), (0, .ref x0), (1, .int x1)]) hx hb dX0_formOf_4 rfl hl (by decide) rfl (fun ls hl => ?_)
  refine lv_aload_n (pc := 5) hx hb dX0_formOf_5 rfl (lv_at hl 1 rfl) ?_
  refine lv_iconst (pc := 6) (v := (0 : Int32)) hx hb dX0_formOf_6 (by decide) ?_
  refine lv_aload_n (pc := 7) hx hb dX0_formOf_7 rfl (lv_at hl 0 rfl) ?_
  refine lv_iconst (pc := 8) (v := (0 : Int32)) hx hb dX0_formOf_8 (by decide) ?_
  refine lv_iload_n (pc := 9) hx hb dX0_formOf_9 rfl (lv_at hl 2 rfl) ?_
  obtain ⟨n17, f18, hN16, h⟩ := h
  obtain ⟨hm19, hm20, hm21, hm22, hm23, hm24, h⟩ := h
  refine c_copyM (pc := 10) (rest := []) X hw hl.1 q372 q374 q373 q112 5 hN16 hN9 rfl hm19 hm20 hm21 hm22 hm23 (fun i hi y hy => by obtain ⟨fs, hfs⟩ := hm24 i hi y hy; exact c_anyS X hw hfs rfl) (Nat.le_of_ble_eq_true rfl) (Nat.le_of_ble_eq_true rfl) dX0_formOf_10 (fun H locs hw => ?_)
  obtain ⟨N25, e26⟩ : ∃ z, z = va_up N7 nq5 (some (eR 5 x1.toNatClampNeg (va_cpy f18 (fun _ => (none : Option Nat)) (0 : Int32).toNatClampNeg (0 : Int32).toNatClampNeg x1.toNatClampNeg))) := ⟨_, rfl⟩
  have hw : cH G A s [] N25 H locs := by rw [e26]; exact hw
  have h := h N25 e26
  have hN27 : N25 nq5 = some (eR 5 x1.toNatClampNeg (va_cpy f18 (fun _ => (none : Option Nat)) (0 : Int32).toNatClampNeg (0 : Int32).toNatClampNeg x1.toNatClampNeg)) := by rw [e26]; exact up_s
  obtain ⟨hm28, hm29, h⟩ := h
  refine c_new (pc := 13) (ci := 7) (fs := [va_rf none]) X hw in_X6 tyX6 tyX6_ok q202 q879 q129 rfl nf_X6 (show 0 + 1 + 1 ≤ MC by omega) (show 0 + x1.toNatClampNeg + 1 ≤ MS by omega) dX0_formOf_13 (fun nq30 H hq31 _ hw => ?_)
  have h := h nq30 hq31
  obtain ⟨N32, e33⟩ : ∃ z, z = va_up N25 nq30 (some (eO 7 [va_rf none])) := ⟨_, rfl⟩
  have hw : cH G A s [] N32 H locs := by rw [e33]; exact hw
  have h := h N32 e33
  have hN34 : N32 nq30 = some (eO 7 [va_rf none]) := by rw [e33]; exact up_s
  have hN35 := up_f (x := some (eO 7 [va_rf none])) hq31 hN27
  rw [← e33] at hN35
  refine lv_dup (pc := 16) hx hb dX0_formOf_16 rfl ?_
  refine lv_aload_n (pc := 17) hx hb dX0_formOf_17 rfl (lv_at hl 0 rfl) ?_
  refine c_callJ (pc := 18) (val := vV) X hw (va_runI (As := [.ref nq5]) (rest := [.ref nq30]) X.1 (tX6_init X.2.2.1 (sz := H.size) h) (cwI 1 hts (lw_meth q882) rfl rfl rfl (hts _ q129) (hts _ q1768) (hts _ q881) rfl ⟨by decide, by decide, (by decide +kernel : (parseMethodDescriptor yX6_init.desc).map (fun d => d.parameters.length) = some 1)⟩ ⟨Nat.le_of_ble_eq_true rfl, Nat.le_of_ble_eq_true rfl⟩) ⟨cPre_blind, fun U hU hW => ⟨rfl, X.preJ hw hU hW⟩⟩ rfl rfl hl.1 rfl (lv_room (Nat.le_of_ble_eq_true rfl)) dX0_formOf_18 ⟨show 0 + 1 + 1 + 0 ≤ MC by omega, show 0 + x1.toNatClampNeg + 1 + 0 ≤ MS by omega⟩) (fun _ N37 H locs h hw => ?_)
  refine W.eq (g2 := F0 m 21 ls ([.ref nq30])) rfl ?_
  refine W.widen (k := MC) (n := MS) (by omega) (by omega) ?_
  exact W.aret (pc := 21) (v := va_rf (some nq30)) hx hb hr (Or.inl ⟨_, rfl⟩) (va_rf_or _) (fun t ht hW => c_ret (val := vQ) (lw := jW) (u := N37) hw h ht) hw.2.2.2 dX0_formOf_21 hlk

def wX0_product (K : Nat → Nat → Nat) (post : Int64 → NM → Prop) (N : NM) (x0 : Int64) (x2 : Int64) (x4 : Nat) : Prop :=
  wX0_goesRound (fun r1 => ((r1 = (0 : Int32)) → (post (x0 * x2) N)) ∧ (¬ (r1 = (0 : Int32)) → (∃ n4 f5, N x4 = some (eN 0 n4 f5) ∧ (vp_in (6 : Int32) n4 ∧ (∀ N6, N6 = va_up N x4 (some (eN 0 n4 (upd f5 (6 : Int32).toNatClampNeg (1 : Int32)))) → (post (x0 * x2) N6)))))) (42 : Int32) x0 x2 (x0 * x2)
theorem tX0_product {l : Launch} {G : gG} (hO : gOk G) {post : Int64 → NM → Prop} {N : NM} {x0 : Int64} {x2 : Int64} {x4 : Nat} {sz : Nat} (h : wX0_product (gC G) post N x0 x2 x4) : Met l yX0_product (ws_ yX0_product cX0_product 7 (some .long)) ⟨1, 0, 0, 26⟩ (va_Pc [.long x0, .long x2, .ref x4] (cPre G [] N sz)) (gQ vL post (fun u H => cBw G (cA [] N sz) (jW u).1 (jW u).2 H) (cA [] N sz)) 0 0 (cA [] N sz) := by
  refine c_ofW (lw := jW) (by decide) hO (Nat.le_of_ble_eq_true rfl) (fun p e s m below meth c ls A X hr hlk hin hw hl => ?_)
  have hl : lv_has ls 7 [(0, .long x0), (2, .long x2), (4, .ref x4)] := hl
  have hx := X.1.1
  have hb := X.1.2.1
  have hml := X.1.2.2.1
  have hown := X.1.2.2.2.1
  have hts := X.1.2.2.2.2
  obtain ⟨H, eH⟩ : ∃ z, z = s.heap := ⟨_, rfl⟩
  rw [← eH] at hw ⊢
  obtain ⟨locs, eLo⟩ : ∃ z : List Loc, z = [] := ⟨_, rfl⟩
  rw [← eLo] at hw ⊢
  unfold wX0_product at h
  refine lv_lload_n (pc := 0) hx hb dX0_product_0 rfl (lv_at hl 0 rfl) ?_
  refine lv_lload_n (pc := 1) hx hb dX0_product_1 rfl (lv_at hl 1 rfl) ?_
  refine lv_lmul (pc := 2) hx hb dX0_product_2 ?_
  refine lv_lstore (pc := 3) (lv' := [(5, .long (x0 * x2)), (0, .long x0), (2, .long x2), (4, .ref x4)]) hx hb dX0_product_3 hl (by decide) rfl (fun ls hl => ?_)
  refine lv_bipush (pc := 5) (v := (42 : Int32)) hx hb dX0_product_5 (by decide) ?_
  refine lv_lload_n (pc := 7) hx hb dX0_product_7 rfl (lv_at hl 1 rfl) ?_
  refine lv_lload_n (pc := 8) hx hb dX0_product_8 rfl (lv_at hl 2 rfl) ?_
  refine lv_lload (pc := 9) hx hb dX0_product_9 (lv_at hl 0 rfl) ?_
  refine s_call (pc := 11) (val := vI) (As := [.int (42 : Int32), .long x0, .long x2, .long (x0 * x2)]) (rest := []) X.1 (tX0_goesRound h) (lw_S q1922 q1923 q102 q1924) ⟨by decide, by decide, (by decide +kernel : (parseMethodDescriptor yX0_goesRound.desc).map (fun d => d.parameters.length) = some 4)⟩ ⟨Nat.le_of_ble_eq_true rfl, Nat.le_of_ble_eq_true rfl⟩ hl.1 (Nat.le_of_ble_eq_true rfl) ⟨show 0 ≤ 0 by omega, show 0 ≤ 0 by omega⟩ dX0_product_11 rfl (fun r1 h => ?_)
  refine W.eq (g2 := F0 m 14 ls (.int r1 :: [])) rfl ?_
  refine lv_if_eq (pc := 14) (tgt := 23) hx hb dX0_product_14 rfl (fun c2 => ?_) (fun c2 => ?_)
  · have h := h.1 c2
    refine lv_lload (pc := 23) hx hb dX0_product_23 (lv_at hl 0 rfl) ?_
    exact W.lret (pc := 25) hx hb hr (fun t ht hW => c_ret (val := vL) (lw := jW) (u := N) hw h ht) hw.2.2.2 dX0_product_25 hlk
  · have h := h.2 c2
    refine lv_aload (pc := 17) hx hb dX0_product_17 (lv_at hl 3 rfl) ?_
    refine lv_bipush (pc := 19) (v := (6 : Int32)) hx hb dX0_product_19 (by decide) ?_
    refine lv_iconst (pc := 21) (v := (1 : Int32)) hx hb dX0_product_21 (by decide) ?_
    obtain ⟨n4, f5, hN3, h⟩ := h
    obtain ⟨hi, h⟩ := h
    refine c_iast (pc := 22) X hw hN3 hi dX0_product_22 (fun H locs hw => ?_)
    obtain ⟨N6, e7⟩ : ∃ z, z = va_up N x4 (some (eN 0 n4 (upd f5 (6 : Int32).toNatClampNeg (1 : Int32)))) := ⟨_, rfl⟩
    have hw : cH G A s [] N6 H locs := by rw [e7]; exact hw
    have h := h N6 e7
    have hN8 : N6 x4 = some (eN 0 n4 (upd f5 (6 : Int32).toNatClampNeg (1 : Int32))) := by rw [e7]; exact up_s
    refine lv_lload (pc := 23) hx hb dX0_product_23 (lv_at hl 0 rfl) ?_
    exact W.lret (pc := 25) hx hb hr (fun t ht hW => c_ret (val := vL) (lw := jW) (u := N6) hw h ht) hw.2.2.2 dX0_product_25 hlk

def wX2_skips_18 (K : Nat → Nat → Nat) (K0 : Nat → NM → Prop) (post : Unit → NM → Prop) (x0 : Nat) (N : NM) : Prop :=
  ∃ f10 f11 f12 f13, N x0 = some (eO 2 [.int f10, .int f11, .int f12, va_rf f13]) ∧ (∀ N14, N14 = va_up N x0 (some (eO 2 [.int (f10 + (1 : Int32)), .int f11, .int f12, va_rf f13])) → (K0 x0 N14))
def wX2_skips_0 (K : Nat → Nat → Nat) (post : Unit → NM → Prop) : Nat → Nat → NM → Prop
  | 0, _, _ => False
  | n + 1, x0, N => ∃ f4 f5 f6 f7, N x0 = some (eO 2 [.int f4, .int f5, .int f6, va_rf f7]) ∧ (wX2_here K (fun r1 N2 => ((r1 = (32 : Int32)) → (wX2_skips_18 K (fun x0 N => wX2_skips_0 K post n x0 N) post x0 N2)) ∧ (¬ (r1 = (32 : Int32)) → (∃ f20 f21 f22 f23, N2 x0 = some (eO 2 [.int f20, .int f21, .int f22, va_rf f23]) ∧ (wX2_here K (fun r17 N18 => ((r17 = (10 : Int32)) → (wX2_skips_18 K (fun x0 N => wX2_skips_0 K post n x0 N) post x0 N18)) ∧ (¬ (r17 = (10 : Int32)) → (post () N18))) N2 x0)))) N x0)
def wX2_skips (K : Nat → Nat → Nat) (post : Unit → NM → Prop) (N : NM) (x0 : Nat) : Prop :=
  (∃ k, wX2_skips_0 K post k x0 N)
theorem kX2_skips_18 {p : Program} {l : Launch} {e : Env} {s : State} {m : MethodId} {args : Array Value} {below : List Frame} {meth : Method} {c : Code} {G : gG} {A : Nat → Prop} {K0 : Nat → NM → Prop} {post : Unit → NM → Prop} (X : cX G A RX2 p s m args c cX2_skips 1) (hr : meth.sig.returnType = none) (hlk : meth.locks = false) (hK0 : ∀ (x0 : Nat) (N : NM) (H : Heap) (locs : List Loc) (ls : Array Slot), K0 x0 N → cH G A s [] N H locs → lv_has ls 1 [(0, .ref x0)] → W p l e ⟨1, 0, 0, 20⟩ s m args below meth c H locs 0 0 (MQ below (gQ vV post (fun u H => cBw G A (jW u).1 (jW u).2 H) A) args s 0 0 A) (F0 m 0 ls [])) : ∀ (x0 : Nat) (N : NM) (H : Heap) (locs : List Loc) (ls : Array Slot), wX2_skips_18 (gC G) K0 post x0 N → cH G A s [] N H locs → lv_has ls 1 [(0, .ref x0)] → W p l e ⟨1, 0, 0, 20⟩ s m args below meth c H locs 0 0 (MQ below (gQ vV post (fun u H => cBw G A (jW u).1 (jW u).2 H) A) args s 0 0 A) (F0 m 18 ls []) := by
  have hx := X.1.1
  have hb := X.1.2.1
  have hml := X.1.2.2.1
  have hown := X.1.2.2.2.1
  have hts := X.1.2.2.2.2
  intro x0 N H locs ls h hw hl
  unfold wX2_skips_18 at h
  refine lv_aload_n (pc := 18) hx hb dX2_skips_18 rfl (lv_at hl 0 rfl) ?_
  refine lv_dup (pc := 19) hx hb dX2_skips_19 rfl ?_
  obtain ⟨f10, f11, f12, f13, hN9, h⟩ := h
  refine c_get (pc := 20) X hw hN9 in_X2 rfl 0 (by decide) q406 rfl rfl dX2_skips_20 ?_
  refine lv_iconst (pc := 23) (v := (1 : Int32)) hx hb dX2_skips_23 (by decide) ?_
  refine lv_iadd (pc := 24) hx hb dX2_skips_24 ?_
  refine c_put (pc := 25) X hw hN9 in_X2 tyX2 tyX2_ok nmX2 rfl 0 (by decide) q406 rfl rfl rfl rfl rfl (Nat.le_of_ble_eq_true rfl) dX2_skips_25 (fun H locs hw => ?_)
  obtain ⟨N14, e15⟩ : ∃ z, z = va_up N x0 (some (eO 2 [.int (f10 + (1 : Int32)), .int f11, .int f12, va_rf f13])) := ⟨_, rfl⟩
  have hw : cH G A s [] N14 H locs := by rw [e15]; exact hw
  have h := h N14 e15
  have hN16 : N14 x0 = some (eO 2 [.int (f10 + (1 : Int32)), .int f11, .int f12, va_rf f13]) := by rw [e15]; exact up_s
  refine lv_goto (pc := 28) (tgt := 0) hx hb dX2_skips_28 rfl ?_
  exact hK0 _ _ _ _ _ h hw (lv_sub hl [0] rfl)
theorem kX2_skips_0 {p : Program} {l : Launch} {e : Env} {s : State} {m : MethodId} {args : Array Value} {below : List Frame} {meth : Method} {c : Code} {G : gG} {A : Nat → Prop} {post : Unit → NM → Prop} (X : cX G A RX2 p s m args c cX2_skips 1) (hr : meth.sig.returnType = none) (hlk : meth.locks = false) : ∀ (n : Nat) (x0 : Nat) (N : NM) (H : Heap) (locs : List Loc) (ls : Array Slot), wX2_skips_0 (gC G) post n x0 N → cH G A s [] N H locs → lv_has ls 1 [(0, .ref x0)] → W p l e ⟨1, 0, 0, 20⟩ s m args below meth c H locs 0 0 (MQ below (gQ vV post (fun u H => cBw G A (jW u).1 (jW u).2 H) A) args s 0 0 A) (F0 m 0 ls []) := by
  have hx := X.1.1
  have hb := X.1.2.1
  have hml := X.1.2.2.1
  have hown := X.1.2.2.2.1
  have hts := X.1.2.2.2.2
  intro n
  induction n with
  | zero =>
    intro x0 N H locs ls h
    exact False.elim h
  | succ n ih =>
    intro x0 N H locs ls h hw hl
    unfold wX2_skips_0 at h
    refine lv_aload_n (pc := 0) hx hb dX2_skips_0 rfl (lv_at hl 0 rfl) ?_
    obtain ⟨f4, f5, f6, f7, hN3, h⟩ := h
    refine c_callJ (pc := 1) (val := vI) X hw (va_runV (C := RX2) (As := []) (rest := []) X.1 (tX2_here X.2.2.1 (sz := H.size) h) (cwV 0 hts (lw_V q402 q404 qs4 q113 q405) rfl rfl rfl ⟨rfl, by decide, by decide, (by decide +kernel : (parseMethodDescriptor yX2_here.desc).map (fun d => d.parameters.length) = some 0)⟩ ⟨Nat.le_of_ble_eq_true rfl, Nat.le_of_ble_eq_true rfl⟩) ⟨cPre_blind, c_recv X hw hN3 rfl, fun U hU hW => ⟨rfl, X.preJ hw hU hW⟩⟩ rfl rfl hl.1 rfl (lv_room (Nat.le_of_ble_eq_true rfl)) dX2_skips_1 ⟨show 0 + 0 ≤ 0 by omega, show 0 + 0 ≤ 0 by omega⟩) (fun r1 N2 H locs h hw => ?_)
    refine W.eq (g2 := F0 m 4 ls (.int r1 :: [])) rfl ?_
    refine lv_bipush (pc := 4) (v := (32 : Int32)) hx hb dX2_skips_4 (by decide) ?_
    refine lv_icmp_eq (pc := 6) (tgt := 18) hx hb dX2_skips_6 rfl (fun c8 => ?_) (fun c8 => ?_)
    · have h := h.1 c8
      exact kX2_skips_18 X hr hlk ih _ _ _ _ _ h hw (lv_sub hl [0] rfl)
    · have h := h.2 c8
      refine lv_aload_n (pc := 9) hx hb dX2_skips_9 rfl (lv_at hl 0 rfl) ?_
      obtain ⟨f20, f21, f22, f23, hN19, h⟩ := h
      refine c_callJ (pc := 10) (val := vI) X hw (va_runV (C := RX2) (As := []) (rest := []) X.1 (tX2_here X.2.2.1 (sz := H.size) h) (cwV 0 hts (lw_V q402 q404 qs4 q113 q405) rfl rfl rfl ⟨rfl, by decide, by decide, (by decide +kernel : (parseMethodDescriptor yX2_here.desc).map (fun d => d.parameters.length) = some 0)⟩ ⟨Nat.le_of_ble_eq_true rfl, Nat.le_of_ble_eq_true rfl⟩) ⟨cPre_blind, c_recv X hw hN19 rfl, fun U hU hW => ⟨rfl, X.preJ hw hU hW⟩⟩ rfl rfl hl.1 rfl (lv_room (Nat.le_of_ble_eq_true rfl)) dX2_skips_10 ⟨show 0 + 0 ≤ 0 by omega, show 0 + 0 ≤ 0 by omega⟩) (fun r17 N18 H locs h hw => ?_)
      refine W.eq (g2 := F0 m 13 ls (.int r17 :: [])) rfl ?_
      refine lv_bipush (pc := 13) (v := (10 : Int32)) hx hb dX2_skips_13 (by decide) ?_
      refine lv_icmp_ne (pc := 15) (tgt := 31) hx hb dX2_skips_15 rfl (fun c24 => ?_) (fun c24 => ?_)
      · have h := h.2 c24
        exact W.vret (pc := 31) hx hb hr (fun t ht hW => c_ret (val := vV) (lw := jW) (u := N18) (v := ()) hw h ht) hw.2.2.2 dX2_skips_31 hlk
      · have h := h.1 c24
        exact kX2_skips_18 X hr hlk ih _ _ _ _ _ h hw (lv_sub hl [0] rfl)
theorem tX2_skips {l : Launch} {G : gG} (hO : gOk G) {post : Unit → NM → Prop} {N : NM} {x0 : Nat} {sz : Nat} (h : wX2_skips (gC G) post N x0) : Met l yX2_skips (ws_ yX2_skips cX2_skips 1 none) ⟨1, 0, 0, 20⟩ (va_Pc [.ref x0] (cPre G [] N sz)) (gQ vV post (fun u H => cBw G (cA [] N sz) (jW u).1 (jW u).2 H) (cA [] N sz)) 0 0 (cA [] N sz) := by
  refine c_ofW (lw := jW) (by decide) hO (Nat.le_of_ble_eq_true rfl) (fun p e s m below meth c ls A X hr hlk hin hw hl => ?_)
  have hl : lv_has ls 1 [(0, .ref x0)] := hl
  have hx := X.1.1
  have hb := X.1.2.1
  have hml := X.1.2.2.1
  have hown := X.1.2.2.2.1
  have hts := X.1.2.2.2.2
  obtain ⟨H, eH⟩ : ∃ z, z = s.heap := ⟨_, rfl⟩
  rw [← eH] at hw ⊢
  obtain ⟨locs, eLo⟩ : ∃ z : List Loc, z = [] := ⟨_, rfl⟩
  rw [← eLo] at hw ⊢
  unfold wX2_skips at h
  obtain ⟨k, h⟩ := h
  exact kX2_skips_0 X hr hlk  k _ _ _ _ _ h hw (lv_sub hl [0] rfl)

def wX2_kind_40 (K : Nat → Nat → Nat) (K4 : Nat → Int32 → Int32 → Nat → Nat → NM → Prop) (post : Int32 → NM → Prop) (x0 : Nat) (x2 : Int32) (v0 : Int32) (mc ms : Nat) (N : NM) : Prop :=
  K4 x0 v0 (x2 + (1 : Int32)) mc ms N
def wX2_kind_4 (K : Nat → Nat → Nat) (post : Int32 → NM → Prop) : Nat → Nat → Int32 → Int32 → Nat → Nat → NM → Prop
  | 0, _, _, _, _, _, _ => False
  | n + 1, x0, x1, x2, mc, ms, N => ∃ f2 f3 f4 f5, N x0 = some (eO 2 [.int f2, .int f3, .int f4, va_rf f5]) ∧ (∃ a6, f5 = some a6 ∧ (∃ f9 f10 f11 f12 f13 f14 f15 f16 f17 f18 f19 f20 f21 f22 f23 f24 f25 f26 f27, N a6 = some (eO 1 [va_rf f9, va_rf f10, va_rf f11, va_rf f12, va_rf f13, va_rf f14, va_rf f15, va_rf f16, va_rf f17, .int f18, .int f19, va_rf f20, va_rf f21, .int f22, va_rf f23, va_rf f24, va_rf f25, va_rf f26, va_rf f27]) ∧ (∃ a28, f10 = some a28 ∧ (∃ n31 f32, N a28 = some (eR 10 n31 f32) ∧ ((((nI n31) ≤ x2) → (post x1 N)) ∧ (¬ ((nI n31) ≤ x2) → (∃ mc36 ms37, mc36 ≤ mc ∧ ms37 ≤ ms ∧ wX2_seen K (fun r34 N35 => ∃ f41 f42 f43 f44, N35 x0 = some (eO 2 [.int f41, .int f42, .int f43, va_rf f44]) ∧ (∃ a45, f44 = some a45 ∧ (∃ f48 f49 f50 f51 f52 f53 f54 f55 f56 f57 f58 f59 f60 f61 f62 f63 f64 f65 f66, N35 a45 = some (eO 1 [va_rf f48, va_rf f49, va_rf f50, va_rf f51, va_rf f52, va_rf f53, va_rf f54, va_rf f55, va_rf f56, .int f57, .int f58, va_rf f59, va_rf f60, .int f61, va_rf f62, va_rf f63, va_rf f64, va_rf f65, va_rf f66]) ∧ (∃ a67, f49 = some a67 ∧ (∃ n70 f71, N35 a67 = some (eR 10 n70 f71) ∧ (vp_in x2 n70 ∧ (∃ a72, r34 = some a72 ∧ (∃ sv74 sn75 sf76, sKn K N35 a72 sv74 sn75 sf76 ∧ (∃ a78, (f71 x2.toNatClampNeg) = some a78 ∧ (∃ sv80 sn81 sf82, sKn K N35 a78 sv80 sn81 sf82 ∧ ((∀ r84, sEq sn75 sn81 sf76 sf82 r84 → (((r84 = (0 : Int32)) → (wX2_kind_40 K (fun x0 x1 x2 mc ms N => wX2_kind_4 K post n x0 x1 x2 mc ms N) post x0 x2 x1 (mc - mc36) (ms - ms37) N35)) ∧ (¬ (r84 = (0 : Int32)) → (wX2_kind_40 K (fun x0 x1 x2 mc ms N => wX2_kind_4 K post n x0 x1 x2 mc ms N) post x0 x2 x2 (mc - mc36) (ms - ms37) N35))))))))))))))) mc36 ms37 N x0)))))))
def wX2_kind (K : Nat → Nat → Nat) (post : Int32 → NM → Prop) (MC MS : Nat) (N : NM) (x0 : Nat) : Prop :=
  (∃ k, wX2_kind_4 K post k x0 (-1 : Int32) (0 : Int32) MC MS N)
theorem kX2_kind_40 {p : Program} {l : Launch} {e : Env} {s : State} {m : MethodId} {args : Array Value} {below : List Frame} {meth : Method} {c : Code} {G : gG} {A : Nat → Prop} {MC MS : Nat} {K4 : Nat → Int32 → Int32 → Nat → Nat → NM → Prop} {post : Int32 → NM → Prop} (X : cX G A RX2 p s m args c cX2_kind 3) (hr : meth.sig.returnType = (some .int)) (hlk : meth.locks = false) (hK4 : ∀ (x0 : Nat) (x1 : Int32) (x2 : Int32) (mc ms : Nat) (N : NM) (H : Heap) (locs : List Loc) (ls : Array Slot) (cells slots : Nat), K4 x0 x1 x2 mc ms N → (cH G A s [] N H locs ∧ cells + mc ≤ MC ∧ slots + ms ≤ MS) → lv_has ls 3 [(0, .ref x0), (1, .int x1), (2, .int x2)] → W p l e ⟨7, MC, MS, 193⟩ s m args below meth c H locs cells slots (MQ below (gQ vI post (fun u H => cBw G A (jW u).1 (jW u).2 H) A) args s MC MS A) (F0 m 4 ls [])) : ∀ (x0 : Nat) (x2 : Int32) (v0 : Int32) (mc ms : Nat) (N : NM) (H : Heap) (locs : List Loc) (ls : Array Slot) (cells slots : Nat), wX2_kind_40 (gC G) K4 post x0 x2 v0 mc ms N → (cH G A s [] N H locs ∧ cells + mc ≤ MC ∧ slots + ms ≤ MS) → lv_has ls 3 [(0, .ref x0), (2, .int x2)] → W p l e ⟨7, MC, MS, 193⟩ s m args below meth c H locs cells slots (MQ below (gQ vI post (fun u H => cBw G A (jW u).1 (jW u).2 H) A) args s MC MS A) (F0 m 40 ls [.int v0]) := by
  have hx := X.1.1
  have hb := X.1.2.1
  have hml := X.1.2.2.1
  have hown := X.1.2.2.2.1
  have hts := X.1.2.2.2.2
  intro x0 x2 v0 mc ms N H locs ls cells slots h hw0 hl
  obtain ⟨hw, hbud⟩ := hw0
  unfold wX2_kind_40 at h
  refine lv_istore_n (pc := 40) (lv' := [(1, .int v0), (0, .ref x0), (2, .int x2)]) hx hb dX2_kind_40 rfl hl (by decide) rfl (fun ls hl => ?_)
  refine lv_iinc (pc := 41) (v := x2 + (1 : Int32)) (lv' := [(2, .int (x2 + (1 : Int32))), (1, .int v0), (0, .ref x0)]) hx hb dX2_kind_41 hl (k := 2) rfl rfl (by decide) rfl (fun ls hl => ?_)
  refine lv_goto (pc := 44) (tgt := 4) hx hb dX2_kind_44 rfl ?_
  exact hK4 _ _ _ _ _ _ _ _ _ _ _ h ⟨hw, by omega⟩ (lv_sub hl [2, 1, 0] rfl)
theorem kX2_kind_4 {p : Program} {l : Launch} {e : Env} {s : State} {m : MethodId} {args : Array Value} {below : List Frame} {meth : Method} {c : Code} {G : gG} {A : Nat → Prop} {MC MS : Nat} {post : Int32 → NM → Prop} (X : cX G A RX2 p s m args c cX2_kind 3) (hr : meth.sig.returnType = (some .int)) (hlk : meth.locks = false) : ∀ (n : Nat) (x0 : Nat) (x1 : Int32) (x2 : Int32) (mc ms : Nat) (N : NM) (H : Heap) (locs : List Loc) (ls : Array Slot) (cells slots : Nat), wX2_kind_4 (gC G) post n x0 x1 x2 mc ms N → (cH G A s [] N H locs ∧ cells + mc ≤ MC ∧ slots + ms ≤ MS) → lv_has ls 3 [(0, .ref x0), (1, .int x1), (2, .int x2)] → W p l e ⟨7, MC, MS, 193⟩ s m args below meth c H locs cells slots (MQ below (gQ vI post (fun u H => cBw G A (jW u).1 (jW u).2 H) A) args s MC MS A) (F0 m 4 ls []) := by
  have hx := X.1.1
  have hb := X.1.2.1
  have hml := X.1.2.2.1
  have hown := X.1.2.2.2.1
  have hts := X.1.2.2.2.2
  intro n
  induction n with
  | zero =>
    intro x0 x1 x2 mc ms N H locs ls cells slots h
    exact False.elim h
  | succ n ih =>
    intro x0 x1 x2 mc ms N H locs ls cells slots h hw0 hl
    obtain ⟨hw, hbud⟩ := hw0
    unfold wX2_kind_4 at h
    refine lv_iload_n (pc := 4) hx hb dX2_kind_4 rfl (lv_at hl 2 rfl) ?_
    refine lv_aload_n (pc := 5) hx hb dX2_kind_5 rfl (lv_at hl 0 rfl) ?_
    obtain ⟨f2, f3, f4, f5, hN1, h⟩ := h
    refine c_get (pc := 6) X hw hN1 in_X2 rfl 3 (by decide) q409 rfl rfl dX2_kind_6 ?_
    obtain ⟨a6, hr7, h⟩ := h
    refine W.eq (g2 := F0 m 9 ls [.ref a6, .int x2]) (by rw [hr7]; rfl) ?_
    obtain ⟨f9, f10, f11, f12, f13, f14, f15, f16, f17, f18, f19, f20, f21, f22, f23, f24, f25, f26, f27, hN8, h⟩ := h
    refine c_getN (pc := 9) X hw hN8 in_X0 rfl 1 (by decide) q211 rfl rfl dX2_kind_9 ?_
    obtain ⟨a28, hr29, h⟩ := h
    refine W.eq (g2 := F0 m 12 ls [.ref a28, .int x2]) (by rw [hr29]; rfl) ?_
    obtain ⟨n31, f32, hN30, h⟩ := h
    refine c_alen (pc := 12) X hw hN30 rfl dX2_kind_12 ?_
    refine lv_icmp_ge (pc := 13) (tgt := 47) hx hb dX2_kind_13 rfl (fun c33 => ?_) (fun c33 => ?_)
    · have h := h.1 c33
      refine lv_iload_n (pc := 47) hx hb dX2_kind_47 rfl (lv_at hl 1 rfl) ?_
      refine W.widen (k := MC) (n := MS) (by omega) (by omega) ?_
      exact W.iret (pc := 48) hx hb hr (fun t ht hW => c_ret (val := vI) (lw := jW) (u := N) hw h ht) hw.2.2.2 dX2_kind_48 hlk
    · have h := h.2 c33
      refine lv_aload_n (pc := 16) hx hb dX2_kind_16 rfl (lv_at hl 0 rfl) ?_
      obtain ⟨mc36, ms37, hm38, hm39, h⟩ := h
      refine c_callJ (pc := 17) (val := vQ) X hw (va_runV (C := RX2) (As := []) (rest := []) X.1 (tX2_seen X.2.2.1 (sz := H.size) h) (cwV 0 hts (lw_V q465 q467 qs8 q113 q468) rfl rfl rfl ⟨rfl, by decide, by decide, (by decide +kernel : (parseMethodDescriptor yX2_seen.desc).map (fun d => d.parameters.length) = some 0)⟩ ⟨Nat.le_of_ble_eq_true rfl, Nat.le_of_ble_eq_true rfl⟩) ⟨cPre_blind, c_recv X hw hN1 rfl, fun U hU hW => ⟨rfl, X.preJ hw hU hW⟩⟩ rfl rfl hl.1 rfl (lv_room (Nat.le_of_ble_eq_true rfl)) dX2_kind_17 ⟨show cells + mc36 ≤ MC by omega, show slots + ms37 ≤ MS by omega⟩) (fun r34 N35 H locs h hw => ?_)
      refine W.eq (g2 := F0 m 20 ls (va_rf r34 :: [])) rfl ?_
      refine lv_aload_n (pc := 20) hx hb dX2_kind_20 rfl (lv_at hl 0 rfl) ?_
      obtain ⟨f41, f42, f43, f44, hN40, h⟩ := h
      refine c_get (pc := 21) X hw hN40 in_X2 rfl 3 (by decide) q409 rfl rfl dX2_kind_21 ?_
      obtain ⟨a45, hr46, h⟩ := h
      refine W.eq (g2 := F0 m 24 ls [.ref a45, va_rf r34]) (by rw [hr46]; rfl) ?_
      obtain ⟨f48, f49, f50, f51, f52, f53, f54, f55, f56, f57, f58, f59, f60, f61, f62, f63, f64, f65, f66, hN47, h⟩ := h
      refine c_getN (pc := 24) X hw hN47 in_X0 rfl 1 (by decide) q211 rfl rfl dX2_kind_24 ?_
      refine lv_iload_n (pc := 27) hx hb dX2_kind_27 rfl (lv_at hl 2 rfl) ?_
      obtain ⟨a67, hr68, h⟩ := h
      refine W.eq (g2 := F0 m 28 ls [.int x2, .ref a67, va_rf r34]) (by rw [hr68]; rfl) ?_
      obtain ⟨n70, f71, hN69, h⟩ := h
      obtain ⟨hi, h⟩ := h
      refine c_aald (pc := 28) X hw 10 hN69 rfl hi dX2_kind_28 ?_
      obtain ⟨a72, hr73, h⟩ := h
      refine W.eq (g2 := F0 m 29 ls [va_rf (f71 x2.toNatClampNeg), .ref a72]) (by rw [hr73]; rfl) ?_
      obtain ⟨sv74, sn75, sf76, hK77, h⟩ := h
      obtain ⟨a78, hr79, h⟩ := h
      refine W.eq (g2 := F0 m 29 ls [.ref a78, .ref a72]) (by rw [hr79]; rfl) ?_
      obtain ⟨sv80, sn81, sf82, hK83, h⟩ := h
      refine str_equals (pc := 29) (rest := []) X.1 X.2.2.1 (c_sk X hw hK77) (c_sk X hw hK83) hK77.1 hK83.1 (fun U hU hW => X.go hw hU hW) (lw_V q651 q652 q653 q111 q654) ⟨Nat.le_of_ble_eq_true rfl, Nat.le_of_ble_eq_true rfl⟩ hl.1 (Nat.le_of_ble_eq_true rfl) ⟨show cells + mc36 ≤ MC by omega, show slots + ms37 ≤ MS by omega⟩ dX2_kind_29 (fun r84 hE_ => ?_)
      have h := h r84 hE_
      refine lv_if_eq (pc := 32) (tgt := 39) hx hb dX2_kind_32 rfl (fun c85 => ?_) (fun c85 => ?_)
      · have h := h.1 c85
        refine lv_iload_n (pc := 39) hx hb dX2_kind_39 rfl (lv_at hl 1 rfl) ?_
        exact kX2_kind_40 X hr hlk ih _ _ _ _ _ _ _ _ _ _ _ h ⟨hw, by omega⟩ (lv_sub hl [0, 2] rfl)
      · have h := h.2 c85
        refine lv_iload_n (pc := 35) hx hb dX2_kind_35 rfl (lv_at hl 2 rfl) ?_
        refine lv_goto (pc := 36) (tgt := 40) hx hb dX2_kind_36 rfl ?_
        exact kX2_kind_40 X hr hlk ih _ _ _ _ _ _ _ _ _ _ _ h ⟨hw, by omega⟩ (lv_sub hl [0, 2] rfl)
theorem tX2_kind {l : Launch} {G : gG} (hO : gOk G) {post : Int32 → NM → Prop} {MC MS : Nat} {N : NM} {x0 : Nat} {sz : Nat} (h : wX2_kind (gC G) post MC MS N x0) : Met l yX2_kind (ws_ yX2_kind cX2_kind 3 (some .int)) ⟨7, MC, MS, 193⟩ (va_Pc [.ref x0] (cPre G [] N sz)) (gQ vI post (fun u H => cBw G (cA [] N sz) (jW u).1 (jW u).2 H) (cA [] N sz)) MC MS (cA [] N sz) := by
  refine c_ofW (lw := jW) (by decide) hO (Nat.le_of_ble_eq_true rfl) (fun p e s m below meth c ls A X hr hlk hin hw hl => ?_)
  have hl : lv_has ls 3 [(0, .ref x0)] := hl
  have hx := X.1.1
  have hb := X.1.2.1
  have hml := X.1.2.2.1
  have hown := X.1.2.2.2.1
  have hts := X.1.2.2.2.2
  obtain ⟨H, eH⟩ : ∃ z, z = s.heap := ⟨_, rfl⟩
  rw [← eH] at hw ⊢
  obtain ⟨locs, eLo⟩ : ∃ z : List Loc, z = [] := ⟨_, rfl⟩
  rw [← eLo] at hw ⊢
  have hbud : 0 + MC ≤ MC ∧ 0 + MS ≤ MS := by omega
  unfold wX2_kind at h
  refine lv_iconst (pc := 0) (v := (-1 : Int32)) hx hb dX2_kind_0 (by decide) ?_
  refine lv_istore_n (pc := 1) (lv' := [(1, .int (-1 : Int32)), (0, .ref x0)]) hx hb dX2_kind_1 rfl hl (by decide) rfl (fun ls hl => ?_)
  refine lv_iconst (pc := 2) (v := (0 : Int32)) hx hb dX2_kind_2 (by decide) ?_
  refine lv_istore_n (pc := 3) (lv' := [(2, .int (0 : Int32)), (1, .int (-1 : Int32)), (0, .ref x0)]) hx hb dX2_kind_3 rfl hl (by decide) rfl (fun ls hl => ?_)
  obtain ⟨k, h⟩ := h
  exact kX2_kind_4 X hr hlk  k _ _ _ _ _ _ _ _ _ _ _ h ⟨hw, by omega⟩ (lv_sub hl [2, 1, 0] rfl)

def wX2_passes (K : Nat → Nat → Nat) (post : Int32 → NM → Prop) (MC MS : Nat) (N : NM) (x0 : Nat) (x1 : Option Nat) : Prop :=
  ∃ f8 f9 f10 f11, N x0 = some (eO 2 [.int f8, .int f9, .int f10, va_rf f11]) ∧ (∃ mc3 ms4, mc3 ≤ MC ∧ ms4 ≤ MS ∧ wX2_seen K (fun r1 N2 => ∃ a12, r1 = some a12 ∧ (∃ sv14 sn15 sf16, sKn K N2 a12 sv14 sn15 sf16 ∧ (∃ a18, x1 = some a18 ∧ (∃ sv20 sn21 sf22, sKn K N2 a18 sv20 sn21 sf22 ∧ ((∀ r24, sEq sn15 sn21 sf16 sf22 r24 → (((r24 = (0 : Int32)) → (post (0 : Int32) N2)) ∧ (¬ (r24 = (0 : Int32)) → (∃ f27 f28 f29 f30, N2 x0 = some (eO 2 [.int f27, .int f28, .int f29, va_rf f30]) ∧ (∀ N31, N31 = va_up N2 x0 (some (eO 2 [.int (f27 + (nI sn21)), .int f28, .int f29, va_rf f30])) → (wX2_skips K (fun _ N35 => post (1 : Int32) N35) N31 x0))))))))))) mc3 ms4 N x0)
theorem tX2_passes {l : Launch} {G : gG} (hO : gOk G) {post : Int32 → NM → Prop} {MC MS : Nat} {N : NM} {x0 : Nat} {x1 : Option Nat} {sz : Nat} (h : wX2_passes (gC G) post MC MS N x0 x1) : Met l yX2_passes (ws_ yX2_passes cX2_passes 2 (some .boolean)) ⟨7, MC, MS, 193⟩ (va_Pc [.ref x0, va_rf x1] (cPre G [] N sz)) (gQ vI post (fun u H => cBw G (cA [] N sz) (jW u).1 (jW u).2 H) (cA [] N sz)) MC MS (cA [] N sz) := by
  refine c_ofW (lw := jW) (by decide) hO (by cases x1 <;> exact Nat.le_of_ble_eq_true rfl) (fun p e s m below meth c ls A X hr hlk hin hw hl => ?_)
  have hl : lv_has ls 2 [(0, .ref x0), (1, va_rf x1)] := by cases x1 <;> exact hl
  have hx := X.1.1
  have hb := X.1.2.1
  have hml := X.1.2.2.1
  have hown := X.1.2.2.2.1
  have hts := X.1.2.2.2.2
  obtain ⟨H, eH⟩ : ∃ z, z = s.heap := ⟨_, rfl⟩
  rw [← eH] at hw ⊢
  obtain ⟨locs, eLo⟩ : ∃ z : List Loc, z = [] := ⟨_, rfl⟩
  rw [← eLo] at hw ⊢
  have hbud : 0 + MC ≤ MC ∧ 0 + MS ≤ MS := by omega
  unfold wX2_passes at h
  refine lv_aload_n (pc := 0) hx hb dX2_passes_0 rfl (lv_at hl 0 rfl) ?_
  obtain ⟨f8, f9, f10, f11, hN7, h⟩ := h
  obtain ⟨mc3, ms4, hm5, hm6, h⟩ := h
  refine c_callJ (pc := 1) (val := vQ) X hw (va_runV (C := RX2) (As := []) (rest := []) X.1 (tX2_seen X.2.2.1 (sz := H.size) h) (cwV 0 hts (lw_V q465 q467 qs8 q113 q468) rfl rfl rfl ⟨rfl, by decide, by decide, (by decide +kernel : (parseMethodDescriptor yX2_seen.desc).map (fun d => d.parameters.length) = some 0)⟩ ⟨Nat.le_of_ble_eq_true rfl, Nat.le_of_ble_eq_true rfl⟩) ⟨cPre_blind, c_recv X hw hN7 rfl, fun U hU hW => ⟨rfl, X.preJ hw hU hW⟩⟩ rfl rfl hl.1 rfl (lv_room (Nat.le_of_ble_eq_true rfl)) dX2_passes_1 ⟨show 0 + mc3 ≤ MC by omega, show 0 + ms4 ≤ MS by omega⟩) (fun r1 N2 H locs h hw => ?_)
  refine W.eq (g2 := F0 m 4 ls (va_rf r1 :: [])) rfl ?_
  refine lq_aload_n (pc := 4) hx hb dX2_passes_4 rfl (lv_at hl 1 rfl) ?_
  obtain ⟨a12, hr13, h⟩ := h
  refine W.eq (g2 := F0 m 5 ls [va_rf x1, .ref a12]) (by rw [hr13]; rfl) ?_
  obtain ⟨sv14, sn15, sf16, hK17, h⟩ := h
  obtain ⟨a18, hr19, h⟩ := h
  refine W.eq (g2 := F0 m 5 ls [.ref a18, .ref a12]) (by rw [hr19]; rfl) ?_
  obtain ⟨sv20, sn21, sf22, hK23, h⟩ := h
  refine str_equals (pc := 5) (rest := []) X.1 X.2.2.1 (c_sk X hw hK17) (c_sk X hw hK23) hK17.1 hK23.1 (fun U hU hW => X.go hw hU hW) (lw_V q651 q652 q653 q111 q654) ⟨Nat.le_of_ble_eq_true rfl, Nat.le_of_ble_eq_true rfl⟩ hl.1 (Nat.le_of_ble_eq_true rfl) ⟨show 0 + mc3 ≤ MC by omega, show 0 + ms4 ≤ MS by omega⟩ dX2_passes_5 (fun r24 hE_ => ?_)
  have h := h r24 hE_
  refine lv_if_ne (pc := 8) (tgt := 13) hx hb dX2_passes_8 rfl (fun c25 => ?_) (fun c25 => ?_)
  · have h := h.2 c25
    refine lv_aload_n (pc := 13) hx hb dX2_passes_13 rfl (lv_at hl 0 rfl) ?_
    refine lv_dup (pc := 14) hx hb dX2_passes_14 rfl ?_
    obtain ⟨f27, f28, f29, f30, hN26, h⟩ := h
    refine c_get (pc := 15) X hw hN26 in_X2 rfl 0 (by decide) q406 rfl rfl dX2_passes_15 ?_
    refine lq_aload_n (pc := 18) hx hb dX2_passes_18 rfl (lv_at hl 1 rfl) ?_
    refine W.eq (g2 := F0 m 19 ls [.ref a18, .int f27, .ref x0]) (by rw [hr19]; rfl) ?_
    refine str_len (pc := 19) (rest := [.int f27, .ref x0]) X.1 X.2.2.1 (c_sk X hw hK23) (fun U hU hW => X.go hw hU hW) (lw_V q695 q696 q697 q111 q698) ⟨Nat.le_of_ble_eq_true rfl, Nat.le_of_ble_eq_true rfl⟩ hl.1 (Nat.le_of_ble_eq_true rfl) ⟨show 0 + mc3 ≤ MC by omega, show 0 + ms4 ≤ MS by omega⟩ dX2_passes_19 ?_
    refine lv_iadd (pc := 22) hx hb dX2_passes_22 ?_
    refine c_put (pc := 23) X hw hN26 in_X2 tyX2 tyX2_ok nmX2 rfl 0 (by decide) q406 rfl rfl rfl rfl rfl (Nat.le_of_ble_eq_true rfl) dX2_passes_23 (fun H locs hw => ?_)
    obtain ⟨N31, e32⟩ : ∃ z, z = va_up N2 x0 (some (eO 2 [.int (f27 + (nI sn21)), .int f28, .int f29, va_rf f30])) := ⟨_, rfl⟩
    have hw : cH G A s [] N31 H locs := by rw [e32]; exact hw
    have h := h N31 e32
    have hN33 : N31 x0 = some (eO 2 [.int (f27 + (nI sn21)), .int f28, .int f29, va_rf f30]) := by rw [e32]; exact up_s
    refine lv_aload_n (pc := 26) hx hb dX2_passes_26 rfl (lv_at hl 0 rfl) ?_
    refine c_callJ (pc := 27) (val := vV) X hw (va_runV (C := RX2) (As := []) (rest := []) X.1 (tX2_skips X.2.2.1 (sz := H.size) h) (cwV 0 hts (lw_V q398 q400 qs3 q113 q401) rfl rfl rfl ⟨rfl, by decide, by decide, (by decide +kernel : (parseMethodDescriptor yX2_skips.desc).map (fun d => d.parameters.length) = some 0)⟩ ⟨Nat.le_of_ble_eq_true rfl, Nat.le_of_ble_eq_true rfl⟩) ⟨cPre_blind, c_recv X hw hN33 rfl, fun U hU hW => ⟨rfl, X.preJ hw hU hW⟩⟩ rfl rfl hl.1 rfl (lv_room (Nat.le_of_ble_eq_true rfl)) dX2_passes_27 ⟨show 0 + mc3 + 0 ≤ MC by omega, show 0 + ms4 + 0 ≤ MS by omega⟩) (fun _ N35 H locs h hw => ?_)
    refine W.eq (g2 := F0 m 30 ls ([])) rfl ?_
    refine lv_iconst (pc := 30) (v := (1 : Int32)) hx hb dX2_passes_30 (by decide) ?_
    refine W.widen (k := MC) (n := MS) (by omega) (by omega) ?_
    exact W.zret (pc := 31) hx hb hr rfl (fun t ht hW => c_ret (val := vI) (lw := jW) (u := N35) hw h ht) hw.2.2.2 dX2_passes_31 hlk
  · have h := h.1 c25
    refine lv_iconst (pc := 11) (v := (0 : Int32)) hx hb dX2_passes_11 (by decide) ?_
    refine W.widen (k := MC) (n := MS) (by omega) (by omega) ?_
    exact W.zret (pc := 12) hx hb hr rfl (fun t ht hW => c_ret (val := vI) (lw := jW) (u := N2) hw h ht) hw.2.2.2 dX2_passes_12 hlk

def wX2_highest_2 (K : Nat → Nat → Nat) (post : Int32 → NM → Prop) : Nat → Option Nat → Int32 → NM → Prop
  | 0, _, _, _ => False
  | n + 1, x1, x2, N => ∃ a1, x1 = some a1 ∧ (∃ f6 f7 f8 f9, N a1 = some (eO 6 [.int f6, .int f7, .int f8, va_rf f9]) ∧ (wX4_value K (fun r3 N4 => (((3000 : Int64) < r3) → (post x2 N4)) ∧ (¬ ((3000 : Int64) < r3) → (wX2_highest_2 K post n x1 (x2 + (1 : Int32)) N4))) N a1 ((x2 + (1 : Int32)).toInt64)))
def wX2_highest (K : Nat → Nat → Nat) (post : Int32 → NM → Prop) (N : NM) (x0 : Nat) (x1 : Option Nat) : Prop :=
  (∃ k, wX2_highest_2 K post k x1 (0 : Int32) N)
theorem kX2_highest_2 {p : Program} {l : Launch} {e : Env} {s : State} {m : MethodId} {args : Array Value} {below : List Frame} {meth : Method} {c : Code} {G : gG} {A : Nat → Prop} {post : Int32 → NM → Prop} (X : cX G A RX2 p s m args c cX2_highest 3) (hr : meth.sig.returnType = (some .int)) (hlk : meth.locks = false) : ∀ (n : Nat) (x1 : Option Nat) (x2 : Int32) (N : NM) (H : Heap) (locs : List Loc) (ls : Array Slot), wX2_highest_2 (gC G) post n x1 x2 N → cH G A s [] N H locs → lv_has ls 3 [(1, va_rf x1), (2, .int x2)] → W p l e ⟨2, 0, 0, 52⟩ s m args below meth c H locs 0 0 (MQ below (gQ vI post (fun u H => cBw G A (jW u).1 (jW u).2 H) A) args s 0 0 A) (F0 m 2 ls []) := by
  have hx := X.1.1
  have hb := X.1.2.1
  have hml := X.1.2.2.1
  have hown := X.1.2.2.2.1
  have hts := X.1.2.2.2.2
  intro n
  induction n with
  | zero =>
    intro x1 x2 N H locs ls h
    exact False.elim h
  | succ n ih =>
    intro x1 x2 N H locs ls h hw hl
    unfold wX2_highest_2 at h
    refine lq_aload_n (pc := 2) hx hb dX2_highest_2 rfl (lv_at hl 0 rfl) ?_
    refine lv_iload_n (pc := 3) hx hb dX2_highest_3 rfl (lv_at hl 1 rfl) ?_
    refine lv_iconst (pc := 4) (v := (1 : Int32)) hx hb dX2_highest_4 (by decide) ?_
    refine lv_iadd (pc := 5) hx hb dX2_highest_5 ?_
    refine lv_i2l (pc := 6) hx hb dX2_highest_6 rfl ?_
    obtain ⟨a1, hr2, h⟩ := h
    refine W.eq (g2 := F0 m 7 ls [.long ((x2 + (1 : Int32)).toInt64), .ref a1]) (by rw [hr2]; rfl) ?_
    obtain ⟨f6, f7, f8, f9, hN5, h⟩ := h
    refine c_callJ (pc := 7) (val := vL) X hw (va_runV (C := RX4) (As := [.long ((x2 + (1 : Int32)).toInt64)]) (rest := []) X.1 (tX4_value X.2.2.1 (sz := H.size) h) (cwV 1 hts (lw_V q737 q738 q739 q126 q740) rfl rfl rfl ⟨rfl, by decide, by decide, (by decide +kernel : (parseMethodDescriptor yX4_value.desc).map (fun d => d.parameters.length) = some 1)⟩ ⟨Nat.le_of_ble_eq_true rfl, Nat.le_of_ble_eq_true rfl⟩) ⟨cPre_blind, c_recv X hw hN5 rfl, fun U hU hW => ⟨rfl, X.preJ hw hU hW⟩⟩ rfl rfl hl.1 rfl (lv_room (Nat.le_of_ble_eq_true rfl)) dX2_highest_7 ⟨show 0 + 0 ≤ 0 by omega, show 0 + 0 ≤ 0 by omega⟩) (fun r3 N4 H locs h hw => ?_)
    refine W.eq (g2 := F0 m 10 ls (.long r3 :: [])) rfl ?_
    refine lv_ldc2 (pc := 10) hx hb hown (hts _ q760) dX2_highest_10 ?_
    refine W.lcmp (pc := 13) hx hb dX2_highest_13 ?_
    refine lv_if_gt (pc := 14) (tgt := 23) hx hb dX2_highest_14 rfl (fun c10 => ?_) (fun c10 => ?_)
    · have h := h.1 ((lg_cmp_gt _ _).mp c10)
      refine lv_iload_n (pc := 23) hx hb dX2_highest_23 rfl (lv_at hl 1 rfl) ?_
      exact W.iret (pc := 24) hx hb hr (fun t ht hW => c_ret (val := vI) (lw := jW) (u := N4) hw h ht) hw.2.2.2 dX2_highest_24 hlk
    · have h := h.2 (fun z => c10 ((lg_cmp_gt _ _).mpr z))
      refine lv_iinc (pc := 17) (v := x2 + (1 : Int32)) (lv' := [(2, .int (x2 + (1 : Int32))), (1, va_rf x1)]) hx hb dX2_highest_17 hl (k := 1) rfl rfl (by decide) (by simp [rf_c]) (fun ls hl => ?_)
      refine lv_goto (pc := 20) (tgt := 2) hx hb dX2_highest_20 rfl ?_
      exact ih _ _ _ _ _ _ h hw (lv_sub hl [1, 0] rfl)
theorem tX2_highest {l : Launch} {G : gG} (hO : gOk G) {post : Int32 → NM → Prop} {N : NM} {x0 : Nat} {x1 : Option Nat} {sz : Nat} (h : wX2_highest (gC G) post N x0 x1) : Met l yX2_highest (ws_ yX2_highest cX2_highest 3 (some .int)) ⟨2, 0, 0, 52⟩ (va_Pc [.ref x0, va_rf x1] (cPre G [] N sz)) (gQ vI post (fun u H => cBw G (cA [] N sz) (jW u).1 (jW u).2 H) (cA [] N sz)) 0 0 (cA [] N sz) := by
  refine c_ofW (lw := jW) (by decide) hO (by cases x1 <;> exact Nat.le_of_ble_eq_true rfl) (fun p e s m below meth c ls A X hr hlk hin hw hl => ?_)
  have hl : lv_has ls 3 [(0, .ref x0), (1, va_rf x1)] := by cases x1 <;> exact hl
  have hx := X.1.1
  have hb := X.1.2.1
  have hml := X.1.2.2.1
  have hown := X.1.2.2.2.1
  have hts := X.1.2.2.2.2
  obtain ⟨H, eH⟩ : ∃ z, z = s.heap := ⟨_, rfl⟩
  rw [← eH] at hw ⊢
  obtain ⟨locs, eLo⟩ : ∃ z : List Loc, z = [] := ⟨_, rfl⟩
  rw [← eLo] at hw ⊢
  unfold wX2_highest at h
  refine lv_iconst (pc := 0) (v := (0 : Int32)) hx hb dX2_highest_0 (by decide) ?_
  refine lv_istore_n (pc := 1) (i := 2) (lv' := [(2, .int (0 : Int32)), (0, .ref x0), (1, va_rf x1)]) hx hb dX2_highest_1 rfl hl (by decide) (by simp [rf_c]) (fun ls hl => ?_)
  obtain ⟨k, h⟩ := h
  exact kX2_highest_2 X hr hlk  k _ _ _ _ _ _ h hw (lv_sub hl [2, 0] rfl)

def wX2_passes_2 (K : Nat → Nat → Nat) (post : Int32 → NM → Prop) (N : NM) (x0 : Nat) (x1 : Int32) : Prop :=
  ∃ f4 f5 f6 f7, N x0 = some (eO 2 [.int f4, .int f5, .int f6, va_rf f7]) ∧ (wX2_here K (fun r1 N2 => ((r1 = x1) → (∃ f10 f11 f12 f13, N2 x0 = some (eO 2 [.int f10, .int f11, .int f12, va_rf f13]) ∧ (∀ N14, N14 = va_up N2 x0 (some (eO 2 [.int (f10 + (1 : Int32)), .int f11, .int f12, va_rf f13])) → (wX2_skips K (fun _ N18 => post (1 : Int32) N18) N14 x0)))) ∧ (¬ (r1 = x1) → (post (0 : Int32) N2))) N x0)
theorem tX2_passes_2 {l : Launch} {G : gG} (hO : gOk G) {post : Int32 → NM → Prop} {N : NM} {x0 : Nat} {x1 : Int32} {sz : Nat} (h : wX2_passes_2 (gC G) post N x0 x1) : Met l yX2_passes_2 (ws_ yX2_passes_2 cX2_passes_2 2 (some .boolean)) ⟨2, 0, 0, 40⟩ (va_Pc [.ref x0, .int x1] (cPre G [] N sz)) (gQ vI post (fun u H => cBw G (cA [] N sz) (jW u).1 (jW u).2 H) (cA [] N sz)) 0 0 (cA [] N sz) := by
  refine c_ofW (lw := jW) (by decide) hO (Nat.le_of_ble_eq_true rfl) (fun p e s m below meth c ls A X hr hlk hin hw hl => ?_)
  have hl : lv_has ls 2 [(0, .ref x0), (1, .int x1)] := hl
  have hx := X.1.1
  have hb := X.1.2.1
  have hml := X.1.2.2.1
  have hown := X.1.2.2.2.1
  have hts := X.1.2.2.2.2
  obtain ⟨H, eH⟩ : ∃ z, z = s.heap := ⟨_, rfl⟩
  rw [← eH] at hw ⊢
  obtain ⟨locs, eLo⟩ : ∃ z : List Loc, z = [] := ⟨_, rfl⟩
  rw [← eLo] at hw ⊢
  unfold wX2_passes_2 at h
  refine lv_aload_n (pc := 0) hx hb dX2_passes_2_0 rfl (lv_at hl 0 rfl) ?_
  obtain ⟨f4, f5, f6, f7, hN3, h⟩ := h
  refine c_callJ (pc := 1) (val := vI) X hw (va_runV (C := RX2) (As := []) (rest := []) X.1 (tX2_here X.2.2.1 (sz := H.size) h) (cwV 0 hts (lw_V q402 q404 qs4 q113 q405) rfl rfl rfl ⟨rfl, by decide, by decide, (by decide +kernel : (parseMethodDescriptor yX2_here.desc).map (fun d => d.parameters.length) = some 0)⟩ ⟨Nat.le_of_ble_eq_true rfl, Nat.le_of_ble_eq_true rfl⟩) ⟨cPre_blind, c_recv X hw hN3 rfl, fun U hU hW => ⟨rfl, X.preJ hw hU hW⟩⟩ rfl rfl hl.1 rfl (lv_room (Nat.le_of_ble_eq_true rfl)) dX2_passes_2_1 ⟨show 0 + 0 ≤ 0 by omega, show 0 + 0 ≤ 0 by omega⟩) (fun r1 N2 H locs h hw => ?_)
  refine W.eq (g2 := F0 m 4 ls (.int r1 :: [])) rfl ?_
  refine lv_iload_n (pc := 4) hx hb dX2_passes_2_4 rfl (lv_at hl 1 rfl) ?_
  refine lv_icmp_eq (pc := 5) (tgt := 10) hx hb dX2_passes_2_5 rfl (fun c8 => ?_) (fun c8 => ?_)
  · have h := h.1 c8
    refine lv_aload_n (pc := 10) hx hb dX2_passes_2_10 rfl (lv_at hl 0 rfl) ?_
    refine lv_dup (pc := 11) hx hb dX2_passes_2_11 rfl ?_
    obtain ⟨f10, f11, f12, f13, hN9, h⟩ := h
    refine c_get (pc := 12) X hw hN9 in_X2 rfl 0 (by decide) q406 rfl rfl dX2_passes_2_12 ?_
    refine lv_iconst (pc := 15) (v := (1 : Int32)) hx hb dX2_passes_2_15 (by decide) ?_
    refine lv_iadd (pc := 16) hx hb dX2_passes_2_16 ?_
    refine c_put (pc := 17) X hw hN9 in_X2 tyX2 tyX2_ok nmX2 rfl 0 (by decide) q406 rfl rfl rfl rfl rfl (Nat.le_of_ble_eq_true rfl) dX2_passes_2_17 (fun H locs hw => ?_)
    obtain ⟨N14, e15⟩ : ∃ z, z = va_up N2 x0 (some (eO 2 [.int (f10 + (1 : Int32)), .int f11, .int f12, va_rf f13])) := ⟨_, rfl⟩
    have hw : cH G A s [] N14 H locs := by rw [e15]; exact hw
    have h := h N14 e15
    have hN16 : N14 x0 = some (eO 2 [.int (f10 + (1 : Int32)), .int f11, .int f12, va_rf f13]) := by rw [e15]; exact up_s
    refine lv_aload_n (pc := 20) hx hb dX2_passes_2_20 rfl (lv_at hl 0 rfl) ?_
    refine c_callJ (pc := 21) (val := vV) X hw (va_runV (C := RX2) (As := []) (rest := []) X.1 (tX2_skips X.2.2.1 (sz := H.size) h) (cwV 0 hts (lw_V q398 q400 qs3 q113 q401) rfl rfl rfl ⟨rfl, by decide, by decide, (by decide +kernel : (parseMethodDescriptor yX2_skips.desc).map (fun d => d.parameters.length) = some 0)⟩ ⟨Nat.le_of_ble_eq_true rfl, Nat.le_of_ble_eq_true rfl⟩) ⟨cPre_blind, c_recv X hw hN16 rfl, fun U hU hW => ⟨rfl, X.preJ hw hU hW⟩⟩ rfl rfl hl.1 rfl (lv_room (Nat.le_of_ble_eq_true rfl)) dX2_passes_2_21 ⟨show 0 + 0 ≤ 0 by omega, show 0 + 0 ≤ 0 by omega⟩) (fun _ N18 H locs h hw => ?_)
    refine W.eq (g2 := F0 m 24 ls ([])) rfl ?_
    refine lv_iconst (pc := 24) (v := (1 : Int32)) hx hb dX2_passes_2_24 (by decide) ?_
    exact W.zret (pc := 25) hx hb hr rfl (fun t ht hW => c_ret (val := vI) (lw := jW) (u := N18) hw h ht) hw.2.2.2 dX2_passes_2_25 hlk
  · have h := h.2 c8
    refine lv_iconst (pc := 8) (v := (0 : Int32)) hx hb dX2_passes_2_8 (by decide) ?_
    exact W.zret (pc := 9) hx hb hr rfl (fun t ht hW => c_ret (val := vI) (lw := jW) (u := N2) hw h ht) hw.2.2.2 dX2_passes_2_9 hlk

def wX0_waysOf (K : Nat → Nat → Nat) (post : Int64 → NM → Prop) (N : NM) (x0 : Nat) (x1 : Option Nat) (x2 : Int32) : Prop :=
  ∃ f4 f5 f6 f7 f8 f9 f10 f11 f12 f13 f14 f15 f16 f17 f18 f19 f20 f21 f22, N x0 = some (eO 1 [va_rf f4, va_rf f5, va_rf f6, va_rf f7, va_rf f8, va_rf f9, va_rf f10, va_rf f11, va_rf f12, .int f13, .int f14, va_rf f15, va_rf f16, .int f17, va_rf f18, va_rf f19, va_rf f20, va_rf f21, va_rf f22]) ∧ (wX0_laysWays K (fun _ N2 => ∃ f24 f25 f26 f27 f28 f29 f30 f31 f32 f33 f34 f35 f36 f37 f38 f39 f40 f41 f42, N2 x0 = some (eO 1 [va_rf f24, va_rf f25, va_rf f26, va_rf f27, va_rf f28, va_rf f29, va_rf f30, va_rf f31, va_rf f32, .int f33, .int f34, va_rf f35, va_rf f36, .int f37, va_rf f38, va_rf f39, va_rf f40, va_rf f41, va_rf f42]) ∧ (∃ a43, f27 = some a43 ∧ (∃ n46 f47, N2 a43 = some (eR 6 n46 f47) ∧ (vp_in (0 : Int32) n46 ∧ (∃ a48, (f47 (0 : Int32).toNatClampNeg) = some a48 ∧ (∃ n51 f52, N2 a48 = some (eL 1 n51 f52) ∧ (vp_in ((15000 : Int32) + x2) n51 ∧ (post (f52 ((15000 : Int32) + x2).toNatClampNeg) N2)))))))) N x0 x1)
theorem tX0_waysOf {l : Launch} {G : gG} (hO : gOk G) {post : Int64 → NM → Prop} {N : NM} {x0 : Nat} {x1 : Option Nat} {x2 : Int32} {sz : Nat} (h : wX0_waysOf (gC G) post N x0 x1 x2) : Met l yX0_waysOf (ws_ yX0_waysOf cX0_waysOf 3 (some .long)) ⟨3, 0, 0, 75⟩ (va_Pc [.ref x0, va_rf x1, .int x2] (cPre G [] N sz)) (gQ vL post (fun u H => cBw G (cA [] N sz) (jW u).1 (jW u).2 H) (cA [] N sz)) 0 0 (cA [] N sz) := by
  refine c_ofW (lw := jW) (by decide) hO (by cases x1 <;> exact Nat.le_of_ble_eq_true rfl) (fun p e s m below meth c ls A X hr hlk hin hw hl => ?_)
  have hl : lv_has ls 3 [(0, .ref x0), (1, va_rf x1), (2, .int x2)] := by cases x1 <;> exact hl
  have hx := X.1.1
  have hb := X.1.2.1
  have hml := X.1.2.2.1
  have hown := X.1.2.2.2.1
  have hts := X.1.2.2.2.2
  obtain ⟨H, eH⟩ : ∃ z, z = s.heap := ⟨_, rfl⟩
  rw [← eH] at hw ⊢
  obtain ⟨locs, eLo⟩ : ∃ z : List Loc, z = [] := ⟨_, rfl⟩
  rw [← eLo] at hw ⊢
  unfold wX0_waysOf at h
  refine lv_aload_n (pc := 0) hx hb dX0_waysOf_0 rfl (lv_at hl 0 rfl) ?_
  refine lq_aload_n (pc := 1) hx hb dX0_waysOf_1 rfl (lv_at hl 1 rfl) ?_
  obtain ⟨f4, f5, f6, f7, f8, f9, f10, f11, f12, f13, f14, f15, f16, f17, f18, f19, f20, f21, f22, hN3, h⟩ := h
  refine c_callJ (pc := 2) (val := vV) X hw (va_runV (C := RX0) (As := [va_rf x1]) (rest := []) X.1 (tX0_laysWays X.2.2.1 (sz := H.size) h) (cwV 1 hts (lw_V q1376 q1378 qs29 q102 q1379) rfl rfl rfl ⟨rfl, by decide, by decide, (by decide +kernel : (parseMethodDescriptor yX0_laysWays.desc).map (fun d => d.parameters.length) = some 1)⟩ ⟨Nat.le_of_ble_eq_true rfl, Nat.le_of_ble_eq_true rfl⟩) ⟨cPre_blind, c_recv X hw hN3 rfl, fun U hU hW => ⟨rfl, X.preJ hw hU hW⟩⟩ rfl rfl hl.1 rfl (lv_room (Nat.le_of_ble_eq_true rfl)) dX0_waysOf_2 ⟨show 0 + 0 ≤ 0 by omega, show 0 + 0 ≤ 0 by omega⟩) (fun _ N2 H locs h hw => ?_)
  refine W.eq (g2 := F0 m 5 ls ([])) rfl ?_
  refine lv_aload_n (pc := 5) hx hb dX0_waysOf_5 rfl (lv_at hl 0 rfl) ?_
  obtain ⟨f24, f25, f26, f27, f28, f29, f30, f31, f32, f33, f34, f35, f36, f37, f38, f39, f40, f41, f42, hN23, h⟩ := h
  refine c_get (pc := 6) X hw hN23 in_X0 rfl 3 (by decide) q214 rfl rfl dX0_waysOf_6 ?_
  refine lv_iconst (pc := 9) (v := (0 : Int32)) hx hb dX0_waysOf_9 (by decide) ?_
  obtain ⟨a43, hr44, h⟩ := h
  refine W.eq (g2 := F0 m 10 ls [.int (0 : Int32), .ref a43]) (by rw [hr44]; rfl) ?_
  obtain ⟨n46, f47, hN45, h⟩ := h
  obtain ⟨hi, h⟩ := h
  refine c_aaldT (pc := 10) X hw 6 hN45 rfl hi dX0_waysOf_10 ?_
  refine lv_sipush (pc := 11) (v := (15000 : Int32)) hx hb dX0_waysOf_11 (by decide) ?_
  refine lv_iload_n (pc := 14) hx hb dX0_waysOf_14 rfl (lv_at hl 2 rfl) ?_
  refine lv_iadd (pc := 15) hx hb dX0_waysOf_15 ?_
  obtain ⟨a48, hr49, h⟩ := h
  refine W.eq (g2 := F0 m 16 ls [.int ((15000 : Int32) + x2), .ref a48]) (by rw [hr49]; rfl) ?_
  obtain ⟨n51, f52, hN50, h⟩ := h
  obtain ⟨hi, h⟩ := h
  refine c_lald (pc := 16) X hw hN50 hi dX0_waysOf_16 ?_
  exact W.lret (pc := 17) hx hb hr (fun t ht hW => c_ret (val := vL) (lw := jW) (u := N2) hw h ht) hw.2.2.2 dX0_waysOf_17 hlk

def wX0_unlikeOf_13 (K : Nat → Nat → Nat) (post : Int64 → NM → Prop) (x0 : Nat) (x2 : Int32) (N : NM) : Prop :=
  ∃ f23 f24 f25 f26 f27 f28 f29 f30 f31 f32 f33 f34 f35 f36 f37 f38 f39 f40 f41, N x0 = some (eO 1 [va_rf f23, va_rf f24, va_rf f25, va_rf f26, va_rf f27, va_rf f28, va_rf f29, va_rf f30, va_rf f31, .int f32, .int f33, va_rf f34, va_rf f35, .int f36, va_rf f37, va_rf f38, va_rf f39, va_rf f40, va_rf f41]) ∧ (∃ a42, f27 = some a42 ∧ (∃ n45 f46, N a42 = some (eR 6 n45 f46) ∧ (vp_in (0 : Int32) n45 ∧ (∃ a47, (f46 (0 : Int32).toNatClampNeg) = some a47 ∧ (∃ n50 f51, N a47 = some (eL 1 n50 f51) ∧ (vp_in ((15000 : Int32) + x2) n50 ∧ (post (f51 ((15000 : Int32) + x2).toNatClampNeg) N)))))))
def wX0_unlikeOf (K : Nat → Nat → Nat) (post : Int64 → NM → Prop) (N : NM) (x0 : Nat) (x1 : Option Nat) (x2 : Int32) : Prop :=
  ∃ f2 f3 f4 f5 f6 f7 f8 f9 f10 f11 f12 f13 f14 f15 f16 f17 f18 f19 f20, N x0 = some (eO 1 [va_rf f2, va_rf f3, va_rf f4, va_rf f5, va_rf f6, va_rf f7, va_rf f8, va_rf f9, va_rf f10, .int f11, .int f12, va_rf f13, va_rf f14, .int f15, va_rf f16, va_rf f17, va_rf f18, va_rf f19, va_rf f20]) ∧ (((f8 = x1) → (wX0_unlikeOf_13 K post x0 x2 N)) ∧ (¬ (f8 = x1) → (wX0_laysUnlike K (fun _ N53 => wX0_unlikeOf_13 K post x0 x2 N53) N x0 x1)))
theorem kX0_unlikeOf_13 {p : Program} {l : Launch} {e : Env} {s : State} {m : MethodId} {args : Array Value} {below : List Frame} {meth : Method} {c : Code} {G : gG} {A : Nat → Prop} {post : Int64 → NM → Prop} (X : cX G A RX0 p s m args c cX0_unlikeOf 3) (hr : meth.sig.returnType = (some .long)) (hlk : meth.locks = false) : ∀ (x0 : Nat) (x2 : Int32) (N : NM) (H : Heap) (locs : List Loc) (ls : Array Slot), wX0_unlikeOf_13 (gC G) post x0 x2 N → cH G A s [] N H locs → lv_has ls 3 [(0, .ref x0), (2, .int x2)] → W p l e ⟨3, 0, 0, 85⟩ s m args below meth c H locs 0 0 (MQ below (gQ vL post (fun u H => cBw G A (jW u).1 (jW u).2 H) A) args s 0 0 A) (F0 m 13 ls []) := by
  have hx := X.1.1
  have hb := X.1.2.1
  have hml := X.1.2.2.1
  have hown := X.1.2.2.2.1
  have hts := X.1.2.2.2.2
  intro x0 x2 N H locs ls h hw hl
  unfold wX0_unlikeOf_13 at h
  refine lv_aload_n (pc := 13) hx hb dX0_unlikeOf_13 rfl (lv_at hl 0 rfl) ?_
  obtain ⟨f23, f24, f25, f26, f27, f28, f29, f30, f31, f32, f33, f34, f35, f36, f37, f38, f39, f40, f41, hN22, h⟩ := h
  refine c_get (pc := 14) X hw hN22 in_X0 rfl 4 (by decide) q215 rfl rfl dX0_unlikeOf_14 ?_
  refine lv_iconst (pc := 17) (v := (0 : Int32)) hx hb dX0_unlikeOf_17 (by decide) ?_
  obtain ⟨a42, hr43, h⟩ := h
  refine W.eq (g2 := F0 m 18 ls [.int (0 : Int32), .ref a42]) (by rw [hr43]; rfl) ?_
  obtain ⟨n45, f46, hN44, h⟩ := h
  obtain ⟨hi, h⟩ := h
  refine c_aaldT (pc := 18) X hw 6 hN44 rfl hi dX0_unlikeOf_18 ?_
  refine lv_sipush (pc := 19) (v := (15000 : Int32)) hx hb dX0_unlikeOf_19 (by decide) ?_
  refine lv_iload_n (pc := 22) hx hb dX0_unlikeOf_22 rfl (lv_at hl 1 rfl) ?_
  refine lv_iadd (pc := 23) hx hb dX0_unlikeOf_23 ?_
  obtain ⟨a47, hr48, h⟩ := h
  refine W.eq (g2 := F0 m 24 ls [.int ((15000 : Int32) + x2), .ref a47]) (by rw [hr48]; rfl) ?_
  obtain ⟨n50, f51, hN49, h⟩ := h
  obtain ⟨hi, h⟩ := h
  refine c_lald (pc := 24) X hw hN49 hi dX0_unlikeOf_24 ?_
  exact W.lret (pc := 25) hx hb hr (fun t ht hW => c_ret (val := vL) (lw := jW) (u := N) hw h ht) hw.2.2.2 dX0_unlikeOf_25 hlk
theorem tX0_unlikeOf {l : Launch} {G : gG} (hO : gOk G) {post : Int64 → NM → Prop} {N : NM} {x0 : Nat} {x1 : Option Nat} {x2 : Int32} {sz : Nat} (h : wX0_unlikeOf (gC G) post N x0 x1 x2) : Met l yX0_unlikeOf (ws_ yX0_unlikeOf cX0_unlikeOf 3 (some .long)) ⟨3, 0, 0, 85⟩ (va_Pc [.ref x0, va_rf x1, .int x2] (cPre G [] N sz)) (gQ vL post (fun u H => cBw G (cA [] N sz) (jW u).1 (jW u).2 H) (cA [] N sz)) 0 0 (cA [] N sz) := by
  refine c_ofW (lw := jW) (by decide) hO (by cases x1 <;> exact Nat.le_of_ble_eq_true rfl) (fun p e s m below meth c ls A X hr hlk hin hw hl => ?_)
  have hl : lv_has ls 3 [(0, .ref x0), (1, va_rf x1), (2, .int x2)] := by cases x1 <;> exact hl
  have hx := X.1.1
  have hb := X.1.2.1
  have hml := X.1.2.2.1
  have hown := X.1.2.2.2.1
  have hts := X.1.2.2.2.2
  obtain ⟨H, eH⟩ : ∃ z, z = s.heap := ⟨_, rfl⟩
  rw [← eH] at hw ⊢
  obtain ⟨locs, eLo⟩ : ∃ z : List Loc, z = [] := ⟨_, rfl⟩
  rw [← eLo] at hw ⊢
  unfold wX0_unlikeOf at h
  refine lv_aload_n (pc := 0) hx hb dX0_unlikeOf_0 rfl (lv_at hl 0 rfl) ?_
  obtain ⟨f2, f3, f4, f5, f6, f7, f8, f9, f10, f11, f12, f13, f14, f15, f16, f17, f18, f19, f20, hN1, h⟩ := h
  refine c_get (pc := 1) X hw hN1 in_X0 rfl 6 (by decide) q217 rfl rfl dX0_unlikeOf_1 ?_
  refine lq_aload_n (pc := 4) hx hb dX0_unlikeOf_4 rfl (lv_at hl 1 rfl) ?_
  refine lv_acmp_eq (pc := 5) (tgt := 13) (rx := f8) (ry := x1) hx hb dX0_unlikeOf_5 rfl (fun c21 => ?_) (fun c21 => ?_)
  · have h := h.1 c21
    exact kX0_unlikeOf_13 X hr hlk  _ _ _ _ _ _ h hw (lv_sub hl [0, 2] rfl)
  · have h := h.2 c21
    refine lv_aload_n (pc := 8) hx hb dX0_unlikeOf_8 rfl (lv_at hl 0 rfl) ?_
    refine lq_aload_n (pc := 9) hx hb dX0_unlikeOf_9 rfl (lv_at hl 1 rfl) ?_
    refine c_callJ (pc := 10) (val := vV) X hw (va_runV (C := RX0) (As := [va_rf x1]) (rest := []) X.1 (tX0_laysUnlike X.2.2.1 (sz := H.size) h) (cwV 1 hts (lw_V q1566 q1568 qs36 q102 q1569) rfl rfl rfl ⟨rfl, by decide, by decide, (by decide +kernel : (parseMethodDescriptor yX0_laysUnlike.desc).map (fun d => d.parameters.length) = some 1)⟩ ⟨Nat.le_of_ble_eq_true rfl, Nat.le_of_ble_eq_true rfl⟩) ⟨cPre_blind, c_recv X hw hN1 rfl, fun U hU hW => ⟨rfl, X.preJ hw hU hW⟩⟩ rfl rfl hl.1 rfl (lv_room (Nat.le_of_ble_eq_true rfl)) dX0_unlikeOf_10 ⟨show 0 + 0 ≤ 0 by omega, show 0 + 0 ≤ 0 by omega⟩) (fun _ N53 H locs h hw => ?_)
    refine W.eq (g2 := F0 m 13 ls ([])) rfl ?_
    exact kX0_unlikeOf_13 X hr hlk  _ _ _ _ _ _ h hw (lv_sub hl [0, 2] rfl)

def wX2_init (K : Nat → Nat → Nat) (post : Unit → NM → Prop) (N : NM) (x0 : Nat) (x1 : Option Nat) : Prop :=
  ∃ f2 f3 f4 f5, N x0 = some (eO 2 [.int f2, .int f3, .int f4, va_rf f5]) ∧ (∀ N6, N6 = va_up N x0 (some (eO 2 [.int f2, .int f3, .int f4, va_rf x1])) → (wX2_skips K (fun _ N10 => post () N10) N6 x0))
theorem tX2_init {l : Launch} {G : gG} (hO : gOk G) {post : Unit → NM → Prop} {N : NM} {x0 : Nat} {x1 : Option Nat} {sz : Nat} (h : wX2_init (gC G) post N x0 x1) : Met l yX2_init (ws_ yX2_init cX2_init 2 none) ⟨2, 0, 0, 40⟩ (va_Pc [.ref x0, va_rf x1] (cPre G [] N sz)) (gQ vV post (fun u H => cBw G (cA [] N sz) (jW u).1 (jW u).2 H) (cA [] N sz)) 0 0 (cA [] N sz) := by
  refine c_ofW (lw := jW) (by decide) hO (by cases x1 <;> exact Nat.le_of_ble_eq_true rfl) (fun p e s m below meth c ls A X hr hlk hin hw hl => ?_)
  have hl : lv_has ls 2 [(0, .ref x0), (1, va_rf x1)] := by cases x1 <;> exact hl
  have hin := hin rfl
  have hx := X.1.1
  have hb := X.1.2.1
  have hml := X.1.2.2.1
  have hown := X.1.2.2.2.1
  have hts := X.1.2.2.2.2
  obtain ⟨H, eH⟩ : ∃ z, z = s.heap := ⟨_, rfl⟩
  rw [← eH] at hw ⊢
  obtain ⟨locs, eLo⟩ : ∃ z : List Loc, z = [] := ⟨_, rfl⟩
  rw [← eLo] at hw ⊢
  unfold wX2_init at h
  refine lv_aload_n (pc := 0) hx hb dX2_init_0 rfl (lv_at hl 0 rfl) ?_
  refine lq_aload_n (pc := 1) hx hb dX2_init_1 rfl (lv_at hl 1 rfl) ?_
  obtain ⟨f2, f3, f4, f5, hN1, h⟩ := h
  refine c_putF (pc := 2) (v := va_rf x1) X hw hN1 in_X2 tyX2 tyX2_ok nmX2 rfl 3 (by decide) q409 rfl rfl hin rfl rfl (rf_n x1 _) (rf_f x1 _) (Nat.le_of_ble_eq_true rfl) dX2_init_2 (fun H locs hw => ?_)
  obtain ⟨N6, e7⟩ : ∃ z, z = va_up N x0 (some (eO 2 [.int f2, .int f3, .int f4, va_rf x1])) := ⟨_, rfl⟩
  have hw : cH G A s [] N6 H locs := by rw [e7]; exact hw
  have h := h N6 e7
  have hN8 : N6 x0 = some (eO 2 [.int f2, .int f3, .int f4, va_rf x1]) := by rw [e7]; exact up_s
  refine lv_aload_n (pc := 5) hx hb dX2_init_5 rfl (lv_at hl 0 rfl) ?_
  refine W.objInit hx hb hown (hts _ q397) (hts _ q181) (hts _ q182) rfl (by rw [hml]; exact hl.1) rfl dX2_init_6 (Nat.le_of_ble_eq_true rfl) (Nat.le_of_ble_eq_true rfl) ?_
  refine W.eq (g2 := F0 m 9 ls []) rfl ?_
  refine lv_aload_n (pc := 9) hx hb dX2_init_9 rfl (lv_at hl 0 rfl) ?_
  refine c_callJ (pc := 10) (val := vV) X hw (va_runV (C := RX2) (As := []) (rest := []) X.1 (tX2_skips X.2.2.1 (sz := H.size) h) (cwV 0 hts (lw_V q398 q400 qs3 q113 q401) rfl rfl rfl ⟨rfl, by decide, by decide, (by decide +kernel : (parseMethodDescriptor yX2_skips.desc).map (fun d => d.parameters.length) = some 0)⟩ ⟨Nat.le_of_ble_eq_true rfl, Nat.le_of_ble_eq_true rfl⟩) ⟨cPre_blind, c_recv X hw hN8 rfl, fun U hU hW => ⟨rfl, X.preJ hw hU hW⟩⟩ rfl rfl hl.1 rfl (lv_room (Nat.le_of_ble_eq_true rfl)) dX2_init_10 ⟨show 0 + 0 ≤ 0 by omega, show 0 + 0 ≤ 0 by omega⟩) (fun _ N10 H locs h hw => ?_)
  refine W.eq (g2 := F0 m 13 ls ([])) rfl ?_
  exact W.vret (pc := 13) hx hb hr (fun t ht hW => c_ret (val := vV) (lw := jW) (u := N10) (v := ()) hw h ht) hw.2.2.2 dX2_init_13 hlk
