set_option maxRecDepth 100000
set_option maxHeartbeats 4000000
def wJ21_parentOf (K : Nat → Nat → Nat) (post : Option Nat → NM → Prop) (N : NM) (x0 : Option Nat) : Prop :=
  (x0 = none → (post none N)) ∧ (∀ a2, x0 = some a2 → (∃ f5 f6 f7 f8 f9 f10, N a2 = some (eO 20 [va_rf f5, va_rf f6, va_rf f7, va_rf f8, va_rf f9, .int f10]) ∧ (post f9 N)))
theorem tJ21_parentOf {l : Launch} {G : gG} (hO : gOk G) {post : Option Nat → NM → Prop} {N : NM} {x0 : Option Nat} {sz : Nat} (h : wJ21_parentOf (gC G) post N x0) : Met l yJ21_parentOf (ws_ yJ21_parentOf cJ21_parentOf 1 (some (.object "java/util/TreeMap$Entry"))) ⟨0, 0, 0, 0⟩ (va_Pc [va_rf x0] (cPre G [] N sz)) (gQ vQ post (fun u H => cBw G (cA [] N sz) (jW u).1 (jW u).2 H) (cA [] N sz)) 0 0 (cA [] N sz) := by
  refine c_ofW (lw := jW) (by decide) hO (by cases x0 <;> exact Nat.le_of_ble_eq_true rfl) (fun p e s m below meth c ls A X hr hlk hin hw hl => ?_)
  have hl : lv_has ls 1 [(0, va_rf x0)] := by cases x0 <;> exact hl
  have hx := X.1.1
  have hb := X.1.2.1
  have hml := X.1.2.2.1
  have hown := X.1.2.2.2.1
  have hts := X.1.2.2.2.2
  obtain ⟨H, eH⟩ : ∃ z, z = s.heap := ⟨_, rfl⟩
  rw [← eH] at hw ⊢
  obtain ⟨locs, eLo⟩ : ∃ z : List Loc, z = [] := ⟨_, rfl⟩
  rw [← eLo] at hw ⊢
  unfold wJ21_parentOf at h
  refine lq_aload_n (pc := 0) hx hb dJ21_parentOf_0 rfl (lv_at hl 0 rfl) ?_
  refine lq_ifnonnull (pc := 1) (tgt := 8) hx hb dJ21_parentOf_1 rfl (fun hz1 => ?_) (fun a2 hr3 => ?_)
  · have h := h.1 hz1
    refine lv_null (pc := 4) hx hb dJ21_parentOf_4 ?_
    refine lv_goto (pc := 5) (tgt := 12) hx hb dJ21_parentOf_5 rfl ?_
    exact W.aret (pc := 12) (v := va_rf none) hx hb hr (Or.inl ⟨_, rfl⟩) (va_rf_or _) (fun t ht hW => c_ret (val := vQ) (lw := jW) (u := N) hw h ht) hw.2.2.2 dJ21_parentOf_12 hlk
  · have h := h.2 a2 hr3
    refine lq_aload_n (pc := 8) hx hb dJ21_parentOf_8 rfl (lv_at hl 0 rfl) ?_
    refine W.eq (g2 := F0 m 9 ls [.ref a2]) (by rw [hr3]; rfl) ?_
    obtain ⟨f5, f6, f7, f8, f9, f10, hN4, h⟩ := h
    refine c_get (pc := 9) X hw hN4 in_J26 rfl 4 (by decide) q1324 rfl rfl dJ21_parentOf_9 ?_
    exact W.aret (pc := 12) (v := va_rf f9) hx hb hr (Or.inl ⟨_, rfl⟩) (va_rf_or _) (fun t ht hW => c_ret (val := vQ) (lw := jW) (u := N) hw h ht) hw.2.2.2 dJ21_parentOf_12 hlk

def wJ21_colorOf (K : Nat → Nat → Nat) (post : Int32 → NM → Prop) (N : NM) (x0 : Option Nat) : Prop :=
  (x0 = none → (post (1 : Int32) N)) ∧ (∀ a2, x0 = some a2 → (∃ f5 f6 f7 f8 f9 f10, N a2 = some (eO 20 [va_rf f5, va_rf f6, va_rf f7, va_rf f8, va_rf f9, .int f10]) ∧ (isB f10 ∧ post f10 N)))
theorem tJ21_colorOf {l : Launch} {G : gG} (hO : gOk G) {post : Int32 → NM → Prop} {N : NM} {x0 : Option Nat} {sz : Nat} (h : wJ21_colorOf (gC G) post N x0) : Met l yJ21_colorOf (ws_ yJ21_colorOf cJ21_colorOf 1 (some .boolean)) ⟨0, 0, 0, 0⟩ (va_Pc [va_rf x0] (cPre G [] N sz)) (gQ vI post (fun u H => cBw G (cA [] N sz) (jW u).1 (jW u).2 H) (cA [] N sz)) 0 0 (cA [] N sz) := by
  refine c_ofW (lw := jW) (by decide) hO (by cases x0 <;> exact Nat.le_of_ble_eq_true rfl) (fun p e s m below meth c ls A X hr hlk hin hw hl => ?_)
  have hl : lv_has ls 1 [(0, va_rf x0)] := by cases x0 <;> exact hl
  have hx := X.1.1
  have hb := X.1.2.1
  have hml := X.1.2.2.1
  have hown := X.1.2.2.2.1
  have hts := X.1.2.2.2.2
  obtain ⟨H, eH⟩ : ∃ z, z = s.heap := ⟨_, rfl⟩
  rw [← eH] at hw ⊢
  obtain ⟨locs, eLo⟩ : ∃ z : List Loc, z = [] := ⟨_, rfl⟩
  rw [← eLo] at hw ⊢
  unfold wJ21_colorOf at h
  refine lq_aload_n (pc := 0) hx hb dJ21_colorOf_0 rfl (lv_at hl 0 rfl) ?_
  refine lq_ifnonnull (pc := 1) (tgt := 8) hx hb dJ21_colorOf_1 rfl (fun hz1 => ?_) (fun a2 hr3 => ?_)
  · have h := h.1 hz1
    refine lv_iconst (pc := 4) (v := (1 : Int32)) hx hb dJ21_colorOf_4 (by decide) ?_
    refine lv_goto (pc := 5) (tgt := 12) hx hb dJ21_colorOf_5 rfl ?_
    exact W.zret (pc := 12) hx hb hr rfl (fun t ht hW => c_ret (val := vI) (lw := jW) (u := N) hw h ht) hw.2.2.2 dJ21_colorOf_12 hlk
  · have h := h.2 a2 hr3
    refine lq_aload_n (pc := 8) hx hb dJ21_colorOf_8 rfl (lv_at hl 0 rfl) ?_
    refine W.eq (g2 := F0 m 9 ls [.ref a2]) (by rw [hr3]; rfl) ?_
    obtain ⟨f5, f6, f7, f8, f9, f10, hN4, h⟩ := h
    refine c_get (pc := 9) X hw hN4 in_J26 rfl 5 (by decide) q1326 rfl rfl dJ21_colorOf_9 ?_
    obtain ⟨hB, h⟩ := h
    exact W.zret (pc := 12) hx hb hr (isB_n hB) (fun t ht hW => c_ret (val := vI) (lw := jW) (u := N) hw h ht) hw.2.2.2 dJ21_colorOf_12 hlk

def wJ21_leftOf (K : Nat → Nat → Nat) (post : Option Nat → NM → Prop) (N : NM) (x0 : Option Nat) : Prop :=
  (x0 = none → (post none N)) ∧ (∀ a2, x0 = some a2 → (∃ f5 f6 f7 f8 f9 f10, N a2 = some (eO 20 [va_rf f5, va_rf f6, va_rf f7, va_rf f8, va_rf f9, .int f10]) ∧ (post f7 N)))
theorem tJ21_leftOf {l : Launch} {G : gG} (hO : gOk G) {post : Option Nat → NM → Prop} {N : NM} {x0 : Option Nat} {sz : Nat} (h : wJ21_leftOf (gC G) post N x0) : Met l yJ21_leftOf (ws_ yJ21_leftOf cJ21_leftOf 1 (some (.object "java/util/TreeMap$Entry"))) ⟨0, 0, 0, 0⟩ (va_Pc [va_rf x0] (cPre G [] N sz)) (gQ vQ post (fun u H => cBw G (cA [] N sz) (jW u).1 (jW u).2 H) (cA [] N sz)) 0 0 (cA [] N sz) := by
  refine c_ofW (lw := jW) (by decide) hO (by cases x0 <;> exact Nat.le_of_ble_eq_true rfl) (fun p e s m below meth c ls A X hr hlk hin hw hl => ?_)
  have hl : lv_has ls 1 [(0, va_rf x0)] := by cases x0 <;> exact hl
  have hx := X.1.1
  have hb := X.1.2.1
  have hml := X.1.2.2.1
  have hown := X.1.2.2.2.1
  have hts := X.1.2.2.2.2
  obtain ⟨H, eH⟩ : ∃ z, z = s.heap := ⟨_, rfl⟩
  rw [← eH] at hw ⊢
  obtain ⟨locs, eLo⟩ : ∃ z : List Loc, z = [] := ⟨_, rfl⟩
  rw [← eLo] at hw ⊢
  unfold wJ21_leftOf at h
  refine lq_aload_n (pc := 0) hx hb dJ21_leftOf_0 rfl (lv_at hl 0 rfl) ?_
  refine lq_ifnonnull (pc := 1) (tgt := 8) hx hb dJ21_leftOf_1 rfl (fun hz1 => ?_) (fun a2 hr3 => ?_)
  · have h := h.1 hz1
    refine lv_null (pc := 4) hx hb dJ21_leftOf_4 ?_
    refine lv_goto (pc := 5) (tgt := 12) hx hb dJ21_leftOf_5 rfl ?_
    exact W.aret (pc := 12) (v := va_rf none) hx hb hr (Or.inl ⟨_, rfl⟩) (va_rf_or _) (fun t ht hW => c_ret (val := vQ) (lw := jW) (u := N) hw h ht) hw.2.2.2 dJ21_leftOf_12 hlk
  · have h := h.2 a2 hr3
    refine lq_aload_n (pc := 8) hx hb dJ21_leftOf_8 rfl (lv_at hl 0 rfl) ?_
    refine W.eq (g2 := F0 m 9 ls [.ref a2]) (by rw [hr3]; rfl) ?_
    obtain ⟨f5, f6, f7, f8, f9, f10, hN4, h⟩ := h
    refine c_get (pc := 9) X hw hN4 in_J26 rfl 2 (by decide) q1321 rfl rfl dJ21_leftOf_9 ?_
    exact W.aret (pc := 12) (v := va_rf f7) hx hb hr (Or.inl ⟨_, rfl⟩) (va_rf_or _) (fun t ht hW => c_ret (val := vQ) (lw := jW) (u := N) hw h ht) hw.2.2.2 dJ21_leftOf_12 hlk

def wJ21_rightOf (K : Nat → Nat → Nat) (post : Option Nat → NM → Prop) (N : NM) (x0 : Option Nat) : Prop :=
  (x0 = none → (post none N)) ∧ (∀ a2, x0 = some a2 → (∃ f5 f6 f7 f8 f9 f10, N a2 = some (eO 20 [va_rf f5, va_rf f6, va_rf f7, va_rf f8, va_rf f9, .int f10]) ∧ (post f8 N)))
theorem tJ21_rightOf {l : Launch} {G : gG} (hO : gOk G) {post : Option Nat → NM → Prop} {N : NM} {x0 : Option Nat} {sz : Nat} (h : wJ21_rightOf (gC G) post N x0) : Met l yJ21_rightOf (ws_ yJ21_rightOf cJ21_rightOf 1 (some (.object "java/util/TreeMap$Entry"))) ⟨0, 0, 0, 0⟩ (va_Pc [va_rf x0] (cPre G [] N sz)) (gQ vQ post (fun u H => cBw G (cA [] N sz) (jW u).1 (jW u).2 H) (cA [] N sz)) 0 0 (cA [] N sz) := by
  refine c_ofW (lw := jW) (by decide) hO (by cases x0 <;> exact Nat.le_of_ble_eq_true rfl) (fun p e s m below meth c ls A X hr hlk hin hw hl => ?_)
  have hl : lv_has ls 1 [(0, va_rf x0)] := by cases x0 <;> exact hl
  have hx := X.1.1
  have hb := X.1.2.1
  have hml := X.1.2.2.1
  have hown := X.1.2.2.2.1
  have hts := X.1.2.2.2.2
  obtain ⟨H, eH⟩ : ∃ z, z = s.heap := ⟨_, rfl⟩
  rw [← eH] at hw ⊢
  obtain ⟨locs, eLo⟩ : ∃ z : List Loc, z = [] := ⟨_, rfl⟩
  rw [← eLo] at hw ⊢
  unfold wJ21_rightOf at h
  refine lq_aload_n (pc := 0) hx hb dJ21_rightOf_0 rfl (lv_at hl 0 rfl) ?_
  refine lq_ifnonnull (pc := 1) (tgt := 8) hx hb dJ21_rightOf_1 rfl (fun hz1 => ?_) (fun a2 hr3 => ?_)
  · have h := h.1 hz1
    refine lv_null (pc := 4) hx hb dJ21_rightOf_4 ?_
    refine lv_goto (pc := 5) (tgt := 12) hx hb dJ21_rightOf_5 rfl ?_
    exact W.aret (pc := 12) (v := va_rf none) hx hb hr (Or.inl ⟨_, rfl⟩) (va_rf_or _) (fun t ht hW => c_ret (val := vQ) (lw := jW) (u := N) hw h ht) hw.2.2.2 dJ21_rightOf_12 hlk
  · have h := h.2 a2 hr3
    refine lq_aload_n (pc := 8) hx hb dJ21_rightOf_8 rfl (lv_at hl 0 rfl) ?_
    refine W.eq (g2 := F0 m 9 ls [.ref a2]) (by rw [hr3]; rfl) ?_
    obtain ⟨f5, f6, f7, f8, f9, f10, hN4, h⟩ := h
    refine c_get (pc := 9) X hw hN4 in_J26 rfl 3 (by decide) q1322 rfl rfl dJ21_rightOf_9 ?_
    exact W.aret (pc := 12) (v := va_rf f8) hx hb hr (Or.inl ⟨_, rfl⟩) (va_rf_or _) (fun t ht hW => c_ret (val := vQ) (lw := jW) (u := N) hw h ht) hw.2.2.2 dJ21_rightOf_12 hlk

def wJ21_setColor (K : Nat → Nat → Nat) (post : Unit → NM → Prop) (N : NM) (x0 : Option Nat) (x1 : Int32) : Prop :=
  (x0 = none → (post () N)) ∧ (∀ a2, x0 = some a2 → (∃ f5 f6 f7 f8 f9 f10, N a2 = some (eO 20 [va_rf f5, va_rf f6, va_rf f7, va_rf f8, va_rf f9, .int f10]) ∧ (isB x1 ∧ (∀ N11, N11 = va_up N a2 (some (eO 20 [va_rf f5, va_rf f6, va_rf f7, va_rf f8, va_rf f9, .int x1])) → (post () N11)))))
theorem tJ21_setColor {l : Launch} {G : gG} (hO : gOk G) {post : Unit → NM → Prop} {N : NM} {x0 : Option Nat} {x1 : Int32} {sz : Nat} (h : wJ21_setColor (gC G) post N x0 x1) : Met l yJ21_setColor (ws_ yJ21_setColor cJ21_setColor 2 none) ⟨0, 0, 0, 0⟩ (va_Pc [va_rf x0, .int x1] (cPre G [] N sz)) (gQ vV post (fun u H => cBw G (cA [] N sz) (jW u).1 (jW u).2 H) (cA [] N sz)) 0 0 (cA [] N sz) := by
  refine c_ofW (lw := jW) (by decide) hO (by cases x0 <;> exact Nat.le_of_ble_eq_true rfl) (fun p e s m below meth c ls A X hr hlk hin hw hl => ?_)
  have hl : lv_has ls 2 [(0, va_rf x0), (1, .int x1)] := by cases x0 <;> exact hl
  have hx := X.1.1
  have hb := X.1.2.1
  have hml := X.1.2.2.1
  have hown := X.1.2.2.2.1
  have hts := X.1.2.2.2.2
  obtain ⟨H, eH⟩ : ∃ z, z = s.heap := ⟨_, rfl⟩
  rw [← eH] at hw ⊢
  obtain ⟨locs, eLo⟩ : ∃ z : List Loc, z = [] := ⟨_, rfl⟩
  rw [← eLo] at hw ⊢
  unfold wJ21_setColor at h
  refine lq_aload_n (pc := 0) hx hb dJ21_setColor_0 rfl (lv_at hl 0 rfl) ?_
  refine lq_ifnull (pc := 1) (tgt := 9) hx hb dJ21_setColor_1 rfl (fun hz1 => ?_) (fun a2 hr3 => ?_)
  · have h := h.1 hz1
    exact W.vret (pc := 9) hx hb hr (fun t ht hW => c_ret (val := vV) (lw := jW) (u := N) (v := ()) hw h ht) hw.2.2.2 dJ21_setColor_9 hlk
  · have h := h.2 a2 hr3
    refine lq_aload_n (pc := 4) hx hb dJ21_setColor_4 rfl (lv_at hl 0 rfl) ?_
    refine lv_iload_n (pc := 5) hx hb dJ21_setColor_5 rfl (lv_at hl 1 rfl) ?_
    refine W.eq (g2 := F0 m 6 ls [.int x1, .ref a2]) (by rw [hr3]; rfl) ?_
    obtain ⟨f5, f6, f7, f8, f9, f10, hN4, h⟩ := h
    obtain ⟨hB, h⟩ := h
    refine c_put (pc := 6) X hw hN4 in_J26 tyJ26 tyJ26_ok nmJ26 rfl 5 (by decide) q1326 rfl rfl rfl (isB_n hB) (isB_f hB) (Nat.le_of_ble_eq_true rfl) dJ21_setColor_6 (fun H locs hw => ?_)
    obtain ⟨N11, e12⟩ : ∃ z, z = va_up N a2 (some (eO 20 [va_rf f5, va_rf f6, va_rf f7, va_rf f8, va_rf f9, .int x1])) := ⟨_, rfl⟩
    have hw : cH G A s [] N11 H locs := by rw [e12]; exact hw
    have h := h N11 e12
    have hN13 : N11 a2 = some (eO 20 [va_rf f5, va_rf f6, va_rf f7, va_rf f8, va_rf f9, .int x1]) := by rw [e12]; exact up_s
    exact W.vret (pc := 9) hx hb hr (fun t ht hW => c_ret (val := vV) (lw := jW) (u := N11) (v := ()) hw h ht) hw.2.2.2 dJ21_setColor_9 hlk

def wJ21_rotateLeft_85 (K : Nat → Nat → Nat) (post : Unit → NM → Prop) (x1 : Option Nat) (x2 : Option Nat) (N : NM) : Prop :=
  ∃ a79, x2 = some a79 ∧ (∃ f82 f83 f84 f85 f86 f87, N a79 = some (eO 20 [va_rf f82, va_rf f83, va_rf f84, va_rf f85, va_rf f86, .int f87]) ∧ (∀ N88, N88 = va_up N a79 (some (eO 20 [va_rf f82, va_rf f83, va_rf x1, va_rf f85, va_rf f86, .int f87])) → (∃ a91, x1 = some a91 ∧ (∃ f94 f95 f96 f97 f98 f99, N88 a91 = some (eO 20 [va_rf f94, va_rf f95, va_rf f96, va_rf f97, va_rf f98, .int f99]) ∧ (∀ N100, N100 = va_up N88 a91 (some (eO 20 [va_rf f94, va_rf f95, va_rf f96, va_rf f97, va_rf x2, .int f99])) → (post () N100))))))
def wJ21_rotateLeft_32 (K : Nat → Nat → Nat) (post : Unit → NM → Prop) (x0 : Nat) (x1 : Option Nat) (x2 : Option Nat) (N : NM) : Prop :=
  ∃ a33, x1 = some a33 ∧ (∃ f36 f37 f38 f39 f40 f41, N a33 = some (eO 20 [va_rf f36, va_rf f37, va_rf f38, va_rf f39, va_rf f40, .int f41]) ∧ (∃ a42, x2 = some a42 ∧ (∃ f45 f46 f47 f48 f49 f50, N a42 = some (eO 20 [va_rf f45, va_rf f46, va_rf f47, va_rf f48, va_rf f49, .int f50]) ∧ (∀ N51, N51 = va_up N a42 (some (eO 20 [va_rf f45, va_rf f46, va_rf f47, va_rf f48, va_rf f40, .int f50])) → (∃ f55 f56 f57 f58 f59 f60, N51 a33 = some (eO 20 [va_rf f55, va_rf f56, va_rf f57, va_rf f58, va_rf f59, .int f60]) ∧ ((f59 = none → (∃ f65 f66 f67 f68 f69 f70 f71 f72 f73, N51 x0 = some (eO 19 [va_rf f65, va_rf f66, va_rf f67, va_rf f68, .int f69, .int f70, va_rf f71, va_rf f72, va_rf f73]) ∧ (∀ N74, N74 = va_up N51 x0 (some (eO 19 [va_rf f65, va_rf f66, va_rf f67, va_rf x2, .int f69, .int f70, va_rf f71, va_rf f72, va_rf f73])) → (wJ21_rotateLeft_85 K post x1 x2 N74)))) ∧ (∀ a62, f59 = some a62 → (∃ f104 f105 f106 f107 f108 f109, N51 a62 = some (eO 20 [va_rf f104, va_rf f105, va_rf f106, va_rf f107, va_rf f108, .int f109]) ∧ (((f106 = x1) → (∀ N114, N114 = va_up N51 a62 (some (eO 20 [va_rf f104, va_rf f105, va_rf x2, va_rf f107, va_rf f108, .int f109])) → (wJ21_rotateLeft_85 K post x1 x2 N114))) ∧ (¬ (f106 = x1) → (∀ N111, N111 = va_up N51 a62 (some (eO 20 [va_rf f104, va_rf f105, va_rf f106, va_rf x2, va_rf f108, .int f109])) → (wJ21_rotateLeft_85 K post x1 x2 N111))))))))))))
def wJ21_rotateLeft (K : Nat → Nat → Nat) (post : Unit → NM → Prop) (N : NM) (x0 : Nat) (x1 : Option Nat) : Prop :=
  (x1 = none → (post () N)) ∧ (∀ a2, x1 = some a2 → (∃ f5 f6 f7 f8 f9 f10, N a2 = some (eO 20 [va_rf f5, va_rf f6, va_rf f7, va_rf f8, va_rf f9, .int f10]) ∧ (∃ a11, f8 = some a11 ∧ (∃ f14 f15 f16 f17 f18 f19, N a11 = some (eO 20 [va_rf f14, va_rf f15, va_rf f16, va_rf f17, va_rf f18, .int f19]) ∧ (∀ N20, N20 = va_up N a2 (some (eO 20 [va_rf f5, va_rf f6, va_rf f7, va_rf f16, va_rf f9, .int f10])) → (∃ f24 f25 f26 f27 f28 f29, N20 a11 = some (eO 20 [va_rf f24, va_rf f25, va_rf f26, va_rf f27, va_rf f28, .int f29]) ∧ ((f26 = none → (wJ21_rotateLeft_32 K post x0 x1 f8 N20)) ∧ (∀ a31, f26 = some a31 → (∃ f118 f119 f120 f121 f122 f123, N20 a31 = some (eO 20 [va_rf f118, va_rf f119, va_rf f120, va_rf f121, va_rf f122, .int f123]) ∧ (∀ N124, N124 = va_up N20 a31 (some (eO 20 [va_rf f118, va_rf f119, va_rf f120, va_rf f121, va_rf x1, .int f123])) → (wJ21_rotateLeft_32 K post x0 x1 f8 N124)))))))))))
theorem kJ21_rotateLeft_85 {p : Program} {l : Launch} {e : Env} {s : State} {m : MethodId} {args : Array Value} {below : List Frame} {meth : Method} {c : Code} {G : gG} {A : Nat → Prop} {post : Unit → NM → Prop} (X : cX G A RJ21 p s m args c cJ21_rotateLeft 3) (hr : meth.sig.returnType = none) (hlk : meth.locks = false) : ∀ (x1 : Option Nat) (x2 : Option Nat) (N : NM) (H : Heap) (locs : List Loc) (ls : Array Slot), wJ21_rotateLeft_85 (gC G) post x1 x2 N → cH G A s [] N H locs → lv_has ls 3 [(1, va_rf x1), (2, va_rf x2)] → W p l e ⟨0, 0, 0, 0⟩ s m args below meth c H locs 0 0 (MQ below (gQ vV post (fun u H => cBw G A (jW u).1 (jW u).2 H) A) args s 0 0 A) (F0 m 85 ls []) := by
  have hx := X.1.1
  have hb := X.1.2.1
  have hml := X.1.2.2.1
  have hown := X.1.2.2.2.1
  have hts := X.1.2.2.2.2
  intro x1 x2 N H locs ls h hw hl
  unfold wJ21_rotateLeft_85 at h
  refine lq_aload_n (pc := 85) hx hb dJ21_rotateLeft_85 rfl (lv_at hl 1 rfl) ?_
  refine lq_aload_n (pc := 86) hx hb dJ21_rotateLeft_86 rfl (lv_at hl 0 rfl) ?_
  obtain ⟨a79, hr80, h⟩ := h
  refine W.eq (g2 := F0 m 87 ls [va_rf x1, .ref a79]) (by rw [hr80]; rfl) ?_
  obtain ⟨f82, f83, f84, f85, f86, f87, hN81, h⟩ := h
  refine c_put (pc := 87) (v := va_rf x1) X hw hN81 in_J26 tyJ26 tyJ26_ok nmJ26 rfl 2 (by decide) q1321 rfl rfl rfl (rf_n x1 _) (rf_f x1 _) (Nat.le_of_ble_eq_true rfl) dJ21_rotateLeft_87 (fun H locs hw => ?_)
  obtain ⟨N88, e89⟩ : ∃ z, z = va_up N a79 (some (eO 20 [va_rf f82, va_rf f83, va_rf x1, va_rf f85, va_rf f86, .int f87])) := ⟨_, rfl⟩
  have hw : cH G A s [] N88 H locs := by rw [e89]; exact hw
  have h := h N88 e89
  have hN90 : N88 a79 = some (eO 20 [va_rf f82, va_rf f83, va_rf x1, va_rf f85, va_rf f86, .int f87]) := by rw [e89]; exact up_s
  refine lq_aload_n (pc := 90) hx hb dJ21_rotateLeft_90 rfl (lv_at hl 0 rfl) ?_
  refine lq_aload_n (pc := 91) hx hb dJ21_rotateLeft_91 rfl (lv_at hl 1 rfl) ?_
  obtain ⟨a91, hr92, h⟩ := h
  refine W.eq (g2 := F0 m 92 ls [va_rf x2, .ref a91]) (by rw [hr92]; rfl) ?_
  obtain ⟨f94, f95, f96, f97, f98, f99, hN93, h⟩ := h
  refine c_put (pc := 92) (v := va_rf x2) X hw hN93 in_J26 tyJ26 tyJ26_ok nmJ26 rfl 4 (by decide) q1324 rfl rfl rfl (rf_n x2 _) (rf_f x2 _) (Nat.le_of_ble_eq_true rfl) dJ21_rotateLeft_92 (fun H locs hw => ?_)
  obtain ⟨N100, e101⟩ : ∃ z, z = va_up N88 a91 (some (eO 20 [va_rf f94, va_rf f95, va_rf f96, va_rf f97, va_rf x2, .int f99])) := ⟨_, rfl⟩
  have hw : cH G A s [] N100 H locs := by rw [e101]; exact hw
  have h := h N100 e101
  have hN102 : N100 a91 = some (eO 20 [va_rf f94, va_rf f95, va_rf f96, va_rf f97, va_rf x2, .int f99]) := by rw [e101]; exact up_s
  exact W.vret (pc := 95) hx hb hr (fun t ht hW => c_ret (val := vV) (lw := jW) (u := N100) (v := ()) hw h ht) hw.2.2.2 dJ21_rotateLeft_95 hlk
theorem kJ21_rotateLeft_32 {p : Program} {l : Launch} {e : Env} {s : State} {m : MethodId} {args : Array Value} {below : List Frame} {meth : Method} {c : Code} {G : gG} {A : Nat → Prop} {post : Unit → NM → Prop} (X : cX G A RJ21 p s m args c cJ21_rotateLeft 3) (hr : meth.sig.returnType = none) (hlk : meth.locks = false) : ∀ (x0 : Nat) (x1 : Option Nat) (x2 : Option Nat) (N : NM) (H : Heap) (locs : List Loc) (ls : Array Slot), wJ21_rotateLeft_32 (gC G) post x0 x1 x2 N → cH G A s [] N H locs → lv_has ls 3 [(0, .ref x0), (1, va_rf x1), (2, va_rf x2)] → W p l e ⟨0, 0, 0, 0⟩ s m args below meth c H locs 0 0 (MQ below (gQ vV post (fun u H => cBw G A (jW u).1 (jW u).2 H) A) args s 0 0 A) (F0 m 32 ls []) := by
  have hx := X.1.1
  have hb := X.1.2.1
  have hml := X.1.2.2.1
  have hown := X.1.2.2.2.1
  have hts := X.1.2.2.2.2
  intro x0 x1 x2 N H locs ls h hw hl
  unfold wJ21_rotateLeft_32 at h
  refine lq_aload_n (pc := 32) hx hb dJ21_rotateLeft_32 rfl (lv_at hl 2 rfl) ?_
  refine lq_aload_n (pc := 33) hx hb dJ21_rotateLeft_33 rfl (lv_at hl 1 rfl) ?_
  obtain ⟨a33, hr34, h⟩ := h
  refine W.eq (g2 := F0 m 34 ls [.ref a33, va_rf x2]) (by rw [hr34]; rfl) ?_
  obtain ⟨f36, f37, f38, f39, f40, f41, hN35, h⟩ := h
  refine c_get (pc := 34) X hw hN35 in_J26 rfl 4 (by decide) q1324 rfl rfl dJ21_rotateLeft_34 ?_
  obtain ⟨a42, hr43, h⟩ := h
  refine W.eq (g2 := F0 m 37 ls [va_rf f40, .ref a42]) (by rw [hr43]; rfl) ?_
  obtain ⟨f45, f46, f47, f48, f49, f50, hN44, h⟩ := h
  refine c_put (pc := 37) (v := va_rf f40) X hw hN44 in_J26 tyJ26 tyJ26_ok nmJ26 rfl 4 (by decide) q1324 rfl rfl rfl (rf_n f40 _) (rf_f f40 _) (Nat.le_of_ble_eq_true rfl) dJ21_rotateLeft_37 (fun H locs hw => ?_)
  obtain ⟨N51, e52⟩ : ∃ z, z = va_up N a42 (some (eO 20 [va_rf f45, va_rf f46, va_rf f47, va_rf f48, va_rf f40, .int f50])) := ⟨_, rfl⟩
  have hw : cH G A s [] N51 H locs := by rw [e52]; exact hw
  have h := h N51 e52
  have hN53 : N51 a42 = some (eO 20 [va_rf f45, va_rf f46, va_rf f47, va_rf f48, va_rf f40, .int f50]) := by rw [e52]; exact up_s
  refine lq_aload_n (pc := 40) hx hb dJ21_rotateLeft_40 rfl (lv_at hl 1 rfl) ?_
  refine W.eq (g2 := F0 m 41 ls [.ref a33]) (by rw [hr34]; rfl) ?_
  obtain ⟨f55, f56, f57, f58, f59, f60, hN54, h⟩ := h
  refine c_get (pc := 41) X hw hN54 in_J26 rfl 4 (by decide) q1324 rfl rfl dJ21_rotateLeft_41 ?_
  refine lq_ifnonnull (pc := 44) (tgt := 55) hx hb dJ21_rotateLeft_44 rfl (fun hz61 => ?_) (fun a62 hr63 => ?_)
  · have h := h.1 hz61
    refine lv_aload_n (pc := 47) hx hb dJ21_rotateLeft_47 rfl (lv_at hl 0 rfl) ?_
    refine lq_aload_n (pc := 48) hx hb dJ21_rotateLeft_48 rfl (lv_at hl 2 rfl) ?_
    obtain ⟨f65, f66, f67, f68, f69, f70, f71, f72, f73, hN64, h⟩ := h
    refine c_put (pc := 49) (v := va_rf x2) X hw hN64 in_J21 tyJ21 tyJ21_ok nmJ21 rfl 3 (by decide) q949 rfl rfl rfl (rf_n x2 _) (rf_f x2 _) (Nat.le_of_ble_eq_true rfl) dJ21_rotateLeft_49 (fun H locs hw => ?_)
    obtain ⟨N74, e75⟩ : ∃ z, z = va_up N51 x0 (some (eO 19 [va_rf f65, va_rf f66, va_rf f67, va_rf x2, .int f69, .int f70, va_rf f71, va_rf f72, va_rf f73])) := ⟨_, rfl⟩
    have hw : cH G A s [] N74 H locs := by rw [e75]; exact hw
    have h := h N74 e75
    have hN76 : N74 x0 = some (eO 19 [va_rf f65, va_rf f66, va_rf f67, va_rf x2, .int f69, .int f70, va_rf f71, va_rf f72, va_rf f73]) := by rw [e75]; exact up_s
    have hN77 := up_k (x := some (eO 19 [va_rf f65, va_rf f66, va_rf f67, va_rf x2, .int f69, .int f70, va_rf f71, va_rf f72, va_rf f73])) hN64 hN53 (show (38 : Nat) ≠ 40 by decide)
    rw [← e75] at hN77
    have hN78 := up_k (x := some (eO 19 [va_rf f65, va_rf f66, va_rf f67, va_rf x2, .int f69, .int f70, va_rf f71, va_rf f72, va_rf f73])) hN64 hN54 (show (38 : Nat) ≠ 40 by decide)
    rw [← e75] at hN78
    refine lv_goto (pc := 52) (tgt := 85) hx hb dJ21_rotateLeft_52 rfl ?_
    exact kJ21_rotateLeft_85 X hr hlk  _ _ _ _ _ _ h hw (lv_sub hl [1, 2] rfl)
  · have h := h.2 a62 hr63
    refine lq_aload_n (pc := 55) hx hb dJ21_rotateLeft_55 rfl (lv_at hl 1 rfl) ?_
    refine W.eq (g2 := F0 m 56 ls [.ref a33]) (by rw [hr34]; rfl) ?_
    refine c_get (pc := 56) X hw hN54 in_J26 rfl 4 (by decide) q1324 rfl rfl dJ21_rotateLeft_56 ?_
    refine W.eq (g2 := F0 m 59 ls [.ref a62]) (by rw [hr63]; rfl) ?_
    obtain ⟨f104, f105, f106, f107, f108, f109, hN103, h⟩ := h
    refine c_get (pc := 59) X hw hN103 in_J26 rfl 2 (by decide) q1321 rfl rfl dJ21_rotateLeft_59 ?_
    refine lq_aload_n (pc := 62) hx hb dJ21_rotateLeft_62 rfl (lv_at hl 1 rfl) ?_
    refine lv_acmp_ne (pc := 63) (tgt := 77) (rx := f106) (ry := x1) hx hb dJ21_rotateLeft_63 rfl (fun c110 => ?_) (fun c110 => ?_)
    · have h := h.2 c110
      refine lq_aload_n (pc := 77) hx hb dJ21_rotateLeft_77 rfl (lv_at hl 1 rfl) ?_
      refine W.eq (g2 := F0 m 78 ls [.ref a33]) (by rw [hr34]; rfl) ?_
      refine c_get (pc := 78) X hw hN54 in_J26 rfl 4 (by decide) q1324 rfl rfl dJ21_rotateLeft_78 ?_
      refine lq_aload_n (pc := 81) hx hb dJ21_rotateLeft_81 rfl (lv_at hl 2 rfl) ?_
      refine W.eq (g2 := F0 m 82 ls [va_rf x2, .ref a62]) (by rw [hr63]; rfl) ?_
      refine c_put (pc := 82) (v := va_rf x2) X hw hN103 in_J26 tyJ26 tyJ26_ok nmJ26 rfl 3 (by decide) q1322 rfl rfl rfl (rf_n x2 _) (rf_f x2 _) (Nat.le_of_ble_eq_true rfl) dJ21_rotateLeft_82 (fun H locs hw => ?_)
      obtain ⟨N111, e112⟩ : ∃ z, z = va_up N51 a62 (some (eO 20 [va_rf f104, va_rf f105, va_rf f106, va_rf x2, va_rf f108, .int f109])) := ⟨_, rfl⟩
      have hw : cH G A s [] N111 H locs := by rw [e112]; exact hw
      have h := h N111 e112
      have hN113 : N111 a62 = some (eO 20 [va_rf f104, va_rf f105, va_rf f106, va_rf x2, va_rf f108, .int f109]) := by rw [e112]; exact up_s
      exact kJ21_rotateLeft_85 X hr hlk  _ _ _ _ _ _ h hw (lv_sub hl [1, 2] rfl)
    · have h := h.1 c110
      refine lq_aload_n (pc := 66) hx hb dJ21_rotateLeft_66 rfl (lv_at hl 1 rfl) ?_
      refine W.eq (g2 := F0 m 67 ls [.ref a33]) (by rw [hr34]; rfl) ?_
      refine c_get (pc := 67) X hw hN54 in_J26 rfl 4 (by decide) q1324 rfl rfl dJ21_rotateLeft_67 ?_
      refine lq_aload_n (pc := 70) hx hb dJ21_rotateLeft_70 rfl (lv_at hl 2 rfl) ?_
      refine W.eq (g2 := F0 m 71 ls [va_rf x2, .ref a62]) (by rw [hr63]; rfl) ?_
      refine c_put (pc := 71) (v := va_rf x2) X hw hN103 in_J26 tyJ26 tyJ26_ok nmJ26 rfl 2 (by decide) q1321 rfl rfl rfl (rf_n x2 _) (rf_f x2 _) (Nat.le_of_ble_eq_true rfl) dJ21_rotateLeft_71 (fun H locs hw => ?_)
      obtain ⟨N114, e115⟩ : ∃ z, z = va_up N51 a62 (some (eO 20 [va_rf f104, va_rf f105, va_rf x2, va_rf f107, va_rf f108, .int f109])) := ⟨_, rfl⟩
      have hw : cH G A s [] N114 H locs := by rw [e115]; exact hw
      have h := h N114 e115
      have hN116 : N114 a62 = some (eO 20 [va_rf f104, va_rf f105, va_rf x2, va_rf f107, va_rf f108, .int f109]) := by rw [e115]; exact up_s
      refine lv_goto (pc := 74) (tgt := 85) hx hb dJ21_rotateLeft_74 rfl ?_
      exact kJ21_rotateLeft_85 X hr hlk  _ _ _ _ _ _ h hw (lv_sub hl [1, 2] rfl)
theorem tJ21_rotateLeft {l : Launch} {G : gG} (hO : gOk G) {post : Unit → NM → Prop} {N : NM} {x0 : Nat} {x1 : Option Nat} {sz : Nat} (h : wJ21_rotateLeft (gC G) post N x0 x1) : Met l yJ21_rotateLeft (ws_ yJ21_rotateLeft cJ21_rotateLeft 3 none) ⟨0, 0, 0, 0⟩ (va_Pc [.ref x0, va_rf x1] (cPre G [] N sz)) (gQ vV post (fun u H => cBw G (cA [] N sz) (jW u).1 (jW u).2 H) (cA [] N sz)) 0 0 (cA [] N sz) := by
  refine c_ofW (lw := jW) (by decide) hO (by cases x1 <;> exact Nat.le_of_ble_eq_true rfl) (fun p e s m below meth c ls A X hr hlk hin hw hl => ?_)
  have hl : lv_has ls 3 [(0, .ref x0), (1, va_rf x1)] := by cases x1 <;> exact hl
  have hx := X.1.1
  have hb := X.1.2.1
  have hml := X.1.2.2.1
  have hown := X.1.2.2.2.1
  have hts := X.1.2.2.2.2
  obtain ⟨H, eH⟩ : ∃ z, z = s.heap := ⟨_, rfl⟩
  rw [← eH] at hw ⊢
  obtain ⟨locs, eLo⟩ : ∃ z : List Loc, z = [] := ⟨_, rfl⟩
  rw [← eLo] at hw ⊢
  unfold wJ21_rotateLeft at h
  refine lq_aload_n (pc := 0) hx hb dJ21_rotateLeft_0 rfl (lv_at hl 1 rfl) ?_
  refine lq_ifnull (pc := 1) (tgt := 95) hx hb dJ21_rotateLeft_1 rfl (fun hz1 => ?_) (fun a2 hr3 => ?_)
  · have h := h.1 hz1
    exact W.vret (pc := 95) hx hb hr (fun t ht hW => c_ret (val := vV) (lw := jW) (u := N) (v := ()) hw h ht) hw.2.2.2 dJ21_rotateLeft_95 hlk
  · have h := h.2 a2 hr3
    refine lq_aload_n (pc := 4) hx hb dJ21_rotateLeft_4 rfl (lv_at hl 1 rfl) ?_
    refine W.eq (g2 := F0 m 5 ls [.ref a2]) (by rw [hr3]; rfl) ?_
    obtain ⟨f5, f6, f7, f8, f9, f10, hN4, h⟩ := h
    refine c_get (pc := 5) X hw hN4 in_J26 rfl 3 (by decide) q1322 rfl rfl dJ21_rotateLeft_5 ?_
    refine lq_astore_n (pc := 8) (i := 2) (lv' := [(2, va_rf f8), (0, .ref x0), (1, va_rf x1)]) hx hb dJ21_rotateLeft_8 rfl hl (by decide) (by simp [rf_c]) (fun ls hl => ?_)
    refine lq_aload_n (pc := 9) hx hb dJ21_rotateLeft_9 rfl (lv_at hl 2 rfl) ?_
    refine lq_aload_n (pc := 10) hx hb dJ21_rotateLeft_10 rfl (lv_at hl 0 rfl) ?_
    obtain ⟨a11, hr12, h⟩ := h
    refine W.eq (g2 := F0 m 11 ls [.ref a11, va_rf x1]) (by rw [hr12]; rfl) ?_
    obtain ⟨f14, f15, f16, f17, f18, f19, hN13, h⟩ := h
    refine c_get (pc := 11) X hw hN13 in_J26 rfl 2 (by decide) q1321 rfl rfl dJ21_rotateLeft_11 ?_
    refine W.eq (g2 := F0 m 14 ls [va_rf f16, .ref a2]) (by rw [hr3]; rfl) ?_
    refine c_put (pc := 14) (v := va_rf f16) X hw hN4 in_J26 tyJ26 tyJ26_ok nmJ26 rfl 3 (by decide) q1322 rfl rfl rfl (rf_n f16 _) (rf_f f16 _) (Nat.le_of_ble_eq_true rfl) dJ21_rotateLeft_14 (fun H locs hw => ?_)
    obtain ⟨N20, e21⟩ : ∃ z, z = va_up N a2 (some (eO 20 [va_rf f5, va_rf f6, va_rf f7, va_rf f16, va_rf f9, .int f10])) := ⟨_, rfl⟩
    have hw : cH G A s [] N20 H locs := by rw [e21]; exact hw
    have h := h N20 e21
    have hN22 : N20 a2 = some (eO 20 [va_rf f5, va_rf f6, va_rf f7, va_rf f16, va_rf f9, .int f10]) := by rw [e21]; exact up_s
    refine lq_aload_n (pc := 17) hx hb dJ21_rotateLeft_17 rfl (lv_at hl 0 rfl) ?_
    refine W.eq (g2 := F0 m 18 ls [.ref a11]) (by rw [hr12]; rfl) ?_
    obtain ⟨f24, f25, f26, f27, f28, f29, hN23, h⟩ := h
    refine c_get (pc := 18) X hw hN23 in_J26 rfl 2 (by decide) q1321 rfl rfl dJ21_rotateLeft_18 ?_
    refine lq_ifnull (pc := 21) (tgt := 32) hx hb dJ21_rotateLeft_21 rfl (fun hz30 => ?_) (fun a31 hr32 => ?_)
    · have h := h.1 hz30
      exact kJ21_rotateLeft_32 X hr hlk  _ _ _ _ _ _ _ h hw (lv_sub hl [1, 2, 0] rfl)
    · have h := h.2 a31 hr32
      refine lq_aload_n (pc := 24) hx hb dJ21_rotateLeft_24 rfl (lv_at hl 0 rfl) ?_
      refine W.eq (g2 := F0 m 25 ls [.ref a11]) (by rw [hr12]; rfl) ?_
      refine c_get (pc := 25) X hw hN23 in_J26 rfl 2 (by decide) q1321 rfl rfl dJ21_rotateLeft_25 ?_
      refine lq_aload_n (pc := 28) hx hb dJ21_rotateLeft_28 rfl (lv_at hl 2 rfl) ?_
      refine W.eq (g2 := F0 m 29 ls [va_rf x1, .ref a31]) (by rw [hr32]; rfl) ?_
      obtain ⟨f118, f119, f120, f121, f122, f123, hN117, h⟩ := h
      refine c_put (pc := 29) (v := va_rf x1) X hw hN117 in_J26 tyJ26 tyJ26_ok nmJ26 rfl 4 (by decide) q1324 rfl rfl rfl (rf_n x1 _) (rf_f x1 _) (Nat.le_of_ble_eq_true rfl) dJ21_rotateLeft_29 (fun H locs hw => ?_)
      obtain ⟨N124, e125⟩ : ∃ z, z = va_up N20 a31 (some (eO 20 [va_rf f118, va_rf f119, va_rf f120, va_rf f121, va_rf x1, .int f123])) := ⟨_, rfl⟩
      have hw : cH G A s [] N124 H locs := by rw [e125]; exact hw
      have h := h N124 e125
      have hN126 : N124 a31 = some (eO 20 [va_rf f118, va_rf f119, va_rf f120, va_rf f121, va_rf x1, .int f123]) := by rw [e125]; exact up_s
      exact kJ21_rotateLeft_32 X hr hlk  _ _ _ _ _ _ _ h hw (lv_sub hl [1, 2, 0] rfl)

def wJ21_rotateRight_85 (K : Nat → Nat → Nat) (post : Unit → NM → Prop) (x1 : Option Nat) (x2 : Option Nat) (N : NM) : Prop :=
  ∃ a79, x2 = some a79 ∧ (∃ f82 f83 f84 f85 f86 f87, N a79 = some (eO 20 [va_rf f82, va_rf f83, va_rf f84, va_rf f85, va_rf f86, .int f87]) ∧ (∀ N88, N88 = va_up N a79 (some (eO 20 [va_rf f82, va_rf f83, va_rf f84, va_rf x1, va_rf f86, .int f87])) → (∃ a91, x1 = some a91 ∧ (∃ f94 f95 f96 f97 f98 f99, N88 a91 = some (eO 20 [va_rf f94, va_rf f95, va_rf f96, va_rf f97, va_rf f98, .int f99]) ∧ (∀ N100, N100 = va_up N88 a91 (some (eO 20 [va_rf f94, va_rf f95, va_rf f96, va_rf f97, va_rf x2, .int f99])) → (post () N100))))))
def wJ21_rotateRight_32 (K : Nat → Nat → Nat) (post : Unit → NM → Prop) (x0 : Nat) (x1 : Option Nat) (x2 : Option Nat) (N : NM) : Prop :=
  ∃ a33, x1 = some a33 ∧ (∃ f36 f37 f38 f39 f40 f41, N a33 = some (eO 20 [va_rf f36, va_rf f37, va_rf f38, va_rf f39, va_rf f40, .int f41]) ∧ (∃ a42, x2 = some a42 ∧ (∃ f45 f46 f47 f48 f49 f50, N a42 = some (eO 20 [va_rf f45, va_rf f46, va_rf f47, va_rf f48, va_rf f49, .int f50]) ∧ (∀ N51, N51 = va_up N a42 (some (eO 20 [va_rf f45, va_rf f46, va_rf f47, va_rf f48, va_rf f40, .int f50])) → (∃ f55 f56 f57 f58 f59 f60, N51 a33 = some (eO 20 [va_rf f55, va_rf f56, va_rf f57, va_rf f58, va_rf f59, .int f60]) ∧ ((f59 = none → (∃ f65 f66 f67 f68 f69 f70 f71 f72 f73, N51 x0 = some (eO 19 [va_rf f65, va_rf f66, va_rf f67, va_rf f68, .int f69, .int f70, va_rf f71, va_rf f72, va_rf f73]) ∧ (∀ N74, N74 = va_up N51 x0 (some (eO 19 [va_rf f65, va_rf f66, va_rf f67, va_rf x2, .int f69, .int f70, va_rf f71, va_rf f72, va_rf f73])) → (wJ21_rotateRight_85 K post x1 x2 N74)))) ∧ (∀ a62, f59 = some a62 → (∃ f104 f105 f106 f107 f108 f109, N51 a62 = some (eO 20 [va_rf f104, va_rf f105, va_rf f106, va_rf f107, va_rf f108, .int f109]) ∧ (((f107 = x1) → (∀ N114, N114 = va_up N51 a62 (some (eO 20 [va_rf f104, va_rf f105, va_rf f106, va_rf x2, va_rf f108, .int f109])) → (wJ21_rotateRight_85 K post x1 x2 N114))) ∧ (¬ (f107 = x1) → (∀ N111, N111 = va_up N51 a62 (some (eO 20 [va_rf f104, va_rf f105, va_rf x2, va_rf f107, va_rf f108, .int f109])) → (wJ21_rotateRight_85 K post x1 x2 N111))))))))))))
def wJ21_rotateRight (K : Nat → Nat → Nat) (post : Unit → NM → Prop) (N : NM) (x0 : Nat) (x1 : Option Nat) : Prop :=
  (x1 = none → (post () N)) ∧ (∀ a2, x1 = some a2 → (∃ f5 f6 f7 f8 f9 f10, N a2 = some (eO 20 [va_rf f5, va_rf f6, va_rf f7, va_rf f8, va_rf f9, .int f10]) ∧ (∃ a11, f7 = some a11 ∧ (∃ f14 f15 f16 f17 f18 f19, N a11 = some (eO 20 [va_rf f14, va_rf f15, va_rf f16, va_rf f17, va_rf f18, .int f19]) ∧ (∀ N20, N20 = va_up N a2 (some (eO 20 [va_rf f5, va_rf f6, va_rf f17, va_rf f8, va_rf f9, .int f10])) → (∃ f24 f25 f26 f27 f28 f29, N20 a11 = some (eO 20 [va_rf f24, va_rf f25, va_rf f26, va_rf f27, va_rf f28, .int f29]) ∧ ((f27 = none → (wJ21_rotateRight_32 K post x0 x1 f7 N20)) ∧ (∀ a31, f27 = some a31 → (∃ f118 f119 f120 f121 f122 f123, N20 a31 = some (eO 20 [va_rf f118, va_rf f119, va_rf f120, va_rf f121, va_rf f122, .int f123]) ∧ (∀ N124, N124 = va_up N20 a31 (some (eO 20 [va_rf f118, va_rf f119, va_rf f120, va_rf f121, va_rf x1, .int f123])) → (wJ21_rotateRight_32 K post x0 x1 f7 N124)))))))))))
theorem kJ21_rotateRight_85 {p : Program} {l : Launch} {e : Env} {s : State} {m : MethodId} {args : Array Value} {below : List Frame} {meth : Method} {c : Code} {G : gG} {A : Nat → Prop} {post : Unit → NM → Prop} (X : cX G A RJ21 p s m args c cJ21_rotateRight 3) (hr : meth.sig.returnType = none) (hlk : meth.locks = false) : ∀ (x1 : Option Nat) (x2 : Option Nat) (N : NM) (H : Heap) (locs : List Loc) (ls : Array Slot), wJ21_rotateRight_85 (gC G) post x1 x2 N → cH G A s [] N H locs → lv_has ls 3 [(1, va_rf x1), (2, va_rf x2)] → W p l e ⟨0, 0, 0, 0⟩ s m args below meth c H locs 0 0 (MQ below (gQ vV post (fun u H => cBw G A (jW u).1 (jW u).2 H) A) args s 0 0 A) (F0 m 85 ls []) := by
  have hx := X.1.1
  have hb := X.1.2.1
  have hml := X.1.2.2.1
  have hown := X.1.2.2.2.1
  have hts := X.1.2.2.2.2
  intro x1 x2 N H locs ls h hw hl
  unfold wJ21_rotateRight_85 at h
  refine lq_aload_n (pc := 85) hx hb dJ21_rotateRight_85 rfl (lv_at hl 1 rfl) ?_
  refine lq_aload_n (pc := 86) hx hb dJ21_rotateRight_86 rfl (lv_at hl 0 rfl) ?_
  obtain ⟨a79, hr80, h⟩ := h
  refine W.eq (g2 := F0 m 87 ls [va_rf x1, .ref a79]) (by rw [hr80]; rfl) ?_
  obtain ⟨f82, f83, f84, f85, f86, f87, hN81, h⟩ := h
  refine c_put (pc := 87) (v := va_rf x1) X hw hN81 in_J26 tyJ26 tyJ26_ok nmJ26 rfl 3 (by decide) q1322 rfl rfl rfl (rf_n x1 _) (rf_f x1 _) (Nat.le_of_ble_eq_true rfl) dJ21_rotateRight_87 (fun H locs hw => ?_)
  obtain ⟨N88, e89⟩ : ∃ z, z = va_up N a79 (some (eO 20 [va_rf f82, va_rf f83, va_rf f84, va_rf x1, va_rf f86, .int f87])) := ⟨_, rfl⟩
  have hw : cH G A s [] N88 H locs := by rw [e89]; exact hw
  have h := h N88 e89
  have hN90 : N88 a79 = some (eO 20 [va_rf f82, va_rf f83, va_rf f84, va_rf x1, va_rf f86, .int f87]) := by rw [e89]; exact up_s
  refine lq_aload_n (pc := 90) hx hb dJ21_rotateRight_90 rfl (lv_at hl 0 rfl) ?_
  refine lq_aload_n (pc := 91) hx hb dJ21_rotateRight_91 rfl (lv_at hl 1 rfl) ?_
  obtain ⟨a91, hr92, h⟩ := h
  refine W.eq (g2 := F0 m 92 ls [va_rf x2, .ref a91]) (by rw [hr92]; rfl) ?_
  obtain ⟨f94, f95, f96, f97, f98, f99, hN93, h⟩ := h
  refine c_put (pc := 92) (v := va_rf x2) X hw hN93 in_J26 tyJ26 tyJ26_ok nmJ26 rfl 4 (by decide) q1324 rfl rfl rfl (rf_n x2 _) (rf_f x2 _) (Nat.le_of_ble_eq_true rfl) dJ21_rotateRight_92 (fun H locs hw => ?_)
  obtain ⟨N100, e101⟩ : ∃ z, z = va_up N88 a91 (some (eO 20 [va_rf f94, va_rf f95, va_rf f96, va_rf f97, va_rf x2, .int f99])) := ⟨_, rfl⟩
  have hw : cH G A s [] N100 H locs := by rw [e101]; exact hw
  have h := h N100 e101
  have hN102 : N100 a91 = some (eO 20 [va_rf f94, va_rf f95, va_rf f96, va_rf f97, va_rf x2, .int f99]) := by rw [e101]; exact up_s
  exact W.vret (pc := 95) hx hb hr (fun t ht hW => c_ret (val := vV) (lw := jW) (u := N100) (v := ()) hw h ht) hw.2.2.2 dJ21_rotateRight_95 hlk
theorem kJ21_rotateRight_32 {p : Program} {l : Launch} {e : Env} {s : State} {m : MethodId} {args : Array Value} {below : List Frame} {meth : Method} {c : Code} {G : gG} {A : Nat → Prop} {post : Unit → NM → Prop} (X : cX G A RJ21 p s m args c cJ21_rotateRight 3) (hr : meth.sig.returnType = none) (hlk : meth.locks = false) : ∀ (x0 : Nat) (x1 : Option Nat) (x2 : Option Nat) (N : NM) (H : Heap) (locs : List Loc) (ls : Array Slot), wJ21_rotateRight_32 (gC G) post x0 x1 x2 N → cH G A s [] N H locs → lv_has ls 3 [(0, .ref x0), (1, va_rf x1), (2, va_rf x2)] → W p l e ⟨0, 0, 0, 0⟩ s m args below meth c H locs 0 0 (MQ below (gQ vV post (fun u H => cBw G A (jW u).1 (jW u).2 H) A) args s 0 0 A) (F0 m 32 ls []) := by
  have hx := X.1.1
  have hb := X.1.2.1
  have hml := X.1.2.2.1
  have hown := X.1.2.2.2.1
  have hts := X.1.2.2.2.2
  intro x0 x1 x2 N H locs ls h hw hl
  unfold wJ21_rotateRight_32 at h
  refine lq_aload_n (pc := 32) hx hb dJ21_rotateRight_32 rfl (lv_at hl 2 rfl) ?_
  refine lq_aload_n (pc := 33) hx hb dJ21_rotateRight_33 rfl (lv_at hl 1 rfl) ?_
  obtain ⟨a33, hr34, h⟩ := h
  refine W.eq (g2 := F0 m 34 ls [.ref a33, va_rf x2]) (by rw [hr34]; rfl) ?_
  obtain ⟨f36, f37, f38, f39, f40, f41, hN35, h⟩ := h
  refine c_get (pc := 34) X hw hN35 in_J26 rfl 4 (by decide) q1324 rfl rfl dJ21_rotateRight_34 ?_
  obtain ⟨a42, hr43, h⟩ := h
  refine W.eq (g2 := F0 m 37 ls [va_rf f40, .ref a42]) (by rw [hr43]; rfl) ?_
  obtain ⟨f45, f46, f47, f48, f49, f50, hN44, h⟩ := h
  refine c_put (pc := 37) (v := va_rf f40) X hw hN44 in_J26 tyJ26 tyJ26_ok nmJ26 rfl 4 (by decide) q1324 rfl rfl rfl (rf_n f40 _) (rf_f f40 _) (Nat.le_of_ble_eq_true rfl) dJ21_rotateRight_37 (fun H locs hw => ?_)
  obtain ⟨N51, e52⟩ : ∃ z, z = va_up N a42 (some (eO 20 [va_rf f45, va_rf f46, va_rf f47, va_rf f48, va_rf f40, .int f50])) := ⟨_, rfl⟩
  have hw : cH G A s [] N51 H locs := by rw [e52]; exact hw
  have h := h N51 e52
  have hN53 : N51 a42 = some (eO 20 [va_rf f45, va_rf f46, va_rf f47, va_rf f48, va_rf f40, .int f50]) := by rw [e52]; exact up_s
  refine lq_aload_n (pc := 40) hx hb dJ21_rotateRight_40 rfl (lv_at hl 1 rfl) ?_
  refine W.eq (g2 := F0 m 41 ls [.ref a33]) (by rw [hr34]; rfl) ?_
  obtain ⟨f55, f56, f57, f58, f59, f60, hN54, h⟩ := h
  refine c_get (pc := 41) X hw hN54 in_J26 rfl 4 (by decide) q1324 rfl rfl dJ21_rotateRight_41 ?_
  refine lq_ifnonnull (pc := 44) (tgt := 55) hx hb dJ21_rotateRight_44 rfl (fun hz61 => ?_) (fun a62 hr63 => ?_)
  · have h := h.1 hz61
    refine lv_aload_n (pc := 47) hx hb dJ21_rotateRight_47 rfl (lv_at hl 0 rfl) ?_
    refine lq_aload_n (pc := 48) hx hb dJ21_rotateRight_48 rfl (lv_at hl 2 rfl) ?_
    obtain ⟨f65, f66, f67, f68, f69, f70, f71, f72, f73, hN64, h⟩ := h
    refine c_put (pc := 49) (v := va_rf x2) X hw hN64 in_J21 tyJ21 tyJ21_ok nmJ21 rfl 3 (by decide) q949 rfl rfl rfl (rf_n x2 _) (rf_f x2 _) (Nat.le_of_ble_eq_true rfl) dJ21_rotateRight_49 (fun H locs hw => ?_)
    obtain ⟨N74, e75⟩ : ∃ z, z = va_up N51 x0 (some (eO 19 [va_rf f65, va_rf f66, va_rf f67, va_rf x2, .int f69, .int f70, va_rf f71, va_rf f72, va_rf f73])) := ⟨_, rfl⟩
    have hw : cH G A s [] N74 H locs := by rw [e75]; exact hw
    have h := h N74 e75
    have hN76 : N74 x0 = some (eO 19 [va_rf f65, va_rf f66, va_rf f67, va_rf x2, .int f69, .int f70, va_rf f71, va_rf f72, va_rf f73]) := by rw [e75]; exact up_s
    have hN77 := up_k (x := some (eO 19 [va_rf f65, va_rf f66, va_rf f67, va_rf x2, .int f69, .int f70, va_rf f71, va_rf f72, va_rf f73])) hN64 hN53 (show (38 : Nat) ≠ 40 by decide)
    rw [← e75] at hN77
    have hN78 := up_k (x := some (eO 19 [va_rf f65, va_rf f66, va_rf f67, va_rf x2, .int f69, .int f70, va_rf f71, va_rf f72, va_rf f73])) hN64 hN54 (show (38 : Nat) ≠ 40 by decide)
    rw [← e75] at hN78
    refine lv_goto (pc := 52) (tgt := 85) hx hb dJ21_rotateRight_52 rfl ?_
    exact kJ21_rotateRight_85 X hr hlk  _ _ _ _ _ _ h hw (lv_sub hl [1, 2] rfl)
  · have h := h.2 a62 hr63
    refine lq_aload_n (pc := 55) hx hb dJ21_rotateRight_55 rfl (lv_at hl 1 rfl) ?_
    refine W.eq (g2 := F0 m 56 ls [.ref a33]) (by rw [hr34]; rfl) ?_
    refine c_get (pc := 56) X hw hN54 in_J26 rfl 4 (by decide) q1324 rfl rfl dJ21_rotateRight_56 ?_
    refine W.eq (g2 := F0 m 59 ls [.ref a62]) (by rw [hr63]; rfl) ?_
    obtain ⟨f104, f105, f106, f107, f108, f109, hN103, h⟩ := h
    refine c_get (pc := 59) X hw hN103 in_J26 rfl 3 (by decide) q1322 rfl rfl dJ21_rotateRight_59 ?_
    refine lq_aload_n (pc := 62) hx hb dJ21_rotateRight_62 rfl (lv_at hl 1 rfl) ?_
    refine lv_acmp_ne (pc := 63) (tgt := 77) (rx := f107) (ry := x1) hx hb dJ21_rotateRight_63 rfl (fun c110 => ?_) (fun c110 => ?_)
    · have h := h.2 c110
      refine lq_aload_n (pc := 77) hx hb dJ21_rotateRight_77 rfl (lv_at hl 1 rfl) ?_
      refine W.eq (g2 := F0 m 78 ls [.ref a33]) (by rw [hr34]; rfl) ?_
      refine c_get (pc := 78) X hw hN54 in_J26 rfl 4 (by decide) q1324 rfl rfl dJ21_rotateRight_78 ?_
      refine lq_aload_n (pc := 81) hx hb dJ21_rotateRight_81 rfl (lv_at hl 2 rfl) ?_
      refine W.eq (g2 := F0 m 82 ls [va_rf x2, .ref a62]) (by rw [hr63]; rfl) ?_
      refine c_put (pc := 82) (v := va_rf x2) X hw hN103 in_J26 tyJ26 tyJ26_ok nmJ26 rfl 2 (by decide) q1321 rfl rfl rfl (rf_n x2 _) (rf_f x2 _) (Nat.le_of_ble_eq_true rfl) dJ21_rotateRight_82 (fun H locs hw => ?_)
      obtain ⟨N111, e112⟩ : ∃ z, z = va_up N51 a62 (some (eO 20 [va_rf f104, va_rf f105, va_rf x2, va_rf f107, va_rf f108, .int f109])) := ⟨_, rfl⟩
      have hw : cH G A s [] N111 H locs := by rw [e112]; exact hw
      have h := h N111 e112
      have hN113 : N111 a62 = some (eO 20 [va_rf f104, va_rf f105, va_rf x2, va_rf f107, va_rf f108, .int f109]) := by rw [e112]; exact up_s
      exact kJ21_rotateRight_85 X hr hlk  _ _ _ _ _ _ h hw (lv_sub hl [1, 2] rfl)
    · have h := h.1 c110
      refine lq_aload_n (pc := 66) hx hb dJ21_rotateRight_66 rfl (lv_at hl 1 rfl) ?_
      refine W.eq (g2 := F0 m 67 ls [.ref a33]) (by rw [hr34]; rfl) ?_
      refine c_get (pc := 67) X hw hN54 in_J26 rfl 4 (by decide) q1324 rfl rfl dJ21_rotateRight_67 ?_
      refine lq_aload_n (pc := 70) hx hb dJ21_rotateRight_70 rfl (lv_at hl 2 rfl) ?_
      refine W.eq (g2 := F0 m 71 ls [va_rf x2, .ref a62]) (by rw [hr63]; rfl) ?_
      refine c_put (pc := 71) (v := va_rf x2) X hw hN103 in_J26 tyJ26 tyJ26_ok nmJ26 rfl 3 (by decide) q1322 rfl rfl rfl (rf_n x2 _) (rf_f x2 _) (Nat.le_of_ble_eq_true rfl) dJ21_rotateRight_71 (fun H locs hw => ?_)
      obtain ⟨N114, e115⟩ : ∃ z, z = va_up N51 a62 (some (eO 20 [va_rf f104, va_rf f105, va_rf f106, va_rf x2, va_rf f108, .int f109])) := ⟨_, rfl⟩
      have hw : cH G A s [] N114 H locs := by rw [e115]; exact hw
      have h := h N114 e115
      have hN116 : N114 a62 = some (eO 20 [va_rf f104, va_rf f105, va_rf f106, va_rf x2, va_rf f108, .int f109]) := by rw [e115]; exact up_s
      refine lv_goto (pc := 74) (tgt := 85) hx hb dJ21_rotateRight_74 rfl ?_
      exact kJ21_rotateRight_85 X hr hlk  _ _ _ _ _ _ h hw (lv_sub hl [1, 2] rfl)
theorem tJ21_rotateRight {l : Launch} {G : gG} (hO : gOk G) {post : Unit → NM → Prop} {N : NM} {x0 : Nat} {x1 : Option Nat} {sz : Nat} (h : wJ21_rotateRight (gC G) post N x0 x1) : Met l yJ21_rotateRight (ws_ yJ21_rotateRight cJ21_rotateRight 3 none) ⟨0, 0, 0, 0⟩ (va_Pc [.ref x0, va_rf x1] (cPre G [] N sz)) (gQ vV post (fun u H => cBw G (cA [] N sz) (jW u).1 (jW u).2 H) (cA [] N sz)) 0 0 (cA [] N sz) := by
  refine c_ofW (lw := jW) (by decide) hO (by cases x1 <;> exact Nat.le_of_ble_eq_true rfl) (fun p e s m below meth c ls A X hr hlk hin hw hl => ?_)
  have hl : lv_has ls 3 [(0, .ref x0), (1, va_rf x1)] := by cases x1 <;> exact hl
  have hx := X.1.1
  have hb := X.1.2.1
  have hml := X.1.2.2.1
  have hown := X.1.2.2.2.1
  have hts := X.1.2.2.2.2
  obtain ⟨H, eH⟩ : ∃ z, z = s.heap := ⟨_, rfl⟩
  rw [← eH] at hw ⊢
  obtain ⟨locs, eLo⟩ : ∃ z : List Loc, z = [] := ⟨_, rfl⟩
  rw [← eLo] at hw ⊢
  unfold wJ21_rotateRight at h
  refine lq_aload_n (pc := 0) hx hb dJ21_rotateRight_0 rfl (lv_at hl 1 rfl) ?_
  refine lq_ifnull (pc := 1) (tgt := 95) hx hb dJ21_rotateRight_1 rfl (fun hz1 => ?_) (fun a2 hr3 => ?_)
  · have h := h.1 hz1
    exact W.vret (pc := 95) hx hb hr (fun t ht hW => c_ret (val := vV) (lw := jW) (u := N) (v := ()) hw h ht) hw.2.2.2 dJ21_rotateRight_95 hlk
  · have h := h.2 a2 hr3
    refine lq_aload_n (pc := 4) hx hb dJ21_rotateRight_4 rfl (lv_at hl 1 rfl) ?_
    refine W.eq (g2 := F0 m 5 ls [.ref a2]) (by rw [hr3]; rfl) ?_
    obtain ⟨f5, f6, f7, f8, f9, f10, hN4, h⟩ := h
    refine c_get (pc := 5) X hw hN4 in_J26 rfl 2 (by decide) q1321 rfl rfl dJ21_rotateRight_5 ?_
    refine lq_astore_n (pc := 8) (i := 2) (lv' := [(2, va_rf f7), (0, .ref x0), (1, va_rf x1)]) hx hb dJ21_rotateRight_8 rfl hl (by decide) (by simp [rf_c]) (fun ls hl => ?_)
    refine lq_aload_n (pc := 9) hx hb dJ21_rotateRight_9 rfl (lv_at hl 2 rfl) ?_
    refine lq_aload_n (pc := 10) hx hb dJ21_rotateRight_10 rfl (lv_at hl 0 rfl) ?_
    obtain ⟨a11, hr12, h⟩ := h
    refine W.eq (g2 := F0 m 11 ls [.ref a11, va_rf x1]) (by rw [hr12]; rfl) ?_
    obtain ⟨f14, f15, f16, f17, f18, f19, hN13, h⟩ := h
    refine c_get (pc := 11) X hw hN13 in_J26 rfl 3 (by decide) q1322 rfl rfl dJ21_rotateRight_11 ?_
    refine W.eq (g2 := F0 m 14 ls [va_rf f17, .ref a2]) (by rw [hr3]; rfl) ?_
    refine c_put (pc := 14) (v := va_rf f17) X hw hN4 in_J26 tyJ26 tyJ26_ok nmJ26 rfl 2 (by decide) q1321 rfl rfl rfl (rf_n f17 _) (rf_f f17 _) (Nat.le_of_ble_eq_true rfl) dJ21_rotateRight_14 (fun H locs hw => ?_)
    obtain ⟨N20, e21⟩ : ∃ z, z = va_up N a2 (some (eO 20 [va_rf f5, va_rf f6, va_rf f17, va_rf f8, va_rf f9, .int f10])) := ⟨_, rfl⟩
    have hw : cH G A s [] N20 H locs := by rw [e21]; exact hw
    have h := h N20 e21
    have hN22 : N20 a2 = some (eO 20 [va_rf f5, va_rf f6, va_rf f17, va_rf f8, va_rf f9, .int f10]) := by rw [e21]; exact up_s
    refine lq_aload_n (pc := 17) hx hb dJ21_rotateRight_17 rfl (lv_at hl 0 rfl) ?_
    refine W.eq (g2 := F0 m 18 ls [.ref a11]) (by rw [hr12]; rfl) ?_
    obtain ⟨f24, f25, f26, f27, f28, f29, hN23, h⟩ := h
    refine c_get (pc := 18) X hw hN23 in_J26 rfl 3 (by decide) q1322 rfl rfl dJ21_rotateRight_18 ?_
    refine lq_ifnull (pc := 21) (tgt := 32) hx hb dJ21_rotateRight_21 rfl (fun hz30 => ?_) (fun a31 hr32 => ?_)
    · have h := h.1 hz30
      exact kJ21_rotateRight_32 X hr hlk  _ _ _ _ _ _ _ h hw (lv_sub hl [1, 2, 0] rfl)
    · have h := h.2 a31 hr32
      refine lq_aload_n (pc := 24) hx hb dJ21_rotateRight_24 rfl (lv_at hl 0 rfl) ?_
      refine W.eq (g2 := F0 m 25 ls [.ref a11]) (by rw [hr12]; rfl) ?_
      refine c_get (pc := 25) X hw hN23 in_J26 rfl 3 (by decide) q1322 rfl rfl dJ21_rotateRight_25 ?_
      refine lq_aload_n (pc := 28) hx hb dJ21_rotateRight_28 rfl (lv_at hl 2 rfl) ?_
      refine W.eq (g2 := F0 m 29 ls [va_rf x1, .ref a31]) (by rw [hr32]; rfl) ?_
      obtain ⟨f118, f119, f120, f121, f122, f123, hN117, h⟩ := h
      refine c_put (pc := 29) (v := va_rf x1) X hw hN117 in_J26 tyJ26 tyJ26_ok nmJ26 rfl 4 (by decide) q1324 rfl rfl rfl (rf_n x1 _) (rf_f x1 _) (Nat.le_of_ble_eq_true rfl) dJ21_rotateRight_29 (fun H locs hw => ?_)
      obtain ⟨N124, e125⟩ : ∃ z, z = va_up N20 a31 (some (eO 20 [va_rf f118, va_rf f119, va_rf f120, va_rf f121, va_rf x1, .int f123])) := ⟨_, rfl⟩
      have hw : cH G A s [] N124 H locs := by rw [e125]; exact hw
      have h := h N124 e125
      have hN126 : N124 a31 = some (eO 20 [va_rf f118, va_rf f119, va_rf f120, va_rf f121, va_rf x1, .int f123]) := by rw [e125]; exact up_s
      exact kJ21_rotateRight_32 X hr hlk  _ _ _ _ _ _ _ h hw (lv_sub hl [1, 2, 0] rfl)

def wJ21_fixAfterInsertion_258 (K : Nat → Nat → Nat) (post : Unit → NM → Prop) (x0 : Nat) (N : NM) : Prop :=
  ∃ f17 f18 f19 f20 f21 f22 f23 f24 f25, N x0 = some (eO 19 [va_rf f17, va_rf f18, va_rf f19, va_rf f20, .int f21, .int f22, va_rf f23, va_rf f24, va_rf f25]) ∧ (∃ a26, f20 = some a26 ∧ (∃ f29 f30 f31 f32 f33 f34, N a26 = some (eO 20 [va_rf f29, va_rf f30, va_rf f31, va_rf f32, va_rf f33, .int f34]) ∧ (∀ N35, N35 = va_up N a26 (some (eO 20 [va_rf f29, va_rf f30, va_rf f31, va_rf f32, va_rf f33, .int (1 : Int32)])) → (post () N35))))
def wJ21_fixAfterInsertion_255 (K : Nat → Nat → Nat) (K5 : Nat → Option Nat → NM → Prop) (post : Unit → NM → Prop) (x0 : Nat) (x1 : Option Nat) (N : NM) : Prop :=
  K5 x0 x1 N
def wJ21_fixAfterInsertion_225 (K : Nat → Nat → Nat) (K5 : Nat → Option Nat → NM → Prop) (post : Unit → NM → Prop) (x0 : Nat) (x1 : Option Nat) (N : NM) : Prop :=
  wJ21_parentOf K (fun r90 N91 => wJ21_setColor K (fun _ N93 => wJ21_parentOf K (fun r94 N95 => wJ21_parentOf K (fun r96 N97 => wJ21_setColor K (fun _ N99 => wJ21_parentOf K (fun r100 N101 => wJ21_parentOf K (fun r102 N103 => ∃ f107 f108 f109 f110 f111 f112 f113 f114 f115, N103 x0 = some (eO 19 [va_rf f107, va_rf f108, va_rf f109, va_rf f110, .int f111, .int f112, va_rf f113, va_rf f114, va_rf f115]) ∧ (wJ21_rotateLeft K (fun _ N105 => wJ21_fixAfterInsertion_255 K K5 post x0 x1 N105) N103 x0 r102)) N101 r100) N99 x1) N97 r96 (0 : Int32)) N95 r94) N93 x1) N91 r90 (1 : Int32)) N x1
def wJ21_fixAfterInsertion_148 (K : Nat → Nat → Nat) (K5 : Nat → Option Nat → NM → Prop) (post : Unit → NM → Prop) (x0 : Nat) (x1 : Option Nat) (N : NM) : Prop :=
  K5 x0 x1 N
def wJ21_fixAfterInsertion_118 (K : Nat → Nat → Nat) (K5 : Nat → Option Nat → NM → Prop) (post : Unit → NM → Prop) (x0 : Nat) (x1 : Option Nat) (N : NM) : Prop :=
  wJ21_parentOf K (fun r160 N161 => wJ21_setColor K (fun _ N163 => wJ21_parentOf K (fun r164 N165 => wJ21_parentOf K (fun r166 N167 => wJ21_setColor K (fun _ N169 => wJ21_parentOf K (fun r170 N171 => wJ21_parentOf K (fun r172 N173 => ∃ f177 f178 f179 f180 f181 f182 f183 f184 f185, N173 x0 = some (eO 19 [va_rf f177, va_rf f178, va_rf f179, va_rf f180, .int f181, .int f182, va_rf f183, va_rf f184, va_rf f185]) ∧ (wJ21_rotateRight K (fun _ N175 => wJ21_fixAfterInsertion_148 K K5 post x0 x1 N175) N173 x0 r172)) N171 r170) N169 x1) N167 r166 (0 : Int32)) N165 r164) N163 x1) N161 r160 (1 : Int32)) N x1
def wJ21_fixAfterInsertion_5 (K : Nat → Nat → Nat) (post : Unit → NM → Prop) : Nat → Nat → Option Nat → NM → Prop
  | 0, _, _, _ => False
  | n + 1, x0, x1, N => (x1 = none → (wJ21_fixAfterInsertion_258 K post x0 N)) ∧ (∀ a14, x1 = some a14 → (∃ f40 f41 f42 f43 f44 f45 f46 f47 f48, N x0 = some (eO 19 [va_rf f40, va_rf f41, va_rf f42, va_rf f43, .int f44, .int f45, va_rf f46, va_rf f47, va_rf f48]) ∧ (((x1 = f43) → (wJ21_fixAfterInsertion_258 K post x0 N)) ∧ (¬ (x1 = f43) → (∃ f51 f52 f53 f54 f55 f56, N a14 = some (eO 20 [va_rf f51, va_rf f52, va_rf f53, va_rf f54, va_rf f55, .int f56]) ∧ (∃ a57, f55 = some a57 ∧ (∃ f60 f61 f62 f63 f64 f65, N a57 = some (eO 20 [va_rf f60, va_rf f61, va_rf f62, va_rf f63, va_rf f64, .int f65]) ∧ (((f65 = (0 : Int32)) → (wJ21_parentOf K (fun r67 N68 => wJ21_parentOf K (fun r69 N70 => wJ21_parentOf K (fun r71 N72 => wJ21_leftOf K (fun r73 N74 => ((r67 = r73) → (wJ21_parentOf K (fun r146 N147 => wJ21_parentOf K (fun r148 N149 => wJ21_rightOf K (fun r150 N151 => wJ21_colorOf K (fun r152 N153 => ((r152 = (0 : Int32)) → (wJ21_parentOf K (fun r200 N201 => wJ21_setColor K (fun _ N203 => wJ21_setColor K (fun _ N205 => wJ21_parentOf K (fun r206 N207 => wJ21_parentOf K (fun r208 N209 => wJ21_setColor K (fun _ N211 => wJ21_parentOf K (fun r212 N213 => wJ21_parentOf K (fun r214 N215 => wJ21_fixAfterInsertion_148 K (fun x0 x1 N => wJ21_fixAfterInsertion_5 K post n x0 x1 N) post x0 r214 N215) N213 r212) N211 x1) N209 r208 (0 : Int32)) N207 r206) N205 x1) N203 r150 (1 : Int32)) N201 r200 (1 : Int32)) N153 x1)) ∧ (¬ (r152 = (0 : Int32)) → (wJ21_parentOf K (fun r155 N156 => wJ21_rightOf K (fun r157 N158 => ((x1 = r157) → (wJ21_parentOf K (fun r186 N187 => ∃ f191 f192 f193 f194 f195 f196 f197 f198 f199, N187 x0 = some (eO 19 [va_rf f191, va_rf f192, va_rf f193, va_rf f194, .int f195, .int f196, va_rf f197, va_rf f198, va_rf f199]) ∧ (wJ21_rotateLeft K (fun _ N189 => wJ21_fixAfterInsertion_118 K (fun x0 x1 N => wJ21_fixAfterInsertion_5 K post n x0 x1 N) post x0 r186 N189) N187 x0 r186)) N158 x1)) ∧ (¬ (x1 = r157) → (wJ21_fixAfterInsertion_118 K (fun x0 x1 N => wJ21_fixAfterInsertion_5 K post n x0 x1 N) post x0 x1 N158))) N156 r155) N153 x1))) N151 r150) N149 r148) N147 r146) N74 x1)) ∧ (¬ (r67 = r73) → (wJ21_parentOf K (fun r76 N77 => wJ21_parentOf K (fun r78 N79 => wJ21_leftOf K (fun r80 N81 => wJ21_colorOf K (fun r82 N83 => ((r82 = (0 : Int32)) → (wJ21_parentOf K (fun r130 N131 => wJ21_setColor K (fun _ N133 => wJ21_setColor K (fun _ N135 => wJ21_parentOf K (fun r136 N137 => wJ21_parentOf K (fun r138 N139 => wJ21_setColor K (fun _ N141 => wJ21_parentOf K (fun r142 N143 => wJ21_parentOf K (fun r144 N145 => wJ21_fixAfterInsertion_255 K (fun x0 x1 N => wJ21_fixAfterInsertion_5 K post n x0 x1 N) post x0 r144 N145) N143 r142) N141 x1) N139 r138 (0 : Int32)) N137 r136) N135 x1) N133 r80 (1 : Int32)) N131 r130 (1 : Int32)) N83 x1)) ∧ (¬ (r82 = (0 : Int32)) → (wJ21_parentOf K (fun r85 N86 => wJ21_leftOf K (fun r87 N88 => ((x1 = r87) → (wJ21_parentOf K (fun r116 N117 => ∃ f121 f122 f123 f124 f125 f126 f127 f128 f129, N117 x0 = some (eO 19 [va_rf f121, va_rf f122, va_rf f123, va_rf f124, .int f125, .int f126, va_rf f127, va_rf f128, va_rf f129]) ∧ (wJ21_rotateRight K (fun _ N119 => wJ21_fixAfterInsertion_225 K (fun x0 x1 N => wJ21_fixAfterInsertion_5 K post n x0 x1 N) post x0 r116 N119) N117 x0 r116)) N88 x1)) ∧ (¬ (x1 = r87) → (wJ21_fixAfterInsertion_225 K (fun x0 x1 N => wJ21_fixAfterInsertion_5 K post n x0 x1 N) post x0 x1 N88))) N86 r85) N83 x1))) N81 r80) N79 r78) N77 r76) N74 x1))) N72 r71) N70 r69) N68 x1) N x1)) ∧ (¬ (f65 = (0 : Int32)) → (wJ21_fixAfterInsertion_258 K post x0 N))))))))))
def wJ21_fixAfterInsertion (K : Nat → Nat → Nat) (post : Unit → NM → Prop) (N : NM) (x0 : Nat) (x1 : Option Nat) : Prop :=
  ∃ a1, x1 = some a1 ∧ (∃ f4 f5 f6 f7 f8 f9, N a1 = some (eO 20 [va_rf f4, va_rf f5, va_rf f6, va_rf f7, va_rf f8, .int f9]) ∧ (∀ N10, N10 = va_up N a1 (some (eO 20 [va_rf f4, va_rf f5, va_rf f6, va_rf f7, va_rf f8, .int (0 : Int32)])) → ((∃ k, wJ21_fixAfterInsertion_5 K post k x0 x1 N10))))
theorem kJ21_fixAfterInsertion_258 {p : Program} {l : Launch} {e : Env} {s : State} {m : MethodId} {args : Array Value} {below : List Frame} {meth : Method} {c : Code} {G : gG} {A : Nat → Prop} {post : Unit → NM → Prop} (X : cX G A RJ21 p s m args c cJ21_fixAfterInsertion 3) (hr : meth.sig.returnType = none) (hlk : meth.locks = false) : ∀ (x0 : Nat) (N : NM) (H : Heap) (locs : List Loc) (ls : Array Slot), wJ21_fixAfterInsertion_258 (gC G) post x0 N → cH G A s [] N H locs → lv_has ls 3 [(0, .ref x0)] → W p l e ⟨1, 0, 0, 22⟩ s m args below meth c H locs 0 0 (MQ below (gQ vV post (fun u H => cBw G A (jW u).1 (jW u).2 H) A) args s 0 0 A) (F0 m 258 ls []) := by
  have hx := X.1.1
  have hb := X.1.2.1
  have hml := X.1.2.2.1
  have hown := X.1.2.2.2.1
  have hts := X.1.2.2.2.2
  intro x0 N H locs ls h hw hl
  unfold wJ21_fixAfterInsertion_258 at h
  refine lv_aload_n (pc := 258) hx hb dJ21_fixAfterInsertion_258 rfl (lv_at hl 0 rfl) ?_
  obtain ⟨f17, f18, f19, f20, f21, f22, f23, f24, f25, hN16, h⟩ := h
  refine c_get (pc := 259) X hw hN16 in_J21 rfl 3 (by decide) q949 rfl rfl dJ21_fixAfterInsertion_259 ?_
  refine lv_iconst (pc := 262) (v := (1 : Int32)) hx hb dJ21_fixAfterInsertion_262 (by decide) ?_
  obtain ⟨a26, hr27, h⟩ := h
  refine W.eq (g2 := F0 m 263 ls [.int (1 : Int32), .ref a26]) (by rw [hr27]; rfl) ?_
  obtain ⟨f29, f30, f31, f32, f33, f34, hN28, h⟩ := h
  refine c_put (pc := 263) X hw hN28 in_J26 tyJ26 tyJ26_ok nmJ26 rfl 5 (by decide) q1326 rfl rfl rfl rfl rfl (Nat.le_of_ble_eq_true rfl) dJ21_fixAfterInsertion_263 (fun H locs hw => ?_)
  obtain ⟨N35, e36⟩ : ∃ z, z = va_up N a26 (some (eO 20 [va_rf f29, va_rf f30, va_rf f31, va_rf f32, va_rf f33, .int (1 : Int32)])) := ⟨_, rfl⟩
  have hw : cH G A s [] N35 H locs := by rw [e36]; exact hw
  have h := h N35 e36
  have hN37 : N35 a26 = some (eO 20 [va_rf f29, va_rf f30, va_rf f31, va_rf f32, va_rf f33, .int (1 : Int32)]) := by rw [e36]; exact up_s
  have hN38 := up_k (x := some (eO 20 [va_rf f29, va_rf f30, va_rf f31, va_rf f32, va_rf f33, .int (1 : Int32)])) hN28 hN16 (show (40 : Nat) ≠ 38 by decide)
  rw [← e36] at hN38
  exact W.vret (pc := 266) hx hb hr (fun t ht hW => c_ret (val := vV) (lw := jW) (u := N35) (v := ()) hw h ht) hw.2.2.2 dJ21_fixAfterInsertion_266 hlk
theorem kJ21_fixAfterInsertion_255 {p : Program} {l : Launch} {e : Env} {s : State} {m : MethodId} {args : Array Value} {below : List Frame} {meth : Method} {c : Code} {G : gG} {A : Nat → Prop} {K5 : Nat → Option Nat → NM → Prop} {post : Unit → NM → Prop} (X : cX G A RJ21 p s m args c cJ21_fixAfterInsertion 3) (hr : meth.sig.returnType = none) (hlk : meth.locks = false) (hK5 : ∀ (x0 : Nat) (x1 : Option Nat) (N : NM) (H : Heap) (locs : List Loc) (ls : Array Slot), K5 x0 x1 N → cH G A s [] N H locs → lv_has ls 3 [(0, .ref x0), (1, va_rf x1)] → W p l e ⟨1, 0, 0, 22⟩ s m args below meth c H locs 0 0 (MQ below (gQ vV post (fun u H => cBw G A (jW u).1 (jW u).2 H) A) args s 0 0 A) (F0 m 5 ls [])) : ∀ (x0 : Nat) (x1 : Option Nat) (N : NM) (H : Heap) (locs : List Loc) (ls : Array Slot), wJ21_fixAfterInsertion_255 (gC G) K5 post x0 x1 N → cH G A s [] N H locs → lv_has ls 3 [(0, .ref x0), (1, va_rf x1)] → W p l e ⟨1, 0, 0, 22⟩ s m args below meth c H locs 0 0 (MQ below (gQ vV post (fun u H => cBw G A (jW u).1 (jW u).2 H) A) args s 0 0 A) (F0 m 255 ls []) := by
  have hx := X.1.1
  have hb := X.1.2.1
  have hml := X.1.2.2.1
  have hown := X.1.2.2.2.1
  have hts := X.1.2.2.2.2
  intro x0 x1 N H locs ls h hw hl
  unfold wJ21_fixAfterInsertion_255 at h
  refine lv_goto (pc := 255) (tgt := 5) hx hb dJ21_fixAfterInsertion_255 rfl ?_
  exact hK5 _ _ _ _ _ _ h hw (lv_sub hl [0, 1] rfl)
theorem kJ21_fixAfterInsertion_225 {p : Program} {l : Launch} {e : Env} {s : State} {m : MethodId} {args : Array Value} {below : List Frame} {meth : Method} {c : Code} {G : gG} {A : Nat → Prop} {K5 : Nat → Option Nat → NM → Prop} {post : Unit → NM → Prop} (X : cX G A RJ21 p s m args c cJ21_fixAfterInsertion 3) (hr : meth.sig.returnType = none) (hlk : meth.locks = false) (hK5 : ∀ (x0 : Nat) (x1 : Option Nat) (N : NM) (H : Heap) (locs : List Loc) (ls : Array Slot), K5 x0 x1 N → cH G A s [] N H locs → lv_has ls 3 [(0, .ref x0), (1, va_rf x1)] → W p l e ⟨1, 0, 0, 22⟩ s m args below meth c H locs 0 0 (MQ below (gQ vV post (fun u H => cBw G A (jW u).1 (jW u).2 H) A) args s 0 0 A) (F0 m 5 ls [])) : ∀ (x0 : Nat) (x1 : Option Nat) (N : NM) (H : Heap) (locs : List Loc) (ls : Array Slot), wJ21_fixAfterInsertion_225 (gC G) K5 post x0 x1 N → cH G A s [] N H locs → lv_has ls 3 [(0, .ref x0), (1, va_rf x1)] → W p l e ⟨1, 0, 0, 22⟩ s m args below meth c H locs 0 0 (MQ below (gQ vV post (fun u H => cBw G A (jW u).1 (jW u).2 H) A) args s 0 0 A) (F0 m 225 ls []) := by
  have hx := X.1.1
  have hb := X.1.2.1
  have hml := X.1.2.2.1
  have hown := X.1.2.2.2.1
  have hts := X.1.2.2.2.2
  intro x0 x1 N H locs ls h hw hl
  unfold wJ21_fixAfterInsertion_225 at h
  refine lq_aload_n (pc := 225) hx hb dJ21_fixAfterInsertion_225 rfl (lv_at hl 1 rfl) ?_
  refine c_callJ (pc := 226) (val := vQ) X hw (va_runS (g := F0 m 226 ls _) (As := [va_rf x1]) (rest := []) X.1 (tJ21_parentOf X.2.2.1 (sz := H.size) h) (va_cwS 1 hts (lw_S q1348 q1349 q132 q1350) rfl rfl rfl ⟨by decide, by decide, (by decide +kernel : (parseMethodDescriptor yJ21_parentOf.desc).map (fun d => d.parameters.length) = some 1)⟩ ⟨Nat.le_of_ble_eq_true rfl, Nat.le_of_ble_eq_true rfl⟩) ⟨cPre_blind, fun U hU hW => ⟨rfl, X.preJ hw hU hW⟩⟩ rfl rfl hl.1 rfl (lv_room (Nat.le_of_ble_eq_true rfl)) dJ21_fixAfterInsertion_226 ⟨show 0 + 0 ≤ 0 by omega, show 0 + 0 ≤ 0 by omega⟩) (fun r90 N91 H locs h hw => ?_)
  refine W.eq (g2 := F0 m 229 ls (va_rf r90 :: [])) rfl ?_
  refine lv_iconst (pc := 229) (v := (1 : Int32)) hx hb dJ21_fixAfterInsertion_229 (by decide) ?_
  refine c_callJ (pc := 230) (val := vV) X hw (va_runS (g := F0 m 230 ls _) (As := [va_rf r90, .int (1 : Int32)]) (rest := []) X.1 (tJ21_setColor X.2.2.1 (sz := H.size) h) (va_cwS 2 hts (lw_S q1360 q1361 q132 q1362) rfl rfl rfl ⟨by decide, by decide, (by decide +kernel : (parseMethodDescriptor yJ21_setColor.desc).map (fun d => d.parameters.length) = some 2)⟩ ⟨Nat.le_of_ble_eq_true rfl, Nat.le_of_ble_eq_true rfl⟩) ⟨cPre_blind, fun U hU hW => ⟨rfl, X.preJ hw hU hW⟩⟩ rfl rfl hl.1 rfl (lv_room (Nat.le_of_ble_eq_true rfl)) dJ21_fixAfterInsertion_230 ⟨show 0 + 0 ≤ 0 by omega, show 0 + 0 ≤ 0 by omega⟩) (fun _ N93 H locs h hw => ?_)
  refine W.eq (g2 := F0 m 233 ls ([])) rfl ?_
  refine lq_aload_n (pc := 233) hx hb dJ21_fixAfterInsertion_233 rfl (lv_at hl 1 rfl) ?_
  refine c_callJ (pc := 234) (val := vQ) X hw (va_runS (g := F0 m 234 ls _) (As := [va_rf x1]) (rest := []) X.1 (tJ21_parentOf X.2.2.1 (sz := H.size) h) (va_cwS 1 hts (lw_S q1348 q1349 q132 q1350) rfl rfl rfl ⟨by decide, by decide, (by decide +kernel : (parseMethodDescriptor yJ21_parentOf.desc).map (fun d => d.parameters.length) = some 1)⟩ ⟨Nat.le_of_ble_eq_true rfl, Nat.le_of_ble_eq_true rfl⟩) ⟨cPre_blind, fun U hU hW => ⟨rfl, X.preJ hw hU hW⟩⟩ rfl rfl hl.1 rfl (lv_room (Nat.le_of_ble_eq_true rfl)) dJ21_fixAfterInsertion_234 ⟨show 0 + 0 ≤ 0 by omega, show 0 + 0 ≤ 0 by omega⟩) (fun r94 N95 H locs h hw => ?_)
  refine W.eq (g2 := F0 m 237 ls (va_rf r94 :: [])) rfl ?_
  refine c_callJ (pc := 237) (val := vQ) X hw (va_runS (g := F0 m 237 ls _) (As := [va_rf r94]) (rest := []) X.1 (tJ21_parentOf X.2.2.1 (sz := H.size) h) (va_cwS 1 hts (lw_S q1348 q1349 q132 q1350) rfl rfl rfl ⟨by decide, by decide, (by decide +kernel : (parseMethodDescriptor yJ21_parentOf.desc).map (fun d => d.parameters.length) = some 1)⟩ ⟨Nat.le_of_ble_eq_true rfl, Nat.le_of_ble_eq_true rfl⟩) ⟨cPre_blind, fun U hU hW => ⟨rfl, X.preJ hw hU hW⟩⟩ rfl rfl hl.1 rfl (lv_room (Nat.le_of_ble_eq_true rfl)) dJ21_fixAfterInsertion_237 ⟨show 0 + 0 ≤ 0 by omega, show 0 + 0 ≤ 0 by omega⟩) (fun r96 N97 H locs h hw => ?_)
  refine W.eq (g2 := F0 m 240 ls (va_rf r96 :: [])) rfl ?_
  refine lv_iconst (pc := 240) (v := (0 : Int32)) hx hb dJ21_fixAfterInsertion_240 (by decide) ?_
  refine c_callJ (pc := 241) (val := vV) X hw (va_runS (g := F0 m 241 ls _) (As := [va_rf r96, .int (0 : Int32)]) (rest := []) X.1 (tJ21_setColor X.2.2.1 (sz := H.size) h) (va_cwS 2 hts (lw_S q1360 q1361 q132 q1362) rfl rfl rfl ⟨by decide, by decide, (by decide +kernel : (parseMethodDescriptor yJ21_setColor.desc).map (fun d => d.parameters.length) = some 2)⟩ ⟨Nat.le_of_ble_eq_true rfl, Nat.le_of_ble_eq_true rfl⟩) ⟨cPre_blind, fun U hU hW => ⟨rfl, X.preJ hw hU hW⟩⟩ rfl rfl hl.1 rfl (lv_room (Nat.le_of_ble_eq_true rfl)) dJ21_fixAfterInsertion_241 ⟨show 0 + 0 ≤ 0 by omega, show 0 + 0 ≤ 0 by omega⟩) (fun _ N99 H locs h hw => ?_)
  refine W.eq (g2 := F0 m 244 ls ([])) rfl ?_
  refine lv_aload_n (pc := 244) hx hb dJ21_fixAfterInsertion_244 rfl (lv_at hl 0 rfl) ?_
  refine lq_aload_n (pc := 245) hx hb dJ21_fixAfterInsertion_245 rfl (lv_at hl 1 rfl) ?_
  refine c_callJ (pc := 246) (val := vQ) X hw (va_runS (g := F0 m 246 ls _) (As := [va_rf x1]) (rest := [.ref x0]) X.1 (tJ21_parentOf X.2.2.1 (sz := H.size) h) (va_cwS 1 hts (lw_S q1348 q1349 q132 q1350) rfl rfl rfl ⟨by decide, by decide, (by decide +kernel : (parseMethodDescriptor yJ21_parentOf.desc).map (fun d => d.parameters.length) = some 1)⟩ ⟨Nat.le_of_ble_eq_true rfl, Nat.le_of_ble_eq_true rfl⟩) ⟨cPre_blind, fun U hU hW => ⟨rfl, X.preJ hw hU hW⟩⟩ rfl rfl hl.1 rfl (lv_room (Nat.le_of_ble_eq_true rfl)) dJ21_fixAfterInsertion_246 ⟨show 0 + 0 ≤ 0 by omega, show 0 + 0 ≤ 0 by omega⟩) (fun r100 N101 H locs h hw => ?_)
  refine W.eq (g2 := F0 m 249 ls (va_rf r100 :: [.ref x0])) rfl ?_
  refine c_callJ (pc := 249) (val := vQ) X hw (va_runS (g := F0 m 249 ls _) (As := [va_rf r100]) (rest := [.ref x0]) X.1 (tJ21_parentOf X.2.2.1 (sz := H.size) h) (va_cwS 1 hts (lw_S q1348 q1349 q132 q1350) rfl rfl rfl ⟨by decide, by decide, (by decide +kernel : (parseMethodDescriptor yJ21_parentOf.desc).map (fun d => d.parameters.length) = some 1)⟩ ⟨Nat.le_of_ble_eq_true rfl, Nat.le_of_ble_eq_true rfl⟩) ⟨cPre_blind, fun U hU hW => ⟨rfl, X.preJ hw hU hW⟩⟩ rfl rfl hl.1 rfl (lv_room (Nat.le_of_ble_eq_true rfl)) dJ21_fixAfterInsertion_249 ⟨show 0 + 0 ≤ 0 by omega, show 0 + 0 ≤ 0 by omega⟩) (fun r102 N103 H locs h hw => ?_)
  refine W.eq (g2 := F0 m 252 ls (va_rf r102 :: [.ref x0])) rfl ?_
  obtain ⟨f107, f108, f109, f110, f111, f112, f113, f114, f115, hN106, h⟩ := h
  refine c_callJ (pc := 252) (val := vV) X hw (va_runV (C := RJ21) (As := [va_rf r102]) (rest := []) X.1 (tJ21_rotateLeft X.2.2.1 (sz := H.size) h) (cwV 1 hts (lw_V q1363 q1365 qs26 q132 q1366) rfl rfl rfl ⟨rfl, by decide, by decide, (by decide +kernel : (parseMethodDescriptor yJ21_rotateLeft.desc).map (fun d => d.parameters.length) = some 1)⟩ ⟨Nat.le_of_ble_eq_true rfl, Nat.le_of_ble_eq_true rfl⟩) ⟨cPre_blind, c_recv X hw hN106 rfl, fun U hU hW => ⟨rfl, X.preJ hw hU hW⟩⟩ rfl rfl hl.1 rfl (lv_room (Nat.le_of_ble_eq_true rfl)) dJ21_fixAfterInsertion_252 ⟨show 0 + 0 ≤ 0 by omega, show 0 + 0 ≤ 0 by omega⟩) (fun _ N105 H locs h hw => ?_)
  refine W.eq (g2 := F0 m 255 ls ([])) rfl ?_
  exact kJ21_fixAfterInsertion_255 X hr hlk hK5 _ _ _ _ _ _ h hw (lv_sub hl [0, 1] rfl)
theorem kJ21_fixAfterInsertion_148 {p : Program} {l : Launch} {e : Env} {s : State} {m : MethodId} {args : Array Value} {below : List Frame} {meth : Method} {c : Code} {G : gG} {A : Nat → Prop} {K5 : Nat → Option Nat → NM → Prop} {post : Unit → NM → Prop} (X : cX G A RJ21 p s m args c cJ21_fixAfterInsertion 3) (hr : meth.sig.returnType = none) (hlk : meth.locks = false) (hK5 : ∀ (x0 : Nat) (x1 : Option Nat) (N : NM) (H : Heap) (locs : List Loc) (ls : Array Slot), K5 x0 x1 N → cH G A s [] N H locs → lv_has ls 3 [(0, .ref x0), (1, va_rf x1)] → W p l e ⟨1, 0, 0, 22⟩ s m args below meth c H locs 0 0 (MQ below (gQ vV post (fun u H => cBw G A (jW u).1 (jW u).2 H) A) args s 0 0 A) (F0 m 5 ls [])) : ∀ (x0 : Nat) (x1 : Option Nat) (N : NM) (H : Heap) (locs : List Loc) (ls : Array Slot), wJ21_fixAfterInsertion_148 (gC G) K5 post x0 x1 N → cH G A s [] N H locs → lv_has ls 3 [(0, .ref x0), (1, va_rf x1)] → W p l e ⟨1, 0, 0, 22⟩ s m args below meth c H locs 0 0 (MQ below (gQ vV post (fun u H => cBw G A (jW u).1 (jW u).2 H) A) args s 0 0 A) (F0 m 148 ls []) := by
  have hx := X.1.1
  have hb := X.1.2.1
  have hml := X.1.2.2.1
  have hown := X.1.2.2.2.1
  have hts := X.1.2.2.2.2
  intro x0 x1 N H locs ls h hw hl
  unfold wJ21_fixAfterInsertion_148 at h
  refine lv_goto (pc := 148) (tgt := 5) hx hb dJ21_fixAfterInsertion_148 rfl ?_
  exact hK5 _ _ _ _ _ _ h hw (lv_sub hl [0, 1] rfl)
theorem kJ21_fixAfterInsertion_118 {p : Program} {l : Launch} {e : Env} {s : State} {m : MethodId} {args : Array Value} {below : List Frame} {meth : Method} {c : Code} {G : gG} {A : Nat → Prop} {K5 : Nat → Option Nat → NM → Prop} {post : Unit → NM → Prop} (X : cX G A RJ21 p s m args c cJ21_fixAfterInsertion 3) (hr : meth.sig.returnType = none) (hlk : meth.locks = false) (hK5 : ∀ (x0 : Nat) (x1 : Option Nat) (N : NM) (H : Heap) (locs : List Loc) (ls : Array Slot), K5 x0 x1 N → cH G A s [] N H locs → lv_has ls 3 [(0, .ref x0), (1, va_rf x1)] → W p l e ⟨1, 0, 0, 22⟩ s m args below meth c H locs 0 0 (MQ below (gQ vV post (fun u H => cBw G A (jW u).1 (jW u).2 H) A) args s 0 0 A) (F0 m 5 ls [])) : ∀ (x0 : Nat) (x1 : Option Nat) (N : NM) (H : Heap) (locs : List Loc) (ls : Array Slot), wJ21_fixAfterInsertion_118 (gC G) K5 post x0 x1 N → cH G A s [] N H locs → lv_has ls 3 [(0, .ref x0), (1, va_rf x1)] → W p l e ⟨1, 0, 0, 22⟩ s m args below meth c H locs 0 0 (MQ below (gQ vV post (fun u H => cBw G A (jW u).1 (jW u).2 H) A) args s 0 0 A) (F0 m 118 ls []) := by
  have hx := X.1.1
  have hb := X.1.2.1
  have hml := X.1.2.2.1
  have hown := X.1.2.2.2.1
  have hts := X.1.2.2.2.2
  intro x0 x1 N H locs ls h hw hl
  unfold wJ21_fixAfterInsertion_118 at h
  refine lq_aload_n (pc := 118) hx hb dJ21_fixAfterInsertion_118 rfl (lv_at hl 1 rfl) ?_
  refine c_callJ (pc := 119) (val := vQ) X hw (va_runS (g := F0 m 119 ls _) (As := [va_rf x1]) (rest := []) X.1 (tJ21_parentOf X.2.2.1 (sz := H.size) h) (va_cwS 1 hts (lw_S q1348 q1349 q132 q1350) rfl rfl rfl ⟨by decide, by decide, (by decide +kernel : (parseMethodDescriptor yJ21_parentOf.desc).map (fun d => d.parameters.length) = some 1)⟩ ⟨Nat.le_of_ble_eq_true rfl, Nat.le_of_ble_eq_true rfl⟩) ⟨cPre_blind, fun U hU hW => ⟨rfl, X.preJ hw hU hW⟩⟩ rfl rfl hl.1 rfl (lv_room (Nat.le_of_ble_eq_true rfl)) dJ21_fixAfterInsertion_119 ⟨show 0 + 0 ≤ 0 by omega, show 0 + 0 ≤ 0 by omega⟩) (fun r160 N161 H locs h hw => ?_)
  refine W.eq (g2 := F0 m 122 ls (va_rf r160 :: [])) rfl ?_
  refine lv_iconst (pc := 122) (v := (1 : Int32)) hx hb dJ21_fixAfterInsertion_122 (by decide) ?_
  refine c_callJ (pc := 123) (val := vV) X hw (va_runS (g := F0 m 123 ls _) (As := [va_rf r160, .int (1 : Int32)]) (rest := []) X.1 (tJ21_setColor X.2.2.1 (sz := H.size) h) (va_cwS 2 hts (lw_S q1360 q1361 q132 q1362) rfl rfl rfl ⟨by decide, by decide, (by decide +kernel : (parseMethodDescriptor yJ21_setColor.desc).map (fun d => d.parameters.length) = some 2)⟩ ⟨Nat.le_of_ble_eq_true rfl, Nat.le_of_ble_eq_true rfl⟩) ⟨cPre_blind, fun U hU hW => ⟨rfl, X.preJ hw hU hW⟩⟩ rfl rfl hl.1 rfl (lv_room (Nat.le_of_ble_eq_true rfl)) dJ21_fixAfterInsertion_123 ⟨show 0 + 0 ≤ 0 by omega, show 0 + 0 ≤ 0 by omega⟩) (fun _ N163 H locs h hw => ?_)
  refine W.eq (g2 := F0 m 126 ls ([])) rfl ?_
  refine lq_aload_n (pc := 126) hx hb dJ21_fixAfterInsertion_126 rfl (lv_at hl 1 rfl) ?_
  refine c_callJ (pc := 127) (val := vQ) X hw (va_runS (g := F0 m 127 ls _) (As := [va_rf x1]) (rest := []) X.1 (tJ21_parentOf X.2.2.1 (sz := H.size) h) (va_cwS 1 hts (lw_S q1348 q1349 q132 q1350) rfl rfl rfl ⟨by decide, by decide, (by decide +kernel : (parseMethodDescriptor yJ21_parentOf.desc).map (fun d => d.parameters.length) = some 1)⟩ ⟨Nat.le_of_ble_eq_true rfl, Nat.le_of_ble_eq_true rfl⟩) ⟨cPre_blind, fun U hU hW => ⟨rfl, X.preJ hw hU hW⟩⟩ rfl rfl hl.1 rfl (lv_room (Nat.le_of_ble_eq_true rfl)) dJ21_fixAfterInsertion_127 ⟨show 0 + 0 ≤ 0 by omega, show 0 + 0 ≤ 0 by omega⟩) (fun r164 N165 H locs h hw => ?_)
  refine W.eq (g2 := F0 m 130 ls (va_rf r164 :: [])) rfl ?_
  refine c_callJ (pc := 130) (val := vQ) X hw (va_runS (g := F0 m 130 ls _) (As := [va_rf r164]) (rest := []) X.1 (tJ21_parentOf X.2.2.1 (sz := H.size) h) (va_cwS 1 hts (lw_S q1348 q1349 q132 q1350) rfl rfl rfl ⟨by decide, by decide, (by decide +kernel : (parseMethodDescriptor yJ21_parentOf.desc).map (fun d => d.parameters.length) = some 1)⟩ ⟨Nat.le_of_ble_eq_true rfl, Nat.le_of_ble_eq_true rfl⟩) ⟨cPre_blind, fun U hU hW => ⟨rfl, X.preJ hw hU hW⟩⟩ rfl rfl hl.1 rfl (lv_room (Nat.le_of_ble_eq_true rfl)) dJ21_fixAfterInsertion_130 ⟨show 0 + 0 ≤ 0 by omega, show 0 + 0 ≤ 0 by omega⟩) (fun r166 N167 H locs h hw => ?_)
  refine W.eq (g2 := F0 m 133 ls (va_rf r166 :: [])) rfl ?_
  refine lv_iconst (pc := 133) (v := (0 : Int32)) hx hb dJ21_fixAfterInsertion_133 (by decide) ?_
  refine c_callJ (pc := 134) (val := vV) X hw (va_runS (g := F0 m 134 ls _) (As := [va_rf r166, .int (0 : Int32)]) (rest := []) X.1 (tJ21_setColor X.2.2.1 (sz := H.size) h) (va_cwS 2 hts (lw_S q1360 q1361 q132 q1362) rfl rfl rfl ⟨by decide, by decide, (by decide +kernel : (parseMethodDescriptor yJ21_setColor.desc).map (fun d => d.parameters.length) = some 2)⟩ ⟨Nat.le_of_ble_eq_true rfl, Nat.le_of_ble_eq_true rfl⟩) ⟨cPre_blind, fun U hU hW => ⟨rfl, X.preJ hw hU hW⟩⟩ rfl rfl hl.1 rfl (lv_room (Nat.le_of_ble_eq_true rfl)) dJ21_fixAfterInsertion_134 ⟨show 0 + 0 ≤ 0 by omega, show 0 + 0 ≤ 0 by omega⟩) (fun _ N169 H locs h hw => ?_)
  refine W.eq (g2 := F0 m 137 ls ([])) rfl ?_
  refine lv_aload_n (pc := 137) hx hb dJ21_fixAfterInsertion_137 rfl (lv_at hl 0 rfl) ?_
  refine lq_aload_n (pc := 138) hx hb dJ21_fixAfterInsertion_138 rfl (lv_at hl 1 rfl) ?_
  refine c_callJ (pc := 139) (val := vQ) X hw (va_runS (g := F0 m 139 ls _) (As := [va_rf x1]) (rest := [.ref x0]) X.1 (tJ21_parentOf X.2.2.1 (sz := H.size) h) (va_cwS 1 hts (lw_S q1348 q1349 q132 q1350) rfl rfl rfl ⟨by decide, by decide, (by decide +kernel : (parseMethodDescriptor yJ21_parentOf.desc).map (fun d => d.parameters.length) = some 1)⟩ ⟨Nat.le_of_ble_eq_true rfl, Nat.le_of_ble_eq_true rfl⟩) ⟨cPre_blind, fun U hU hW => ⟨rfl, X.preJ hw hU hW⟩⟩ rfl rfl hl.1 rfl (lv_room (Nat.le_of_ble_eq_true rfl)) dJ21_fixAfterInsertion_139 ⟨show 0 + 0 ≤ 0 by omega, show 0 + 0 ≤ 0 by omega⟩) (fun r170 N171 H locs h hw => ?_)
  refine W.eq (g2 := F0 m 142 ls (va_rf r170 :: [.ref x0])) rfl ?_
  refine c_callJ (pc := 142) (val := vQ) X hw (va_runS (g := F0 m 142 ls _) (As := [va_rf r170]) (rest := [.ref x0]) X.1 (tJ21_parentOf X.2.2.1 (sz := H.size) h) (va_cwS 1 hts (lw_S q1348 q1349 q132 q1350) rfl rfl rfl ⟨by decide, by decide, (by decide +kernel : (parseMethodDescriptor yJ21_parentOf.desc).map (fun d => d.parameters.length) = some 1)⟩ ⟨Nat.le_of_ble_eq_true rfl, Nat.le_of_ble_eq_true rfl⟩) ⟨cPre_blind, fun U hU hW => ⟨rfl, X.preJ hw hU hW⟩⟩ rfl rfl hl.1 rfl (lv_room (Nat.le_of_ble_eq_true rfl)) dJ21_fixAfterInsertion_142 ⟨show 0 + 0 ≤ 0 by omega, show 0 + 0 ≤ 0 by omega⟩) (fun r172 N173 H locs h hw => ?_)
  refine W.eq (g2 := F0 m 145 ls (va_rf r172 :: [.ref x0])) rfl ?_
  obtain ⟨f177, f178, f179, f180, f181, f182, f183, f184, f185, hN176, h⟩ := h
  refine c_callJ (pc := 145) (val := vV) X hw (va_runV (C := RJ21) (As := [va_rf r172]) (rest := []) X.1 (tJ21_rotateRight X.2.2.1 (sz := H.size) h) (cwV 1 hts (lw_V q1367 q1369 qs27 q132 q1370) rfl rfl rfl ⟨rfl, by decide, by decide, (by decide +kernel : (parseMethodDescriptor yJ21_rotateRight.desc).map (fun d => d.parameters.length) = some 1)⟩ ⟨Nat.le_of_ble_eq_true rfl, Nat.le_of_ble_eq_true rfl⟩) ⟨cPre_blind, c_recv X hw hN176 rfl, fun U hU hW => ⟨rfl, X.preJ hw hU hW⟩⟩ rfl rfl hl.1 rfl (lv_room (Nat.le_of_ble_eq_true rfl)) dJ21_fixAfterInsertion_145 ⟨show 0 + 0 ≤ 0 by omega, show 0 + 0 ≤ 0 by omega⟩) (fun _ N175 H locs h hw => ?_)
  refine W.eq (g2 := F0 m 148 ls ([])) rfl ?_
  exact kJ21_fixAfterInsertion_148 X hr hlk hK5 _ _ _ _ _ _ h hw (lv_sub hl [0, 1] rfl)
theorem kJ21_fixAfterInsertion_5 {p : Program} {l : Launch} {e : Env} {s : State} {m : MethodId} {args : Array Value} {below : List Frame} {meth : Method} {c : Code} {G : gG} {A : Nat → Prop} {post : Unit → NM → Prop} (X : cX G A RJ21 p s m args c cJ21_fixAfterInsertion 3) (hr : meth.sig.returnType = none) (hlk : meth.locks = false) : ∀ (n : Nat) (x0 : Nat) (x1 : Option Nat) (N : NM) (H : Heap) (locs : List Loc) (ls : Array Slot), wJ21_fixAfterInsertion_5 (gC G) post n x0 x1 N → cH G A s [] N H locs → lv_has ls 3 [(0, .ref x0), (1, va_rf x1)] → W p l e ⟨1, 0, 0, 22⟩ s m args below meth c H locs 0 0 (MQ below (gQ vV post (fun u H => cBw G A (jW u).1 (jW u).2 H) A) args s 0 0 A) (F0 m 5 ls []) := by
  have hx := X.1.1
  have hb := X.1.2.1
  have hml := X.1.2.2.1
  have hown := X.1.2.2.2.1
  have hts := X.1.2.2.2.2
  intro n
  induction n with
  | zero =>
    intro x0 x1 N H locs ls h
    exact False.elim h
  | succ n ih =>
    intro x0 x1 N H locs ls h hw hl
    unfold wJ21_fixAfterInsertion_5 at h
    refine lq_aload_n (pc := 5) hx hb dJ21_fixAfterInsertion_5 rfl (lv_at hl 1 rfl) ?_
    refine lq_ifnull (pc := 6) (tgt := 258) hx hb dJ21_fixAfterInsertion_6 rfl (fun hz13 => ?_) (fun a14 hr15 => ?_)
    · have h := h.1 hz13
      exact kJ21_fixAfterInsertion_258 X hr hlk  _ _ _ _ _ h hw (lv_sub hl [0] rfl)
    · have h := h.2 a14 hr15
      refine lq_aload_n (pc := 9) hx hb dJ21_fixAfterInsertion_9 rfl (lv_at hl 1 rfl) ?_
      refine lv_aload_n (pc := 10) hx hb dJ21_fixAfterInsertion_10 rfl (lv_at hl 0 rfl) ?_
      obtain ⟨f40, f41, f42, f43, f44, f45, f46, f47, f48, hN39, h⟩ := h
      refine c_get (pc := 11) X hw hN39 in_J21 rfl 3 (by decide) q949 rfl rfl dJ21_fixAfterInsertion_11 ?_
      refine lv_acmp_eq (pc := 14) (tgt := 258) (rx := x1) (ry := f43) hx hb dJ21_fixAfterInsertion_14 rfl (fun c49 => ?_) (fun c49 => ?_)
      · have h := h.1 c49
        exact kJ21_fixAfterInsertion_258 X hr hlk  _ _ _ _ _ h hw (lv_sub hl [0] rfl)
      · have h := h.2 c49
        refine lq_aload_n (pc := 17) hx hb dJ21_fixAfterInsertion_17 rfl (lv_at hl 1 rfl) ?_
        refine W.eq (g2 := F0 m 18 ls [.ref a14]) (by rw [hr15]; rfl) ?_
        obtain ⟨f51, f52, f53, f54, f55, f56, hN50, h⟩ := h
        refine c_get (pc := 18) X hw hN50 in_J26 rfl 4 (by decide) q1324 rfl rfl dJ21_fixAfterInsertion_18 ?_
        obtain ⟨a57, hr58, h⟩ := h
        refine W.eq (g2 := F0 m 21 ls [.ref a57]) (by rw [hr58]; rfl) ?_
        obtain ⟨f60, f61, f62, f63, f64, f65, hN59, h⟩ := h
        refine c_get (pc := 21) X hw hN59 in_J26 rfl 5 (by decide) q1326 rfl rfl dJ21_fixAfterInsertion_21 ?_
        refine lv_if_ne (pc := 24) (tgt := 258) hx hb dJ21_fixAfterInsertion_24 rfl (fun c66 => ?_) (fun c66 => ?_)
        · have h := h.2 c66
          exact kJ21_fixAfterInsertion_258 X hr hlk  _ _ _ _ _ h hw (lv_sub hl [0] rfl)
        · have h := h.1 c66
          refine lq_aload_n (pc := 27) hx hb dJ21_fixAfterInsertion_27 rfl (lv_at hl 1 rfl) ?_
          refine c_callJ (pc := 28) (val := vQ) X hw (va_runS (g := F0 m 28 ls _) (As := [va_rf x1]) (rest := []) X.1 (tJ21_parentOf X.2.2.1 (sz := H.size) h) (va_cwS 1 hts (lw_S q1348 q1349 q132 q1350) rfl rfl rfl ⟨by decide, by decide, (by decide +kernel : (parseMethodDescriptor yJ21_parentOf.desc).map (fun d => d.parameters.length) = some 1)⟩ ⟨Nat.le_of_ble_eq_true rfl, Nat.le_of_ble_eq_true rfl⟩) ⟨cPre_blind, fun U hU hW => ⟨rfl, X.preJ hw hU hW⟩⟩ rfl rfl hl.1 rfl (lv_room (Nat.le_of_ble_eq_true rfl)) dJ21_fixAfterInsertion_28 ⟨show 0 + 0 ≤ 0 by omega, show 0 + 0 ≤ 0 by omega⟩) (fun r67 N68 H locs h hw => ?_)
          refine W.eq (g2 := F0 m 31 ls (va_rf r67 :: [])) rfl ?_
          refine lq_aload_n (pc := 31) hx hb dJ21_fixAfterInsertion_31 rfl (lv_at hl 1 rfl) ?_
          refine c_callJ (pc := 32) (val := vQ) X hw (va_runS (g := F0 m 32 ls _) (As := [va_rf x1]) (rest := [va_rf r67]) X.1 (tJ21_parentOf X.2.2.1 (sz := H.size) h) (va_cwS 1 hts (lw_S q1348 q1349 q132 q1350) rfl rfl rfl ⟨by decide, by decide, (by decide +kernel : (parseMethodDescriptor yJ21_parentOf.desc).map (fun d => d.parameters.length) = some 1)⟩ ⟨Nat.le_of_ble_eq_true rfl, Nat.le_of_ble_eq_true rfl⟩) ⟨cPre_blind, fun U hU hW => ⟨rfl, X.preJ hw hU hW⟩⟩ rfl rfl hl.1 rfl (lv_room (rsum_le (Nat.le_of_ble_eq_true rfl))) dJ21_fixAfterInsertion_32 ⟨show 0 + 0 ≤ 0 by omega, show 0 + 0 ≤ 0 by omega⟩) (fun r69 N70 H locs h hw => ?_)
          refine W.eq (g2 := F0 m 35 ls (va_rf r69 :: [va_rf r67])) rfl ?_
          refine c_callJ (pc := 35) (val := vQ) X hw (va_runS (g := F0 m 35 ls _) (As := [va_rf r69]) (rest := [va_rf r67]) X.1 (tJ21_parentOf X.2.2.1 (sz := H.size) h) (va_cwS 1 hts (lw_S q1348 q1349 q132 q1350) rfl rfl rfl ⟨by decide, by decide, (by decide +kernel : (parseMethodDescriptor yJ21_parentOf.desc).map (fun d => d.parameters.length) = some 1)⟩ ⟨Nat.le_of_ble_eq_true rfl, Nat.le_of_ble_eq_true rfl⟩) ⟨cPre_blind, fun U hU hW => ⟨rfl, X.preJ hw hU hW⟩⟩ rfl rfl hl.1 rfl (lv_room (rsum_le (Nat.le_of_ble_eq_true rfl))) dJ21_fixAfterInsertion_35 ⟨show 0 + 0 ≤ 0 by omega, show 0 + 0 ≤ 0 by omega⟩) (fun r71 N72 H locs h hw => ?_)
          refine W.eq (g2 := F0 m 38 ls (va_rf r71 :: [va_rf r67])) rfl ?_
          refine c_callJ (pc := 38) (val := vQ) X hw (va_runS (g := F0 m 38 ls _) (As := [va_rf r71]) (rest := [va_rf r67]) X.1 (tJ21_leftOf X.2.2.1 (sz := H.size) h) (va_cwS 1 hts (lw_S q1351 q1352 q132 q1353) rfl rfl rfl ⟨by decide, by decide, (by decide +kernel : (parseMethodDescriptor yJ21_leftOf.desc).map (fun d => d.parameters.length) = some 1)⟩ ⟨Nat.le_of_ble_eq_true rfl, Nat.le_of_ble_eq_true rfl⟩) ⟨cPre_blind, fun U hU hW => ⟨rfl, X.preJ hw hU hW⟩⟩ rfl rfl hl.1 rfl (lv_room (rsum_le (Nat.le_of_ble_eq_true rfl))) dJ21_fixAfterInsertion_38 ⟨show 0 + 0 ≤ 0 by omega, show 0 + 0 ≤ 0 by omega⟩) (fun r73 N74 H locs h hw => ?_)
          refine W.eq (g2 := F0 m 41 ls (va_rf r73 :: [va_rf r67])) rfl ?_
          refine lv_acmp_ne (pc := 41) (tgt := 151) (rx := r67) (ry := r73) hx hb dJ21_fixAfterInsertion_41 rfl (fun c75 => ?_) (fun c75 => ?_)
          · have h := h.2 c75
            refine lq_aload_n (pc := 151) hx hb dJ21_fixAfterInsertion_151 rfl (lv_at hl 1 rfl) ?_
            refine c_callJ (pc := 152) (val := vQ) X hw (va_runS (g := F0 m 152 ls _) (As := [va_rf x1]) (rest := []) X.1 (tJ21_parentOf X.2.2.1 (sz := H.size) h) (va_cwS 1 hts (lw_S q1348 q1349 q132 q1350) rfl rfl rfl ⟨by decide, by decide, (by decide +kernel : (parseMethodDescriptor yJ21_parentOf.desc).map (fun d => d.parameters.length) = some 1)⟩ ⟨Nat.le_of_ble_eq_true rfl, Nat.le_of_ble_eq_true rfl⟩) ⟨cPre_blind, fun U hU hW => ⟨rfl, X.preJ hw hU hW⟩⟩ rfl rfl hl.1 rfl (lv_room (Nat.le_of_ble_eq_true rfl)) dJ21_fixAfterInsertion_152 ⟨show 0 + 0 ≤ 0 by omega, show 0 + 0 ≤ 0 by omega⟩) (fun r76 N77 H locs h hw => ?_)
            refine W.eq (g2 := F0 m 155 ls (va_rf r76 :: [])) rfl ?_
            refine c_callJ (pc := 155) (val := vQ) X hw (va_runS (g := F0 m 155 ls _) (As := [va_rf r76]) (rest := []) X.1 (tJ21_parentOf X.2.2.1 (sz := H.size) h) (va_cwS 1 hts (lw_S q1348 q1349 q132 q1350) rfl rfl rfl ⟨by decide, by decide, (by decide +kernel : (parseMethodDescriptor yJ21_parentOf.desc).map (fun d => d.parameters.length) = some 1)⟩ ⟨Nat.le_of_ble_eq_true rfl, Nat.le_of_ble_eq_true rfl⟩) ⟨cPre_blind, fun U hU hW => ⟨rfl, X.preJ hw hU hW⟩⟩ rfl rfl hl.1 rfl (lv_room (Nat.le_of_ble_eq_true rfl)) dJ21_fixAfterInsertion_155 ⟨show 0 + 0 ≤ 0 by omega, show 0 + 0 ≤ 0 by omega⟩) (fun r78 N79 H locs h hw => ?_)
            refine W.eq (g2 := F0 m 158 ls (va_rf r78 :: [])) rfl ?_
            refine c_callJ (pc := 158) (val := vQ) X hw (va_runS (g := F0 m 158 ls _) (As := [va_rf r78]) (rest := []) X.1 (tJ21_leftOf X.2.2.1 (sz := H.size) h) (va_cwS 1 hts (lw_S q1351 q1352 q132 q1353) rfl rfl rfl ⟨by decide, by decide, (by decide +kernel : (parseMethodDescriptor yJ21_leftOf.desc).map (fun d => d.parameters.length) = some 1)⟩ ⟨Nat.le_of_ble_eq_true rfl, Nat.le_of_ble_eq_true rfl⟩) ⟨cPre_blind, fun U hU hW => ⟨rfl, X.preJ hw hU hW⟩⟩ rfl rfl hl.1 rfl (lv_room (Nat.le_of_ble_eq_true rfl)) dJ21_fixAfterInsertion_158 ⟨show 0 + 0 ≤ 0 by omega, show 0 + 0 ≤ 0 by omega⟩) (fun r80 N81 H locs h hw => ?_)
            refine W.eq (g2 := F0 m 161 ls (va_rf r80 :: [])) rfl ?_
            refine lq_astore_n (pc := 161) (i := 2) (lv' := [(2, va_rf r80), (0, .ref x0), (1, va_rf x1)]) hx hb dJ21_fixAfterInsertion_161 rfl hl (by decide) (by simp [rf_c]) (fun ls hl => ?_)
            refine lq_aload_n (pc := 162) hx hb dJ21_fixAfterInsertion_162 rfl (lv_at hl 0 rfl) ?_
            refine c_callJ (pc := 163) (val := vI) X hw (va_runS (g := F0 m 163 ls _) (As := [va_rf r80]) (rest := []) X.1 (tJ21_colorOf X.2.2.1 (sz := H.size) h) (va_cwS 1 hts (lw_S q1357 q1358 q132 q1359) rfl rfl rfl ⟨by decide, by decide, (by decide +kernel : (parseMethodDescriptor yJ21_colorOf.desc).map (fun d => d.parameters.length) = some 1)⟩ ⟨Nat.le_of_ble_eq_true rfl, Nat.le_of_ble_eq_true rfl⟩) ⟨cPre_blind, fun U hU hW => ⟨rfl, X.preJ hw hU hW⟩⟩ rfl rfl hl.1 rfl (lv_room (Nat.le_of_ble_eq_true rfl)) dJ21_fixAfterInsertion_163 ⟨show 0 + 0 ≤ 0 by omega, show 0 + 0 ≤ 0 by omega⟩) (fun r82 N83 H locs h hw => ?_)
            refine W.eq (g2 := F0 m 166 ls (.int r82 :: [])) rfl ?_
            refine lv_if_ne (pc := 166) (tgt := 204) hx hb dJ21_fixAfterInsertion_166 rfl (fun c84 => ?_) (fun c84 => ?_)
            · have h := h.2 c84
              refine lq_aload_n (pc := 204) hx hb dJ21_fixAfterInsertion_204 rfl (lv_at hl 2 rfl) ?_
              refine lq_aload_n (pc := 205) hx hb dJ21_fixAfterInsertion_205 rfl (lv_at hl 2 rfl) ?_
              refine c_callJ (pc := 206) (val := vQ) X hw (va_runS (g := F0 m 206 ls _) (As := [va_rf x1]) (rest := [va_rf x1]) X.1 (tJ21_parentOf X.2.2.1 (sz := H.size) h) (va_cwS 1 hts (lw_S q1348 q1349 q132 q1350) rfl rfl rfl ⟨by decide, by decide, (by decide +kernel : (parseMethodDescriptor yJ21_parentOf.desc).map (fun d => d.parameters.length) = some 1)⟩ ⟨Nat.le_of_ble_eq_true rfl, Nat.le_of_ble_eq_true rfl⟩) ⟨cPre_blind, fun U hU hW => ⟨rfl, X.preJ hw hU hW⟩⟩ rfl rfl hl.1 rfl (lv_room (rsum_le (Nat.le_of_ble_eq_true rfl))) dJ21_fixAfterInsertion_206 ⟨show 0 + 0 ≤ 0 by omega, show 0 + 0 ≤ 0 by omega⟩) (fun r85 N86 H locs h hw => ?_)
              refine W.eq (g2 := F0 m 209 ls (va_rf r85 :: [va_rf x1])) rfl ?_
              refine c_callJ (pc := 209) (val := vQ) X hw (va_runS (g := F0 m 209 ls _) (As := [va_rf r85]) (rest := [va_rf x1]) X.1 (tJ21_leftOf X.2.2.1 (sz := H.size) h) (va_cwS 1 hts (lw_S q1351 q1352 q132 q1353) rfl rfl rfl ⟨by decide, by decide, (by decide +kernel : (parseMethodDescriptor yJ21_leftOf.desc).map (fun d => d.parameters.length) = some 1)⟩ ⟨Nat.le_of_ble_eq_true rfl, Nat.le_of_ble_eq_true rfl⟩) ⟨cPre_blind, fun U hU hW => ⟨rfl, X.preJ hw hU hW⟩⟩ rfl rfl hl.1 rfl (lv_room (rsum_le (Nat.le_of_ble_eq_true rfl))) dJ21_fixAfterInsertion_209 ⟨show 0 + 0 ≤ 0 by omega, show 0 + 0 ≤ 0 by omega⟩) (fun r87 N88 H locs h hw => ?_)
              refine W.eq (g2 := F0 m 212 ls (va_rf r87 :: [va_rf x1])) rfl ?_
              refine lv_acmp_ne (pc := 212) (tgt := 225) (rx := x1) (ry := r87) hx hb dJ21_fixAfterInsertion_212 rfl (fun c89 => ?_) (fun c89 => ?_)
              · have h := h.2 c89
                exact kJ21_fixAfterInsertion_225 X hr hlk ih _ _ _ _ _ _ h hw (lv_sub hl [1, 2] rfl)
              · have h := h.1 c89
                refine lq_aload_n (pc := 215) hx hb dJ21_fixAfterInsertion_215 rfl (lv_at hl 2 rfl) ?_
                refine c_callJ (pc := 216) (val := vQ) X hw (va_runS (g := F0 m 216 ls _) (As := [va_rf x1]) (rest := []) X.1 (tJ21_parentOf X.2.2.1 (sz := H.size) h) (va_cwS 1 hts (lw_S q1348 q1349 q132 q1350) rfl rfl rfl ⟨by decide, by decide, (by decide +kernel : (parseMethodDescriptor yJ21_parentOf.desc).map (fun d => d.parameters.length) = some 1)⟩ ⟨Nat.le_of_ble_eq_true rfl, Nat.le_of_ble_eq_true rfl⟩) ⟨cPre_blind, fun U hU hW => ⟨rfl, X.preJ hw hU hW⟩⟩ rfl rfl hl.1 rfl (lv_room (Nat.le_of_ble_eq_true rfl)) dJ21_fixAfterInsertion_216 ⟨show 0 + 0 ≤ 0 by omega, show 0 + 0 ≤ 0 by omega⟩) (fun r116 N117 H locs h hw => ?_)
                refine W.eq (g2 := F0 m 219 ls (va_rf r116 :: [])) rfl ?_
                refine lq_astore_n (pc := 219) (lv' := [(1, va_rf r116), (2, va_rf r80), (0, .ref x0)]) hx hb dJ21_fixAfterInsertion_219 rfl hl (by decide) rfl (fun ls hl => ?_)
                refine lv_aload_n (pc := 220) hx hb dJ21_fixAfterInsertion_220 rfl (lv_at hl 2 rfl) ?_
                refine lq_aload_n (pc := 221) hx hb dJ21_fixAfterInsertion_221 rfl (lv_at hl 0 rfl) ?_
                obtain ⟨f121, f122, f123, f124, f125, f126, f127, f128, f129, hN120, h⟩ := h
                refine c_callJ (pc := 222) (val := vV) X hw (va_runV (C := RJ21) (As := [va_rf r116]) (rest := []) X.1 (tJ21_rotateRight X.2.2.1 (sz := H.size) h) (cwV 1 hts (lw_V q1367 q1369 qs27 q132 q1370) rfl rfl rfl ⟨rfl, by decide, by decide, (by decide +kernel : (parseMethodDescriptor yJ21_rotateRight.desc).map (fun d => d.parameters.length) = some 1)⟩ ⟨Nat.le_of_ble_eq_true rfl, Nat.le_of_ble_eq_true rfl⟩) ⟨cPre_blind, c_recv X hw hN120 rfl, fun U hU hW => ⟨rfl, X.preJ hw hU hW⟩⟩ rfl rfl hl.1 rfl (lv_room (Nat.le_of_ble_eq_true rfl)) dJ21_fixAfterInsertion_222 ⟨show 0 + 0 ≤ 0 by omega, show 0 + 0 ≤ 0 by omega⟩) (fun _ N119 H locs h hw => ?_)
                refine W.eq (g2 := F0 m 225 ls ([])) rfl ?_
                exact kJ21_fixAfterInsertion_225 X hr hlk ih _ _ _ _ _ _ h hw (lv_sub hl [2, 0] rfl)
            · have h := h.1 c84
              refine lq_aload_n (pc := 169) hx hb dJ21_fixAfterInsertion_169 rfl (lv_at hl 2 rfl) ?_
              refine c_callJ (pc := 170) (val := vQ) X hw (va_runS (g := F0 m 170 ls _) (As := [va_rf x1]) (rest := []) X.1 (tJ21_parentOf X.2.2.1 (sz := H.size) h) (va_cwS 1 hts (lw_S q1348 q1349 q132 q1350) rfl rfl rfl ⟨by decide, by decide, (by decide +kernel : (parseMethodDescriptor yJ21_parentOf.desc).map (fun d => d.parameters.length) = some 1)⟩ ⟨Nat.le_of_ble_eq_true rfl, Nat.le_of_ble_eq_true rfl⟩) ⟨cPre_blind, fun U hU hW => ⟨rfl, X.preJ hw hU hW⟩⟩ rfl rfl hl.1 rfl (lv_room (Nat.le_of_ble_eq_true rfl)) dJ21_fixAfterInsertion_170 ⟨show 0 + 0 ≤ 0 by omega, show 0 + 0 ≤ 0 by omega⟩) (fun r130 N131 H locs h hw => ?_)
              refine W.eq (g2 := F0 m 173 ls (va_rf r130 :: [])) rfl ?_
              refine lv_iconst (pc := 173) (v := (1 : Int32)) hx hb dJ21_fixAfterInsertion_173 (by decide) ?_
              refine c_callJ (pc := 174) (val := vV) X hw (va_runS (g := F0 m 174 ls _) (As := [va_rf r130, .int (1 : Int32)]) (rest := []) X.1 (tJ21_setColor X.2.2.1 (sz := H.size) h) (va_cwS 2 hts (lw_S q1360 q1361 q132 q1362) rfl rfl rfl ⟨by decide, by decide, (by decide +kernel : (parseMethodDescriptor yJ21_setColor.desc).map (fun d => d.parameters.length) = some 2)⟩ ⟨Nat.le_of_ble_eq_true rfl, Nat.le_of_ble_eq_true rfl⟩) ⟨cPre_blind, fun U hU hW => ⟨rfl, X.preJ hw hU hW⟩⟩ rfl rfl hl.1 rfl (lv_room (Nat.le_of_ble_eq_true rfl)) dJ21_fixAfterInsertion_174 ⟨show 0 + 0 ≤ 0 by omega, show 0 + 0 ≤ 0 by omega⟩) (fun _ N133 H locs h hw => ?_)
              refine W.eq (g2 := F0 m 177 ls ([])) rfl ?_
              refine lq_aload_n (pc := 177) hx hb dJ21_fixAfterInsertion_177 rfl (lv_at hl 0 rfl) ?_
              refine lv_iconst (pc := 178) (v := (1 : Int32)) hx hb dJ21_fixAfterInsertion_178 (by decide) ?_
              refine c_callJ (pc := 179) (val := vV) X hw (va_runS (g := F0 m 179 ls _) (As := [va_rf r80, .int (1 : Int32)]) (rest := []) X.1 (tJ21_setColor X.2.2.1 (sz := H.size) h) (va_cwS 2 hts (lw_S q1360 q1361 q132 q1362) rfl rfl rfl ⟨by decide, by decide, (by decide +kernel : (parseMethodDescriptor yJ21_setColor.desc).map (fun d => d.parameters.length) = some 2)⟩ ⟨Nat.le_of_ble_eq_true rfl, Nat.le_of_ble_eq_true rfl⟩) ⟨cPre_blind, fun U hU hW => ⟨rfl, X.preJ hw hU hW⟩⟩ rfl rfl hl.1 rfl (lv_room (Nat.le_of_ble_eq_true rfl)) dJ21_fixAfterInsertion_179 ⟨show 0 + 0 ≤ 0 by omega, show 0 + 0 ≤ 0 by omega⟩) (fun _ N135 H locs h hw => ?_)
              refine W.eq (g2 := F0 m 182 ls ([])) rfl ?_
              refine lq_aload_n (pc := 182) hx hb dJ21_fixAfterInsertion_182 rfl (lv_at hl 2 rfl) ?_
              refine c_callJ (pc := 183) (val := vQ) X hw (va_runS (g := F0 m 183 ls _) (As := [va_rf x1]) (rest := []) X.1 (tJ21_parentOf X.2.2.1 (sz := H.size) h) (va_cwS 1 hts (lw_S q1348 q1349 q132 q1350) rfl rfl rfl ⟨by decide, by decide, (by decide +kernel : (parseMethodDescriptor yJ21_parentOf.desc).map (fun d => d.parameters.length) = some 1)⟩ ⟨Nat.le_of_ble_eq_true rfl, Nat.le_of_ble_eq_true rfl⟩) ⟨cPre_blind, fun U hU hW => ⟨rfl, X.preJ hw hU hW⟩⟩ rfl rfl hl.1 rfl (lv_room (Nat.le_of_ble_eq_true rfl)) dJ21_fixAfterInsertion_183 ⟨show 0 + 0 ≤ 0 by omega, show 0 + 0 ≤ 0 by omega⟩) (fun r136 N137 H locs h hw => ?_)
              refine W.eq (g2 := F0 m 186 ls (va_rf r136 :: [])) rfl ?_
              refine c_callJ (pc := 186) (val := vQ) X hw (va_runS (g := F0 m 186 ls _) (As := [va_rf r136]) (rest := []) X.1 (tJ21_parentOf X.2.2.1 (sz := H.size) h) (va_cwS 1 hts (lw_S q1348 q1349 q132 q1350) rfl rfl rfl ⟨by decide, by decide, (by decide +kernel : (parseMethodDescriptor yJ21_parentOf.desc).map (fun d => d.parameters.length) = some 1)⟩ ⟨Nat.le_of_ble_eq_true rfl, Nat.le_of_ble_eq_true rfl⟩) ⟨cPre_blind, fun U hU hW => ⟨rfl, X.preJ hw hU hW⟩⟩ rfl rfl hl.1 rfl (lv_room (Nat.le_of_ble_eq_true rfl)) dJ21_fixAfterInsertion_186 ⟨show 0 + 0 ≤ 0 by omega, show 0 + 0 ≤ 0 by omega⟩) (fun r138 N139 H locs h hw => ?_)
              refine W.eq (g2 := F0 m 189 ls (va_rf r138 :: [])) rfl ?_
              refine lv_iconst (pc := 189) (v := (0 : Int32)) hx hb dJ21_fixAfterInsertion_189 (by decide) ?_
              refine c_callJ (pc := 190) (val := vV) X hw (va_runS (g := F0 m 190 ls _) (As := [va_rf r138, .int (0 : Int32)]) (rest := []) X.1 (tJ21_setColor X.2.2.1 (sz := H.size) h) (va_cwS 2 hts (lw_S q1360 q1361 q132 q1362) rfl rfl rfl ⟨by decide, by decide, (by decide +kernel : (parseMethodDescriptor yJ21_setColor.desc).map (fun d => d.parameters.length) = some 2)⟩ ⟨Nat.le_of_ble_eq_true rfl, Nat.le_of_ble_eq_true rfl⟩) ⟨cPre_blind, fun U hU hW => ⟨rfl, X.preJ hw hU hW⟩⟩ rfl rfl hl.1 rfl (lv_room (Nat.le_of_ble_eq_true rfl)) dJ21_fixAfterInsertion_190 ⟨show 0 + 0 ≤ 0 by omega, show 0 + 0 ≤ 0 by omega⟩) (fun _ N141 H locs h hw => ?_)
              refine W.eq (g2 := F0 m 193 ls ([])) rfl ?_
              refine lq_aload_n (pc := 193) hx hb dJ21_fixAfterInsertion_193 rfl (lv_at hl 2 rfl) ?_
              refine c_callJ (pc := 194) (val := vQ) X hw (va_runS (g := F0 m 194 ls _) (As := [va_rf x1]) (rest := []) X.1 (tJ21_parentOf X.2.2.1 (sz := H.size) h) (va_cwS 1 hts (lw_S q1348 q1349 q132 q1350) rfl rfl rfl ⟨by decide, by decide, (by decide +kernel : (parseMethodDescriptor yJ21_parentOf.desc).map (fun d => d.parameters.length) = some 1)⟩ ⟨Nat.le_of_ble_eq_true rfl, Nat.le_of_ble_eq_true rfl⟩) ⟨cPre_blind, fun U hU hW => ⟨rfl, X.preJ hw hU hW⟩⟩ rfl rfl hl.1 rfl (lv_room (Nat.le_of_ble_eq_true rfl)) dJ21_fixAfterInsertion_194 ⟨show 0 + 0 ≤ 0 by omega, show 0 + 0 ≤ 0 by omega⟩) (fun r142 N143 H locs h hw => ?_)
              refine W.eq (g2 := F0 m 197 ls (va_rf r142 :: [])) rfl ?_
              refine c_callJ (pc := 197) (val := vQ) X hw (va_runS (g := F0 m 197 ls _) (As := [va_rf r142]) (rest := []) X.1 (tJ21_parentOf X.2.2.1 (sz := H.size) h) (va_cwS 1 hts (lw_S q1348 q1349 q132 q1350) rfl rfl rfl ⟨by decide, by decide, (by decide +kernel : (parseMethodDescriptor yJ21_parentOf.desc).map (fun d => d.parameters.length) = some 1)⟩ ⟨Nat.le_of_ble_eq_true rfl, Nat.le_of_ble_eq_true rfl⟩) ⟨cPre_blind, fun U hU hW => ⟨rfl, X.preJ hw hU hW⟩⟩ rfl rfl hl.1 rfl (lv_room (Nat.le_of_ble_eq_true rfl)) dJ21_fixAfterInsertion_197 ⟨show 0 + 0 ≤ 0 by omega, show 0 + 0 ≤ 0 by omega⟩) (fun r144 N145 H locs h hw => ?_)
              refine W.eq (g2 := F0 m 200 ls (va_rf r144 :: [])) rfl ?_
              refine lq_astore_n (pc := 200) (lv' := [(1, va_rf r144), (2, va_rf r80), (0, .ref x0)]) hx hb dJ21_fixAfterInsertion_200 rfl hl (by decide) rfl (fun ls hl => ?_)
              refine lv_goto (pc := 201) (tgt := 255) hx hb dJ21_fixAfterInsertion_201 rfl ?_
              exact kJ21_fixAfterInsertion_255 X hr hlk ih _ _ _ _ _ _ h hw (lv_sub hl [2, 0] rfl)
          · have h := h.1 c75
            refine lq_aload_n (pc := 44) hx hb dJ21_fixAfterInsertion_44 rfl (lv_at hl 1 rfl) ?_
            refine c_callJ (pc := 45) (val := vQ) X hw (va_runS (g := F0 m 45 ls _) (As := [va_rf x1]) (rest := []) X.1 (tJ21_parentOf X.2.2.1 (sz := H.size) h) (va_cwS 1 hts (lw_S q1348 q1349 q132 q1350) rfl rfl rfl ⟨by decide, by decide, (by decide +kernel : (parseMethodDescriptor yJ21_parentOf.desc).map (fun d => d.parameters.length) = some 1)⟩ ⟨Nat.le_of_ble_eq_true rfl, Nat.le_of_ble_eq_true rfl⟩) ⟨cPre_blind, fun U hU hW => ⟨rfl, X.preJ hw hU hW⟩⟩ rfl rfl hl.1 rfl (lv_room (Nat.le_of_ble_eq_true rfl)) dJ21_fixAfterInsertion_45 ⟨show 0 + 0 ≤ 0 by omega, show 0 + 0 ≤ 0 by omega⟩) (fun r146 N147 H locs h hw => ?_)
            refine W.eq (g2 := F0 m 48 ls (va_rf r146 :: [])) rfl ?_
            refine c_callJ (pc := 48) (val := vQ) X hw (va_runS (g := F0 m 48 ls _) (As := [va_rf r146]) (rest := []) X.1 (tJ21_parentOf X.2.2.1 (sz := H.size) h) (va_cwS 1 hts (lw_S q1348 q1349 q132 q1350) rfl rfl rfl ⟨by decide, by decide, (by decide +kernel : (parseMethodDescriptor yJ21_parentOf.desc).map (fun d => d.parameters.length) = some 1)⟩ ⟨Nat.le_of_ble_eq_true rfl, Nat.le_of_ble_eq_true rfl⟩) ⟨cPre_blind, fun U hU hW => ⟨rfl, X.preJ hw hU hW⟩⟩ rfl rfl hl.1 rfl (lv_room (Nat.le_of_ble_eq_true rfl)) dJ21_fixAfterInsertion_48 ⟨show 0 + 0 ≤ 0 by omega, show 0 + 0 ≤ 0 by omega⟩) (fun r148 N149 H locs h hw => ?_)
            refine W.eq (g2 := F0 m 51 ls (va_rf r148 :: [])) rfl ?_
            refine c_callJ (pc := 51) (val := vQ) X hw (va_runS (g := F0 m 51 ls _) (As := [va_rf r148]) (rest := []) X.1 (tJ21_rightOf X.2.2.1 (sz := H.size) h) (va_cwS 1 hts (lw_S q1354 q1355 q132 q1356) rfl rfl rfl ⟨by decide, by decide, (by decide +kernel : (parseMethodDescriptor yJ21_rightOf.desc).map (fun d => d.parameters.length) = some 1)⟩ ⟨Nat.le_of_ble_eq_true rfl, Nat.le_of_ble_eq_true rfl⟩) ⟨cPre_blind, fun U hU hW => ⟨rfl, X.preJ hw hU hW⟩⟩ rfl rfl hl.1 rfl (lv_room (Nat.le_of_ble_eq_true rfl)) dJ21_fixAfterInsertion_51 ⟨show 0 + 0 ≤ 0 by omega, show 0 + 0 ≤ 0 by omega⟩) (fun r150 N151 H locs h hw => ?_)
            refine W.eq (g2 := F0 m 54 ls (va_rf r150 :: [])) rfl ?_
            refine lq_astore_n (pc := 54) (i := 2) (lv' := [(2, va_rf r150), (0, .ref x0), (1, va_rf x1)]) hx hb dJ21_fixAfterInsertion_54 rfl hl (by decide) (by simp [rf_c]) (fun ls hl => ?_)
            refine lq_aload_n (pc := 55) hx hb dJ21_fixAfterInsertion_55 rfl (lv_at hl 0 rfl) ?_
            refine c_callJ (pc := 56) (val := vI) X hw (va_runS (g := F0 m 56 ls _) (As := [va_rf r150]) (rest := []) X.1 (tJ21_colorOf X.2.2.1 (sz := H.size) h) (va_cwS 1 hts (lw_S q1357 q1358 q132 q1359) rfl rfl rfl ⟨by decide, by decide, (by decide +kernel : (parseMethodDescriptor yJ21_colorOf.desc).map (fun d => d.parameters.length) = some 1)⟩ ⟨Nat.le_of_ble_eq_true rfl, Nat.le_of_ble_eq_true rfl⟩) ⟨cPre_blind, fun U hU hW => ⟨rfl, X.preJ hw hU hW⟩⟩ rfl rfl hl.1 rfl (lv_room (Nat.le_of_ble_eq_true rfl)) dJ21_fixAfterInsertion_56 ⟨show 0 + 0 ≤ 0 by omega, show 0 + 0 ≤ 0 by omega⟩) (fun r152 N153 H locs h hw => ?_)
            refine W.eq (g2 := F0 m 59 ls (.int r152 :: [])) rfl ?_
            refine lv_if_ne (pc := 59) (tgt := 97) hx hb dJ21_fixAfterInsertion_59 rfl (fun c154 => ?_) (fun c154 => ?_)
            · have h := h.2 c154
              refine lq_aload_n (pc := 97) hx hb dJ21_fixAfterInsertion_97 rfl (lv_at hl 2 rfl) ?_
              refine lq_aload_n (pc := 98) hx hb dJ21_fixAfterInsertion_98 rfl (lv_at hl 2 rfl) ?_
              refine c_callJ (pc := 99) (val := vQ) X hw (va_runS (g := F0 m 99 ls _) (As := [va_rf x1]) (rest := [va_rf x1]) X.1 (tJ21_parentOf X.2.2.1 (sz := H.size) h) (va_cwS 1 hts (lw_S q1348 q1349 q132 q1350) rfl rfl rfl ⟨by decide, by decide, (by decide +kernel : (parseMethodDescriptor yJ21_parentOf.desc).map (fun d => d.parameters.length) = some 1)⟩ ⟨Nat.le_of_ble_eq_true rfl, Nat.le_of_ble_eq_true rfl⟩) ⟨cPre_blind, fun U hU hW => ⟨rfl, X.preJ hw hU hW⟩⟩ rfl rfl hl.1 rfl (lv_room (rsum_le (Nat.le_of_ble_eq_true rfl))) dJ21_fixAfterInsertion_99 ⟨show 0 + 0 ≤ 0 by omega, show 0 + 0 ≤ 0 by omega⟩) (fun r155 N156 H locs h hw => ?_)
              refine W.eq (g2 := F0 m 102 ls (va_rf r155 :: [va_rf x1])) rfl ?_
              refine c_callJ (pc := 102) (val := vQ) X hw (va_runS (g := F0 m 102 ls _) (As := [va_rf r155]) (rest := [va_rf x1]) X.1 (tJ21_rightOf X.2.2.1 (sz := H.size) h) (va_cwS 1 hts (lw_S q1354 q1355 q132 q1356) rfl rfl rfl ⟨by decide, by decide, (by decide +kernel : (parseMethodDescriptor yJ21_rightOf.desc).map (fun d => d.parameters.length) = some 1)⟩ ⟨Nat.le_of_ble_eq_true rfl, Nat.le_of_ble_eq_true rfl⟩) ⟨cPre_blind, fun U hU hW => ⟨rfl, X.preJ hw hU hW⟩⟩ rfl rfl hl.1 rfl (lv_room (rsum_le (Nat.le_of_ble_eq_true rfl))) dJ21_fixAfterInsertion_102 ⟨show 0 + 0 ≤ 0 by omega, show 0 + 0 ≤ 0 by omega⟩) (fun r157 N158 H locs h hw => ?_)
              refine W.eq (g2 := F0 m 105 ls (va_rf r157 :: [va_rf x1])) rfl ?_
              refine lv_acmp_ne (pc := 105) (tgt := 118) (rx := x1) (ry := r157) hx hb dJ21_fixAfterInsertion_105 rfl (fun c159 => ?_) (fun c159 => ?_)
              · have h := h.2 c159
                exact kJ21_fixAfterInsertion_118 X hr hlk ih _ _ _ _ _ _ h hw (lv_sub hl [1, 2] rfl)
              · have h := h.1 c159
                refine lq_aload_n (pc := 108) hx hb dJ21_fixAfterInsertion_108 rfl (lv_at hl 2 rfl) ?_
                refine c_callJ (pc := 109) (val := vQ) X hw (va_runS (g := F0 m 109 ls _) (As := [va_rf x1]) (rest := []) X.1 (tJ21_parentOf X.2.2.1 (sz := H.size) h) (va_cwS 1 hts (lw_S q1348 q1349 q132 q1350) rfl rfl rfl ⟨by decide, by decide, (by decide +kernel : (parseMethodDescriptor yJ21_parentOf.desc).map (fun d => d.parameters.length) = some 1)⟩ ⟨Nat.le_of_ble_eq_true rfl, Nat.le_of_ble_eq_true rfl⟩) ⟨cPre_blind, fun U hU hW => ⟨rfl, X.preJ hw hU hW⟩⟩ rfl rfl hl.1 rfl (lv_room (Nat.le_of_ble_eq_true rfl)) dJ21_fixAfterInsertion_109 ⟨show 0 + 0 ≤ 0 by omega, show 0 + 0 ≤ 0 by omega⟩) (fun r186 N187 H locs h hw => ?_)
                refine W.eq (g2 := F0 m 112 ls (va_rf r186 :: [])) rfl ?_
                refine lq_astore_n (pc := 112) (lv' := [(1, va_rf r186), (2, va_rf r150), (0, .ref x0)]) hx hb dJ21_fixAfterInsertion_112 rfl hl (by decide) rfl (fun ls hl => ?_)
                refine lv_aload_n (pc := 113) hx hb dJ21_fixAfterInsertion_113 rfl (lv_at hl 2 rfl) ?_
                refine lq_aload_n (pc := 114) hx hb dJ21_fixAfterInsertion_114 rfl (lv_at hl 0 rfl) ?_
                obtain ⟨f191, f192, f193, f194, f195, f196, f197, f198, f199, hN190, h⟩ := h
                refine c_callJ (pc := 115) (val := vV) X hw (va_runV (C := RJ21) (As := [va_rf r186]) (rest := []) X.1 (tJ21_rotateLeft X.2.2.1 (sz := H.size) h) (cwV 1 hts (lw_V q1363 q1365 qs26 q132 q1366) rfl rfl rfl ⟨rfl, by decide, by decide, (by decide +kernel : (parseMethodDescriptor yJ21_rotateLeft.desc).map (fun d => d.parameters.length) = some 1)⟩ ⟨Nat.le_of_ble_eq_true rfl, Nat.le_of_ble_eq_true rfl⟩) ⟨cPre_blind, c_recv X hw hN190 rfl, fun U hU hW => ⟨rfl, X.preJ hw hU hW⟩⟩ rfl rfl hl.1 rfl (lv_room (Nat.le_of_ble_eq_true rfl)) dJ21_fixAfterInsertion_115 ⟨show 0 + 0 ≤ 0 by omega, show 0 + 0 ≤ 0 by omega⟩) (fun _ N189 H locs h hw => ?_)
                refine W.eq (g2 := F0 m 118 ls ([])) rfl ?_
                exact kJ21_fixAfterInsertion_118 X hr hlk ih _ _ _ _ _ _ h hw (lv_sub hl [2, 0] rfl)
            · have h := h.1 c154
              refine lq_aload_n (pc := 62) hx hb dJ21_fixAfterInsertion_62 rfl (lv_at hl 2 rfl) ?_
              refine c_callJ (pc := 63) (val := vQ) X hw (va_runS (g := F0 m 63 ls _) (As := [va_rf x1]) (rest := []) X.1 (tJ21_parentOf X.2.2.1 (sz := H.size) h) (va_cwS 1 hts (lw_S q1348 q1349 q132 q1350) rfl rfl rfl ⟨by decide, by decide, (by decide +kernel : (parseMethodDescriptor yJ21_parentOf.desc).map (fun d => d.parameters.length) = some 1)⟩ ⟨Nat.le_of_ble_eq_true rfl, Nat.le_of_ble_eq_true rfl⟩) ⟨cPre_blind, fun U hU hW => ⟨rfl, X.preJ hw hU hW⟩⟩ rfl rfl hl.1 rfl (lv_room (Nat.le_of_ble_eq_true rfl)) dJ21_fixAfterInsertion_63 ⟨show 0 + 0 ≤ 0 by omega, show 0 + 0 ≤ 0 by omega⟩) (fun r200 N201 H locs h hw => ?_)
              refine W.eq (g2 := F0 m 66 ls (va_rf r200 :: [])) rfl ?_
              refine lv_iconst (pc := 66) (v := (1 : Int32)) hx hb dJ21_fixAfterInsertion_66 (by decide) ?_
              refine c_callJ (pc := 67) (val := vV) X hw (va_runS (g := F0 m 67 ls _) (As := [va_rf r200, .int (1 : Int32)]) (rest := []) X.1 (tJ21_setColor X.2.2.1 (sz := H.size) h) (va_cwS 2 hts (lw_S q1360 q1361 q132 q1362) rfl rfl rfl ⟨by decide, by decide, (by decide +kernel : (parseMethodDescriptor yJ21_setColor.desc).map (fun d => d.parameters.length) = some 2)⟩ ⟨Nat.le_of_ble_eq_true rfl, Nat.le_of_ble_eq_true rfl⟩) ⟨cPre_blind, fun U hU hW => ⟨rfl, X.preJ hw hU hW⟩⟩ rfl rfl hl.1 rfl (lv_room (Nat.le_of_ble_eq_true rfl)) dJ21_fixAfterInsertion_67 ⟨show 0 + 0 ≤ 0 by omega, show 0 + 0 ≤ 0 by omega⟩) (fun _ N203 H locs h hw => ?_)
              refine W.eq (g2 := F0 m 70 ls ([])) rfl ?_
              refine lq_aload_n (pc := 70) hx hb dJ21_fixAfterInsertion_70 rfl (lv_at hl 0 rfl) ?_
              refine lv_iconst (pc := 71) (v := (1 : Int32)) hx hb dJ21_fixAfterInsertion_71 (by decide) ?_
              refine c_callJ (pc := 72) (val := vV) X hw (va_runS (g := F0 m 72 ls _) (As := [va_rf r150, .int (1 : Int32)]) (rest := []) X.1 (tJ21_setColor X.2.2.1 (sz := H.size) h) (va_cwS 2 hts (lw_S q1360 q1361 q132 q1362) rfl rfl rfl ⟨by decide, by decide, (by decide +kernel : (parseMethodDescriptor yJ21_setColor.desc).map (fun d => d.parameters.length) = some 2)⟩ ⟨Nat.le_of_ble_eq_true rfl, Nat.le_of_ble_eq_true rfl⟩) ⟨cPre_blind, fun U hU hW => ⟨rfl, X.preJ hw hU hW⟩⟩ rfl rfl hl.1 rfl (lv_room (Nat.le_of_ble_eq_true rfl)) dJ21_fixAfterInsertion_72 ⟨show 0 + 0 ≤ 0 by omega, show 0 + 0 ≤ 0 by omega⟩) (fun _ N205 H locs h hw => ?_)
              refine W.eq (g2 := F0 m 75 ls ([])) rfl ?_
              refine lq_aload_n (pc := 75) hx hb dJ21_fixAfterInsertion_75 rfl (lv_at hl 2 rfl) ?_
              refine c_callJ (pc := 76) (val := vQ) X hw (va_runS (g := F0 m 76 ls _) (As := [va_rf x1]) (rest := []) X.1 (tJ21_parentOf X.2.2.1 (sz := H.size) h) (va_cwS 1 hts (lw_S q1348 q1349 q132 q1350) rfl rfl rfl ⟨by decide, by decide, (by decide +kernel : (parseMethodDescriptor yJ21_parentOf.desc).map (fun d => d.parameters.length) = some 1)⟩ ⟨Nat.le_of_ble_eq_true rfl, Nat.le_of_ble_eq_true rfl⟩) ⟨cPre_blind, fun U hU hW => ⟨rfl, X.preJ hw hU hW⟩⟩ rfl rfl hl.1 rfl (lv_room (Nat.le_of_ble_eq_true rfl)) dJ21_fixAfterInsertion_76 ⟨show 0 + 0 ≤ 0 by omega, show 0 + 0 ≤ 0 by omega⟩) (fun r206 N207 H locs h hw => ?_)
              refine W.eq (g2 := F0 m 79 ls (va_rf r206 :: [])) rfl ?_
              refine c_callJ (pc := 79) (val := vQ) X hw (va_runS (g := F0 m 79 ls _) (As := [va_rf r206]) (rest := []) X.1 (tJ21_parentOf X.2.2.1 (sz := H.size) h) (va_cwS 1 hts (lw_S q1348 q1349 q132 q1350) rfl rfl rfl ⟨by decide, by decide, (by decide +kernel : (parseMethodDescriptor yJ21_parentOf.desc).map (fun d => d.parameters.length) = some 1)⟩ ⟨Nat.le_of_ble_eq_true rfl, Nat.le_of_ble_eq_true rfl⟩) ⟨cPre_blind, fun U hU hW => ⟨rfl, X.preJ hw hU hW⟩⟩ rfl rfl hl.1 rfl (lv_room (Nat.le_of_ble_eq_true rfl)) dJ21_fixAfterInsertion_79 ⟨show 0 + 0 ≤ 0 by omega, show 0 + 0 ≤ 0 by omega⟩) (fun r208 N209 H locs h hw => ?_)
              refine W.eq (g2 := F0 m 82 ls (va_rf r208 :: [])) rfl ?_
              refine lv_iconst (pc := 82) (v := (0 : Int32)) hx hb dJ21_fixAfterInsertion_82 (by decide) ?_
              refine c_callJ (pc := 83) (val := vV) X hw (va_runS (g := F0 m 83 ls _) (As := [va_rf r208, .int (0 : Int32)]) (rest := []) X.1 (tJ21_setColor X.2.2.1 (sz := H.size) h) (va_cwS 2 hts (lw_S q1360 q1361 q132 q1362) rfl rfl rfl ⟨by decide, by decide, (by decide +kernel : (parseMethodDescriptor yJ21_setColor.desc).map (fun d => d.parameters.length) = some 2)⟩ ⟨Nat.le_of_ble_eq_true rfl, Nat.le_of_ble_eq_true rfl⟩) ⟨cPre_blind, fun U hU hW => ⟨rfl, X.preJ hw hU hW⟩⟩ rfl rfl hl.1 rfl (lv_room (Nat.le_of_ble_eq_true rfl)) dJ21_fixAfterInsertion_83 ⟨show 0 + 0 ≤ 0 by omega, show 0 + 0 ≤ 0 by omega⟩) (fun _ N211 H locs h hw => ?_)
              refine W.eq (g2 := F0 m 86 ls ([])) rfl ?_
              refine lq_aload_n (pc := 86) hx hb dJ21_fixAfterInsertion_86 rfl (lv_at hl 2 rfl) ?_
              refine c_callJ (pc := 87) (val := vQ) X hw (va_runS (g := F0 m 87 ls _) (As := [va_rf x1]) (rest := []) X.1 (tJ21_parentOf X.2.2.1 (sz := H.size) h) (va_cwS 1 hts (lw_S q1348 q1349 q132 q1350) rfl rfl rfl ⟨by decide, by decide, (by decide +kernel : (parseMethodDescriptor yJ21_parentOf.desc).map (fun d => d.parameters.length) = some 1)⟩ ⟨Nat.le_of_ble_eq_true rfl, Nat.le_of_ble_eq_true rfl⟩) ⟨cPre_blind, fun U hU hW => ⟨rfl, X.preJ hw hU hW⟩⟩ rfl rfl hl.1 rfl (lv_room (Nat.le_of_ble_eq_true rfl)) dJ21_fixAfterInsertion_87 ⟨show 0 + 0 ≤ 0 by omega, show 0 + 0 ≤ 0 by omega⟩) (fun r212 N213 H locs h hw => ?_)
              refine W.eq (g2 := F0 m 90 ls (va_rf r212 :: [])) rfl ?_
              refine c_callJ (pc := 90) (val := vQ) X hw (va_runS (g := F0 m 90 ls _) (As := [va_rf r212]) (rest := []) X.1 (tJ21_parentOf X.2.2.1 (sz := H.size) h) (va_cwS 1 hts (lw_S q1348 q1349 q132 q1350) rfl rfl rfl ⟨by decide, by decide, (by decide +kernel : (parseMethodDescriptor yJ21_parentOf.desc).map (fun d => d.parameters.length) = some 1)⟩ ⟨Nat.le_of_ble_eq_true rfl, Nat.le_of_ble_eq_true rfl⟩) ⟨cPre_blind, fun U hU hW => ⟨rfl, X.preJ hw hU hW⟩⟩ rfl rfl hl.1 rfl (lv_room (Nat.le_of_ble_eq_true rfl)) dJ21_fixAfterInsertion_90 ⟨show 0 + 0 ≤ 0 by omega, show 0 + 0 ≤ 0 by omega⟩) (fun r214 N215 H locs h hw => ?_)
              refine W.eq (g2 := F0 m 93 ls (va_rf r214 :: [])) rfl ?_
              refine lq_astore_n (pc := 93) (lv' := [(1, va_rf r214), (2, va_rf r150), (0, .ref x0)]) hx hb dJ21_fixAfterInsertion_93 rfl hl (by decide) rfl (fun ls hl => ?_)
              refine lv_goto (pc := 94) (tgt := 148) hx hb dJ21_fixAfterInsertion_94 rfl ?_
              exact kJ21_fixAfterInsertion_148 X hr hlk ih _ _ _ _ _ _ h hw (lv_sub hl [2, 0] rfl)
theorem tJ21_fixAfterInsertion {l : Launch} {G : gG} (hO : gOk G) {post : Unit → NM → Prop} {N : NM} {x0 : Nat} {x1 : Option Nat} {sz : Nat} (h : wJ21_fixAfterInsertion (gC G) post N x0 x1) : Met l yJ21_fixAfterInsertion (ws_ yJ21_fixAfterInsertion cJ21_fixAfterInsertion 3 none) ⟨1, 0, 0, 22⟩ (va_Pc [.ref x0, va_rf x1] (cPre G [] N sz)) (gQ vV post (fun u H => cBw G (cA [] N sz) (jW u).1 (jW u).2 H) (cA [] N sz)) 0 0 (cA [] N sz) := by
  refine c_ofW (lw := jW) (by decide) hO (by cases x1 <;> exact Nat.le_of_ble_eq_true rfl) (fun p e s m below meth c ls A X hr hlk hin hw hl => ?_)
  have hl : lv_has ls 3 [(0, .ref x0), (1, va_rf x1)] := by cases x1 <;> exact hl
  have hx := X.1.1
  have hb := X.1.2.1
  have hml := X.1.2.2.1
  have hown := X.1.2.2.2.1
  have hts := X.1.2.2.2.2
  obtain ⟨H, eH⟩ : ∃ z, z = s.heap := ⟨_, rfl⟩
  rw [← eH] at hw ⊢
  obtain ⟨locs, eLo⟩ : ∃ z : List Loc, z = [] := ⟨_, rfl⟩
  rw [← eLo] at hw ⊢
  unfold wJ21_fixAfterInsertion at h
  refine lq_aload_n (pc := 0) hx hb dJ21_fixAfterInsertion_0 rfl (lv_at hl 1 rfl) ?_
  refine lv_iconst (pc := 1) (v := (0 : Int32)) hx hb dJ21_fixAfterInsertion_1 (by decide) ?_
  obtain ⟨a1, hr2, h⟩ := h
  refine W.eq (g2 := F0 m 2 ls [.int (0 : Int32), .ref a1]) (by rw [hr2]; rfl) ?_
  obtain ⟨f4, f5, f6, f7, f8, f9, hN3, h⟩ := h
  refine c_put (pc := 2) X hw hN3 in_J26 tyJ26 tyJ26_ok nmJ26 rfl 5 (by decide) q1326 rfl rfl rfl rfl rfl (Nat.le_of_ble_eq_true rfl) dJ21_fixAfterInsertion_2 (fun H locs hw => ?_)
  obtain ⟨N10, e11⟩ : ∃ z, z = va_up N a1 (some (eO 20 [va_rf f4, va_rf f5, va_rf f6, va_rf f7, va_rf f8, .int (0 : Int32)])) := ⟨_, rfl⟩
  have hw : cH G A s [] N10 H locs := by rw [e11]; exact hw
  have h := h N10 e11
  have hN12 : N10 a1 = some (eO 20 [va_rf f4, va_rf f5, va_rf f6, va_rf f7, va_rf f8, .int (0 : Int32)]) := by rw [e11]; exact up_s
  obtain ⟨k, h⟩ := h
  exact kJ21_fixAfterInsertion_5 X hr hlk  k _ _ _ _ _ _ h hw (lv_sub hl [0, 1] rfl)

def wJ26_init (K : Nat → Nat → Nat) (post : Unit → NM → Prop) (N : NM) (x0 : Nat) (x1 : Option Nat) (x2 : Option Nat) (x3 : Option Nat) : Prop :=
  ∃ f2 f3 f4 f5 f6 f7, N x0 = some (eO 20 [va_rf f2, va_rf f3, va_rf f4, va_rf f5, va_rf f6, .int f7]) ∧ (∀ N8, N8 = va_up N x0 (some (eO 20 [va_rf f2, va_rf f3, va_rf f4, va_rf f5, va_rf f6, .int (1 : Int32)])) → (∀ N11, N11 = va_up N8 x0 (some (eO 20 [va_rf x1, va_rf f3, va_rf f4, va_rf f5, va_rf f6, .int (1 : Int32)])) → (∀ N14, N14 = va_up N11 x0 (some (eO 20 [va_rf x1, va_rf x2, va_rf f4, va_rf f5, va_rf f6, .int (1 : Int32)])) → (∀ N17, N17 = va_up N14 x0 (some (eO 20 [va_rf x1, va_rf x2, va_rf f4, va_rf f5, va_rf x3, .int (1 : Int32)])) → (post () N17)))))
theorem tJ26_init {l : Launch} {G : gG} (hO : gOk G) {post : Unit → NM → Prop} {N : NM} {x0 : Nat} {x1 : Option Nat} {x2 : Option Nat} {x3 : Option Nat} {sz : Nat} (h : wJ26_init (gC G) post N x0 x1 x2 x3) : Met l yJ26_init (ws_ yJ26_init cJ26_init 4 none) ⟨1, 0, 0, 20⟩ (va_Pc [.ref x0, va_rf x1, va_rf x2, va_rf x3] (cPre G [] N sz)) (gQ vV post (fun u H => cBw G (cA [] N sz) (jW u).1 (jW u).2 H) (cA [] N sz)) 0 0 (cA [] N sz) := by
  refine c_ofW (lw := jW) (by decide) hO (by cases x1 <;> cases x2 <;> cases x3 <;> exact Nat.le_of_ble_eq_true rfl) (fun p e s m below meth c ls A X hr hlk hin hw hl => ?_)
  have hl : lv_has ls 4 [(0, .ref x0), (1, va_rf x1), (2, va_rf x2), (3, va_rf x3)] := by cases x1 <;> cases x2 <;> cases x3 <;> exact hl
  have hin := hin rfl
  have hx := X.1.1
  have hb := X.1.2.1
  have hml := X.1.2.2.1
  have hown := X.1.2.2.2.1
  have hts := X.1.2.2.2.2
  obtain ⟨H, eH⟩ : ∃ z, z = s.heap := ⟨_, rfl⟩
  rw [← eH] at hw ⊢
  obtain ⟨locs, eLo⟩ : ∃ z : List Loc, z = [] := ⟨_, rfl⟩
  rw [← eLo] at hw ⊢
  unfold wJ26_init at h
  refine lv_aload_n (pc := 0) hx hb dJ26_init_0 rfl (lv_at hl 0 rfl) ?_
  refine W.objInit hx hb hown (hts _ q1316) (hts _ q181) (hts _ q182) rfl (by rw [hml]; exact hl.1) rfl dJ26_init_1 (Nat.le_of_ble_eq_true rfl) (Nat.le_of_ble_eq_true rfl) ?_
  refine W.eq (g2 := F0 m 4 ls []) rfl ?_
  refine lv_aload_n (pc := 4) hx hb dJ26_init_4 rfl (lv_at hl 0 rfl) ?_
  refine lv_iconst (pc := 5) (v := (1 : Int32)) hx hb dJ26_init_5 (by decide) ?_
  obtain ⟨f2, f3, f4, f5, f6, f7, hN1, h⟩ := h
  refine c_put (pc := 6) X hw hN1 in_J26 tyJ26 tyJ26_ok nmJ26 rfl 5 (by decide) q1325 rfl rfl rfl rfl rfl (Nat.le_of_ble_eq_true rfl) dJ26_init_6 (fun H locs hw => ?_)
  obtain ⟨N8, e9⟩ : ∃ z, z = va_up N x0 (some (eO 20 [va_rf f2, va_rf f3, va_rf f4, va_rf f5, va_rf f6, .int (1 : Int32)])) := ⟨_, rfl⟩
  have hw : cH G A s [] N8 H locs := by rw [e9]; exact hw
  have h := h N8 e9
  have hN10 : N8 x0 = some (eO 20 [va_rf f2, va_rf f3, va_rf f4, va_rf f5, va_rf f6, .int (1 : Int32)]) := by rw [e9]; exact up_s
  refine lv_aload_n (pc := 9) hx hb dJ26_init_9 rfl (lv_at hl 0 rfl) ?_
  refine lq_aload_n (pc := 10) hx hb dJ26_init_10 rfl (lv_at hl 1 rfl) ?_
  refine c_put (pc := 11) (v := va_rf x1) X hw hN10 in_J26 tyJ26 tyJ26_ok nmJ26 rfl 0 (by decide) q1317 rfl rfl rfl (rf_n x1 _) (rf_f x1 _) (Nat.le_of_ble_eq_true rfl) dJ26_init_11 (fun H locs hw => ?_)
  obtain ⟨N11, e12⟩ : ∃ z, z = va_up N8 x0 (some (eO 20 [va_rf x1, va_rf f3, va_rf f4, va_rf f5, va_rf f6, .int (1 : Int32)])) := ⟨_, rfl⟩
  have hw : cH G A s [] N11 H locs := by rw [e12]; exact hw
  have h := h N11 e12
  have hN13 : N11 x0 = some (eO 20 [va_rf x1, va_rf f3, va_rf f4, va_rf f5, va_rf f6, .int (1 : Int32)]) := by rw [e12]; exact up_s
  refine lv_aload_n (pc := 14) hx hb dJ26_init_14 rfl (lv_at hl 0 rfl) ?_
  refine lq_aload_n (pc := 15) hx hb dJ26_init_15 rfl (lv_at hl 2 rfl) ?_
  refine c_put (pc := 16) (v := va_rf x2) X hw hN13 in_J26 tyJ26 tyJ26_ok nmJ26 rfl 1 (by decide) q1319 rfl rfl rfl (rf_n x2 _) (rf_f x2 _) (Nat.le_of_ble_eq_true rfl) dJ26_init_16 (fun H locs hw => ?_)
  obtain ⟨N14, e15⟩ : ∃ z, z = va_up N11 x0 (some (eO 20 [va_rf x1, va_rf x2, va_rf f4, va_rf f5, va_rf f6, .int (1 : Int32)])) := ⟨_, rfl⟩
  have hw : cH G A s [] N14 H locs := by rw [e15]; exact hw
  have h := h N14 e15
  have hN16 : N14 x0 = some (eO 20 [va_rf x1, va_rf x2, va_rf f4, va_rf f5, va_rf f6, .int (1 : Int32)]) := by rw [e15]; exact up_s
  refine lv_aload_n (pc := 19) hx hb dJ26_init_19 rfl (lv_at hl 0 rfl) ?_
  refine lq_aload_n (pc := 20) hx hb dJ26_init_20 rfl (lv_at hl 3 rfl) ?_
  refine c_put (pc := 21) (v := va_rf x3) X hw hN16 in_J26 tyJ26 tyJ26_ok nmJ26 rfl 4 (by decide) q1323 rfl rfl rfl (rf_n x3 _) (rf_f x3 _) (Nat.le_of_ble_eq_true rfl) dJ26_init_21 (fun H locs hw => ?_)
  obtain ⟨N17, e18⟩ : ∃ z, z = va_up N14 x0 (some (eO 20 [va_rf x1, va_rf x2, va_rf f4, va_rf f5, va_rf x3, .int (1 : Int32)])) := ⟨_, rfl⟩
  have hw : cH G A s [] N17 H locs := by rw [e18]; exact hw
  have h := h N17 e18
  have hN19 : N17 x0 = some (eO 20 [va_rf x1, va_rf x2, va_rf f4, va_rf f5, va_rf x3, .int (1 : Int32)]) := by rw [e18]; exact up_s
  exact W.vret (pc := 24) hx hb hr (fun t ht hW => c_ret (val := vV) (lw := jW) (u := N17) (v := ()) hw h ht) hw.2.2.2 dJ26_init_24 hlk

def wJ23_intValue (K : Nat → Nat → Nat) (post : Int32 → NM → Prop) (N : NM) (x0 : Nat) : Prop :=
  ∃ iv1, iAt K N x0 iv1 ∧ (post iv1 N)
theorem tJ23_intValue {l : Launch} {G : gG} (hO : gOk G) {post : Int32 → NM → Prop} {N : NM} {x0 : Nat} {sz : Nat} (h : wJ23_intValue (gC G) post N x0) : Met l yJ23_intValue (ws_ yJ23_intValue cJ23_intValue 1 (some .int)) ⟨0, 0, 0, 0⟩ (va_Pc [.ref x0] (cPre G [] N sz)) (gQ vI post (fun u H => cBw G (cA [] N sz) (jW u).1 (jW u).2 H) (cA [] N sz)) 0 0 (cA [] N sz) := by
  refine c_ofW (lw := jW) (by decide) hO (Nat.le_of_ble_eq_true rfl) (fun p e s m below meth c ls A X hr hlk hin hw hl => ?_)
  have hl : lv_has ls 1 [(0, .ref x0)] := hl
  have hx := X.1.1
  have hb := X.1.2.1
  have hml := X.1.2.2.1
  have hown := X.1.2.2.2.1
  have hts := X.1.2.2.2.2
  obtain ⟨H, eH⟩ : ∃ z, z = s.heap := ⟨_, rfl⟩
  rw [← eH] at hw ⊢
  obtain ⟨locs, eLo⟩ : ∃ z : List Loc, z = [] := ⟨_, rfl⟩
  rw [← eLo] at hw ⊢
  unfold wJ23_intValue at h
  refine lv_aload_n (pc := 0) hx hb dJ23_intValue_0 rfl (lv_at hl 0 rfl) ?_
  obtain ⟨iv1, hI2, h⟩ := h
  refine c_getI (pc := 1) X hw hI2 q996 dJ23_intValue_1 ?_
  exact W.iret (pc := 4) hx hb hr (fun t ht hW => c_ret (val := vI) (lw := jW) (u := N) hw h ht) hw.2.2.2 dJ23_intValue_4 hlk

def wX7_compare_2 (K : Nat → Nat → Nat) (post : Int32 → NM → Prop) (N : NM) (x0 : Nat) (x1 : Nat) (x2 : Nat) : Prop :=
  ∃ iv3, iAt K N x1 iv3 ∧ (wJ23_intValue K (fun r1 N2 => ∃ iv7, iAt K N2 x2 iv7 ∧ (wJ23_intValue K (fun r5 N6 => ((r5 ≤ r1) → (∃ iv12, iAt K N6 x1 iv12 ∧ (wJ23_intValue K (fun r10 N11 => ∃ iv16, iAt K N11 x2 iv16 ∧ (wJ23_intValue K (fun r14 N15 => ((r10 ≤ r14) → (post (0 : Int32) N15)) ∧ (¬ (r10 ≤ r14) → (post (-1 : Int32) N15))) N11 x2)) N6 x1))) ∧ (¬ (r5 ≤ r1) → (post (1 : Int32) N6))) N2 x2)) N x1)
theorem tX7_compare_2 {l : Launch} {G : gG} (hO : gOk G) {post : Int32 → NM → Prop} {N : NM} {x0 : Nat} {x1 : Nat} {x2 : Nat} {sz : Nat} (h : wX7_compare_2 (gC G) post N x0 x1 x2) : Met l yX7_compare_2 (ws_ yX7_compare_2 cX7_compare_2 3 (some .int)) ⟨1, 0, 0, 20⟩ (va_Pc [.ref x0, .ref x1, .ref x2] (cPre G [] N sz)) (gQ vI post (fun u H => cBw G (cA [] N sz) (jW u).1 (jW u).2 H) (cA [] N sz)) 0 0 (cA [] N sz) := by
  refine c_ofW (lw := jW) (by decide) hO (Nat.le_of_ble_eq_true rfl) (fun p e s m below meth c ls A X hr hlk hin hw hl => ?_)
  have hl : lv_has ls 3 [(0, .ref x0), (1, .ref x1), (2, .ref x2)] := hl
  have hx := X.1.1
  have hb := X.1.2.1
  have hml := X.1.2.2.1
  have hown := X.1.2.2.2.1
  have hts := X.1.2.2.2.2
  obtain ⟨H, eH⟩ : ∃ z, z = s.heap := ⟨_, rfl⟩
  rw [← eH] at hw ⊢
  obtain ⟨locs, eLo⟩ : ∃ z : List Loc, z = [] := ⟨_, rfl⟩
  rw [← eLo] at hw ⊢
  unfold wX7_compare_2 at h
  refine lv_aload_n (pc := 0) hx hb dX7_compare_2_0 rfl (lv_at hl 1 rfl) ?_
  obtain ⟨iv3, hI4, h⟩ := h
  refine c_callJ (pc := 1) (val := vI) X hw (va_runV (C := RJ23) (As := []) (rest := []) X.1 (tJ23_intValue X.2.2.1 (sz := H.size) h) (cwV 0 hts (lw_V q1027 q1028 q1029 q135 q1030) rfl rfl rfl ⟨rfl, by decide, by decide, (by decide +kernel : (parseMethodDescriptor yJ23_intValue.desc).map (fun d => d.parameters.length) = some 0)⟩ ⟨Nat.le_of_ble_eq_true rfl, Nat.le_of_ble_eq_true rfl⟩) ⟨cPre_blind, c_recvI X hw hI4, fun U hU hW => ⟨rfl, X.preJ hw hU hW⟩⟩ rfl rfl hl.1 rfl (lv_room (Nat.le_of_ble_eq_true rfl)) dX7_compare_2_1 ⟨show 0 + 0 ≤ 0 by omega, show 0 + 0 ≤ 0 by omega⟩) (fun r1 N2 H locs h hw => ?_)
  refine W.eq (g2 := F0 m 4 ls (.int r1 :: [])) rfl ?_
  refine lv_aload_n (pc := 4) hx hb dX7_compare_2_4 rfl (lv_at hl 2 rfl) ?_
  obtain ⟨iv7, hI8, h⟩ := h
  refine c_callJ (pc := 5) (val := vI) X hw (va_runV (C := RJ23) (As := []) (rest := [.int r1]) X.1 (tJ23_intValue X.2.2.1 (sz := H.size) h) (cwV 0 hts (lw_V q1027 q1028 q1029 q135 q1030) rfl rfl rfl ⟨rfl, by decide, by decide, (by decide +kernel : (parseMethodDescriptor yJ23_intValue.desc).map (fun d => d.parameters.length) = some 0)⟩ ⟨Nat.le_of_ble_eq_true rfl, Nat.le_of_ble_eq_true rfl⟩) ⟨cPre_blind, c_recvI X hw hI8, fun U hU hW => ⟨rfl, X.preJ hw hU hW⟩⟩ rfl rfl hl.1 rfl (lv_room (Nat.le_of_ble_eq_true rfl)) dX7_compare_2_5 ⟨show 0 + 0 ≤ 0 by omega, show 0 + 0 ≤ 0 by omega⟩) (fun r5 N6 H locs h hw => ?_)
  refine W.eq (g2 := F0 m 8 ls (.int r5 :: [.int r1])) rfl ?_
  refine lv_icmp_ge (pc := 8) (tgt := 15) hx hb dX7_compare_2_8 rfl (fun c9 => ?_) (fun c9 => ?_)
  · have h := h.1 c9
    refine lv_aload_n (pc := 15) hx hb dX7_compare_2_15 rfl (lv_at hl 1 rfl) ?_
    obtain ⟨iv12, hI13, h⟩ := h
    refine c_callJ (pc := 16) (val := vI) X hw (va_runV (C := RJ23) (As := []) (rest := []) X.1 (tJ23_intValue X.2.2.1 (sz := H.size) h) (cwV 0 hts (lw_V q1027 q1028 q1029 q135 q1030) rfl rfl rfl ⟨rfl, by decide, by decide, (by decide +kernel : (parseMethodDescriptor yJ23_intValue.desc).map (fun d => d.parameters.length) = some 0)⟩ ⟨Nat.le_of_ble_eq_true rfl, Nat.le_of_ble_eq_true rfl⟩) ⟨cPre_blind, c_recvI X hw hI13, fun U hU hW => ⟨rfl, X.preJ hw hU hW⟩⟩ rfl rfl hl.1 rfl (lv_room (Nat.le_of_ble_eq_true rfl)) dX7_compare_2_16 ⟨show 0 + 0 ≤ 0 by omega, show 0 + 0 ≤ 0 by omega⟩) (fun r10 N11 H locs h hw => ?_)
    refine W.eq (g2 := F0 m 19 ls (.int r10 :: [])) rfl ?_
    refine lv_aload_n (pc := 19) hx hb dX7_compare_2_19 rfl (lv_at hl 2 rfl) ?_
    obtain ⟨iv16, hI17, h⟩ := h
    refine c_callJ (pc := 20) (val := vI) X hw (va_runV (C := RJ23) (As := []) (rest := [.int r10]) X.1 (tJ23_intValue X.2.2.1 (sz := H.size) h) (cwV 0 hts (lw_V q1027 q1028 q1029 q135 q1030) rfl rfl rfl ⟨rfl, by decide, by decide, (by decide +kernel : (parseMethodDescriptor yJ23_intValue.desc).map (fun d => d.parameters.length) = some 0)⟩ ⟨Nat.le_of_ble_eq_true rfl, Nat.le_of_ble_eq_true rfl⟩) ⟨cPre_blind, c_recvI X hw hI17, fun U hU hW => ⟨rfl, X.preJ hw hU hW⟩⟩ rfl rfl hl.1 rfl (lv_room (Nat.le_of_ble_eq_true rfl)) dX7_compare_2_20 ⟨show 0 + 0 ≤ 0 by omega, show 0 + 0 ≤ 0 by omega⟩) (fun r14 N15 H locs h hw => ?_)
    refine W.eq (g2 := F0 m 23 ls (.int r14 :: [.int r10])) rfl ?_
    refine lv_icmp_le (pc := 23) (tgt := 30) hx hb dX7_compare_2_23 rfl (fun c18 => ?_) (fun c18 => ?_)
    · have h := h.1 c18
      refine lv_iconst (pc := 30) (v := (0 : Int32)) hx hb dX7_compare_2_30 (by decide) ?_
      exact W.iret (pc := 31) hx hb hr (fun t ht hW => c_ret (val := vI) (lw := jW) (u := N15) hw h ht) hw.2.2.2 dX7_compare_2_31 hlk
    · have h := h.2 c18
      refine lv_iconst (pc := 26) (v := (-1 : Int32)) hx hb dX7_compare_2_26 (by decide) ?_
      refine lv_goto (pc := 27) (tgt := 31) hx hb dX7_compare_2_27 rfl ?_
      exact W.iret (pc := 31) hx hb hr (fun t ht hW => c_ret (val := vI) (lw := jW) (u := N15) hw h ht) hw.2.2.2 dX7_compare_2_31 hlk
  · have h := h.2 c9
    refine lv_iconst (pc := 11) (v := (1 : Int32)) hx hb dX7_compare_2_11 (by decide) ?_
    refine lv_goto (pc := 12) (tgt := 31) hx hb dX7_compare_2_12 rfl ?_
    exact W.iret (pc := 31) hx hb hr (fun t ht hW => c_ret (val := vI) (lw := jW) (u := N6) hw h ht) hw.2.2.2 dX7_compare_2_31 hlk

def wX7_compare (K : Nat → Nat → Nat) (post : Int32 → NM → Prop) (N : NM) (x0 : Nat) (x1 : Nat) (x2 : Nat) : Prop :=
  ∃ iv1, iAt K N x1 iv1 ∧ (∃ iv3, iAt K N x2 iv3 ∧ (N x0 = some (eO 13 []) ∧ (wX7_compare_2 K (fun r5 N6 => post r5 N6) N x0 x1 x2)))
theorem tX7_compare {l : Launch} {G : gG} (hO : gOk G) {post : Int32 → NM → Prop} {N : NM} {x0 : Nat} {x1 : Nat} {x2 : Nat} {sz : Nat} (h : wX7_compare (gC G) post N x0 x1 x2) : Met l yX7_compare (ws_ yX7_compare cX7_compare 3 (some .int)) ⟨2, 0, 0, 42⟩ (va_Pc [.ref x0, .ref x1, .ref x2] (cPre G [] N sz)) (gQ vI post (fun u H => cBw G (cA [] N sz) (jW u).1 (jW u).2 H) (cA [] N sz)) 0 0 (cA [] N sz) := by
  refine c_ofW (lw := jW) (by decide) hO (Nat.le_of_ble_eq_true rfl) (fun p e s m below meth c ls A X hr hlk hin hw hl => ?_)
  have hl : lv_has ls 3 [(0, .ref x0), (1, .ref x1), (2, .ref x2)] := hl
  have hx := X.1.1
  have hb := X.1.2.1
  have hml := X.1.2.2.1
  have hown := X.1.2.2.2.1
  have hts := X.1.2.2.2.2
  obtain ⟨H, eH⟩ : ∃ z, z = s.heap := ⟨_, rfl⟩
  rw [← eH] at hw ⊢
  obtain ⟨locs, eLo⟩ : ∃ z : List Loc, z = [] := ⟨_, rfl⟩
  rw [← eLo] at hw ⊢
  unfold wX7_compare at h
  refine lv_aload_n (pc := 0) hx hb dX7_compare_0 rfl (lv_at hl 0 rfl) ?_
  refine lv_aload_n (pc := 1) hx hb dX7_compare_1 rfl (lv_at hl 1 rfl) ?_
  obtain ⟨iv1, hI2, h⟩ := h
  refine c_castI (pc := 2) X hw hI2 q1022 dX7_compare_2 ?_
  refine lv_aload_n (pc := 5) hx hb dX7_compare_5 rfl (lv_at hl 2 rfl) ?_
  obtain ⟨iv3, hI4, h⟩ := h
  refine c_castI (pc := 6) X hw hI4 q1022 dX7_compare_6 ?_
  obtain ⟨hN7, h⟩ := h
  refine c_callJ (pc := 9) (val := vI) X hw (va_runV (C := RX7) (As := [.ref x1, .ref x2]) (rest := []) X.1 (tX7_compare_2 X.2.2.1 (sz := H.size) h) (cwV 2 hts (lw_V q1023 q1024 q1025 q133 q1026) rfl rfl rfl ⟨rfl, by decide, by decide, (by decide +kernel : (parseMethodDescriptor yX7_compare_2.desc).map (fun d => d.parameters.length) = some 2)⟩ ⟨Nat.le_of_ble_eq_true rfl, Nat.le_of_ble_eq_true rfl⟩) ⟨cPre_blind, c_recv X hw hN7 rfl, fun U hU hW => ⟨rfl, X.preJ hw hU hW⟩⟩ rfl rfl hl.1 rfl (lv_room (Nat.le_of_ble_eq_true rfl)) dX7_compare_9 ⟨show 0 + 0 ≤ 0 by omega, show 0 + 0 ≤ 0 by omega⟩) (fun r5 N6 H locs h hw => ?_)
  refine W.eq (g2 := F0 m 12 ls (.int r5 :: [])) rfl ?_
  exact W.iret (pc := 12) hx hb hr (fun t ht hW => c_ret (val := vI) (lw := jW) (u := N6) hw h ht) hw.2.2.2 dX7_compare_12 hlk

def wJ20_init (K : Nat → Nat → Nat) (post : Unit → NM → Prop) (N : NM) (x0 : Nat) : Prop :=
  post () N
theorem tJ20_init {l : Launch} {G : gG} (hO : gOk G) {post : Unit → NM → Prop} {N : NM} {x0 : Nat} {sz : Nat} (h : wJ20_init (gC G) post N x0) : Met l yJ20_init (ws_ yJ20_init cJ20_init 1 none) ⟨1, 0, 0, 20⟩ (va_Pc [.ref x0] (cPre G [] N sz)) (gQ vV post (fun u H => cBw G (cA [] N sz) (jW u).1 (jW u).2 H) (cA [] N sz)) 0 0 (cA [] N sz) := by
  refine c_ofW (lw := jW) (by decide) hO (Nat.le_of_ble_eq_true rfl) (fun p e s m below meth c ls A X hr hlk hin hw hl => ?_)
  have hl : lv_has ls 1 [(0, .ref x0)] := hl
  have hin := hin rfl
  have hx := X.1.1
  have hb := X.1.2.1
  have hml := X.1.2.2.1
  have hown := X.1.2.2.2.1
  have hts := X.1.2.2.2.2
  obtain ⟨H, eH⟩ : ∃ z, z = s.heap := ⟨_, rfl⟩
  rw [← eH] at hw ⊢
  obtain ⟨locs, eLo⟩ : ∃ z : List Loc, z = [] := ⟨_, rfl⟩
  rw [← eLo] at hw ⊢
  unfold wJ20_init at h
  refine lv_aload_n (pc := 0) hx hb dJ20_init_0 rfl (lv_at hl 0 rfl) ?_
  refine W.objInit hx hb hown (hts _ q947) (hts _ q181) (hts _ q182) rfl (by rw [hml]; exact hl.1) rfl dJ20_init_1 (Nat.le_of_ble_eq_true rfl) (Nat.le_of_ble_eq_true rfl) ?_
  refine W.eq (g2 := F0 m 4 ls []) rfl ?_
  exact W.vret (pc := 4) hx hb hr (fun t ht hW => c_ret (val := vV) (lw := jW) (u := N) (v := ()) hw h ht) hw.2.2.2 dJ20_init_4 hlk

def wJ21_init (K : Nat → Nat → Nat) (post : Unit → NM → Prop) (N : NM) (x0 : Nat) (x1 : Nat) : Prop :=
  wJ20_init K (fun _ N2 => ∃ f4 f5 f6 f7 f8 f9 f10 f11 f12, N2 x0 = some (eO 19 [va_rf f4, va_rf f5, va_rf f6, va_rf f7, .int f8, .int f9, va_rf f10, va_rf f11, va_rf f12]) ∧ (∀ N13, N13 = va_up N2 x0 (some (eO 19 [va_rf f4, va_rf f5, va_rf f6, va_rf f7, .int (0 : Int32), .int f9, va_rf f10, va_rf f11, va_rf f12])) → (∀ N16, N16 = va_up N13 x0 (some (eO 19 [va_rf f4, va_rf f5, va_rf f6, va_rf f7, .int (0 : Int32), .int (0 : Int32), va_rf f10, va_rf f11, va_rf f12])) → (∀ N19, N19 = va_up N16 x0 (some (eO 19 [va_rf f4, va_rf f5, va_rf (some x1), va_rf f7, .int (0 : Int32), .int (0 : Int32), va_rf f10, va_rf f11, va_rf f12])) → (post () N19))))) N x0
theorem tJ21_init {l : Launch} {G : gG} (hO : gOk G) {post : Unit → NM → Prop} {N : NM} {x0 : Nat} {x1 : Nat} {sz : Nat} (h : wJ21_init (gC G) post N x0 x1) : Met l yJ21_init (ws_ yJ21_init cJ21_init 2 none) ⟨2, 0, 0, 40⟩ (va_Pc [.ref x0, .ref x1] (cPre G [] N sz)) (gQ vV post (fun u H => cBw G (cA [] N sz) (jW u).1 (jW u).2 H) (cA [] N sz)) 0 0 (cA [] N sz) := by
  refine c_ofW (lw := jW) (by decide) hO (Nat.le_of_ble_eq_true rfl) (fun p e s m below meth c ls A X hr hlk hin hw hl => ?_)
  have hl : lv_has ls 2 [(0, .ref x0), (1, .ref x1)] := hl
  have hin := hin rfl
  have hx := X.1.1
  have hb := X.1.2.1
  have hml := X.1.2.2.1
  have hown := X.1.2.2.2.1
  have hts := X.1.2.2.2.2
  obtain ⟨H, eH⟩ : ∃ z, z = s.heap := ⟨_, rfl⟩
  rw [← eH] at hw ⊢
  obtain ⟨locs, eLo⟩ : ∃ z : List Loc, z = [] := ⟨_, rfl⟩
  rw [← eLo] at hw ⊢
  unfold wJ21_init at h
  refine lv_aload_n (pc := 0) hx hb dJ21_init_0 rfl (lv_at hl 0 rfl) ?_
  refine c_callJ (pc := 1) (val := vV) X hw (va_runI (As := []) (rest := []) X.1 (tJ20_init X.2.2.1 (sz := H.size) h) (cwI 0 hts (lw_meth q946) rfl rfl rfl (hts _ q131) (hts _ q944) (hts _ q945) rfl ⟨by decide, by decide, (by decide +kernel : (parseMethodDescriptor yJ20_init.desc).map (fun d => d.parameters.length) = some 0)⟩ ⟨Nat.le_of_ble_eq_true rfl, Nat.le_of_ble_eq_true rfl⟩) ⟨cPre_blind, fun U hU hW => ⟨rfl, X.preJ hw hU hW⟩⟩ rfl rfl hl.1 rfl (lv_room (Nat.le_of_ble_eq_true rfl)) dJ21_init_1 ⟨show 0 + 0 ≤ 0 by omega, show 0 + 0 ≤ 0 by omega⟩) (fun _ N2 H locs h hw => ?_)
  refine W.eq (g2 := F0 m 4 ls ([])) rfl ?_
  refine lv_aload_n (pc := 4) hx hb dJ21_init_4 rfl (lv_at hl 0 rfl) ?_
  refine lv_iconst (pc := 5) (v := (0 : Int32)) hx hb dJ21_init_5 (by decide) ?_
  obtain ⟨f4, f5, f6, f7, f8, f9, f10, f11, f12, hN3, h⟩ := h
  refine c_put (pc := 6) X hw hN3 in_J21 tyJ21 tyJ21_ok nmJ21 rfl 4 (by decide) q950 rfl rfl rfl rfl rfl (Nat.le_of_ble_eq_true rfl) dJ21_init_6 (fun H locs hw => ?_)
  obtain ⟨N13, e14⟩ : ∃ z, z = va_up N2 x0 (some (eO 19 [va_rf f4, va_rf f5, va_rf f6, va_rf f7, .int (0 : Int32), .int f9, va_rf f10, va_rf f11, va_rf f12])) := ⟨_, rfl⟩
  have hw : cH G A s [] N13 H locs := by rw [e14]; exact hw
  have h := h N13 e14
  have hN15 : N13 x0 = some (eO 19 [va_rf f4, va_rf f5, va_rf f6, va_rf f7, .int (0 : Int32), .int f9, va_rf f10, va_rf f11, va_rf f12]) := by rw [e14]; exact up_s
  refine lv_aload_n (pc := 9) hx hb dJ21_init_9 rfl (lv_at hl 0 rfl) ?_
  refine lv_iconst (pc := 10) (v := (0 : Int32)) hx hb dJ21_init_10 (by decide) ?_
  refine c_put (pc := 11) X hw hN15 in_J21 tyJ21 tyJ21_ok nmJ21 rfl 5 (by decide) q951 rfl rfl rfl rfl rfl (Nat.le_of_ble_eq_true rfl) dJ21_init_11 (fun H locs hw => ?_)
  obtain ⟨N16, e17⟩ : ∃ z, z = va_up N13 x0 (some (eO 19 [va_rf f4, va_rf f5, va_rf f6, va_rf f7, .int (0 : Int32), .int (0 : Int32), va_rf f10, va_rf f11, va_rf f12])) := ⟨_, rfl⟩
  have hw : cH G A s [] N16 H locs := by rw [e17]; exact hw
  have h := h N16 e17
  have hN18 : N16 x0 = some (eO 19 [va_rf f4, va_rf f5, va_rf f6, va_rf f7, .int (0 : Int32), .int (0 : Int32), va_rf f10, va_rf f11, va_rf f12]) := by rw [e17]; exact up_s
  refine lv_aload_n (pc := 14) hx hb dJ21_init_14 rfl (lv_at hl 0 rfl) ?_
  refine lv_aload_n (pc := 15) hx hb dJ21_init_15 rfl (lv_at hl 1 rfl) ?_
  refine c_putF (pc := 16) (v := va_rf (some x1)) X hw hN18 in_J21 tyJ21 tyJ21_ok nmJ21 rfl 2 (by decide) q948 rfl rfl hin rfl rfl (rf_n (some x1) _) (rf_f (some x1) _) (Nat.le_of_ble_eq_true rfl) dJ21_init_16 (fun H locs hw => ?_)
  obtain ⟨N19, e20⟩ : ∃ z, z = va_up N16 x0 (some (eO 19 [va_rf f4, va_rf f5, va_rf (some x1), va_rf f7, .int (0 : Int32), .int (0 : Int32), va_rf f10, va_rf f11, va_rf f12])) := ⟨_, rfl⟩
  have hw : cH G A s [] N19 H locs := by rw [e20]; exact hw
  have h := h N19 e20
  have hN21 : N19 x0 = some (eO 19 [va_rf f4, va_rf f5, va_rf (some x1), va_rf f7, .int (0 : Int32), .int (0 : Int32), va_rf f10, va_rf f11, va_rf f12]) := by rw [e20]; exact up_s
  exact W.vret (pc := 19) hx hb hr (fun t ht hW => c_ret (val := vV) (lw := jW) (u := N19) (v := ()) hw h ht) hw.2.2.2 dJ21_init_19 hlk

def wJ21_compare (K : Nat → Nat → Nat) (post : Int32 → NM → Prop) (N : NM) (x0 : Nat) (x1 : Nat) (x2 : Nat) : Prop :=
  ∃ f2 f3 f4 f5 f6 f7 f8 f9 f10, N x0 = some (eO 19 [va_rf f2, va_rf f3, va_rf f4, va_rf f5, .int f6, .int f7, va_rf f8, va_rf f9, va_rf f10]) ∧ ((f4 = none → (False)) ∧ (∀ a12, f4 = some a12 → (N a12 = some (eO 13 []) ∧ (wX7_compare K (fun r14 N15 => post r14 N15) N a12 x1 x2))))
theorem tJ21_compare {l : Launch} {G : gG} (hO : gOk G) {post : Int32 → NM → Prop} {N : NM} {x0 : Nat} {x1 : Nat} {x2 : Nat} {sz : Nat} (h : wJ21_compare (gC G) post N x0 x1 x2) : Met l yJ21_compare (ws_ yJ21_compare cJ21_compare 3 (some .int)) ⟨3, 0, 0, 64⟩ (va_Pc [.ref x0, .ref x1, .ref x2] (cPre G [] N sz)) (gQ vI post (fun u H => cBw G (cA [] N sz) (jW u).1 (jW u).2 H) (cA [] N sz)) 0 0 (cA [] N sz) := by
  refine c_ofW (lw := jW) (by decide) hO (Nat.le_of_ble_eq_true rfl) (fun p e s m below meth c ls A X hr hlk hin hw hl => ?_)
  have hl : lv_has ls 3 [(0, .ref x0), (1, .ref x1), (2, .ref x2)] := hl
  have hx := X.1.1
  have hb := X.1.2.1
  have hml := X.1.2.2.1
  have hown := X.1.2.2.2.1
  have hts := X.1.2.2.2.2
  obtain ⟨H, eH⟩ : ∃ z, z = s.heap := ⟨_, rfl⟩
  rw [← eH] at hw ⊢
  obtain ⟨locs, eLo⟩ : ∃ z : List Loc, z = [] := ⟨_, rfl⟩
  rw [← eLo] at hw ⊢
  unfold wJ21_compare at h
  refine lv_aload_n (pc := 0) hx hb dJ21_compare_0 rfl (lv_at hl 0 rfl) ?_
  obtain ⟨f2, f3, f4, f5, f6, f7, f8, f9, f10, hN1, h⟩ := h
  refine c_get (pc := 1) X hw hN1 in_J21 rfl 2 (by decide) q948 rfl rfl dJ21_compare_1 ?_
  refine lq_ifnonnull (pc := 4) (tgt := 20) hx hb dJ21_compare_4 rfl (fun hz11 => ?_) (fun a12 hr13 => ?_)
  · have h := h.1 hz11
    exact False.elim h
  · have h := h.2 a12 hr13
    refine lv_aload_n (pc := 20) hx hb dJ21_compare_20 rfl (lv_at hl 0 rfl) ?_
    refine c_get (pc := 21) X hw hN1 in_J21 rfl 2 (by decide) q948 rfl rfl dJ21_compare_21 ?_
    refine lv_aload_n (pc := 24) hx hb dJ21_compare_24 rfl (lv_at hl 1 rfl) ?_
    refine lv_aload_n (pc := 25) hx hb dJ21_compare_25 rfl (lv_at hl 2 rfl) ?_
    refine W.eq (g2 := F0 m 26 ls [.ref x2, .ref x1, .ref a12]) (by rw [hr13]; rfl) ?_
    obtain ⟨hN16, h⟩ := h
    refine c_callF (pc := 26) (val := vI) X hw (va_runF (X.2.1.1 13 _ rfl).2 (As := [.ref x1, .ref x2]) (rest := []) X.1 (tX7_compare X.2.2.1 (sz := H.size) h) (va_cwF 2 hts (lw_app (lw_l4 q1013 q1017 q1019 q133) (lw_meth q1021)) rfl rfl rfl (X.2.2.2.1.Fw ⟨by decide, by decide⟩ X.2.2.1 q1015 q1014 q1020 q1018 q1016) ⟨by decide, by decide, (by decide +kernel : (parseMethodDescriptor yX7_compare.desc).map (fun d => d.parameters.length) = some 2)⟩ ⟨Nat.le_of_ble_eq_true rfl, Nat.le_of_ble_eq_true rfl⟩) ⟨cPre_blind, c_recv X hw hN16 rfl, fun U hU hW => ⟨rfl, X.preJ hw hU hW⟩⟩ rfl rfl hl.1 rfl (lv_room (Nat.le_of_ble_eq_true rfl)) dJ21_compare_26 ⟨show 0 + 0 ≤ 0 by omega, show 0 + 0 ≤ 0 by omega⟩) (fun r14 N15 H locs h hw => ?_)
    refine W.eq (g2 := F0 m 31 ls (.int r14 :: [])) rfl ?_
    exact W.iret (pc := 31) hx hb hr (fun t ht hW => c_ret (val := vI) (lw := jW) (u := N15) hw h ht) hw.2.2.2 dJ21_compare_31 hlk

def wJ21_getEntryUsingComparator_69 (K : Nat → Nat → Nat) (K17 : Nat → Option Nat → Option Nat → NM → Prop) (post : Option Nat → NM → Prop) (x2 : Nat) (x3 : Option Nat) (x4 : Option Nat) (N : NM) : Prop :=
  K17 x2 x3 x4 N
def wJ21_getEntryUsingComparator_17 (K : Nat → Nat → Nat) (post : Option Nat → NM → Prop) : Nat → Nat → Option Nat → Option Nat → NM → Prop
  | 0, _, _, _, _ => False
  | n + 1, x2, x3, x4, N => (x4 = none → (post none N)) ∧ (∀ a15, x4 = some a15 → (∃ f18 f19 f20 f21 f22 f23, N a15 = some (eO 20 [va_rf f18, va_rf f19, va_rf f20, va_rf f21, va_rf f22, .int f23]) ∧ (∃ a24, x3 = some a24 ∧ (∃ a26, f18 = some a26 ∧ (N a24 = some (eO 13 []) ∧ (wX7_compare K (fun r28 N29 => (((0 : Int32) ≤ r28) → (((r28 ≤ (0 : Int32)) → (post x4 N29)) ∧ (¬ (r28 ≤ (0 : Int32)) → (∃ f34 f35 f36 f37 f38 f39, N29 a15 = some (eO 20 [va_rf f34, va_rf f35, va_rf f36, va_rf f37, va_rf f38, .int f39]) ∧ (wJ21_getEntryUsingComparator_69 K (fun x2 x3 x4 N => wJ21_getEntryUsingComparator_17 K post n x2 x3 x4 N) post x2 x3 f37 N29))))) ∧ (¬ ((0 : Int32) ≤ r28) → (∃ f41 f42 f43 f44 f45 f46, N29 a15 = some (eO 20 [va_rf f41, va_rf f42, va_rf f43, va_rf f44, va_rf f45, .int f46]) ∧ (wJ21_getEntryUsingComparator_69 K (fun x2 x3 x4 N => wJ21_getEntryUsingComparator_17 K post n x2 x3 x4 N) post x2 x3 f43 N29)))) N a24 x2 a26))))))
def wJ21_getEntryUsingComparator (K : Nat → Nat → Nat) (post : Option Nat → NM → Prop) (N : NM) (x0 : Nat) (x1 : Nat) : Prop :=
  ∃ f2 f3 f4 f5 f6 f7 f8 f9 f10, N x0 = some (eO 19 [va_rf f2, va_rf f3, va_rf f4, va_rf f5, .int f6, .int f7, va_rf f8, va_rf f9, va_rf f10]) ∧ ((f4 = none → (post none N)) ∧ (∀ a12, f4 = some a12 → ((∃ k, wJ21_getEntryUsingComparator_17 K post k x1 f4 f5 N))))
theorem kJ21_getEntryUsingComparator_69 {p : Program} {l : Launch} {e : Env} {s : State} {m : MethodId} {args : Array Value} {below : List Frame} {meth : Method} {c : Code} {G : gG} {A : Nat → Prop} {K17 : Nat → Option Nat → Option Nat → NM → Prop} {post : Option Nat → NM → Prop} (X : cX G A RJ21 p s m args c cJ21_getEntryUsingComparator 6) (hr : meth.sig.returnType = (some (.object "java/util/TreeMap$Entry"))) (hlk : meth.locks = false) (hK17 : ∀ (x2 : Nat) (x3 : Option Nat) (x4 : Option Nat) (N : NM) (H : Heap) (locs : List Loc) (ls : Array Slot), K17 x2 x3 x4 N → cH G A s [] N H locs → lv_has ls 6 [(2, .ref x2), (3, va_rf x3), (4, va_rf x4)] → W p l e ⟨3, 0, 0, 64⟩ s m args below meth c H locs 0 0 (MQ below (gQ vQ post (fun u H => cBw G A (jW u).1 (jW u).2 H) A) args s 0 0 A) (F0 m 17 ls [])) : ∀ (x2 : Nat) (x3 : Option Nat) (x4 : Option Nat) (N : NM) (H : Heap) (locs : List Loc) (ls : Array Slot), wJ21_getEntryUsingComparator_69 (gC G) K17 post x2 x3 x4 N → cH G A s [] N H locs → lv_has ls 6 [(2, .ref x2), (3, va_rf x3), (4, va_rf x4)] → W p l e ⟨3, 0, 0, 64⟩ s m args below meth c H locs 0 0 (MQ below (gQ vQ post (fun u H => cBw G A (jW u).1 (jW u).2 H) A) args s 0 0 A) (F0 m 69 ls []) := by
  have hx := X.1.1
  have hb := X.1.2.1
  have hml := X.1.2.2.1
  have hown := X.1.2.2.2.1
  have hts := X.1.2.2.2.2
  intro x2 x3 x4 N H locs ls h hw hl
  unfold wJ21_getEntryUsingComparator_69 at h
  refine lv_goto (pc := 69) (tgt := 17) hx hb dJ21_getEntryUsingComparator_69 rfl ?_
  exact hK17 _ _ _ _ _ _ _ h hw (lv_sub hl [0, 1, 2] rfl)
theorem kJ21_getEntryUsingComparator_17 {p : Program} {l : Launch} {e : Env} {s : State} {m : MethodId} {args : Array Value} {below : List Frame} {meth : Method} {c : Code} {G : gG} {A : Nat → Prop} {post : Option Nat → NM → Prop} (X : cX G A RJ21 p s m args c cJ21_getEntryUsingComparator 6) (hr : meth.sig.returnType = (some (.object "java/util/TreeMap$Entry"))) (hlk : meth.locks = false) : ∀ (n : Nat) (x2 : Nat) (x3 : Option Nat) (x4 : Option Nat) (N : NM) (H : Heap) (locs : List Loc) (ls : Array Slot), wJ21_getEntryUsingComparator_17 (gC G) post n x2 x3 x4 N → cH G A s [] N H locs → lv_has ls 6 [(2, .ref x2), (3, va_rf x3), (4, va_rf x4)] → W p l e ⟨3, 0, 0, 64⟩ s m args below meth c H locs 0 0 (MQ below (gQ vQ post (fun u H => cBw G A (jW u).1 (jW u).2 H) A) args s 0 0 A) (F0 m 17 ls []) := by
  have hx := X.1.1
  have hb := X.1.2.1
  have hml := X.1.2.2.1
  have hown := X.1.2.2.2.1
  have hts := X.1.2.2.2.2
  intro n
  induction n with
  | zero =>
    intro x2 x3 x4 N H locs ls h
    exact False.elim h
  | succ n ih =>
    intro x2 x3 x4 N H locs ls h hw hl
    unfold wJ21_getEntryUsingComparator_17 at h
    refine lq_aload (pc := 17) hx hb dJ21_getEntryUsingComparator_17 (lv_at hl 2 rfl) ?_
    refine lq_ifnull (pc := 19) (tgt := 72) hx hb dJ21_getEntryUsingComparator_19 rfl (fun hz14 => ?_) (fun a15 hr16 => ?_)
    · have h := h.1 hz14
      refine lv_null (pc := 72) hx hb dJ21_getEntryUsingComparator_72 ?_
      exact W.aret (pc := 73) (v := va_rf none) hx hb hr (Or.inl ⟨_, rfl⟩) (va_rf_or _) (fun t ht hW => c_ret (val := vQ) (lw := jW) (u := N) hw h ht) hw.2.2.2 dJ21_getEntryUsingComparator_73 hlk
    · have h := h.2 a15 hr16
      refine lq_aload_n (pc := 22) hx hb dJ21_getEntryUsingComparator_22 rfl (lv_at hl 1 rfl) ?_
      refine lv_aload_n (pc := 23) hx hb dJ21_getEntryUsingComparator_23 rfl (lv_at hl 0 rfl) ?_
      refine lq_aload (pc := 24) hx hb dJ21_getEntryUsingComparator_24 (lv_at hl 2 rfl) ?_
      refine W.eq (g2 := F0 m 26 ls [.ref a15, .ref x2, va_rf x3]) (by rw [hr16]; rfl) ?_
      obtain ⟨f18, f19, f20, f21, f22, f23, hN17, h⟩ := h
      refine c_get (pc := 26) X hw hN17 in_J26 rfl 0 (by decide) q1318 rfl rfl dJ21_getEntryUsingComparator_26 ?_
      obtain ⟨a24, hr25, h⟩ := h
      refine W.eq (g2 := F0 m 29 ls [va_rf f18, .ref x2, .ref a24]) (by rw [hr25]; rfl) ?_
      obtain ⟨a26, hr27, h⟩ := h
      refine W.eq (g2 := F0 m 29 ls [.ref a26, .ref x2, .ref a24]) (by rw [hr27]; rfl) ?_
      obtain ⟨hN30, h⟩ := h
      refine c_callF (pc := 29) (val := vI) X hw (va_runF (X.2.1.1 13 _ rfl).2 (As := [.ref x2, .ref a26]) (rest := []) X.1 (tX7_compare X.2.2.1 (sz := H.size) h) (va_cwF 2 hts (lw_app (lw_l4 q1013 q1017 q1019 q133) (lw_meth q1021)) rfl rfl rfl (X.2.2.2.1.Fw ⟨by decide, by decide⟩ X.2.2.1 q1015 q1014 q1020 q1018 q1016) ⟨by decide, by decide, (by decide +kernel : (parseMethodDescriptor yX7_compare.desc).map (fun d => d.parameters.length) = some 2)⟩ ⟨Nat.le_of_ble_eq_true rfl, Nat.le_of_ble_eq_true rfl⟩) ⟨cPre_blind, c_recv X hw hN30 rfl, fun U hU hW => ⟨rfl, X.preJ hw hU hW⟩⟩ rfl rfl hl.1 rfl (lv_room (Nat.le_of_ble_eq_true rfl)) dJ21_getEntryUsingComparator_29 ⟨show 0 + 0 ≤ 0 by omega, show 0 + 0 ≤ 0 by omega⟩) (fun r28 N29 H locs h hw => ?_)
      refine W.eq (g2 := F0 m 34 ls (.int r28 :: [])) rfl ?_
      refine lv_istore (pc := 34) (i := 5) (lv' := [(5, .int r28), (2, .ref x2), (3, va_rf x3), (4, va_rf x4)]) hx hb dJ21_getEntryUsingComparator_34 hl (by decide) (by simp [rf_c]) (fun ls hl => ?_)
      refine lv_iload (pc := 36) hx hb dJ21_getEntryUsingComparator_36 (lv_at hl 0 rfl) ?_
      refine lv_if_ge (pc := 38) (tgt := 51) hx hb dJ21_getEntryUsingComparator_38 rfl (fun c31 => ?_) (fun c31 => ?_)
      · have h := h.1 c31
        refine lv_iload (pc := 51) hx hb dJ21_getEntryUsingComparator_51 (lv_at hl 0 rfl) ?_
        refine lv_if_le (pc := 53) (tgt := 66) hx hb dJ21_getEntryUsingComparator_53 rfl (fun c32 => ?_) (fun c32 => ?_)
        · have h := h.1 c32
          refine lq_aload (pc := 66) hx hb dJ21_getEntryUsingComparator_66 (lv_at hl 3 rfl) ?_
          exact W.aret (pc := 68) (v := va_rf x4) hx hb hr (Or.inl ⟨_, rfl⟩) (va_rf_or _) (fun t ht hW => c_ret (val := vQ) (lw := jW) (u := N29) hw h ht) hw.2.2.2 dJ21_getEntryUsingComparator_68 hlk
        · have h := h.2 c32
          refine lq_aload (pc := 56) hx hb dJ21_getEntryUsingComparator_56 (lv_at hl 3 rfl) ?_
          refine W.eq (g2 := F0 m 58 ls [.ref a15]) (by rw [hr16]; rfl) ?_
          obtain ⟨f34, f35, f36, f37, f38, f39, hN33, h⟩ := h
          refine c_get (pc := 58) X hw hN33 in_J26 rfl 3 (by decide) q1322 rfl rfl dJ21_getEntryUsingComparator_58 ?_
          refine lq_astore (pc := 61) (i := 4) (lv' := [(4, va_rf f37), (5, .int r28), (2, .ref x2), (3, va_rf x3)]) hx hb dJ21_getEntryUsingComparator_61 hl (by decide) (by simp [rf_c]) (fun ls hl => ?_)
          refine lv_goto (pc := 63) (tgt := 69) hx hb dJ21_getEntryUsingComparator_63 rfl ?_
          exact kJ21_getEntryUsingComparator_69 X hr hlk ih _ _ _ _ _ _ _ h hw (lv_sub hl [2, 3, 0] rfl)
      · have h := h.2 c31
        refine lq_aload (pc := 41) hx hb dJ21_getEntryUsingComparator_41 (lv_at hl 3 rfl) ?_
        refine W.eq (g2 := F0 m 43 ls [.ref a15]) (by rw [hr16]; rfl) ?_
        obtain ⟨f41, f42, f43, f44, f45, f46, hN40, h⟩ := h
        refine c_get (pc := 43) X hw hN40 in_J26 rfl 2 (by decide) q1321 rfl rfl dJ21_getEntryUsingComparator_43 ?_
        refine lq_astore (pc := 46) (i := 4) (lv' := [(4, va_rf f43), (5, .int r28), (2, .ref x2), (3, va_rf x3)]) hx hb dJ21_getEntryUsingComparator_46 hl (by decide) (by simp [rf_c]) (fun ls hl => ?_)
        refine lv_goto (pc := 48) (tgt := 69) hx hb dJ21_getEntryUsingComparator_48 rfl ?_
        exact kJ21_getEntryUsingComparator_69 X hr hlk ih _ _ _ _ _ _ _ h hw (lv_sub hl [2, 3, 0] rfl)
theorem tJ21_getEntryUsingComparator {l : Launch} {G : gG} (hO : gOk G) {post : Option Nat → NM → Prop} {N : NM} {x0 : Nat} {x1 : Nat} {sz : Nat} (h : wJ21_getEntryUsingComparator (gC G) post N x0 x1) : Met l yJ21_getEntryUsingComparator (ws_ yJ21_getEntryUsingComparator cJ21_getEntryUsingComparator 6 (some (.object "java/util/TreeMap$Entry"))) ⟨3, 0, 0, 64⟩ (va_Pc [.ref x0, .ref x1] (cPre G [] N sz)) (gQ vQ post (fun u H => cBw G (cA [] N sz) (jW u).1 (jW u).2 H) (cA [] N sz)) 0 0 (cA [] N sz) := by
  refine c_ofW (lw := jW) (by decide) hO (Nat.le_of_ble_eq_true rfl) (fun p e s m below meth c ls A X hr hlk hin hw hl => ?_)
  have hl : lv_has ls 6 [(0, .ref x0), (1, .ref x1)] := hl
  have hx := X.1.1
  have hb := X.1.2.1
  have hml := X.1.2.2.1
  have hown := X.1.2.2.2.1
  have hts := X.1.2.2.2.2
  obtain ⟨H, eH⟩ : ∃ z, z = s.heap := ⟨_, rfl⟩
  rw [← eH] at hw ⊢
  obtain ⟨locs, eLo⟩ : ∃ z : List Loc, z = [] := ⟨_, rfl⟩
  rw [← eLo] at hw ⊢
  unfold wJ21_getEntryUsingComparator at h
  refine lv_aload_n (pc := 0) hx hb dJ21_getEntryUsingComparator_0 rfl (lv_at hl 1 rfl) ?_
  refine lv_astore_n (pc := 1) (lv' := [(2, .ref x1), (0, .ref x0), (1, .ref x1)]) hx hb dJ21_getEntryUsingComparator_1 rfl hl (by decide) rfl (fun ls hl => ?_)
  refine lv_aload_n (pc := 2) hx hb dJ21_getEntryUsingComparator_2 rfl (lv_at hl 1 rfl) ?_
  obtain ⟨f2, f3, f4, f5, f6, f7, f8, f9, f10, hN1, h⟩ := h
  refine c_get (pc := 3) X hw hN1 in_J21 rfl 2 (by decide) q948 rfl rfl dJ21_getEntryUsingComparator_3 ?_
  refine lq_astore_n (pc := 6) (lv' := [(3, va_rf f4), (2, .ref x1), (0, .ref x0), (1, .ref x1)]) hx hb dJ21_getEntryUsingComparator_6 rfl hl (by decide) rfl (fun ls hl => ?_)
  refine lq_aload_n (pc := 7) hx hb dJ21_getEntryUsingComparator_7 rfl (lv_at hl 0 rfl) ?_
  refine lq_ifnull (pc := 8) (tgt := 72) hx hb dJ21_getEntryUsingComparator_8 rfl (fun hz11 => ?_) (fun a12 hr13 => ?_)
  · have h := h.1 hz11
    refine lv_null (pc := 72) hx hb dJ21_getEntryUsingComparator_72 ?_
    exact W.aret (pc := 73) (v := va_rf none) hx hb hr (Or.inl ⟨_, rfl⟩) (va_rf_or _) (fun t ht hW => c_ret (val := vQ) (lw := jW) (u := N) hw h ht) hw.2.2.2 dJ21_getEntryUsingComparator_73 hlk
  · have h := h.2 a12 hr13
    refine lv_aload_n (pc := 11) hx hb dJ21_getEntryUsingComparator_11 rfl (lv_at hl 2 rfl) ?_
    refine c_get (pc := 12) X hw hN1 in_J21 rfl 3 (by decide) q949 rfl rfl dJ21_getEntryUsingComparator_12 ?_
    refine lq_astore (pc := 15) (i := 4) (lv' := [(4, va_rf f5), (3, va_rf f4), (2, .ref x1), (0, .ref x0), (1, .ref x1)]) hx hb dJ21_getEntryUsingComparator_15 hl (by decide) (by simp [rf_c]) (fun ls hl => ?_)
    obtain ⟨k, h⟩ := h
    exact kJ21_getEntryUsingComparator_17 X hr hlk  k _ _ _ _ _ _ _ h hw (lv_sub hl [2, 1, 0] rfl)

def wJ21_getEntry (K : Nat → Nat → Nat) (post : Option Nat → NM → Prop) (N : NM) (x0 : Nat) (x1 : Nat) : Prop :=
  ∃ f2 f3 f4 f5 f6 f7 f8 f9 f10, N x0 = some (eO 19 [va_rf f2, va_rf f3, va_rf f4, va_rf f5, .int f6, .int f7, va_rf f8, va_rf f9, va_rf f10]) ∧ ((f4 = none → (False)) ∧ (∀ a12, f4 = some a12 → (wJ21_getEntryUsingComparator K (fun r14 N15 => post r14 N15) N x0 x1)))
theorem tJ21_getEntry {l : Launch} {G : gG} (hO : gOk G) {post : Option Nat → NM → Prop} {N : NM} {x0 : Nat} {x1 : Nat} {sz : Nat} (h : wJ21_getEntry (gC G) post N x0 x1) : Met l yJ21_getEntry (ws_ yJ21_getEntry cJ21_getEntry 5 (some (.object "java/util/TreeMap$Entry"))) ⟨4, 0, 0, 89⟩ (va_Pc [.ref x0, .ref x1] (cPre G [] N sz)) (gQ vQ post (fun u H => cBw G (cA [] N sz) (jW u).1 (jW u).2 H) (cA [] N sz)) 0 0 (cA [] N sz) := by
  refine c_ofW (lw := jW) (by decide) hO (Nat.le_of_ble_eq_true rfl) (fun p e s m below meth c ls A X hr hlk hin hw hl => ?_)
  have hl : lv_has ls 5 [(0, .ref x0), (1, .ref x1)] := hl
  have hx := X.1.1
  have hb := X.1.2.1
  have hml := X.1.2.2.1
  have hown := X.1.2.2.2.1
  have hts := X.1.2.2.2.2
  obtain ⟨H, eH⟩ : ∃ z, z = s.heap := ⟨_, rfl⟩
  rw [← eH] at hw ⊢
  obtain ⟨locs, eLo⟩ : ∃ z : List Loc, z = [] := ⟨_, rfl⟩
  rw [← eLo] at hw ⊢
  unfold wJ21_getEntry at h
  refine lv_aload_n (pc := 0) hx hb dJ21_getEntry_0 rfl (lv_at hl 0 rfl) ?_
  obtain ⟨f2, f3, f4, f5, f6, f7, f8, f9, f10, hN1, h⟩ := h
  refine c_get (pc := 1) X hw hN1 in_J21 rfl 2 (by decide) q948 rfl rfl dJ21_getEntry_1 ?_
  refine lq_ifnull (pc := 4) (tgt := 13) hx hb dJ21_getEntry_4 rfl (fun hz11 => ?_) (fun a12 hr13 => ?_)
  · have h := h.1 hz11
    exact False.elim h
  · have h := h.2 a12 hr13
    refine lv_aload_n (pc := 7) hx hb dJ21_getEntry_7 rfl (lv_at hl 0 rfl) ?_
    refine lv_aload_n (pc := 8) hx hb dJ21_getEntry_8 rfl (lv_at hl 1 rfl) ?_
    refine c_callJ (pc := 9) (val := vQ) X hw (va_runV (C := RJ21) (As := [.ref x1]) (rest := []) X.1 (tJ21_getEntryUsingComparator X.2.2.1 (sz := H.size) h) (cwV 1 hts (lw_V q1008 q1009 q1010 q132 q1011) rfl rfl rfl ⟨rfl, by decide, by decide, (by decide +kernel : (parseMethodDescriptor yJ21_getEntryUsingComparator.desc).map (fun d => d.parameters.length) = some 1)⟩ ⟨Nat.le_of_ble_eq_true rfl, Nat.le_of_ble_eq_true rfl⟩) ⟨cPre_blind, c_recv X hw hN1 rfl, fun U hU hW => ⟨rfl, X.preJ hw hU hW⟩⟩ rfl rfl hl.1 rfl (lv_room (Nat.le_of_ble_eq_true rfl)) dJ21_getEntry_9 ⟨show 0 + 0 ≤ 0 by omega, show 0 + 0 ≤ 0 by omega⟩) (fun r14 N15 H locs h hw => ?_)
    refine W.eq (g2 := F0 m 12 ls (va_rf r14 :: [])) rfl ?_
    exact W.aret (pc := 12) (v := va_rf r14) hx hb hr (Or.inl ⟨_, rfl⟩) (va_rf_or _) (fun t ht hW => c_ret (val := vQ) (lw := jW) (u := N15) hw h ht) hw.2.2.2 dJ21_getEntry_12 hlk

def wJ21_containsKey (K : Nat → Nat → Nat) (post : Int32 → NM → Prop) (N : NM) (x0 : Nat) (x1 : Nat) : Prop :=
  ∃ f4 f5 f6 f7 f8 f9 f10 f11 f12, N x0 = some (eO 19 [va_rf f4, va_rf f5, va_rf f6, va_rf f7, .int f8, .int f9, va_rf f10, va_rf f11, va_rf f12]) ∧ (wJ21_getEntry K (fun r1 N2 => (r1 = none → (post (0 : Int32) N2)) ∧ (∀ a14, r1 = some a14 → (post (1 : Int32) N2))) N x0 x1)
theorem tJ21_containsKey {l : Launch} {G : gG} (hO : gOk G) {post : Int32 → NM → Prop} {N : NM} {x0 : Nat} {x1 : Nat} {sz : Nat} (h : wJ21_containsKey (gC G) post N x0 x1) : Met l yJ21_containsKey (ws_ yJ21_containsKey cJ21_containsKey 2 (some .boolean)) ⟨5, 0, 0, 113⟩ (va_Pc [.ref x0, .ref x1] (cPre G [] N sz)) (gQ vI post (fun u H => cBw G (cA [] N sz) (jW u).1 (jW u).2 H) (cA [] N sz)) 0 0 (cA [] N sz) := by
  refine c_ofW (lw := jW) (by decide) hO (Nat.le_of_ble_eq_true rfl) (fun p e s m below meth c ls A X hr hlk hin hw hl => ?_)
  have hl : lv_has ls 2 [(0, .ref x0), (1, .ref x1)] := hl
  have hx := X.1.1
  have hb := X.1.2.1
  have hml := X.1.2.2.1
  have hown := X.1.2.2.2.1
  have hts := X.1.2.2.2.2
  obtain ⟨H, eH⟩ : ∃ z, z = s.heap := ⟨_, rfl⟩
  rw [← eH] at hw ⊢
  obtain ⟨locs, eLo⟩ : ∃ z : List Loc, z = [] := ⟨_, rfl⟩
  rw [← eLo] at hw ⊢
  unfold wJ21_containsKey at h
  refine lv_aload_n (pc := 0) hx hb dJ21_containsKey_0 rfl (lv_at hl 0 rfl) ?_
  refine lv_aload_n (pc := 1) hx hb dJ21_containsKey_1 rfl (lv_at hl 1 rfl) ?_
  obtain ⟨f4, f5, f6, f7, f8, f9, f10, f11, f12, hN3, h⟩ := h
  refine c_callJ (pc := 2) (val := vQ) X hw (va_runV (C := RJ21) (As := [.ref x1]) (rest := []) X.1 (tJ21_getEntry X.2.2.1 (sz := H.size) h) (cwV 1 hts (lw_V q1004 q1005 q1006 q132 q1007) rfl rfl rfl ⟨rfl, by decide, by decide, (by decide +kernel : (parseMethodDescriptor yJ21_getEntry.desc).map (fun d => d.parameters.length) = some 1)⟩ ⟨Nat.le_of_ble_eq_true rfl, Nat.le_of_ble_eq_true rfl⟩) ⟨cPre_blind, c_recv X hw hN3 rfl, fun U hU hW => ⟨rfl, X.preJ hw hU hW⟩⟩ rfl rfl hl.1 rfl (lv_room (Nat.le_of_ble_eq_true rfl)) dJ21_containsKey_2 ⟨show 0 + 0 ≤ 0 by omega, show 0 + 0 ≤ 0 by omega⟩) (fun r1 N2 H locs h hw => ?_)
  refine W.eq (g2 := F0 m 5 ls (va_rf r1 :: [])) rfl ?_
  refine lq_ifnull (pc := 5) (tgt := 12) hx hb dJ21_containsKey_5 rfl (fun hz13 => ?_) (fun a14 hr15 => ?_)
  · have h := h.1 hz13
    refine lv_iconst (pc := 12) (v := (0 : Int32)) hx hb dJ21_containsKey_12 (by decide) ?_
    exact W.zret (pc := 13) hx hb hr rfl (fun t ht hW => c_ret (val := vI) (lw := jW) (u := N2) hw h ht) hw.2.2.2 dJ21_containsKey_13 hlk
  · have h := h.2 a14 hr15
    refine lv_iconst (pc := 8) (v := (1 : Int32)) hx hb dJ21_containsKey_8 (by decide) ?_
    refine lv_goto (pc := 9) (tgt := 13) hx hb dJ21_containsKey_9 rfl ?_
    exact W.zret (pc := 13) hx hb hr rfl (fun t ht hW => c_ret (val := vI) (lw := jW) (u := N2) hw h ht) hw.2.2.2 dJ21_containsKey_13 hlk

def wJ21_addEntryToEmptyMap (K : Nat → Nat → Nat) (post : Unit → NM → Prop) (MC MS : Nat) (N : NM) (x0 : Nat) (x1 : Nat) (x2 : Option Nat) : Prop :=
  ∃ f4 f5 f6 f7 f8 f9 f10 f11 f12, N x0 = some (eO 19 [va_rf f4, va_rf f5, va_rf f6, va_rf f7, .int f8, .int f9, va_rf f10, va_rf f11, va_rf f12]) ∧ (wJ21_compare K (fun r1 N2 => 1 ≤ MC ∧ 6 ≤ MS ∧ (∀ nq15, N2 nq15 = none → (∀ N17, N17 = va_up N2 nq15 (some (eO 20 [va_rf none, va_rf none, va_rf none, va_rf none, va_rf none, .int (0 : Int32)])) → (wJ26_init K (fun _ N21 => ∃ f23 f24 f25 f26 f27 f28 f29 f30 f31, N21 x0 = some (eO 19 [va_rf f23, va_rf f24, va_rf f25, va_rf f26, .int f27, .int f28, va_rf f29, va_rf f30, va_rf f31]) ∧ (∀ N32, N32 = va_up N21 x0 (some (eO 19 [va_rf f23, va_rf f24, va_rf f25, va_rf (some nq15), .int f27, .int f28, va_rf f29, va_rf f30, va_rf f31])) → (∀ N35, N35 = va_up N32 x0 (some (eO 19 [va_rf f23, va_rf f24, va_rf f25, va_rf (some nq15), .int (1 : Int32), .int f28, va_rf f29, va_rf f30, va_rf f31])) → (∀ N38, N38 = va_up N35 x0 (some (eO 19 [va_rf f23, va_rf f24, va_rf f25, va_rf (some nq15), .int (1 : Int32), .int (f28 + (1 : Int32)), va_rf f29, va_rf f30, va_rf f31])) → (post () N38))))) N17 nq15 (some x1) x2 none)))) N x0 x1 x1)
theorem tJ21_addEntryToEmptyMap {l : Launch} {G : gG} (hO : gOk G) {post : Unit → NM → Prop} {MC MS : Nat} {N : NM} {x0 : Nat} {x1 : Nat} {x2 : Option Nat} {sz : Nat} (h : wJ21_addEntryToEmptyMap (gC G) post MC MS N x0 x1 x2) : Met l yJ21_addEntryToEmptyMap (ws_ yJ21_addEntryToEmptyMap cJ21_addEntryToEmptyMap 3 none) ⟨4, MC, MS, 86⟩ (va_Pc [.ref x0, .ref x1, va_rf x2] (cPre G [] N sz)) (gQ vV post (fun u H => cBw G (cA [] N sz) (jW u).1 (jW u).2 H) (cA [] N sz)) MC MS (cA [] N sz) := by
  refine c_ofW (lw := jW) (by decide) hO (by cases x2 <;> exact Nat.le_of_ble_eq_true rfl) (fun p e s m below meth c ls A X hr hlk hin hw hl => ?_)
  have hl : lv_has ls 3 [(0, .ref x0), (1, .ref x1), (2, va_rf x2)] := by cases x2 <;> exact hl
  have hx := X.1.1
  have hb := X.1.2.1
  have hml := X.1.2.2.1
  have hown := X.1.2.2.2.1
  have hts := X.1.2.2.2.2
  obtain ⟨H, eH⟩ : ∃ z, z = s.heap := ⟨_, rfl⟩
  rw [← eH] at hw ⊢
  obtain ⟨locs, eLo⟩ : ∃ z : List Loc, z = [] := ⟨_, rfl⟩
  rw [← eLo] at hw ⊢
  have hbud : 0 + MC ≤ MC ∧ 0 + MS ≤ MS := by omega
  unfold wJ21_addEntryToEmptyMap at h
  refine lv_aload_n (pc := 0) hx hb dJ21_addEntryToEmptyMap_0 rfl (lv_at hl 0 rfl) ?_
  refine lv_aload_n (pc := 1) hx hb dJ21_addEntryToEmptyMap_1 rfl (lv_at hl 1 rfl) ?_
  refine lv_aload_n (pc := 2) hx hb dJ21_addEntryToEmptyMap_2 rfl (lv_at hl 1 rfl) ?_
  obtain ⟨f4, f5, f6, f7, f8, f9, f10, f11, f12, hN3, h⟩ := h
  refine c_callJ (pc := 3) (val := vI) X hw (va_runV (C := RJ21) (As := [.ref x1, .ref x1]) (rest := []) X.1 (tJ21_compare X.2.2.1 (sz := H.size) h) (cwV 2 hts (lw_V q1307 q1308 q1309 q132 q1310) rfl rfl rfl ⟨rfl, by decide, by decide, (by decide +kernel : (parseMethodDescriptor yJ21_compare.desc).map (fun d => d.parameters.length) = some 2)⟩ ⟨Nat.le_of_ble_eq_true rfl, Nat.le_of_ble_eq_true rfl⟩) ⟨cPre_blind, c_recv X hw hN3 rfl, fun U hU hW => ⟨rfl, X.preJ hw hU hW⟩⟩ rfl rfl hl.1 rfl (lv_room (Nat.le_of_ble_eq_true rfl)) dJ21_addEntryToEmptyMap_3 ⟨show 0 + 0 ≤ MC by omega, show 0 + 0 ≤ MS by omega⟩) (fun r1 N2 H locs h hw => ?_)
  refine W.eq (g2 := F0 m 6 ls (.int r1 :: [])) rfl ?_
  refine lv_pop (pc := 6) hx hb dJ21_addEntryToEmptyMap_6 rfl ?_
  refine lv_aload_n (pc := 7) hx hb dJ21_addEntryToEmptyMap_7 rfl (lv_at hl 0 rfl) ?_
  obtain ⟨hm13, hm14, h⟩ := h
  refine c_new (pc := 8) (ci := 20) (fs := [va_rf none, va_rf none, va_rf none, va_rf none, va_rf none, .int (0 : Int32)]) X hw in_J26 tyJ26 tyJ26_ok q1311 q1312 q140 rfl nf_J26 (show 0 + 0 + 1 ≤ MC by omega) (show 0 + 0 + 6 ≤ MS by omega) dJ21_addEntryToEmptyMap_8 (fun nq15 H hq16 _ hw => ?_)
  have h := h nq15 hq16
  obtain ⟨N17, e18⟩ : ∃ z, z = va_up N2 nq15 (some (eO 20 [va_rf none, va_rf none, va_rf none, va_rf none, va_rf none, .int (0 : Int32)])) := ⟨_, rfl⟩
  have hw : cH G A s [] N17 H locs := by rw [e18]; exact hw
  have h := h N17 e18
  have hN19 : N17 nq15 = some (eO 20 [va_rf none, va_rf none, va_rf none, va_rf none, va_rf none, .int (0 : Int32)]) := by rw [e18]; exact up_s
  refine lv_dup (pc := 11) hx hb dJ21_addEntryToEmptyMap_11 rfl ?_
  refine lv_aload_n (pc := 12) hx hb dJ21_addEntryToEmptyMap_12 rfl (lv_at hl 1 rfl) ?_
  refine lq_aload_n (pc := 13) hx hb dJ21_addEntryToEmptyMap_13 rfl (lv_at hl 2 rfl) ?_
  refine lv_null (pc := 14) hx hb dJ21_addEntryToEmptyMap_14 ?_
  refine c_callJ (pc := 15) (val := vV) X hw (va_runI (As := [va_rf (some x1), va_rf x2, va_rf none]) (rest := [.ref nq15, .ref x0]) X.1 (tJ26_init X.2.2.1 (sz := H.size) h) (cwI 3 hts (lw_meth q1315) rfl rfl rfl (hts _ q140) (hts _ q1313) (hts _ q1314) rfl ⟨by decide, by decide, (by decide +kernel : (parseMethodDescriptor yJ26_init.desc).map (fun d => d.parameters.length) = some 3)⟩ ⟨Nat.le_of_ble_eq_true rfl, Nat.le_of_ble_eq_true rfl⟩) ⟨cPre_blind, fun U hU hW => ⟨rfl, X.preJ hw hU hW⟩⟩ rfl rfl hl.1 rfl (lv_room (Nat.le_of_ble_eq_true rfl)) dJ21_addEntryToEmptyMap_15 ⟨show 0 + 0 + 1 + 0 ≤ MC by omega, show 0 + 0 + 6 + 0 ≤ MS by omega⟩) (fun _ N21 H locs h hw => ?_)
  refine W.eq (g2 := F0 m 18 ls ([.ref nq15, .ref x0])) rfl ?_
  obtain ⟨f23, f24, f25, f26, f27, f28, f29, f30, f31, hN22, h⟩ := h
  refine c_put (pc := 18) (v := va_rf (some nq15)) X hw hN22 in_J21 tyJ21 tyJ21_ok nmJ21 rfl 3 (by decide) q949 rfl rfl rfl (rf_n (some nq15) _) (rf_f (some nq15) _) (Nat.le_of_ble_eq_true rfl) dJ21_addEntryToEmptyMap_18 (fun H locs hw => ?_)
  obtain ⟨N32, e33⟩ : ∃ z, z = va_up N21 x0 (some (eO 19 [va_rf f23, va_rf f24, va_rf f25, va_rf (some nq15), .int f27, .int f28, va_rf f29, va_rf f30, va_rf f31])) := ⟨_, rfl⟩
  have hw : cH G A s [] N32 H locs := by rw [e33]; exact hw
  have h := h N32 e33
  have hN34 : N32 x0 = some (eO 19 [va_rf f23, va_rf f24, va_rf f25, va_rf (some nq15), .int f27, .int f28, va_rf f29, va_rf f30, va_rf f31]) := by rw [e33]; exact up_s
  refine lv_aload_n (pc := 21) hx hb dJ21_addEntryToEmptyMap_21 rfl (lv_at hl 0 rfl) ?_
  refine lv_iconst (pc := 22) (v := (1 : Int32)) hx hb dJ21_addEntryToEmptyMap_22 (by decide) ?_
  refine c_put (pc := 23) X hw hN34 in_J21 tyJ21 tyJ21_ok nmJ21 rfl 4 (by decide) q950 rfl rfl rfl rfl rfl (Nat.le_of_ble_eq_true rfl) dJ21_addEntryToEmptyMap_23 (fun H locs hw => ?_)
  obtain ⟨N35, e36⟩ : ∃ z, z = va_up N32 x0 (some (eO 19 [va_rf f23, va_rf f24, va_rf f25, va_rf (some nq15), .int (1 : Int32), .int f28, va_rf f29, va_rf f30, va_rf f31])) := ⟨_, rfl⟩
  have hw : cH G A s [] N35 H locs := by rw [e36]; exact hw
  have h := h N35 e36
  have hN37 : N35 x0 = some (eO 19 [va_rf f23, va_rf f24, va_rf f25, va_rf (some nq15), .int (1 : Int32), .int f28, va_rf f29, va_rf f30, va_rf f31]) := by rw [e36]; exact up_s
  refine lv_aload_n (pc := 26) hx hb dJ21_addEntryToEmptyMap_26 rfl (lv_at hl 0 rfl) ?_
  refine lv_dup (pc := 27) hx hb dJ21_addEntryToEmptyMap_27 rfl ?_
  refine c_get (pc := 28) X hw hN37 in_J21 rfl 5 (by decide) q951 rfl rfl dJ21_addEntryToEmptyMap_28 ?_
  refine lv_iconst (pc := 31) (v := (1 : Int32)) hx hb dJ21_addEntryToEmptyMap_31 (by decide) ?_
  refine lv_iadd (pc := 32) hx hb dJ21_addEntryToEmptyMap_32 ?_
  refine c_put (pc := 33) X hw hN37 in_J21 tyJ21 tyJ21_ok nmJ21 rfl 5 (by decide) q951 rfl rfl rfl rfl rfl (Nat.le_of_ble_eq_true rfl) dJ21_addEntryToEmptyMap_33 (fun H locs hw => ?_)
  obtain ⟨N38, e39⟩ : ∃ z, z = va_up N35 x0 (some (eO 19 [va_rf f23, va_rf f24, va_rf f25, va_rf (some nq15), .int (1 : Int32), .int (f28 + (1 : Int32)), va_rf f29, va_rf f30, va_rf f31])) := ⟨_, rfl⟩
  have hw : cH G A s [] N38 H locs := by rw [e39]; exact hw
  have h := h N38 e39
  have hN40 : N38 x0 = some (eO 19 [va_rf f23, va_rf f24, va_rf f25, va_rf (some nq15), .int (1 : Int32), .int (f28 + (1 : Int32)), va_rf f29, va_rf f30, va_rf f31]) := by rw [e39]; exact up_s
  refine W.widen (k := MC) (n := MS) (by omega) (by omega) ?_
  exact W.vret (pc := 36) hx hb hr (fun t ht hW => c_ret (val := vV) (lw := jW) (u := N38) (v := ()) hw h ht) hw.2.2.2 dJ21_addEntryToEmptyMap_36 hlk

def wJ21_addEntry_32 (K : Nat → Nat → Nat) (post : Unit → NM → Prop) (x0 : Nat) (x5 : Nat) (mc ms : Nat) (N : NM) : Prop :=
  ∃ f24 f25 f26 f27 f28 f29 f30 f31 f32, N x0 = some (eO 19 [va_rf f24, va_rf f25, va_rf f26, va_rf f27, .int f28, .int f29, va_rf f30, va_rf f31, va_rf f32]) ∧ (wJ21_fixAfterInsertion K (fun _ N22 => ∃ f34 f35 f36 f37 f38 f39 f40 f41 f42, N22 x0 = some (eO 19 [va_rf f34, va_rf f35, va_rf f36, va_rf f37, .int f38, .int f39, va_rf f40, va_rf f41, va_rf f42]) ∧ (∀ N43, N43 = va_up N22 x0 (some (eO 19 [va_rf f34, va_rf f35, va_rf f36, va_rf f37, .int (f38 + (1 : Int32)), .int f39, va_rf f40, va_rf f41, va_rf f42])) → (∀ N46, N46 = va_up N43 x0 (some (eO 19 [va_rf f34, va_rf f35, va_rf f36, va_rf f37, .int (f38 + (1 : Int32)), .int (f39 + (1 : Int32)), va_rf f40, va_rf f41, va_rf f42])) → (post () N46)))) N x0 (some x5))
def wJ21_addEntry (K : Nat → Nat → Nat) (post : Unit → NM → Prop) (MC MS : Nat) (N : NM) (x0 : Nat) (x1 : Nat) (x2 : Option Nat) (x3 : Nat) (x4 : Int32) : Prop :=
  1 ≤ MC ∧ 6 ≤ MS ∧ (∀ nq3, N nq3 = none → (∀ N5, N5 = va_up N nq3 (some (eO 20 [va_rf none, va_rf none, va_rf none, va_rf none, va_rf none, .int (0 : Int32)])) → (wJ26_init K (fun _ N9 => ((x4 = (0 : Int32)) → (∃ f12 f13 f14 f15 f16 f17, N9 x3 = some (eO 20 [va_rf f12, va_rf f13, va_rf f14, va_rf f15, va_rf f16, .int f17]) ∧ (∀ N18, N18 = va_up N9 x3 (some (eO 20 [va_rf f12, va_rf f13, va_rf f14, va_rf (some nq3), va_rf f16, .int f17])) → (wJ21_addEntry_32 K post x0 nq3 (MC - 1) (MS - 6) N18)))) ∧ (¬ (x4 = (0 : Int32)) → (∃ f50 f51 f52 f53 f54 f55, N9 x3 = some (eO 20 [va_rf f50, va_rf f51, va_rf f52, va_rf f53, va_rf f54, .int f55]) ∧ (∀ N56, N56 = va_up N9 x3 (some (eO 20 [va_rf f50, va_rf f51, va_rf (some nq3), va_rf f53, va_rf f54, .int f55])) → (wJ21_addEntry_32 K post x0 nq3 (MC - 1) (MS - 6) N56))))) N5 nq3 (some x1) x2 (some x3))))
theorem kJ21_addEntry_32 {p : Program} {l : Launch} {e : Env} {s : State} {m : MethodId} {args : Array Value} {below : List Frame} {meth : Method} {c : Code} {G : gG} {A : Nat → Prop} {MC MS : Nat} {post : Unit → NM → Prop} (X : cX G A RJ21 p s m args c cJ21_addEntry 6) (hr : meth.sig.returnType = none) (hlk : meth.locks = false) : ∀ (x0 : Nat) (x5 : Nat) (mc ms : Nat) (N : NM) (H : Heap) (locs : List Loc) (ls : Array Slot) (cells slots : Nat), wJ21_addEntry_32 (gC G) post x0 x5 mc ms N → (cH G A s [] N H locs ∧ cells + mc ≤ MC ∧ slots + ms ≤ MS) → lv_has ls 6 [(0, .ref x0), (5, .ref x5)] → W p l e ⟨2, MC, MS, 44⟩ s m args below meth c H locs cells slots (MQ below (gQ vV post (fun u H => cBw G A (jW u).1 (jW u).2 H) A) args s MC MS A) (F0 m 32 ls []) := by
  have hx := X.1.1
  have hb := X.1.2.1
  have hml := X.1.2.2.1
  have hown := X.1.2.2.2.1
  have hts := X.1.2.2.2.2
  intro x0 x5 mc ms N H locs ls cells slots h hw0 hl
  obtain ⟨hw, hbud⟩ := hw0
  unfold wJ21_addEntry_32 at h
  refine lv_aload_n (pc := 32) hx hb dJ21_addEntry_32 rfl (lv_at hl 0 rfl) ?_
  refine lv_aload (pc := 33) hx hb dJ21_addEntry_33 (lv_at hl 1 rfl) ?_
  obtain ⟨f24, f25, f26, f27, f28, f29, f30, f31, f32, hN23, h⟩ := h
  refine c_callJ (pc := 35) (val := vV) X hw (va_runV (C := RJ21) (As := [va_rf (some x5)]) (rest := []) X.1 (tJ21_fixAfterInsertion X.2.2.1 (sz := H.size) h) (cwV 1 hts (lw_V q1344 q1346 qs25 q132 q1347) rfl rfl rfl ⟨rfl, by decide, by decide, (by decide +kernel : (parseMethodDescriptor yJ21_fixAfterInsertion.desc).map (fun d => d.parameters.length) = some 1)⟩ ⟨Nat.le_of_ble_eq_true rfl, Nat.le_of_ble_eq_true rfl⟩) ⟨cPre_blind, c_recv X hw hN23 rfl, fun U hU hW => ⟨rfl, X.preJ hw hU hW⟩⟩ rfl rfl hl.1 rfl (lv_room (Nat.le_of_ble_eq_true rfl)) dJ21_addEntry_35 ⟨show cells + 0 ≤ MC by omega, show slots + 0 ≤ MS by omega⟩) (fun _ N22 H locs h hw => ?_)
  refine W.eq (g2 := F0 m 38 ls ([])) rfl ?_
  refine lv_aload_n (pc := 38) hx hb dJ21_addEntry_38 rfl (lv_at hl 0 rfl) ?_
  refine lv_dup (pc := 39) hx hb dJ21_addEntry_39 rfl ?_
  obtain ⟨f34, f35, f36, f37, f38, f39, f40, f41, f42, hN33, h⟩ := h
  refine c_get (pc := 40) X hw hN33 in_J21 rfl 4 (by decide) q950 rfl rfl dJ21_addEntry_40 ?_
  refine lv_iconst (pc := 43) (v := (1 : Int32)) hx hb dJ21_addEntry_43 (by decide) ?_
  refine lv_iadd (pc := 44) hx hb dJ21_addEntry_44 ?_
  refine c_put (pc := 45) X hw hN33 in_J21 tyJ21 tyJ21_ok nmJ21 rfl 4 (by decide) q950 rfl rfl rfl rfl rfl (Nat.le_of_ble_eq_true rfl) dJ21_addEntry_45 (fun H locs hw => ?_)
  obtain ⟨N43, e44⟩ : ∃ z, z = va_up N22 x0 (some (eO 19 [va_rf f34, va_rf f35, va_rf f36, va_rf f37, .int (f38 + (1 : Int32)), .int f39, va_rf f40, va_rf f41, va_rf f42])) := ⟨_, rfl⟩
  have hw : cH G A s [] N43 H locs := by rw [e44]; exact hw
  have h := h N43 e44
  have hN45 : N43 x0 = some (eO 19 [va_rf f34, va_rf f35, va_rf f36, va_rf f37, .int (f38 + (1 : Int32)), .int f39, va_rf f40, va_rf f41, va_rf f42]) := by rw [e44]; exact up_s
  refine lv_aload_n (pc := 48) hx hb dJ21_addEntry_48 rfl (lv_at hl 0 rfl) ?_
  refine lv_dup (pc := 49) hx hb dJ21_addEntry_49 rfl ?_
  refine c_get (pc := 50) X hw hN45 in_J21 rfl 5 (by decide) q951 rfl rfl dJ21_addEntry_50 ?_
  refine lv_iconst (pc := 53) (v := (1 : Int32)) hx hb dJ21_addEntry_53 (by decide) ?_
  refine lv_iadd (pc := 54) hx hb dJ21_addEntry_54 ?_
  refine c_put (pc := 55) X hw hN45 in_J21 tyJ21 tyJ21_ok nmJ21 rfl 5 (by decide) q951 rfl rfl rfl rfl rfl (Nat.le_of_ble_eq_true rfl) dJ21_addEntry_55 (fun H locs hw => ?_)
  obtain ⟨N46, e47⟩ : ∃ z, z = va_up N43 x0 (some (eO 19 [va_rf f34, va_rf f35, va_rf f36, va_rf f37, .int (f38 + (1 : Int32)), .int (f39 + (1 : Int32)), va_rf f40, va_rf f41, va_rf f42])) := ⟨_, rfl⟩
  have hw : cH G A s [] N46 H locs := by rw [e47]; exact hw
  have h := h N46 e47
  have hN48 : N46 x0 = some (eO 19 [va_rf f34, va_rf f35, va_rf f36, va_rf f37, .int (f38 + (1 : Int32)), .int (f39 + (1 : Int32)), va_rf f40, va_rf f41, va_rf f42]) := by rw [e47]; exact up_s
  refine W.widen (k := MC) (n := MS) (by omega) (by omega) ?_
  exact W.vret (pc := 58) hx hb hr (fun t ht hW => c_ret (val := vV) (lw := jW) (u := N46) (v := ()) hw h ht) hw.2.2.2 dJ21_addEntry_58 hlk
theorem tJ21_addEntry {l : Launch} {G : gG} (hO : gOk G) {post : Unit → NM → Prop} {MC MS : Nat} {N : NM} {x0 : Nat} {x1 : Nat} {x2 : Option Nat} {x3 : Nat} {x4 : Int32} {sz : Nat} (h : wJ21_addEntry (gC G) post MC MS N x0 x1 x2 x3 x4) : Met l yJ21_addEntry (ws_ yJ21_addEntry cJ21_addEntry 6 none) ⟨2, MC, MS, 44⟩ (va_Pc [.ref x0, .ref x1, va_rf x2, .ref x3, .int x4] (cPre G [] N sz)) (gQ vV post (fun u H => cBw G (cA [] N sz) (jW u).1 (jW u).2 H) (cA [] N sz)) MC MS (cA [] N sz) := by
  refine c_ofW (lw := jW) (by decide) hO (by cases x2 <;> exact Nat.le_of_ble_eq_true rfl) (fun p e s m below meth c ls A X hr hlk hin hw hl => ?_)
  have hl : lv_has ls 6 [(0, .ref x0), (1, .ref x1), (2, va_rf x2), (3, .ref x3), (4, .int x4)] := by cases x2 <;> exact hl
  have hx := X.1.1
  have hb := X.1.2.1
  have hml := X.1.2.2.1
  have hown := X.1.2.2.2.1
  have hts := X.1.2.2.2.2
  obtain ⟨H, eH⟩ : ∃ z, z = s.heap := ⟨_, rfl⟩
  rw [← eH] at hw ⊢
  obtain ⟨locs, eLo⟩ : ∃ z : List Loc, z = [] := ⟨_, rfl⟩
  rw [← eLo] at hw ⊢
  have hbud : 0 + MC ≤ MC ∧ 0 + MS ≤ MS := by omega
  unfold wJ21_addEntry at h
  obtain ⟨hm1, hm2, h⟩ := h
  refine c_new (pc := 0) (ci := 20) (fs := [va_rf none, va_rf none, va_rf none, va_rf none, va_rf none, .int (0 : Int32)]) X hw in_J26 tyJ26 tyJ26_ok q1311 q1312 q140 rfl nf_J26 (show 0 + 1 ≤ MC by omega) (show 0 + 6 ≤ MS by omega) dJ21_addEntry_0 (fun nq3 H hq4 _ hw => ?_)
  have h := h nq3 hq4
  obtain ⟨N5, e6⟩ : ∃ z, z = va_up N nq3 (some (eO 20 [va_rf none, va_rf none, va_rf none, va_rf none, va_rf none, .int (0 : Int32)])) := ⟨_, rfl⟩
  have hw : cH G A s [] N5 H locs := by rw [e6]; exact hw
  have h := h N5 e6
  have hN7 : N5 nq3 = some (eO 20 [va_rf none, va_rf none, va_rf none, va_rf none, va_rf none, .int (0 : Int32)]) := by rw [e6]; exact up_s
  refine lv_dup (pc := 3) hx hb dJ21_addEntry_3 rfl ?_
  refine lv_aload_n (pc := 4) hx hb dJ21_addEntry_4 rfl (lv_at hl 1 rfl) ?_
  refine lq_aload_n (pc := 5) hx hb dJ21_addEntry_5 rfl (lv_at hl 2 rfl) ?_
  refine lv_aload_n (pc := 6) hx hb dJ21_addEntry_6 rfl (lv_at hl 3 rfl) ?_
  refine c_callJ (pc := 7) (val := vV) X hw (va_runI (As := [va_rf (some x1), va_rf x2, va_rf (some x3)]) (rest := [.ref nq3]) X.1 (tJ26_init X.2.2.1 (sz := H.size) h) (cwI 3 hts (lw_meth q1315) rfl rfl rfl (hts _ q140) (hts _ q1313) (hts _ q1314) rfl ⟨by decide, by decide, (by decide +kernel : (parseMethodDescriptor yJ26_init.desc).map (fun d => d.parameters.length) = some 3)⟩ ⟨Nat.le_of_ble_eq_true rfl, Nat.le_of_ble_eq_true rfl⟩) ⟨cPre_blind, fun U hU hW => ⟨rfl, X.preJ hw hU hW⟩⟩ rfl rfl hl.1 rfl (lv_room (Nat.le_of_ble_eq_true rfl)) dJ21_addEntry_7 ⟨show 0 + 1 + 0 ≤ MC by omega, show 0 + 6 + 0 ≤ MS by omega⟩) (fun _ N9 H locs h hw => ?_)
  refine W.eq (g2 := F0 m 10 ls ([.ref nq3])) rfl ?_
  refine lv_astore (pc := 10) (lv' := [(5, .ref nq3), (0, .ref x0), (1, .ref x1), (2, va_rf x2), (3, .ref x3), (4, .int x4)]) hx hb dJ21_addEntry_10 hl (by decide) rfl (fun ls hl => ?_)
  refine lv_iload (pc := 12) hx hb dJ21_addEntry_12 (lv_at hl 5 rfl) ?_
  refine lv_if_eq (pc := 14) (tgt := 26) hx hb dJ21_addEntry_14 rfl (fun c10 => ?_) (fun c10 => ?_)
  · have h := h.1 c10
    refine lv_aload_n (pc := 26) hx hb dJ21_addEntry_26 rfl (lv_at hl 4 rfl) ?_
    refine lv_aload (pc := 27) hx hb dJ21_addEntry_27 (lv_at hl 0 rfl) ?_
    obtain ⟨f12, f13, f14, f15, f16, f17, hN11, h⟩ := h
    refine c_put (pc := 29) (v := va_rf (some nq3)) X hw hN11 in_J26 tyJ26 tyJ26_ok nmJ26 rfl 3 (by decide) q1322 rfl rfl rfl (rf_n (some nq3) _) (rf_f (some nq3) _) (Nat.le_of_ble_eq_true rfl) dJ21_addEntry_29 (fun H locs hw => ?_)
    obtain ⟨N18, e19⟩ : ∃ z, z = va_up N9 x3 (some (eO 20 [va_rf f12, va_rf f13, va_rf f14, va_rf (some nq3), va_rf f16, .int f17])) := ⟨_, rfl⟩
    have hw : cH G A s [] N18 H locs := by rw [e19]; exact hw
    have h := h N18 e19
    have hN20 : N18 x3 = some (eO 20 [va_rf f12, va_rf f13, va_rf f14, va_rf (some nq3), va_rf f16, .int f17]) := by rw [e19]; exact up_s
    exact kJ21_addEntry_32 X hr hlk  _ _ _ _ _ _ _ _ _ _ h ⟨hw, by omega⟩ (lv_sub hl [1, 0] rfl)
  · have h := h.2 c10
    refine lv_aload_n (pc := 17) hx hb dJ21_addEntry_17 rfl (lv_at hl 4 rfl) ?_
    refine lv_aload (pc := 18) hx hb dJ21_addEntry_18 (lv_at hl 0 rfl) ?_
    obtain ⟨f50, f51, f52, f53, f54, f55, hN49, h⟩ := h
    refine c_put (pc := 20) (v := va_rf (some nq3)) X hw hN49 in_J26 tyJ26 tyJ26_ok nmJ26 rfl 2 (by decide) q1321 rfl rfl rfl (rf_n (some nq3) _) (rf_f (some nq3) _) (Nat.le_of_ble_eq_true rfl) dJ21_addEntry_20 (fun H locs hw => ?_)
    obtain ⟨N56, e57⟩ : ∃ z, z = va_up N9 x3 (some (eO 20 [va_rf f50, va_rf f51, va_rf (some nq3), va_rf f53, va_rf f54, .int f55])) := ⟨_, rfl⟩
    have hw : cH G A s [] N56 H locs := by rw [e57]; exact hw
    have h := h N56 e57
    have hN58 : N56 x3 = some (eO 20 [va_rf f50, va_rf f51, va_rf (some nq3), va_rf f53, va_rf f54, .int f55]) := by rw [e57]; exact up_s
    refine lv_goto (pc := 23) (tgt := 32) hx hb dJ21_addEntry_23 rfl ?_
    exact kJ21_addEntry_32 X hr hlk  _ _ _ _ _ _ _ _ _ _ h ⟨hw, by omega⟩ (lv_sub hl [1, 0] rfl)

def wJ21_put_2_95 (K : Nat → Nat → Nat) (post : Option Nat → NM → Prop) (x2 : Option Nat) (x4 : Option Nat) (x8 : Option Nat) (mc ms : Nat) (N : NM) : Prop :=
  ∃ a49, x4 = some a49 ∧ (∃ f52 f53 f54 f55 f56 f57, N a49 = some (eO 20 [va_rf f52, va_rf f53, va_rf f54, va_rf f55, va_rf f56, .int f57]) ∧ (∀ N58, N58 = va_up N a49 (some (eO 20 [va_rf f52, va_rf x2, va_rf f54, va_rf f55, va_rf f56, .int f57])) → (post x8 N58)))
def wJ21_put_2_216 (K : Nat → Nat → Nat) (post : Option Nat → NM → Prop) (v0 : Int32) (v1 : Option Nat) (v2 : Option Nat) (v3 : Nat) (v4 : Nat) (mc ms : Nat) (N : NM) : Prop :=
  ∃ a75, v1 = some a75 ∧ (∃ f84 f85 f86 f87 f88 f89 f90 f91 f92, N v4 = some (eO 19 [va_rf f84, va_rf f85, va_rf f86, va_rf f87, .int f88, .int f89, va_rf f90, va_rf f91, va_rf f92]) ∧ (∃ mc79 ms80, mc79 ≤ mc ∧ ms80 ≤ ms ∧ wJ21_addEntry K (fun _ N78 => post none N78) mc79 ms80 N v4 v3 v2 a75 v0))
def wJ21_put_2_201 (K : Nat → Nat → Nat) (post : Option Nat → NM → Prop) (x0 : Nat) (x1 : Nat) (x2 : Option Nat) (x5 : Int32) (x6 : Option Nat) (mc ms : Nat) (N : NM) : Prop :=
  (((0 : Int32) ≤ x5) → (wJ21_put_2_216 K post (0 : Int32) x6 x2 x1 x0 mc ms N)) ∧ (¬ ((0 : Int32) ≤ x5) → (wJ21_put_2_216 K post (1 : Int32) x6 x2 x1 x0 mc ms N))
def wJ21_put_2_104 (K : Nat → Nat → Nat) (K30 : Nat → Nat → Option Nat → Int32 → Option Nat → Option Nat → Nat → Nat → NM → Prop) (post : Option Nat → NM → Prop) (x0 : Nat) (x1 : Nat) (x2 : Option Nat) (x3 : Int32) (x4 : Option Nat) (x5 : Int32) (x6 : Option Nat) (x7 : Option Nat) (mc ms : Nat) (N : NM) : Prop :=
  (x4 = none → (wJ21_put_2_201 K post x0 x1 x2 x5 x6 mc ms N)) ∧ (∀ a72, x4 = some a72 → (K30 x0 x1 x2 x3 x4 x7 mc ms N))
def wJ21_put_2_30 (K : Nat → Nat → Nat) (post : Option Nat → NM → Prop) : Nat → Nat → Nat → Option Nat → Int32 → Option Nat → Option Nat → Nat → Nat → NM → Prop
  | 0, _, _, _, _, _, _, _, _, _ => False
  | n + 1, x0, x1, x2, x3, x4, x7, mc, ms, N => ∃ a23, x4 = some a23 ∧ (∃ f26 f27 f28 f29 f30 f31, N a23 = some (eO 20 [va_rf f26, va_rf f27, va_rf f28, va_rf f29, va_rf f30, .int f31]) ∧ (∃ a32, x7 = some a32 ∧ (∃ a34, f26 = some a34 ∧ (N a32 = some (eO 13 []) ∧ (wX7_compare K (fun r36 N37 => (((0 : Int32) ≤ r36) → (((r36 ≤ (0 : Int32)) → (∃ f42 f43 f44 f45 f46 f47, N37 a23 = some (eO 20 [va_rf f42, va_rf f43, va_rf f44, va_rf f45, va_rf f46, .int f47]) ∧ (((x3 = (0 : Int32)) → ((f43 = none → (wJ21_put_2_95 K post x2 x4 f43 mc ms N37)) ∧ (∀ a62, f43 = some a62 → (post f43 N37)))) ∧ (¬ (x3 = (0 : Int32)) → (wJ21_put_2_95 K post x2 x4 f43 mc ms N37))))) ∧ (¬ (r36 ≤ (0 : Int32)) → (∃ f65 f66 f67 f68 f69 f70, N37 a23 = some (eO 20 [va_rf f65, va_rf f66, va_rf f67, va_rf f68, va_rf f69, .int f70]) ∧ (wJ21_put_2_104 K (fun x0 x1 x2 x3 x4 x7 mc ms N => wJ21_put_2_30 K post n x0 x1 x2 x3 x4 x7 mc ms N) post x0 x1 x2 x3 f68 r36 x4 x7 mc ms N37))))) ∧ (¬ ((0 : Int32) ≤ r36) → (∃ f94 f95 f96 f97 f98 f99, N37 a23 = some (eO 20 [va_rf f94, va_rf f95, va_rf f96, va_rf f97, va_rf f98, .int f99]) ∧ (wJ21_put_2_104 K (fun x0 x1 x2 x3 x4 x7 mc ms N => wJ21_put_2_30 K post n x0 x1 x2 x3 x4 x7 mc ms N) post x0 x1 x2 x3 f96 r36 x4 x7 mc ms N37)))) N a32 x1 a34)))))
def wJ21_put_2 (K : Nat → Nat → Nat) (post : Option Nat → NM → Prop) (MC MS : Nat) (N : NM) (x0 : Nat) (x1 : Nat) (x2 : Option Nat) (x3 : Int32) : Prop :=
  ∃ f2 f3 f4 f5 f6 f7 f8 f9 f10, N x0 = some (eO 19 [va_rf f2, va_rf f3, va_rf f4, va_rf f5, .int f6, .int f7, va_rf f8, va_rf f9, va_rf f10]) ∧ ((f5 = none → (∃ mc16 ms17, mc16 ≤ MC ∧ ms17 ≤ MS ∧ wJ21_addEntryToEmptyMap K (fun _ N15 => post none N15) mc16 ms17 N x0 x1 x2)) ∧ (∀ a12, f5 = some a12 → ((f4 = none → (False)) ∧ (∀ a21, f4 = some a21 → ((∃ k, wJ21_put_2_30 K post k x0 x1 x2 x3 f5 f4 MC MS N))))))
theorem kJ21_put_2_95 {p : Program} {l : Launch} {e : Env} {s : State} {m : MethodId} {args : Array Value} {below : List Frame} {meth : Method} {c : Code} {G : gG} {A : Nat → Prop} {MC MS : Nat} {post : Option Nat → NM → Prop} (X : cX G A RJ21 p s m args c cJ21_put_2 10) (hr : meth.sig.returnType = (some (.object "java/lang/Object"))) (hlk : meth.locks = false) : ∀ (x2 : Option Nat) (x4 : Option Nat) (x8 : Option Nat) (mc ms : Nat) (N : NM) (H : Heap) (locs : List Loc) (ls : Array Slot) (cells slots : Nat), wJ21_put_2_95 (gC G) post x2 x4 x8 mc ms N → (cH G A s [] N H locs ∧ cells + mc ≤ MC ∧ slots + ms ≤ MS) → lv_has ls 10 [(2, va_rf x2), (4, va_rf x4), (8, va_rf x8)] → W p l e ⟨5, MC, MS, 108⟩ s m args below meth c H locs cells slots (MQ below (gQ vQ post (fun u H => cBw G A (jW u).1 (jW u).2 H) A) args s MC MS A) (F0 m 95 ls []) := by
  have hx := X.1.1
  have hb := X.1.2.1
  have hml := X.1.2.2.1
  have hown := X.1.2.2.2.1
  have hts := X.1.2.2.2.2
  intro x2 x4 x8 mc ms N H locs ls cells slots h hw0 hl
  obtain ⟨hw, hbud⟩ := hw0
  unfold wJ21_put_2_95 at h
  refine lq_aload (pc := 95) hx hb dJ21_put_2_95 (lv_at hl 1 rfl) ?_
  refine lq_aload_n (pc := 97) hx hb dJ21_put_2_97 rfl (lv_at hl 0 rfl) ?_
  obtain ⟨a49, hr50, h⟩ := h
  refine W.eq (g2 := F0 m 98 ls [va_rf x2, .ref a49]) (by rw [hr50]; rfl) ?_
  obtain ⟨f52, f53, f54, f55, f56, f57, hN51, h⟩ := h
  refine c_put (pc := 98) (v := va_rf x2) X hw hN51 in_J26 tyJ26 tyJ26_ok nmJ26 rfl 1 (by decide) q1320 rfl rfl rfl (rf_n x2 _) (rf_f x2 _) (Nat.le_of_ble_eq_true rfl) dJ21_put_2_98 (fun H locs hw => ?_)
  obtain ⟨N58, e59⟩ : ∃ z, z = va_up N a49 (some (eO 20 [va_rf f52, va_rf x2, va_rf f54, va_rf f55, va_rf f56, .int f57])) := ⟨_, rfl⟩
  have hw : cH G A s [] N58 H locs := by rw [e59]; exact hw
  have h := h N58 e59
  have hN60 : N58 a49 = some (eO 20 [va_rf f52, va_rf x2, va_rf f54, va_rf f55, va_rf f56, .int f57]) := by rw [e59]; exact up_s
  refine lq_aload (pc := 101) hx hb dJ21_put_2_101 (lv_at hl 2 rfl) ?_
  refine W.widen (k := MC) (n := MS) (by omega) (by omega) ?_
  exact W.aret (pc := 103) (v := va_rf x8) hx hb hr (Or.inl ⟨_, rfl⟩) (va_rf_or _) (fun t ht hW => c_ret (val := vQ) (lw := jW) (u := N58) hw h ht) hw.2.2.2 dJ21_put_2_103 hlk
theorem kJ21_put_2_216 {p : Program} {l : Launch} {e : Env} {s : State} {m : MethodId} {args : Array Value} {below : List Frame} {meth : Method} {c : Code} {G : gG} {A : Nat → Prop} {MC MS : Nat} {post : Option Nat → NM → Prop} (X : cX G A RJ21 p s m args c cJ21_put_2 10) (hr : meth.sig.returnType = (some (.object "java/lang/Object"))) (hlk : meth.locks = false) : ∀ (v0 : Int32) (v1 : Option Nat) (v2 : Option Nat) (v3 : Nat) (v4 : Nat) (mc ms : Nat) (N : NM) (H : Heap) (locs : List Loc) (ls : Array Slot) (cells slots : Nat), wJ21_put_2_216 (gC G) post v0 v1 v2 v3 v4 mc ms N → (cH G A s [] N H locs ∧ cells + mc ≤ MC ∧ slots + ms ≤ MS) → lv_has ls 10 [] → W p l e ⟨5, MC, MS, 108⟩ s m args below meth c H locs cells slots (MQ below (gQ vQ post (fun u H => cBw G A (jW u).1 (jW u).2 H) A) args s MC MS A) (F0 m 216 ls [.int v0, va_rf v1, va_rf v2, .ref v3, .ref v4]) := by
  have hx := X.1.1
  have hb := X.1.2.1
  have hml := X.1.2.2.1
  have hown := X.1.2.2.2.1
  have hts := X.1.2.2.2.2
  intro v0 v1 v2 v3 v4 mc ms N H locs ls cells slots h hw0 hl
  obtain ⟨hw, hbud⟩ := hw0
  unfold wJ21_put_2_216 at h
  obtain ⟨a75, hr76, h⟩ := h
  refine W.eq (g2 := F0 m 216 ls [.int v0, .ref a75, va_rf v2, .ref v3, .ref v4]) (by rw [hr76]; rfl) ?_
  obtain ⟨f84, f85, f86, f87, f88, f89, f90, f91, f92, hN83, h⟩ := h
  obtain ⟨mc79, ms80, hm81, hm82, h⟩ := h
  refine c_callJ (pc := 216) (val := vV) X hw (va_runV (C := RJ21) (As := [.ref v3, va_rf v2, .ref a75, .int v0]) (rest := []) X.1 (tJ21_addEntry X.2.2.1 (sz := H.size) h) (cwV 4 hts (lw_V q1340 q1342 qs24 q132 q1343) rfl rfl rfl ⟨rfl, by decide, by decide, (by decide +kernel : (parseMethodDescriptor yJ21_addEntry.desc).map (fun d => d.parameters.length) = some 4)⟩ ⟨Nat.le_of_ble_eq_true rfl, Nat.le_of_ble_eq_true rfl⟩) ⟨cPre_blind, c_recv X hw hN83 rfl, fun U hU hW => ⟨rfl, X.preJ hw hU hW⟩⟩ rfl rfl hl.1 rfl (lv_room (Nat.le_of_ble_eq_true rfl)) dJ21_put_2_216 ⟨show cells + mc79 ≤ MC by omega, show slots + ms80 ≤ MS by omega⟩) (fun _ N78 H locs h hw => ?_)
  refine W.eq (g2 := F0 m 219 ls ([])) rfl ?_
  refine lv_null (pc := 219) hx hb dJ21_put_2_219 ?_
  refine W.widen (k := MC) (n := MS) (by omega) (by omega) ?_
  exact W.aret (pc := 220) (v := va_rf none) hx hb hr (Or.inl ⟨_, rfl⟩) (va_rf_or _) (fun t ht hW => c_ret (val := vQ) (lw := jW) (u := N78) hw h ht) hw.2.2.2 dJ21_put_2_220 hlk
theorem kJ21_put_2_201 {p : Program} {l : Launch} {e : Env} {s : State} {m : MethodId} {args : Array Value} {below : List Frame} {meth : Method} {c : Code} {G : gG} {A : Nat → Prop} {MC MS : Nat} {post : Option Nat → NM → Prop} (X : cX G A RJ21 p s m args c cJ21_put_2 10) (hr : meth.sig.returnType = (some (.object "java/lang/Object"))) (hlk : meth.locks = false) : ∀ (x0 : Nat) (x1 : Nat) (x2 : Option Nat) (x5 : Int32) (x6 : Option Nat) (mc ms : Nat) (N : NM) (H : Heap) (locs : List Loc) (ls : Array Slot) (cells slots : Nat), wJ21_put_2_201 (gC G) post x0 x1 x2 x5 x6 mc ms N → (cH G A s [] N H locs ∧ cells + mc ≤ MC ∧ slots + ms ≤ MS) → lv_has ls 10 [(0, .ref x0), (1, .ref x1), (2, va_rf x2), (5, .int x5), (6, va_rf x6)] → W p l e ⟨5, MC, MS, 108⟩ s m args below meth c H locs cells slots (MQ below (gQ vQ post (fun u H => cBw G A (jW u).1 (jW u).2 H) A) args s MC MS A) (F0 m 201 ls []) := by
  have hx := X.1.1
  have hb := X.1.2.1
  have hml := X.1.2.2.1
  have hown := X.1.2.2.2.1
  have hts := X.1.2.2.2.2
  intro x0 x1 x2 x5 x6 mc ms N H locs ls cells slots h hw0 hl
  obtain ⟨hw, hbud⟩ := hw0
  unfold wJ21_put_2_201 at h
  refine lv_aload_n (pc := 201) hx hb dJ21_put_2_201 rfl (lv_at hl 0 rfl) ?_
  refine lv_aload_n (pc := 202) hx hb dJ21_put_2_202 rfl (lv_at hl 1 rfl) ?_
  refine lq_aload_n (pc := 203) hx hb dJ21_put_2_203 rfl (lv_at hl 2 rfl) ?_
  refine lq_aload (pc := 204) hx hb dJ21_put_2_204 (lv_at hl 4 rfl) ?_
  refine lv_iload (pc := 206) hx hb dJ21_put_2_206 (lv_at hl 3 rfl) ?_
  refine lv_if_ge (pc := 208) (tgt := 215) hx hb dJ21_put_2_208 rfl (fun c74 => ?_) (fun c74 => ?_)
  · have h := h.1 c74
    refine lv_iconst (pc := 215) (v := (0 : Int32)) hx hb dJ21_put_2_215 (by decide) ?_
    exact kJ21_put_2_216 X hr hlk  _ _ _ _ _ _ _ _ _ _ _ _ _ h ⟨hw, by omega⟩ (lv_sub hl [] rfl)
  · have h := h.2 c74
    refine lv_iconst (pc := 211) (v := (1 : Int32)) hx hb dJ21_put_2_211 (by decide) ?_
    refine lv_goto (pc := 212) (tgt := 216) hx hb dJ21_put_2_212 rfl ?_
    exact kJ21_put_2_216 X hr hlk  _ _ _ _ _ _ _ _ _ _ _ _ _ h ⟨hw, by omega⟩ (lv_sub hl [] rfl)
theorem kJ21_put_2_104 {p : Program} {l : Launch} {e : Env} {s : State} {m : MethodId} {args : Array Value} {below : List Frame} {meth : Method} {c : Code} {G : gG} {A : Nat → Prop} {MC MS : Nat} {K30 : Nat → Nat → Option Nat → Int32 → Option Nat → Option Nat → Nat → Nat → NM → Prop} {post : Option Nat → NM → Prop} (X : cX G A RJ21 p s m args c cJ21_put_2 10) (hr : meth.sig.returnType = (some (.object "java/lang/Object"))) (hlk : meth.locks = false) (hK30 : ∀ (x0 : Nat) (x1 : Nat) (x2 : Option Nat) (x3 : Int32) (x4 : Option Nat) (x7 : Option Nat) (mc ms : Nat) (N : NM) (H : Heap) (locs : List Loc) (ls : Array Slot) (cells slots : Nat), K30 x0 x1 x2 x3 x4 x7 mc ms N → (cH G A s [] N H locs ∧ cells + mc ≤ MC ∧ slots + ms ≤ MS) → lv_has ls 10 [(0, .ref x0), (1, .ref x1), (2, va_rf x2), (3, .int x3), (4, va_rf x4), (7, va_rf x7)] → W p l e ⟨5, MC, MS, 108⟩ s m args below meth c H locs cells slots (MQ below (gQ vQ post (fun u H => cBw G A (jW u).1 (jW u).2 H) A) args s MC MS A) (F0 m 30 ls [])) : ∀ (x0 : Nat) (x1 : Nat) (x2 : Option Nat) (x3 : Int32) (x4 : Option Nat) (x5 : Int32) (x6 : Option Nat) (x7 : Option Nat) (mc ms : Nat) (N : NM) (H : Heap) (locs : List Loc) (ls : Array Slot) (cells slots : Nat), wJ21_put_2_104 (gC G) K30 post x0 x1 x2 x3 x4 x5 x6 x7 mc ms N → (cH G A s [] N H locs ∧ cells + mc ≤ MC ∧ slots + ms ≤ MS) → lv_has ls 10 [(0, .ref x0), (1, .ref x1), (2, va_rf x2), (3, .int x3), (4, va_rf x4), (5, .int x5), (6, va_rf x6), (7, va_rf x7)] → W p l e ⟨5, MC, MS, 108⟩ s m args below meth c H locs cells slots (MQ below (gQ vQ post (fun u H => cBw G A (jW u).1 (jW u).2 H) A) args s MC MS A) (F0 m 104 ls []) := by
  have hx := X.1.1
  have hb := X.1.2.1
  have hml := X.1.2.2.1
  have hown := X.1.2.2.2.1
  have hts := X.1.2.2.2.2
  intro x0 x1 x2 x3 x4 x5 x6 x7 mc ms N H locs ls cells slots h hw0 hl
  obtain ⟨hw, hbud⟩ := hw0
  unfold wJ21_put_2_104 at h
  refine lq_aload (pc := 104) hx hb dJ21_put_2_104 (lv_at hl 4 rfl) ?_
  refine lq_ifnonnull (pc := 106) (tgt := 30) hx hb dJ21_put_2_106 rfl (fun hz71 => ?_) (fun a72 hr73 => ?_)
  · have h := h.1 hz71
    refine lv_goto (pc := 109) (tgt := 201) hx hb dJ21_put_2_109 rfl ?_
    exact kJ21_put_2_201 X hr hlk  _ _ _ _ _ _ _ _ _ _ _ _ _ h ⟨hw, by omega⟩ (lv_sub hl [0, 1, 2, 5, 6] rfl)
  · have h := h.2 a72 hr73
    exact hK30 _ _ _ _ _ _ _ _ _ _ _ _ _ _ h ⟨hw, by omega⟩ (lv_sub hl [0, 1, 2, 3, 4, 7] rfl)
theorem kJ21_put_2_30 {p : Program} {l : Launch} {e : Env} {s : State} {m : MethodId} {args : Array Value} {below : List Frame} {meth : Method} {c : Code} {G : gG} {A : Nat → Prop} {MC MS : Nat} {post : Option Nat → NM → Prop} (X : cX G A RJ21 p s m args c cJ21_put_2 10) (hr : meth.sig.returnType = (some (.object "java/lang/Object"))) (hlk : meth.locks = false) : ∀ (n : Nat) (x0 : Nat) (x1 : Nat) (x2 : Option Nat) (x3 : Int32) (x4 : Option Nat) (x7 : Option Nat) (mc ms : Nat) (N : NM) (H : Heap) (locs : List Loc) (ls : Array Slot) (cells slots : Nat), wJ21_put_2_30 (gC G) post n x0 x1 x2 x3 x4 x7 mc ms N → (cH G A s [] N H locs ∧ cells + mc ≤ MC ∧ slots + ms ≤ MS) → lv_has ls 10 [(0, .ref x0), (1, .ref x1), (2, va_rf x2), (3, .int x3), (4, va_rf x4), (7, va_rf x7)] → W p l e ⟨5, MC, MS, 108⟩ s m args below meth c H locs cells slots (MQ below (gQ vQ post (fun u H => cBw G A (jW u).1 (jW u).2 H) A) args s MC MS A) (F0 m 30 ls []) := by
  have hx := X.1.1
  have hb := X.1.2.1
  have hml := X.1.2.2.1
  have hown := X.1.2.2.2.1
  have hts := X.1.2.2.2.2
  intro n
  induction n with
  | zero =>
    intro x0 x1 x2 x3 x4 x7 mc ms N H locs ls cells slots h
    exact False.elim h
  | succ n ih =>
    intro x0 x1 x2 x3 x4 x7 mc ms N H locs ls cells slots h hw0 hl
    obtain ⟨hw, hbud⟩ := hw0
    unfold wJ21_put_2_30 at h
    refine lq_aload (pc := 30) hx hb dJ21_put_2_30 (lv_at hl 4 rfl) ?_
    refine lq_astore (pc := 32) (lv' := [(6, va_rf x4), (0, .ref x0), (1, .ref x1), (2, va_rf x2), (3, .int x3), (4, va_rf x4), (7, va_rf x7)]) hx hb dJ21_put_2_32 hl (by decide) rfl (fun ls hl => ?_)
    refine lq_aload (pc := 34) hx hb dJ21_put_2_34 (lv_at hl 6 rfl) ?_
    refine lv_aload_n (pc := 36) hx hb dJ21_put_2_36 rfl (lv_at hl 2 rfl) ?_
    refine lq_aload (pc := 37) hx hb dJ21_put_2_37 (lv_at hl 5 rfl) ?_
    obtain ⟨a23, hr24, h⟩ := h
    refine W.eq (g2 := F0 m 39 ls [.ref a23, .ref x1, va_rf x7]) (by rw [hr24]; rfl) ?_
    obtain ⟨f26, f27, f28, f29, f30, f31, hN25, h⟩ := h
    refine c_get (pc := 39) X hw hN25 in_J26 rfl 0 (by decide) q1318 rfl rfl dJ21_put_2_39 ?_
    obtain ⟨a32, hr33, h⟩ := h
    refine W.eq (g2 := F0 m 42 ls [va_rf f26, .ref x1, .ref a32]) (by rw [hr33]; rfl) ?_
    obtain ⟨a34, hr35, h⟩ := h
    refine W.eq (g2 := F0 m 42 ls [.ref a34, .ref x1, .ref a32]) (by rw [hr35]; rfl) ?_
    obtain ⟨hN38, h⟩ := h
    refine c_callF (pc := 42) (val := vI) X hw (va_runF (X.2.1.1 13 _ rfl).2 (As := [.ref x1, .ref a34]) (rest := []) X.1 (tX7_compare X.2.2.1 (sz := H.size) h) (va_cwF 2 hts (lw_app (lw_l4 q1013 q1017 q1019 q133) (lw_meth q1021)) rfl rfl rfl (X.2.2.2.1.Fw ⟨by decide, by decide⟩ X.2.2.1 q1015 q1014 q1020 q1018 q1016) ⟨by decide, by decide, (by decide +kernel : (parseMethodDescriptor yX7_compare.desc).map (fun d => d.parameters.length) = some 2)⟩ ⟨Nat.le_of_ble_eq_true rfl, Nat.le_of_ble_eq_true rfl⟩) ⟨cPre_blind, c_recv X hw hN38 rfl, fun U hU hW => ⟨rfl, X.preJ hw hU hW⟩⟩ rfl rfl hl.1 rfl (lv_room (Nat.le_of_ble_eq_true rfl)) dJ21_put_2_42 ⟨show cells + 0 ≤ MC by omega, show slots + 0 ≤ MS by omega⟩) (fun r36 N37 H locs h hw => ?_)
    refine W.eq (g2 := F0 m 47 ls (.int r36 :: [])) rfl ?_
    refine lv_istore (pc := 47) (i := 5) (lv' := [(5, .int r36), (6, va_rf x4), (0, .ref x0), (1, .ref x1), (2, va_rf x2), (3, .int x3), (4, va_rf x4), (7, va_rf x7)]) hx hb dJ21_put_2_47 hl (by decide) (by simp [rf_c]) (fun ls hl => ?_)
    refine lv_iload (pc := 49) hx hb dJ21_put_2_49 (lv_at hl 0 rfl) ?_
    refine lv_if_ge (pc := 51) (tgt := 64) hx hb dJ21_put_2_51 rfl (fun c39 => ?_) (fun c39 => ?_)
    · have h := h.1 c39
      refine lv_iload (pc := 64) hx hb dJ21_put_2_64 (lv_at hl 0 rfl) ?_
      refine lv_if_le (pc := 66) (tgt := 79) hx hb dJ21_put_2_66 rfl (fun c40 => ?_) (fun c40 => ?_)
      · have h := h.1 c40
        refine lq_aload (pc := 79) hx hb dJ21_put_2_79 (lv_at hl 6 rfl) ?_
        refine W.eq (g2 := F0 m 81 ls [.ref a23]) (by rw [hr24]; rfl) ?_
        obtain ⟨f42, f43, f44, f45, f46, f47, hN41, h⟩ := h
        refine c_get (pc := 81) X hw hN41 in_J26 rfl 1 (by decide) q1320 rfl rfl dJ21_put_2_81 ?_
        refine lq_astore (pc := 84) (i := 8) (lv' := [(8, va_rf f43), (5, .int r36), (6, va_rf x4), (0, .ref x0), (1, .ref x1), (2, va_rf x2), (3, .int x3), (4, va_rf x4), (7, va_rf x7)]) hx hb dJ21_put_2_84 hl (by decide) (by simp [rf_c]) (fun ls hl => ?_)
        refine lv_iload_n (pc := 86) hx hb dJ21_put_2_86 rfl (lv_at hl 6 rfl) ?_
        refine lv_if_ne (pc := 87) (tgt := 95) hx hb dJ21_put_2_87 rfl (fun c48 => ?_) (fun c48 => ?_)
        · have h := h.2 c48
          exact kJ21_put_2_95 X hr hlk  _ _ _ _ _ _ _ _ _ _ _ h ⟨hw, by omega⟩ (lv_sub hl [5, 7, 0] rfl)
        · have h := h.1 c48
          refine lq_aload (pc := 90) hx hb dJ21_put_2_90 (lv_at hl 0 rfl) ?_
          refine lq_ifnonnull (pc := 92) (tgt := 101) hx hb dJ21_put_2_92 rfl (fun hz61 => ?_) (fun a62 hr63 => ?_)
          · have h := h.1 hz61
            exact kJ21_put_2_95 X hr hlk  _ _ _ _ _ _ _ _ _ _ _ h ⟨hw, by omega⟩ (lv_sub hl [5, 7, 0] rfl)
          · have h := h.2 a62 hr63
            refine lq_aload (pc := 101) hx hb dJ21_put_2_101 (lv_at hl 0 rfl) ?_
            refine W.widen (k := MC) (n := MS) (by omega) (by omega) ?_
            exact W.aret (pc := 103) (v := va_rf f43) hx hb hr (Or.inl ⟨_, rfl⟩) (va_rf_or _) (fun t ht hW => c_ret (val := vQ) (lw := jW) (u := N37) hw h ht) hw.2.2.2 dJ21_put_2_103 hlk
      · have h := h.2 c40
        refine lq_aload (pc := 69) hx hb dJ21_put_2_69 (lv_at hl 6 rfl) ?_
        refine W.eq (g2 := F0 m 71 ls [.ref a23]) (by rw [hr24]; rfl) ?_
        obtain ⟨f65, f66, f67, f68, f69, f70, hN64, h⟩ := h
        refine c_get (pc := 71) X hw hN64 in_J26 rfl 3 (by decide) q1322 rfl rfl dJ21_put_2_71 ?_
        refine lq_astore (pc := 74) (lv' := [(4, va_rf f68), (5, .int r36), (6, va_rf x4), (0, .ref x0), (1, .ref x1), (2, va_rf x2), (3, .int x3), (7, va_rf x7)]) hx hb dJ21_put_2_74 hl (by decide) rfl (fun ls hl => ?_)
        refine lv_goto (pc := 76) (tgt := 104) hx hb dJ21_put_2_76 rfl ?_
        exact kJ21_put_2_104 X hr hlk ih _ _ _ _ _ _ _ _ _ _ _ _ _ _ _ _ h ⟨hw, by omega⟩ (lv_sub hl [3, 4, 5, 6, 0, 1, 2, 7] rfl)
    · have h := h.2 c39
      refine lq_aload (pc := 54) hx hb dJ21_put_2_54 (lv_at hl 6 rfl) ?_
      refine W.eq (g2 := F0 m 56 ls [.ref a23]) (by rw [hr24]; rfl) ?_
      obtain ⟨f94, f95, f96, f97, f98, f99, hN93, h⟩ := h
      refine c_get (pc := 56) X hw hN93 in_J26 rfl 2 (by decide) q1321 rfl rfl dJ21_put_2_56 ?_
      refine lq_astore (pc := 59) (lv' := [(4, va_rf f96), (5, .int r36), (6, va_rf x4), (0, .ref x0), (1, .ref x1), (2, va_rf x2), (3, .int x3), (7, va_rf x7)]) hx hb dJ21_put_2_59 hl (by decide) rfl (fun ls hl => ?_)
      refine lv_goto (pc := 61) (tgt := 104) hx hb dJ21_put_2_61 rfl ?_
      exact kJ21_put_2_104 X hr hlk ih _ _ _ _ _ _ _ _ _ _ _ _ _ _ _ _ h ⟨hw, by omega⟩ (lv_sub hl [3, 4, 5, 6, 0, 1, 2, 7] rfl)
theorem tJ21_put_2 {l : Launch} {G : gG} (hO : gOk G) {post : Option Nat → NM → Prop} {MC MS : Nat} {N : NM} {x0 : Nat} {x1 : Nat} {x2 : Option Nat} {x3 : Int32} {sz : Nat} (h : wJ21_put_2 (gC G) post MC MS N x0 x1 x2 x3) : Met l yJ21_put_2 (ws_ yJ21_put_2 cJ21_put_2 10 (some (.object "java/lang/Object"))) ⟨5, MC, MS, 108⟩ (va_Pc [.ref x0, .ref x1, va_rf x2, .int x3] (cPre G [] N sz)) (gQ vQ post (fun u H => cBw G (cA [] N sz) (jW u).1 (jW u).2 H) (cA [] N sz)) MC MS (cA [] N sz) := by
  refine c_ofW (lw := jW) (by decide) hO (by cases x2 <;> exact Nat.le_of_ble_eq_true rfl) (fun p e s m below meth c ls A X hr hlk hin hw hl => ?_)
  have hl : lv_has ls 10 [(0, .ref x0), (1, .ref x1), (2, va_rf x2), (3, .int x3)] := by cases x2 <;> exact hl
  have hx := X.1.1
  have hb := X.1.2.1
  have hml := X.1.2.2.1
  have hown := X.1.2.2.2.1
  have hts := X.1.2.2.2.2
  obtain ⟨H, eH⟩ : ∃ z, z = s.heap := ⟨_, rfl⟩
  rw [← eH] at hw ⊢
  obtain ⟨locs, eLo⟩ : ∃ z : List Loc, z = [] := ⟨_, rfl⟩
  rw [← eLo] at hw ⊢
  have hbud : 0 + MC ≤ MC ∧ 0 + MS ≤ MS := by omega
  unfold wJ21_put_2 at h
  refine lv_aload_n (pc := 0) hx hb dJ21_put_2_0 rfl (lv_at hl 0 rfl) ?_
  obtain ⟨f2, f3, f4, f5, f6, f7, f8, f9, f10, hN1, h⟩ := h
  refine c_get (pc := 1) X hw hN1 in_J21 rfl 3 (by decide) q949 rfl rfl dJ21_put_2_1 ?_
  refine lq_astore (pc := 4) (lv' := [(4, va_rf f5), (0, .ref x0), (1, .ref x1), (2, va_rf x2), (3, .int x3)]) hx hb dJ21_put_2_4 hl (by decide) rfl (fun ls hl => ?_)
  refine lq_aload (pc := 6) hx hb dJ21_put_2_6 (lv_at hl 0 rfl) ?_
  refine lq_ifnonnull (pc := 8) (tgt := 19) hx hb dJ21_put_2_8 rfl (fun hz11 => ?_) (fun a12 hr13 => ?_)
  · have h := h.1 hz11
    refine lv_aload_n (pc := 11) hx hb dJ21_put_2_11 rfl (lv_at hl 1 rfl) ?_
    refine lv_aload_n (pc := 12) hx hb dJ21_put_2_12 rfl (lv_at hl 2 rfl) ?_
    refine lq_aload_n (pc := 13) hx hb dJ21_put_2_13 rfl (lv_at hl 3 rfl) ?_
    obtain ⟨mc16, ms17, hm18, hm19, h⟩ := h
    refine c_callJ (pc := 14) (val := vV) X hw (va_runV (C := RJ21) (As := [.ref x1, va_rf x2]) (rest := []) X.1 (tJ21_addEntryToEmptyMap X.2.2.1 (sz := H.size) h) (cwV 2 hts (lw_V q1303 q1305 qs23 q132 q1306) rfl rfl rfl ⟨rfl, by decide, by decide, (by decide +kernel : (parseMethodDescriptor yJ21_addEntryToEmptyMap.desc).map (fun d => d.parameters.length) = some 2)⟩ ⟨Nat.le_of_ble_eq_true rfl, Nat.le_of_ble_eq_true rfl⟩) ⟨cPre_blind, c_recv X hw hN1 rfl, fun U hU hW => ⟨rfl, X.preJ hw hU hW⟩⟩ rfl rfl hl.1 rfl (lv_room (Nat.le_of_ble_eq_true rfl)) dJ21_put_2_14 ⟨show 0 + mc16 ≤ MC by omega, show 0 + ms17 ≤ MS by omega⟩) (fun _ N15 H locs h hw => ?_)
    refine W.eq (g2 := F0 m 17 ls ([])) rfl ?_
    refine lv_null (pc := 17) hx hb dJ21_put_2_17 ?_
    refine W.widen (k := MC) (n := MS) (by omega) (by omega) ?_
    exact W.aret (pc := 18) (v := va_rf none) hx hb hr (Or.inl ⟨_, rfl⟩) (va_rf_or _) (fun t ht hW => c_ret (val := vQ) (lw := jW) (u := N15) hw h ht) hw.2.2.2 dJ21_put_2_18 hlk
  · have h := h.2 a12 hr13
    refine lv_aload_n (pc := 19) hx hb dJ21_put_2_19 rfl (lv_at hl 1 rfl) ?_
    refine c_get (pc := 20) X hw hN1 in_J21 rfl 2 (by decide) q948 rfl rfl dJ21_put_2_20 ?_
    refine lq_astore (pc := 23) (lv' := [(7, va_rf f4), (4, va_rf f5), (0, .ref x0), (1, .ref x1), (2, va_rf x2), (3, .int x3)]) hx hb dJ21_put_2_23 hl (by decide) rfl (fun ls hl => ?_)
    refine lq_aload (pc := 25) hx hb dJ21_put_2_25 (lv_at hl 0 rfl) ?_
    refine lq_ifnull (pc := 27) (tgt := 112) hx hb dJ21_put_2_27 rfl (fun hz20 => ?_) (fun a21 hr22 => ?_)
    · have h := h.1 hz20
      exact False.elim h
    · have h := h.2 a21 hr22
      obtain ⟨k, h⟩ := h
      exact kJ21_put_2_30 X hr hlk  k _ _ _ _ _ _ _ _ _ _ _ _ _ _ h ⟨hw, by omega⟩ (lv_sub hl [2, 3, 4, 5, 1, 0] rfl)

def wJ21_put (K : Nat → Nat → Nat) (post : Option Nat → NM → Prop) (MC MS : Nat) (N : NM) (x0 : Nat) (x1 : Nat) (x2 : Option Nat) : Prop :=
  ∃ f8 f9 f10 f11 f12 f13 f14 f15 f16, N x0 = some (eO 19 [va_rf f8, va_rf f9, va_rf f10, va_rf f11, .int f12, .int f13, va_rf f14, va_rf f15, va_rf f16]) ∧ (∃ mc3 ms4, mc3 ≤ MC ∧ ms4 ≤ MS ∧ wJ21_put_2 K (fun r1 N2 => post r1 N2) mc3 ms4 N x0 x1 x2 (1 : Int32))
theorem tJ21_put {l : Launch} {G : gG} (hO : gOk G) {post : Option Nat → NM → Prop} {MC MS : Nat} {N : NM} {x0 : Nat} {x1 : Nat} {x2 : Option Nat} {sz : Nat} (h : wJ21_put (gC G) post MC MS N x0 x1 x2) : Met l yJ21_put (ws_ yJ21_put cJ21_put 3 (some (.object "java/lang/Object"))) ⟨6, MC, MS, 137⟩ (va_Pc [.ref x0, .ref x1, va_rf x2] (cPre G [] N sz)) (gQ vQ post (fun u H => cBw G (cA [] N sz) (jW u).1 (jW u).2 H) (cA [] N sz)) MC MS (cA [] N sz) := by
  refine c_ofW (lw := jW) (by decide) hO (by cases x2 <;> exact Nat.le_of_ble_eq_true rfl) (fun p e s m below meth c ls A X hr hlk hin hw hl => ?_)
  have hl : lv_has ls 3 [(0, .ref x0), (1, .ref x1), (2, va_rf x2)] := by cases x2 <;> exact hl
  have hx := X.1.1
  have hb := X.1.2.1
  have hml := X.1.2.2.1
  have hown := X.1.2.2.2.1
  have hts := X.1.2.2.2.2
  obtain ⟨H, eH⟩ : ∃ z, z = s.heap := ⟨_, rfl⟩
  rw [← eH] at hw ⊢
  obtain ⟨locs, eLo⟩ : ∃ z : List Loc, z = [] := ⟨_, rfl⟩
  rw [← eLo] at hw ⊢
  have hbud : 0 + MC ≤ MC ∧ 0 + MS ≤ MS := by omega
  unfold wJ21_put at h
  refine lv_aload_n (pc := 0) hx hb dJ21_put_0 rfl (lv_at hl 0 rfl) ?_
  refine lv_aload_n (pc := 1) hx hb dJ21_put_1 rfl (lv_at hl 1 rfl) ?_
  refine lq_aload_n (pc := 2) hx hb dJ21_put_2 rfl (lv_at hl 2 rfl) ?_
  refine lv_iconst (pc := 3) (v := (1 : Int32)) hx hb dJ21_put_3 (by decide) ?_
  obtain ⟨f8, f9, f10, f11, f12, f13, f14, f15, f16, hN7, h⟩ := h
  obtain ⟨mc3, ms4, hm5, hm6, h⟩ := h
  refine c_callJ (pc := 4) (val := vQ) X hw (va_runV (C := RJ21) (As := [.ref x1, va_rf x2, .int (1 : Int32)]) (rest := []) X.1 (tJ21_put_2 X.2.2.1 (sz := H.size) h) (cwV 3 hts (lw_V q1299 q1301 qs22 q132 q1302) rfl rfl rfl ⟨rfl, by decide, by decide, (by decide +kernel : (parseMethodDescriptor yJ21_put_2.desc).map (fun d => d.parameters.length) = some 3)⟩ ⟨Nat.le_of_ble_eq_true rfl, Nat.le_of_ble_eq_true rfl⟩) ⟨cPre_blind, c_recv X hw hN7 rfl, fun U hU hW => ⟨rfl, X.preJ hw hU hW⟩⟩ rfl rfl hl.1 rfl (lv_room (Nat.le_of_ble_eq_true rfl)) dJ21_put_4 ⟨show 0 + mc3 ≤ MC by omega, show 0 + ms4 ≤ MS by omega⟩) (fun r1 N2 H locs h hw => ?_)
  refine W.eq (g2 := F0 m 7 ls (va_rf r1 :: [])) rfl ?_
  refine W.widen (k := MC) (n := MS) (by omega) (by omega) ?_
  exact W.aret (pc := 7) (v := va_rf r1) hx hb hr (Or.inl ⟨_, rfl⟩) (va_rf_or _) (fun t ht hW => c_ret (val := vQ) (lw := jW) (u := N2) hw h ht) hw.2.2.2 dJ21_put_7 hlk
