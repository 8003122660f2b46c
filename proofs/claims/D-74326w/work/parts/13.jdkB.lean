set_option maxRecDepth 100000
set_option maxHeartbeats 4000000
def wJ14_min (post : Int32 → Prop) (x0 : Int32) (x1 : Int32) : Prop :=
  ((x1 < x0) → (post x1)) ∧ (¬ (x1 < x0) → (post x0))
theorem tJ14_min {l : Launch} {post : Int32 → Prop} {x0 : Int32} {x1 : Int32} (h : wJ14_min post x0 x1) : Met l yJ14_min (ws_ yJ14_min cJ14_min 2 (some .int)) ⟨0, 0, 0, 0⟩ (va_Pc [.int x0, .int x1] (fun _ => True)) (pQ vI post) 0 0 (fun _ => False) := by
  refine s_ofWF (by decide +kernel) (Nat.le_of_ble_eq_true rfl) (fun p e s m below meth c ls X hr hlk hl => ?_)
  have hl : lv_has ls 2 [(0, .int x0), (1, .int x1)] := hl
  have hx := X.1
  have hb := X.2.1
  have hml := X.2.2.1
  have hown := X.2.2.2.1
  have hts := X.2.2.2.2
  unfold wJ14_min at h
  refine lv_iload_n (pc := 0) hx hb dJ14_min_0 rfl (lv_at hl 0 rfl) ?_
  refine lv_iload_n (pc := 1) hx hb dJ14_min_1 rfl (lv_at hl 1 rfl) ?_
  refine lv_icmp_gt (pc := 2) (tgt := 9) hx hb dJ14_min_2 rfl (fun c1 => ?_) (fun c1 => ?_)
  · have h := h.1 c1
    refine lv_iload_n (pc := 9) hx hb dJ14_min_9 rfl (lv_at hl 1 rfl) ?_
    exact W.iret (pc := 10) hx hb hr (fun t ht hW => s_ret (val := vI) h ht) (fun _ hq => absurd hq List.not_mem_nil) dJ14_min_10 hlk
  · have h := h.2 c1
    refine lv_iload_n (pc := 5) hx hb dJ14_min_5 rfl (lv_at hl 0 rfl) ?_
    refine lv_goto (pc := 6) (tgt := 10) hx hb dJ14_min_6 rfl ?_
    exact W.iret (pc := 10) hx hb hr (fun t ht hW => s_ret (val := vI) h ht) (fun _ hq => absurd hq List.not_mem_nil) dJ14_min_10 hlk

def wJ14_max (post : Int32 → Prop) (x0 : Int32) (x1 : Int32) : Prop :=
  ((x0 < x1) → (post x1)) ∧ (¬ (x0 < x1) → (post x0))
theorem tJ14_max {l : Launch} {post : Int32 → Prop} {x0 : Int32} {x1 : Int32} (h : wJ14_max post x0 x1) : Met l yJ14_max (ws_ yJ14_max cJ14_max 2 (some .int)) ⟨0, 0, 0, 0⟩ (va_Pc [.int x0, .int x1] (fun _ => True)) (pQ vI post) 0 0 (fun _ => False) := by
  refine s_ofWF (by decide +kernel) (Nat.le_of_ble_eq_true rfl) (fun p e s m below meth c ls X hr hlk hl => ?_)
  have hl : lv_has ls 2 [(0, .int x0), (1, .int x1)] := hl
  have hx := X.1
  have hb := X.2.1
  have hml := X.2.2.1
  have hown := X.2.2.2.1
  have hts := X.2.2.2.2
  unfold wJ14_max at h
  refine lv_iload_n (pc := 0) hx hb dJ14_max_0 rfl (lv_at hl 0 rfl) ?_
  refine lv_iload_n (pc := 1) hx hb dJ14_max_1 rfl (lv_at hl 1 rfl) ?_
  refine lv_icmp_lt (pc := 2) (tgt := 9) hx hb dJ14_max_2 rfl (fun c1 => ?_) (fun c1 => ?_)
  · have h := h.1 c1
    refine lv_iload_n (pc := 9) hx hb dJ14_max_9 rfl (lv_at hl 1 rfl) ?_
    exact W.iret (pc := 10) hx hb hr (fun t ht hW => s_ret (val := vI) h ht) (fun _ hq => absurd hq List.not_mem_nil) dJ14_max_10 hlk
  · have h := h.2 c1
    refine lv_iload_n (pc := 5) hx hb dJ14_max_5 rfl (lv_at hl 0 rfl) ?_
    refine lv_goto (pc := 6) (tgt := 10) hx hb dJ14_max_6 rfl ?_
    exact W.iret (pc := 10) hx hb hr (fun t ht hW => s_ret (val := vI) h ht) (fun _ hq => absurd hq List.not_mem_nil) dJ14_max_10 hlk

def wJ14_abs (post : Int32 → Prop) (x0 : Int32) : Prop :=
  (((0 : Int32) ≤ x0) → (post x0)) ∧ (¬ ((0 : Int32) ≤ x0) → (post (-x0)))
theorem tJ14_abs {l : Launch} {post : Int32 → Prop} {x0 : Int32} (h : wJ14_abs post x0) : Met l yJ14_abs (ws_ yJ14_abs cJ14_abs 1 (some .int)) ⟨0, 0, 0, 0⟩ (va_Pc [.int x0] (fun _ => True)) (pQ vI post) 0 0 (fun _ => False) := by
  refine s_ofWF (by decide +kernel) (Nat.le_of_ble_eq_true rfl) (fun p e s m below meth c ls X hr hlk hl => ?_)
  have hl : lv_has ls 1 [(0, .int x0)] := hl
  have hx := X.1
  have hb := X.2.1
  have hml := X.2.2.1
  have hown := X.2.2.2.1
  have hts := X.2.2.2.2
  unfold wJ14_abs at h
  refine lv_iload_n (pc := 0) hx hb dJ14_abs_0 rfl (lv_at hl 0 rfl) ?_
  refine lv_if_ge (pc := 1) (tgt := 9) hx hb dJ14_abs_1 rfl (fun c1 => ?_) (fun c1 => ?_)
  · have h := h.1 c1
    refine lv_iload_n (pc := 9) hx hb dJ14_abs_9 rfl (lv_at hl 0 rfl) ?_
    exact W.iret (pc := 10) hx hb hr (fun t ht hW => s_ret (val := vI) h ht) (fun _ hq => absurd hq List.not_mem_nil) dJ14_abs_10 hlk
  · have h := h.2 c1
    refine lv_iload_n (pc := 4) hx hb dJ14_abs_4 rfl (lv_at hl 0 rfl) ?_
    refine lv_ineg (pc := 5) hx hb dJ14_abs_5 ?_
    refine lv_goto (pc := 6) (tgt := 10) hx hb dJ14_abs_6 rfl ?_
    exact W.iret (pc := 10) hx hb hr (fun t ht hW => s_ret (val := vI) h ht) (fun _ hq => absurd hq List.not_mem_nil) dJ14_abs_10 hlk

def wJ14_floorMod (post : Int32 → Prop) (x0 : Int32) (x1 : Int32) : Prop :=
  ¬ x1 = 0 ∧ ((((0 : Int32) ≤ (x0 ^^^ x1)) → (post (x0 - x0 / x1 * x1))) ∧ (¬ ((0 : Int32) ≤ (x0 ^^^ x1)) → ((((x0 - x0 / x1 * x1) = (0 : Int32)) → (post (x0 - x0 / x1 * x1))) ∧ (¬ ((x0 - x0 / x1 * x1) = (0 : Int32)) → (post ((x0 - x0 / x1 * x1) + x1))))))
theorem tJ14_floorMod {l : Launch} {post : Int32 → Prop} {x0 : Int32} {x1 : Int32} (h : wJ14_floorMod post x0 x1) : Met l yJ14_floorMod (ws_ yJ14_floorMod cJ14_floorMod 3 (some .int)) ⟨0, 0, 0, 0⟩ (va_Pc [.int x0, .int x1] (fun _ => True)) (pQ vI post) 0 0 (fun _ => False) := by
  refine s_ofWF (by decide +kernel) (Nat.le_of_ble_eq_true rfl) (fun p e s m below meth c ls X hr hlk hl => ?_)
  have hl : lv_has ls 3 [(0, .int x0), (1, .int x1)] := hl
  have hx := X.1
  have hb := X.2.1
  have hml := X.2.2.1
  have hown := X.2.2.2.1
  have hts := X.2.2.2.2
  unfold wJ14_floorMod at h
  refine lv_iload_n (pc := 0) hx hb dJ14_floorMod_0 rfl (lv_at hl 0 rfl) ?_
  refine lv_iload_n (pc := 1) hx hb dJ14_floorMod_1 rfl (lv_at hl 1 rfl) ?_
  obtain ⟨hne, h⟩ := h
  refine lv_irem (pc := 2) hx hb dJ14_floorMod_2 hne ?_
  refine lv_istore_n (pc := 3) (lv' := [(2, .int (x0 - x0 / x1 * x1)), (0, .int x0), (1, .int x1)]) hx hb dJ14_floorMod_3 rfl hl (by decide) rfl (fun ls hl => ?_)
  refine lv_iload_n (pc := 4) hx hb dJ14_floorMod_4 rfl (lv_at hl 1 rfl) ?_
  refine lv_iload_n (pc := 5) hx hb dJ14_floorMod_5 rfl (lv_at hl 2 rfl) ?_
  refine lv_ixor (pc := 6) hx hb dJ14_floorMod_6 ?_
  refine lv_if_ge (pc := 7) (tgt := 18) hx hb dJ14_floorMod_7 rfl (fun c1 => ?_) (fun c1 => ?_)
  · have h := h.1 c1
    refine lv_iload_n (pc := 18) hx hb dJ14_floorMod_18 rfl (lv_at hl 0 rfl) ?_
    exact W.iret (pc := 19) hx hb hr (fun t ht hW => s_ret (val := vI) h ht) (fun _ hq => absurd hq List.not_mem_nil) dJ14_floorMod_19 hlk
  · have h := h.2 c1
    refine lv_iload_n (pc := 10) hx hb dJ14_floorMod_10 rfl (lv_at hl 0 rfl) ?_
    refine lv_if_eq (pc := 11) (tgt := 18) hx hb dJ14_floorMod_11 rfl (fun c2 => ?_) (fun c2 => ?_)
    · have h := h.1 c2
      refine lv_iload_n (pc := 18) hx hb dJ14_floorMod_18 rfl (lv_at hl 0 rfl) ?_
      exact W.iret (pc := 19) hx hb hr (fun t ht hW => s_ret (val := vI) h ht) (fun _ hq => absurd hq List.not_mem_nil) dJ14_floorMod_19 hlk
    · have h := h.2 c2
      refine lv_iload_n (pc := 14) hx hb dJ14_floorMod_14 rfl (lv_at hl 0 rfl) ?_
      refine lv_iload_n (pc := 15) hx hb dJ14_floorMod_15 rfl (lv_at hl 2 rfl) ?_
      refine lv_iadd (pc := 16) hx hb dJ14_floorMod_16 ?_
      exact W.iret (pc := 17) hx hb hr (fun t ht hW => s_ret (val := vI) h ht) (fun _ hq => absurd hq List.not_mem_nil) dJ14_floorMod_17 hlk

def wJ16_canEncode (post : Int32 → Prop) (x0 : Int32) : Prop :=
  (((255 : Int32) < x0) → (post (0 : Int32))) ∧ (¬ ((255 : Int32) < x0) → (post (1 : Int32)))
theorem tJ16_canEncode {l : Launch} {post : Int32 → Prop} {x0 : Int32} (h : wJ16_canEncode post x0) : Met l yJ16_canEncode (ws_ yJ16_canEncode cJ16_canEncode 1 (some .boolean)) ⟨0, 0, 0, 0⟩ (va_Pc [.int x0] (fun _ => True)) (pQ vI post) 0 0 (fun _ => False) := by
  refine s_ofW (by decide) (Nat.le_of_ble_eq_true rfl) (fun p e s m below meth c ls X hr hlk hl => ?_)
  have hl : lv_has ls 1 [(0, .int x0)] := hl
  have hx := X.1
  have hb := X.2.1
  have hml := X.2.2.1
  have hown := X.2.2.2.1
  have hts := X.2.2.2.2
  unfold wJ16_canEncode at h
  refine lv_iload_n (pc := 0) hx hb dJ16_canEncode_0 rfl (lv_at hl 0 rfl) ?_
  refine lv_sipush (pc := 1) (v := (255 : Int32)) hx hb dJ16_canEncode_1 (by decide) ?_
  refine lv_icmp_gt (pc := 4) (tgt := 11) hx hb dJ16_canEncode_4 rfl (fun c1 => ?_) (fun c1 => ?_)
  · have h := h.1 c1
    refine lv_iconst (pc := 11) (v := (0 : Int32)) hx hb dJ16_canEncode_11 (by decide) ?_
    exact W.zret (pc := 12) hx hb hr rfl (fun t ht hW => s_ret (val := vI) h ht) (fun _ hq => absurd hq List.not_mem_nil) dJ16_canEncode_12 hlk
  · have h := h.2 c1
    refine lv_iconst (pc := 7) (v := (1 : Int32)) hx hb dJ16_canEncode_7 (by decide) ?_
    refine lv_goto (pc := 8) (tgt := 12) hx hb dJ16_canEncode_8 rfl ?_
    exact W.zret (pc := 12) hx hb hr rfl (fun t ht hW => s_ret (val := vI) h ht) (fun _ hq => absurd hq List.not_mem_nil) dJ16_canEncode_12 hlk

def wJ13_newLength (post : Int32 → Prop) (x0 : Int32) (x1 : Int32) (x2 : Int32) : Prop :=
  wJ14_max (fun r1 => (((x0 + r1) ≤ (0 : Int32)) → (False)) ∧ (¬ ((x0 + r1) ≤ (0 : Int32)) → ((((2147483639 : Int32) < (x0 + r1)) → (False)) ∧ (¬ ((2147483639 : Int32) < (x0 + r1)) → (post (x0 + r1)))))) x1 x2
theorem tJ13_newLength {l : Launch} {post : Int32 → Prop} {x0 : Int32} {x1 : Int32} {x2 : Int32} (h : wJ13_newLength post x0 x1 x2) : Met l yJ13_newLength (ws_ yJ13_newLength cJ13_newLength 4 (some .int)) ⟨1, 0, 0, 21⟩ (va_Pc [.int x0, .int x1, .int x2] (fun _ => True)) (pQ vI post) 0 0 (fun _ => False) := by
  refine s_ofW (by decide) (Nat.le_of_ble_eq_true rfl) (fun p e s m below meth c ls X hr hlk hl => ?_)
  have hl : lv_has ls 4 [(0, .int x0), (1, .int x1), (2, .int x2)] := hl
  have hx := X.1
  have hb := X.2.1
  have hml := X.2.2.1
  have hown := X.2.2.2.1
  have hts := X.2.2.2.2
  unfold wJ13_newLength at h
  refine lv_iload_n (pc := 0) hx hb dJ13_newLength_0 rfl (lv_at hl 0 rfl) ?_
  refine lv_iload_n (pc := 1) hx hb dJ13_newLength_1 rfl (lv_at hl 1 rfl) ?_
  refine lv_iload_n (pc := 2) hx hb dJ13_newLength_2 rfl (lv_at hl 2 rfl) ?_
  refine s_call (pc := 3) (val := vI) (As := [.int x1, .int x2]) (rest := [.int x0]) X (tJ14_max h) (lw_S q527 q528 q121 q529) ⟨by decide, by decide, (by decide +kernel : (parseMethodDescriptor yJ14_max.desc).map (fun d => d.parameters.length) = some 2)⟩ ⟨Nat.le_of_ble_eq_true rfl, Nat.le_of_ble_eq_true rfl⟩ hl.1 (Nat.le_of_ble_eq_true rfl) ⟨Nat.le_refl _, Nat.le_refl _⟩ dJ13_newLength_3 rfl (fun r1 h => ?_)
  refine W.eq (g2 := F0 m 6 ls (.int r1 :: [.int x0])) rfl ?_
  refine lv_iadd (pc := 6) hx hb dJ13_newLength_6 ?_
  refine lv_istore_n (pc := 7) (lv' := [(3, .int (x0 + r1)), (0, .int x0), (1, .int x1), (2, .int x2)]) hx hb dJ13_newLength_7 rfl hl (by decide) rfl (fun ls hl => ?_)
  refine lv_iconst (pc := 8) (v := (0 : Int32)) hx hb dJ13_newLength_8 (by decide) ?_
  refine lv_iload_n (pc := 9) hx hb dJ13_newLength_9 rfl (lv_at hl 0 rfl) ?_
  refine lv_icmp_ge (pc := 10) (tgt := 21) hx hb dJ13_newLength_10 rfl (fun c2 => ?_) (fun c2 => ?_)
  · have h := h.1 c2
    exact False.elim h
  · have h := h.2 c2
    refine lv_iload_n (pc := 13) hx hb dJ13_newLength_13 rfl (lv_at hl 0 rfl) ?_
    refine lv_ldc (pc := 14) hx hb hown (hts _ q530) dJ13_newLength_14 ?_
    refine lv_icmp_gt (pc := 16) (tgt := 21) hx hb dJ13_newLength_16 rfl (fun c3 => ?_) (fun c3 => ?_)
    · have h := h.1 c3
      exact False.elim h
    · have h := h.2 c3
      refine lv_iload_n (pc := 19) hx hb dJ13_newLength_19 rfl (lv_at hl 0 rfl) ?_
      exact W.iret (pc := 20) hx hb hr (fun t ht hW => s_ret (val := vI) h ht) (fun _ hq => absurd hq List.not_mem_nil) dJ13_newLength_20 hlk

def wJ23_stringSize_16 (post : Int32 → Prop) : Nat → Int32 → Int32 → Int32 → Int32 → Prop
  | 0, _, _, _, _ => False
  | n + 1, x0, x1, x2, x3 => (((10 : Int32) ≤ x3) → (post ((10 : Int32) + x1))) ∧ (¬ ((10 : Int32) ≤ x3) → (((x0 ≤ x2) → (wJ23_stringSize_16 post n x0 x1 ((10 : Int32) * x2) (x3 + (1 : Int32)))) ∧ (¬ (x0 ≤ x2) → (post (x3 + x1)))))
def wJ23_stringSize_11 (post : Int32 → Prop) (x0 : Int32) (x1 : Int32) : Prop :=
  (∃ k, wJ23_stringSize_16 post k x0 x1 (-10 : Int32) (1 : Int32))
def wJ23_stringSize (post : Int32 → Prop) (x0 : Int32) : Prop :=
  ((x0 < (0 : Int32)) → (wJ23_stringSize_11 post x0 (1 : Int32))) ∧ (¬ (x0 < (0 : Int32)) → (wJ23_stringSize_11 post (-x0) (0 : Int32)))
theorem kJ23_stringSize_16 {p : Program} {l : Launch} {e : Env} {s : State} {m : MethodId} {args : Array Value} {below : List Frame} {meth : Method} {c : Code} {post : Int32 → Prop} (X : CallFix p m c cJ23_stringSize 4 s args lw_all RJ23) (hr : meth.sig.returnType = (some .int)) (hlk : meth.locks = false) : ∀ (n : Nat) (x0 : Int32) (x1 : Int32) (x2 : Int32) (x3 : Int32) (ls : Array Slot), wJ23_stringSize_16 post n x0 x1 x2 x3 → True → lv_has ls 4 [(0, .int x0), (1, .int x1), (2, .int x2), (3, .int x3)] → W p l e ⟨0, 0, 0, 0⟩ s m args below meth c s.heap [] 0 0 (MQ below (pQ vI post) args s 0 0 (fun _ => False)) (F0 m 16 ls []) := by
  have hx := X.1
  have hb := X.2.1
  have hml := X.2.2.1
  have hown := X.2.2.2.1
  have hts := X.2.2.2.2
  intro n
  induction n with
  | zero =>
    intro x0 x1 x2 x3 ls h
    exact False.elim h
  | succ n ih =>
    intro x0 x1 x2 x3 ls h _ hl
    unfold wJ23_stringSize_16 at h
    refine lv_iload_n (pc := 16) hx hb dJ23_stringSize_16 rfl (lv_at hl 3 rfl) ?_
    refine lv_bipush (pc := 17) (v := (10 : Int32)) hx hb dJ23_stringSize_17 (by decide) ?_
    refine lv_icmp_ge (pc := 19) (tgt := 42) hx hb dJ23_stringSize_19 rfl (fun c2 => ?_) (fun c2 => ?_)
    · have h := h.1 c2
      refine lv_bipush (pc := 42) (v := (10 : Int32)) hx hb dJ23_stringSize_42 (by decide) ?_
      refine lv_iload_n (pc := 44) hx hb dJ23_stringSize_44 rfl (lv_at hl 1 rfl) ?_
      refine lv_iadd (pc := 45) hx hb dJ23_stringSize_45 ?_
      exact W.iret (pc := 46) hx hb hr (fun t ht hW => s_ret (val := vI) h ht) (fun _ hq => absurd hq List.not_mem_nil) dJ23_stringSize_46 hlk
    · have h := h.2 c2
      refine lv_iload_n (pc := 22) hx hb dJ23_stringSize_22 rfl (lv_at hl 0 rfl) ?_
      refine lv_iload_n (pc := 23) hx hb dJ23_stringSize_23 rfl (lv_at hl 2 rfl) ?_
      refine lv_icmp_le (pc := 24) (tgt := 31) hx hb dJ23_stringSize_24 rfl (fun c3 => ?_) (fun c3 => ?_)
      · have h := h.1 c3
        refine lv_bipush (pc := 31) (v := (10 : Int32)) hx hb dJ23_stringSize_31 (by decide) ?_
        refine lv_iload_n (pc := 33) hx hb dJ23_stringSize_33 rfl (lv_at hl 2 rfl) ?_
        refine lv_imul (pc := 34) hx hb dJ23_stringSize_34 ?_
        refine lv_istore_n (pc := 35) (lv' := [(2, .int ((10 : Int32) * x2)), (0, .int x0), (1, .int x1), (3, .int x3)]) hx hb dJ23_stringSize_35 rfl hl (by decide) rfl (fun ls hl => ?_)
        refine lv_iinc (pc := 36) (v := x3 + (1 : Int32)) (lv' := [(3, .int (x3 + (1 : Int32))), (2, .int ((10 : Int32) * x2)), (0, .int x0), (1, .int x1)]) hx hb dJ23_stringSize_36 hl (k := 3) rfl rfl (by decide) rfl (fun ls hl => ?_)
        refine lv_goto (pc := 39) (tgt := 16) hx hb dJ23_stringSize_39 rfl ?_
        exact ih _ _ _ _ _ h trivial (lv_sub hl [2, 3, 1, 0] rfl)
      · have h := h.2 c3
        refine lv_iload_n (pc := 27) hx hb dJ23_stringSize_27 rfl (lv_at hl 3 rfl) ?_
        refine lv_iload_n (pc := 28) hx hb dJ23_stringSize_28 rfl (lv_at hl 1 rfl) ?_
        refine lv_iadd (pc := 29) hx hb dJ23_stringSize_29 ?_
        exact W.iret (pc := 30) hx hb hr (fun t ht hW => s_ret (val := vI) h ht) (fun _ hq => absurd hq List.not_mem_nil) dJ23_stringSize_30 hlk
theorem kJ23_stringSize_11 {p : Program} {l : Launch} {e : Env} {s : State} {m : MethodId} {args : Array Value} {below : List Frame} {meth : Method} {c : Code} {post : Int32 → Prop} (X : CallFix p m c cJ23_stringSize 4 s args lw_all RJ23) (hr : meth.sig.returnType = (some .int)) (hlk : meth.locks = false) : ∀ (x0 : Int32) (x1 : Int32) (ls : Array Slot), wJ23_stringSize_11 post x0 x1 → True → lv_has ls 4 [(0, .int x0), (1, .int x1)] → W p l e ⟨0, 0, 0, 0⟩ s m args below meth c s.heap [] 0 0 (MQ below (pQ vI post) args s 0 0 (fun _ => False)) (F0 m 11 ls []) := by
  have hx := X.1
  have hb := X.2.1
  have hml := X.2.2.1
  have hown := X.2.2.2.1
  have hts := X.2.2.2.2
  intro x0 x1 ls h _ hl
  unfold wJ23_stringSize_11 at h
  refine lv_bipush (pc := 11) (v := (-10 : Int32)) hx hb dJ23_stringSize_11 (by decide) ?_
  refine lv_istore_n (pc := 13) (lv' := [(2, .int (-10 : Int32)), (0, .int x0), (1, .int x1)]) hx hb dJ23_stringSize_13 rfl hl (by decide) rfl (fun ls hl => ?_)
  refine lv_iconst (pc := 14) (v := (1 : Int32)) hx hb dJ23_stringSize_14 (by decide) ?_
  refine lv_istore_n (pc := 15) (lv' := [(3, .int (1 : Int32)), (2, .int (-10 : Int32)), (0, .int x0), (1, .int x1)]) hx hb dJ23_stringSize_15 rfl hl (by decide) rfl (fun ls hl => ?_)
  obtain ⟨k, h⟩ := h
  exact kJ23_stringSize_16 X hr hlk  k _ _ _ _ _ h trivial (lv_sub hl [2, 3, 1, 0] rfl)
theorem tJ23_stringSize {l : Launch} {post : Int32 → Prop} {x0 : Int32} (h : wJ23_stringSize post x0) : Met l yJ23_stringSize (ws_ yJ23_stringSize cJ23_stringSize 4 (some .int)) ⟨0, 0, 0, 0⟩ (va_Pc [.int x0] (fun _ => True)) (pQ vI post) 0 0 (fun _ => False) := by
  refine s_ofW (by decide) (Nat.le_of_ble_eq_true rfl) (fun p e s m below meth c ls X hr hlk hl => ?_)
  have hl : lv_has ls 4 [(0, .int x0)] := hl
  have hx := X.1
  have hb := X.2.1
  have hml := X.2.2.1
  have hown := X.2.2.2.1
  have hts := X.2.2.2.2
  unfold wJ23_stringSize at h
  refine lv_iconst (pc := 0) (v := (1 : Int32)) hx hb dJ23_stringSize_0 (by decide) ?_
  refine lv_istore_n (pc := 1) (lv' := [(1, .int (1 : Int32)), (0, .int x0)]) hx hb dJ23_stringSize_1 rfl hl (by decide) rfl (fun ls hl => ?_)
  refine lv_iload_n (pc := 2) hx hb dJ23_stringSize_2 rfl (lv_at hl 1 rfl) ?_
  refine lv_if_lt (pc := 3) (tgt := 11) hx hb dJ23_stringSize_3 rfl (fun c1 => ?_) (fun c1 => ?_)
  · have h := h.1 c1
    exact kJ23_stringSize_11 X hr hlk  _ _ _ h trivial (lv_sub hl [1, 0] rfl)
  · have h := h.2 c1
    refine lv_iconst (pc := 6) (v := (0 : Int32)) hx hb dJ23_stringSize_6 (by decide) ?_
    refine lv_istore_n (pc := 7) (lv' := [(1, .int (0 : Int32)), (0, .int x0)]) hx hb dJ23_stringSize_7 rfl hl (by decide) rfl (fun ls hl => ?_)
    refine lv_iload_n (pc := 8) hx hb dJ23_stringSize_8 rfl (lv_at hl 1 rfl) ?_
    refine lv_ineg (pc := 9) hx hb dJ23_stringSize_9 ?_
    refine lv_istore_n (pc := 10) (lv' := [(0, .int (-x0)), (1, .int (0 : Int32))]) hx hb dJ23_stringSize_10 rfl hl (by decide) rfl (fun ls hl => ?_)
    exact kJ23_stringSize_11 X hr hlk  _ _ _ h trivial (lv_sub hl [0, 1] rfl)

def wJ23_bitCount (post : Int32 → Prop) (x0 : Int32) : Prop :=
  post ((((((((x0 - (((x0.toUInt32 >>> ((1 : Int32).toUInt32 &&& Int32.toUInt32 31)).toInt32) &&& (1431655765 : Int32))) &&& (858993459 : Int32)) + ((((x0 - (((x0.toUInt32 >>> ((1 : Int32).toUInt32 &&& Int32.toUInt32 31)).toInt32) &&& (1431655765 : Int32))).toUInt32 >>> ((2 : Int32).toUInt32 &&& Int32.toUInt32 31)).toInt32) &&& (858993459 : Int32))) + (((((x0 - (((x0.toUInt32 >>> ((1 : Int32).toUInt32 &&& Int32.toUInt32 31)).toInt32) &&& (1431655765 : Int32))) &&& (858993459 : Int32)) + ((((x0 - (((x0.toUInt32 >>> ((1 : Int32).toUInt32 &&& Int32.toUInt32 31)).toInt32) &&& (1431655765 : Int32))).toUInt32 >>> ((2 : Int32).toUInt32 &&& Int32.toUInt32 31)).toInt32) &&& (858993459 : Int32))).toUInt32 >>> ((4 : Int32).toUInt32 &&& Int32.toUInt32 31)).toInt32)) &&& (252645135 : Int32)) + (((((((x0 - (((x0.toUInt32 >>> ((1 : Int32).toUInt32 &&& Int32.toUInt32 31)).toInt32) &&& (1431655765 : Int32))) &&& (858993459 : Int32)) + ((((x0 - (((x0.toUInt32 >>> ((1 : Int32).toUInt32 &&& Int32.toUInt32 31)).toInt32) &&& (1431655765 : Int32))).toUInt32 >>> ((2 : Int32).toUInt32 &&& Int32.toUInt32 31)).toInt32) &&& (858993459 : Int32))) + (((((x0 - (((x0.toUInt32 >>> ((1 : Int32).toUInt32 &&& Int32.toUInt32 31)).toInt32) &&& (1431655765 : Int32))) &&& (858993459 : Int32)) + ((((x0 - (((x0.toUInt32 >>> ((1 : Int32).toUInt32 &&& Int32.toUInt32 31)).toInt32) &&& (1431655765 : Int32))).toUInt32 >>> ((2 : Int32).toUInt32 &&& Int32.toUInt32 31)).toInt32) &&& (858993459 : Int32))).toUInt32 >>> ((4 : Int32).toUInt32 &&& Int32.toUInt32 31)).toInt32)) &&& (252645135 : Int32)).toUInt32 >>> ((8 : Int32).toUInt32 &&& Int32.toUInt32 31)).toInt32)) + ((((((((x0 - (((x0.toUInt32 >>> ((1 : Int32).toUInt32 &&& Int32.toUInt32 31)).toInt32) &&& (1431655765 : Int32))) &&& (858993459 : Int32)) + ((((x0 - (((x0.toUInt32 >>> ((1 : Int32).toUInt32 &&& Int32.toUInt32 31)).toInt32) &&& (1431655765 : Int32))).toUInt32 >>> ((2 : Int32).toUInt32 &&& Int32.toUInt32 31)).toInt32) &&& (858993459 : Int32))) + (((((x0 - (((x0.toUInt32 >>> ((1 : Int32).toUInt32 &&& Int32.toUInt32 31)).toInt32) &&& (1431655765 : Int32))) &&& (858993459 : Int32)) + ((((x0 - (((x0.toUInt32 >>> ((1 : Int32).toUInt32 &&& Int32.toUInt32 31)).toInt32) &&& (1431655765 : Int32))).toUInt32 >>> ((2 : Int32).toUInt32 &&& Int32.toUInt32 31)).toInt32) &&& (858993459 : Int32))).toUInt32 >>> ((4 : Int32).toUInt32 &&& Int32.toUInt32 31)).toInt32)) &&& (252645135 : Int32)) + (((((((x0 - (((x0.toUInt32 >>> ((1 : Int32).toUInt32 &&& Int32.toUInt32 31)).toInt32) &&& (1431655765 : Int32))) &&& (858993459 : Int32)) + ((((x0 - (((x0.toUInt32 >>> ((1 : Int32).toUInt32 &&& Int32.toUInt32 31)).toInt32) &&& (1431655765 : Int32))).toUInt32 >>> ((2 : Int32).toUInt32 &&& Int32.toUInt32 31)).toInt32) &&& (858993459 : Int32))) + (((((x0 - (((x0.toUInt32 >>> ((1 : Int32).toUInt32 &&& Int32.toUInt32 31)).toInt32) &&& (1431655765 : Int32))) &&& (858993459 : Int32)) + ((((x0 - (((x0.toUInt32 >>> ((1 : Int32).toUInt32 &&& Int32.toUInt32 31)).toInt32) &&& (1431655765 : Int32))).toUInt32 >>> ((2 : Int32).toUInt32 &&& Int32.toUInt32 31)).toInt32) &&& (858993459 : Int32))).toUInt32 >>> ((4 : Int32).toUInt32 &&& Int32.toUInt32 31)).toInt32)) &&& (252645135 : Int32)).toUInt32 >>> ((8 : Int32).toUInt32 &&& Int32.toUInt32 31)).toInt32)).toUInt32 >>> ((16 : Int32).toUInt32 &&& Int32.toUInt32 31)).toInt32)) &&& (63 : Int32))
theorem tJ23_bitCount {l : Launch} {post : Int32 → Prop} {x0 : Int32} (h : wJ23_bitCount post x0) : Met l yJ23_bitCount (ws_ yJ23_bitCount cJ23_bitCount 1 (some .int)) ⟨0, 0, 0, 0⟩ (va_Pc [.int x0] (fun _ => True)) (pQ vI post) 0 0 (fun _ => False) := by
  refine s_ofW (by decide) (Nat.le_of_ble_eq_true rfl) (fun p e s m below meth c ls X hr hlk hl => ?_)
  have hl : lv_has ls 1 [(0, .int x0)] := hl
  have hx := X.1
  have hb := X.2.1
  have hml := X.2.2.1
  have hown := X.2.2.2.1
  have hts := X.2.2.2.2
  unfold wJ23_bitCount at h
  refine lv_iload_n (pc := 0) hx hb dJ23_bitCount_0 rfl (lv_at hl 0 rfl) ?_
  refine lv_iload_n (pc := 1) hx hb dJ23_bitCount_1 rfl (lv_at hl 0 rfl) ?_
  refine lv_iconst (pc := 2) (v := (1 : Int32)) hx hb dJ23_bitCount_2 (by decide) ?_
  refine lv_iushr (pc := 3) hx hb dJ23_bitCount_3 rfl ?_
  refine lv_ldcw (pc := 4) hx hb hown (hts _ q1533) dJ23_bitCount_4 ?_
  refine lv_iand (pc := 7) hx hb dJ23_bitCount_7 ?_
  refine lv_isub (pc := 8) hx hb dJ23_bitCount_8 ?_
  refine lv_istore_n (pc := 9) (lv' := [(0, .int (x0 - (((x0.toUInt32 >>> ((1 : Int32).toUInt32 &&& Int32.toUInt32 31)).toInt32) &&& (1431655765 : Int32))))]) hx hb dJ23_bitCount_9 rfl hl (by decide) rfl (fun ls hl => ?_)
  refine lv_iload_n (pc := 10) hx hb dJ23_bitCount_10 rfl (lv_at hl 0 rfl) ?_
  refine lv_ldcw (pc := 11) hx hb hown (hts _ q1534) dJ23_bitCount_11 ?_
  refine lv_iand (pc := 14) hx hb dJ23_bitCount_14 ?_
  refine lv_iload_n (pc := 15) hx hb dJ23_bitCount_15 rfl (lv_at hl 0 rfl) ?_
  refine lv_iconst (pc := 16) (v := (2 : Int32)) hx hb dJ23_bitCount_16 (by decide) ?_
  refine lv_iushr (pc := 17) hx hb dJ23_bitCount_17 rfl ?_
  refine lv_ldcw (pc := 18) hx hb hown (hts _ q1534) dJ23_bitCount_18 ?_
  refine lv_iand (pc := 21) hx hb dJ23_bitCount_21 ?_
  refine lv_iadd (pc := 22) hx hb dJ23_bitCount_22 ?_
  refine lv_istore_n (pc := 23) (lv' := [(0, .int (((x0 - (((x0.toUInt32 >>> ((1 : Int32).toUInt32 &&& Int32.toUInt32 31)).toInt32) &&& (1431655765 : Int32))) &&& (858993459 : Int32)) + ((((x0 - (((x0.toUInt32 >>> ((1 : Int32).toUInt32 &&& Int32.toUInt32 31)).toInt32) &&& (1431655765 : Int32))).toUInt32 >>> ((2 : Int32).toUInt32 &&& Int32.toUInt32 31)).toInt32) &&& (858993459 : Int32))))]) hx hb dJ23_bitCount_23 rfl hl (by decide) rfl (fun ls hl => ?_)
  refine lv_iload_n (pc := 24) hx hb dJ23_bitCount_24 rfl (lv_at hl 0 rfl) ?_
  refine lv_iload_n (pc := 25) hx hb dJ23_bitCount_25 rfl (lv_at hl 0 rfl) ?_
  refine lv_iconst (pc := 26) (v := (4 : Int32)) hx hb dJ23_bitCount_26 (by decide) ?_
  refine lv_iushr (pc := 27) hx hb dJ23_bitCount_27 rfl ?_
  refine lv_iadd (pc := 28) hx hb dJ23_bitCount_28 ?_
  refine lv_ldcw (pc := 29) hx hb hown (hts _ q1535) dJ23_bitCount_29 ?_
  refine lv_iand (pc := 32) hx hb dJ23_bitCount_32 ?_
  refine lv_istore_n (pc := 33) (lv' := [(0, .int (((((x0 - (((x0.toUInt32 >>> ((1 : Int32).toUInt32 &&& Int32.toUInt32 31)).toInt32) &&& (1431655765 : Int32))) &&& (858993459 : Int32)) + ((((x0 - (((x0.toUInt32 >>> ((1 : Int32).toUInt32 &&& Int32.toUInt32 31)).toInt32) &&& (1431655765 : Int32))).toUInt32 >>> ((2 : Int32).toUInt32 &&& Int32.toUInt32 31)).toInt32) &&& (858993459 : Int32))) + (((((x0 - (((x0.toUInt32 >>> ((1 : Int32).toUInt32 &&& Int32.toUInt32 31)).toInt32) &&& (1431655765 : Int32))) &&& (858993459 : Int32)) + ((((x0 - (((x0.toUInt32 >>> ((1 : Int32).toUInt32 &&& Int32.toUInt32 31)).toInt32) &&& (1431655765 : Int32))).toUInt32 >>> ((2 : Int32).toUInt32 &&& Int32.toUInt32 31)).toInt32) &&& (858993459 : Int32))).toUInt32 >>> ((4 : Int32).toUInt32 &&& Int32.toUInt32 31)).toInt32)) &&& (252645135 : Int32)))]) hx hb dJ23_bitCount_33 rfl hl (by decide) rfl (fun ls hl => ?_)
  refine lv_iload_n (pc := 34) hx hb dJ23_bitCount_34 rfl (lv_at hl 0 rfl) ?_
  refine lv_iload_n (pc := 35) hx hb dJ23_bitCount_35 rfl (lv_at hl 0 rfl) ?_
  refine lv_bipush (pc := 36) (v := (8 : Int32)) hx hb dJ23_bitCount_36 (by decide) ?_
  refine lv_iushr (pc := 38) hx hb dJ23_bitCount_38 rfl ?_
  refine lv_iadd (pc := 39) hx hb dJ23_bitCount_39 ?_
  refine lv_istore_n (pc := 40) (lv' := [(0, .int ((((((x0 - (((x0.toUInt32 >>> ((1 : Int32).toUInt32 &&& Int32.toUInt32 31)).toInt32) &&& (1431655765 : Int32))) &&& (858993459 : Int32)) + ((((x0 - (((x0.toUInt32 >>> ((1 : Int32).toUInt32 &&& Int32.toUInt32 31)).toInt32) &&& (1431655765 : Int32))).toUInt32 >>> ((2 : Int32).toUInt32 &&& Int32.toUInt32 31)).toInt32) &&& (858993459 : Int32))) + (((((x0 - (((x0.toUInt32 >>> ((1 : Int32).toUInt32 &&& Int32.toUInt32 31)).toInt32) &&& (1431655765 : Int32))) &&& (858993459 : Int32)) + ((((x0 - (((x0.toUInt32 >>> ((1 : Int32).toUInt32 &&& Int32.toUInt32 31)).toInt32) &&& (1431655765 : Int32))).toUInt32 >>> ((2 : Int32).toUInt32 &&& Int32.toUInt32 31)).toInt32) &&& (858993459 : Int32))).toUInt32 >>> ((4 : Int32).toUInt32 &&& Int32.toUInt32 31)).toInt32)) &&& (252645135 : Int32)) + (((((((x0 - (((x0.toUInt32 >>> ((1 : Int32).toUInt32 &&& Int32.toUInt32 31)).toInt32) &&& (1431655765 : Int32))) &&& (858993459 : Int32)) + ((((x0 - (((x0.toUInt32 >>> ((1 : Int32).toUInt32 &&& Int32.toUInt32 31)).toInt32) &&& (1431655765 : Int32))).toUInt32 >>> ((2 : Int32).toUInt32 &&& Int32.toUInt32 31)).toInt32) &&& (858993459 : Int32))) + (((((x0 - (((x0.toUInt32 >>> ((1 : Int32).toUInt32 &&& Int32.toUInt32 31)).toInt32) &&& (1431655765 : Int32))) &&& (858993459 : Int32)) + ((((x0 - (((x0.toUInt32 >>> ((1 : Int32).toUInt32 &&& Int32.toUInt32 31)).toInt32) &&& (1431655765 : Int32))).toUInt32 >>> ((2 : Int32).toUInt32 &&& Int32.toUInt32 31)).toInt32) &&& (858993459 : Int32))).toUInt32 >>> ((4 : Int32).toUInt32 &&& Int32.toUInt32 31)).toInt32)) &&& (252645135 : Int32)).toUInt32 >>> ((8 : Int32).toUInt32 &&& Int32.toUInt32 31)).toInt32)))]) hx hb dJ23_bitCount_40 rfl hl (by decide) rfl (fun ls hl => ?_)
  refine lv_iload_n (pc := 41) hx hb dJ23_bitCount_41 rfl (lv_at hl 0 rfl) ?_
  refine lv_iload_n (pc := 42) hx hb dJ23_bitCount_42 rfl (lv_at hl 0 rfl) ?_
  refine lv_bipush (pc := 43) (v := (16 : Int32)) hx hb dJ23_bitCount_43 (by decide) ?_
  refine lv_iushr (pc := 45) hx hb dJ23_bitCount_45 rfl ?_
  refine lv_iadd (pc := 46) hx hb dJ23_bitCount_46 ?_
  refine lv_istore_n (pc := 47) (lv' := [(0, .int (((((((x0 - (((x0.toUInt32 >>> ((1 : Int32).toUInt32 &&& Int32.toUInt32 31)).toInt32) &&& (1431655765 : Int32))) &&& (858993459 : Int32)) + ((((x0 - (((x0.toUInt32 >>> ((1 : Int32).toUInt32 &&& Int32.toUInt32 31)).toInt32) &&& (1431655765 : Int32))).toUInt32 >>> ((2 : Int32).toUInt32 &&& Int32.toUInt32 31)).toInt32) &&& (858993459 : Int32))) + (((((x0 - (((x0.toUInt32 >>> ((1 : Int32).toUInt32 &&& Int32.toUInt32 31)).toInt32) &&& (1431655765 : Int32))) &&& (858993459 : Int32)) + ((((x0 - (((x0.toUInt32 >>> ((1 : Int32).toUInt32 &&& Int32.toUInt32 31)).toInt32) &&& (1431655765 : Int32))).toUInt32 >>> ((2 : Int32).toUInt32 &&& Int32.toUInt32 31)).toInt32) &&& (858993459 : Int32))).toUInt32 >>> ((4 : Int32).toUInt32 &&& Int32.toUInt32 31)).toInt32)) &&& (252645135 : Int32)) + (((((((x0 - (((x0.toUInt32 >>> ((1 : Int32).toUInt32 &&& Int32.toUInt32 31)).toInt32) &&& (1431655765 : Int32))) &&& (858993459 : Int32)) + ((((x0 - (((x0.toUInt32 >>> ((1 : Int32).toUInt32 &&& Int32.toUInt32 31)).toInt32) &&& (1431655765 : Int32))).toUInt32 >>> ((2 : Int32).toUInt32 &&& Int32.toUInt32 31)).toInt32) &&& (858993459 : Int32))) + (((((x0 - (((x0.toUInt32 >>> ((1 : Int32).toUInt32 &&& Int32.toUInt32 31)).toInt32) &&& (1431655765 : Int32))) &&& (858993459 : Int32)) + ((((x0 - (((x0.toUInt32 >>> ((1 : Int32).toUInt32 &&& Int32.toUInt32 31)).toInt32) &&& (1431655765 : Int32))).toUInt32 >>> ((2 : Int32).toUInt32 &&& Int32.toUInt32 31)).toInt32) &&& (858993459 : Int32))).toUInt32 >>> ((4 : Int32).toUInt32 &&& Int32.toUInt32 31)).toInt32)) &&& (252645135 : Int32)).toUInt32 >>> ((8 : Int32).toUInt32 &&& Int32.toUInt32 31)).toInt32)) + ((((((((x0 - (((x0.toUInt32 >>> ((1 : Int32).toUInt32 &&& Int32.toUInt32 31)).toInt32) &&& (1431655765 : Int32))) &&& (858993459 : Int32)) + ((((x0 - (((x0.toUInt32 >>> ((1 : Int32).toUInt32 &&& Int32.toUInt32 31)).toInt32) &&& (1431655765 : Int32))).toUInt32 >>> ((2 : Int32).toUInt32 &&& Int32.toUInt32 31)).toInt32) &&& (858993459 : Int32))) + (((((x0 - (((x0.toUInt32 >>> ((1 : Int32).toUInt32 &&& Int32.toUInt32 31)).toInt32) &&& (1431655765 : Int32))) &&& (858993459 : Int32)) + ((((x0 - (((x0.toUInt32 >>> ((1 : Int32).toUInt32 &&& Int32.toUInt32 31)).toInt32) &&& (1431655765 : Int32))).toUInt32 >>> ((2 : Int32).toUInt32 &&& Int32.toUInt32 31)).toInt32) &&& (858993459 : Int32))).toUInt32 >>> ((4 : Int32).toUInt32 &&& Int32.toUInt32 31)).toInt32)) &&& (252645135 : Int32)) + (((((((x0 - (((x0.toUInt32 >>> ((1 : Int32).toUInt32 &&& Int32.toUInt32 31)).toInt32) &&& (1431655765 : Int32))) &&& (858993459 : Int32)) + ((((x0 - (((x0.toUInt32 >>> ((1 : Int32).toUInt32 &&& Int32.toUInt32 31)).toInt32) &&& (1431655765 : Int32))).toUInt32 >>> ((2 : Int32).toUInt32 &&& Int32.toUInt32 31)).toInt32) &&& (858993459 : Int32))) + (((((x0 - (((x0.toUInt32 >>> ((1 : Int32).toUInt32 &&& Int32.toUInt32 31)).toInt32) &&& (1431655765 : Int32))) &&& (858993459 : Int32)) + ((((x0 - (((x0.toUInt32 >>> ((1 : Int32).toUInt32 &&& Int32.toUInt32 31)).toInt32) &&& (1431655765 : Int32))).toUInt32 >>> ((2 : Int32).toUInt32 &&& Int32.toUInt32 31)).toInt32) &&& (858993459 : Int32))).toUInt32 >>> ((4 : Int32).toUInt32 &&& Int32.toUInt32 31)).toInt32)) &&& (252645135 : Int32)).toUInt32 >>> ((8 : Int32).toUInt32 &&& Int32.toUInt32 31)).toInt32)).toUInt32 >>> ((16 : Int32).toUInt32 &&& Int32.toUInt32 31)).toInt32)))]) hx hb dJ23_bitCount_47 rfl hl (by decide) rfl (fun ls hl => ?_)
  refine lv_iload_n (pc := 48) hx hb dJ23_bitCount_48 rfl (lv_at hl 0 rfl) ?_
  refine lv_bipush (pc := 49) (v := (63 : Int32)) hx hb dJ23_bitCount_49 (by decide) ?_
  refine lv_iand (pc := 51) hx hb dJ23_bitCount_51 ?_
  exact W.iret (pc := 52) hx hb hr (fun t ht hW => s_ret (val := vI) h ht) (fun _ hq => absurd hq List.not_mem_nil) dJ23_bitCount_52 hlk

def wJ15_copyOf (K : Nat → Nat → Nat) (post : Nat → NM → Prop) (MC MS : Nat) (N : NM) (x0 : Nat) (x1 : Int32) : Prop :=
  ∃ n2 f3, N x0 = some (eN 3 n2 f3) ∧ (((x1 = (nI n2)) → ((∀ i, i < n2 → fits .byte (.int (f3 i)) = true) ∧ 1 ≤ MC ∧ n2 ≤ MS ∧ (∀ nq28, N nq28 = none → (∀ N30, N30 = va_up N nq28 (some (eN 3 n2 f3)) → (post nq28 N30))))) ∧ (¬ (x1 = (nI n2)) → (¬ x1 < 0 ∧ x1.toNatClampNeg ≤ 65536 ∧ 1 ≤ MC ∧ x1.toNatClampNeg ≤ MS ∧ (∀ nq9, N nq9 = none → (∀ N11, N11 = va_up N nq9 (some (eN 3 x1.toNatClampNeg (fun _ => (0 : Int32)))) → (wJ14_min (fun r15 => ¬ (0 : Int32) < 0 ∧ ¬ (0 : Int32) < 0 ∧ ¬ r15 < 0 ∧ (0 : Int32).toNatClampNeg + r15.toNatClampNeg ≤ n2 ∧ (0 : Int32).toNatClampNeg + r15.toNatClampNeg ≤ x1.toNatClampNeg ∧ (∀ i, i < r15.toNatClampNeg → fits .byte (.int (f3 ((0 : Int32).toNatClampNeg + i))) = true) ∧ (∀ N22, N22 = va_up N11 nq9 (some (eN 3 x1.toNatClampNeg (va_cpy f3 (fun _ => (0 : Int32)) (0 : Int32).toNatClampNeg (0 : Int32).toNatClampNeg r15.toNatClampNeg))) → (post nq9 N22))) (nI n2) x1))))))
theorem tJ15_copyOf {l : Launch} {G : gG} (hO : gOk G) {post : Nat → NM → Prop} {MC MS : Nat} {N : NM} {x0 : Nat} {x1 : Int32} {sz : Nat} (h : wJ15_copyOf (gC G) post MC MS N x0 x1) : Met l yJ15_copyOf (ws_ yJ15_copyOf cJ15_copyOf 3 (some (.array .byte))) ⟨1, MC, MS, 60⟩ (va_Pc [.ref x0, .int x1] (cPre G [] N sz)) (gQ vR post (fun u H => cBw G (cA [] N sz) (jW u).1 (jW u).2 H) (cA [] N sz)) MC MS (cA [] N sz) := by
  refine c_ofW (lw := jW) (by decide) hO (Nat.le_of_ble_eq_true rfl) (fun p e s m below meth c ls A X hr hlk hin hw hl => ?_)
  have hl : lv_has ls 3 [(0, .ref x0), (1, .int x1)] := hl
  have hx := X.1.1
  have hb := X.1.2.1
  have hml := X.1.2.2.1
  have hown := X.1.2.2.2.1
  have hts := X.1.2.2.2.2
  obtain ⟨H, eH⟩ : ∃ z, z = s.heap := ⟨_, rfl⟩
  rw [← eH] at hw ⊢
  obtain ⟨locs, eLo⟩ : ∃ z : List Loc, z = [] := ⟨_, rfl⟩
  rw [← eLo] at hw ⊢
  have hbud : 0 + MC ≤ MC ∧ 0 + MS ≤ MS := by omega
  unfold wJ15_copyOf at h
  refine lv_iload_n (pc := 0) hx hb dJ15_copyOf_0 rfl (lv_at hl 1 rfl) ?_
  refine lv_aload_n (pc := 1) hx hb dJ15_copyOf_1 rfl (lv_at hl 0 rfl) ?_
  obtain ⟨n2, f3, hN1, h⟩ := h
  refine c_alen (pc := 2) X hw hN1 rfl dJ15_copyOf_2 ?_
  refine lv_icmp_ne (pc := 3) (tgt := 14) hx hb dJ15_copyOf_3 rfl (fun c4 => ?_) (fun c4 => ?_)
  · have h := h.2 c4
    refine lv_iload_n (pc := 14) hx hb dJ15_copyOf_14 rfl (lv_at hl 1 rfl) ?_
    obtain ⟨hm5, hm6, hm7, hm8, h⟩ := h
    refine c_newa (pc := 15) (atype := .byte) (ty := .byte) (a0 := (x1.toNatClampNeg, .inl (fun _ => (0 : Int32)))) X hw rfl q275 3 rfl (fun _ => rfl) hm5 rfl (Nat.le_trans (Nat.mul_le_mul_right _ hm6) (Nat.le_of_ble_eq_true rfl)) (show 0 + 1 ≤ MC by omega) (show 0 + x1.toNatClampNeg ≤ MS by omega) dJ15_copyOf_15 (fun nq9 H hq10 _ hw => ?_)
    have h := h nq9 hq10
    obtain ⟨N11, e12⟩ : ∃ z, z = va_up N nq9 (some (eN 3 x1.toNatClampNeg (fun _ => (0 : Int32)))) := ⟨_, rfl⟩
    have hw : cH G A s [] N11 H locs := by rw [e12]; exact hw
    have h := h N11 e12
    have hN13 : N11 nq9 = some (eN 3 x1.toNatClampNeg (fun _ => (0 : Int32))) := by rw [e12]; exact up_s
    have hN14 := up_f (x := some (eN 3 x1.toNatClampNeg (fun _ => (0 : Int32)))) hq10 hN1
    rw [← e12] at hN14
    refine lv_astore_n (pc := 17) (lv' := [(2, .ref nq9), (0, .ref x0), (1, .int x1)]) hx hb dJ15_copyOf_17 rfl hl (by decide) rfl (fun ls hl => ?_)
    refine lv_aload_n (pc := 18) hx hb dJ15_copyOf_18 rfl (lv_at hl 1 rfl) ?_
    refine lv_iconst (pc := 19) (v := (0 : Int32)) hx hb dJ15_copyOf_19 (by decide) ?_
    refine lv_aload_n (pc := 20) hx hb dJ15_copyOf_20 rfl (lv_at hl 0 rfl) ?_
    refine lv_iconst (pc := 21) (v := (0 : Int32)) hx hb dJ15_copyOf_21 (by decide) ?_
    refine lv_aload_n (pc := 22) hx hb dJ15_copyOf_22 rfl (lv_at hl 1 rfl) ?_
    refine c_alen (pc := 23) X hw hN14 rfl dJ15_copyOf_23 ?_
    refine lv_iload_n (pc := 24) hx hb dJ15_copyOf_24 rfl (lv_at hl 2 rfl) ?_
    refine s_call (pc := 25) (val := vI) (As := [.int (nI n2), .int x1]) (rest := [.int (0 : Int32), .ref nq9, .int (0 : Int32), .ref x0]) X.1 (tJ14_min h) (lw_S q545 q546 q121 q547) ⟨by decide, by decide, (by decide +kernel : (parseMethodDescriptor yJ14_min.desc).map (fun d => d.parameters.length) = some 2)⟩ ⟨Nat.le_of_ble_eq_true rfl, Nat.le_of_ble_eq_true rfl⟩ hl.1 (Nat.le_of_ble_eq_true rfl) ⟨show 0 + 1 ≤ MC by omega, show 0 + x1.toNatClampNeg ≤ MS by omega⟩ dJ15_copyOf_25 rfl (fun r15 h => ?_)
    refine W.eq (g2 := F0 m 28 ls (.int r15 :: [.int (0 : Int32), .ref nq9, .int (0 : Int32), .ref x0])) rfl ?_
    obtain ⟨hm16, hm17, hm18, hm19, hm20, hm21, h⟩ := h
    refine c_copyi (pc := 28) (rest := []) X hw hl.1 q548 q374 q373 q112 3 hN14 hN13 rfl rfl hm16 hm17 hm18 hm19 hm20 hm21 (Nat.le_of_ble_eq_true rfl) (Nat.le_of_ble_eq_true rfl) dJ15_copyOf_28 (fun H locs hw => ?_)
    obtain ⟨N22, e23⟩ : ∃ z, z = va_up N11 nq9 (some (eN 3 x1.toNatClampNeg (va_cpy f3 (fun _ => (0 : Int32)) (0 : Int32).toNatClampNeg (0 : Int32).toNatClampNeg r15.toNatClampNeg))) := ⟨_, rfl⟩
    have hw : cH G A s [] N22 H locs := by rw [e23]; exact hw
    have h := h N22 e23
    have hN24 : N22 nq9 = some (eN 3 x1.toNatClampNeg (va_cpy f3 (fun _ => (0 : Int32)) (0 : Int32).toNatClampNeg (0 : Int32).toNatClampNeg r15.toNatClampNeg)) := by rw [e23]; exact up_s
    refine lv_aload_n (pc := 31) hx hb dJ15_copyOf_31 rfl (lv_at hl 0 rfl) ?_
    refine W.widen (k := MC) (n := MS) (by omega) (by omega) ?_
    exact W.aret (pc := 32) (v := .ref nq9) hx hb hr (Or.inr ⟨_, rfl⟩) (Or.inr ⟨_, rfl⟩) (fun t ht hW => c_ret (val := vR) (lw := jW) (u := N22) hw h ht) hw.2.2.2 dJ15_copyOf_32 hlk
  · have h := h.1 c4
    refine lv_aload_n (pc := 6) hx hb dJ15_copyOf_6 rfl (lv_at hl 0 rfl) ?_
    obtain ⟨hm25, hm26, hm27, h⟩ := h
    refine c_cloneB (pc := 7) (rest := []) X hw hl.1 q538 q539 q540 q541 q542 q543 hN1 hm25 (Nat.le_of_ble_eq_true rfl) (Nat.le_of_ble_eq_true rfl) (show 0 + 1 ≤ MC by omega) (show 0 + n2 ≤ MS by omega) dJ15_copyOf_7 (fun nq28 H hq29 _ hw => ?_)
    have h := h nq28 hq29
    obtain ⟨N30, e31⟩ : ∃ z, z = va_up N nq28 (some (eN 3 n2 f3)) := ⟨_, rfl⟩
    have hw : cH G A s [] N30 H locs := by rw [e31]; exact hw
    have h := h N30 e31
    have hN32 : N30 nq28 = some (eN 3 n2 f3) := by rw [e31]; exact up_s
    have hN33 := up_f (x := some (eN 3 n2 f3)) hq29 hN1
    rw [← e31] at hN33
    refine c_castB (pc := 10) X hw hN32 q544 dJ15_copyOf_10 ?_
    refine W.widen (k := MC) (n := MS) (by omega) (by omega) ?_
    exact W.aret (pc := 13) (v := .ref nq28) hx hb hr (Or.inr ⟨_, rfl⟩) (Or.inr ⟨_, rfl⟩) (fun t ht hW => c_ret (val := vR) (lw := jW) (u := N30) hw h ht) hw.2.2.2 dJ15_copyOf_13 hlk

def wJ15_checkLength (post : Unit → Prop) (x0 : Int32) (x1 : Int32) : Prop :=
  ((x0 ≤ x1) → (post ())) ∧ (¬ (x0 ≤ x1) → (False))
theorem tJ15_checkLength {l : Launch} {post : Unit → Prop} {x0 : Int32} {x1 : Int32} (h : wJ15_checkLength post x0 x1) : Met l yJ15_checkLength (ws_ yJ15_checkLength cJ15_checkLength 2 none) ⟨0, 0, 0, 0⟩ (va_Pc [.int x0, .int x1] (fun _ => True)) (pQ vV post) 0 0 (fun _ => False) := by
  refine s_ofW (by decide) (Nat.le_of_ble_eq_true rfl) (fun p e s m below meth c ls X hr hlk hl => ?_)
  have hl : lv_has ls 2 [(0, .int x0), (1, .int x1)] := hl
  have hx := X.1
  have hb := X.2.1
  have hml := X.2.2.1
  have hown := X.2.2.2.1
  have hts := X.2.2.2.2
  unfold wJ15_checkLength at h
  refine lv_iload_n (pc := 0) hx hb dJ15_checkLength_0 rfl (lv_at hl 1 rfl) ?_
  refine lv_iload_n (pc := 1) hx hb dJ15_checkLength_1 rfl (lv_at hl 0 rfl) ?_
  refine lv_icmp_ge (pc := 2) (tgt := 37) hx hb dJ15_checkLength_2 rfl (fun c1 => ?_) (fun c1 => ?_)
  · have h := h.1 c1
    exact W.vret (pc := 37) hx hb hr (fun t ht hW => s_ret (val := vV) (v := ()) h ht) (fun _ hq => absurd hq List.not_mem_nil) dJ15_checkLength_37 hlk
  · have h := h.2 c1
    exact False.elim h
theorem uJ15_checkLength {p : Program} {l : Launch} {e : Env} {R : Room} {s : State} {m : MethodId} {args : Array Value} {below : List Frame} {meth : Method} {c : Code} {H : Heap} {locs : List Loc} {cells slots : Nat} {Q : Jvm.State → Prop} {cc : ByteArray} {pc : Nat} {ls : Array Slot} {rest : List Value} {post : Unit → Prop} {x0 : Int32} {x1 : Int32} {nL : Nat} (X : CallFix p m c cc nL s args lw_all RJ15) (h : wJ15_checkLength post x0 x1) (hR : 0 + 1 ≤ R.frames ∧ 8 + (2 + 11) + 0 ≤ R.locals) (hsz : ls.size = nL) (hr : (rest.map fun v => v.category).sum ≤ 8) (hc : cells ≤ R.cells ∧ slots ≤ R.slots) (d : decode cc pc = .ok (.invokestatic 343, 3)) (kk : ∀ r : Unit, post r → W p l e R s m args below meth c H locs cells slots Q (F0 m (pc + 3) ls (rest))) : W p l e R s m args below meth c H locs cells slots Q (F0 m pc ls (.int x1 :: .int x0 :: rest)) :=
  s_call (val := vV) (post := post) (As := [.int x0, .int x1]) X (tJ15_checkLength h) (lw_S q627 q628 q122 q629) ⟨by decide, by decide, (by decide +kernel : (parseMethodDescriptor yJ15_checkLength.desc).map (fun d => d.parameters.length) = some 2)⟩ hR hsz hr hc d rfl kk

def wJ15_copyOfRangeByte (K : Nat → Nat → Nat) (post : Nat → NM → Prop) (MC MS : Nat) (N : NM) (x0 : Nat) (x1 : Int32) (x2 : Int32) : Prop :=
  wJ15_checkLength (fun _ => ¬ (x2 - x1) < 0 ∧ (x2 - x1).toNatClampNeg ≤ 65536 ∧ 1 ≤ MC ∧ (x2 - x1).toNatClampNeg ≤ MS ∧ (∀ nq6, N nq6 = none → (∀ N8, N8 = va_up N nq6 (some (eN 3 ((x2 - x1).toNatClampNeg) (fun _ => (0 : Int32)))) → (∃ n12 f13, N8 x0 = some (eN 3 n12 f13) ∧ (wJ14_min (fun r14 => ¬ x1 < 0 ∧ ¬ (0 : Int32) < 0 ∧ ¬ r14 < 0 ∧ x1.toNatClampNeg + r14.toNatClampNeg ≤ n12 ∧ (0 : Int32).toNatClampNeg + r14.toNatClampNeg ≤ ((x2 - x1).toNatClampNeg) ∧ (∀ i, i < r14.toNatClampNeg → fits .byte (.int (f13 (x1.toNatClampNeg + i))) = true) ∧ (∀ N21, N21 = va_up N8 nq6 (some (eN 3 ((x2 - x1).toNatClampNeg) (va_cpy f13 (fun _ => (0 : Int32)) x1.toNatClampNeg (0 : Int32).toNatClampNeg r14.toNatClampNeg))) → (post nq6 N21))) ((nI n12) - x1) (x2 - x1)))))) x1 x2
theorem tJ15_copyOfRangeByte {l : Launch} {G : gG} (hO : gOk G) {post : Nat → NM → Prop} {MC MS : Nat} {N : NM} {x0 : Nat} {x1 : Int32} {x2 : Int32} {sz : Nat} (h : wJ15_copyOfRangeByte (gC G) post MC MS N x0 x1 x2) : Met l yJ15_copyOfRangeByte (ws_ yJ15_copyOfRangeByte cJ15_copyOfRangeByte 5 (some (.array .byte))) ⟨1, MC, MS, 60⟩ (va_Pc [.ref x0, .int x1, .int x2] (cPre G [] N sz)) (gQ vR post (fun u H => cBw G (cA [] N sz) (jW u).1 (jW u).2 H) (cA [] N sz)) MC MS (cA [] N sz) := by
  refine c_ofW (lw := jW) (by decide) hO (Nat.le_of_ble_eq_true rfl) (fun p e s m below meth c ls A X hr hlk hin hw hl => ?_)
  have hl : lv_has ls 5 [(0, .ref x0), (1, .int x1), (2, .int x2)] := hl
  have hx := X.1.1
  have hb := X.1.2.1
  have hml := X.1.2.2.1
  have hown := X.1.2.2.2.1
  have hts := X.1.2.2.2.2
  obtain ⟨H, eH⟩ : ∃ z, z = s.heap := ⟨_, rfl⟩
  rw [← eH] at hw ⊢
  obtain ⟨locs, eLo⟩ : ∃ z : List Loc, z = [] := ⟨_, rfl⟩
  rw [← eLo] at hw ⊢
  have hbud : 0 + MC ≤ MC ∧ 0 + MS ≤ MS := by omega
  unfold wJ15_copyOfRangeByte at h
  refine lv_iload_n (pc := 0) hx hb dJ15_copyOfRangeByte_0 rfl (lv_at hl 1 rfl) ?_
  refine lv_iload_n (pc := 1) hx hb dJ15_copyOfRangeByte_1 rfl (lv_at hl 2 rfl) ?_
  refine s_call (pc := 2) (val := vV) (As := [.int x1, .int x2]) (rest := []) X.1 (tJ15_checkLength h) (lw_S q627 q628 q122 q629) ⟨by decide, by decide, (by decide +kernel : (parseMethodDescriptor yJ15_checkLength.desc).map (fun d => d.parameters.length) = some 2)⟩ ⟨Nat.le_of_ble_eq_true rfl, Nat.le_of_ble_eq_true rfl⟩ hl.1 (Nat.le_of_ble_eq_true rfl) ⟨show 0 ≤ MC by omega, show 0 ≤ MS by omega⟩ dJ15_copyOfRangeByte_2 rfl (fun _ h => ?_)
  refine W.eq (g2 := F0 m 5 ls ([])) rfl ?_
  refine lv_iload_n (pc := 5) hx hb dJ15_copyOfRangeByte_5 rfl (lv_at hl 2 rfl) ?_
  refine lv_iload_n (pc := 6) hx hb dJ15_copyOfRangeByte_6 rfl (lv_at hl 1 rfl) ?_
  refine lv_isub (pc := 7) hx hb dJ15_copyOfRangeByte_7 ?_
  refine lv_istore_n (pc := 8) (lv' := [(3, .int (x2 - x1)), (0, .ref x0), (1, .int x1), (2, .int x2)]) hx hb dJ15_copyOfRangeByte_8 rfl hl (by decide) rfl (fun ls hl => ?_)
  refine lv_iload_n (pc := 9) hx hb dJ15_copyOfRangeByte_9 rfl (lv_at hl 0 rfl) ?_
  obtain ⟨hm2, hm3, hm4, hm5, h⟩ := h
  refine c_newa (pc := 10) (atype := .byte) (ty := .byte) (a0 := ((x2 - x1).toNatClampNeg, .inl (fun _ => (0 : Int32)))) X hw rfl q275 3 rfl (fun _ => rfl) hm2 rfl (Nat.le_trans (Nat.mul_le_mul_right _ hm3) (Nat.le_of_ble_eq_true rfl)) (show 0 + 1 ≤ MC by omega) (show 0 + (x2 - x1).toNatClampNeg ≤ MS by omega) dJ15_copyOfRangeByte_10 (fun nq6 H hq7 _ hw => ?_)
  have h := h nq6 hq7
  obtain ⟨N8, e9⟩ : ∃ z, z = va_up N nq6 (some (eN 3 ((x2 - x1).toNatClampNeg) (fun _ => (0 : Int32)))) := ⟨_, rfl⟩
  have hw : cH G A s [] N8 H locs := by rw [e9]; exact hw
  have h := h N8 e9
  have hN10 : N8 nq6 = some (eN 3 ((x2 - x1).toNatClampNeg) (fun _ => (0 : Int32))) := by rw [e9]; exact up_s
  refine lv_astore (pc := 12) (lv' := [(4, .ref nq6), (3, .int (x2 - x1)), (0, .ref x0), (1, .int x1), (2, .int x2)]) hx hb dJ15_copyOfRangeByte_12 hl (by decide) rfl (fun ls hl => ?_)
  refine lv_aload_n (pc := 14) hx hb dJ15_copyOfRangeByte_14 rfl (lv_at hl 2 rfl) ?_
  refine lv_iload_n (pc := 15) hx hb dJ15_copyOfRangeByte_15 rfl (lv_at hl 3 rfl) ?_
  refine lv_aload (pc := 16) hx hb dJ15_copyOfRangeByte_16 (lv_at hl 0 rfl) ?_
  refine lv_iconst (pc := 18) (v := (0 : Int32)) hx hb dJ15_copyOfRangeByte_18 (by decide) ?_
  refine lv_aload_n (pc := 19) hx hb dJ15_copyOfRangeByte_19 rfl (lv_at hl 2 rfl) ?_
  obtain ⟨n12, f13, hN11, h⟩ := h
  refine c_alen (pc := 20) X hw hN11 rfl dJ15_copyOfRangeByte_20 ?_
  refine lv_iload_n (pc := 21) hx hb dJ15_copyOfRangeByte_21 rfl (lv_at hl 3 rfl) ?_
  refine lv_isub (pc := 22) hx hb dJ15_copyOfRangeByte_22 ?_
  refine lv_iload_n (pc := 23) hx hb dJ15_copyOfRangeByte_23 rfl (lv_at hl 1 rfl) ?_
  refine s_call (pc := 24) (val := vI) (As := [.int ((nI n12) - x1), .int (x2 - x1)]) (rest := [.int (0 : Int32), .ref nq6, .int x1, .ref x0]) X.1 (tJ14_min h) (lw_S q545 q546 q121 q547) ⟨by decide, by decide, (by decide +kernel : (parseMethodDescriptor yJ14_min.desc).map (fun d => d.parameters.length) = some 2)⟩ ⟨Nat.le_of_ble_eq_true rfl, Nat.le_of_ble_eq_true rfl⟩ hl.1 (Nat.le_of_ble_eq_true rfl) ⟨show 0 + 1 ≤ MC by omega, show 0 + (x2 - x1).toNatClampNeg ≤ MS by omega⟩ dJ15_copyOfRangeByte_24 rfl (fun r14 h => ?_)
  refine W.eq (g2 := F0 m 27 ls (.int r14 :: [.int (0 : Int32), .ref nq6, .int x1, .ref x0])) rfl ?_
  obtain ⟨hm15, hm16, hm17, hm18, hm19, hm20, h⟩ := h
  refine c_copyi (pc := 27) (rest := []) X hw hl.1 q548 q374 q373 q112 3 hN11 hN10 rfl rfl hm15 hm16 hm17 hm18 hm19 hm20 (Nat.le_of_ble_eq_true rfl) (Nat.le_of_ble_eq_true rfl) dJ15_copyOfRangeByte_27 (fun H locs hw => ?_)
  obtain ⟨N21, e22⟩ : ∃ z, z = va_up N8 nq6 (some (eN 3 ((x2 - x1).toNatClampNeg) (va_cpy f13 (fun _ => (0 : Int32)) x1.toNatClampNeg (0 : Int32).toNatClampNeg r14.toNatClampNeg))) := ⟨_, rfl⟩
  have hw : cH G A s [] N21 H locs := by rw [e22]; exact hw
  have h := h N21 e22
  have hN23 : N21 nq6 = some (eN 3 ((x2 - x1).toNatClampNeg) (va_cpy f13 (fun _ => (0 : Int32)) x1.toNatClampNeg (0 : Int32).toNatClampNeg r14.toNatClampNeg)) := by rw [e22]; exact up_s
  refine lv_aload (pc := 30) hx hb dJ15_copyOfRangeByte_30 (lv_at hl 0 rfl) ?_
  refine W.widen (k := MC) (n := MS) (by omega) (by omega) ?_
  exact W.aret (pc := 32) (v := .ref nq6) hx hb hr (Or.inr ⟨_, rfl⟩) (Or.inr ⟨_, rfl⟩) (fun t ht hW => c_ret (val := vR) (lw := jW) (u := N21) hw h ht) hw.2.2.2 dJ15_copyOfRangeByte_32 hlk

def wJ15_copyOfRange_10 (K : Nat → Nat → Nat) (post : Nat → NM → Prop) (x0 : Nat) (x1 : Int32) (x2 : Int32) (mc ms : Nat) (N : NM) : Prop :=
  ∃ mc4 ms5, mc4 ≤ mc ∧ ms5 ≤ ms ∧ wJ15_copyOfRangeByte K (fun r2 N3 => post r2 N3) mc4 ms5 N x0 x1 x2
def wJ15_copyOfRange (K : Nat → Nat → Nat) (post : Nat → NM → Prop) (MC MS : Nat) (N : NM) (x0 : Nat) (x1 : Int32) (x2 : Int32) : Prop :=
  ((x1 = (0 : Int32)) → (∃ n9 f10, N x0 = some (eN 3 n9 f10) ∧ (((x2 = (nI n9)) → ((∀ i, i < n9 → fits .byte (.int (f10 i)) = true) ∧ 1 ≤ MC ∧ n9 ≤ MS ∧ (∀ nq15, N nq15 = none → (∀ N17, N17 = va_up N nq15 (some (eN 3 n9 f10)) → (post nq15 N17))))) ∧ (¬ (x2 = (nI n9)) → (wJ15_copyOfRange_10 K post x0 x1 x2 MC MS N))))) ∧ (¬ (x1 = (0 : Int32)) → (wJ15_copyOfRange_10 K post x0 x1 x2 MC MS N))
theorem kJ15_copyOfRange_10 {p : Program} {l : Launch} {e : Env} {s : State} {m : MethodId} {args : Array Value} {below : List Frame} {meth : Method} {c : Code} {G : gG} {A : Nat → Prop} {MC MS : Nat} {post : Nat → NM → Prop} (X : cX G A RJ15 p s m args c cJ15_copyOfRange 3) (hr : meth.sig.returnType = (some (.array .byte))) (hlk : meth.locks = false) : ∀ (x0 : Nat) (x1 : Int32) (x2 : Int32) (mc ms : Nat) (N : NM) (H : Heap) (locs : List Loc) (ls : Array Slot) (cells slots : Nat), wJ15_copyOfRange_10 (gC G) post x0 x1 x2 mc ms N → (cH G A s [] N H locs ∧ cells + mc ≤ MC ∧ slots + ms ≤ MS) → lv_has ls 3 [(0, .ref x0), (1, .int x1), (2, .int x2)] → W p l e ⟨2, MC, MS, 84⟩ s m args below meth c H locs cells slots (MQ below (gQ vR post (fun u H => cBw G A (jW u).1 (jW u).2 H) A) args s MC MS A) (F0 m 10 ls []) := by
  have hx := X.1.1
  have hb := X.1.2.1
  have hml := X.1.2.2.1
  have hown := X.1.2.2.2.1
  have hts := X.1.2.2.2.2
  intro x0 x1 x2 mc ms N H locs ls cells slots h hw0 hl
  obtain ⟨hw, hbud⟩ := hw0
  unfold wJ15_copyOfRange_10 at h
  refine lv_aload_n (pc := 10) hx hb dJ15_copyOfRange_10 rfl (lv_at hl 0 rfl) ?_
  refine lv_iload_n (pc := 11) hx hb dJ15_copyOfRange_11 rfl (lv_at hl 1 rfl) ?_
  refine lv_iload_n (pc := 12) hx hb dJ15_copyOfRange_12 rfl (lv_at hl 2 rfl) ?_
  obtain ⟨mc4, ms5, hm6, hm7, h⟩ := h
  refine c_callJ (pc := 13) (val := vR) X hw (va_runS (g := F0 m 13 ls _) (As := [.ref x0, .int x1, .int x2]) (rest := []) X.1 (tJ15_copyOfRangeByte X.2.2.1 (sz := H.size) h) (va_cwS 3 hts (lw_S q624 q625 q122 q626) rfl rfl rfl ⟨by decide, by decide, (by decide +kernel : (parseMethodDescriptor yJ15_copyOfRangeByte.desc).map (fun d => d.parameters.length) = some 3)⟩ ⟨Nat.le_of_ble_eq_true rfl, Nat.le_of_ble_eq_true rfl⟩) ⟨cPre_blind, fun U hU hW => ⟨rfl, X.preJ hw hU hW⟩⟩ rfl rfl hl.1 rfl (lv_room (Nat.le_of_ble_eq_true rfl)) dJ15_copyOfRange_13 ⟨show cells + mc4 ≤ MC by omega, show slots + ms5 ≤ MS by omega⟩) (fun r2 N3 H locs h hw => ?_)
  refine W.eq (g2 := F0 m 16 ls (.ref r2 :: [])) rfl ?_
  refine W.widen (k := MC) (n := MS) (by omega) (by omega) ?_
  exact W.aret (pc := 16) (v := .ref r2) hx hb hr (Or.inr ⟨_, rfl⟩) (Or.inr ⟨_, rfl⟩) (fun t ht hW => c_ret (val := vR) (lw := jW) (u := N3) hw h ht) hw.2.2.2 dJ15_copyOfRange_16 hlk
theorem tJ15_copyOfRange {l : Launch} {G : gG} (hO : gOk G) {post : Nat → NM → Prop} {MC MS : Nat} {N : NM} {x0 : Nat} {x1 : Int32} {x2 : Int32} {sz : Nat} (h : wJ15_copyOfRange (gC G) post MC MS N x0 x1 x2) : Met l yJ15_copyOfRange (ws_ yJ15_copyOfRange cJ15_copyOfRange 3 (some (.array .byte))) ⟨2, MC, MS, 84⟩ (va_Pc [.ref x0, .int x1, .int x2] (cPre G [] N sz)) (gQ vR post (fun u H => cBw G (cA [] N sz) (jW u).1 (jW u).2 H) (cA [] N sz)) MC MS (cA [] N sz) := by
  refine c_ofW (lw := jW) (by decide) hO (Nat.le_of_ble_eq_true rfl) (fun p e s m below meth c ls A X hr hlk hin hw hl => ?_)
  have hl : lv_has ls 3 [(0, .ref x0), (1, .int x1), (2, .int x2)] := hl
  have hx := X.1.1
  have hb := X.1.2.1
  have hml := X.1.2.2.1
  have hown := X.1.2.2.2.1
  have hts := X.1.2.2.2.2
  obtain ⟨H, eH⟩ : ∃ z, z = s.heap := ⟨_, rfl⟩
  rw [← eH] at hw ⊢
  obtain ⟨locs, eLo⟩ : ∃ z : List Loc, z = [] := ⟨_, rfl⟩
  rw [← eLo] at hw ⊢
  have hbud : 0 + MC ≤ MC ∧ 0 + MS ≤ MS := by omega
  unfold wJ15_copyOfRange at h
  refine lv_iload_n (pc := 0) hx hb dJ15_copyOfRange_0 rfl (lv_at hl 1 rfl) ?_
  refine lv_if_ne (pc := 1) (tgt := 10) hx hb dJ15_copyOfRange_1 rfl (fun c1 => ?_) (fun c1 => ?_)
  · have h := h.2 c1
    exact kJ15_copyOfRange_10 X hr hlk  _ _ _ _ _ _ _ _ _ _ _ h ⟨hw, by omega⟩ (lv_sub hl [0, 1, 2] rfl)
  · have h := h.1 c1
    refine lv_iload_n (pc := 4) hx hb dJ15_copyOfRange_4 rfl (lv_at hl 2 rfl) ?_
    refine lv_aload_n (pc := 5) hx hb dJ15_copyOfRange_5 rfl (lv_at hl 0 rfl) ?_
    obtain ⟨n9, f10, hN8, h⟩ := h
    refine c_alen (pc := 6) X hw hN8 rfl dJ15_copyOfRange_6 ?_
    refine lv_icmp_eq (pc := 7) (tgt := 17) hx hb dJ15_copyOfRange_7 rfl (fun c11 => ?_) (fun c11 => ?_)
    · have h := h.1 c11
      refine lv_aload_n (pc := 17) hx hb dJ15_copyOfRange_17 rfl (lv_at hl 0 rfl) ?_
      obtain ⟨hm12, hm13, hm14, h⟩ := h
      refine c_cloneB (pc := 18) (rest := []) X hw hl.1 q538 q539 q540 q541 q542 q543 hN8 hm12 (Nat.le_of_ble_eq_true rfl) (Nat.le_of_ble_eq_true rfl) (show 0 + 1 ≤ MC by omega) (show 0 + n9 ≤ MS by omega) dJ15_copyOfRange_18 (fun nq15 H hq16 _ hw => ?_)
      have h := h nq15 hq16
      obtain ⟨N17, e18⟩ : ∃ z, z = va_up N nq15 (some (eN 3 n9 f10)) := ⟨_, rfl⟩
      have hw : cH G A s [] N17 H locs := by rw [e18]; exact hw
      have h := h N17 e18
      have hN19 : N17 nq15 = some (eN 3 n9 f10) := by rw [e18]; exact up_s
      have hN20 := up_f (x := some (eN 3 n9 f10)) hq16 hN8
      rw [← e18] at hN20
      refine c_castB (pc := 21) X hw hN19 q544 dJ15_copyOfRange_21 ?_
      refine W.widen (k := MC) (n := MS) (by omega) (by omega) ?_
      exact W.aret (pc := 24) (v := .ref nq15) hx hb hr (Or.inr ⟨_, rfl⟩) (Or.inr ⟨_, rfl⟩) (fun t ht hW => c_ret (val := vR) (lw := jW) (u := N17) hw h ht) hw.2.2.2 dJ15_copyOfRange_24 hlk
    · have h := h.2 c11
      exact kJ15_copyOfRange_10 X hr hlk  _ _ _ _ _ _ _ _ _ _ _ h ⟨hw, by omega⟩ (lv_sub hl [0, 1, 2] rfl)

def wJ10_isLatin1 (K : Nat → Nat → Nat) (post : Int32 → NM → Prop) (N : NM) (x0 : Nat) : Prop :=
  (((1 : Int32) = (0 : Int32)) → (post (0 : Int32) N)) ∧ (¬ ((1 : Int32) = (0 : Int32)) → (∃ f3 f4 f5 f6, N x0 = some (eO 17 [va_rf f3, .int f4, .int f5, .int f6]) ∧ (((f4 = (0 : Int32)) → (post (1 : Int32) N)) ∧ (¬ (f4 = (0 : Int32)) → (post (0 : Int32) N)))))
theorem tJ10_isLatin1 {l : Launch} {G : gG} (hO : gOk G) {post : Int32 → NM → Prop} {N : NM} {x0 : Nat} {sz : Nat} (h : wJ10_isLatin1 (gC G) post N x0) : Met l yJ10_isLatin1 (ws_ yJ10_isLatin1 cJ10_isLatin1 1 (some .boolean)) ⟨0, 0, 0, 0⟩ (va_Pc [.ref x0] (cPre G [] N sz)) (gQ vI post (fun u H => cBw G (cA [] N sz) (jW u).1 (jW u).2 H) (cA [] N sz)) 0 0 (cA [] N sz) := by
  refine c_ofW (lw := jW) (by decide) hO (Nat.le_of_ble_eq_true rfl) (fun p e s m below meth c ls A X hr hlk hin hw hl => ?_)
  have hl : lv_has ls 1 [(0, .ref x0)] := hl
  have hx := X.1.1
  have hb := X.1.2.1
  have hml := X.1.2.2.1
  have hown := X.1.2.2.2.1
  have hts := X.1.2.2.2.2
  obtain ⟨H, eH⟩ : ∃ z, z = s.heap := ⟨_, rfl⟩
  rw [← eH] at hw ⊢
  obtain ⟨locs, eLo⟩ : ∃ z : List Loc, z = [] := ⟨_, rfl⟩
  rw [← eLo] at hw ⊢
  unfold wJ10_isLatin1 at h
  refine va_gets (pc := 0) hx hb (va_Z.narrow (X.2.2.2.1.Z (z_compact X.2.2.1)) X.2.2.2.2.2) hw.2 hown (hts _ q478) (fun x h => h) dJ10_isLatin1_0 ?_
  refine lv_if_eq (pc := 3) (tgt := 17) hx hb dJ10_isLatin1_3 rfl (fun c1 => ?_) (fun c1 => ?_)
  · have h := h.1 c1
    refine lv_iconst (pc := 17) (v := (0 : Int32)) hx hb dJ10_isLatin1_17 (by decide) ?_
    exact W.zret (pc := 18) hx hb hr rfl (fun t ht hW => c_ret (val := vI) (lw := jW) (u := N) hw h ht) hw.2.2.2 dJ10_isLatin1_18 hlk
  · have h := h.2 c1
    refine lv_aload_n (pc := 6) hx hb dJ10_isLatin1_6 rfl (lv_at hl 0 rfl) ?_
    obtain ⟨f3, f4, f5, f6, hN2, h⟩ := h
    refine c_get (pc := 7) X hw hN2 in_J11 rfl 1 (by decide) q488 rfl rfl dJ10_isLatin1_7 ?_
    refine lv_if_ne (pc := 10) (tgt := 17) hx hb dJ10_isLatin1_10 rfl (fun c7 => ?_) (fun c7 => ?_)
    · have h := h.2 c7
      refine lv_iconst (pc := 17) (v := (0 : Int32)) hx hb dJ10_isLatin1_17 (by decide) ?_
      exact W.zret (pc := 18) hx hb hr rfl (fun t ht hW => c_ret (val := vI) (lw := jW) (u := N) hw h ht) hw.2.2.2 dJ10_isLatin1_18 hlk
    · have h := h.1 c7
      refine lv_iconst (pc := 13) (v := (1 : Int32)) hx hb dJ10_isLatin1_13 (by decide) ?_
      refine lv_goto (pc := 14) (tgt := 18) hx hb dJ10_isLatin1_14 rfl ?_
      exact W.zret (pc := 18) hx hb hr rfl (fun t ht hW => c_ret (val := vI) (lw := jW) (u := N) hw h ht) hw.2.2.2 dJ10_isLatin1_18 hlk

def wJ10_length (K : Nat → Nat → Nat) (post : Int32 → NM → Prop) (N : NM) (x0 : Nat) : Prop :=
  ∃ f2 f3 f4 f5, N x0 = some (eO 17 [va_rf f2, .int f3, .int f4, .int f5]) ∧ (post f5 N)
theorem tJ10_length {l : Launch} {G : gG} (hO : gOk G) {post : Int32 → NM → Prop} {N : NM} {x0 : Nat} {sz : Nat} (h : wJ10_length (gC G) post N x0) : Met l yJ10_length (ws_ yJ10_length cJ10_length 1 (some .int)) ⟨0, 0, 0, 0⟩ (va_Pc [.ref x0] (cPre G [] N sz)) (gQ vI post (fun u H => cBw G (cA [] N sz) (jW u).1 (jW u).2 H) (cA [] N sz)) 0 0 (cA [] N sz) := by
  refine c_ofW (lw := jW) (by decide) hO (Nat.le_of_ble_eq_true rfl) (fun p e s m below meth c ls A X hr hlk hin hw hl => ?_)
  have hl : lv_has ls 1 [(0, .ref x0)] := hl
  have hx := X.1.1
  have hb := X.1.2.1
  have hml := X.1.2.2.1
  have hown := X.1.2.2.2.1
  have hts := X.1.2.2.2.2
  obtain ⟨H, eH⟩ : ∃ z, z = s.heap := ⟨_, rfl⟩
  rw [← eH] at hw ⊢
  obtain ⟨locs, eLo⟩ : ∃ z : List Loc, z = [] := ⟨_, rfl⟩
  rw [← eLo] at hw ⊢
  unfold wJ10_length at h
  refine lv_aload_n (pc := 0) hx hb dJ10_length_0 rfl (lv_at hl 0 rfl) ?_
  obtain ⟨f2, f3, f4, f5, hN1, h⟩ := h
  refine c_get (pc := 1) X hw hN1 in_J11 rfl 3 (by decide) q490 rfl rfl dJ10_length_1 ?_
  exact W.iret (pc := 4) hx hb hr (fun t ht hW => c_ret (val := vI) (lw := jW) (u := N) hw h ht) hw.2.2.2 dJ10_length_4 hlk

def wJ10_getValue (K : Nat → Nat → Nat) (post : Option Nat → NM → Prop) (N : NM) (x0 : Nat) : Prop :=
  ∃ f2 f3 f4 f5, N x0 = some (eO 17 [va_rf f2, .int f3, .int f4, .int f5]) ∧ (post f2 N)
theorem tJ10_getValue {l : Launch} {G : gG} (hO : gOk G) {post : Option Nat → NM → Prop} {N : NM} {x0 : Nat} {sz : Nat} (h : wJ10_getValue (gC G) post N x0) : Met l yJ10_getValue (ws_ yJ10_getValue cJ10_getValue 1 (some (.array .byte))) ⟨0, 0, 0, 0⟩ (va_Pc [.ref x0] (cPre G [] N sz)) (gQ vQ post (fun u H => cBw G (cA [] N sz) (jW u).1 (jW u).2 H) (cA [] N sz)) 0 0 (cA [] N sz) := by
  refine c_ofW (lw := jW) (by decide) hO (Nat.le_of_ble_eq_true rfl) (fun p e s m below meth c ls A X hr hlk hin hw hl => ?_)
  have hl : lv_has ls 1 [(0, .ref x0)] := hl
  have hx := X.1.1
  have hb := X.1.2.1
  have hml := X.1.2.2.1
  have hown := X.1.2.2.2.1
  have hts := X.1.2.2.2.2
  obtain ⟨H, eH⟩ : ∃ z, z = s.heap := ⟨_, rfl⟩
  rw [← eH] at hw ⊢
  obtain ⟨locs, eLo⟩ : ∃ z : List Loc, z = [] := ⟨_, rfl⟩
  rw [← eLo] at hw ⊢
  unfold wJ10_getValue at h
  refine lv_aload_n (pc := 0) hx hb dJ10_getValue_0 rfl (lv_at hl 0 rfl) ?_
  obtain ⟨f2, f3, f4, f5, hN1, h⟩ := h
  refine c_get (pc := 1) X hw hN1 in_J11 rfl 0 (by decide) q487 rfl rfl dJ10_getValue_1 ?_
  exact W.aret (pc := 4) (v := va_rf f2) hx hb hr (Or.inr ⟨_, rfl⟩) (va_rf_or _) (fun t ht hW => c_ret (val := vQ) (lw := jW) (u := N) hw h ht) hw.2.2.2 dJ10_getValue_4 hlk

def wJ10_init (K : Nat → Nat → Nat) (post : Unit → NM → Prop) (MC MS : Nat) (N : NM) (x0 : Nat) (x1 : Int32) : Prop :=
  (((1 : Int32) = (0 : Int32)) → (False)) ∧ (¬ ((1 : Int32) = (0 : Int32)) → (¬ x1 < 0 ∧ x1.toNatClampNeg ≤ 65536 ∧ 1 ≤ MC ∧ x1.toNatClampNeg ≤ MS ∧ (∀ nq6, N nq6 = none → (∀ N8, N8 = va_up N nq6 (some (eN 3 x1.toNatClampNeg (fun _ => (0 : Int32)))) → (∃ f12 f13 f14 f15, N8 x0 = some (eO 17 [va_rf f12, .int f13, .int f14, .int f15]) ∧ (∀ N16, N16 = va_up N8 x0 (some (eO 17 [va_rf (some nq6), .int f13, .int f14, .int f15])) → (∀ N20, N20 = va_up N16 x0 (some (eO 17 [va_rf (some nq6), .int (0 : Int32), .int f14, .int f15])) → (post () N20))))))))
theorem tJ10_init {l : Launch} {G : gG} (hO : gOk G) {post : Unit → NM → Prop} {MC MS : Nat} {N : NM} {x0 : Nat} {x1 : Int32} {sz : Nat} (h : wJ10_init (gC G) post MC MS N x0 x1) : Met l yJ10_init (ws_ yJ10_init cJ10_init 2 none) ⟨1, MC, MS, 20⟩ (va_Pc [.ref x0, .int x1] (cPre G [] N sz)) (gQ vV post (fun u H => cBw G (cA [] N sz) (jW u).1 (jW u).2 H) (cA [] N sz)) MC MS (cA [] N sz) := by
  refine c_ofW (lw := jW) (by decide) hO (Nat.le_of_ble_eq_true rfl) (fun p e s m below meth c ls A X hr hlk hin hw hl => ?_)
  have hl : lv_has ls 2 [(0, .ref x0), (1, .int x1)] := hl
  have hin := hin rfl
  have hx := X.1.1
  have hb := X.1.2.1
  have hml := X.1.2.2.1
  have hown := X.1.2.2.2.1
  have hts := X.1.2.2.2.2
  obtain ⟨H, eH⟩ : ∃ z, z = s.heap := ⟨_, rfl⟩
  rw [← eH] at hw ⊢
  obtain ⟨locs, eLo⟩ : ∃ z : List Loc, z = [] := ⟨_, rfl⟩
  rw [← eLo] at hw ⊢
  have hbud : 0 + MC ≤ MC ∧ 0 + MS ≤ MS := by omega
  unfold wJ10_init at h
  refine lv_aload_n (pc := 0) hx hb dJ10_init_0 rfl (lv_at hl 0 rfl) ?_
  refine W.objInit hx hb hown (hts _ q477) (hts _ q181) (hts _ q182) rfl (by rw [hml]; exact hl.1) rfl dJ10_init_1 (Nat.le_of_ble_eq_true rfl) (Nat.le_of_ble_eq_true rfl) ?_
  refine W.eq (g2 := F0 m 4 ls []) rfl ?_
  refine va_gets (pc := 4) hx hb (va_Z.narrow (X.2.2.2.1.Z (z_compact X.2.2.1)) X.2.2.2.2.2) hw.2 hown (hts _ q478) (fun x h => h) dJ10_init_4 ?_
  refine lv_if_eq (pc := 7) (tgt := 25) hx hb dJ10_init_7 rfl (fun c1 => ?_) (fun c1 => ?_)
  · have h := h.1 c1
    exact False.elim h
  · have h := h.2 c1
    refine lv_aload_n (pc := 10) hx hb dJ10_init_10 rfl (lv_at hl 0 rfl) ?_
    refine lv_iload_n (pc := 11) hx hb dJ10_init_11 rfl (lv_at hl 1 rfl) ?_
    obtain ⟨hm2, hm3, hm4, hm5, h⟩ := h
    refine c_newa (pc := 12) (atype := .byte) (ty := .byte) (a0 := (x1.toNatClampNeg, .inl (fun _ => (0 : Int32)))) X hw rfl q275 3 rfl (fun _ => rfl) hm2 rfl (Nat.le_trans (Nat.mul_le_mul_right _ hm3) (Nat.le_of_ble_eq_true rfl)) (show 0 + 1 ≤ MC by omega) (show 0 + x1.toNatClampNeg ≤ MS by omega) dJ10_init_12 (fun nq6 H hq7 _ hw => ?_)
    have h := h nq6 hq7
    obtain ⟨N8, e9⟩ : ∃ z, z = va_up N nq6 (some (eN 3 x1.toNatClampNeg (fun _ => (0 : Int32)))) := ⟨_, rfl⟩
    have hw : cH G A s [] N8 H locs := by rw [e9]; exact hw
    have h := h N8 e9
    have hN10 : N8 nq6 = some (eN 3 x1.toNatClampNeg (fun _ => (0 : Int32))) := by rw [e9]; exact up_s
    obtain ⟨f12, f13, f14, f15, hN11, h⟩ := h
    refine c_put (pc := 14) (v := va_rf (some nq6)) X hw hN11 in_J11 tyJ11 tyJ11_ok nmJ11 rfl 0 (by decide) q487 rfl rfl rfl (rf_na (some nq6) _) (rf_fa (some nq6) _) (Nat.le_of_ble_eq_true rfl) dJ10_init_14 (fun H locs hw => ?_)
    obtain ⟨N16, e17⟩ : ∃ z, z = va_up N8 x0 (some (eO 17 [va_rf (some nq6), .int f13, .int f14, .int f15])) := ⟨_, rfl⟩
    have hw : cH G A s [] N16 H locs := by rw [e17]; exact hw
    have h := h N16 e17
    have hN18 : N16 x0 = some (eO 17 [va_rf (some nq6), .int f13, .int f14, .int f15]) := by rw [e17]; exact up_s
    have hN19 := up_k (x := some (eO 17 [va_rf (some nq6), .int f13, .int f14, .int f15])) hN11 hN10 (show (34 : Nat) ≠ 7 by decide)
    rw [← e17] at hN19
    refine lv_aload_n (pc := 17) hx hb dJ10_init_17 rfl (lv_at hl 0 rfl) ?_
    refine lv_iconst (pc := 18) (v := (0 : Int32)) hx hb dJ10_init_18 (by decide) ?_
    refine c_put (pc := 19) X hw hN18 in_J11 tyJ11 tyJ11_ok nmJ11 rfl 1 (by decide) q488 rfl rfl rfl rfl rfl (Nat.le_of_ble_eq_true rfl) dJ10_init_19 (fun H locs hw => ?_)
    obtain ⟨N20, e21⟩ : ∃ z, z = va_up N16 x0 (some (eO 17 [va_rf (some nq6), .int (0 : Int32), .int f14, .int f15])) := ⟨_, rfl⟩
    have hw : cH G A s [] N20 H locs := by rw [e21]; exact hw
    have h := h N20 e21
    have hN22 : N20 x0 = some (eO 17 [va_rf (some nq6), .int (0 : Int32), .int f14, .int f15]) := by rw [e21]; exact up_s
    have hN23 := up_k (x := some (eO 17 [va_rf (some nq6), .int (0 : Int32), .int f14, .int f15])) hN18 hN19 (show (34 : Nat) ≠ 7 by decide)
    rw [← e21] at hN23
    refine lv_goto (pc := 22) (tgt := 38) hx hb dJ10_init_22 rfl ?_
    refine W.widen (k := MC) (n := MS) (by omega) (by omega) ?_
    exact W.vret (pc := 38) hx hb hr (fun t ht hW => c_ret (val := vV) (lw := jW) (u := N20) (v := ()) hw h ht) hw.2.2.2 dJ10_init_38 hlk

def wJ11_init (K : Nat → Nat → Nat) (post : Unit → NM → Prop) (MC MS : Nat) (N : NM) (x0 : Nat) : Prop :=
  ∃ mc3 ms4, mc3 ≤ MC ∧ ms4 ≤ MS ∧ wJ10_init K (fun _ N2 => post () N2) mc3 ms4 N x0 (16 : Int32)
theorem tJ11_init {l : Launch} {G : gG} (hO : gOk G) {post : Unit → NM → Prop} {MC MS : Nat} {N : NM} {x0 : Nat} {sz : Nat} (h : wJ11_init (gC G) post MC MS N x0) : Met l yJ11_init (ws_ yJ11_init cJ11_init 1 none) ⟨2, MC, MS, 41⟩ (va_Pc [.ref x0] (cPre G [] N sz)) (gQ vV post (fun u H => cBw G (cA [] N sz) (jW u).1 (jW u).2 H) (cA [] N sz)) MC MS (cA [] N sz) := by
  refine c_ofW (lw := jW) (by decide) hO (Nat.le_of_ble_eq_true rfl) (fun p e s m below meth c ls A X hr hlk hin hw hl => ?_)
  have hl : lv_has ls 1 [(0, .ref x0)] := hl
  have hin := hin rfl
  have hx := X.1.1
  have hb := X.1.2.1
  have hml := X.1.2.2.1
  have hown := X.1.2.2.2.1
  have hts := X.1.2.2.2.2
  obtain ⟨H, eH⟩ : ∃ z, z = s.heap := ⟨_, rfl⟩
  rw [← eH] at hw ⊢
  obtain ⟨locs, eLo⟩ : ∃ z : List Loc, z = [] := ⟨_, rfl⟩
  rw [← eLo] at hw ⊢
  have hbud : 0 + MC ≤ MC ∧ 0 + MS ≤ MS := by omega
  unfold wJ11_init at h
  refine lv_aload_n (pc := 0) hx hb dJ11_init_0 rfl (lv_at hl 0 rfl) ?_
  refine lv_bipush (pc := 1) (v := (16 : Int32)) hx hb dJ11_init_1 (by decide) ?_
  obtain ⟨mc3, ms4, hm5, hm6, h⟩ := h
  refine c_callJ (pc := 3) (val := vV) X hw (va_runI (As := [.int (16 : Int32)]) (rest := []) X.1 (tJ10_init X.2.2.1 (sz := H.size) h) (cwI 1 hts (lw_meth q476) rfl rfl rfl (hts _ q117) (hts _ q474) (hts _ q475) rfl ⟨by decide, by decide, (by decide +kernel : (parseMethodDescriptor yJ10_init.desc).map (fun d => d.parameters.length) = some 1)⟩ ⟨Nat.le_of_ble_eq_true rfl, Nat.le_of_ble_eq_true rfl⟩) ⟨cPre_blind, fun U hU hW => ⟨rfl, X.preJ hw hU hW⟩⟩ rfl rfl hl.1 rfl (lv_room (Nat.le_of_ble_eq_true rfl)) dJ11_init_3 ⟨show 0 + mc3 ≤ MC by omega, show 0 + ms4 ≤ MS by omega⟩) (fun _ N2 H locs h hw => ?_)
  refine W.eq (g2 := F0 m 6 ls ([])) rfl ?_
  refine W.widen (k := MC) (n := MS) (by omega) (by omega) ?_
  exact W.vret (pc := 6) hx hb hr (fun t ht hW => c_ret (val := vV) (lw := jW) (u := N2) (v := ()) hw h ht) hw.2.2.2 dJ11_init_6 hlk

def wJ10_newCapacity (K : Nat → Nat → Nat) (post : Int32 → NM → Prop) (N : NM) (x0 : Nat) (x1 : Int32) : Prop :=
  ∃ f2 f3 f4 f5, N x0 = some (eO 17 [va_rf f2, .int f3, .int f4, .int f5]) ∧ (∃ a6, f2 = some a6 ∧ (∃ n9 f10, N a6 = some (eN 3 n9 f10) ∧ (wJ13_newLength (fun r11 => ((r11 = (2147483647 : Int32)) → (False)) ∧ (¬ (r11 = (2147483647 : Int32)) → (post (r11 >>> (f3 &&& 31)) N))) (nI n9) ((x1 <<< (f3 &&& 31)) - (nI n9)) ((nI n9) + ((2 : Int32) <<< (f3 &&& 31))))))
theorem tJ10_newCapacity {l : Launch} {G : gG} (hO : gOk G) {post : Int32 → NM → Prop} {N : NM} {x0 : Nat} {x1 : Int32} {sz : Nat} (h : wJ10_newCapacity (gC G) post N x0 x1) : Met l yJ10_newCapacity (ws_ yJ10_newCapacity cJ10_newCapacity 6 (some .int)) ⟨2, 0, 0, 44⟩ (va_Pc [.ref x0, .int x1] (cPre G [] N sz)) (gQ vI post (fun u H => cBw G (cA [] N sz) (jW u).1 (jW u).2 H) (cA [] N sz)) 0 0 (cA [] N sz) := by
  refine c_ofW (lw := jW) (by decide) hO (Nat.le_of_ble_eq_true rfl) (fun p e s m below meth c ls A X hr hlk hin hw hl => ?_)
  have hl : lv_has ls 6 [(0, .ref x0), (1, .int x1)] := hl
  have hx := X.1.1
  have hb := X.1.2.1
  have hml := X.1.2.2.1
  have hown := X.1.2.2.2.1
  have hts := X.1.2.2.2.2
  obtain ⟨H, eH⟩ : ∃ z, z = s.heap := ⟨_, rfl⟩
  rw [← eH] at hw ⊢
  obtain ⟨locs, eLo⟩ : ∃ z : List Loc, z = [] := ⟨_, rfl⟩
  rw [← eLo] at hw ⊢
  unfold wJ10_newCapacity at h
  refine lv_aload_n (pc := 0) hx hb dJ10_newCapacity_0 rfl (lv_at hl 0 rfl) ?_
  obtain ⟨f2, f3, f4, f5, hN1, h⟩ := h
  refine c_get (pc := 1) X hw hN1 in_J11 rfl 0 (by decide) q487 rfl rfl dJ10_newCapacity_1 ?_
  obtain ⟨a6, hr7, h⟩ := h
  refine W.eq (g2 := F0 m 4 ls [.ref a6]) (by rw [hr7]; rfl) ?_
  obtain ⟨n9, f10, hN8, h⟩ := h
  refine c_alen (pc := 4) X hw hN8 rfl dJ10_newCapacity_4 ?_
  refine lv_istore_n (pc := 5) (lv' := [(2, .int (nI n9)), (0, .ref x0), (1, .int x1)]) hx hb dJ10_newCapacity_5 rfl hl (by decide) rfl (fun ls hl => ?_)
  refine lv_iload_n (pc := 6) hx hb dJ10_newCapacity_6 rfl (lv_at hl 2 rfl) ?_
  refine lv_aload_n (pc := 7) hx hb dJ10_newCapacity_7 rfl (lv_at hl 1 rfl) ?_
  refine c_get (pc := 8) X hw hN1 in_J11 rfl 1 (by decide) q488 rfl rfl dJ10_newCapacity_8 ?_
  refine lv_ishl (pc := 11) hx hb dJ10_newCapacity_11 ?_
  refine lv_istore_n (pc := 12) (lv' := [(3, .int (x1 <<< (f3 &&& 31))), (2, .int (nI n9)), (0, .ref x0), (1, .int x1)]) hx hb dJ10_newCapacity_12 rfl hl (by decide) rfl (fun ls hl => ?_)
  refine lv_iload_n (pc := 13) hx hb dJ10_newCapacity_13 rfl (lv_at hl 0 rfl) ?_
  refine lv_iload_n (pc := 14) hx hb dJ10_newCapacity_14 rfl (lv_at hl 1 rfl) ?_
  refine lv_isub (pc := 15) hx hb dJ10_newCapacity_15 ?_
  refine lv_istore (pc := 16) (lv' := [(4, .int ((x1 <<< (f3 &&& 31)) - (nI n9))), (3, .int (x1 <<< (f3 &&& 31))), (2, .int (nI n9)), (0, .ref x0), (1, .int x1)]) hx hb dJ10_newCapacity_16 hl (by decide) rfl (fun ls hl => ?_)
  refine lv_iload_n (pc := 18) hx hb dJ10_newCapacity_18 rfl (lv_at hl 2 rfl) ?_
  refine lv_iload (pc := 19) hx hb dJ10_newCapacity_19 (lv_at hl 0 rfl) ?_
  refine lv_iload_n (pc := 21) hx hb dJ10_newCapacity_21 rfl (lv_at hl 2 rfl) ?_
  refine lv_iconst (pc := 22) (v := (2 : Int32)) hx hb dJ10_newCapacity_22 (by decide) ?_
  refine lv_aload_n (pc := 23) hx hb dJ10_newCapacity_23 rfl (lv_at hl 3 rfl) ?_
  refine c_get (pc := 24) X hw hN1 in_J11 rfl 1 (by decide) q488 rfl rfl dJ10_newCapacity_24 ?_
  refine lv_ishl (pc := 27) hx hb dJ10_newCapacity_27 ?_
  refine lv_iadd (pc := 28) hx hb dJ10_newCapacity_28 ?_
  refine s_call (pc := 29) (val := vI) (As := [.int (nI n9), .int ((x1 <<< (f3 &&& 31)) - (nI n9)), .int ((nI n9) + ((2 : Int32) <<< (f3 &&& 31)))]) (rest := []) X.1 (tJ13_newLength h) (lw_S q524 q525 q120 q526) ⟨by decide, by decide, (by decide +kernel : (parseMethodDescriptor yJ13_newLength.desc).map (fun d => d.parameters.length) = some 3)⟩ ⟨Nat.le_of_ble_eq_true rfl, Nat.le_of_ble_eq_true rfl⟩ hl.1 (Nat.le_of_ble_eq_true rfl) ⟨show 0 ≤ 0 by omega, show 0 ≤ 0 by omega⟩ dJ10_newCapacity_29 rfl (fun r11 h => ?_)
  refine W.eq (g2 := F0 m 32 ls (.int r11 :: [])) rfl ?_
  refine lv_istore (pc := 32) (lv' := [(5, .int r11), (4, .int ((x1 <<< (f3 &&& 31)) - (nI n9))), (3, .int (x1 <<< (f3 &&& 31))), (2, .int (nI n9)), (0, .ref x0), (1, .int x1)]) hx hb dJ10_newCapacity_32 hl (by decide) rfl (fun ls hl => ?_)
  refine lv_iload (pc := 34) hx hb dJ10_newCapacity_34 (lv_at hl 0 rfl) ?_
  refine lv_ldc (pc := 36) hx hb hown (hts _ q534) dJ10_newCapacity_36 ?_
  refine lv_icmp_ne (pc := 38) (tgt := 51) hx hb dJ10_newCapacity_38 rfl (fun c12 => ?_) (fun c12 => ?_)
  · have h := h.2 c12
    refine lv_iload (pc := 51) hx hb dJ10_newCapacity_51 (lv_at hl 0 rfl) ?_
    refine lv_aload_n (pc := 53) hx hb dJ10_newCapacity_53 rfl (lv_at hl 4 rfl) ?_
    refine c_get (pc := 54) X hw hN1 in_J11 rfl 1 (by decide) q488 rfl rfl dJ10_newCapacity_54 ?_
    refine lv_ishr (pc := 57) hx hb dJ10_newCapacity_57 ?_
    exact W.iret (pc := 58) hx hb hr (fun t ht hW => c_ret (val := vI) (lw := jW) (u := N) hw h ht) hw.2.2.2 dJ10_newCapacity_58 hlk
  · have h := h.1 c12
    exact False.elim h

def wJ10_ensureCapacityInternal (K : Nat → Nat → Nat) (post : Unit → NM → Prop) (MC MS : Nat) (N : NM) (x0 : Nat) (x1 : Int32) : Prop :=
  ∃ f2 f3 f4 f5, N x0 = some (eO 17 [va_rf f2, .int f3, .int f4, .int f5]) ∧ (∃ a6, f2 = some a6 ∧ (∃ n9 f10, N a6 = some (eN 3 n9 f10) ∧ ((((x1 - ((nI n9) >>> (f3 &&& 31))) ≤ (0 : Int32)) → (post () N)) ∧ (¬ ((x1 - ((nI n9) >>> (f3 &&& 31))) ≤ (0 : Int32)) → (wJ10_newCapacity K (fun r12 N13 => ∃ f15 f16 f17 f18, N13 x0 = some (eO 17 [va_rf f15, .int f16, .int f17, .int f18]) ∧ (∃ mc21 ms22, mc21 ≤ MC ∧ ms22 ≤ MS ∧ wJ15_copyOf K (fun r19 N20 => ∃ f26 f27 f28 f29, N20 x0 = some (eO 17 [va_rf f26, .int f27, .int f28, .int f29]) ∧ (∀ N30, N30 = va_up N20 x0 (some (eO 17 [va_rf (some r19), .int f27, .int f28, .int f29])) → (post () N30))) mc21 ms22 N13 a6 (r12 <<< (f16 &&& 31)))) N x0 x1)))))
theorem tJ10_ensureCapacityInternal {l : Launch} {G : gG} (hO : gOk G) {post : Unit → NM → Prop} {MC MS : Nat} {N : NM} {x0 : Nat} {x1 : Int32} {sz : Nat} (h : wJ10_ensureCapacityInternal (gC G) post MC MS N x0 x1) : Met l yJ10_ensureCapacityInternal (ws_ yJ10_ensureCapacityInternal cJ10_ensureCapacityInternal 3 none) ⟨3, MC, MS, 82⟩ (va_Pc [.ref x0, .int x1] (cPre G [] N sz)) (gQ vV post (fun u H => cBw G (cA [] N sz) (jW u).1 (jW u).2 H) (cA [] N sz)) MC MS (cA [] N sz) := by
  refine c_ofW (lw := jW) (by decide) hO (Nat.le_of_ble_eq_true rfl) (fun p e s m below meth c ls A X hr hlk hin hw hl => ?_)
  have hl : lv_has ls 3 [(0, .ref x0), (1, .int x1)] := hl
  have hx := X.1.1
  have hb := X.1.2.1
  have hml := X.1.2.2.1
  have hown := X.1.2.2.2.1
  have hts := X.1.2.2.2.2
  obtain ⟨H, eH⟩ : ∃ z, z = s.heap := ⟨_, rfl⟩
  rw [← eH] at hw ⊢
  obtain ⟨locs, eLo⟩ : ∃ z : List Loc, z = [] := ⟨_, rfl⟩
  rw [← eLo] at hw ⊢
  have hbud : 0 + MC ≤ MC ∧ 0 + MS ≤ MS := by omega
  unfold wJ10_ensureCapacityInternal at h
  refine lv_aload_n (pc := 0) hx hb dJ10_ensureCapacityInternal_0 rfl (lv_at hl 0 rfl) ?_
  obtain ⟨f2, f3, f4, f5, hN1, h⟩ := h
  refine c_get (pc := 1) X hw hN1 in_J11 rfl 0 (by decide) q487 rfl rfl dJ10_ensureCapacityInternal_1 ?_
  obtain ⟨a6, hr7, h⟩ := h
  refine W.eq (g2 := F0 m 4 ls [.ref a6]) (by rw [hr7]; rfl) ?_
  obtain ⟨n9, f10, hN8, h⟩ := h
  refine c_alen (pc := 4) X hw hN8 rfl dJ10_ensureCapacityInternal_4 ?_
  refine lv_aload_n (pc := 5) hx hb dJ10_ensureCapacityInternal_5 rfl (lv_at hl 0 rfl) ?_
  refine c_get (pc := 6) X hw hN1 in_J11 rfl 1 (by decide) q488 rfl rfl dJ10_ensureCapacityInternal_6 ?_
  refine lv_ishr (pc := 9) hx hb dJ10_ensureCapacityInternal_9 ?_
  refine lv_istore_n (pc := 10) (lv' := [(2, .int ((nI n9) >>> (f3 &&& 31))), (0, .ref x0), (1, .int x1)]) hx hb dJ10_ensureCapacityInternal_10 rfl hl (by decide) rfl (fun ls hl => ?_)
  refine lv_iload_n (pc := 11) hx hb dJ10_ensureCapacityInternal_11 rfl (lv_at hl 2 rfl) ?_
  refine lv_iload_n (pc := 12) hx hb dJ10_ensureCapacityInternal_12 rfl (lv_at hl 0 rfl) ?_
  refine lv_isub (pc := 13) hx hb dJ10_ensureCapacityInternal_13 ?_
  refine lv_if_le (pc := 14) (tgt := 38) hx hb dJ10_ensureCapacityInternal_14 rfl (fun c11 => ?_) (fun c11 => ?_)
  · have h := h.1 c11
    refine W.widen (k := MC) (n := MS) (by omega) (by omega) ?_
    exact W.vret (pc := 38) hx hb hr (fun t ht hW => c_ret (val := vV) (lw := jW) (u := N) (v := ()) hw h ht) hw.2.2.2 dJ10_ensureCapacityInternal_38 hlk
  · have h := h.2 c11
    refine lv_aload_n (pc := 17) hx hb dJ10_ensureCapacityInternal_17 rfl (lv_at hl 1 rfl) ?_
    refine lv_aload_n (pc := 18) hx hb dJ10_ensureCapacityInternal_18 rfl (lv_at hl 1 rfl) ?_
    refine c_get (pc := 19) X hw hN1 in_J11 rfl 0 (by decide) q487 rfl rfl dJ10_ensureCapacityInternal_19 ?_
    refine lv_aload_n (pc := 22) hx hb dJ10_ensureCapacityInternal_22 rfl (lv_at hl 1 rfl) ?_
    refine lv_iload_n (pc := 23) hx hb dJ10_ensureCapacityInternal_23 rfl (lv_at hl 2 rfl) ?_
    refine c_callJ (pc := 24) (val := vI) X hw (va_runU (C := RJ11) (As := [.int x1]) (rest := [va_rf f2, .ref x0]) X.1 (tJ10_newCapacity X.2.2.1 (sz := H.size) h) (cu_mk (x := ⟨"java/lang/AbstractStringBuilder", "newCapacity", "(I)I"⟩) (owner := "java/lang/AbstractStringBuilder") hts (lw_meth q523) rfl rfl rfl ⟨Nat.le_of_ble_eq_true rfl, Nat.le_of_ble_eq_true rfl⟩ (hts _ q117) ⟨by decide, by decide⟩ (by decide +kernel : (parseMethodDescriptor "(I)I").map (fun d => d.parameters.length) = some 1) (hts _ q520) (hts _ q2537) (va_Decl.of (hts _ q522) (hts _ q523)) (selects_priv ⟨by decide, by decide⟩ (hts _ q552) rfl (X.priv q521) (hts _ q522)) (hts _ q522)) ⟨cPre_blind, c_recv X hw hN1 rfl, fun U hU hW => ⟨rfl, X.preJ hw hU hW⟩⟩ rfl rfl hl.1 rfl (lv_room (rsum_le (Nat.le_of_ble_eq_true rfl))) dJ10_ensureCapacityInternal_24 ⟨show 0 + 0 ≤ MC by omega, show 0 + 0 ≤ MS by omega⟩) (fun r12 N13 H locs h hw => ?_)
    refine W.eq (g2 := F0 m 27 ls (.int r12 :: [va_rf f2, .ref x0])) rfl ?_
    refine lv_aload_n (pc := 27) hx hb dJ10_ensureCapacityInternal_27 rfl (lv_at hl 1 rfl) ?_
    obtain ⟨f15, f16, f17, f18, hN14, h⟩ := h
    refine c_get (pc := 28) X hw hN14 in_J11 rfl 1 (by decide) q488 rfl rfl dJ10_ensureCapacityInternal_28 ?_
    refine lv_ishl (pc := 31) hx hb dJ10_ensureCapacityInternal_31 ?_
    refine W.eq (g2 := F0 m 32 ls [.int (r12 <<< (f16 &&& 31)), .ref a6, .ref x0]) (by rw [hr7]; rfl) ?_
    obtain ⟨mc21, ms22, hm23, hm24, h⟩ := h
    refine c_callJ (pc := 32) (val := vR) X hw (va_runS (g := F0 m 32 ls _) (As := [.ref a6, .int (r12 <<< (f16 &&& 31))]) (rest := [.ref x0]) X.1 (tJ15_copyOf X.2.2.1 (sz := H.size) h) (va_cwS 2 hts (lw_S q535 q536 q122 q537) rfl rfl rfl ⟨by decide, by decide, (by decide +kernel : (parseMethodDescriptor yJ15_copyOf.desc).map (fun d => d.parameters.length) = some 2)⟩ ⟨Nat.le_of_ble_eq_true rfl, Nat.le_of_ble_eq_true rfl⟩) ⟨cPre_blind, fun U hU hW => ⟨rfl, X.preJ hw hU hW⟩⟩ rfl rfl hl.1 rfl (lv_room (Nat.le_of_ble_eq_true rfl)) dJ10_ensureCapacityInternal_32 ⟨show 0 + 0 + mc21 ≤ MC by omega, show 0 + 0 + ms22 ≤ MS by omega⟩) (fun r19 N20 H locs h hw => ?_)
    refine W.eq (g2 := F0 m 35 ls (.ref r19 :: [.ref x0])) rfl ?_
    obtain ⟨f26, f27, f28, f29, hN25, h⟩ := h
    refine c_put (pc := 35) (v := va_rf (some r19)) X hw hN25 in_J11 tyJ11 tyJ11_ok nmJ11 rfl 0 (by decide) q487 rfl rfl rfl (rf_na (some r19) _) (rf_fa (some r19) _) (Nat.le_of_ble_eq_true rfl) dJ10_ensureCapacityInternal_35 (fun H locs hw => ?_)
    obtain ⟨N30, e31⟩ : ∃ z, z = va_up N20 x0 (some (eO 17 [va_rf (some r19), .int f27, .int f28, .int f29])) := ⟨_, rfl⟩
    have hw : cH G A s [] N30 H locs := by rw [e31]; exact hw
    have h := h N30 e31
    have hN32 : N30 x0 = some (eO 17 [va_rf (some r19), .int f27, .int f28, .int f29]) := by rw [e31]; exact up_s
    refine W.widen (k := MC) (n := MS) (by omega) (by omega) ?_
    exact W.vret (pc := 38) hx hb hr (fun t ht hW => c_ret (val := vV) (lw := jW) (u := N30) (v := ()) hw h ht) hw.2.2.2 dJ10_ensureCapacityInternal_38 hlk

def wJ10_append_45 (K : Nat → Nat → Nat) (post : Nat → NM → Prop) (x0 : Nat) (x1 : Int32) (mc ms : Nat) (N : NM) : Prop :=
  ∃ f23 f24 f25 f26, N x0 = some (eO 17 [va_rf f23, .int f24, .int f25, .int f26]) ∧ (wJ10_isLatin1 K (fun r20 N21 => ((r20 = (0 : Int32)) → (False)) ∧ (¬ (r20 = (0 : Int32)) → (False))) N x0)
def wJ10_append (K : Nat → Nat → Nat) (post : Nat → NM → Prop) (MC MS : Nat) (N : NM) (x0 : Nat) (x1 : Int32) : Prop :=
  ∃ f2 f3 f4 f5, N x0 = some (eO 17 [va_rf f2, .int f3, .int f4, .int f5]) ∧ (∃ mc8 ms9, mc8 ≤ MC ∧ ms9 ≤ MS ∧ wJ10_ensureCapacityInternal K (fun _ N7 => ∃ f15 f16 f17 f18, N7 x0 = some (eO 17 [va_rf f15, .int f16, .int f17, .int f18]) ∧ (wJ10_isLatin1 K (fun r12 N13 => ((r12 = (0 : Int32)) → (wJ10_append_45 K post x0 x1 (MC - mc8) (MS - ms9) N13)) ∧ (¬ (r12 = (0 : Int32)) → (wJ16_canEncode (fun r28 => ((r28 = (0 : Int32)) → (wJ10_append_45 K post x0 x1 (MC - mc8) (MS - ms9) N13)) ∧ (¬ (r28 = (0 : Int32)) → (∃ f31 f32 f33 f34, N13 x0 = some (eO 17 [va_rf f31, .int f32, .int f33, .int f34]) ∧ (∀ N35, N35 = va_up N13 x0 (some (eO 17 [va_rf f31, .int f32, .int f33, .int (f34 + (1 : Int32))])) → (∃ a38, f31 = some a38 ∧ (∃ n41 f42, N35 a38 = some (eN 3 n41 f42) ∧ (vp_in f34 n41 ∧ (∀ N43, N43 = va_up N35 a38 (some (eN 3 n41 (upd f42 f34.toNatClampNeg (vp_nar .byte x1.toInt8.toInt32)))) → (post x0 N43))))))))) x1))) N7 x0)) mc8 ms9 N x0 (f5 + (1 : Int32)))
theorem kJ10_append_45 {p : Program} {l : Launch} {e : Env} {s : State} {m : MethodId} {args : Array Value} {below : List Frame} {meth : Method} {c : Code} {G : gG} {A : Nat → Prop} {MC MS : Nat} {post : Nat → NM → Prop} (X : cX G A RJ10 p s m args c cJ10_append 2) (hr : meth.sig.returnType = (some (.object "java/lang/AbstractStringBuilder"))) (hlk : meth.locks = false) : ∀ (x0 : Nat) (x1 : Int32) (mc ms : Nat) (N : NM) (H : Heap) (locs : List Loc) (ls : Array Slot) (cells slots : Nat), wJ10_append_45 (gC G) post x0 x1 mc ms N → (cH G A s [] N H locs ∧ cells + mc ≤ MC ∧ slots + ms ≤ MS) → lv_has ls 2 [(0, .ref x0), (1, .int x1)] → W p l e ⟨4, MC, MS, 104⟩ s m args below meth c H locs cells slots (MQ below (gQ vR post (fun u H => cBw G A (jW u).1 (jW u).2 H) A) args s MC MS A) (F0 m 45 ls []) := by
  have hx := X.1.1
  have hb := X.1.2.1
  have hml := X.1.2.2.1
  have hown := X.1.2.2.2.1
  have hts := X.1.2.2.2.2
  intro x0 x1 mc ms N H locs ls cells slots h hw0 hl
  obtain ⟨hw, hbud⟩ := hw0
  unfold wJ10_append_45 at h
  refine lv_aload_n (pc := 45) hx hb dJ10_append_45 rfl (lv_at hl 0 rfl) ?_
  obtain ⟨f23, f24, f25, f26, hN22, h⟩ := h
  refine c_callJ (pc := 46) (val := vI) X hw (va_runU (C := RJ11) (As := []) (rest := []) X.1 (tJ10_isLatin1 X.2.2.1 (sz := H.size) h) (cu_mk (x := ⟨"java/lang/AbstractStringBuilder", "isLatin1", "()Z"⟩) (owner := "java/lang/AbstractStringBuilder") hts (lw_meth q553) rfl rfl rfl ⟨Nat.le_of_ble_eq_true rfl, Nat.le_of_ble_eq_true rfl⟩ (hts _ q117) ⟨by decide, by decide⟩ (by decide +kernel : (parseMethodDescriptor "()Z").map (fun d => d.parameters.length) = some 0) (hts _ q549) (hts _ q551) (va_Decl.of (hts _ q550) (hts _ q553)) (hts _ q552) (hts _ q550)) ⟨cPre_blind, c_recv X hw hN22 rfl, fun U hU hW => ⟨rfl, X.preJ hw hU hW⟩⟩ rfl rfl hl.1 rfl (lv_room (Nat.le_of_ble_eq_true rfl)) dJ10_append_46 ⟨show cells + 0 ≤ MC by omega, show slots + 0 ≤ MS by omega⟩) (fun r20 N21 H locs h hw => ?_)
  refine W.eq (g2 := F0 m 49 ls (.int r20 :: [])) rfl ?_
  refine lv_if_eq (pc := 49) (tgt := 56) hx hb dJ10_append_49 rfl (fun c27 => ?_) (fun c27 => ?_)
  · have h := h.1 c27
    exact False.elim h
  · have h := h.2 c27
    exact False.elim h
theorem tJ10_append {l : Launch} {G : gG} (hO : gOk G) {post : Nat → NM → Prop} {MC MS : Nat} {N : NM} {x0 : Nat} {x1 : Int32} {sz : Nat} (h : wJ10_append (gC G) post MC MS N x0 x1) : Met l yJ10_append (ws_ yJ10_append cJ10_append 2 (some (.object "java/lang/AbstractStringBuilder"))) ⟨4, MC, MS, 104⟩ (va_Pc [.ref x0, .int x1] (cPre G [] N sz)) (gQ vR post (fun u H => cBw G (cA [] N sz) (jW u).1 (jW u).2 H) (cA [] N sz)) MC MS (cA [] N sz) := by
  refine c_ofW (lw := jW) (by decide) hO (Nat.le_of_ble_eq_true rfl) (fun p e s m below meth c ls A X hr hlk hin hw hl => ?_)
  have hl : lv_has ls 2 [(0, .ref x0), (1, .int x1)] := hl
  have hx := X.1.1
  have hb := X.1.2.1
  have hml := X.1.2.2.1
  have hown := X.1.2.2.2.1
  have hts := X.1.2.2.2.2
  obtain ⟨H, eH⟩ : ∃ z, z = s.heap := ⟨_, rfl⟩
  rw [← eH] at hw ⊢
  obtain ⟨locs, eLo⟩ : ∃ z : List Loc, z = [] := ⟨_, rfl⟩
  rw [← eLo] at hw ⊢
  have hbud : 0 + MC ≤ MC ∧ 0 + MS ≤ MS := by omega
  unfold wJ10_append at h
  refine lv_aload_n (pc := 0) hx hb dJ10_append_0 rfl (lv_at hl 0 rfl) ?_
  refine lv_aload_n (pc := 1) hx hb dJ10_append_1 rfl (lv_at hl 0 rfl) ?_
  obtain ⟨f2, f3, f4, f5, hN1, h⟩ := h
  refine c_get (pc := 2) X hw hN1 in_J11 rfl 3 (by decide) q490 rfl rfl dJ10_append_2 ?_
  refine lv_iconst (pc := 5) (v := (1 : Int32)) hx hb dJ10_append_5 (by decide) ?_
  refine lv_iadd (pc := 6) hx hb dJ10_append_6 ?_
  obtain ⟨mc8, ms9, hm10, hm11, h⟩ := h
  refine c_callJ (pc := 7) (val := vV) X hw (va_runU (C := RJ11) (As := [.int (f5 + (1 : Int32))]) (rest := []) X.1 (tJ10_ensureCapacityInternal X.2.2.1 (sz := H.size) h) (cu_mk (x := ⟨"java/lang/AbstractStringBuilder", "ensureCapacityInternal", "(I)V"⟩) (owner := "java/lang/AbstractStringBuilder") hts (lw_meth q519) rfl rfl rfl ⟨Nat.le_of_ble_eq_true rfl, Nat.le_of_ble_eq_true rfl⟩ (hts _ q117) ⟨by decide, by decide⟩ (by decide +kernel : (parseMethodDescriptor "(I)V").map (fun d => d.parameters.length) = some 1) (hts _ q516) (hts _ q2536) (va_Decl.of (hts _ q518) (hts _ q519)) (selects_priv ⟨by decide, by decide⟩ (hts _ q552) rfl (X.priv q517) (hts _ q518)) (hts _ q518)) ⟨cPre_blind, c_recv X hw hN1 rfl, fun U hU hW => ⟨rfl, X.preJ hw hU hW⟩⟩ rfl rfl hl.1 rfl (lv_room (Nat.le_of_ble_eq_true rfl)) dJ10_append_7 ⟨show 0 + mc8 ≤ MC by omega, show 0 + ms9 ≤ MS by omega⟩) (fun _ N7 H locs h hw => ?_)
  refine W.eq (g2 := F0 m 10 ls ([])) rfl ?_
  refine lv_aload_n (pc := 10) hx hb dJ10_append_10 rfl (lv_at hl 0 rfl) ?_
  obtain ⟨f15, f16, f17, f18, hN14, h⟩ := h
  refine c_callJ (pc := 11) (val := vI) X hw (va_runU (C := RJ11) (As := []) (rest := []) X.1 (tJ10_isLatin1 X.2.2.1 (sz := H.size) h) (cu_mk (x := ⟨"java/lang/AbstractStringBuilder", "isLatin1", "()Z"⟩) (owner := "java/lang/AbstractStringBuilder") hts (lw_meth q553) rfl rfl rfl ⟨Nat.le_of_ble_eq_true rfl, Nat.le_of_ble_eq_true rfl⟩ (hts _ q117) ⟨by decide, by decide⟩ (by decide +kernel : (parseMethodDescriptor "()Z").map (fun d => d.parameters.length) = some 0) (hts _ q549) (hts _ q551) (va_Decl.of (hts _ q550) (hts _ q553)) (hts _ q552) (hts _ q550)) ⟨cPre_blind, c_recv X hw hN14 rfl, fun U hU hW => ⟨rfl, X.preJ hw hU hW⟩⟩ rfl rfl hl.1 rfl (lv_room (Nat.le_of_ble_eq_true rfl)) dJ10_append_11 ⟨show 0 + mc8 + 0 ≤ MC by omega, show 0 + ms9 + 0 ≤ MS by omega⟩) (fun r12 N13 H locs h hw => ?_)
  refine W.eq (g2 := F0 m 14 ls (.int r12 :: [])) rfl ?_
  refine lv_if_eq (pc := 14) (tgt := 45) hx hb dJ10_append_14 rfl (fun c19 => ?_) (fun c19 => ?_)
  · have h := h.1 c19
    exact kJ10_append_45 X hr hlk  _ _ _ _ _ _ _ _ _ _ h ⟨hw, by omega⟩ (lv_sub hl [0, 1] rfl)
  · have h := h.2 c19
    refine lv_iload_n (pc := 17) hx hb dJ10_append_17 rfl (lv_at hl 1 rfl) ?_
    refine s_call (pc := 18) (val := vI) (As := [.int x1]) (rest := []) X.1 (tJ16_canEncode h) (lw_S q554 q555 q123 q556) ⟨by decide, by decide, (by decide +kernel : (parseMethodDescriptor yJ16_canEncode.desc).map (fun d => d.parameters.length) = some 1)⟩ ⟨Nat.le_of_ble_eq_true rfl, Nat.le_of_ble_eq_true rfl⟩ hl.1 (Nat.le_of_ble_eq_true rfl) ⟨show 0 + mc8 + 0 ≤ MC by omega, show 0 + ms9 + 0 ≤ MS by omega⟩ dJ10_append_18 rfl (fun r28 h => ?_)
    refine W.eq (g2 := F0 m 21 ls (.int r28 :: [])) rfl ?_
    refine lv_if_eq (pc := 21) (tgt := 45) hx hb dJ10_append_21 rfl (fun c29 => ?_) (fun c29 => ?_)
    · have h := h.1 c29
      exact kJ10_append_45 X hr hlk  _ _ _ _ _ _ _ _ _ _ h ⟨hw, by omega⟩ (lv_sub hl [0, 1] rfl)
    · have h := h.2 c29
      refine lv_aload_n (pc := 24) hx hb dJ10_append_24 rfl (lv_at hl 0 rfl) ?_
      obtain ⟨f31, f32, f33, f34, hN30, h⟩ := h
      refine c_get (pc := 25) X hw hN30 in_J11 rfl 0 (by decide) q487 rfl rfl dJ10_append_25 ?_
      refine lv_aload_n (pc := 28) hx hb dJ10_append_28 rfl (lv_at hl 0 rfl) ?_
      refine lv_dup (pc := 29) hx hb dJ10_append_29 rfl ?_
      refine c_get (pc := 30) X hw hN30 in_J11 rfl 3 (by decide) q490 rfl rfl dJ10_append_30 ?_
      refine lv_dup_x1 (pc := 33) hx hb dJ10_append_33 rfl rfl ?_
      refine lv_iconst (pc := 34) (v := (1 : Int32)) hx hb dJ10_append_34 (by decide) ?_
      refine lv_iadd (pc := 35) hx hb dJ10_append_35 ?_
      refine c_put (pc := 36) X hw hN30 in_J11 tyJ11 tyJ11_ok nmJ11 rfl 3 (by decide) q490 rfl rfl rfl rfl rfl (Nat.le_of_ble_eq_true rfl) dJ10_append_36 (fun H locs hw => ?_)
      obtain ⟨N35, e36⟩ : ∃ z, z = va_up N13 x0 (some (eO 17 [va_rf f31, .int f32, .int f33, .int (f34 + (1 : Int32))])) := ⟨_, rfl⟩
      have hw : cH G A s [] N35 H locs := by rw [e36]; exact hw
      have h := h N35 e36
      have hN37 : N35 x0 = some (eO 17 [va_rf f31, .int f32, .int f33, .int (f34 + (1 : Int32))]) := by rw [e36]; exact up_s
      refine lv_iload_n (pc := 39) hx hb dJ10_append_39 rfl (lv_at hl 1 rfl) ?_
      refine lv_i2b (pc := 40) hx hb dJ10_append_40 rfl ?_
      obtain ⟨a38, hr39, h⟩ := h
      refine W.eq (g2 := F0 m 41 ls [.int x1.toInt8.toInt32, .int f34, .ref a38]) (by rw [hr39]; rfl) ?_
      obtain ⟨n41, f42, hN40, h⟩ := h
      obtain ⟨hi, h⟩ := h
      refine c_bast (pc := 41) X hw hN40 hi dJ10_append_41 (fun H locs hw => ?_)
      obtain ⟨N43, e44⟩ : ∃ z, z = va_up N35 a38 (some (eN 3 n41 (upd f42 f34.toNatClampNeg (vp_nar .byte x1.toInt8.toInt32)))) := ⟨_, rfl⟩
      have hw : cH G A s [] N43 H locs := by rw [e44]; exact hw
      have h := h N43 e44
      have hN45 : N43 a38 = some (eN 3 n41 (upd f42 f34.toNatClampNeg (vp_nar .byte x1.toInt8.toInt32))) := by rw [e44]; exact up_s
      have hN46 := up_k (x := some (eN 3 n41 (upd f42 f34.toNatClampNeg (vp_nar .byte x1.toInt8.toInt32)))) hN40 hN37 (show (7 : Nat) ≠ 34 by decide)
      rw [← e44] at hN46
      refine lv_goto (pc := 42) (tgt := 75) hx hb dJ10_append_42 rfl ?_
      refine lv_aload_n (pc := 75) hx hb dJ10_append_75 rfl (lv_at hl 0 rfl) ?_
      refine W.widen (k := MC) (n := MS) (by omega) (by omega) ?_
      exact W.aret (pc := 76) (v := .ref x0) hx hb hr (Or.inl ⟨_, rfl⟩) (Or.inr ⟨_, rfl⟩) (fun t ht hW => c_ret (val := vR) (lw := jW) (u := N43) hw h ht) hw.2.2.2 dJ10_append_76 hlk

def wJ11_append (K : Nat → Nat → Nat) (post : Nat → NM → Prop) (MC MS : Nat) (N : NM) (x0 : Nat) (x1 : Int32) : Prop :=
  ∃ f8 f9 f10 f11, N x0 = some (eO 17 [va_rf f8, .int f9, .int f10, .int f11]) ∧ (∃ mc3 ms4, mc3 ≤ MC ∧ ms4 ≤ MS ∧ wJ10_append K (fun r1 N2 => post x0 N2) mc3 ms4 N x0 x1)
theorem tJ11_append {l : Launch} {G : gG} (hO : gOk G) {post : Nat → NM → Prop} {MC MS : Nat} {N : NM} {x0 : Nat} {x1 : Int32} {sz : Nat} (h : wJ11_append (gC G) post MC MS N x0 x1) : Met l yJ11_append (ws_ yJ11_append cJ11_append 2 (some (.object "java/lang/StringBuilder"))) ⟨5, MC, MS, 125⟩ (va_Pc [.ref x0, .int x1] (cPre G [] N sz)) (gQ vR post (fun u H => cBw G (cA [] N sz) (jW u).1 (jW u).2 H) (cA [] N sz)) MC MS (cA [] N sz) := by
  refine c_ofW (lw := jW) (by decide) hO (Nat.le_of_ble_eq_true rfl) (fun p e s m below meth c ls A X hr hlk hin hw hl => ?_)
  have hl : lv_has ls 2 [(0, .ref x0), (1, .int x1)] := hl
  have hx := X.1.1
  have hb := X.1.2.1
  have hml := X.1.2.2.1
  have hown := X.1.2.2.2.1
  have hts := X.1.2.2.2.2
  obtain ⟨H, eH⟩ : ∃ z, z = s.heap := ⟨_, rfl⟩
  rw [← eH] at hw ⊢
  obtain ⟨locs, eLo⟩ : ∃ z : List Loc, z = [] := ⟨_, rfl⟩
  rw [← eLo] at hw ⊢
  have hbud : 0 + MC ≤ MC ∧ 0 + MS ≤ MS := by omega
  unfold wJ11_append at h
  refine lv_aload_n (pc := 0) hx hb dJ11_append_0 rfl (lv_at hl 0 rfl) ?_
  refine lv_iload_n (pc := 1) hx hb dJ11_append_1 rfl (lv_at hl 1 rfl) ?_
  obtain ⟨f8, f9, f10, f11, hN7, h⟩ := h
  obtain ⟨mc3, ms4, hm5, hm6, h⟩ := h
  refine c_callJ (pc := 2) (val := vR) X hw (va_runSU (X.2.1.1 17 _ rfl).2 (As := [.int x1]) (rest := []) X.1 (tJ10_append X.2.2.1 (sz := H.size) h) (va_cwSU 1 hts (lw_app (lw_l5 q513 q2535 q499 q514 q117) (lw_meth q515)) rfl rfl rfl ⟨by decide, (by decide +kernel : (parseMethodDescriptor yJ10_append.desc).map (fun d => d.parameters.length) = some 1)⟩ ⟨Nat.le_of_ble_eq_true rfl, Nat.le_of_ble_eq_true rfl⟩) ⟨cPre_blind, c_recv X hw hN7 rfl, fun U hU hW => ⟨rfl, X.preJ hw hU hW⟩⟩ rfl rfl hl.1 rfl (lv_room (Nat.le_of_ble_eq_true rfl)) dJ11_append_2 ⟨show 0 + mc3 ≤ MC by omega, show 0 + ms4 ≤ MS by omega⟩) (fun r1 N2 H locs h hw => ?_)
  refine W.eq (g2 := F0 m 5 ls (.ref r1 :: [])) rfl ?_
  refine lv_pop (pc := 5) hx hb dJ11_append_5 rfl ?_
  refine lv_aload_n (pc := 6) hx hb dJ11_append_6 rfl (lv_at hl 0 rfl) ?_
  refine W.widen (k := MC) (n := MS) (by omega) (by omega) ?_
  exact W.aret (pc := 7) (v := .ref x0) hx hb hr (Or.inl ⟨_, rfl⟩) (Or.inr ⟨_, rfl⟩) (fun t ht hW => c_ret (val := vR) (lw := jW) (u := N2) hw h ht) hw.2.2.2 dJ11_append_7 hlk

def wJ23_getChars_104 (K : Nat → Nat → Nat) (post : Int32 → NM → Prop) (x2 : Nat) (x5 : Int32) (x6 : Int32) (N : NM) : Prop :=
  ((x6 = (0 : Int32)) → (post x5 N)) ∧ (¬ (x6 = (0 : Int32)) → (∃ n13 f14, N x2 = some (eN 3 n13 f14) ∧ (vp_in (x5 + (-1 : Int32)) n13 ∧ (∀ N15, N15 = va_up N x2 (some (eN 3 n13 (upd f14 (x5 + (-1 : Int32)).toNatClampNeg (vp_nar .byte (45 : Int32))))) → (post (x5 + (-1 : Int32)) N15)))))
def wJ23_getChars_22 (K : Nat → Nat → Nat) (post : Int32 → NM → Prop) : Nat → Int32 → Nat → Int32 → Int32 → NM → Prop
  | 0, _, _, _, _, _ => False
  | n + 1, x0, x2, x5, x6, N => (((-100 : Int32) < x0) → (vp_in (-x0) 100 ∧ (∃ n5 f6, N x2 = some (eN 3 n5 f6) ∧ (vp_in (x5 + (-1 : Int32)) n5 ∧ (∀ N7, N7 = va_up N x2 (some (eN 3 n5 (upd f6 (x5 + (-1 : Int32)).toNatClampNeg (vp_nar .byte (nI (48 + (-x0).toNatClampNeg % 10)))))) → ((((-9 : Int32) ≤ x0) → (wJ23_getChars_104 K post x2 (x5 + (-1 : Int32)) x6 N7)) ∧ (¬ ((-9 : Int32) ≤ x0) → (vp_in (-x0) 100 ∧ (vp_in ((x5 + (-1 : Int32)) + (-1 : Int32)) n5 ∧ (∀ N18, N18 = va_up N7 x2 (some (eN 3 n5 (upd (upd f6 (x5 + (-1 : Int32)).toNatClampNeg (vp_nar .byte (nI (48 + (-x0).toNatClampNeg % 10)))) ((x5 + (-1 : Int32)) + (-1 : Int32)).toNatClampNeg (vp_nar .byte (nI (48 + (-x0).toNatClampNeg / 10)))))) → (wJ23_getChars_104 K post x2 ((x5 + (-1 : Int32)) + (-1 : Int32)) x6 N18))))))))))) ∧ (¬ ((-100 : Int32) < x0) → (vp_in (((x0 / (100 : Int32)) * (100 : Int32)) - x0) 100 ∧ (∃ n22 f23, N x2 = some (eN 3 n22 f23) ∧ (vp_in (x5 + (-1 : Int32)) n22 ∧ (∀ N24, N24 = va_up N x2 (some (eN 3 n22 (upd f23 (x5 + (-1 : Int32)).toNatClampNeg (vp_nar .byte (nI (48 + (((x0 / (100 : Int32)) * (100 : Int32)) - x0).toNatClampNeg % 10)))))) → (vp_in (((x0 / (100 : Int32)) * (100 : Int32)) - x0) 100 ∧ (vp_in ((x5 + (-1 : Int32)) + (-1 : Int32)) n22 ∧ (∀ N27, N27 = va_up N24 x2 (some (eN 3 n22 (upd (upd f23 (x5 + (-1 : Int32)).toNatClampNeg (vp_nar .byte (nI (48 + (((x0 / (100 : Int32)) * (100 : Int32)) - x0).toNatClampNeg % 10)))) ((x5 + (-1 : Int32)) + (-1 : Int32)).toNatClampNeg (vp_nar .byte (nI (48 + (((x0 / (100 : Int32)) * (100 : Int32)) - x0).toNatClampNeg / 10)))))) → (wJ23_getChars_22 K post n (x0 / (100 : Int32)) x2 ((x5 + (-1 : Int32)) + (-1 : Int32)) x6 N27)))))))))
def wJ23_getChars_12 (K : Nat → Nat → Nat) (post : Int32 → NM → Prop) (x0 : Int32) (x2 : Nat) (x5 : Int32) (v0 : Int32) (N : NM) : Prop :=
  ((v0 = (0 : Int32)) → ((∃ k, wJ23_getChars_22 K post k (-x0) x2 x5 v0 N))) ∧ (¬ (v0 = (0 : Int32)) → ((∃ k, wJ23_getChars_22 K post k x0 x2 x5 v0 N)))
def wJ23_getChars (K : Nat → Nat → Nat) (post : Int32 → NM → Prop) (N : NM) (x0 : Int32) (x1 : Int32) (x2 : Nat) : Prop :=
  (((0 : Int32) ≤ x0) → (wJ23_getChars_12 K post x0 x2 x1 (0 : Int32) N)) ∧ (¬ ((0 : Int32) ≤ x0) → (wJ23_getChars_12 K post x0 x2 x1 (1 : Int32) N))
theorem kJ23_getChars_104 {p : Program} {l : Launch} {e : Env} {s : State} {m : MethodId} {args : Array Value} {below : List Frame} {meth : Method} {c : Code} {G : gG} {A : Nat → Prop} {post : Int32 → NM → Prop} (X : cX G A RJ23 p s m args c cJ23_getChars 7) (hr : meth.sig.returnType = (some .int)) (hlk : meth.locks = false) : ∀ (x2 : Nat) (x5 : Int32) (x6 : Int32) (N : NM) (H : Heap) (locs : List Loc) (ls : Array Slot), wJ23_getChars_104 (gC G) post x2 x5 x6 N → cH G A s [] N H locs → lv_has ls 7 [(2, .ref x2), (5, .int x5), (6, .int x6)] → W p l e ⟨0, 0, 0, 0⟩ s m args below meth c H locs 0 0 (MQ below (gQ vI post (fun u H => cBw G A (jW u).1 (jW u).2 H) A) args s 0 0 A) (F0 m 104 ls []) := by
  have hx := X.1.1
  have hb := X.1.2.1
  have hml := X.1.2.2.1
  have hown := X.1.2.2.2.1
  have hts := X.1.2.2.2.2
  intro x2 x5 x6 N H locs ls h hw hl
  unfold wJ23_getChars_104 at h
  refine lv_iload (pc := 104) hx hb dJ23_getChars_104 (lv_at hl 2 rfl) ?_
  refine lv_if_eq (pc := 106) (tgt := 118) hx hb dJ23_getChars_106 rfl (fun c11 => ?_) (fun c11 => ?_)
  · have h := h.1 c11
    refine lv_iload (pc := 118) hx hb dJ23_getChars_118 (lv_at hl 1 rfl) ?_
    exact W.iret (pc := 120) hx hb hr (fun t ht hW => c_ret (val := vI) (lw := jW) (u := N) hw h ht) hw.2.2.2 dJ23_getChars_120 hlk
  · have h := h.2 c11
    refine lv_aload_n (pc := 109) hx hb dJ23_getChars_109 rfl (lv_at hl 0 rfl) ?_
    refine lv_iinc (pc := 110) (v := x5 + (-1 : Int32)) (lv' := [(5, .int (x5 + (-1 : Int32))), (2, .ref x2), (6, .int x6)]) hx hb dJ23_getChars_110 hl (k := 1) rfl rfl (by decide) rfl (fun ls hl => ?_)
    refine lv_iload (pc := 113) hx hb dJ23_getChars_113 (lv_at hl 0 rfl) ?_
    refine lv_bipush (pc := 115) (v := (45 : Int32)) hx hb dJ23_getChars_115 (by decide) ?_
    obtain ⟨n13, f14, hN12, h⟩ := h
    obtain ⟨hi, h⟩ := h
    refine c_bast (pc := 117) X hw hN12 hi dJ23_getChars_117 (fun H locs hw => ?_)
    obtain ⟨N15, e16⟩ : ∃ z, z = va_up N x2 (some (eN 3 n13 (upd f14 (x5 + (-1 : Int32)).toNatClampNeg (vp_nar .byte (45 : Int32))))) := ⟨_, rfl⟩
    have hw : cH G A s [] N15 H locs := by rw [e16]; exact hw
    have h := h N15 e16
    have hN17 : N15 x2 = some (eN 3 n13 (upd f14 (x5 + (-1 : Int32)).toNatClampNeg (vp_nar .byte (45 : Int32)))) := by rw [e16]; exact up_s
    refine lv_iload (pc := 118) hx hb dJ23_getChars_118 (lv_at hl 0 rfl) ?_
    exact W.iret (pc := 120) hx hb hr (fun t ht hW => c_ret (val := vI) (lw := jW) (u := N15) hw h ht) hw.2.2.2 dJ23_getChars_120 hlk
theorem kJ23_getChars_22 {p : Program} {l : Launch} {e : Env} {s : State} {m : MethodId} {args : Array Value} {below : List Frame} {meth : Method} {c : Code} {G : gG} {A : Nat → Prop} {post : Int32 → NM → Prop} (X : cX G A RJ23 p s m args c cJ23_getChars 7) (hr : meth.sig.returnType = (some .int)) (hlk : meth.locks = false) : ∀ (n : Nat) (x0 : Int32) (x2 : Nat) (x5 : Int32) (x6 : Int32) (N : NM) (H : Heap) (locs : List Loc) (ls : Array Slot), wJ23_getChars_22 (gC G) post n x0 x2 x5 x6 N → cH G A s [] N H locs → lv_has ls 7 [(0, .int x0), (2, .ref x2), (5, .int x5), (6, .int x6)] → W p l e ⟨0, 0, 0, 0⟩ s m args below meth c H locs 0 0 (MQ below (gQ vI post (fun u H => cBw G A (jW u).1 (jW u).2 H) A) args s 0 0 A) (F0 m 22 ls []) := by
  have hx := X.1.1
  have hb := X.1.2.1
  have hml := X.1.2.2.1
  have hown := X.1.2.2.2.1
  have hts := X.1.2.2.2.2
  intro n
  induction n with
  | zero =>
    intro x0 x2 x5 x6 N H locs ls h
    exact False.elim h
  | succ n ih =>
    intro x0 x2 x5 x6 N H locs ls h hw hl
    unfold wJ23_getChars_22 at h
    refine lv_iload_n (pc := 22) hx hb dJ23_getChars_22 rfl (lv_at hl 0 rfl) ?_
    refine lv_bipush (pc := 23) (v := (-100 : Int32)) hx hb dJ23_getChars_23 (by decide) ?_
    refine lv_icmp_gt (pc := 25) (tgt := 72) hx hb dJ23_getChars_25 rfl (fun c3 => ?_) (fun c3 => ?_)
    · have h := h.1 c3
      refine lv_aload_n (pc := 72) hx hb dJ23_getChars_72 rfl (lv_at hl 1 rfl) ?_
      refine lv_iinc (pc := 73) (v := x5 + (-1 : Int32)) (lv' := [(5, .int (x5 + (-1 : Int32))), (0, .int x0), (2, .ref x2), (6, .int x6)]) hx hb dJ23_getChars_73 hl (k := 2) rfl rfl (by decide) rfl (fun ls hl => ?_)
      refine lv_iload (pc := 76) hx hb dJ23_getChars_76 (lv_at hl 0 rfl) ?_
      refine va_gets (pc := 78) hx hb (va_Z.narrow (X.2.2.2.1.Z X.cs.2.2.2.2.1.1) X.2.2.2.2.2) hw.2 hown (hts _ q1801) (fun x h => h) dJ23_getChars_78 ?_
      refine lv_iload_n (pc := 81) hx hb dJ23_getChars_81 rfl (lv_at hl 1 rfl) ?_
      refine lv_ineg (pc := 82) hx hb dJ23_getChars_82 ?_
      obtain ⟨hi, h⟩ := h
      refine va_tb (pc := 83) hx hb (X.T X.cs.2.2.2.2.1.2) hw.2 hi rfl dJ23_getChars_83 ?_
      obtain ⟨n5, f6, hN4, h⟩ := h
      obtain ⟨hi, h⟩ := h
      refine c_bast (pc := 84) X hw hN4 hi dJ23_getChars_84 (fun H locs hw => ?_)
      obtain ⟨N7, e8⟩ : ∃ z, z = va_up N x2 (some (eN 3 n5 (upd f6 (x5 + (-1 : Int32)).toNatClampNeg (vp_nar .byte (nI (48 + (-x0).toNatClampNeg % 10)))))) := ⟨_, rfl⟩
      have hw : cH G A s [] N7 H locs := by rw [e8]; exact hw
      have h := h N7 e8
      have hN9 : N7 x2 = some (eN 3 n5 (upd f6 (x5 + (-1 : Int32)).toNatClampNeg (vp_nar .byte (nI (48 + (-x0).toNatClampNeg % 10))))) := by rw [e8]; exact up_s
      refine lv_iload_n (pc := 85) hx hb dJ23_getChars_85 rfl (lv_at hl 1 rfl) ?_
      refine lv_bipush (pc := 86) (v := (-9 : Int32)) hx hb dJ23_getChars_86 (by decide) ?_
      refine lv_icmp_ge (pc := 88) (tgt := 104) hx hb dJ23_getChars_88 rfl (fun c10 => ?_) (fun c10 => ?_)
      · have h := h.1 c10
        exact kJ23_getChars_104 X hr hlk  _ _ _ _ _ _ _ h hw (lv_sub hl [2, 0, 3] rfl)
      · have h := h.2 c10
        refine lv_aload_n (pc := 91) hx hb dJ23_getChars_91 rfl (lv_at hl 2 rfl) ?_
        refine lv_iinc (pc := 92) (v := (x5 + (-1 : Int32)) + (-1 : Int32)) (lv' := [(5, .int ((x5 + (-1 : Int32)) + (-1 : Int32))), (0, .int x0), (2, .ref x2), (6, .int x6)]) hx hb dJ23_getChars_92 hl (k := 0) rfl rfl (by decide) rfl (fun ls hl => ?_)
        refine lv_iload (pc := 95) hx hb dJ23_getChars_95 (lv_at hl 0 rfl) ?_
        refine va_gets (pc := 97) hx hb (va_Z.narrow (X.2.2.2.1.Z X.cs.2.2.2.2.2.1.1) X.2.2.2.2.2) hw.2 hown (hts _ q1803) (fun x h => h) dJ23_getChars_97 ?_
        refine lv_iload_n (pc := 100) hx hb dJ23_getChars_100 rfl (lv_at hl 1 rfl) ?_
        refine lv_ineg (pc := 101) hx hb dJ23_getChars_101 ?_
        obtain ⟨hi, h⟩ := h
        refine va_tb (pc := 102) hx hb (X.T X.cs.2.2.2.2.2.1.2) hw.2 hi rfl dJ23_getChars_102 ?_
        obtain ⟨hi, h⟩ := h
        refine c_bast (pc := 103) X hw hN9 hi dJ23_getChars_103 (fun H locs hw => ?_)
        obtain ⟨N18, e19⟩ : ∃ z, z = va_up N7 x2 (some (eN 3 n5 (upd (upd f6 (x5 + (-1 : Int32)).toNatClampNeg (vp_nar .byte (nI (48 + (-x0).toNatClampNeg % 10)))) ((x5 + (-1 : Int32)) + (-1 : Int32)).toNatClampNeg (vp_nar .byte (nI (48 + (-x0).toNatClampNeg / 10)))))) := ⟨_, rfl⟩
        have hw : cH G A s [] N18 H locs := by rw [e19]; exact hw
        have h := h N18 e19
        have hN20 : N18 x2 = some (eN 3 n5 (upd (upd f6 (x5 + (-1 : Int32)).toNatClampNeg (vp_nar .byte (nI (48 + (-x0).toNatClampNeg % 10)))) ((x5 + (-1 : Int32)) + (-1 : Int32)).toNatClampNeg (vp_nar .byte (nI (48 + (-x0).toNatClampNeg / 10))))) := by rw [e19]; exact up_s
        exact kJ23_getChars_104 X hr hlk  _ _ _ _ _ _ _ h hw (lv_sub hl [2, 0, 3] rfl)
    · have h := h.2 c3
      refine lv_iload_n (pc := 28) hx hb dJ23_getChars_28 rfl (lv_at hl 0 rfl) ?_
      refine lv_bipush (pc := 29) (v := (100 : Int32)) hx hb dJ23_getChars_29 (by decide) ?_
      refine lv_idiv (pc := 31) hx hb dJ23_getChars_31 (by decide) ?_
      refine lv_istore_n (pc := 32) (lv' := [(3, .int (x0 / (100 : Int32))), (0, .int x0), (2, .ref x2), (5, .int x5), (6, .int x6)]) hx hb dJ23_getChars_32 rfl hl (by decide) rfl (fun ls hl => ?_)
      refine lv_iload_n (pc := 33) hx hb dJ23_getChars_33 rfl (lv_at hl 0 rfl) ?_
      refine lv_bipush (pc := 34) (v := (100 : Int32)) hx hb dJ23_getChars_34 (by decide) ?_
      refine lv_imul (pc := 36) hx hb dJ23_getChars_36 ?_
      refine lv_iload_n (pc := 37) hx hb dJ23_getChars_37 rfl (lv_at hl 1 rfl) ?_
      refine lv_isub (pc := 38) hx hb dJ23_getChars_38 ?_
      refine lv_istore (pc := 39) (lv' := [(4, .int (((x0 / (100 : Int32)) * (100 : Int32)) - x0)), (3, .int (x0 / (100 : Int32))), (0, .int x0), (2, .ref x2), (5, .int x5), (6, .int x6)]) hx hb dJ23_getChars_39 hl (by decide) rfl (fun ls hl => ?_)
      refine lv_iload_n (pc := 41) hx hb dJ23_getChars_41 rfl (lv_at hl 1 rfl) ?_
      refine lv_istore_n (pc := 42) (lv' := [(0, .int (x0 / (100 : Int32))), (4, .int (((x0 / (100 : Int32)) * (100 : Int32)) - x0)), (3, .int (x0 / (100 : Int32))), (2, .ref x2), (5, .int x5), (6, .int x6)]) hx hb dJ23_getChars_42 rfl hl (by decide) rfl (fun ls hl => ?_)
      refine lv_aload_n (pc := 43) hx hb dJ23_getChars_43 rfl (lv_at hl 3 rfl) ?_
      refine lv_iinc (pc := 44) (v := x5 + (-1 : Int32)) (lv' := [(5, .int (x5 + (-1 : Int32))), (0, .int (x0 / (100 : Int32))), (4, .int (((x0 / (100 : Int32)) * (100 : Int32)) - x0)), (3, .int (x0 / (100 : Int32))), (2, .ref x2), (6, .int x6)]) hx hb dJ23_getChars_44 hl (k := 4) rfl rfl (by decide) rfl (fun ls hl => ?_)
      refine lv_iload (pc := 47) hx hb dJ23_getChars_47 (lv_at hl 0 rfl) ?_
      refine va_gets (pc := 49) hx hb (va_Z.narrow (X.2.2.2.1.Z X.cs.2.2.2.2.1.1) X.2.2.2.2.2) hw.2 hown (hts _ q1801) (fun x h => h) dJ23_getChars_49 ?_
      refine lv_iload (pc := 52) hx hb dJ23_getChars_52 (lv_at hl 2 rfl) ?_
      obtain ⟨hi, h⟩ := h
      refine va_tb (pc := 54) hx hb (X.T X.cs.2.2.2.2.1.2) hw.2 hi rfl dJ23_getChars_54 ?_
      obtain ⟨n22, f23, hN21, h⟩ := h
      obtain ⟨hi, h⟩ := h
      refine c_bast (pc := 55) X hw hN21 hi dJ23_getChars_55 (fun H locs hw => ?_)
      obtain ⟨N24, e25⟩ : ∃ z, z = va_up N x2 (some (eN 3 n22 (upd f23 (x5 + (-1 : Int32)).toNatClampNeg (vp_nar .byte (nI (48 + (((x0 / (100 : Int32)) * (100 : Int32)) - x0).toNatClampNeg % 10)))))) := ⟨_, rfl⟩
      have hw : cH G A s [] N24 H locs := by rw [e25]; exact hw
      have h := h N24 e25
      have hN26 : N24 x2 = some (eN 3 n22 (upd f23 (x5 + (-1 : Int32)).toNatClampNeg (vp_nar .byte (nI (48 + (((x0 / (100 : Int32)) * (100 : Int32)) - x0).toNatClampNeg % 10))))) := by rw [e25]; exact up_s
      refine lv_aload_n (pc := 56) hx hb dJ23_getChars_56 rfl (lv_at hl 4 rfl) ?_
      refine lv_iinc (pc := 57) (v := (x5 + (-1 : Int32)) + (-1 : Int32)) (lv' := [(5, .int ((x5 + (-1 : Int32)) + (-1 : Int32))), (0, .int (x0 / (100 : Int32))), (4, .int (((x0 / (100 : Int32)) * (100 : Int32)) - x0)), (3, .int (x0 / (100 : Int32))), (2, .ref x2), (6, .int x6)]) hx hb dJ23_getChars_57 hl (k := 0) rfl rfl (by decide) rfl (fun ls hl => ?_)
      refine lv_iload (pc := 60) hx hb dJ23_getChars_60 (lv_at hl 0 rfl) ?_
      refine va_gets (pc := 62) hx hb (va_Z.narrow (X.2.2.2.1.Z X.cs.2.2.2.2.2.1.1) X.2.2.2.2.2) hw.2 hown (hts _ q1803) (fun x h => h) dJ23_getChars_62 ?_
      refine lv_iload (pc := 65) hx hb dJ23_getChars_65 (lv_at hl 2 rfl) ?_
      obtain ⟨hi, h⟩ := h
      refine va_tb (pc := 67) hx hb (X.T X.cs.2.2.2.2.2.1.2) hw.2 hi rfl dJ23_getChars_67 ?_
      obtain ⟨hi, h⟩ := h
      refine c_bast (pc := 68) X hw hN26 hi dJ23_getChars_68 (fun H locs hw => ?_)
      obtain ⟨N27, e28⟩ : ∃ z, z = va_up N24 x2 (some (eN 3 n22 (upd (upd f23 (x5 + (-1 : Int32)).toNatClampNeg (vp_nar .byte (nI (48 + (((x0 / (100 : Int32)) * (100 : Int32)) - x0).toNatClampNeg % 10)))) ((x5 + (-1 : Int32)) + (-1 : Int32)).toNatClampNeg (vp_nar .byte (nI (48 + (((x0 / (100 : Int32)) * (100 : Int32)) - x0).toNatClampNeg / 10)))))) := ⟨_, rfl⟩
      have hw : cH G A s [] N27 H locs := by rw [e28]; exact hw
      have h := h N27 e28
      have hN29 : N27 x2 = some (eN 3 n22 (upd (upd f23 (x5 + (-1 : Int32)).toNatClampNeg (vp_nar .byte (nI (48 + (((x0 / (100 : Int32)) * (100 : Int32)) - x0).toNatClampNeg % 10)))) ((x5 + (-1 : Int32)) + (-1 : Int32)).toNatClampNeg (vp_nar .byte (nI (48 + (((x0 / (100 : Int32)) * (100 : Int32)) - x0).toNatClampNeg / 10))))) := by rw [e28]; exact up_s
      refine lv_goto (pc := 69) (tgt := 22) hx hb dJ23_getChars_69 rfl ?_
      exact ih _ _ _ _ _ _ _ _ h hw (lv_sub hl [1, 4, 0, 5] rfl)
theorem kJ23_getChars_12 {p : Program} {l : Launch} {e : Env} {s : State} {m : MethodId} {args : Array Value} {below : List Frame} {meth : Method} {c : Code} {G : gG} {A : Nat → Prop} {post : Int32 → NM → Prop} (X : cX G A RJ23 p s m args c cJ23_getChars 7) (hr : meth.sig.returnType = (some .int)) (hlk : meth.locks = false) : ∀ (x0 : Int32) (x2 : Nat) (x5 : Int32) (v0 : Int32) (N : NM) (H : Heap) (locs : List Loc) (ls : Array Slot), wJ23_getChars_12 (gC G) post x0 x2 x5 v0 N → cH G A s [] N H locs → lv_has ls 7 [(0, .int x0), (2, .ref x2), (5, .int x5)] → W p l e ⟨0, 0, 0, 0⟩ s m args below meth c H locs 0 0 (MQ below (gQ vI post (fun u H => cBw G A (jW u).1 (jW u).2 H) A) args s 0 0 A) (F0 m 12 ls [.int v0]) := by
  have hx := X.1.1
  have hb := X.1.2.1
  have hml := X.1.2.2.1
  have hown := X.1.2.2.2.1
  have hts := X.1.2.2.2.2
  intro x0 x2 x5 v0 N H locs ls h hw hl
  unfold wJ23_getChars_12 at h
  refine lv_istore (pc := 12) (lv' := [(6, .int v0), (0, .int x0), (2, .ref x2), (5, .int x5)]) hx hb dJ23_getChars_12 hl (by decide) rfl (fun ls hl => ?_)
  refine lv_iload (pc := 14) hx hb dJ23_getChars_14 (lv_at hl 0 rfl) ?_
  refine lv_if_ne (pc := 16) (tgt := 22) hx hb dJ23_getChars_16 rfl (fun c2 => ?_) (fun c2 => ?_)
  · have h := h.2 c2
    obtain ⟨k, h⟩ := h
    exact kJ23_getChars_22 X hr hlk  k _ _ _ _ _ _ _ _ h hw (lv_sub hl [1, 2, 3, 0] rfl)
  · have h := h.1 c2
    refine lv_iload_n (pc := 19) hx hb dJ23_getChars_19 rfl (lv_at hl 1 rfl) ?_
    refine lv_ineg (pc := 20) hx hb dJ23_getChars_20 ?_
    refine lv_istore_n (pc := 21) (lv' := [(0, .int (-x0)), (6, .int v0), (2, .ref x2), (5, .int x5)]) hx hb dJ23_getChars_21 rfl hl (by decide) rfl (fun ls hl => ?_)
    obtain ⟨k, h⟩ := h
    exact kJ23_getChars_22 X hr hlk  k _ _ _ _ _ _ _ _ h hw (lv_sub hl [0, 2, 3, 1] rfl)
theorem tJ23_getChars {l : Launch} {G : gG} (hO : gOk G) {post : Int32 → NM → Prop} {N : NM} {x0 : Int32} {x1 : Int32} {x2 : Nat} {sz : Nat} (h : wJ23_getChars (gC G) post N x0 x1 x2) : Met l yJ23_getChars (ws_ yJ23_getChars cJ23_getChars 7 (some .int)) ⟨0, 0, 0, 0⟩ (va_Pc [.int x0, .int x1, .ref x2] (cPre G [] N sz)) (gQ vI post (fun u H => cBw G (cA [] N sz) (jW u).1 (jW u).2 H) (cA [] N sz)) 0 0 (cA [] N sz) := by
  refine c_ofW (lw := jW) (by decide) hO (Nat.le_of_ble_eq_true rfl) (fun p e s m below meth c ls A X hr hlk hin hw hl => ?_)
  have hl : lv_has ls 7 [(0, .int x0), (1, .int x1), (2, .ref x2)] := hl
  have hx := X.1.1
  have hb := X.1.2.1
  have hml := X.1.2.2.1
  have hown := X.1.2.2.2.1
  have hts := X.1.2.2.2.2
  obtain ⟨H, eH⟩ : ∃ z, z = s.heap := ⟨_, rfl⟩
  rw [← eH] at hw ⊢
  obtain ⟨locs, eLo⟩ : ∃ z : List Loc, z = [] := ⟨_, rfl⟩
  rw [← eLo] at hw ⊢
  unfold wJ23_getChars at h
  refine lv_iload_n (pc := 0) hx hb dJ23_getChars_0 rfl (lv_at hl 1 rfl) ?_
  refine lv_istore (pc := 1) (lv' := [(5, .int x1), (0, .int x0), (1, .int x1), (2, .ref x2)]) hx hb dJ23_getChars_1 hl (by decide) rfl (fun ls hl => ?_)
  refine lv_iload_n (pc := 3) hx hb dJ23_getChars_3 rfl (lv_at hl 1 rfl) ?_
  refine lv_if_ge (pc := 4) (tgt := 11) hx hb dJ23_getChars_4 rfl (fun c1 => ?_) (fun c1 => ?_)
  · have h := h.1 c1
    refine lv_iconst (pc := 11) (v := (0 : Int32)) hx hb dJ23_getChars_11 (by decide) ?_
    exact kJ23_getChars_12 X hr hlk  _ _ _ _ _ _ _ _ h hw (lv_sub hl [1, 3, 0] rfl)
  · have h := h.2 c1
    refine lv_iconst (pc := 7) (v := (1 : Int32)) hx hb dJ23_getChars_7 (by decide) ?_
    refine lv_goto (pc := 8) (tgt := 12) hx hb dJ23_getChars_8 rfl ?_
    exact kJ23_getChars_12 X hr hlk  _ _ _ _ _ _ _ _ h hw (lv_sub hl [1, 3, 0] rfl)

def wJ10_append_2_48 (K : Nat → Nat → Nat) (post : Nat → NM → Prop) (x0 : Nat) (x3 : Int32) (mc ms : Nat) (N : NM) : Prop :=
  ∃ f31 f32 f33 f34, N x0 = some (eO 17 [va_rf f31, .int f32, .int f33, .int f34]) ∧ (∀ N35, N35 = va_up N x0 (some (eO 17 [va_rf f31, .int f32, .int f33, .int x3])) → (post x0 N35))
def wJ10_append_2 (K : Nat → Nat → Nat) (post : Nat → NM → Prop) (MC MS : Nat) (N : NM) (x0 : Nat) (x1 : Int32) : Prop :=
  ∃ f2 f3 f4 f5, N x0 = some (eO 17 [va_rf f2, .int f3, .int f4, .int f5]) ∧ (wJ23_stringSize (fun r6 => ∃ mc9 ms10, mc9 ≤ MC ∧ ms10 ≤ MS ∧ wJ10_ensureCapacityInternal K (fun _ N8 => ∃ f16 f17 f18 f19, N8 x0 = some (eO 17 [va_rf f16, .int f17, .int f18, .int f19]) ∧ (wJ10_isLatin1 K (fun r13 N14 => ((r13 = (0 : Int32)) → (False)) ∧ (¬ (r13 = (0 : Int32)) → (∃ f22 f23 f24 f25, N14 x0 = some (eO 17 [va_rf f22, .int f23, .int f24, .int f25]) ∧ (∃ a26, f22 = some a26 ∧ (wJ23_getChars K (fun r28 N29 => wJ10_append_2_48 K post x0 (f5 + r6) (MC - mc9) (MS - ms10) N29) N14 x1 (f5 + r6) a26))))) N8 x0)) mc9 ms10 N x0 (f5 + r6)) x1)
theorem kJ10_append_2_48 {p : Program} {l : Launch} {e : Env} {s : State} {m : MethodId} {args : Array Value} {below : List Frame} {meth : Method} {c : Code} {G : gG} {A : Nat → Prop} {MC MS : Nat} {post : Nat → NM → Prop} (X : cX G A RJ10 p s m args c cJ10_append_2 4) (hr : meth.sig.returnType = (some (.object "java/lang/AbstractStringBuilder"))) (hlk : meth.locks = false) : ∀ (x0 : Nat) (x3 : Int32) (mc ms : Nat) (N : NM) (H : Heap) (locs : List Loc) (ls : Array Slot) (cells slots : Nat), wJ10_append_2_48 (gC G) post x0 x3 mc ms N → (cH G A s [] N H locs ∧ cells + mc ≤ MC ∧ slots + ms ≤ MS) → lv_has ls 4 [(0, .ref x0), (3, .int x3)] → W p l e ⟨4, MC, MS, 104⟩ s m args below meth c H locs cells slots (MQ below (gQ vR post (fun u H => cBw G A (jW u).1 (jW u).2 H) A) args s MC MS A) (F0 m 48 ls []) := by
  have hx := X.1.1
  have hb := X.1.2.1
  have hml := X.1.2.2.1
  have hown := X.1.2.2.2.1
  have hts := X.1.2.2.2.2
  intro x0 x3 mc ms N H locs ls cells slots h hw0 hl
  obtain ⟨hw, hbud⟩ := hw0
  unfold wJ10_append_2_48 at h
  refine lv_aload_n (pc := 48) hx hb dJ10_append_2_48 rfl (lv_at hl 0 rfl) ?_
  refine lv_iload_n (pc := 49) hx hb dJ10_append_2_49 rfl (lv_at hl 1 rfl) ?_
  obtain ⟨f31, f32, f33, f34, hN30, h⟩ := h
  refine c_put (pc := 50) X hw hN30 in_J11 tyJ11 tyJ11_ok nmJ11 rfl 3 (by decide) q490 rfl rfl rfl rfl rfl (Nat.le_of_ble_eq_true rfl) dJ10_append_2_50 (fun H locs hw => ?_)
  obtain ⟨N35, e36⟩ : ∃ z, z = va_up N x0 (some (eO 17 [va_rf f31, .int f32, .int f33, .int x3])) := ⟨_, rfl⟩
  have hw : cH G A s [] N35 H locs := by rw [e36]; exact hw
  have h := h N35 e36
  have hN37 : N35 x0 = some (eO 17 [va_rf f31, .int f32, .int f33, .int x3]) := by rw [e36]; exact up_s
  refine lv_aload_n (pc := 53) hx hb dJ10_append_2_53 rfl (lv_at hl 0 rfl) ?_
  refine W.widen (k := MC) (n := MS) (by omega) (by omega) ?_
  exact W.aret (pc := 54) (v := .ref x0) hx hb hr (Or.inl ⟨_, rfl⟩) (Or.inr ⟨_, rfl⟩) (fun t ht hW => c_ret (val := vR) (lw := jW) (u := N35) hw h ht) hw.2.2.2 dJ10_append_2_54 hlk
theorem tJ10_append_2 {l : Launch} {G : gG} (hO : gOk G) {post : Nat → NM → Prop} {MC MS : Nat} {N : NM} {x0 : Nat} {x1 : Int32} {sz : Nat} (h : wJ10_append_2 (gC G) post MC MS N x0 x1) : Met l yJ10_append_2 (ws_ yJ10_append_2 cJ10_append_2 4 (some (.object "java/lang/AbstractStringBuilder"))) ⟨4, MC, MS, 104⟩ (va_Pc [.ref x0, .int x1] (cPre G [] N sz)) (gQ vR post (fun u H => cBw G (cA [] N sz) (jW u).1 (jW u).2 H) (cA [] N sz)) MC MS (cA [] N sz) := by
  refine c_ofW (lw := jW) (by decide) hO (Nat.le_of_ble_eq_true rfl) (fun p e s m below meth c ls A X hr hlk hin hw hl => ?_)
  have hl : lv_has ls 4 [(0, .ref x0), (1, .int x1)] := hl
  have hx := X.1.1
  have hb := X.1.2.1
  have hml := X.1.2.2.1
  have hown := X.1.2.2.2.1
  have hts := X.1.2.2.2.2
  obtain ⟨H, eH⟩ : ∃ z, z = s.heap := ⟨_, rfl⟩
  rw [← eH] at hw ⊢
  obtain ⟨locs, eLo⟩ : ∃ z : List Loc, z = [] := ⟨_, rfl⟩
  rw [← eLo] at hw ⊢
  have hbud : 0 + MC ≤ MC ∧ 0 + MS ≤ MS := by omega
  unfold wJ10_append_2 at h
  refine lv_aload_n (pc := 0) hx hb dJ10_append_2_0 rfl (lv_at hl 0 rfl) ?_
  obtain ⟨f2, f3, f4, f5, hN1, h⟩ := h
  refine c_get (pc := 1) X hw hN1 in_J11 rfl 3 (by decide) q490 rfl rfl dJ10_append_2_1 ?_
  refine lv_istore_n (pc := 4) (lv' := [(2, .int f5), (0, .ref x0), (1, .int x1)]) hx hb dJ10_append_2_4 rfl hl (by decide) rfl (fun ls hl => ?_)
  refine lv_iload_n (pc := 5) hx hb dJ10_append_2_5 rfl (lv_at hl 0 rfl) ?_
  refine lv_iload_n (pc := 6) hx hb dJ10_append_2_6 rfl (lv_at hl 2 rfl) ?_
  refine s_call (pc := 7) (val := vI) (As := [.int x1]) (rest := [.int f5]) X.1 (tJ23_stringSize h) (lw_S q1795 q1796 q135 q1797) ⟨by decide, by decide, (by decide +kernel : (parseMethodDescriptor yJ23_stringSize.desc).map (fun d => d.parameters.length) = some 1)⟩ ⟨Nat.le_of_ble_eq_true rfl, Nat.le_of_ble_eq_true rfl⟩ hl.1 (Nat.le_of_ble_eq_true rfl) ⟨show 0 ≤ MC by omega, show 0 ≤ MS by omega⟩ dJ10_append_2_7 rfl (fun r6 h => ?_)
  refine W.eq (g2 := F0 m 10 ls (.int r6 :: [.int f5])) rfl ?_
  refine lv_iadd (pc := 10) hx hb dJ10_append_2_10 ?_
  refine lv_istore_n (pc := 11) (lv' := [(3, .int (f5 + r6)), (2, .int f5), (0, .ref x0), (1, .int x1)]) hx hb dJ10_append_2_11 rfl hl (by decide) rfl (fun ls hl => ?_)
  refine lv_aload_n (pc := 12) hx hb dJ10_append_2_12 rfl (lv_at hl 2 rfl) ?_
  refine lv_iload_n (pc := 13) hx hb dJ10_append_2_13 rfl (lv_at hl 0 rfl) ?_
  obtain ⟨mc9, ms10, hm11, hm12, h⟩ := h
  refine c_callJ (pc := 14) (val := vV) X hw (va_runU (C := RJ11) (As := [.int (f5 + r6)]) (rest := []) X.1 (tJ10_ensureCapacityInternal X.2.2.1 (sz := H.size) h) (cu_mk (x := ⟨"java/lang/AbstractStringBuilder", "ensureCapacityInternal", "(I)V"⟩) (owner := "java/lang/AbstractStringBuilder") hts (lw_meth q519) rfl rfl rfl ⟨Nat.le_of_ble_eq_true rfl, Nat.le_of_ble_eq_true rfl⟩ (hts _ q117) ⟨by decide, by decide⟩ (by decide +kernel : (parseMethodDescriptor "(I)V").map (fun d => d.parameters.length) = some 1) (hts _ q516) (hts _ q2536) (va_Decl.of (hts _ q518) (hts _ q519)) (selects_priv ⟨by decide, by decide⟩ (hts _ q552) rfl (X.priv q517) (hts _ q518)) (hts _ q518)) ⟨cPre_blind, c_recv X hw hN1 rfl, fun U hU hW => ⟨rfl, X.preJ hw hU hW⟩⟩ rfl rfl hl.1 rfl (lv_room (Nat.le_of_ble_eq_true rfl)) dJ10_append_2_14 ⟨show 0 + mc9 ≤ MC by omega, show 0 + ms10 ≤ MS by omega⟩) (fun _ N8 H locs h hw => ?_)
  refine W.eq (g2 := F0 m 17 ls ([])) rfl ?_
  refine lv_aload_n (pc := 17) hx hb dJ10_append_2_17 rfl (lv_at hl 2 rfl) ?_
  obtain ⟨f16, f17, f18, f19, hN15, h⟩ := h
  refine c_callJ (pc := 18) (val := vI) X hw (va_runU (C := RJ11) (As := []) (rest := []) X.1 (tJ10_isLatin1 X.2.2.1 (sz := H.size) h) (cu_mk (x := ⟨"java/lang/AbstractStringBuilder", "isLatin1", "()Z"⟩) (owner := "java/lang/AbstractStringBuilder") hts (lw_meth q553) rfl rfl rfl ⟨Nat.le_of_ble_eq_true rfl, Nat.le_of_ble_eq_true rfl⟩ (hts _ q117) ⟨by decide, by decide⟩ (by decide +kernel : (parseMethodDescriptor "()Z").map (fun d => d.parameters.length) = some 0) (hts _ q549) (hts _ q551) (va_Decl.of (hts _ q550) (hts _ q553)) (hts _ q552) (hts _ q550)) ⟨cPre_blind, c_recv X hw hN15 rfl, fun U hU hW => ⟨rfl, X.preJ hw hU hW⟩⟩ rfl rfl hl.1 rfl (lv_room (Nat.le_of_ble_eq_true rfl)) dJ10_append_2_18 ⟨show 0 + mc9 + 0 ≤ MC by omega, show 0 + ms10 + 0 ≤ MS by omega⟩) (fun r13 N14 H locs h hw => ?_)
  refine W.eq (g2 := F0 m 21 ls (.int r13 :: [])) rfl ?_
  refine lv_if_eq (pc := 21) (tgt := 37) hx hb dJ10_append_2_21 rfl (fun c20 => ?_) (fun c20 => ?_)
  · have h := h.1 c20
    exact False.elim h
  · have h := h.2 c20
    refine lv_iload_n (pc := 24) hx hb dJ10_append_2_24 rfl (lv_at hl 3 rfl) ?_
    refine lv_iload_n (pc := 25) hx hb dJ10_append_2_25 rfl (lv_at hl 0 rfl) ?_
    refine lv_aload_n (pc := 26) hx hb dJ10_append_2_26 rfl (lv_at hl 2 rfl) ?_
    obtain ⟨f22, f23, f24, f25, hN21, h⟩ := h
    refine c_get (pc := 27) X hw hN21 in_J11 rfl 0 (by decide) q487 rfl rfl dJ10_append_2_27 ?_
    obtain ⟨a26, hr27, h⟩ := h
    refine W.eq (g2 := F0 m 30 ls [.ref a26, .int (f5 + r6), .int x1]) (by rw [hr27]; rfl) ?_
    refine c_callJ (pc := 30) (val := vI) X hw (va_runS (g := F0 m 30 ls _) (As := [.int x1, .int (f5 + r6), .ref a26]) (rest := []) X.1 (tJ23_getChars X.2.2.1 (sz := H.size) h) (va_cwS 3 hts (lw_S q1798 q1799 q135 q1800) rfl rfl rfl ⟨by decide, by decide, (by decide +kernel : (parseMethodDescriptor yJ23_getChars.desc).map (fun d => d.parameters.length) = some 3)⟩ ⟨Nat.le_of_ble_eq_true rfl, Nat.le_of_ble_eq_true rfl⟩) ⟨cPre_blind, fun U hU hW => ⟨rfl, X.preJ hw hU hW⟩⟩ rfl rfl hl.1 rfl (lv_room (Nat.le_of_ble_eq_true rfl)) dJ10_append_2_30 ⟨show 0 + mc9 + 0 + 0 ≤ MC by omega, show 0 + ms10 + 0 + 0 ≤ MS by omega⟩) (fun r28 N29 H locs h hw => ?_)
    refine W.eq (g2 := F0 m 33 ls (.int r28 :: [])) rfl ?_
    refine lv_pop (pc := 33) hx hb dJ10_append_2_33 rfl ?_
    refine lv_goto (pc := 34) (tgt := 48) hx hb dJ10_append_2_34 rfl ?_
    exact kJ10_append_2_48 X hr hlk  _ _ _ _ _ _ _ _ _ _ h ⟨hw, by omega⟩ (lv_sub hl [2, 0] rfl)

def wJ11_append_2 (K : Nat → Nat → Nat) (post : Nat → NM → Prop) (MC MS : Nat) (N : NM) (x0 : Nat) (x1 : Int32) : Prop :=
  ∃ f8 f9 f10 f11, N x0 = some (eO 17 [va_rf f8, .int f9, .int f10, .int f11]) ∧ (∃ mc3 ms4, mc3 ≤ MC ∧ ms4 ≤ MS ∧ wJ10_append_2 K (fun r1 N2 => post x0 N2) mc3 ms4 N x0 x1)
theorem tJ11_append_2 {l : Launch} {G : gG} (hO : gOk G) {post : Nat → NM → Prop} {MC MS : Nat} {N : NM} {x0 : Nat} {x1 : Int32} {sz : Nat} (h : wJ11_append_2 (gC G) post MC MS N x0 x1) : Met l yJ11_append_2 (ws_ yJ11_append_2 cJ11_append_2 2 (some (.object "java/lang/StringBuilder"))) ⟨5, MC, MS, 127⟩ (va_Pc [.ref x0, .int x1] (cPre G [] N sz)) (gQ vR post (fun u H => cBw G (cA [] N sz) (jW u).1 (jW u).2 H) (cA [] N sz)) MC MS (cA [] N sz) := by
  refine c_ofW (lw := jW) (by decide) hO (Nat.le_of_ble_eq_true rfl) (fun p e s m below meth c ls A X hr hlk hin hw hl => ?_)
  have hl : lv_has ls 2 [(0, .ref x0), (1, .int x1)] := hl
  have hx := X.1.1
  have hb := X.1.2.1
  have hml := X.1.2.2.1
  have hown := X.1.2.2.2.1
  have hts := X.1.2.2.2.2
  obtain ⟨H, eH⟩ : ∃ z, z = s.heap := ⟨_, rfl⟩
  rw [← eH] at hw ⊢
  obtain ⟨locs, eLo⟩ : ∃ z : List Loc, z = [] := ⟨_, rfl⟩
  rw [← eLo] at hw ⊢
  have hbud : 0 + MC ≤ MC ∧ 0 + MS ≤ MS := by omega
  unfold wJ11_append_2 at h
  refine lv_aload_n (pc := 0) hx hb dJ11_append_2_0 rfl (lv_at hl 0 rfl) ?_
  refine lv_iload_n (pc := 1) hx hb dJ11_append_2_1 rfl (lv_at hl 1 rfl) ?_
  obtain ⟨f8, f9, f10, f11, hN7, h⟩ := h
  obtain ⟨mc3, ms4, hm5, hm6, h⟩ := h
  refine c_callJ (pc := 2) (val := vR) X hw (va_runSU (X.2.1.1 17 _ rfl).2 (As := [.int x1]) (rest := []) X.1 (tJ10_append_2 X.2.2.1 (sz := H.size) h) (va_cwSU 1 hts (lw_app (lw_l5 q1792 q2541 q499 q1793 q117) (lw_meth q1794)) rfl rfl rfl ⟨by decide, (by decide +kernel : (parseMethodDescriptor yJ10_append_2.desc).map (fun d => d.parameters.length) = some 1)⟩ ⟨Nat.le_of_ble_eq_true rfl, Nat.le_of_ble_eq_true rfl⟩) ⟨cPre_blind, c_recv X hw hN7 rfl, fun U hU hW => ⟨rfl, X.preJ hw hU hW⟩⟩ rfl rfl hl.1 rfl (lv_room (Nat.le_of_ble_eq_true rfl)) dJ11_append_2_2 ⟨show 0 + mc3 ≤ MC by omega, show 0 + ms4 ≤ MS by omega⟩) (fun r1 N2 H locs h hw => ?_)
  refine W.eq (g2 := F0 m 5 ls (.ref r1 :: [])) rfl ?_
  refine lv_pop (pc := 5) hx hb dJ11_append_2_5 rfl ?_
  refine lv_aload_n (pc := 6) hx hb dJ11_append_2_6 rfl (lv_at hl 0 rfl) ?_
  refine W.widen (k := MC) (n := MS) (by omega) (by omega) ?_
  exact W.aret (pc := 7) (v := .ref x0) hx hb hr (Or.inl ⟨_, rfl⟩) (Or.inr ⟨_, rfl⟩) (fun t ht hW => c_ret (val := vR) (lw := jW) (u := N2) hw h ht) hw.2.2.2 dJ11_append_2_7 hlk

def wJ10_inflateIfNeededFor (K : Nat → Nat → Nat) (post : Unit → NM → Prop) (N : NM) (x0 : Nat) (x1 : Nat) : Prop :=
  (((1 : Int32) = (0 : Int32)) → (post () N)) ∧ (¬ ((1 : Int32) = (0 : Int32)) → (∃ f3 f4 f5 f6, N x0 = some (eO 17 [va_rf f3, .int f4, .int f5, .int f6]) ∧ (x1 < sN ∧ (((f4 = (0 : Int32)) → (post () N)) ∧ (¬ (f4 = (0 : Int32)) → (False))))))
theorem tJ10_inflateIfNeededFor {l : Launch} {G : gG} (hO : gOk G) {post : Unit → NM → Prop} {N : NM} {x0 : Nat} {x1 : Nat} {sz : Nat} (h : wJ10_inflateIfNeededFor (gC G) post N x0 x1) : Met l yJ10_inflateIfNeededFor (ws_ yJ10_inflateIfNeededFor cJ10_inflateIfNeededFor 2 none) ⟨1, 0, 0, 20⟩ (va_Pc [.ref x0, .ref (gC G 0 x1)] (cPre G [] N sz)) (gQ vV post (fun u H => cBw G (cA [] N sz) (jW u).1 (jW u).2 H) (cA [] N sz)) 0 0 (cA [] N sz) := by
  refine c_ofW (lw := jW) (by decide) hO (Nat.le_of_ble_eq_true rfl) (fun p e s m below meth c ls A X hr hlk hin hw hl => ?_)
  have hl : lv_has ls 2 [(0, .ref x0), (1, .ref (gC G 0 x1))] := hl
  have hx := X.1.1
  have hb := X.1.2.1
  have hml := X.1.2.2.1
  have hown := X.1.2.2.2.1
  have hts := X.1.2.2.2.2
  obtain ⟨H, eH⟩ : ∃ z, z = s.heap := ⟨_, rfl⟩
  rw [← eH] at hw ⊢
  obtain ⟨locs, eLo⟩ : ∃ z : List Loc, z = [] := ⟨_, rfl⟩
  rw [← eLo] at hw ⊢
  unfold wJ10_inflateIfNeededFor at h
  refine va_gets (pc := 0) hx hb (va_Z.narrow (X.2.2.2.1.Z (z_compact X.2.2.1)) X.2.2.2.2.2) hw.2 hown (hts _ q478) (fun x h => h) dJ10_inflateIfNeededFor_0 ?_
  refine lv_if_eq (pc := 3) (tgt := 21) hx hb dJ10_inflateIfNeededFor_3 rfl (fun c1 => ?_) (fun c1 => ?_)
  · have h := h.1 c1
    exact W.vret (pc := 21) hx hb hr (fun t ht hW => c_ret (val := vV) (lw := jW) (u := N) (v := ()) hw h ht) hw.2.2.2 dJ10_inflateIfNeededFor_21 hlk
  · have h := h.2 c1
    refine lv_aload_n (pc := 6) hx hb dJ10_inflateIfNeededFor_6 rfl (lv_at hl 0 rfl) ?_
    obtain ⟨f3, f4, f5, f6, hN2, h⟩ := h
    refine c_get (pc := 7) X hw hN2 in_J11 rfl 1 (by decide) q488 rfl rfl dJ10_inflateIfNeededFor_7 ?_
    refine lv_aload_n (pc := 10) hx hb dJ10_inflateIfNeededFor_10 rfl (lv_at hl 1 rfl) ?_
    obtain ⟨hT7, h⟩ := h
    refine str_coder (pc := 11) (rest := [.int f4]) X.1 X.2.2.1 (X.sc hw hT7) (fun U hU hW => X.go hw hU hW) (lw_V q1842 q700 q701 q111 q702) ⟨Nat.le_of_ble_eq_true rfl, Nat.le_of_ble_eq_true rfl⟩ hl.1 (Nat.le_of_ble_eq_true rfl) ⟨show 0 ≤ 0 by omega, show 0 ≤ 0 by omega⟩ dJ10_inflateIfNeededFor_11 ?_
    refine lv_icmp_eq (pc := 14) (tgt := 21) hx hb dJ10_inflateIfNeededFor_14 rfl (fun c8 => ?_) (fun c8 => ?_)
    · have h := h.1 c8
      exact W.vret (pc := 21) hx hb hr (fun t ht hW => c_ret (val := vV) (lw := jW) (u := N) (v := ()) hw h ht) hw.2.2.2 dJ10_inflateIfNeededFor_21 hlk
    · have h := h.2 c8
      exact False.elim h

def wJ6_getBytes (K : Nat → Nat → Nat) (post : Unit → NM → Prop) (N : NM) (x0 : Nat) (x1 : Nat) (x2 : Int32) (x3 : Int32) : Prop :=
  x0 < sN ∧ ((((0 : Int32) = x3) → (∃ n4 f5, N x1 = some (eN 3 n4 f5) ∧ (¬ (0 : Int32) < 0 ∧ ¬ (x2 <<< (x3 &&& 31)) < 0 ∧ ¬ (nI (sLen.getD x0 0)) < 0 ∧ (0 : Int32).toNatClampNeg + (nI (sLen.getD x0 0)).toNatClampNeg ≤ (sLen.getD x0 0) ∧ (x2 <<< (x3 &&& 31)).toNatClampNeg + (nI (sLen.getD x0 0)).toNatClampNeg ≤ n4 ∧ (∀ i, i < (nI (sLen.getD x0 0)).toNatClampNeg → fits .byte (.int ((fun j => (sByt.getD x0 []).getD j 0) ((0 : Int32).toNatClampNeg + i))) = true) ∧ (∀ N12, N12 = va_up N x1 (some (eN 3 n4 (va_cpy (fun j => (sByt.getD x0 []).getD j 0) f5 (0 : Int32).toNatClampNeg (x2 <<< (x3 &&& 31)).toNatClampNeg (nI (sLen.getD x0 0)).toNatClampNeg))) → (post () N12))))) ∧ (¬ ((0 : Int32) = x3) → (False)))
theorem tJ6_getBytes {l : Launch} {G : gG} (hO : gOk G) {post : Unit → NM → Prop} {N : NM} {x0 : Nat} {x1 : Nat} {x2 : Int32} {x3 : Int32} {sz : Nat} (h : wJ6_getBytes (gC G) post N x0 x1 x2 x3) : Met l yJ6_getBytes (ws_ yJ6_getBytes cJ6_getBytes 4 none) ⟨1, 0, 0, 60⟩ (va_Pc [.ref (gC G 0 x0), .ref x1, .int x2, .int x3] (cPre G [] N sz)) (gQ vV post (fun u H => cBw G (cA [] N sz) (jW u).1 (jW u).2 H) (cA [] N sz)) 0 0 (cA [] N sz) := by
  refine c_ofW (lw := jW) (by decide) hO (Nat.le_of_ble_eq_true rfl) (fun p e s m below meth c ls A X hr hlk hin hw hl => ?_)
  have hl : lv_has ls 4 [(0, .ref (gC G 0 x0)), (1, .ref x1), (2, .int x2), (3, .int x3)] := hl
  have hx := X.1.1
  have hb := X.1.2.1
  have hml := X.1.2.2.1
  have hown := X.1.2.2.2.1
  have hts := X.1.2.2.2.2
  obtain ⟨H, eH⟩ : ∃ z, z = s.heap := ⟨_, rfl⟩
  rw [← eH] at hw ⊢
  obtain ⟨locs, eLo⟩ : ∃ z : List Loc, z = [] := ⟨_, rfl⟩
  rw [← eLo] at hw ⊢
  unfold wJ6_getBytes at h
  refine lv_aload_n (pc := 0) hx hb dJ6_getBytes_0 rfl (lv_at hl 0 rfl) ?_
  obtain ⟨hT1, h⟩ := h
  refine str_coder (pc := 1) (rest := []) X.1 X.2.2.1 (X.sc hw hT1) (fun U hU hW => X.go hw hU hW) (lw_V q699 q700 q701 q111 q702) ⟨Nat.le_of_ble_eq_true rfl, Nat.le_of_ble_eq_true rfl⟩ hl.1 (Nat.le_of_ble_eq_true rfl) ⟨show 0 ≤ 0 by omega, show 0 ≤ 0 by omega⟩ dJ6_getBytes_1 ?_
  refine lv_iload_n (pc := 4) hx hb dJ6_getBytes_4 rfl (lv_at hl 3 rfl) ?_
  refine lv_icmp_ne (pc := 5) (tgt := 28) hx hb dJ6_getBytes_5 rfl (fun c2 => ?_) (fun c2 => ?_)
  · have h := h.2 c2
    exact False.elim h
  · have h := h.1 c2
    refine lv_aload_n (pc := 8) hx hb dJ6_getBytes_8 rfl (lv_at hl 0 rfl) ?_
    refine c_strV (pc := 9) X hw hT1 q644 dJ6_getBytes_9 ?_
    refine lv_iconst (pc := 12) (v := (0 : Int32)) hx hb dJ6_getBytes_12 (by decide) ?_
    refine lv_aload_n (pc := 13) hx hb dJ6_getBytes_13 rfl (lv_at hl 1 rfl) ?_
    refine lv_iload_n (pc := 14) hx hb dJ6_getBytes_14 rfl (lv_at hl 2 rfl) ?_
    refine lv_iload_n (pc := 15) hx hb dJ6_getBytes_15 rfl (lv_at hl 3 rfl) ?_
    refine lv_ishl (pc := 16) hx hb dJ6_getBytes_16 ?_
    refine lv_aload_n (pc := 17) hx hb dJ6_getBytes_17 rfl (lv_at hl 0 rfl) ?_
    refine c_strV (pc := 18) X hw hT1 q644 dJ6_getBytes_18 ?_
    refine va_tlen (pc := 21) (v := nI (sLen.getD x0 0)) hx hb (X.sv hT1) hw.2 rfl dJ6_getBytes_21 ?_
    obtain ⟨n4, f5, hN3, h⟩ := h
    obtain ⟨hm6, hm7, hm8, hm9, hm10, hm11, h⟩ := h
    refine c_copyt (pc := 22) (rest := []) X hw hl.1 q1847 q374 q373 q112 (X.sv hT1) hN3 hm6 hm7 hm8 hm9 hm10 hm11 (Nat.le_of_ble_eq_true rfl) (Nat.le_of_ble_eq_true rfl) dJ6_getBytes_22 (fun H locs hw => ?_)
    obtain ⟨N12, e13⟩ : ∃ z, z = va_up N x1 (some (eN 3 n4 (va_cpy (fun j => (sByt.getD x0 []).getD j 0) f5 (0 : Int32).toNatClampNeg (x2 <<< (x3 &&& 31)).toNatClampNeg (nI (sLen.getD x0 0)).toNatClampNeg))) := ⟨_, rfl⟩
    have hw : cH G A s [] N12 H locs := by rw [e13]; exact hw
    have h := h N12 e13
    have hN14 : N12 x1 = some (eN 3 n4 (va_cpy (fun j => (sByt.getD x0 []).getD j 0) f5 (0 : Int32).toNatClampNeg (x2 <<< (x3 &&& 31)).toNatClampNeg (nI (sLen.getD x0 0)).toNatClampNeg)) := by rw [e13]; exact up_s
    refine lv_goto (pc := 25) (tgt := 43) hx hb dJ6_getBytes_25 rfl ?_
    exact W.vret (pc := 43) hx hb hr (fun t ht hW => c_ret (val := vV) (lw := jW) (u := N12) (v := ()) hw h ht) hw.2.2.2 dJ6_getBytes_43 hlk

def wJ10_putStringAt (K : Nat → Nat → Nat) (post : Unit → NM → Prop) (N : NM) (x0 : Nat) (x1 : Int32) (x2 : Nat) : Prop :=
  ∃ f4 f5 f6 f7, N x0 = some (eO 17 [va_rf f4, .int f5, .int f6, .int f7]) ∧ (wJ10_inflateIfNeededFor K (fun _ N2 => ∃ f9 f10 f11 f12, N2 x0 = some (eO 17 [va_rf f9, .int f10, .int f11, .int f12]) ∧ (x2 < sN ∧ (∃ a14, f9 = some a14 ∧ (x2 < sN ∧ (wJ6_getBytes K (fun _ N17 => post () N17) N2 x2 a14 x1 f10))))) N x0 x2)
theorem tJ10_putStringAt {l : Launch} {G : gG} (hO : gOk G) {post : Unit → NM → Prop} {N : NM} {x0 : Nat} {x1 : Int32} {x2 : Nat} {sz : Nat} (h : wJ10_putStringAt (gC G) post N x0 x1 x2) : Met l yJ10_putStringAt (ws_ yJ10_putStringAt cJ10_putStringAt 3 none) ⟨2, 0, 0, 83⟩ (va_Pc [.ref x0, .int x1, .ref (gC G 0 x2)] (cPre G [] N sz)) (gQ vV post (fun u H => cBw G (cA [] N sz) (jW u).1 (jW u).2 H) (cA [] N sz)) 0 0 (cA [] N sz) := by
  refine c_ofW (lw := jW) (by decide) hO (Nat.le_of_ble_eq_true rfl) (fun p e s m below meth c ls A X hr hlk hin hw hl => ?_)
  have hl : lv_has ls 3 [(0, .ref x0), (1, .int x1), (2, .ref (gC G 0 x2))] := hl
  have hx := X.1.1
  have hb := X.1.2.1
  have hml := X.1.2.2.1
  have hown := X.1.2.2.2.1
  have hts := X.1.2.2.2.2
  obtain ⟨H, eH⟩ : ∃ z, z = s.heap := ⟨_, rfl⟩
  rw [← eH] at hw ⊢
  obtain ⟨locs, eLo⟩ : ∃ z : List Loc, z = [] := ⟨_, rfl⟩
  rw [← eLo] at hw ⊢
  unfold wJ10_putStringAt at h
  refine lv_aload_n (pc := 0) hx hb dJ10_putStringAt_0 rfl (lv_at hl 0 rfl) ?_
  refine lv_aload_n (pc := 1) hx hb dJ10_putStringAt_1 rfl (lv_at hl 2 rfl) ?_
  obtain ⟨f4, f5, f6, f7, hN3, h⟩ := h
  refine c_callJ (pc := 2) (val := vV) X hw (va_runU (C := RJ11) (As := [.ref (gC G 0 x2)]) (rest := []) X.1 (tJ10_inflateIfNeededFor X.2.2.1 (sz := H.size) h) (cu_mk (x := ⟨"java/lang/AbstractStringBuilder", "inflateIfNeededFor", "(Ljava/lang/String;)V"⟩) (owner := "java/lang/AbstractStringBuilder") hts (lw_meth q1841) rfl rfl rfl ⟨Nat.le_of_ble_eq_true rfl, Nat.le_of_ble_eq_true rfl⟩ (hts _ q117) ⟨by decide, by decide⟩ (by decide +kernel : (parseMethodDescriptor "(Ljava/lang/String;)V").map (fun d => d.parameters.length) = some 1) (hts _ q1838) (hts _ q2545) (va_Decl.of (hts _ q1840) (hts _ q1841)) (selects_priv ⟨by decide, by decide⟩ (hts _ q552) rfl (X.priv q1839) (hts _ q1840)) (hts _ q1840)) ⟨cPre_blind, c_recv X hw hN3 rfl, fun U hU hW => ⟨rfl, X.preJ hw hU hW⟩⟩ rfl rfl hl.1 rfl (lv_room (Nat.le_of_ble_eq_true rfl)) dJ10_putStringAt_2 ⟨show 0 + 0 ≤ 0 by omega, show 0 + 0 ≤ 0 by omega⟩) (fun _ N2 H locs h hw => ?_)
  refine W.eq (g2 := F0 m 5 ls ([])) rfl ?_
  refine lv_aload_n (pc := 5) hx hb dJ10_putStringAt_5 rfl (lv_at hl 2 rfl) ?_
  refine lv_aload_n (pc := 6) hx hb dJ10_putStringAt_6 rfl (lv_at hl 0 rfl) ?_
  obtain ⟨f9, f10, f11, f12, hN8, h⟩ := h
  refine c_get (pc := 7) X hw hN8 in_J11 rfl 0 (by decide) q487 rfl rfl dJ10_putStringAt_7 ?_
  refine lv_iload_n (pc := 10) hx hb dJ10_putStringAt_10 rfl (lv_at hl 1 rfl) ?_
  refine lv_aload_n (pc := 11) hx hb dJ10_putStringAt_11 rfl (lv_at hl 0 rfl) ?_
  refine c_get (pc := 12) X hw hN8 in_J11 rfl 1 (by decide) q488 rfl rfl dJ10_putStringAt_12 ?_
  obtain ⟨hT13, h⟩ := h
  obtain ⟨a14, hr15, h⟩ := h
  refine W.eq (g2 := F0 m 15 ls [.int f10, .int x1, .ref a14, .ref (gC G 0 x2)]) (by rw [hr15]; rfl) ?_
  obtain ⟨hT18, h⟩ := h
  refine c_callJ (pc := 15) (val := vV) X hw (va_runV (C := RJ6) (As := [.ref a14, .int x1, .int f10]) (rest := []) X.1 (tJ6_getBytes X.2.2.1 (sz := H.size) h) (cwV 3 hts (lw_V q1843 q1844 q1845 q111 q1846) rfl rfl rfl ⟨rfl, by decide, by decide, (by decide +kernel : (parseMethodDescriptor yJ6_getBytes.desc).map (fun d => d.parameters.length) = some 3)⟩ ⟨Nat.le_of_ble_eq_true rfl, Nat.le_of_ble_eq_true rfl⟩) ⟨cPre_blind, (X.sc hw hT18).recv, fun U hU hW => ⟨rfl, X.preJ hw hU hW⟩⟩ rfl rfl hl.1 rfl (lv_room (Nat.le_of_ble_eq_true rfl)) dJ10_putStringAt_15 ⟨show 0 + 0 ≤ 0 by omega, show 0 + 0 ≤ 0 by omega⟩) (fun _ N17 H locs h hw => ?_)
  refine W.eq (g2 := F0 m 18 ls ([])) rfl ?_
  exact W.vret (pc := 18) hx hb hr (fun t ht hW => c_ret (val := vV) (lw := jW) (u := N17) (v := ()) hw h ht) hw.2.2.2 dJ10_putStringAt_18 hlk

def wJ10_append_3 (K : Nat → Nat → Nat) (post : Nat → NM → Prop) (MC MS : Nat) (N : NM) (x0 : Nat) (x1 : Nat) : Prop :=
  x1 < sN ∧ (∃ f3 f4 f5 f6, N x0 = some (eO 17 [va_rf f3, .int f4, .int f5, .int f6]) ∧ (∃ mc9 ms10, mc9 ≤ MC ∧ ms10 ≤ MS ∧ wJ10_ensureCapacityInternal K (fun _ N8 => ∃ f14 f15 f16 f17, N8 x0 = some (eO 17 [va_rf f14, .int f15, .int f16, .int f17]) ∧ (wJ10_putStringAt K (fun _ N19 => ∃ f21 f22 f23 f24, N19 x0 = some (eO 17 [va_rf f21, .int f22, .int f23, .int f24]) ∧ (∀ N25, N25 = va_up N19 x0 (some (eO 17 [va_rf f21, .int f22, .int f23, .int (f24 + (nI (sLen.getD x1 0)))])) → (post x0 N25))) N8 x0 f17 x1)) mc9 ms10 N x0 (f6 + (nI (sLen.getD x1 0)))))
theorem tJ10_append_3 {l : Launch} {G : gG} (hO : gOk G) {post : Nat → NM → Prop} {MC MS : Nat} {N : NM} {x0 : Nat} {x1 : Nat} {sz : Nat} (h : wJ10_append_3 (gC G) post MC MS N x0 x1) : Met l yJ10_append_3 (ws_ yJ10_append_3 cJ10_append_3 3 (some (.object "java/lang/AbstractStringBuilder"))) ⟨4, MC, MS, 105⟩ (va_Pc [.ref x0, .ref (gC G 0 x1)] (cPre G [] N sz)) (gQ vR post (fun u H => cBw G (cA [] N sz) (jW u).1 (jW u).2 H) (cA [] N sz)) MC MS (cA [] N sz) := by
  refine c_ofW (lw := jW) (by decide) hO (Nat.le_of_ble_eq_true rfl) (fun p e s m below meth c ls A X hr hlk hin hw hl => ?_)
  have hl : lv_has ls 3 [(0, .ref x0), (1, .ref (gC G 0 x1))] := hl
  have hx := X.1.1
  have hb := X.1.2.1
  have hml := X.1.2.2.1
  have hown := X.1.2.2.2.1
  have hts := X.1.2.2.2.2
  obtain ⟨H, eH⟩ : ∃ z, z = s.heap := ⟨_, rfl⟩
  rw [← eH] at hw ⊢
  obtain ⟨locs, eLo⟩ : ∃ z : List Loc, z = [] := ⟨_, rfl⟩
  rw [← eLo] at hw ⊢
  have hbud : 0 + MC ≤ MC ∧ 0 + MS ≤ MS := by omega
  unfold wJ10_append_3 at h
  refine lv_aload_n (pc := 0) hx hb dJ10_append_3_0 rfl (lv_at hl 1 rfl) ?_
  refine lv_ifnonnull (pc := 1) (tgt := 9) hx hb dJ10_append_3_1 rfl ?_
  refine lv_aload_n (pc := 9) hx hb dJ10_append_3_9 rfl (lv_at hl 1 rfl) ?_
  obtain ⟨hT1, h⟩ := h
  refine str_len (pc := 10) (rest := []) X.1 X.2.2.1 (X.sc hw hT1) (fun U hU hW => X.go hw hU hW) (lw_V q1833 q696 q697 q111 q698) ⟨Nat.le_of_ble_eq_true rfl, Nat.le_of_ble_eq_true rfl⟩ hl.1 (Nat.le_of_ble_eq_true rfl) ⟨show 0 ≤ MC by omega, show 0 ≤ MS by omega⟩ dJ10_append_3_10 ?_
  refine lv_istore_n (pc := 13) (lv' := [(2, .int (nI (sLen.getD x1 0))), (0, .ref x0), (1, .ref (gC G 0 x1))]) hx hb dJ10_append_3_13 rfl hl (by decide) rfl (fun ls hl => ?_)
  refine lv_aload_n (pc := 14) hx hb dJ10_append_3_14 rfl (lv_at hl 1 rfl) ?_
  refine lv_aload_n (pc := 15) hx hb dJ10_append_3_15 rfl (lv_at hl 1 rfl) ?_
  obtain ⟨f3, f4, f5, f6, hN2, h⟩ := h
  refine c_get (pc := 16) X hw hN2 in_J11 rfl 3 (by decide) q490 rfl rfl dJ10_append_3_16 ?_
  refine lv_iload_n (pc := 19) hx hb dJ10_append_3_19 rfl (lv_at hl 0 rfl) ?_
  refine lv_iadd (pc := 20) hx hb dJ10_append_3_20 ?_
  obtain ⟨mc9, ms10, hm11, hm12, h⟩ := h
  refine c_callJ (pc := 21) (val := vV) X hw (va_runU (C := RJ11) (As := [.int (f6 + (nI (sLen.getD x1 0)))]) (rest := []) X.1 (tJ10_ensureCapacityInternal X.2.2.1 (sz := H.size) h) (cu_mk (x := ⟨"java/lang/AbstractStringBuilder", "ensureCapacityInternal", "(I)V"⟩) (owner := "java/lang/AbstractStringBuilder") hts (lw_meth q519) rfl rfl rfl ⟨Nat.le_of_ble_eq_true rfl, Nat.le_of_ble_eq_true rfl⟩ (hts _ q117) ⟨by decide, by decide⟩ (by decide +kernel : (parseMethodDescriptor "(I)V").map (fun d => d.parameters.length) = some 1) (hts _ q516) (hts _ q2536) (va_Decl.of (hts _ q518) (hts _ q519)) (selects_priv ⟨by decide, by decide⟩ (hts _ q552) rfl (X.priv q517) (hts _ q518)) (hts _ q518)) ⟨cPre_blind, c_recv X hw hN2 rfl, fun U hU hW => ⟨rfl, X.preJ hw hU hW⟩⟩ rfl rfl hl.1 rfl (lv_room (Nat.le_of_ble_eq_true rfl)) dJ10_append_3_21 ⟨show 0 + mc9 ≤ MC by omega, show 0 + ms10 ≤ MS by omega⟩) (fun _ N8 H locs h hw => ?_)
  refine W.eq (g2 := F0 m 24 ls ([])) rfl ?_
  refine lv_aload_n (pc := 24) hx hb dJ10_append_3_24 rfl (lv_at hl 1 rfl) ?_
  refine lv_aload_n (pc := 25) hx hb dJ10_append_3_25 rfl (lv_at hl 1 rfl) ?_
  obtain ⟨f14, f15, f16, f17, hN13, h⟩ := h
  refine c_get (pc := 26) X hw hN13 in_J11 rfl 3 (by decide) q490 rfl rfl dJ10_append_3_26 ?_
  refine lv_aload_n (pc := 29) hx hb dJ10_append_3_29 rfl (lv_at hl 2 rfl) ?_
  refine c_callJ (pc := 30) (val := vV) X hw (va_runU (C := RJ11) (As := [.int f17, .ref (gC G 0 x1)]) (rest := []) X.1 (tJ10_putStringAt X.2.2.1 (sz := H.size) h) (cu_mk (x := ⟨"java/lang/AbstractStringBuilder", "putStringAt", "(ILjava/lang/String;)V"⟩) (owner := "java/lang/AbstractStringBuilder") hts (lw_meth q1837) rfl rfl rfl ⟨Nat.le_of_ble_eq_true rfl, Nat.le_of_ble_eq_true rfl⟩ (hts _ q117) ⟨by decide, by decide⟩ (by decide +kernel : (parseMethodDescriptor "(ILjava/lang/String;)V").map (fun d => d.parameters.length) = some 2) (hts _ q1834) (hts _ q2544) (va_Decl.of (hts _ q1836) (hts _ q1837)) (selects_priv ⟨by decide, by decide⟩ (hts _ q552) rfl (X.priv q1835) (hts _ q1836)) (hts _ q1836)) ⟨cPre_blind, c_recv X hw hN13 rfl, fun U hU hW => ⟨rfl, X.preJ hw hU hW⟩⟩ rfl rfl hl.1 rfl (lv_room (Nat.le_of_ble_eq_true rfl)) dJ10_append_3_30 ⟨show 0 + mc9 + 0 ≤ MC by omega, show 0 + ms10 + 0 ≤ MS by omega⟩) (fun _ N19 H locs h hw => ?_)
  refine W.eq (g2 := F0 m 33 ls ([])) rfl ?_
  refine lv_aload_n (pc := 33) hx hb dJ10_append_3_33 rfl (lv_at hl 1 rfl) ?_
  refine lv_dup (pc := 34) hx hb dJ10_append_3_34 rfl ?_
  obtain ⟨f21, f22, f23, f24, hN20, h⟩ := h
  refine c_get (pc := 35) X hw hN20 in_J11 rfl 3 (by decide) q490 rfl rfl dJ10_append_3_35 ?_
  refine lv_iload_n (pc := 38) hx hb dJ10_append_3_38 rfl (lv_at hl 0 rfl) ?_
  refine lv_iadd (pc := 39) hx hb dJ10_append_3_39 ?_
  refine c_put (pc := 40) X hw hN20 in_J11 tyJ11 tyJ11_ok nmJ11 rfl 3 (by decide) q490 rfl rfl rfl rfl rfl (Nat.le_of_ble_eq_true rfl) dJ10_append_3_40 (fun H locs hw => ?_)
  obtain ⟨N25, e26⟩ : ∃ z, z = va_up N19 x0 (some (eO 17 [va_rf f21, .int f22, .int f23, .int (f24 + (nI (sLen.getD x1 0)))])) := ⟨_, rfl⟩
  have hw : cH G A s [] N25 H locs := by rw [e26]; exact hw
  have h := h N25 e26
  have hN27 : N25 x0 = some (eO 17 [va_rf f21, .int f22, .int f23, .int (f24 + (nI (sLen.getD x1 0)))]) := by rw [e26]; exact up_s
  refine lv_aload_n (pc := 43) hx hb dJ10_append_3_43 rfl (lv_at hl 1 rfl) ?_
  refine W.widen (k := MC) (n := MS) (by omega) (by omega) ?_
  exact W.aret (pc := 44) (v := .ref x0) hx hb hr (Or.inl ⟨_, rfl⟩) (Or.inr ⟨_, rfl⟩) (fun t ht hW => c_ret (val := vR) (lw := jW) (u := N25) hw h ht) hw.2.2.2 dJ10_append_3_44 hlk

def wJ11_append_3 (K : Nat → Nat → Nat) (post : Nat → NM → Prop) (MC MS : Nat) (N : NM) (x0 : Nat) (x1 : Nat) : Prop :=
  ∃ f8 f9 f10 f11, N x0 = some (eO 17 [va_rf f8, .int f9, .int f10, .int f11]) ∧ (∃ mc3 ms4, mc3 ≤ MC ∧ ms4 ≤ MS ∧ wJ10_append_3 K (fun r1 N2 => post x0 N2) mc3 ms4 N x0 x1)
theorem tJ11_append_3 {l : Launch} {G : gG} (hO : gOk G) {post : Nat → NM → Prop} {MC MS : Nat} {N : NM} {x0 : Nat} {x1 : Nat} {sz : Nat} (h : wJ11_append_3 (gC G) post MC MS N x0 x1) : Met l yJ11_append_3 (ws_ yJ11_append_3 cJ11_append_3 2 (some (.object "java/lang/StringBuilder"))) ⟨5, MC, MS, 127⟩ (va_Pc [.ref x0, .ref (gC G 0 x1)] (cPre G [] N sz)) (gQ vR post (fun u H => cBw G (cA [] N sz) (jW u).1 (jW u).2 H) (cA [] N sz)) MC MS (cA [] N sz) := by
  refine c_ofW (lw := jW) (by decide) hO (Nat.le_of_ble_eq_true rfl) (fun p e s m below meth c ls A X hr hlk hin hw hl => ?_)
  have hl : lv_has ls 2 [(0, .ref x0), (1, .ref (gC G 0 x1))] := hl
  have hx := X.1.1
  have hb := X.1.2.1
  have hml := X.1.2.2.1
  have hown := X.1.2.2.2.1
  have hts := X.1.2.2.2.2
  obtain ⟨H, eH⟩ : ∃ z, z = s.heap := ⟨_, rfl⟩
  rw [← eH] at hw ⊢
  obtain ⟨locs, eLo⟩ : ∃ z : List Loc, z = [] := ⟨_, rfl⟩
  rw [← eLo] at hw ⊢
  have hbud : 0 + MC ≤ MC ∧ 0 + MS ≤ MS := by omega
  unfold wJ11_append_3 at h
  refine lv_aload_n (pc := 0) hx hb dJ11_append_3_0 rfl (lv_at hl 0 rfl) ?_
  refine lv_aload_n (pc := 1) hx hb dJ11_append_3_1 rfl (lv_at hl 1 rfl) ?_
  obtain ⟨f8, f9, f10, f11, hN7, h⟩ := h
  obtain ⟨mc3, ms4, hm5, hm6, h⟩ := h
  refine c_callJ (pc := 2) (val := vR) X hw (va_runSU (X.2.1.1 17 _ rfl).2 (As := [.ref (gC G 0 x1)]) (rest := []) X.1 (tJ10_append_3 X.2.2.1 (sz := H.size) h) (va_cwSU 1 hts (lw_app (lw_l5 q1823 q2542 q499 q1824 q117) (lw_meth q1825)) rfl rfl rfl ⟨by decide, (by decide +kernel : (parseMethodDescriptor yJ10_append_3.desc).map (fun d => d.parameters.length) = some 1)⟩ ⟨Nat.le_of_ble_eq_true rfl, Nat.le_of_ble_eq_true rfl⟩) ⟨cPre_blind, c_recv X hw hN7 rfl, fun U hU hW => ⟨rfl, X.preJ hw hU hW⟩⟩ rfl rfl hl.1 rfl (lv_room (Nat.le_of_ble_eq_true rfl)) dJ11_append_3_2 ⟨show 0 + mc3 ≤ MC by omega, show 0 + ms4 ≤ MS by omega⟩) (fun r1 N2 H locs h hw => ?_)
  refine W.eq (g2 := F0 m 5 ls (.ref r1 :: [])) rfl ?_
  refine lv_pop (pc := 5) hx hb dJ11_append_3_5 rfl ?_
  refine lv_aload_n (pc := 6) hx hb dJ11_append_3_6 rfl (lv_at hl 0 rfl) ?_
  refine W.widen (k := MC) (n := MS) (by omega) (by omega) ?_
  exact W.aret (pc := 7) (v := .ref x0) hx hb hr (Or.inl ⟨_, rfl⟩) (Or.inr ⟨_, rfl⟩) (fun t ht hW => c_ret (val := vR) (lw := jW) (u := N2) hw h ht) hw.2.2.2 dJ11_append_3_7 hlk

def wJ11_length (K : Nat → Nat → Nat) (post : Int32 → NM → Prop) (N : NM) (x0 : Nat) : Prop :=
  ∃ f4 f5 f6 f7, N x0 = some (eO 17 [va_rf f4, .int f5, .int f6, .int f7]) ∧ (wJ10_length K (fun r1 N2 => post r1 N2) N x0)
theorem tJ11_length {l : Launch} {G : gG} (hO : gOk G) {post : Int32 → NM → Prop} {N : NM} {x0 : Nat} {sz : Nat} (h : wJ11_length (gC G) post N x0) : Met l yJ11_length (ws_ yJ11_length cJ11_length 1 (some .int)) ⟨1, 0, 0, 20⟩ (va_Pc [.ref x0] (cPre G [] N sz)) (gQ vI post (fun u H => cBw G (cA [] N sz) (jW u).1 (jW u).2 H) (cA [] N sz)) 0 0 (cA [] N sz) := by
  refine c_ofW (lw := jW) (by decide) hO (Nat.le_of_ble_eq_true rfl) (fun p e s m below meth c ls A X hr hlk hin hw hl => ?_)
  have hl : lv_has ls 1 [(0, .ref x0)] := hl
  have hx := X.1.1
  have hb := X.1.2.1
  have hml := X.1.2.2.1
  have hown := X.1.2.2.2.1
  have hts := X.1.2.2.2.2
  obtain ⟨H, eH⟩ : ∃ z, z = s.heap := ⟨_, rfl⟩
  rw [← eH] at hw ⊢
  obtain ⟨locs, eLo⟩ : ∃ z : List Loc, z = [] := ⟨_, rfl⟩
  rw [← eLo] at hw ⊢
  unfold wJ11_length at h
  refine lv_aload_n (pc := 0) hx hb dJ11_length_0 rfl (lv_at hl 0 rfl) ?_
  obtain ⟨f4, f5, f6, f7, hN3, h⟩ := h
  refine c_callJ (pc := 1) (val := vI) X hw (va_runSU (X.2.1.1 17 _ rfl).2 (As := []) (rest := []) X.1 (tJ10_length X.2.2.1 (sz := H.size) h) (va_cwSU 0 hts (lw_app (lw_l5 q506 q2534 q499 q507 q117) (lw_meth q508)) rfl rfl rfl ⟨by decide, (by decide +kernel : (parseMethodDescriptor yJ10_length.desc).map (fun d => d.parameters.length) = some 0)⟩ ⟨Nat.le_of_ble_eq_true rfl, Nat.le_of_ble_eq_true rfl⟩) ⟨cPre_blind, c_recv X hw hN3 rfl, fun U hU hW => ⟨rfl, X.preJ hw hU hW⟩⟩ rfl rfl hl.1 rfl (lv_room (Nat.le_of_ble_eq_true rfl)) dJ11_length_1 ⟨show 0 + 0 ≤ 0 by omega, show 0 + 0 ≤ 0 by omega⟩) (fun r1 N2 H locs h hw => ?_)
  refine W.eq (g2 := F0 m 4 ls (.int r1 :: [])) rfl ?_
  exact W.iret (pc := 4) hx hb hr (fun t ht hW => c_ret (val := vI) (lw := jW) (u := N2) hw h ht) hw.2.2.2 dJ11_length_4 hlk

def wJ6_init_2_79 (K : Nat → Nat → Nat) (post : Unit → NM → Prop) (x0 : Nat) (x3 : Option Nat) (x4 : Int32) (mc ms : Nat) (N : NM) : Prop :=
  ∃ f25 f26 f27 f28, N x0 = some (eO 16 [va_rf f25, .int f26, .int f27, .int f28]) ∧ (∀ N29, N29 = va_up N x0 (some (eO 16 [va_rf f25, .int (1 : Int32), .int f27, .int f28])) → (∃ a32, x3 = some a32 ∧ (∃ mc36 ms37, mc36 ≤ mc ∧ ms37 ≤ ms ∧ wJ15_copyOfRange K (fun r34 N35 => ∃ f41 f42 f43 f44, N35 x0 = some (eO 16 [va_rf f41, .int f42, .int f43, .int f44]) ∧ (∀ N45, N45 = va_up N35 x0 (some (eO 16 [va_rf (some r34), .int f42, .int f43, .int f44])) → (post () N45))) mc36 ms37 N29 a32 (0 : Int32) (x4 <<< ((1 : Int32) &&& 31)))))
def wJ6_init_2 (K : Nat → Nat → Nat) (post : Unit → NM → Prop) (MC MS : Nat) (N : NM) (x0 : Nat) (x1 : Nat) (x2 : Option Nat) : Prop :=
  ∃ f4 f5 f6 f7, N x1 = some (eO 17 [va_rf f4, .int f5, .int f6, .int f7]) ∧ (wJ10_getValue K (fun r1 N2 => ∃ f11 f12 f13 f14, N2 x1 = some (eO 17 [va_rf f11, .int f12, .int f13, .int f14]) ∧ (wJ11_length K (fun r8 N9 => ∃ f18 f19 f20 f21, N9 x1 = some (eO 17 [va_rf f18, .int f19, .int f20, .int f21]) ∧ (wJ10_isLatin1 K (fun r15 N16 => ((r15 = (0 : Int32)) → ((((1 : Int32) = (0 : Int32)) → (wJ6_init_2_79 K post x0 r1 r8 MC MS N16)) ∧ (¬ ((1 : Int32) = (0 : Int32)) → (∃ f49 f50 f51 f52, N16 x1 = some (eO 17 [va_rf f49, .int f50, .int f51, .int f52]) ∧ (((f51 = (0 : Int32)) → (wJ6_init_2_79 K post x0 r1 r8 MC MS N16)) ∧ (¬ (f51 = (0 : Int32)) → (False))))))) ∧ (¬ (r15 = (0 : Int32)) → (∃ f55 f56 f57 f58, N16 x0 = some (eO 16 [va_rf f55, .int f56, .int f57, .int f58]) ∧ (∀ N59, N59 = va_up N16 x0 (some (eO 16 [va_rf f55, .int (0 : Int32), .int f57, .int f58])) → (∃ a62, r1 = some a62 ∧ (∃ mc66 ms67, mc66 ≤ MC ∧ ms67 ≤ MS ∧ wJ15_copyOfRange K (fun r64 N65 => ∃ f71 f72 f73 f74, N65 x0 = some (eO 16 [va_rf f71, .int f72, .int f73, .int f74]) ∧ (∀ N75, N75 = va_up N65 x0 (some (eO 16 [va_rf (some r64), .int f72, .int f73, .int f74])) → (post () N75))) mc66 ms67 N59 a62 (0 : Int32) r8)))))) N9 x1)) N2 x1)) N x1)
theorem kJ6_init_2_79 {p : Program} {l : Launch} {e : Env} {s : State} {m : MethodId} {args : Array Value} {below : List Frame} {meth : Method} {c : Code} {G : gG} {A : Nat → Prop} {MC MS : Nat} {post : Unit → NM → Prop} (X : cX G A RJ6 p s m args c cJ6_init_2 5) (hr : meth.sig.returnType = none) (hlk : meth.locks = false) (hin : meth.name = "<init>") : ∀ (x0 : Nat) (x3 : Option Nat) (x4 : Int32) (mc ms : Nat) (N : NM) (H : Heap) (locs : List Loc) (ls : Array Slot) (cells slots : Nat), wJ6_init_2_79 (gC G) post x0 x3 x4 mc ms N → (cH G A s [] N H locs ∧ cells + mc ≤ MC ∧ slots + ms ≤ MS) → lv_has ls 5 [(0, .ref x0), (3, va_rf x3), (4, .int x4)] → W p l e ⟨3, MC, MS, 106⟩ s m args below meth c H locs cells slots (MQ below (gQ vV post (fun u H => cBw G A (jW u).1 (jW u).2 H) A) args s MC MS A) (F0 m 79 ls []) := by
  have hx := X.1.1
  have hb := X.1.2.1
  have hml := X.1.2.2.1
  have hown := X.1.2.2.2.1
  have hts := X.1.2.2.2.2
  intro x0 x3 x4 mc ms N H locs ls cells slots h hw0 hl
  obtain ⟨hw, hbud⟩ := hw0
  unfold wJ6_init_2_79 at h
  refine lv_aload_n (pc := 79) hx hb dJ6_init_2_79 rfl (lv_at hl 0 rfl) ?_
  refine lv_iconst (pc := 80) (v := (1 : Int32)) hx hb dJ6_init_2_80 (by decide) ?_
  obtain ⟨f25, f26, f27, f28, hN24, h⟩ := h
  refine c_putF (pc := 81) X hw hN24 in_J6 tyJ6 tyJ6_ok nmJ6 rfl 1 (by decide) q645 rfl rfl hin rfl rfl rfl rfl (Nat.le_of_ble_eq_true rfl) dJ6_init_2_81 (fun H locs hw => ?_)
  obtain ⟨N29, e30⟩ : ∃ z, z = va_up N x0 (some (eO 16 [va_rf f25, .int (1 : Int32), .int f27, .int f28])) := ⟨_, rfl⟩
  have hw : cH G A s [] N29 H locs := by rw [e30]; exact hw
  have h := h N29 e30
  have hN31 : N29 x0 = some (eO 16 [va_rf f25, .int (1 : Int32), .int f27, .int f28]) := by rw [e30]; exact up_s
  refine lv_aload_n (pc := 84) hx hb dJ6_init_2_84 rfl (lv_at hl 0 rfl) ?_
  refine lq_aload_n (pc := 85) hx hb dJ6_init_2_85 rfl (lv_at hl 1 rfl) ?_
  refine lv_iconst (pc := 86) (v := (0 : Int32)) hx hb dJ6_init_2_86 (by decide) ?_
  refine lv_iload (pc := 87) hx hb dJ6_init_2_87 (lv_at hl 2 rfl) ?_
  refine lv_iconst (pc := 89) (v := (1 : Int32)) hx hb dJ6_init_2_89 (by decide) ?_
  refine lv_ishl (pc := 90) hx hb dJ6_init_2_90 ?_
  obtain ⟨a32, hr33, h⟩ := h
  refine W.eq (g2 := F0 m 91 ls [.int (x4 <<< ((1 : Int32) &&& 31)), .int (0 : Int32), .ref a32, .ref x0]) (by rw [hr33]; rfl) ?_
  obtain ⟨mc36, ms37, hm38, hm39, h⟩ := h
  refine c_callJ (pc := 91) (val := vR) X hw (va_runS (g := F0 m 91 ls _) (As := [.ref a32, .int (0 : Int32), .int (x4 <<< ((1 : Int32) &&& 31))]) (rest := [.ref x0]) X.1 (tJ15_copyOfRange X.2.2.1 (sz := H.size) h) (va_cwS 3 hts (lw_S q621 q622 q122 q623) rfl rfl rfl ⟨by decide, by decide, (by decide +kernel : (parseMethodDescriptor yJ15_copyOfRange.desc).map (fun d => d.parameters.length) = some 3)⟩ ⟨Nat.le_of_ble_eq_true rfl, Nat.le_of_ble_eq_true rfl⟩) ⟨cPre_blind, fun U hU hW => ⟨rfl, X.preJ hw hU hW⟩⟩ rfl rfl hl.1 rfl (lv_room (Nat.le_of_ble_eq_true rfl)) dJ6_init_2_91 ⟨show cells + mc36 ≤ MC by omega, show slots + ms37 ≤ MS by omega⟩) (fun r34 N35 H locs h hw => ?_)
  refine W.eq (g2 := F0 m 94 ls (.ref r34 :: [.ref x0])) rfl ?_
  obtain ⟨f41, f42, f43, f44, hN40, h⟩ := h
  refine c_putF (pc := 94) (v := va_rf (some r34)) X hw hN40 in_J6 tyJ6 tyJ6_ok nmJ6 rfl 0 (by decide) q644 rfl rfl hin rfl rfl (rf_na (some r34) _) (rf_fa (some r34) _) (Nat.le_of_ble_eq_true rfl) dJ6_init_2_94 (fun H locs hw => ?_)
  obtain ⟨N45, e46⟩ : ∃ z, z = va_up N35 x0 (some (eO 16 [va_rf (some r34), .int f42, .int f43, .int f44])) := ⟨_, rfl⟩
  have hw : cH G A s [] N45 H locs := by rw [e46]; exact hw
  have h := h N45 e46
  have hN47 : N45 x0 = some (eO 16 [va_rf (some r34), .int f42, .int f43, .int f44]) := by rw [e46]; exact up_s
  refine W.widen (k := MC) (n := MS) (by omega) (by omega) ?_
  exact W.vret (pc := 97) hx hb hr (fun t ht hW => c_ret (val := vV) (lw := jW) (u := N45) (v := ()) hw h ht) hw.2.2.2 dJ6_init_2_97 hlk
theorem tJ6_init_2 {l : Launch} {G : gG} (hO : gOk G) {post : Unit → NM → Prop} {MC MS : Nat} {N : NM} {x0 : Nat} {x1 : Nat} {x2 : Option Nat} {sz : Nat} (h : wJ6_init_2 (gC G) post MC MS N x0 x1 x2) : Met l yJ6_init_2 (ws_ yJ6_init_2 cJ6_init_2 5 none) ⟨3, MC, MS, 106⟩ (va_Pc [.ref x0, .ref x1, va_rf x2] (cPre G [] N sz)) (gQ vV post (fun u H => cBw G (cA [] N sz) (jW u).1 (jW u).2 H) (cA [] N sz)) MC MS (cA [] N sz) := by
  refine c_ofW (lw := jW) (by decide) hO (by cases x2 <;> exact Nat.le_of_ble_eq_true rfl) (fun p e s m below meth c ls A X hr hlk hin hw hl => ?_)
  have hl : lv_has ls 5 [(0, .ref x0), (1, .ref x1), (2, va_rf x2)] := by cases x2 <;> exact hl
  have hin := hin rfl
  have hx := X.1.1
  have hb := X.1.2.1
  have hml := X.1.2.2.1
  have hown := X.1.2.2.2.1
  have hts := X.1.2.2.2.2
  obtain ⟨H, eH⟩ : ∃ z, z = s.heap := ⟨_, rfl⟩
  rw [← eH] at hw ⊢
  obtain ⟨locs, eLo⟩ : ∃ z : List Loc, z = [] := ⟨_, rfl⟩
  rw [← eLo] at hw ⊢
  have hbud : 0 + MC ≤ MC ∧ 0 + MS ≤ MS := by omega
  unfold wJ6_init_2 at h
  refine lv_aload_n (pc := 0) hx hb dJ6_init_2_0 rfl (lv_at hl 0 rfl) ?_
  refine W.objInit hx hb hown (hts _ q613) (hts _ q181) (hts _ q182) rfl (by rw [hml]; exact hl.1) rfl dJ6_init_2_1 (Nat.le_of_ble_eq_true rfl) (Nat.le_of_ble_eq_true rfl) ?_
  refine W.eq (g2 := F0 m 4 ls []) rfl ?_
  refine lv_aload_n (pc := 4) hx hb dJ6_init_2_4 rfl (lv_at hl 1 rfl) ?_
  obtain ⟨f4, f5, f6, f7, hN3, h⟩ := h
  refine c_callJ (pc := 5) (val := vQ) X hw (va_runU (C := RJ11) (As := []) (rest := []) X.1 (tJ10_getValue X.2.2.1 (sz := H.size) h) (cu_mk (x := ⟨"java/lang/AbstractStringBuilder", "getValue", "()[B"⟩) (owner := "java/lang/AbstractStringBuilder") hts (lw_meth q618) rfl rfl rfl ⟨Nat.le_of_ble_eq_true rfl, Nat.le_of_ble_eq_true rfl⟩ (hts _ q117) ⟨by decide, by decide⟩ (by decide +kernel : (parseMethodDescriptor "()[B").map (fun d => d.parameters.length) = some 0) (hts _ q614) (hts _ q616) (va_Decl.of (hts _ q615) (hts _ q618)) (hts _ q617) (hts _ q615)) ⟨cPre_blind, c_recv X hw hN3 rfl, fun U hU hW => ⟨rfl, X.preJ hw hU hW⟩⟩ rfl rfl hl.1 rfl (lv_room (Nat.le_of_ble_eq_true rfl)) dJ6_init_2_5 ⟨show 0 + 0 ≤ MC by omega, show 0 + 0 ≤ MS by omega⟩) (fun r1 N2 H locs h hw => ?_)
  refine W.eq (g2 := F0 m 8 ls (va_rf r1 :: [])) rfl ?_
  refine lq_astore_n (pc := 8) (i := 3) (lv' := [(3, va_rf r1), (0, .ref x0), (1, .ref x1), (2, va_rf x2)]) hx hb dJ6_init_2_8 rfl hl (by decide) (by simp [rf_c]) (fun ls hl => ?_)
  refine lv_aload_n (pc := 9) hx hb dJ6_init_2_9 rfl (lv_at hl 2 rfl) ?_
  obtain ⟨f11, f12, f13, f14, hN10, h⟩ := h
  refine c_callJ (pc := 10) (val := vI) X hw (va_runU (C := RJ11) (As := []) (rest := []) X.1 (tJ11_length X.2.2.1 (sz := H.size) h) (cu_mk (x := ⟨"java/lang/AbstractStringBuilder", "length", "()I"⟩) (owner := "java/lang/AbstractStringBuilder") hts (lw_meth q505) rfl rfl rfl ⟨Nat.le_of_ble_eq_true rfl, Nat.le_of_ble_eq_true rfl⟩ (hts _ q118) ⟨by decide, by decide⟩ (by decide +kernel : (parseMethodDescriptor "()I").map (fun d => d.parameters.length) = some 0) (hts _ q619) (hts _ q2534) (va_Decl.of (hts _ q507) (hts _ q508)) (hts _ q2539) (hts _ q503)) ⟨cPre_blind, c_recv X hw hN10 rfl, fun U hU hW => ⟨rfl, X.preJ hw hU hW⟩⟩ rfl rfl hl.1 rfl (lv_room (Nat.le_of_ble_eq_true rfl)) dJ6_init_2_10 ⟨show 0 + 0 + 0 ≤ MC by omega, show 0 + 0 + 0 ≤ MS by omega⟩) (fun r8 N9 H locs h hw => ?_)
  refine W.eq (g2 := F0 m 13 ls (.int r8 :: [])) rfl ?_
  refine lv_istore (pc := 13) (i := 4) (lv' := [(4, .int r8), (3, va_rf r1), (0, .ref x0), (1, .ref x1), (2, va_rf x2)]) hx hb dJ6_init_2_13 hl (by decide) (by simp [rf_c]) (fun ls hl => ?_)
  refine lv_aload_n (pc := 15) hx hb dJ6_init_2_15 rfl (lv_at hl 3 rfl) ?_
  obtain ⟨f18, f19, f20, f21, hN17, h⟩ := h
  refine c_callJ (pc := 16) (val := vI) X hw (va_runU (C := RJ11) (As := []) (rest := []) X.1 (tJ10_isLatin1 X.2.2.1 (sz := H.size) h) (cu_mk (x := ⟨"java/lang/AbstractStringBuilder", "isLatin1", "()Z"⟩) (owner := "java/lang/AbstractStringBuilder") hts (lw_meth q553) rfl rfl rfl ⟨Nat.le_of_ble_eq_true rfl, Nat.le_of_ble_eq_true rfl⟩ (hts _ q117) ⟨by decide, by decide⟩ (by decide +kernel : (parseMethodDescriptor "()Z").map (fun d => d.parameters.length) = some 0) (hts _ q620) (hts _ q551) (va_Decl.of (hts _ q550) (hts _ q553)) (hts _ q552) (hts _ q550)) ⟨cPre_blind, c_recv X hw hN17 rfl, fun U hU hW => ⟨rfl, X.preJ hw hU hW⟩⟩ rfl rfl hl.1 rfl (lv_room (Nat.le_of_ble_eq_true rfl)) dJ6_init_2_16 ⟨show 0 + 0 + 0 + 0 ≤ MC by omega, show 0 + 0 + 0 + 0 ≤ MS by omega⟩) (fun r15 N16 H locs h hw => ?_)
  refine W.eq (g2 := F0 m 19 ls (.int r15 :: [])) rfl ?_
  refine lv_if_eq (pc := 19) (tgt := 41) hx hb dJ6_init_2_19 rfl (fun c22 => ?_) (fun c22 => ?_)
  · have h := h.1 c22
    refine va_gets (pc := 41) hx hb (va_Z.narrow (X.2.2.2.1.Z (z_compact X.2.2.1)) X.2.2.2.2.2) hw.2 hown (hts _ q630) (fun x h => h) dJ6_init_2_41 ?_
    refine lv_if_eq (pc := 44) (tgt := 79) hx hb dJ6_init_2_44 rfl (fun c23 => ?_) (fun c23 => ?_)
    · have h := h.1 c23
      exact kJ6_init_2_79 X hr hlk hin  _ _ _ _ _ _ _ _ _ _ _ h ⟨hw, by omega⟩ (lv_sub hl [2, 1, 0] rfl)
    · have h := h.2 c23
      refine lv_aload_n (pc := 47) hx hb dJ6_init_2_47 rfl (lv_at hl 3 rfl) ?_
      obtain ⟨f49, f50, f51, f52, hN48, h⟩ := h
      refine c_get (pc := 48) X hw hN48 in_J11 rfl 2 (by decide) q489 rfl rfl dJ6_init_2_48 ?_
      refine lv_if_eq (pc := 51) (tgt := 79) hx hb dJ6_init_2_51 rfl (fun c53 => ?_) (fun c53 => ?_)
      · have h := h.1 c53
        exact kJ6_init_2_79 X hr hlk hin  _ _ _ _ _ _ _ _ _ _ _ h ⟨hw, by omega⟩ (lv_sub hl [2, 1, 0] rfl)
      · have h := h.2 c53
        exact False.elim h
  · have h := h.2 c22
    refine lv_aload_n (pc := 22) hx hb dJ6_init_2_22 rfl (lv_at hl 2 rfl) ?_
    refine lv_iconst (pc := 23) (v := (0 : Int32)) hx hb dJ6_init_2_23 (by decide) ?_
    obtain ⟨f55, f56, f57, f58, hN54, h⟩ := h
    refine c_putF (pc := 24) X hw hN54 in_J6 tyJ6 tyJ6_ok nmJ6 rfl 1 (by decide) q645 rfl rfl hin rfl rfl rfl rfl (Nat.le_of_ble_eq_true rfl) dJ6_init_2_24 (fun H locs hw => ?_)
    obtain ⟨N59, e60⟩ : ∃ z, z = va_up N16 x0 (some (eO 16 [va_rf f55, .int (0 : Int32), .int f57, .int f58])) := ⟨_, rfl⟩
    have hw : cH G A s [] N59 H locs := by rw [e60]; exact hw
    have h := h N59 e60
    have hN61 : N59 x0 = some (eO 16 [va_rf f55, .int (0 : Int32), .int f57, .int f58]) := by rw [e60]; exact up_s
    refine lv_aload_n (pc := 27) hx hb dJ6_init_2_27 rfl (lv_at hl 2 rfl) ?_
    refine lq_aload_n (pc := 28) hx hb dJ6_init_2_28 rfl (lv_at hl 1 rfl) ?_
    refine lv_iconst (pc := 29) (v := (0 : Int32)) hx hb dJ6_init_2_29 (by decide) ?_
    refine lv_iload (pc := 30) hx hb dJ6_init_2_30 (lv_at hl 0 rfl) ?_
    obtain ⟨a62, hr63, h⟩ := h
    refine W.eq (g2 := F0 m 32 ls [.int r8, .int (0 : Int32), .ref a62, .ref x0]) (by rw [hr63]; rfl) ?_
    obtain ⟨mc66, ms67, hm68, hm69, h⟩ := h
    refine c_callJ (pc := 32) (val := vR) X hw (va_runS (g := F0 m 32 ls _) (As := [.ref a62, .int (0 : Int32), .int r8]) (rest := [.ref x0]) X.1 (tJ15_copyOfRange X.2.2.1 (sz := H.size) h) (va_cwS 3 hts (lw_S q621 q622 q122 q623) rfl rfl rfl ⟨by decide, by decide, (by decide +kernel : (parseMethodDescriptor yJ15_copyOfRange.desc).map (fun d => d.parameters.length) = some 3)⟩ ⟨Nat.le_of_ble_eq_true rfl, Nat.le_of_ble_eq_true rfl⟩) ⟨cPre_blind, fun U hU hW => ⟨rfl, X.preJ hw hU hW⟩⟩ rfl rfl hl.1 rfl (lv_room (Nat.le_of_ble_eq_true rfl)) dJ6_init_2_32 ⟨show 0 + 0 + 0 + 0 + mc66 ≤ MC by omega, show 0 + 0 + 0 + 0 + ms67 ≤ MS by omega⟩) (fun r64 N65 H locs h hw => ?_)
    refine W.eq (g2 := F0 m 35 ls (.ref r64 :: [.ref x0])) rfl ?_
    obtain ⟨f71, f72, f73, f74, hN70, h⟩ := h
    refine c_putF (pc := 35) (v := va_rf (some r64)) X hw hN70 in_J6 tyJ6 tyJ6_ok nmJ6 rfl 0 (by decide) q644 rfl rfl hin rfl rfl (rf_na (some r64) _) (rf_fa (some r64) _) (Nat.le_of_ble_eq_true rfl) dJ6_init_2_35 (fun H locs hw => ?_)
    obtain ⟨N75, e76⟩ : ∃ z, z = va_up N65 x0 (some (eO 16 [va_rf (some r64), .int f72, .int f73, .int f74])) := ⟨_, rfl⟩
    have hw : cH G A s [] N75 H locs := by rw [e76]; exact hw
    have h := h N75 e76
    have hN77 : N75 x0 = some (eO 16 [va_rf (some r64), .int f72, .int f73, .int f74]) := by rw [e76]; exact up_s
    refine lv_goto (pc := 38) (tgt := 97) hx hb dJ6_init_2_38 rfl ?_
    refine W.widen (k := MC) (n := MS) (by omega) (by omega) ?_
    exact W.vret (pc := 97) hx hb hr (fun t ht hW => c_ret (val := vV) (lw := jW) (u := N75) (v := ()) hw h ht) hw.2.2.2 dJ6_init_2_97 hlk

def wJ6_init (K : Nat → Nat → Nat) (post : Unit → NM → Prop) (MC MS : Nat) (N : NM) (x0 : Nat) (x1 : Nat) : Prop :=
  ∃ mc3 ms4, mc3 ≤ MC ∧ ms4 ≤ MS ∧ wJ6_init_2 K (fun _ N2 => post () N2) mc3 ms4 N x0 x1 none
theorem tJ6_init {l : Launch} {G : gG} (hO : gOk G) {post : Unit → NM → Prop} {MC MS : Nat} {N : NM} {x0 : Nat} {x1 : Nat} {sz : Nat} (h : wJ6_init (gC G) post MC MS N x0 x1) : Met l yJ6_init (ws_ yJ6_init cJ6_init 2 none) ⟨4, MC, MS, 130⟩ (va_Pc [.ref x0, .ref x1] (cPre G [] N sz)) (gQ vV post (fun u H => cBw G (cA [] N sz) (jW u).1 (jW u).2 H) (cA [] N sz)) MC MS (cA [] N sz) := by
  refine c_ofW (lw := jW) (by decide) hO (Nat.le_of_ble_eq_true rfl) (fun p e s m below meth c ls A X hr hlk hin hw hl => ?_)
  have hl : lv_has ls 2 [(0, .ref x0), (1, .ref x1)] := hl
  have hin := hin rfl
  have hx := X.1.1
  have hb := X.1.2.1
  have hml := X.1.2.2.1
  have hown := X.1.2.2.2.1
  have hts := X.1.2.2.2.2
  obtain ⟨H, eH⟩ : ∃ z, z = s.heap := ⟨_, rfl⟩
  rw [← eH] at hw ⊢
  obtain ⟨locs, eLo⟩ : ∃ z : List Loc, z = [] := ⟨_, rfl⟩
  rw [← eLo] at hw ⊢
  have hbud : 0 + MC ≤ MC ∧ 0 + MS ≤ MS := by omega
  unfold wJ6_init at h
  refine lv_aload_n (pc := 0) hx hb dJ6_init_0 rfl (lv_at hl 0 rfl) ?_
  refine lv_aload_n (pc := 1) hx hb dJ6_init_1 rfl (lv_at hl 1 rfl) ?_
  refine lv_null (pc := 2) hx hb dJ6_init_2 ?_
  obtain ⟨mc3, ms4, hm5, hm6, h⟩ := h
  refine c_callJ (pc := 3) (val := vV) X hw (va_runI (As := [.ref x1, va_rf none]) (rest := []) X.1 (tJ6_init_2 X.2.2.1 (sz := H.size) h) (cwI 2 hts (lw_meth q612) rfl rfl rfl (hts _ q111) (hts _ q610) (hts _ q611) rfl ⟨by decide, by decide, (by decide +kernel : (parseMethodDescriptor yJ6_init_2.desc).map (fun d => d.parameters.length) = some 2)⟩ ⟨Nat.le_of_ble_eq_true rfl, Nat.le_of_ble_eq_true rfl⟩) ⟨cPre_blind, fun U hU hW => ⟨rfl, X.preJ hw hU hW⟩⟩ rfl rfl hl.1 rfl (lv_room (Nat.le_of_ble_eq_true rfl)) dJ6_init_3 ⟨show 0 + mc3 ≤ MC by omega, show 0 + ms4 ≤ MS by omega⟩) (fun _ N2 H locs h hw => ?_)
  refine W.eq (g2 := F0 m 6 ls ([])) rfl ?_
  refine W.widen (k := MC) (n := MS) (by omega) (by omega) ?_
  exact W.vret (pc := 6) hx hb hr (fun t ht hW => c_ret (val := vV) (lw := jW) (u := N2) (v := ()) hw h ht) hw.2.2.2 dJ6_init_6 hlk

def wJ11_toString (K : Nat → Nat → Nat) (post : Nat → NM → Prop) (MC MS : Nat) (N : NM) (x0 : Nat) : Prop :=
  1 ≤ MC ∧ 4 ≤ MS ∧ (∀ nq3, N nq3 = none → (∀ N5, N5 = va_up N nq3 (some (eO 16 [va_rf none, .int (0 : Int32), .int (0 : Int32), .int (0 : Int32)])) → (∃ mc10 ms11, mc10 ≤ (MC - 1) ∧ ms11 ≤ (MS - 4) ∧ wJ6_init K (fun _ N9 => post nq3 N9) mc10 ms11 N5 nq3 x0)))
theorem tJ11_toString {l : Launch} {G : gG} (hO : gOk G) {post : Nat → NM → Prop} {MC MS : Nat} {N : NM} {x0 : Nat} {sz : Nat} (h : wJ11_toString (gC G) post MC MS N x0) : Met l yJ11_toString (ws_ yJ11_toString cJ11_toString 1 (some (.object "java/lang/String"))) ⟨5, MC, MS, 151⟩ (va_Pc [.ref x0] (cPre G [] N sz)) (gQ vR post (fun u H => cBw G (cA [] N sz) (jW u).1 (jW u).2 H) (cA [] N sz)) MC MS (cA [] N sz) := by
  refine c_ofW (lw := jW) (by decide) hO (Nat.le_of_ble_eq_true rfl) (fun p e s m below meth c ls A X hr hlk hin hw hl => ?_)
  have hl : lv_has ls 1 [(0, .ref x0)] := hl
  have hx := X.1.1
  have hb := X.1.2.1
  have hml := X.1.2.2.1
  have hown := X.1.2.2.2.1
  have hts := X.1.2.2.2.2
  obtain ⟨H, eH⟩ : ∃ z, z = s.heap := ⟨_, rfl⟩
  rw [← eH] at hw ⊢
  obtain ⟨locs, eLo⟩ : ∃ z : List Loc, z = [] := ⟨_, rfl⟩
  rw [← eLo] at hw ⊢
  have hbud : 0 + MC ≤ MC ∧ 0 + MS ≤ MS := by omega
  unfold wJ11_toString at h
  obtain ⟨hm1, hm2, h⟩ := h
  refine c_new (pc := 0) (ci := 16) (fs := [va_rf none, .int (0 : Int32), .int (0 : Int32), .int (0 : Int32)]) X hw in_J6 tyJ6 tyJ6_ok q606 q367 q111 rfl nf_J6 (show 0 + 1 ≤ MC by omega) (show 0 + 4 ≤ MS by omega) dJ11_toString_0 (fun nq3 H hq4 _ hw => ?_)
  have h := h nq3 hq4
  obtain ⟨N5, e6⟩ : ∃ z, z = va_up N nq3 (some (eO 16 [va_rf none, .int (0 : Int32), .int (0 : Int32), .int (0 : Int32)])) := ⟨_, rfl⟩
  have hw : cH G A s [] N5 H locs := by rw [e6]; exact hw
  have h := h N5 e6
  have hN7 : N5 nq3 = some (eO 16 [va_rf none, .int (0 : Int32), .int (0 : Int32), .int (0 : Int32)]) := by rw [e6]; exact up_s
  refine lv_dup (pc := 3) hx hb dJ11_toString_3 rfl ?_
  refine lv_aload_n (pc := 4) hx hb dJ11_toString_4 rfl (lv_at hl 0 rfl) ?_
  obtain ⟨mc10, ms11, hm12, hm13, h⟩ := h
  refine c_callJ (pc := 5) (val := vV) X hw (va_runI (As := [.ref x0]) (rest := [.ref nq3]) X.1 (tJ6_init X.2.2.1 (sz := H.size) h) (cwI 1 hts (lw_meth q609) rfl rfl rfl (hts _ q111) (hts _ q607) (hts _ q608) rfl ⟨by decide, by decide, (by decide +kernel : (parseMethodDescriptor yJ6_init.desc).map (fun d => d.parameters.length) = some 1)⟩ ⟨Nat.le_of_ble_eq_true rfl, Nat.le_of_ble_eq_true rfl⟩) ⟨cPre_blind, fun U hU hW => ⟨rfl, X.preJ hw hU hW⟩⟩ rfl rfl hl.1 rfl (lv_room (Nat.le_of_ble_eq_true rfl)) dJ11_toString_5 ⟨show 0 + 1 + mc10 ≤ MC by omega, show 0 + 4 + ms11 ≤ MS by omega⟩) (fun _ N9 H locs h hw => ?_)
  refine W.eq (g2 := F0 m 8 ls ([.ref nq3])) rfl ?_
  refine W.widen (k := MC) (n := MS) (by omega) (by omega) ?_
  exact W.aret (pc := 8) (v := .ref nq3) hx hb hr (Or.inl ⟨_, rfl⟩) (Or.inr ⟨_, rfl⟩) (fun t ht hW => c_ret (val := vR) (lw := jW) (u := N9) hw h ht) hw.2.2.2 dJ11_toString_8 hlk

def wJ22_init (K : Nat → Nat → Nat) (post : Unit → NM → Prop) (N : NM) (x0 : Nat) : Prop :=
  post () N
theorem tJ22_init {l : Launch} {G : gG} (hO : gOk G) {post : Unit → NM → Prop} {N : NM} {x0 : Nat} {sz : Nat} (h : wJ22_init (gC G) post N x0) : Met l yJ22_init (ws_ yJ22_init cJ22_init 1 none) ⟨1, 0, 0, 20⟩ (va_Pc [.ref x0] (cPre G [] N sz)) (gQ vV post (fun u H => cBw G (cA [] N sz) (jW u).1 (jW u).2 H) (cA [] N sz)) 0 0 (cA [] N sz) := by
  refine c_ofW (lw := jW) (by decide) hO (Nat.le_of_ble_eq_true rfl) (fun p e s m below meth c ls A X hr hlk hin hw hl => ?_)
  have hl : lv_has ls 1 [(0, .ref x0)] := hl
  have hin := hin rfl
  have hx := X.1.1
  have hb := X.1.2.1
  have hml := X.1.2.2.1
  have hown := X.1.2.2.2.1
  have hts := X.1.2.2.2.2
  obtain ⟨H, eH⟩ : ∃ z, z = s.heap := ⟨_, rfl⟩
  rw [← eH] at hw ⊢
  obtain ⟨locs, eLo⟩ : ∃ z : List Loc, z = [] := ⟨_, rfl⟩
  rw [← eLo] at hw ⊢
  unfold wJ22_init at h
  refine lv_aload_n (pc := 0) hx hb dJ22_init_0 rfl (lv_at hl 0 rfl) ?_
  refine W.objInit hx hb hown (hts _ q995) (hts _ q181) (hts _ q182) rfl (by rw [hml]; exact hl.1) rfl dJ22_init_1 (Nat.le_of_ble_eq_true rfl) (Nat.le_of_ble_eq_true rfl) ?_
  refine W.eq (g2 := F0 m 4 ls []) rfl ?_
  exact W.vret (pc := 4) hx hb hr (fun t ht hW => c_ret (val := vV) (lw := jW) (u := N) (v := ()) hw h ht) hw.2.2.2 dJ22_init_4 hlk

def wJ23_init (K : Nat → Nat → Nat) (post : Unit → NM → Prop) (N : NM) (x0 : Nat) (x1 : Int32) : Prop :=
  wJ22_init K (fun _ N2 => ∃ f4, N2 x0 = some (eO 22 [.int f4]) ∧ (∀ N5, N5 = va_up N2 x0 (some (eO 22 [.int x1])) → (post () N5))) N x0
theorem tJ23_init {l : Launch} {G : gG} (hO : gOk G) {post : Unit → NM → Prop} {N : NM} {x0 : Nat} {x1 : Int32} {sz : Nat} (h : wJ23_init (gC G) post N x0 x1) : Met l yJ23_init (ws_ yJ23_init cJ23_init 2 none) ⟨2, 0, 0, 40⟩ (va_Pc [.ref x0, .int x1] (cPre G [] N sz)) (gQ vV post (fun u H => cBw G (cA [] N sz) (jW u).1 (jW u).2 H) (cA [] N sz)) 0 0 (cA [] N sz) := by
  refine c_ofW (lw := jW) (by decide) hO (Nat.le_of_ble_eq_true rfl) (fun p e s m below meth c ls A X hr hlk hin hw hl => ?_)
  have hl : lv_has ls 2 [(0, .ref x0), (1, .int x1)] := hl
  have hin := hin rfl
  have hx := X.1.1
  have hb := X.1.2.1
  have hml := X.1.2.2.1
  have hown := X.1.2.2.2.1
  have hts := X.1.2.2.2.2
  obtain ⟨H, eH⟩ : ∃ z, z = s.heap := ⟨_, rfl⟩
  rw [← eH] at hw ⊢
  obtain ⟨locs, eLo⟩ : ∃ z : List Loc, z = [] := ⟨_, rfl⟩
  rw [← eLo] at hw ⊢
  unfold wJ23_init at h
  refine lv_aload_n (pc := 0) hx hb dJ23_init_0 rfl (lv_at hl 0 rfl) ?_
  refine c_callJ (pc := 1) (val := vV) X hw (va_runI (As := []) (rest := []) X.1 (tJ22_init X.2.2.1 (sz := H.size) h) (cwI 0 hts (lw_meth q994) rfl rfl rfl (hts _ q134) (hts _ q992) (hts _ q993) rfl ⟨by decide, by decide, (by decide +kernel : (parseMethodDescriptor yJ22_init.desc).map (fun d => d.parameters.length) = some 0)⟩ ⟨Nat.le_of_ble_eq_true rfl, Nat.le_of_ble_eq_true rfl⟩) ⟨cPre_blind, fun U hU hW => ⟨rfl, X.preJ hw hU hW⟩⟩ rfl rfl hl.1 rfl (lv_room (Nat.le_of_ble_eq_true rfl)) dJ23_init_1 ⟨show 0 + 0 ≤ 0 by omega, show 0 + 0 ≤ 0 by omega⟩) (fun _ N2 H locs h hw => ?_)
  refine W.eq (g2 := F0 m 4 ls ([])) rfl ?_
  refine lv_aload_n (pc := 4) hx hb dJ23_init_4 rfl (lv_at hl 0 rfl) ?_
  refine lv_iload_n (pc := 5) hx hb dJ23_init_5 rfl (lv_at hl 1 rfl) ?_
  obtain ⟨f4, hN3, h⟩ := h
  refine c_putF (pc := 6) X hw hN3 in_J23 tyJ23 tyJ23_ok nmJ23 rfl 0 (by decide) q996 rfl rfl hin rfl rfl rfl rfl (Nat.le_of_ble_eq_true rfl) dJ23_init_6 (fun H locs hw => ?_)
  obtain ⟨N5, e6⟩ : ∃ z, z = va_up N2 x0 (some (eO 22 [.int x1])) := ⟨_, rfl⟩
  have hw : cH G A s [] N5 H locs := by rw [e6]; exact hw
  have h := h N5 e6
  have hN7 : N5 x0 = some (eO 22 [.int x1]) := by rw [e6]; exact up_s
  exact W.vret (pc := 9) hx hb hr (fun t ht hW => c_ret (val := vV) (lw := jW) (u := N5) (v := ()) hw h ht) hw.2.2.2 dJ23_init_9 hlk

def wJ23_valueOf_23 (K : Nat → Nat → Nat) (post : Nat → NM → Prop) (x0 : Int32) (mc ms : Nat) (N : NM) : Prop :=
  1 ≤ mc ∧ 1 ≤ ms ∧ (∀ nq4, N nq4 = none → (∀ N6, N6 = va_up N nq4 (some (eO 22 [.int (0 : Int32)])) → (wJ23_init K (fun _ N10 => post nq4 N10) N6 nq4 x0)))
def wJ23_valueOf (K : Nat → Nat → Nat) (post : Nat → NM → Prop) (MC MS : Nat) (N : NM) (x0 : Int32) : Prop :=
  ((x0 < (-128 : Int32)) → (wJ23_valueOf_23 K post x0 MC MS N)) ∧ (¬ (x0 < (-128 : Int32)) → ((((127 : Int32) < x0) → (wJ23_valueOf_23 K post x0 MC MS N)) ∧ (¬ ((127 : Int32) < x0) → (vp_in (x0 + (128 : Int32)) 256 ∧ (post (K 3 (x0 + (128 : Int32)).toNatClampNeg) N)))))
theorem kJ23_valueOf_23 {p : Program} {l : Launch} {e : Env} {s : State} {m : MethodId} {args : Array Value} {below : List Frame} {meth : Method} {c : Code} {G : gG} {A : Nat → Prop} {MC MS : Nat} {post : Nat → NM → Prop} (X : cX G A RJ23 p s m args c cJ23_valueOf 1) (hr : meth.sig.returnType = (some (.object "java/lang/Integer"))) (hlk : meth.locks = false) : ∀ (x0 : Int32) (mc ms : Nat) (N : NM) (H : Heap) (locs : List Loc) (ls : Array Slot) (cells slots : Nat), wJ23_valueOf_23 (gC G) post x0 mc ms N → (cH G A s [] N H locs ∧ cells + mc ≤ MC ∧ slots + ms ≤ MS) → lv_has ls 1 [(0, .int x0)] → W p l e ⟨3, MC, MS, 61⟩ s m args below meth c H locs cells slots (MQ below (gQ vR post (fun u H => cBw G A (jW u).1 (jW u).2 H) A) args s MC MS A) (F0 m 23 ls []) := by
  have hx := X.1.1
  have hb := X.1.2.1
  have hml := X.1.2.2.1
  have hown := X.1.2.2.2.1
  have hts := X.1.2.2.2.2
  intro x0 mc ms N H locs ls cells slots h hw0 hl
  obtain ⟨hw, hbud⟩ := hw0
  unfold wJ23_valueOf_23 at h
  obtain ⟨hm2, hm3, h⟩ := h
  refine c_new (pc := 23) (ci := 22) (fs := [.int (0 : Int32)]) X hw in_J23 tyJ23 tyJ23_ok q987 q988 q135 rfl nf_J23 (show cells + 1 ≤ MC by omega) (show slots + 1 ≤ MS by omega) dJ23_valueOf_23 (fun nq4 H hq5 _ hw => ?_)
  have h := h nq4 hq5
  obtain ⟨N6, e7⟩ : ∃ z, z = va_up N nq4 (some (eO 22 [.int (0 : Int32)])) := ⟨_, rfl⟩
  have hw : cH G A s [] N6 H locs := by rw [e7]; exact hw
  have h := h N6 e7
  have hN8 : N6 nq4 = some (eO 22 [.int (0 : Int32)]) := by rw [e7]; exact up_s
  refine lv_dup (pc := 26) hx hb dJ23_valueOf_26 rfl ?_
  refine lv_iload_n (pc := 27) hx hb dJ23_valueOf_27 rfl (lv_at hl 0 rfl) ?_
  refine c_callJ (pc := 28) (val := vV) X hw (va_runI (As := [.int x0]) (rest := [.ref nq4]) X.1 (tJ23_init X.2.2.1 (sz := H.size) h) (cwI 1 hts (lw_meth q991) rfl rfl rfl (hts _ q135) (hts _ q989) (hts _ q990) rfl ⟨by decide, by decide, (by decide +kernel : (parseMethodDescriptor yJ23_init.desc).map (fun d => d.parameters.length) = some 1)⟩ ⟨Nat.le_of_ble_eq_true rfl, Nat.le_of_ble_eq_true rfl⟩) ⟨cPre_blind, fun U hU hW => ⟨rfl, X.preJ hw hU hW⟩⟩ rfl rfl hl.1 rfl (lv_room (Nat.le_of_ble_eq_true rfl)) dJ23_valueOf_28 ⟨show cells + 1 + 0 ≤ MC by omega, show slots + 1 + 0 ≤ MS by omega⟩) (fun _ N10 H locs h hw => ?_)
  refine W.eq (g2 := F0 m 31 ls ([.ref nq4])) rfl ?_
  refine W.widen (k := MC) (n := MS) (by omega) (by omega) ?_
  exact W.aret (pc := 31) (v := .ref nq4) hx hb hr (Or.inl ⟨_, rfl⟩) (Or.inr ⟨_, rfl⟩) (fun t ht hW => c_ret (val := vR) (lw := jW) (u := N10) hw h ht) hw.2.2.2 dJ23_valueOf_31 hlk
theorem tJ23_valueOf {l : Launch} {G : gG} (hO : gOk G) {post : Nat → NM → Prop} {MC MS : Nat} {N : NM} {x0 : Int32} {sz : Nat} (h : wJ23_valueOf (gC G) post MC MS N x0) : Met l yJ23_valueOf (ws_ yJ23_valueOf cJ23_valueOf 1 (some (.object "java/lang/Integer"))) ⟨3, MC, MS, 61⟩ (va_Pc [.int x0] (cPre G [] N sz)) (gQ vR post (fun u H => cBw G (cA [] N sz) (jW u).1 (jW u).2 H) (cA [] N sz)) MC MS (cA [] N sz) := by
  refine c_ofW (lw := jW) (by decide) hO (Nat.le_of_ble_eq_true rfl) (fun p e s m below meth c ls A X hr hlk hin hw hl => ?_)
  have hl : lv_has ls 1 [(0, .int x0)] := hl
  have hx := X.1.1
  have hb := X.1.2.1
  have hml := X.1.2.2.1
  have hown := X.1.2.2.2.1
  have hts := X.1.2.2.2.2
  obtain ⟨H, eH⟩ : ∃ z, z = s.heap := ⟨_, rfl⟩
  rw [← eH] at hw ⊢
  obtain ⟨locs, eLo⟩ : ∃ z : List Loc, z = [] := ⟨_, rfl⟩
  rw [← eLo] at hw ⊢
  have hbud : 0 + MC ≤ MC ∧ 0 + MS ≤ MS := by omega
  unfold wJ23_valueOf at h
  refine lv_iload_n (pc := 0) hx hb dJ23_valueOf_0 rfl (lv_at hl 0 rfl) ?_
  refine lv_bipush (pc := 1) (v := (-128 : Int32)) hx hb dJ23_valueOf_1 (by decide) ?_
  refine lv_icmp_lt (pc := 3) (tgt := 23) hx hb dJ23_valueOf_3 rfl (fun c1 => ?_) (fun c1 => ?_)
  · have h := h.1 c1
    exact kJ23_valueOf_23 X hr hlk  _ _ _ _ _ _ _ _ _ h ⟨hw, by omega⟩ (lv_sub hl [0] rfl)
  · have h := h.2 c1
    refine lv_iload_n (pc := 6) hx hb dJ23_valueOf_6 rfl (lv_at hl 0 rfl) ?_
    refine va_gets (pc := 7) hx hb (va_Z.narrow (X.2.2.2.1.Z X.cs.2.1.1) X.2.2.2.2.2) hw.2 hown (hts _ q983) (fun x h => h) dJ23_valueOf_7 ?_
    refine lv_icmp_gt (pc := 10) (tgt := 23) hx hb dJ23_valueOf_10 rfl (fun c11 => ?_) (fun c11 => ?_)
    · have h := h.1 c11
      exact kJ23_valueOf_23 X hr hlk  _ _ _ _ _ _ _ _ _ h ⟨hw, by omega⟩ (lv_sub hl [0] rfl)
    · have h := h.2 c11
      refine va_gets (pc := 13) hx hb (va_Z.narrow (X.2.2.2.1.Z X.cs.2.1.2.1) X.2.2.2.2.2) hw.2 hown (hts _ q985) (fun x h => h) dJ23_valueOf_13 ?_
      refine lv_iload_n (pc := 16) hx hb dJ23_valueOf_16 rfl (lv_at hl 0 rfl) ?_
      refine lv_sipush (pc := 17) (v := (128 : Int32)) hx hb dJ23_valueOf_17 (by decide) ?_
      refine lv_iadd (pc := 20) hx hb dJ23_valueOf_20 ?_
      obtain ⟨hi, h⟩ := h
      refine vb_tq (pc := 21) hx hb (X.T X.cs.2.1.2.2) hw.2 hi rfl dJ23_valueOf_21 ?_
      refine W.widen (k := MC) (n := MS) (by omega) (by omega) ?_
      exact W.aret (pc := 22) (v := .ref (gC G 3 (x0 + (128 : Int32)).toNatClampNeg)) hx hb hr (Or.inl ⟨_, rfl⟩) (Or.inr ⟨_, rfl⟩) (fun t ht hW => c_ret (val := vR) (lw := jW) (u := N) hw h ht) hw.2.2.2 dJ23_valueOf_22 hlk
