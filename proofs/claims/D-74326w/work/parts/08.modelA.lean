set_option maxRecDepth 100000
set_option maxHeartbeats 4000000
theorem sw_out4 {x : Int32} (c0 : ¬ x = (0 : Int32)) (c1 : ¬ x = (1 : Int32)) (c2 : ¬ x = (2 : Int32)) (c3 : ¬ x = (3 : Int32)) : x.toInt < 0 ∨ 3 < x.toInt := by
  have h0 : x.toInt ≠ 0 := fun z => c0 (Int32.toInt_inj.mp (z.trans (by decide)))
  have h1 : x.toInt ≠ 1 := fun z => c1 (Int32.toInt_inj.mp (z.trans (by decide)))
  have h2 : x.toInt ≠ 2 := fun z => c2 (Int32.toInt_inj.mp (z.trans (by decide)))
  have h3 : x.toInt ≠ 3 := fun z => c3 (Int32.toInt_inj.mp (z.trans (by decide)))
  omega
def wX1_four_3 (post : Unit → MS → Prop) : Nat → Int32 → Int32 → MS → Prop
  | 0, _, _, _ => False
  | n + 1, x1, x2, S => ((x2 < (0 : Int32)) → (post () S)) ∧ (¬ (x2 < (0 : Int32)) → (vp_in (S.1 3) 800 ∧ (wX1_four_3 post n x1 (x2 + (-8 : Int32)) (mI (mA S 2 (upd (S.2.2.1 2) (S.1 3).toNatClampNeg ((x1 >>> (x2 &&& 31)) &&& (255 : Int32)))) 3 ((S.1 3) + (1 : Int32))))))
def wX1_four (post : Unit → MS → Prop) (S : MS) (x1 : Int32) : Prop :=
  (∃ k, wX1_four_3 post k x1 (24 : Int32) S)
theorem kX1_four_3 {p : Program} {l : Launch} {e : Env} {s : State} {m : MethodId} {args : Array Value} {below : List Frame} {meth : Method} {c : Code} {G : gG} {h0 : Nat} {ad : Nat → Nat} {post : Unit → MS → Prop} (X : mX G h0 ad p s m args c cX1_four) (hml : c.maxLocals = 3) (hr : meth.sig.returnType = none) (hlk : meth.locks = false) : ∀ (n : Nat) (x1 : Int32) (x2 : Int32) (S : MS) (H : Heap) (locs : List Loc) (ls : Array Slot), wX1_four_3 post n x1 x2 S → mH G h0 ad s S H locs → lv_has ls 3 [(0, .ref h0), (1, .int x1), (2, .int x2)] → W p l e ⟨0, 0, 0, 0⟩ s m args below meth c H locs 0 0 (MQ below (gQ vV post (mBw G h0 ad) (mAd h0 ad)) args s 0 0 (mAd h0 ad)) (F0 m 3 ls []) := by
  have hx := X.1
  have hb := X.2.1
  have hown := X.2.2.1
  have hts := X.2.2.2.1
  intro n
  induction n with
  | zero =>
    intro x1 x2 S H locs ls h
    exact False.elim h
  | succ n ih =>
    intro x1 x2 S H locs ls h hw hl
    unfold wX1_four_3 at h
    refine lv_iload_n (pc := 3) hx hb dX1_four_3 rfl (lv_at hl 2 rfl) ?_
    refine lv_if_lt (pc := 4) (tgt := 39) hx hb dX1_four_4 rfl (fun c1 => ?_) (fun c1 => ?_)
    · have h := h.1 c1
      exact W.vret (pc := 39) hx hb hr (fun t ht hW => m_ret (val := vV) (v := ()) hw h ht) hw.2.2.2 dX1_four_39 hlk
    · have h := h.2 c1
      refine lv_aload_n (pc := 7) hx hb dX1_four_7 rfl (lv_at hl 0 rfl) ?_
      refine mg2 (pc := 8) X hw dX1_four_8 ?_
      refine lv_aload_n (pc := 11) hx hb dX1_four_11 rfl (lv_at hl 0 rfl) ?_
      refine mg3 (pc := 12) X hw dX1_four_12 ?_
      refine lv_iload_n (pc := 15) hx hb dX1_four_15 rfl (lv_at hl 1 rfl) ?_
      refine lv_iload_n (pc := 16) hx hb dX1_four_16 rfl (lv_at hl 2 rfl) ?_
      refine lv_ishr (pc := 17) hx hb dX1_four_17 ?_
      refine lv_sipush (pc := 18) (v := (255 : Int32)) hx hb dX1_four_18 (by decide) ?_
      refine lv_iand (pc := 21) hx hb dX1_four_21 ?_
      obtain ⟨hi, h⟩ := h
      refine ms2 (pc := 22) X hw hi dX1_four_22 (fun H locs hw => ?_)
      refine lv_aload_n (pc := 23) hx hb dX1_four_23 rfl (lv_at hl 0 rfl) ?_
      refine lv_dup (pc := 24) hx hb dX1_four_24 rfl ?_
      refine mg3 (pc := 25) X hw dX1_four_25 ?_
      refine lv_iconst (pc := 28) (v := (1 : Int32)) hx hb dX1_four_28 (by decide) ?_
      refine lv_iadd (pc := 29) hx hb dX1_four_29 ?_
      refine mp3 (pc := 30) X hw dX1_four_30 (fun H locs hw => ?_)
      refine lv_iinc (pc := 33) (v := x2 + (-8 : Int32)) (lv' := [(2, .int (x2 + (-8 : Int32))), (0, .ref h0), (1, .int x1)]) hx hb dX1_four_33 hl (k := 2) rfl rfl (by decide) rfl (fun ls hl => ?_)
      refine lv_goto (pc := 36) (tgt := 3) hx hb dX1_four_36 rfl ?_
      exact ih _ _ _ _ _ _ h hw (lv_sub hl [1, 2, 0] rfl)
theorem tX1_four {l : Launch} {G : gG} {h0 : Nat} {ad : Nat → Nat} (hd : mOk G h0 ad) {post : Unit → MS → Prop} {S : MS} {x1 : Int32} (h : wX1_four post S x1) : Met l yX1_four (ws_ yX1_four cX1_four 3 none) ⟨0, 0, 0, 0⟩ (va_Pc (.ref h0 :: [.int x1]) (fun U => mBw G h0 ad S U.heap ∧ gK G U)) (gQ vV post (mBw G h0 ad) (mAd h0 ad)) 0 0 (mAd h0 ad) := by
  refine m_ofW (by decide) rfl hd (Nat.le_of_ble_eq_true rfl) (fun p e s m below meth c ls X hml hr hlk hw hl => ?_)
  have hl : lv_has ls 3 [(0, .ref h0), (1, .int x1)] := hl
  have hx := X.1
  have hb := X.2.1
  have hown := X.2.2.1
  have hts := X.2.2.2.1
  unfold wX1_four at h
  refine lv_bipush (pc := 0) (v := (24 : Int32)) hx hb dX1_four_0 (by decide) ?_
  refine lv_istore_n (pc := 2) (lv' := [(2, .int (24 : Int32)), (0, .ref h0), (1, .int x1)]) hx hb dX1_four_2 rfl hl (by decide) rfl (fun ls hl => ?_)
  obtain ⟨k, h⟩ := h
  exact kX1_four_3 X hml hr hlk  k _ _ _ _ _ _ h hw (lv_sub hl [1, 2, 0] rfl)
theorem uX1_four {p : Program} {l : Launch} {e : Env} {R : Room} {s : State} {m : MethodId} {args : Array Value} {below : List Frame} {meth : Method} {c : Code} {H : Heap} {locs : List Loc} {cells slots : Nat} {Q : Jvm.State → Prop} {cc : ByteArray} {pc : Nat} {ls : Array Slot} {rest : List Value} {G : gG} {h0 : Nat} {ad : Nat → Nat} {post : Unit → MS → Prop} {S : MS} {x1 : Int32} {nL : Nat} (X : mX G h0 ad p s m args c cc) (hml : c.maxLocals = nL) (hw : mH G h0 ad s S H locs) (h : wX1_four post S x1) (hR : 0 + 1 ≤ R.frames ∧ 8 + (3 + 11) + 0 ≤ R.locals) (hsz : ls.size = nL) (hr : (rest.map fun v => v.category).sum ≤ 8) (hc : cells ≤ R.cells ∧ slots ≤ R.slots) (d : decode cc pc = .ok (.invokevirtual 118, 3)) (kk : ∀ (r : Unit) (S1 : MS) (H1 : Heap) (locs1 : List Loc), post r S1 → mH G h0 ad s S1 H1 locs1 → W p l e R s m args below meth c H1 locs1 cells slots Q (F0 m (pc + 3) ls (rest))) : W p l e R s m args below meth c H locs cells slots Q (F0 m pc ls (.int x1 :: .ref h0 :: rest)) :=
  m_call (val := vV) (post := post) (As := [.int x1]) X hml hw (tX1_four X.2.2.2.2.2.1 h) (lw_V q2112 q2114 qs46 q105 q2115) ⟨rfl, by decide, by decide, (by decide +kernel : (parseMethodDescriptor yX1_four.desc).map (fun d => d.parameters.length) = some 1)⟩ hR hsz hr hc d rfl kk

def wX1_isIn (post : Int32 → Prop) (x0 : Int64) (x2 : Int64) (x4 : Int64) : Prop :=
  ((x0 < x2) → (post (0 : Int32))) ∧ (¬ (x0 < x2) → (((x4 < x0) → (post (0 : Int32))) ∧ (¬ (x4 < x0) → (post (1 : Int32)))))
theorem tX1_isIn {l : Launch} {post : Int32 → Prop} {x0 : Int64} {x2 : Int64} {x4 : Int64} (h : wX1_isIn post x0 x2 x4) : Met l yX1_isIn (ws_ yX1_isIn cX1_isIn 6 (some .boolean)) ⟨0, 0, 0, 0⟩ (va_Pc [.long x0, .long x2, .long x4] (fun _ => True)) (pQ vI post) 0 0 (fun _ => False) := by
  refine s_ofW (by decide) (Nat.le_of_ble_eq_true rfl) (fun p e s m below meth c ls X hr hlk hl => ?_)
  have hl : lv_has ls 6 [(0, .long x0), (2, .long x2), (4, .long x4)] := hl
  have hx := X.1
  have hb := X.2.1
  have hml := X.2.2.1
  have hown := X.2.2.2.1
  have hts := X.2.2.2.2
  unfold wX1_isIn at h
  refine lv_lload_n (pc := 0) hx hb dX1_isIn_0 rfl (lv_at hl 0 rfl) ?_
  refine lv_lload_n (pc := 1) hx hb dX1_isIn_1 rfl (lv_at hl 1 rfl) ?_
  refine W.lcmp (pc := 2) hx hb dX1_isIn_2 ?_
  refine lv_if_lt (pc := 3) (tgt := 17) hx hb dX1_isIn_3 rfl (fun c1 => ?_) (fun c1 => ?_)
  · have h := h.1 ((lg_cmp_lt _ _).mp c1)
    refine lv_iconst (pc := 17) (v := (0 : Int32)) hx hb dX1_isIn_17 (by decide) ?_
    exact W.zret (pc := 18) hx hb hr rfl (fun t ht hW => s_ret (val := vI) h ht) (fun _ hq => absurd hq List.not_mem_nil) dX1_isIn_18 hlk
  · have h := h.2 (fun z => c1 ((lg_cmp_lt _ _).mpr z))
    refine lv_lload_n (pc := 6) hx hb dX1_isIn_6 rfl (lv_at hl 0 rfl) ?_
    refine lv_lload (pc := 7) hx hb dX1_isIn_7 (lv_at hl 2 rfl) ?_
    refine W.lcmp (pc := 9) hx hb dX1_isIn_9 ?_
    refine lv_if_gt (pc := 10) (tgt := 17) hx hb dX1_isIn_10 rfl (fun c2 => ?_) (fun c2 => ?_)
    · have h := h.1 ((lg_cmp_gt _ _).mp c2)
      refine lv_iconst (pc := 17) (v := (0 : Int32)) hx hb dX1_isIn_17 (by decide) ?_
      exact W.zret (pc := 18) hx hb hr rfl (fun t ht hW => s_ret (val := vI) h ht) (fun _ hq => absurd hq List.not_mem_nil) dX1_isIn_18 hlk
    · have h := h.2 (fun z => c2 ((lg_cmp_gt _ _).mpr z))
      refine lv_iconst (pc := 13) (v := (1 : Int32)) hx hb dX1_isIn_13 (by decide) ?_
      refine lv_goto (pc := 14) (tgt := 18) hx hb dX1_isIn_14 rfl ?_
      exact W.zret (pc := 18) hx hb hr rfl (fun t ht hW => s_ret (val := vI) h ht) (fun _ hq => absurd hq List.not_mem_nil) dX1_isIn_18 hlk
theorem uX1_isIn {p : Program} {l : Launch} {e : Env} {R : Room} {s : State} {m : MethodId} {args : Array Value} {below : List Frame} {meth : Method} {c : Code} {H : Heap} {locs : List Loc} {cells slots : Nat} {Q : Jvm.State → Prop} {cc : ByteArray} {pc : Nat} {ls : Array Slot} {rest : List Value} {post : Int32 → Prop} {x0 : Int64} {x2 : Int64} {x4 : Int64} {nL : Nat} (X : CallFix p m c cc nL s args lw_all RX1) (h : wX1_isIn post x0 x2 x4) (hR : 0 + 1 ≤ R.frames ∧ 8 + (6 + 11) + 0 ≤ R.locals) (hsz : ls.size = nL) (hr : (rest.map fun v => v.category).sum ≤ 8) (hc : cells ≤ R.cells ∧ slots ≤ R.slots) (d : decode cc pc = .ok (.invokestatic 105, 3)) (kk : ∀ r : Int32, post r → W p l e R s m args below meth c H locs cells slots Q (F0 m (pc + 3) ls (.int r :: rest))) : W p l e R s m args below meth c H locs cells slots Q (F0 m pc ls (.long x4 :: .long x2 :: .long x0 :: rest)) :=
  s_call (val := vI) (post := post) (As := [.long x0, .long x2, .long x4]) X (tX1_isIn h) (lw_S q2120 q2121 q105 q2122) ⟨by decide, by decide, (by decide +kernel : (parseMethodDescriptor yX1_isIn.desc).map (fun d => d.parameters.length) = some 3)⟩ hR hsz hr hc d rfl kk

def wX1_fault (post : Int32 → MS → Prop) (S : MS) (x1 : Int32) : Prop :=
  ((x1 = (0 : Int32)) → (post (S.1 4) S)) ∧ (¬ (x1 = (0 : Int32)) → (((x1 = (1 : Int32)) → (post (S.1 5) S)) ∧ (¬ (x1 = (1 : Int32)) → (((x1 = (2 : Int32)) → (post (S.1 6) S)) ∧ (¬ (x1 = (2 : Int32)) → (((x1 = (3 : Int32)) → (post (S.1 7) S)) ∧ (¬ (x1 = (3 : Int32)) → (post (-1 : Int32) S))))))))
theorem tX1_fault {l : Launch} {G : gG} {h0 : Nat} {ad : Nat → Nat} (hd : mOk G h0 ad) {post : Int32 → MS → Prop} {S : MS} {x1 : Int32} (h : wX1_fault post S x1) : Met l yX1_fault (ws_ yX1_fault cX1_fault 2 (some .int)) ⟨0, 0, 0, 0⟩ (va_Pc (.ref h0 :: [.int x1]) (fun U => mBw G h0 ad S U.heap ∧ gK G U)) (gQ vI post (mBw G h0 ad) (mAd h0 ad)) 0 0 (mAd h0 ad) := by
  refine m_ofW (by decide) rfl hd (Nat.le_of_ble_eq_true rfl) (fun p e s m below meth c ls X hml hr hlk hw hl => ?_)
  have hl : lv_has ls 2 [(0, .ref h0), (1, .int x1)] := hl
  have hx := X.1
  have hb := X.2.1
  have hown := X.2.2.1
  have hts := X.2.2.2.1
  unfold wX1_fault at h
  refine lv_iload_n (pc := 0) hx hb dX1_fault_0 rfl (lv_at hl 1 rfl) ?_
  refine lv_if_ne (pc := 1) (tgt := 11) hx hb dX1_fault_1 rfl (fun c1 => ?_) (fun c1 => ?_)
  · have h := h.2 c1
    refine lv_iload_n (pc := 11) hx hb dX1_fault_11 rfl (lv_at hl 1 rfl) ?_
    refine lv_iconst (pc := 12) (v := (1 : Int32)) hx hb dX1_fault_12 (by decide) ?_
    refine lv_icmp_ne (pc := 13) (tgt := 23) hx hb dX1_fault_13 rfl (fun c2 => ?_) (fun c2 => ?_)
    · have h := h.2 c2
      refine lv_iload_n (pc := 23) hx hb dX1_fault_23 rfl (lv_at hl 1 rfl) ?_
      refine lv_iconst (pc := 24) (v := (2 : Int32)) hx hb dX1_fault_24 (by decide) ?_
      refine lv_icmp_ne (pc := 25) (tgt := 35) hx hb dX1_fault_25 rfl (fun c3 => ?_) (fun c3 => ?_)
      · have h := h.2 c3
        refine lv_iload_n (pc := 35) hx hb dX1_fault_35 rfl (lv_at hl 1 rfl) ?_
        refine lv_iconst (pc := 36) (v := (3 : Int32)) hx hb dX1_fault_36 (by decide) ?_
        refine lv_icmp_ne (pc := 37) (tgt := 47) hx hb dX1_fault_37 rfl (fun c4 => ?_) (fun c4 => ?_)
        · have h := h.2 c4
          refine lv_iconst (pc := 47) (v := (-1 : Int32)) hx hb dX1_fault_47 (by decide) ?_
          exact W.iret (pc := 48) hx hb hr (fun t ht hW => m_ret (val := vI) hw h ht) hw.2.2.2 dX1_fault_48 hlk
        · have h := h.1 c4
          refine lv_aload_n (pc := 40) hx hb dX1_fault_40 rfl (lv_at hl 0 rfl) ?_
          refine mg7 (pc := 41) X hw dX1_fault_41 ?_
          refine lv_goto (pc := 44) (tgt := 48) hx hb dX1_fault_44 rfl ?_
          exact W.iret (pc := 48) hx hb hr (fun t ht hW => m_ret (val := vI) hw h ht) hw.2.2.2 dX1_fault_48 hlk
      · have h := h.1 c3
        refine lv_aload_n (pc := 28) hx hb dX1_fault_28 rfl (lv_at hl 0 rfl) ?_
        refine mg6 (pc := 29) X hw dX1_fault_29 ?_
        refine lv_goto (pc := 32) (tgt := 48) hx hb dX1_fault_32 rfl ?_
        exact W.iret (pc := 48) hx hb hr (fun t ht hW => m_ret (val := vI) hw h ht) hw.2.2.2 dX1_fault_48 hlk
    · have h := h.1 c2
      refine lv_aload_n (pc := 16) hx hb dX1_fault_16 rfl (lv_at hl 0 rfl) ?_
      refine mg5 (pc := 17) X hw dX1_fault_17 ?_
      refine lv_goto (pc := 20) (tgt := 48) hx hb dX1_fault_20 rfl ?_
      exact W.iret (pc := 48) hx hb hr (fun t ht hW => m_ret (val := vI) hw h ht) hw.2.2.2 dX1_fault_48 hlk
  · have h := h.1 c1
    refine lv_aload_n (pc := 4) hx hb dX1_fault_4 rfl (lv_at hl 0 rfl) ?_
    refine mg4 (pc := 5) X hw dX1_fault_5 ?_
    refine lv_goto (pc := 8) (tgt := 48) hx hb dX1_fault_8 rfl ?_
    exact W.iret (pc := 48) hx hb hr (fun t ht hW => m_ret (val := vI) hw h ht) hw.2.2.2 dX1_fault_48 hlk

def wX1_see (post : Int32 → MS → Prop) (S : MS) (x1 : Int32) : Prop :=
  (((S.1 3) ≤ x1) → (post (-1 : Int32) S)) ∧ (¬ ((S.1 3) ≤ x1) → (vp_in x1 800 ∧ (post (S.2.2.1 2 x1.toNatClampNeg) S)))
theorem tX1_see {l : Launch} {G : gG} {h0 : Nat} {ad : Nat → Nat} (hd : mOk G h0 ad) {post : Int32 → MS → Prop} {S : MS} {x1 : Int32} (h : wX1_see post S x1) : Met l yX1_see (ws_ yX1_see cX1_see 2 (some .int)) ⟨0, 0, 0, 0⟩ (va_Pc (.ref h0 :: [.int x1]) (fun U => mBw G h0 ad S U.heap ∧ gK G U)) (gQ vI post (mBw G h0 ad) (mAd h0 ad)) 0 0 (mAd h0 ad) := by
  refine m_ofW (by decide) rfl hd (Nat.le_of_ble_eq_true rfl) (fun p e s m below meth c ls X hml hr hlk hw hl => ?_)
  have hl : lv_has ls 2 [(0, .ref h0), (1, .int x1)] := hl
  have hx := X.1
  have hb := X.2.1
  have hown := X.2.2.1
  have hts := X.2.2.2.1
  unfold wX1_see at h
  refine lv_iload_n (pc := 0) hx hb dX1_see_0 rfl (lv_at hl 1 rfl) ?_
  refine lv_aload_n (pc := 1) hx hb dX1_see_1 rfl (lv_at hl 0 rfl) ?_
  refine mg3 (pc := 2) X hw dX1_see_2 ?_
  refine lv_icmp_ge (pc := 5) (tgt := 17) hx hb dX1_see_5 rfl (fun c1 => ?_) (fun c1 => ?_)
  · have h := h.1 c1
    refine lv_iconst (pc := 17) (v := (-1 : Int32)) hx hb dX1_see_17 (by decide) ?_
    exact W.iret (pc := 18) hx hb hr (fun t ht hW => m_ret (val := vI) hw h ht) hw.2.2.2 dX1_see_18 hlk
  · have h := h.2 c1
    refine lv_aload_n (pc := 8) hx hb dX1_see_8 rfl (lv_at hl 0 rfl) ?_
    refine mg2 (pc := 9) X hw dX1_see_9 ?_
    refine lv_iload_n (pc := 12) hx hb dX1_see_12 rfl (lv_at hl 1 rfl) ?_
    obtain ⟨hi, h⟩ := h
    refine ma2 (pc := 13) X hw hi dX1_see_13 ?_
    refine lv_goto (pc := 14) (tgt := 18) hx hb dX1_see_14 rfl ?_
    exact W.iret (pc := 18) hx hb hr (fun t ht hW => m_ret (val := vI) hw h ht) hw.2.2.2 dX1_see_18 hlk
theorem uX1_see {p : Program} {l : Launch} {e : Env} {R : Room} {s : State} {m : MethodId} {args : Array Value} {below : List Frame} {meth : Method} {c : Code} {H : Heap} {locs : List Loc} {cells slots : Nat} {Q : Jvm.State → Prop} {cc : ByteArray} {pc : Nat} {ls : Array Slot} {rest : List Value} {G : gG} {h0 : Nat} {ad : Nat → Nat} {post : Int32 → MS → Prop} {S : MS} {x1 : Int32} {nL : Nat} (X : mX G h0 ad p s m args c cc) (hml : c.maxLocals = nL) (hw : mH G h0 ad s S H locs) (h : wX1_see post S x1) (hR : 0 + 1 ≤ R.frames ∧ 8 + (2 + 11) + 0 ≤ R.locals) (hsz : ls.size = nL) (hr : (rest.map fun v => v.category).sum ≤ 8) (hc : cells ≤ R.cells ∧ slots ≤ R.slots) (d : decode cc pc = .ok (.invokevirtual 125, 3)) (kk : ∀ (r : Int32) (S1 : MS) (H1 : Heap) (locs1 : List Loc), post r S1 → mH G h0 ad s S1 H1 locs1 → W p l e R s m args below meth c H1 locs1 cells slots Q (F0 m (pc + 3) ls (.int r :: rest))) : W p l e R s m args below meth c H locs cells slots Q (F0 m pc ls (.int x1 :: .ref h0 :: rest)) :=
  m_call (val := vI) (post := post) (As := [.int x1]) X hml hw (tX1_see X.2.2.2.2.2.1 h) (lw_V q2139 q2141 qs49 q105 q2142) ⟨rfl, by decide, by decide, (by decide +kernel : (parseMethodDescriptor yX1_see.desc).map (fun d => d.parameters.length) = some 1)⟩ hR hsz hr hc d rfl kk

def wX1_isSlot (post : Int32 → Prop) (x0 : Int32) : Prop :=
  wX1_isIn (fun r1 => isB r1 ∧ post r1) x0.toInt64 (0 : Int64) (3 : Int64)
theorem tX1_isSlot {l : Launch} {post : Int32 → Prop} {x0 : Int32} (h : wX1_isSlot post x0) : Met l yX1_isSlot (ws_ yX1_isSlot cX1_isSlot 1 (some .boolean)) ⟨1, 0, 0, 25⟩ (va_Pc [.int x0] (fun _ => True)) (pQ vI post) 0 0 (fun _ => False) := by
  refine s_ofW (by decide) (Nat.le_of_ble_eq_true rfl) (fun p e s m below meth c ls X hr hlk hl => ?_)
  have hl : lv_has ls 1 [(0, .int x0)] := hl
  have hx := X.1
  have hb := X.2.1
  have hml := X.2.2.1
  have hown := X.2.2.2.1
  have hts := X.2.2.2.2
  unfold wX1_isSlot at h
  refine lv_iload_n (pc := 0) hx hb dX1_isSlot_0 rfl (lv_at hl 0 rfl) ?_
  refine lv_i2l (pc := 1) hx hb dX1_isSlot_1 rfl ?_
  refine lv_lconst (pc := 2) (v := (0 : Int64)) hx hb dX1_isSlot_2 (by decide) ?_
  refine lv_ldc2 (pc := 3) hx hb hown (hts _ q2150) dX1_isSlot_3 ?_
  refine uX1_isIn (pc := 6) X h ⟨Nat.le_of_ble_eq_true rfl, Nat.le_of_ble_eq_true rfl⟩ hl.1 (Nat.le_of_ble_eq_true rfl) ⟨Nat.le_refl _, Nat.le_refl _⟩ dX1_isSlot_6 (fun r1 h => ?_)
  obtain ⟨hB, h⟩ := h
  exact W.zret (pc := 9) hx hb hr (isB_n hB) (fun t ht hW => s_ret (val := vI) h ht) (fun _ hq => absurd hq List.not_mem_nil) dX1_isSlot_9 hlk
theorem uX1_isSlot {p : Program} {l : Launch} {e : Env} {R : Room} {s : State} {m : MethodId} {args : Array Value} {below : List Frame} {meth : Method} {c : Code} {H : Heap} {locs : List Loc} {cells slots : Nat} {Q : Jvm.State → Prop} {cc : ByteArray} {pc : Nat} {ls : Array Slot} {rest : List Value} {post : Int32 → Prop} {x0 : Int32} {nL : Nat} (X : CallFix p m c cc nL s args lw_all RX1) (h : wX1_isSlot post x0) (hR : 1 + 1 ≤ R.frames ∧ 8 + (1 + 11) + 25 ≤ R.locals) (hsz : ls.size = nL) (hr : (rest.map fun v => v.category).sum ≤ 8) (hc : cells ≤ R.cells ∧ slots ≤ R.slots) (d : decode cc pc = .ok (.invokestatic 111, 3)) (kk : ∀ r : Int32, post r → W p l e R s m args below meth c H locs cells slots Q (F0 m (pc + 3) ls (.int r :: rest))) : W p l e R s m args below meth c H locs cells slots Q (F0 m pc ls (.int x0 :: rest)) :=
  s_call (val := vI) (post := post) (As := [.int x0]) X (tX1_isSlot h) (lw_S q2147 q2148 q105 q2149) ⟨by decide, by decide, (by decide +kernel : (parseMethodDescriptor yX1_isSlot.desc).map (fun d => d.parameters.length) = some 1)⟩ hR hsz hr hc d rfl kk

def wX1_isNumber (post : Int32 → MS → Prop) (S : MS) : Prop :=
  (((S.1 12) = (2 : Int32)) → ((((4 : Int32) < ((S.1 14) - (S.1 13))) → (post (0 : Int32) S)) ∧ (¬ ((4 : Int32) < ((S.1 14) - (S.1 13))) → (post (1 : Int32) S)))) ∧ (¬ ((S.1 12) = (2 : Int32)) → (post (0 : Int32) S))
theorem tX1_isNumber {l : Launch} {G : gG} {h0 : Nat} {ad : Nat → Nat} (hd : mOk G h0 ad) {post : Int32 → MS → Prop} {S : MS} (h : wX1_isNumber post S) : Met l yX1_isNumber (ws_ yX1_isNumber cX1_isNumber 1 (some .boolean)) ⟨0, 0, 0, 0⟩ (va_Pc (.ref h0 :: []) (fun U => mBw G h0 ad S U.heap ∧ gK G U)) (gQ vI post (mBw G h0 ad) (mAd h0 ad)) 0 0 (mAd h0 ad) := by
  refine m_ofW (by decide) rfl hd (Nat.le_of_ble_eq_true rfl) (fun p e s m below meth c ls X hml hr hlk hw hl => ?_)
  have hl : lv_has ls 1 [(0, .ref h0)] := hl
  have hx := X.1
  have hb := X.2.1
  have hown := X.2.2.1
  have hts := X.2.2.2.1
  unfold wX1_isNumber at h
  refine lv_aload_n (pc := 0) hx hb dX1_isNumber_0 rfl (lv_at hl 0 rfl) ?_
  refine mg12 (pc := 1) X hw dX1_isNumber_1 ?_
  refine lv_iconst (pc := 4) (v := (2 : Int32)) hx hb dX1_isNumber_4 (by decide) ?_
  refine lv_icmp_ne (pc := 5) (tgt := 25) hx hb dX1_isNumber_5 rfl (fun c1 => ?_) (fun c1 => ?_)
  · have h := h.2 c1
    refine lv_iconst (pc := 25) (v := (0 : Int32)) hx hb dX1_isNumber_25 (by decide) ?_
    exact W.zret (pc := 26) hx hb hr rfl (fun t ht hW => m_ret (val := vI) hw h ht) hw.2.2.2 dX1_isNumber_26 hlk
  · have h := h.1 c1
    refine lv_aload_n (pc := 8) hx hb dX1_isNumber_8 rfl (lv_at hl 0 rfl) ?_
    refine mg14 (pc := 9) X hw dX1_isNumber_9 ?_
    refine lv_aload_n (pc := 12) hx hb dX1_isNumber_12 rfl (lv_at hl 0 rfl) ?_
    refine mg13 (pc := 13) X hw dX1_isNumber_13 ?_
    refine lv_isub (pc := 16) hx hb dX1_isNumber_16 ?_
    refine lv_iconst (pc := 17) (v := (4 : Int32)) hx hb dX1_isNumber_17 (by decide) ?_
    refine lv_icmp_gt (pc := 18) (tgt := 25) hx hb dX1_isNumber_18 rfl (fun c2 => ?_) (fun c2 => ?_)
    · have h := h.1 c2
      refine lv_iconst (pc := 25) (v := (0 : Int32)) hx hb dX1_isNumber_25 (by decide) ?_
      exact W.zret (pc := 26) hx hb hr rfl (fun t ht hW => m_ret (val := vI) hw h ht) hw.2.2.2 dX1_isNumber_26 hlk
    · have h := h.2 c2
      refine lv_iconst (pc := 21) (v := (1 : Int32)) hx hb dX1_isNumber_21 (by decide) ?_
      refine lv_goto (pc := 22) (tgt := 26) hx hb dX1_isNumber_22 rfl ?_
      exact W.zret (pc := 26) hx hb hr rfl (fun t ht hW => m_ret (val := vI) hw h ht) hw.2.2.2 dX1_isNumber_26 hlk
theorem uX1_isNumber {p : Program} {l : Launch} {e : Env} {R : Room} {s : State} {m : MethodId} {args : Array Value} {below : List Frame} {meth : Method} {c : Code} {H : Heap} {locs : List Loc} {cells slots : Nat} {Q : Jvm.State → Prop} {cc : ByteArray} {pc : Nat} {ls : Array Slot} {rest : List Value} {G : gG} {h0 : Nat} {ad : Nat → Nat} {post : Int32 → MS → Prop} {S : MS} {nL : Nat} (X : mX G h0 ad p s m args c cc) (hml : c.maxLocals = nL) (hw : mH G h0 ad s S H locs) (h : wX1_isNumber post S) (hR : 0 + 1 ≤ R.frames ∧ 8 + (1 + 11) + 0 ≤ R.locals) (hsz : ls.size = nL) (hr : (rest.map fun v => v.category).sum ≤ 8) (hc : cells ≤ R.cells ∧ slots ≤ R.slots) (d : decode cc pc = .ok (.invokevirtual 214, 3)) (kk : ∀ (r : Int32) (S1 : MS) (H1 : Heap) (locs1 : List Loc), post r S1 → mH G h0 ad s S1 H1 locs1 → W p l e R s m args below meth c H1 locs1 cells slots Q (F0 m (pc + 3) ls (.int r :: rest))) : W p l e R s m args below meth c H locs cells slots Q (F0 m pc ls (.ref h0 :: rest)) :=
  m_call (val := vI) (post := post) (As := []) X hml hw (tX1_isNumber X.2.2.2.2.2.1 h) (lw_V q2155 q2157 qs51 q105 q2158) ⟨rfl, by decide, by decide, (by decide +kernel : (parseMethodDescriptor yX1_isNumber.desc).map (fun d => d.parameters.length) = some 0)⟩ hR hsz hr hc d rfl kk

def wX1_packed_4 (post : Int64 → Prop) : Nat → Nat → Int64 → Int32 → Prop
  | 0, _, _, _ => False
  | n + 1, x0, x1, x3 => x0 < sN ∧ ((((nI (sLen.getD x0 0)) ≤ x3) → (post x1)) ∧ (¬ ((nI (sLen.getD x0 0)) ≤ x3) → (x0 < sN ∧ vp_in x3 (sLen.getD x0 0) ∧ (wX1_packed_4 post n x0 ((x1 <<< ((5 : Int32).toInt64 &&& 63)) ||| (((sCh x0 x3.toNatClampNeg) - (96 : Int32)).toInt64)) (x3 + (1 : Int32))))))
def wX1_packed (post : Int64 → Prop) (x0 : Nat) : Prop :=
  (∃ k, wX1_packed_4 post k x0 (0 : Int64) (0 : Int32))
theorem kX1_packed_4 {p : Program} {l : Launch} {e : Env} {s : State} {m : MethodId} {args : Array Value} {below : List Frame} {meth : Method} {c : Code} {G : gG} {post : Int64 → Prop} (X : CallFix p m c cX1_packed 4 s args lw_all RX1) (hr : meth.sig.returnType = (some .long)) (hlk : meth.locks = false) (hO : gOk G) (hP : gK G s) : ∀ (n : Nat) (x0 : Nat) (x1 : Int64) (x3 : Int32) (ls : Array Slot), wX1_packed_4 post n x0 x1 x3 → True → lv_has ls 4 [(0, .ref (gC G 0 x0)), (1, .long x1), (3, .int x3)] → W p l e ⟨4, 0, 0, 85⟩ s m args below meth c s.heap [] 0 0 (MQ below (pQ vL post) args s 0 0 (fun _ => False)) (F0 m 4 ls []) := by
  have hx := X.1
  have hb := X.2.1
  have hml := X.2.2.1
  have hown := X.2.2.2.1
  have hts := X.2.2.2.2
  intro n
  induction n with
  | zero =>
    intro x0 x1 x3 ls h
    exact False.elim h
  | succ n ih =>
    intro x0 x1 x3 ls h _ hl
    unfold wX1_packed_4 at h
    refine lv_iload_n (pc := 4) hx hb dX1_packed_4 rfl (lv_at hl 2 rfl) ?_
    refine lv_aload_n (pc := 5) hx hb dX1_packed_5 rfl (lv_at hl 0 rfl) ?_
    obtain ⟨hT, h⟩ := h
    refine str_len (pc := 6) X hO (sAt.const hO hP vS_gz (fun _ z => z) hT) (fun U hU hW => hP.self hU hW)  (lw_V q2168 q696 q697 q111 q698) ⟨Nat.le_of_ble_eq_true rfl, Nat.le_of_ble_eq_true rfl⟩ hl.1 (Nat.le_of_ble_eq_true rfl) ⟨Nat.le_refl _, Nat.le_refl _⟩ dX1_packed_6 ?_
    refine lv_icmp_ge (pc := 9) (tgt := 32) hx hb dX1_packed_9 rfl (fun c1 => ?_) (fun c1 => ?_)
    · have h := h.1 c1
      refine lv_lload_n (pc := 32) hx hb dX1_packed_32 rfl (lv_at hl 1 rfl) ?_
      exact W.lret (pc := 33) hx hb hr (fun t ht hW => s_ret (val := vL) h ht) (fun _ hq => absurd hq List.not_mem_nil) dX1_packed_33 hlk
    · have h := h.2 c1
      refine lv_lload_n (pc := 12) hx hb dX1_packed_12 rfl (lv_at hl 1 rfl) ?_
      refine lv_iconst (pc := 13) (v := (5 : Int32)) hx hb dX1_packed_13 (by decide) ?_
      refine lv_lshl (pc := 14) hx hb dX1_packed_14 rfl ?_
      refine lv_aload_n (pc := 15) hx hb dX1_packed_15 rfl (lv_at hl 0 rfl) ?_
      refine lv_iload_n (pc := 16) hx hb dX1_packed_16 rfl (lv_at hl 2 rfl) ?_
      obtain ⟨hT, h⟩ := h
      obtain ⟨hi, h⟩ := h
      refine str_charAt (pc := 17) X hO (sAt.const hO hP vS_gz (fun _ z => z) hT) (sLen_lt _) (fun U hU hW => hP.self hU hW) hi (lw_V q2172 q1451 q1452 q111 q1453) ⟨Nat.le_of_ble_eq_true rfl, Nat.le_of_ble_eq_true rfl⟩ hl.1 (Nat.le_of_ble_eq_true rfl) ⟨Nat.le_refl _, Nat.le_refl _⟩ dX1_packed_17 ?_
      refine lv_bipush (pc := 20) (v := (96 : Int32)) hx hb dX1_packed_20 (by decide) ?_
      refine lv_isub (pc := 22) hx hb dX1_packed_22 ?_
      refine lv_i2l (pc := 23) hx hb dX1_packed_23 rfl ?_
      refine lv_lor (pc := 24) hx hb dX1_packed_24 ?_
      refine lv_lstore_n (pc := 25) (lv' := [(1, .long ((x1 <<< ((5 : Int32).toInt64 &&& 63)) ||| (((sCh x0 x3.toNatClampNeg) - (96 : Int32)).toInt64))), (0, .ref (gC G 0 x0)), (3, .int x3)]) hx hb dX1_packed_25 rfl hl (by decide) rfl (fun ls hl => ?_)
      refine lv_iinc (pc := 26) (v := x3 + (1 : Int32)) (lv' := [(3, .int (x3 + (1 : Int32))), (1, .long ((x1 <<< ((5 : Int32).toInt64 &&& 63)) ||| (((sCh x0 x3.toNatClampNeg) - (96 : Int32)).toInt64))), (0, .ref (gC G 0 x0))]) hx hb dX1_packed_26 hl (k := 2) rfl rfl (by decide) rfl (fun ls hl => ?_)
      refine lv_goto (pc := 29) (tgt := 4) hx hb dX1_packed_29 rfl ?_
      exact ih _ _ _ _ h trivial (lv_sub hl [2, 1, 0] rfl)
theorem tX1_packed {l : Launch} {G : gG} (hO : gOk G) {post : Int64 → Prop} {x0 : Nat} (h : wX1_packed post x0) : Met l yX1_packed (ws_ yX1_packed cX1_packed 4 (some .long)) ⟨4, 0, 0, 85⟩ (va_Pc [.ref (gC G 0 x0)] (gK G)) (pQ vL post) 0 0 (fun _ => False) := by
  refine h_ofW (by decide) (Nat.le_of_ble_eq_true rfl) (fun p e s m below meth c ls X hr hlk hl hP => ?_)
  have hl : lv_has ls 4 [(0, .ref (gC G 0 x0))] := hl
  have hx := X.1
  have hb := X.2.1
  have hml := X.2.2.1
  have hown := X.2.2.2.1
  have hts := X.2.2.2.2
  unfold wX1_packed at h
  refine lv_lconst (pc := 0) (v := (0 : Int64)) hx hb dX1_packed_0 (by decide) ?_
  refine lv_lstore_n (pc := 1) (lv' := [(1, .long (0 : Int64)), (0, .ref (gC G 0 x0))]) hx hb dX1_packed_1 rfl hl (by decide) rfl (fun ls hl => ?_)
  refine lv_iconst (pc := 2) (v := (0 : Int32)) hx hb dX1_packed_2 (by decide) ?_
  refine lv_istore_n (pc := 3) (lv' := [(3, .int (0 : Int32)), (1, .long (0 : Int64)), (0, .ref (gC G 0 x0))]) hx hb dX1_packed_3 rfl hl (by decide) rfl (fun ls hl => ?_)
  obtain ⟨k, h⟩ := h
  exact kX1_packed_4 X hr hlk hO hP  k _ _ _ _ h trivial (lv_sub hl [2, 1, 0] rfl)
theorem uX1_packed {p : Program} {l : Launch} {e : Env} {R : Room} {s : State} {m : MethodId} {args : Array Value} {below : List Frame} {meth : Method} {c : Code} {H : Heap} {locs : List Loc} {cells slots : Nat} {Q : Jvm.State → Prop} {cc : ByteArray} {pc : Nat} {ls : Array Slot} {rest : List Value} {G : gG} {h0 : Nat} {ad : Nat → Nat} {S : MS} {post : Int64 → Prop} {x0 : Nat} {nL : Nat} (X : mX G h0 ad p s m args c cc) (hml : c.maxLocals = nL) (hw : mH G h0 ad s S H locs) (h : wX1_packed post x0) (hR : 4 + 1 ≤ R.frames ∧ 8 + (4 + 11) + 85 ≤ R.locals) (hsz : ls.size = nL) (hr : (rest.map fun v => v.category).sum ≤ 8) (hc : cells ≤ R.cells ∧ slots ≤ R.slots) (d : decode cc pc = .ok (.invokestatic 180, 3)) (kk : ∀ r : Int64, post r → W p l e R s m args below meth c H locs cells slots Q (F0 m (pc + 3) ls (.long r :: rest))) : W p l e R s m args below meth c H locs cells slots Q (F0 m pc ls (.ref (gC G 0 x0) :: rest)) :=
  h_callS (val := vL) (post := post) (As := [.ref (gC G 0 x0)]) ⟨X.1, X.2.1, hml, X.2.2.1, X.2.2.2.1⟩ (tX1_packed X.2.2.2.2.2.1.2.1 h) gK_blind (fun U hU hW => X.go hw hU hW) (lw_S q2169 q2170 q105 q2171) ⟨by decide, by decide, (by decide +kernel : (parseMethodDescriptor yX1_packed.desc).map (fun d => d.parameters.length) = some 1)⟩ hR hsz hr hc d rfl kk

def wX1_fails (post : Int32 → MS → Prop) (S : MS) (x1 : Int32) : Prop :=
  (((S.1 8) = (0 : Int32)) → (post (0 : Int32) (mI (mI (mI (mI S 8 x1) 9 (S.1 13)) 10 (S.1 18)) 11 (S.1 19)))) ∧ (¬ ((S.1 8) = (0 : Int32)) → (post (0 : Int32) S))
theorem tX1_fails {l : Launch} {G : gG} {h0 : Nat} {ad : Nat → Nat} (hd : mOk G h0 ad) {post : Int32 → MS → Prop} {S : MS} {x1 : Int32} (h : wX1_fails post S x1) : Met l yX1_fails (ws_ yX1_fails cX1_fails 2 (some .boolean)) ⟨0, 0, 0, 0⟩ (va_Pc (.ref h0 :: [.int x1]) (fun U => mBw G h0 ad S U.heap ∧ gK G U)) (gQ vI post (mBw G h0 ad) (mAd h0 ad)) 0 0 (mAd h0 ad) := by
  refine m_ofW (by decide) rfl hd (Nat.le_of_ble_eq_true rfl) (fun p e s m below meth c ls X hml hr hlk hw hl => ?_)
  have hl : lv_has ls 2 [(0, .ref h0), (1, .int x1)] := hl
  have hx := X.1
  have hb := X.2.1
  have hown := X.2.2.1
  have hts := X.2.2.2.1
  unfold wX1_fails at h
  refine lv_aload_n (pc := 0) hx hb dX1_fails_0 rfl (lv_at hl 0 rfl) ?_
  refine mg8 (pc := 1) X hw dX1_fails_1 ?_
  refine lv_if_eq (pc := 4) (tgt := 9) hx hb dX1_fails_4 rfl (fun c1 => ?_) (fun c1 => ?_)
  · have h := h.1 c1
    refine lv_aload_n (pc := 9) hx hb dX1_fails_9 rfl (lv_at hl 0 rfl) ?_
    refine lv_iload_n (pc := 10) hx hb dX1_fails_10 rfl (lv_at hl 1 rfl) ?_
    refine mp8 (pc := 11) X hw dX1_fails_11 (fun H locs hw => ?_)
    refine lv_aload_n (pc := 14) hx hb dX1_fails_14 rfl (lv_at hl 0 rfl) ?_
    refine lv_aload_n (pc := 15) hx hb dX1_fails_15 rfl (lv_at hl 0 rfl) ?_
    refine mg13 (pc := 16) X hw dX1_fails_16 ?_
    refine mp9 (pc := 19) X hw dX1_fails_19 (fun H locs hw => ?_)
    refine lv_aload_n (pc := 22) hx hb dX1_fails_22 rfl (lv_at hl 0 rfl) ?_
    refine lv_aload_n (pc := 23) hx hb dX1_fails_23 rfl (lv_at hl 0 rfl) ?_
    refine mg18 (pc := 24) X hw dX1_fails_24 ?_
    refine mp10 (pc := 27) X hw dX1_fails_27 (fun H locs hw => ?_)
    refine lv_aload_n (pc := 30) hx hb dX1_fails_30 rfl (lv_at hl 0 rfl) ?_
    refine lv_aload_n (pc := 31) hx hb dX1_fails_31 rfl (lv_at hl 0 rfl) ?_
    refine mg19 (pc := 32) X hw dX1_fails_32 ?_
    refine mp11 (pc := 35) X hw dX1_fails_35 (fun H locs hw => ?_)
    refine lv_iconst (pc := 38) (v := (0 : Int32)) hx hb dX1_fails_38 (by decide) ?_
    exact W.zret (pc := 39) hx hb hr rfl (fun t ht hW => m_ret (val := vI) hw h ht) hw.2.2.2 dX1_fails_39 hlk
  · have h := h.2 c1
    refine lv_iconst (pc := 7) (v := (0 : Int32)) hx hb dX1_fails_7 (by decide) ?_
    exact W.zret (pc := 8) hx hb hr rfl (fun t ht hW => m_ret (val := vI) hw h ht) hw.2.2.2 dX1_fails_8 hlk
theorem uX1_fails {p : Program} {l : Launch} {e : Env} {R : Room} {s : State} {m : MethodId} {args : Array Value} {below : List Frame} {meth : Method} {c : Code} {H : Heap} {locs : List Loc} {cells slots : Nat} {Q : Jvm.State → Prop} {cc : ByteArray} {pc : Nat} {ls : Array Slot} {rest : List Value} {G : gG} {h0 : Nat} {ad : Nat → Nat} {post : Int32 → MS → Prop} {S : MS} {x1 : Int32} {nL : Nat} (X : mX G h0 ad p s m args c cc) (hml : c.maxLocals = nL) (hw : mH G h0 ad s S H locs) (h : wX1_fails post S x1) (hR : 0 + 1 ≤ R.frames ∧ 8 + (2 + 11) + 0 ≤ R.locals) (hsz : ls.size = nL) (hr : (rest.map fun v => v.category).sum ≤ 8) (hc : cells ≤ R.cells ∧ slots ≤ R.slots) (d : decode cc pc = .ok (.invokevirtual 187, 3)) (kk : ∀ (r : Int32) (S1 : MS) (H1 : Heap) (locs1 : List Loc), post r S1 → mH G h0 ad s S1 H1 locs1 → W p l e R s m args below meth c H1 locs1 cells slots Q (F0 m (pc + 3) ls (.int r :: rest))) : W p l e R s m args below meth c H locs cells slots Q (F0 m pc ls (.int x1 :: .ref h0 :: rest)) :=
  m_call (val := vI) (post := post) (As := [.int x1]) X hml hw (tX1_fails X.2.2.2.2.2.1 h) (lw_V q2177 q2179 qs54 q105 q2180) ⟨rfl, by decide, by decide, (by decide +kernel : (parseMethodDescriptor yX1_fails.desc).map (fun d => d.parameters.length) = some 1)⟩ hR hsz hr hc d rfl kk

def wX1_plain (post : Int64 → Prop) (x0 : Int32) (x1 : Int64) : Prop :=
  ((x0 = (0 : Int32)) → (post x1)) ∧ (¬ (x0 = (0 : Int32)) → (((x0 = (1 : Int32)) → (post (x1 * x1))) ∧ (¬ (x0 = (1 : Int32)) → (((x0 = (2 : Int32)) → (post ((x1 * x1) * x1))) ∧ (¬ (x0 = (2 : Int32)) → (((x0 = (3 : Int32)) → (post (((x1 * x1) * x1) * x1))) ∧ (¬ (x0 = (3 : Int32)) → (post ((x1 * (x1 + (1 : Int64))) / (2 : Int64))))))))))
theorem tX1_plain {l : Launch} {post : Int64 → Prop} {x0 : Int32} {x1 : Int64} (h : wX1_plain post x0 x1) : Met l yX1_plain (ws_ yX1_plain cX1_plain 3 (some .long)) ⟨0, 0, 0, 0⟩ (va_Pc [.int x0, .long x1] (fun _ => True)) (pQ vL post) 0 0 (fun _ => False) := by
  refine s_ofW (by decide) (Nat.le_of_ble_eq_true rfl) (fun p e s m below meth c ls X hr hlk hl => ?_)
  have hl : lv_has ls 3 [(0, .int x0), (1, .long x1)] := hl
  have hx := X.1
  have hb := X.2.1
  have hml := X.2.2.1
  have hown := X.2.2.2.1
  have hts := X.2.2.2.2
  unfold wX1_plain at h
  refine lv_iload_n (pc := 0) hx hb dX1_plain_0 rfl (lv_at hl 0 rfl) ?_
  refine lv_if_ne (pc := 1) (tgt := 8) hx hb dX1_plain_1 rfl (fun c1 => ?_) (fun c1 => ?_)
  · have h := h.2 c1
    refine lv_iload_n (pc := 8) hx hb dX1_plain_8 rfl (lv_at hl 0 rfl) ?_
    refine lv_iconst (pc := 9) (v := (1 : Int32)) hx hb dX1_plain_9 (by decide) ?_
    refine lv_icmp_ne (pc := 10) (tgt := 19) hx hb dX1_plain_10 rfl (fun c2 => ?_) (fun c2 => ?_)
    · have h := h.2 c2
      refine lv_iload_n (pc := 19) hx hb dX1_plain_19 rfl (lv_at hl 0 rfl) ?_
      refine lv_iconst (pc := 20) (v := (2 : Int32)) hx hb dX1_plain_20 (by decide) ?_
      refine lv_icmp_ne (pc := 21) (tgt := 32) hx hb dX1_plain_21 rfl (fun c3 => ?_) (fun c3 => ?_)
      · have h := h.2 c3
        refine lv_iload_n (pc := 32) hx hb dX1_plain_32 rfl (lv_at hl 0 rfl) ?_
        refine lv_iconst (pc := 33) (v := (3 : Int32)) hx hb dX1_plain_33 (by decide) ?_
        refine lv_icmp_ne (pc := 34) (tgt := 47) hx hb dX1_plain_34 rfl (fun c4 => ?_) (fun c4 => ?_)
        · have h := h.2 c4
          refine lv_lload_n (pc := 47) hx hb dX1_plain_47 rfl (lv_at hl 1 rfl) ?_
          refine lv_lload_n (pc := 48) hx hb dX1_plain_48 rfl (lv_at hl 1 rfl) ?_
          refine lv_lconst (pc := 49) (v := (1 : Int64)) hx hb dX1_plain_49 (by decide) ?_
          refine lv_ladd (pc := 50) hx hb dX1_plain_50 ?_
          refine lv_lmul (pc := 51) hx hb dX1_plain_51 ?_
          refine lv_ldc2 (pc := 52) hx hb hown (hts _ q2188) dX1_plain_52 ?_
          refine lv_ldiv (pc := 55) hx hb dX1_plain_55 (by decide) ?_
          exact W.lret (pc := 56) hx hb hr (fun t ht hW => s_ret (val := vL) h ht) (fun _ hq => absurd hq List.not_mem_nil) dX1_plain_56 hlk
        · have h := h.1 c4
          refine lv_lload_n (pc := 37) hx hb dX1_plain_37 rfl (lv_at hl 1 rfl) ?_
          refine lv_lload_n (pc := 38) hx hb dX1_plain_38 rfl (lv_at hl 1 rfl) ?_
          refine lv_lmul (pc := 39) hx hb dX1_plain_39 ?_
          refine lv_lload_n (pc := 40) hx hb dX1_plain_40 rfl (lv_at hl 1 rfl) ?_
          refine lv_lmul (pc := 41) hx hb dX1_plain_41 ?_
          refine lv_lload_n (pc := 42) hx hb dX1_plain_42 rfl (lv_at hl 1 rfl) ?_
          refine lv_lmul (pc := 43) hx hb dX1_plain_43 ?_
          refine lv_goto (pc := 44) (tgt := 56) hx hb dX1_plain_44 rfl ?_
          exact W.lret (pc := 56) hx hb hr (fun t ht hW => s_ret (val := vL) h ht) (fun _ hq => absurd hq List.not_mem_nil) dX1_plain_56 hlk
      · have h := h.1 c3
        refine lv_lload_n (pc := 24) hx hb dX1_plain_24 rfl (lv_at hl 1 rfl) ?_
        refine lv_lload_n (pc := 25) hx hb dX1_plain_25 rfl (lv_at hl 1 rfl) ?_
        refine lv_lmul (pc := 26) hx hb dX1_plain_26 ?_
        refine lv_lload_n (pc := 27) hx hb dX1_plain_27 rfl (lv_at hl 1 rfl) ?_
        refine lv_lmul (pc := 28) hx hb dX1_plain_28 ?_
        refine lv_goto (pc := 29) (tgt := 56) hx hb dX1_plain_29 rfl ?_
        exact W.lret (pc := 56) hx hb hr (fun t ht hW => s_ret (val := vL) h ht) (fun _ hq => absurd hq List.not_mem_nil) dX1_plain_56 hlk
    · have h := h.1 c2
      refine lv_lload_n (pc := 13) hx hb dX1_plain_13 rfl (lv_at hl 1 rfl) ?_
      refine lv_lload_n (pc := 14) hx hb dX1_plain_14 rfl (lv_at hl 1 rfl) ?_
      refine lv_lmul (pc := 15) hx hb dX1_plain_15 ?_
      refine lv_goto (pc := 16) (tgt := 56) hx hb dX1_plain_16 rfl ?_
      exact W.lret (pc := 56) hx hb hr (fun t ht hW => s_ret (val := vL) h ht) (fun _ hq => absurd hq List.not_mem_nil) dX1_plain_56 hlk
  · have h := h.1 c1
    refine lv_lload_n (pc := 4) hx hb dX1_plain_4 rfl (lv_at hl 1 rfl) ?_
    refine lv_goto (pc := 5) (tgt := 56) hx hb dX1_plain_5 rfl ?_
    exact W.lret (pc := 56) hx hb hr (fun t ht hW => s_ret (val := vL) h ht) (fun _ hq => absurd hq List.not_mem_nil) dX1_plain_56 hlk
theorem uX1_plain {p : Program} {l : Launch} {e : Env} {R : Room} {s : State} {m : MethodId} {args : Array Value} {below : List Frame} {meth : Method} {c : Code} {H : Heap} {locs : List Loc} {cells slots : Nat} {Q : Jvm.State → Prop} {cc : ByteArray} {pc : Nat} {ls : Array Slot} {rest : List Value} {post : Int64 → Prop} {x0 : Int32} {x1 : Int64} {nL : Nat} (X : CallFix p m c cc nL s args lw_all RX1) (h : wX1_plain post x0 x1) (hR : 0 + 1 ≤ R.frames ∧ 8 + (3 + 11) + 0 ≤ R.locals) (hsz : ls.size = nL) (hr : (rest.map fun v => v.category).sum ≤ 8) (hc : cells ≤ R.cells ∧ slots ≤ R.slots) (d : decode cc pc = .ok (.invokestatic 97, 3)) (kk : ∀ r : Int64, post r → W p l e R s m args below meth c H locs cells slots Q (F0 m (pc + 3) ls (.long r :: rest))) : W p l e R s m args below meth c H locs cells slots Q (F0 m pc ls (.long x1 :: .int x0 :: rest)) :=
  s_call (val := vL) (post := post) (As := [.int x0, .long x1]) X (tX1_plain h) (lw_S q2185 q2186 q105 q2187) ⟨by decide, by decide, (by decide +kernel : (parseMethodDescriptor yX1_plain.desc).map (fun d => d.parameters.length) = some 2)⟩ hR hsz hr hc d rfl kk

def wX1_isSign (post : Int32 → MS → Prop) (S : MS) (x1 : Int32) : Prop :=
  (((S.1 12) = (3 : Int32)) → ((((S.1 17) = x1) → (post (1 : Int32) S)) ∧ (¬ ((S.1 17) = x1) → (post (0 : Int32) S)))) ∧ (¬ ((S.1 12) = (3 : Int32)) → (post (0 : Int32) S))
theorem tX1_isSign {l : Launch} {G : gG} {h0 : Nat} {ad : Nat → Nat} (hd : mOk G h0 ad) {post : Int32 → MS → Prop} {S : MS} {x1 : Int32} (h : wX1_isSign post S x1) : Met l yX1_isSign (ws_ yX1_isSign cX1_isSign 2 (some .boolean)) ⟨0, 0, 0, 0⟩ (va_Pc (.ref h0 :: [.int x1]) (fun U => mBw G h0 ad S U.heap ∧ gK G U)) (gQ vI post (mBw G h0 ad) (mAd h0 ad)) 0 0 (mAd h0 ad) := by
  refine m_ofW (by decide) rfl hd (Nat.le_of_ble_eq_true rfl) (fun p e s m below meth c ls X hml hr hlk hw hl => ?_)
  have hl : lv_has ls 2 [(0, .ref h0), (1, .int x1)] := hl
  have hx := X.1
  have hb := X.2.1
  have hown := X.2.2.1
  have hts := X.2.2.2.1
  unfold wX1_isSign at h
  refine lv_aload_n (pc := 0) hx hb dX1_isSign_0 rfl (lv_at hl 0 rfl) ?_
  refine mg12 (pc := 1) X hw dX1_isSign_1 ?_
  refine lv_iconst (pc := 4) (v := (3 : Int32)) hx hb dX1_isSign_4 (by decide) ?_
  refine lv_icmp_ne (pc := 5) (tgt := 20) hx hb dX1_isSign_5 rfl (fun c1 => ?_) (fun c1 => ?_)
  · have h := h.2 c1
    refine lv_iconst (pc := 20) (v := (0 : Int32)) hx hb dX1_isSign_20 (by decide) ?_
    exact W.zret (pc := 21) hx hb hr rfl (fun t ht hW => m_ret (val := vI) hw h ht) hw.2.2.2 dX1_isSign_21 hlk
  · have h := h.1 c1
    refine lv_aload_n (pc := 8) hx hb dX1_isSign_8 rfl (lv_at hl 0 rfl) ?_
    refine mg17 (pc := 9) X hw dX1_isSign_9 ?_
    refine lv_iload_n (pc := 12) hx hb dX1_isSign_12 rfl (lv_at hl 1 rfl) ?_
    refine lv_icmp_ne (pc := 13) (tgt := 20) hx hb dX1_isSign_13 rfl (fun c2 => ?_) (fun c2 => ?_)
    · have h := h.2 c2
      refine lv_iconst (pc := 20) (v := (0 : Int32)) hx hb dX1_isSign_20 (by decide) ?_
      exact W.zret (pc := 21) hx hb hr rfl (fun t ht hW => m_ret (val := vI) hw h ht) hw.2.2.2 dX1_isSign_21 hlk
    · have h := h.1 c2
      refine lv_iconst (pc := 16) (v := (1 : Int32)) hx hb dX1_isSign_16 (by decide) ?_
      refine lv_goto (pc := 17) (tgt := 21) hx hb dX1_isSign_17 rfl ?_
      exact W.zret (pc := 21) hx hb hr rfl (fun t ht hW => m_ret (val := vI) hw h ht) hw.2.2.2 dX1_isSign_21 hlk
theorem uX1_isSign {p : Program} {l : Launch} {e : Env} {R : Room} {s : State} {m : MethodId} {args : Array Value} {below : List Frame} {meth : Method} {c : Code} {H : Heap} {locs : List Loc} {cells slots : Nat} {Q : Jvm.State → Prop} {cc : ByteArray} {pc : Nat} {ls : Array Slot} {rest : List Value} {G : gG} {h0 : Nat} {ad : Nat → Nat} {post : Int32 → MS → Prop} {S : MS} {x1 : Int32} {nL : Nat} (X : mX G h0 ad p s m args c cc) (hml : c.maxLocals = nL) (hw : mH G h0 ad s S H locs) (h : wX1_isSign post S x1) (hR : 0 + 1 ≤ R.frames ∧ 8 + (2 + 11) + 0 ≤ R.locals) (hsz : ls.size = nL) (hr : (rest.map fun v => v.category).sum ≤ 8) (hc : cells ≤ R.cells ∧ slots ≤ R.slots) (d : decode cc pc = .ok (.invokevirtual 184, 3)) (kk : ∀ (r : Int32) (S1 : MS) (H1 : Heap) (locs1 : List Loc), post r S1 → mH G h0 ad s S1 H1 locs1 → W p l e R s m args below meth c H1 locs1 cells slots Q (F0 m (pc + 3) ls (.int r :: rest))) : W p l e R s m args below meth c H locs cells slots Q (F0 m pc ls (.int x1 :: .ref h0 :: rest)) :=
  m_call (val := vI) (post := post) (As := [.int x1]) X hml hw (tX1_isSign X.2.2.2.2.2.1 h) (lw_V q2195 q2197 qs56 q105 q2198) ⟨rfl, by decide, by decide, (by decide +kernel : (parseMethodDescriptor yX1_isSign.desc).map (fun d => d.parameters.length) = some 1)⟩ hR hsz hr hc d rfl kk

def wX1_whole (post : Int32 → MS → Prop) (S : MS) : Prop :=
  (((S.1 20) = (0 : Int32)) → (post (S.1 16) S)) ∧ (¬ ((S.1 20) = (0 : Int32)) → (post (-(S.1 16)) S))
theorem tX1_whole {l : Launch} {G : gG} {h0 : Nat} {ad : Nat → Nat} (hd : mOk G h0 ad) {post : Int32 → MS → Prop} {S : MS} (h : wX1_whole post S) : Met l yX1_whole (ws_ yX1_whole cX1_whole 1 (some .int)) ⟨0, 0, 0, 0⟩ (va_Pc (.ref h0 :: []) (fun U => mBw G h0 ad S U.heap ∧ gK G U)) (gQ vI post (mBw G h0 ad) (mAd h0 ad)) 0 0 (mAd h0 ad) := by
  refine m_ofW (by decide) rfl hd (Nat.le_of_ble_eq_true rfl) (fun p e s m below meth c ls X hml hr hlk hw hl => ?_)
  have hl : lv_has ls 1 [(0, .ref h0)] := hl
  have hx := X.1
  have hb := X.2.1
  have hown := X.2.2.1
  have hts := X.2.2.2.1
  unfold wX1_whole at h
  refine lv_aload_n (pc := 0) hx hb dX1_whole_0 rfl (lv_at hl 0 rfl) ?_
  refine mg20 (pc := 1) X hw dX1_whole_1 ?_
  refine lv_if_eq (pc := 4) (tgt := 15) hx hb dX1_whole_4 rfl (fun c1 => ?_) (fun c1 => ?_)
  · have h := h.1 c1
    refine lv_aload_n (pc := 15) hx hb dX1_whole_15 rfl (lv_at hl 0 rfl) ?_
    refine mg16 (pc := 16) X hw dX1_whole_16 ?_
    exact W.iret (pc := 19) hx hb hr (fun t ht hW => m_ret (val := vI) hw h ht) hw.2.2.2 dX1_whole_19 hlk
  · have h := h.2 c1
    refine lv_aload_n (pc := 7) hx hb dX1_whole_7 rfl (lv_at hl 0 rfl) ?_
    refine mg16 (pc := 8) X hw dX1_whole_8 ?_
    refine lv_ineg (pc := 11) hx hb dX1_whole_11 ?_
    refine lv_goto (pc := 12) (tgt := 19) hx hb dX1_whole_12 rfl ?_
    exact W.iret (pc := 19) hx hb hr (fun t ht hW => m_ret (val := vI) hw h ht) hw.2.2.2 dX1_whole_19 hlk
theorem uX1_whole {p : Program} {l : Launch} {e : Env} {R : Room} {s : State} {m : MethodId} {args : Array Value} {below : List Frame} {meth : Method} {c : Code} {H : Heap} {locs : List Loc} {cells slots : Nat} {Q : Jvm.State → Prop} {cc : ByteArray} {pc : Nat} {ls : Array Slot} {rest : List Value} {G : gG} {h0 : Nat} {ad : Nat → Nat} {post : Int32 → MS → Prop} {S : MS} {nL : Nat} (X : mX G h0 ad p s m args c cc) (hml : c.maxLocals = nL) (hw : mH G h0 ad s S H locs) (h : wX1_whole post S) (hR : 0 + 1 ≤ R.frames ∧ 8 + (1 + 11) + 0 ≤ R.locals) (hsz : ls.size = nL) (hr : (rest.map fun v => v.category).sum ≤ 8) (hc : cells ≤ R.cells ∧ slots ≤ R.slots) (d : decode cc pc = .ok (.invokevirtual 231, 3)) (kk : ∀ (r : Int32) (S1 : MS) (H1 : Heap) (locs1 : List Loc), post r S1 → mH G h0 ad s S1 H1 locs1 → W p l e R s m args below meth c H1 locs1 cells slots Q (F0 m (pc + 3) ls (.int r :: rest))) : W p l e R s m args below meth c H locs cells slots Q (F0 m pc ls (.ref h0 :: rest)) :=
  m_call (val := vI) (post := post) (As := []) X hml hw (tX1_whole X.2.2.2.2.2.1 h) (lw_V q2199 q2201 qs57 q105 q2202) ⟨rfl, by decide, by decide, (by decide +kernel : (parseMethodDescriptor yX1_whole.desc).map (fun d => d.parameters.length) = some 0)⟩ hR hsz hr hc d rfl kk

def wX1_of (post : Int32 → MS → Prop) (S : MS) (x1 : Int32) (x2 : Int32) (x3 : Int32) : Prop :=
  vp_in (((4 : Int32) * (((5 : Int32) * x1) + x2)) + x3) 100 ∧ (post (S.2.2.1 1 (((4 : Int32) * (((5 : Int32) * x1) + x2)) + x3).toNatClampNeg) S)
theorem tX1_of {l : Launch} {G : gG} {h0 : Nat} {ad : Nat → Nat} (hd : mOk G h0 ad) {post : Int32 → MS → Prop} {S : MS} {x1 : Int32} {x2 : Int32} {x3 : Int32} (h : wX1_of post S x1 x2 x3) : Met l yX1_of (ws_ yX1_of cX1_of 4 (some .int)) ⟨0, 0, 0, 0⟩ (va_Pc (.ref h0 :: [.int x1, .int x2, .int x3]) (fun U => mBw G h0 ad S U.heap ∧ gK G U)) (gQ vI post (mBw G h0 ad) (mAd h0 ad)) 0 0 (mAd h0 ad) := by
  refine m_ofW (by decide) rfl hd (Nat.le_of_ble_eq_true rfl) (fun p e s m below meth c ls X hml hr hlk hw hl => ?_)
  have hl : lv_has ls 4 [(0, .ref h0), (1, .int x1), (2, .int x2), (3, .int x3)] := hl
  have hx := X.1
  have hb := X.2.1
  have hown := X.2.2.1
  have hts := X.2.2.2.1
  unfold wX1_of at h
  refine lv_aload_n (pc := 0) hx hb dX1_of_0 rfl (lv_at hl 0 rfl) ?_
  refine mg1 (pc := 1) X hw dX1_of_1 ?_
  refine lv_iconst (pc := 4) (v := (4 : Int32)) hx hb dX1_of_4 (by decide) ?_
  refine lv_iconst (pc := 5) (v := (5 : Int32)) hx hb dX1_of_5 (by decide) ?_
  refine lv_iload_n (pc := 6) hx hb dX1_of_6 rfl (lv_at hl 1 rfl) ?_
  refine lv_imul (pc := 7) hx hb dX1_of_7 ?_
  refine lv_iload_n (pc := 8) hx hb dX1_of_8 rfl (lv_at hl 2 rfl) ?_
  refine lv_iadd (pc := 9) hx hb dX1_of_9 ?_
  refine lv_imul (pc := 10) hx hb dX1_of_10 ?_
  refine lv_iload_n (pc := 11) hx hb dX1_of_11 rfl (lv_at hl 3 rfl) ?_
  refine lv_iadd (pc := 12) hx hb dX1_of_12 ?_
  obtain ⟨hi, h⟩ := h
  refine ma1 (pc := 13) X hw hi dX1_of_13 ?_
  exact W.iret (pc := 14) hx hb hr (fun t ht hW => m_ret (val := vI) hw h ht) hw.2.2.2 dX1_of_14 hlk
theorem uX1_of {p : Program} {l : Launch} {e : Env} {R : Room} {s : State} {m : MethodId} {args : Array Value} {below : List Frame} {meth : Method} {c : Code} {H : Heap} {locs : List Loc} {cells slots : Nat} {Q : Jvm.State → Prop} {cc : ByteArray} {pc : Nat} {ls : Array Slot} {rest : List Value} {G : gG} {h0 : Nat} {ad : Nat → Nat} {post : Int32 → MS → Prop} {S : MS} {x1 : Int32} {x2 : Int32} {x3 : Int32} {nL : Nat} (X : mX G h0 ad p s m args c cc) (hml : c.maxLocals = nL) (hw : mH G h0 ad s S H locs) (h : wX1_of post S x1 x2 x3) (hR : 0 + 1 ≤ R.frames ∧ 8 + (4 + 11) + 0 ≤ R.locals) (hsz : ls.size = nL) (hr : (rest.map fun v => v.category).sum ≤ 8) (hc : cells ≤ R.cells ∧ slots ≤ R.slots) (d : decode cc pc = .ok (.invokevirtual 93, 3)) (kk : ∀ (r : Int32) (S1 : MS) (H1 : Heap) (locs1 : List Loc), post r S1 → mH G h0 ad s S1 H1 locs1 → W p l e R s m args below meth c H1 locs1 cells slots Q (F0 m (pc + 3) ls (.int r :: rest))) : W p l e R s m args below meth c H locs cells slots Q (F0 m pc ls (.int x3 :: .int x2 :: .int x1 :: .ref h0 :: rest)) :=
  m_call (val := vI) (post := post) (As := [.int x1, .int x2, .int x3]) X hml hw (tX1_of X.2.2.2.2.2.1 h) (lw_V q2207 q2209 qs59 q105 q2210) ⟨rfl, by decide, by decide, (by decide +kernel : (parseMethodDescriptor yX1_of.desc).map (fun d => d.parameters.length) = some 3)⟩ hR hsz hr hc d rfl kk

def wX1_isSmall (post : Int32 → Prop) (x0 : Int64) : Prop :=
  wX1_isIn (fun r1 => isB r1 ∧ post r1) x0 (-3000 : Int64) (3000 : Int64)
theorem tX1_isSmall {l : Launch} {post : Int32 → Prop} {x0 : Int64} (h : wX1_isSmall post x0) : Met l yX1_isSmall (ws_ yX1_isSmall cX1_isSmall 2 (some .boolean)) ⟨1, 0, 0, 25⟩ (va_Pc [.long x0] (fun _ => True)) (pQ vI post) 0 0 (fun _ => False) := by
  refine s_ofW (by decide) (Nat.le_of_ble_eq_true rfl) (fun p e s m below meth c ls X hr hlk hl => ?_)
  have hl : lv_has ls 2 [(0, .long x0)] := hl
  have hx := X.1
  have hb := X.2.1
  have hml := X.2.2.1
  have hown := X.2.2.2.1
  have hts := X.2.2.2.2
  unfold wX1_isSmall at h
  refine lv_lload_n (pc := 0) hx hb dX1_isSmall_0 rfl (lv_at hl 0 rfl) ?_
  refine lv_ldc2 (pc := 1) hx hb hown (hts _ q2214) dX1_isSmall_1 ?_
  refine lv_ldc2 (pc := 4) hx hb hown (hts _ q2189) dX1_isSmall_4 ?_
  refine uX1_isIn (pc := 7) X h ⟨Nat.le_of_ble_eq_true rfl, Nat.le_of_ble_eq_true rfl⟩ hl.1 (Nat.le_of_ble_eq_true rfl) ⟨Nat.le_refl _, Nat.le_refl _⟩ dX1_isSmall_7 (fun r1 h => ?_)
  obtain ⟨hB, h⟩ := h
  exact W.zret (pc := 10) hx hb hr (isB_n hB) (fun t ht hW => s_ret (val := vI) h ht) (fun _ hq => absurd hq List.not_mem_nil) dX1_isSmall_10 hlk
theorem uX1_isSmall {p : Program} {l : Launch} {e : Env} {R : Room} {s : State} {m : MethodId} {args : Array Value} {below : List Frame} {meth : Method} {c : Code} {H : Heap} {locs : List Loc} {cells slots : Nat} {Q : Jvm.State → Prop} {cc : ByteArray} {pc : Nat} {ls : Array Slot} {rest : List Value} {post : Int32 → Prop} {x0 : Int64} {nL : Nat} (X : CallFix p m c cc nL s args lw_all RX1) (h : wX1_isSmall post x0) (hR : 1 + 1 ≤ R.frames ∧ 8 + (2 + 11) + 25 ≤ R.locals) (hsz : ls.size = nL) (hr : (rest.map fun v => v.category).sum ≤ 8) (hc : cells ≤ R.cells ∧ slots ≤ R.slots) (d : decode cc pc = .ok (.invokestatic 238, 3)) (kk : ∀ r : Int32, post r → W p l e R s m args below meth c H locs cells slots Q (F0 m (pc + 3) ls (.int r :: rest))) : W p l e R s m args below meth c H locs cells slots Q (F0 m pc ls (.long x0 :: rest)) :=
  s_call (val := vI) (post := post) (As := [.long x0]) X (tX1_isSmall h) (lw_S q2211 q2212 q105 q2213) ⟨by decide, by decide, (by decide +kernel : (parseMethodDescriptor yX1_isSmall.desc).map (fun d => d.parameters.length) = some 1)⟩ hR hsz hr hc d rfl kk

def wX1_isRead (post : Int32 → MS → Prop) (S : MS) : Prop :=
  (((S.1 8) = (0 : Int32)) → (post (1 : Int32) (mI (mI (mI (mI (mI S 3 (0 : Int32)) 4 (S.1 8)) 5 (S.1 9)) 6 (S.1 10)) 7 (S.1 11)))) ∧ (¬ ((S.1 8) = (0 : Int32)) → (post (0 : Int32) (mI (mI (mI (mI (mI S 3 (0 : Int32)) 4 (S.1 8)) 5 (S.1 9)) 6 (S.1 10)) 7 (S.1 11))))
theorem tX1_isRead {l : Launch} {G : gG} {h0 : Nat} {ad : Nat → Nat} (hd : mOk G h0 ad) {post : Int32 → MS → Prop} {S : MS} (h : wX1_isRead post S) : Met l yX1_isRead (ws_ yX1_isRead cX1_isRead 1 (some .boolean)) ⟨0, 0, 0, 0⟩ (va_Pc (.ref h0 :: []) (fun U => mBw G h0 ad S U.heap ∧ gK G U)) (gQ vI post (mBw G h0 ad) (mAd h0 ad)) 0 0 (mAd h0 ad) := by
  refine m_ofW (by decide) rfl hd (Nat.le_of_ble_eq_true rfl) (fun p e s m below meth c ls X hml hr hlk hw hl => ?_)
  have hl : lv_has ls 1 [(0, .ref h0)] := hl
  have hx := X.1
  have hb := X.2.1
  have hown := X.2.2.1
  have hts := X.2.2.2.1
  unfold wX1_isRead at h
  refine lv_aload_n (pc := 0) hx hb dX1_isRead_0 rfl (lv_at hl 0 rfl) ?_
  refine lv_iconst (pc := 1) (v := (0 : Int32)) hx hb dX1_isRead_1 (by decide) ?_
  refine mp3 (pc := 2) X hw dX1_isRead_2 (fun H locs hw => ?_)
  refine lv_aload_n (pc := 5) hx hb dX1_isRead_5 rfl (lv_at hl 0 rfl) ?_
  refine lv_aload_n (pc := 6) hx hb dX1_isRead_6 rfl (lv_at hl 0 rfl) ?_
  refine mg8 (pc := 7) X hw dX1_isRead_7 ?_
  refine mp4 (pc := 10) X hw dX1_isRead_10 (fun H locs hw => ?_)
  refine lv_aload_n (pc := 13) hx hb dX1_isRead_13 rfl (lv_at hl 0 rfl) ?_
  refine lv_aload_n (pc := 14) hx hb dX1_isRead_14 rfl (lv_at hl 0 rfl) ?_
  refine mg9 (pc := 15) X hw dX1_isRead_15 ?_
  refine mp5 (pc := 18) X hw dX1_isRead_18 (fun H locs hw => ?_)
  refine lv_aload_n (pc := 21) hx hb dX1_isRead_21 rfl (lv_at hl 0 rfl) ?_
  refine lv_aload_n (pc := 22) hx hb dX1_isRead_22 rfl (lv_at hl 0 rfl) ?_
  refine mg10 (pc := 23) X hw dX1_isRead_23 ?_
  refine mp6 (pc := 26) X hw dX1_isRead_26 (fun H locs hw => ?_)
  refine lv_aload_n (pc := 29) hx hb dX1_isRead_29 rfl (lv_at hl 0 rfl) ?_
  refine lv_aload_n (pc := 30) hx hb dX1_isRead_30 rfl (lv_at hl 0 rfl) ?_
  refine mg11 (pc := 31) X hw dX1_isRead_31 ?_
  refine mp7 (pc := 34) X hw dX1_isRead_34 (fun H locs hw => ?_)
  refine lv_aload_n (pc := 37) hx hb dX1_isRead_37 rfl (lv_at hl 0 rfl) ?_
  refine mg8 (pc := 38) X hw dX1_isRead_38 ?_
  refine lv_if_ne (pc := 41) (tgt := 48) hx hb dX1_isRead_41 rfl (fun c1 => ?_) (fun c1 => ?_)
  · have h := h.2 c1
    refine lv_iconst (pc := 48) (v := (0 : Int32)) hx hb dX1_isRead_48 (by decide) ?_
    exact W.zret (pc := 49) hx hb hr rfl (fun t ht hW => m_ret (val := vI) hw h ht) hw.2.2.2 dX1_isRead_49 hlk
  · have h := h.1 c1
    refine lv_iconst (pc := 44) (v := (1 : Int32)) hx hb dX1_isRead_44 (by decide) ?_
    refine lv_goto (pc := 45) (tgt := 49) hx hb dX1_isRead_45 rfl ?_
    exact W.zret (pc := 49) hx hb hr rfl (fun t ht hW => m_ret (val := vI) hw h ht) hw.2.2.2 dX1_isRead_49 hlk
theorem uX1_isRead {p : Program} {l : Launch} {e : Env} {R : Room} {s : State} {m : MethodId} {args : Array Value} {below : List Frame} {meth : Method} {c : Code} {H : Heap} {locs : List Loc} {cells slots : Nat} {Q : Jvm.State → Prop} {cc : ByteArray} {pc : Nat} {ls : Array Slot} {rest : List Value} {G : gG} {h0 : Nat} {ad : Nat → Nat} {post : Int32 → MS → Prop} {S : MS} {nL : Nat} (X : mX G h0 ad p s m args c cc) (hml : c.maxLocals = nL) (hw : mH G h0 ad s S H locs) (h : wX1_isRead post S) (hR : 0 + 1 ≤ R.frames ∧ 8 + (1 + 11) + 0 ≤ R.locals) (hsz : ls.size = nL) (hr : (rest.map fun v => v.category).sum ≤ 8) (hc : cells ≤ R.cells ∧ slots ≤ R.slots) (d : decode cc pc = .ok (.invokevirtual 256, 3)) (kk : ∀ (r : Int32) (S1 : MS) (H1 : Heap) (locs1 : List Loc), post r S1 → mH G h0 ad s S1 H1 locs1 → W p l e R s m args below meth c H1 locs1 cells slots Q (F0 m (pc + 3) ls (.int r :: rest))) : W p l e R s m args below meth c H locs cells slots Q (F0 m pc ls (.ref h0 :: rest)) :=
  m_call (val := vI) (post := post) (As := []) X hml hw (tX1_isRead X.2.2.2.2.2.1 h) (lw_V q2220 q2222 qs61 q105 q2223) ⟨rfl, by decide, by decide, (by decide +kernel : (parseMethodDescriptor yX1_isRead.desc).map (fun d => d.parameters.length) = some 0)⟩ hR hsz hr hc d rfl kk

def wX1_copies_3 (post : Unit → MS → Prop) : Nat → Int32 → Int32 → Int32 → Int32 → Int32 → MS → Prop
  | 0, _, _, _, _, _, _ => False
  | n + 1, x1, x2, x3, x4, x5, S => (((4 : Int32) ≤ x5) → (post () S)) ∧ (¬ ((4 : Int32) ≤ x5) → (vp_in (((4 : Int32) * (((5 : Int32) * x1) + x2)) + x5) 100 ∧ (vp_in (((4 : Int32) * (((5 : Int32) * x3) + x4)) + x5) 100 ∧ (wX1_copies_3 post n x1 x2 x3 x4 (x5 + (1 : Int32)) (mA S 1 (upd (S.2.2.1 1) (((4 : Int32) * (((5 : Int32) * x3) + x4)) + x5).toNatClampNeg (S.2.2.1 1 (((4 : Int32) * (((5 : Int32) * x1) + x2)) + x5).toNatClampNeg)))))))
def wX1_copies (post : Unit → MS → Prop) (S : MS) (x1 : Int32) (x2 : Int32) (x3 : Int32) (x4 : Int32) : Prop :=
  (∃ k, wX1_copies_3 post k x1 x2 x3 x4 (0 : Int32) S)
theorem kX1_copies_3 {p : Program} {l : Launch} {e : Env} {s : State} {m : MethodId} {args : Array Value} {below : List Frame} {meth : Method} {c : Code} {G : gG} {h0 : Nat} {ad : Nat → Nat} {post : Unit → MS → Prop} (X : mX G h0 ad p s m args c cX1_copies) (hml : c.maxLocals = 6) (hr : meth.sig.returnType = none) (hlk : meth.locks = false) : ∀ (n : Nat) (x1 : Int32) (x2 : Int32) (x3 : Int32) (x4 : Int32) (x5 : Int32) (S : MS) (H : Heap) (locs : List Loc) (ls : Array Slot), wX1_copies_3 post n x1 x2 x3 x4 x5 S → mH G h0 ad s S H locs → lv_has ls 6 [(0, .ref h0), (1, .int x1), (2, .int x2), (3, .int x3), (4, .int x4), (5, .int x5)] → W p l e ⟨0, 0, 0, 0⟩ s m args below meth c H locs 0 0 (MQ below (gQ vV post (mBw G h0 ad) (mAd h0 ad)) args s 0 0 (mAd h0 ad)) (F0 m 3 ls []) := by
  have hx := X.1
  have hb := X.2.1
  have hown := X.2.2.1
  have hts := X.2.2.2.1
  intro n
  induction n with
  | zero =>
    intro x1 x2 x3 x4 x5 S H locs ls h
    exact False.elim h
  | succ n ih =>
    intro x1 x2 x3 x4 x5 S H locs ls h hw hl
    unfold wX1_copies_3 at h
    refine lv_iload (pc := 3) hx hb dX1_copies_3 (lv_at hl 5 rfl) ?_
    refine lv_iconst (pc := 5) (v := (4 : Int32)) hx hb dX1_copies_5 (by decide) ?_
    refine lv_icmp_ge (pc := 6) (tgt := 46) hx hb dX1_copies_6 rfl (fun c1 => ?_) (fun c1 => ?_)
    · have h := h.1 c1
      exact W.vret (pc := 46) hx hb hr (fun t ht hW => m_ret (val := vV) (v := ()) hw h ht) hw.2.2.2 dX1_copies_46 hlk
    · have h := h.2 c1
      refine lv_aload_n (pc := 9) hx hb dX1_copies_9 rfl (lv_at hl 0 rfl) ?_
      refine mg1 (pc := 10) X hw dX1_copies_10 ?_
      refine lv_iconst (pc := 13) (v := (4 : Int32)) hx hb dX1_copies_13 (by decide) ?_
      refine lv_iconst (pc := 14) (v := (5 : Int32)) hx hb dX1_copies_14 (by decide) ?_
      refine lv_iload_n (pc := 15) hx hb dX1_copies_15 rfl (lv_at hl 3 rfl) ?_
      refine lv_imul (pc := 16) hx hb dX1_copies_16 ?_
      refine lv_iload (pc := 17) hx hb dX1_copies_17 (lv_at hl 4 rfl) ?_
      refine lv_iadd (pc := 19) hx hb dX1_copies_19 ?_
      refine lv_imul (pc := 20) hx hb dX1_copies_20 ?_
      refine lv_iload (pc := 21) hx hb dX1_copies_21 (lv_at hl 5 rfl) ?_
      refine lv_iadd (pc := 23) hx hb dX1_copies_23 ?_
      refine lv_aload_n (pc := 24) hx hb dX1_copies_24 rfl (lv_at hl 0 rfl) ?_
      refine mg1 (pc := 25) X hw dX1_copies_25 ?_
      refine lv_iconst (pc := 28) (v := (4 : Int32)) hx hb dX1_copies_28 (by decide) ?_
      refine lv_iconst (pc := 29) (v := (5 : Int32)) hx hb dX1_copies_29 (by decide) ?_
      refine lv_iload_n (pc := 30) hx hb dX1_copies_30 rfl (lv_at hl 1 rfl) ?_
      refine lv_imul (pc := 31) hx hb dX1_copies_31 ?_
      refine lv_iload_n (pc := 32) hx hb dX1_copies_32 rfl (lv_at hl 2 rfl) ?_
      refine lv_iadd (pc := 33) hx hb dX1_copies_33 ?_
      refine lv_imul (pc := 34) hx hb dX1_copies_34 ?_
      refine lv_iload (pc := 35) hx hb dX1_copies_35 (lv_at hl 5 rfl) ?_
      refine lv_iadd (pc := 37) hx hb dX1_copies_37 ?_
      obtain ⟨hi, h⟩ := h
      refine ma1 (pc := 38) X hw hi dX1_copies_38 ?_
      obtain ⟨hi, h⟩ := h
      refine ms1 (pc := 39) X hw hi dX1_copies_39 (fun H locs hw => ?_)
      refine lv_iinc (pc := 40) (v := x5 + (1 : Int32)) (lv' := [(5, .int (x5 + (1 : Int32))), (0, .ref h0), (1, .int x1), (2, .int x2), (3, .int x3), (4, .int x4)]) hx hb dX1_copies_40 hl (k := 5) rfl rfl (by decide) rfl (fun ls hl => ?_)
      refine lv_goto (pc := 43) (tgt := 3) hx hb dX1_copies_43 rfl ?_
      exact ih _ _ _ _ _ _ _ _ _ h hw (lv_sub hl [1, 2, 3, 4, 5, 0] rfl)
theorem tX1_copies {l : Launch} {G : gG} {h0 : Nat} {ad : Nat → Nat} (hd : mOk G h0 ad) {post : Unit → MS → Prop} {S : MS} {x1 : Int32} {x2 : Int32} {x3 : Int32} {x4 : Int32} (h : wX1_copies post S x1 x2 x3 x4) : Met l yX1_copies (ws_ yX1_copies cX1_copies 6 none) ⟨0, 0, 0, 0⟩ (va_Pc (.ref h0 :: [.int x1, .int x2, .int x3, .int x4]) (fun U => mBw G h0 ad S U.heap ∧ gK G U)) (gQ vV post (mBw G h0 ad) (mAd h0 ad)) 0 0 (mAd h0 ad) := by
  refine m_ofW (by decide) rfl hd (Nat.le_of_ble_eq_true rfl) (fun p e s m below meth c ls X hml hr hlk hw hl => ?_)
  have hl : lv_has ls 6 [(0, .ref h0), (1, .int x1), (2, .int x2), (3, .int x3), (4, .int x4)] := hl
  have hx := X.1
  have hb := X.2.1
  have hown := X.2.2.1
  have hts := X.2.2.2.1
  unfold wX1_copies at h
  refine lv_iconst (pc := 0) (v := (0 : Int32)) hx hb dX1_copies_0 (by decide) ?_
  refine lv_istore (pc := 1) (lv' := [(5, .int (0 : Int32)), (0, .ref h0), (1, .int x1), (2, .int x2), (3, .int x3), (4, .int x4)]) hx hb dX1_copies_1 hl (by decide) rfl (fun ls hl => ?_)
  obtain ⟨k, h⟩ := h
  exact kX1_copies_3 X hml hr hlk  k _ _ _ _ _ _ _ _ _ h hw (lv_sub hl [1, 2, 3, 4, 5, 0] rfl)
theorem uX1_copies {p : Program} {l : Launch} {e : Env} {R : Room} {s : State} {m : MethodId} {args : Array Value} {below : List Frame} {meth : Method} {c : Code} {H : Heap} {locs : List Loc} {cells slots : Nat} {Q : Jvm.State → Prop} {cc : ByteArray} {pc : Nat} {ls : Array Slot} {rest : List Value} {G : gG} {h0 : Nat} {ad : Nat → Nat} {post : Unit → MS → Prop} {S : MS} {x1 : Int32} {x2 : Int32} {x3 : Int32} {x4 : Int32} {nL : Nat} (X : mX G h0 ad p s m args c cc) (hml : c.maxLocals = nL) (hw : mH G h0 ad s S H locs) (h : wX1_copies post S x1 x2 x3 x4) (hR : 0 + 1 ≤ R.frames ∧ 8 + (6 + 11) + 0 ≤ R.locals) (hsz : ls.size = nL) (hr : (rest.map fun v => v.category).sum ≤ 8) (hc : cells ≤ R.cells ∧ slots ≤ R.slots) (d : decode cc pc = .ok (.invokevirtual 243, 3)) (kk : ∀ (r : Unit) (S1 : MS) (H1 : Heap) (locs1 : List Loc), post r S1 → mH G h0 ad s S1 H1 locs1 → W p l e R s m args below meth c H1 locs1 cells slots Q (F0 m (pc + 3) ls (rest))) : W p l e R s m args below meth c H locs cells slots Q (F0 m pc ls (.int x4 :: .int x3 :: .int x2 :: .int x1 :: .ref h0 :: rest)) :=
  m_call (val := vV) (post := post) (As := [.int x1, .int x2, .int x3, .int x4]) X hml hw (tX1_copies X.2.2.2.2.2.1 h) (lw_V q2228 q2230 qs63 q105 q2231) ⟨rfl, by decide, by decide, (by decide +kernel : (parseMethodDescriptor yX1_copies.desc).map (fun d => d.parameters.length) = some 4)⟩ hR hsz hr hc d rfl kk

def wX1_isForm (post : Int32 → MS → Prop) (S : MS) (x1 : Int32) : Prop :=
  wX1_isSlot (fun r1 => ((r1 = (0 : Int32)) → (post (0 : Int32) S)) ∧ (¬ (r1 = (0 : Int32)) → (vp_in x1 5 ∧ ((((S.2.2.1 0 x1.toNatClampNeg) ≤ (0 : Int32)) → (post (0 : Int32) S)) ∧ (¬ ((S.2.2.1 0 x1.toNatClampNeg) ≤ (0 : Int32)) → (post (1 : Int32) S)))))) x1
theorem tX1_isForm {l : Launch} {G : gG} {h0 : Nat} {ad : Nat → Nat} (hd : mOk G h0 ad) {post : Int32 → MS → Prop} {S : MS} {x1 : Int32} (h : wX1_isForm post S x1) : Met l yX1_isForm (ws_ yX1_isForm cX1_isForm 2 (some .boolean)) ⟨2, 0, 0, 45⟩ (va_Pc (.ref h0 :: [.int x1]) (fun U => mBw G h0 ad S U.heap ∧ gK G U)) (gQ vI post (mBw G h0 ad) (mAd h0 ad)) 0 0 (mAd h0 ad) := by
  refine m_ofW (by decide) rfl hd (Nat.le_of_ble_eq_true rfl) (fun p e s m below meth c ls X hml hr hlk hw hl => ?_)
  have hl : lv_has ls 2 [(0, .ref h0), (1, .int x1)] := hl
  have hx := X.1
  have hb := X.2.1
  have hown := X.2.2.1
  have hts := X.2.2.2.1
  unfold wX1_isForm at h
  refine lv_iload_n (pc := 0) hx hb dX1_isForm_0 rfl (lv_at hl 1 rfl) ?_
  refine uX1_isSlot (pc := 1) ⟨hx, hb, hml, hown, hts⟩ h ⟨Nat.le_of_ble_eq_true rfl, Nat.le_of_ble_eq_true rfl⟩ hl.1 (Nat.le_of_ble_eq_true rfl) ⟨Nat.le_refl _, Nat.le_refl _⟩ dX1_isForm_1 (fun r1 h => ?_)
  refine lv_if_eq (pc := 4) (tgt := 20) hx hb dX1_isForm_4 rfl (fun c2 => ?_) (fun c2 => ?_)
  · have h := h.1 c2
    refine lv_iconst (pc := 20) (v := (0 : Int32)) hx hb dX1_isForm_20 (by decide) ?_
    exact W.zret (pc := 21) hx hb hr rfl (fun t ht hW => m_ret (val := vI) hw h ht) hw.2.2.2 dX1_isForm_21 hlk
  · have h := h.2 c2
    refine lv_aload_n (pc := 7) hx hb dX1_isForm_7 rfl (lv_at hl 0 rfl) ?_
    refine mg0 (pc := 8) X hw dX1_isForm_8 ?_
    refine lv_iload_n (pc := 11) hx hb dX1_isForm_11 rfl (lv_at hl 1 rfl) ?_
    obtain ⟨hi, h⟩ := h
    refine ma0 (pc := 12) X hw hi dX1_isForm_12 ?_
    refine lv_if_le (pc := 13) (tgt := 20) hx hb dX1_isForm_13 rfl (fun c3 => ?_) (fun c3 => ?_)
    · have h := h.1 c3
      refine lv_iconst (pc := 20) (v := (0 : Int32)) hx hb dX1_isForm_20 (by decide) ?_
      exact W.zret (pc := 21) hx hb hr rfl (fun t ht hW => m_ret (val := vI) hw h ht) hw.2.2.2 dX1_isForm_21 hlk
    · have h := h.2 c3
      refine lv_iconst (pc := 16) (v := (1 : Int32)) hx hb dX1_isForm_16 (by decide) ?_
      refine lv_goto (pc := 17) (tgt := 21) hx hb dX1_isForm_17 rfl ?_
      exact W.zret (pc := 21) hx hb hr rfl (fun t ht hW => m_ret (val := vI) hw h ht) hw.2.2.2 dX1_isForm_21 hlk
theorem uX1_isForm {p : Program} {l : Launch} {e : Env} {R : Room} {s : State} {m : MethodId} {args : Array Value} {below : List Frame} {meth : Method} {c : Code} {H : Heap} {locs : List Loc} {cells slots : Nat} {Q : Jvm.State → Prop} {cc : ByteArray} {pc : Nat} {ls : Array Slot} {rest : List Value} {G : gG} {h0 : Nat} {ad : Nat → Nat} {post : Int32 → MS → Prop} {S : MS} {x1 : Int32} {nL : Nat} (X : mX G h0 ad p s m args c cc) (hml : c.maxLocals = nL) (hw : mH G h0 ad s S H locs) (h : wX1_isForm post S x1) (hR : 2 + 1 ≤ R.frames ∧ 8 + (2 + 11) + 45 ≤ R.locals) (hsz : ls.size = nL) (hr : (rest.map fun v => v.category).sum ≤ 8) (hc : cells ≤ R.cells ∧ slots ≤ R.slots) (d : decode cc pc = .ok (.invokevirtual 274, 3)) (kk : ∀ (r : Int32) (S1 : MS) (H1 : Heap) (locs1 : List Loc), post r S1 → mH G h0 ad s S1 H1 locs1 → W p l e R s m args below meth c H1 locs1 cells slots Q (F0 m (pc + 3) ls (.int r :: rest))) : W p l e R s m args below meth c H locs cells slots Q (F0 m pc ls (.int x1 :: .ref h0 :: rest)) :=
  m_call (val := vI) (post := post) (As := [.int x1]) X hml hw (tX1_isForm X.2.2.2.2.2.1 h) (lw_V q2236 q2238 qs64 q105 q2239) ⟨rfl, by decide, by decide, (by decide +kernel : (parseMethodDescriptor yX1_isForm.desc).map (fun d => d.parameters.length) = some 1)⟩ hR hsz hr hc d rfl kk

def wX1_isN (post : Int32 → Prop) (x0 : Int32) : Prop :=
  wX1_isIn (fun r1 => isB r1 ∧ post r1) x0.toInt64 (-3000 : Int64) (3000 : Int64)
theorem tX1_isN {l : Launch} {post : Int32 → Prop} {x0 : Int32} (h : wX1_isN post x0) : Met l yX1_isN (ws_ yX1_isN cX1_isN 1 (some .boolean)) ⟨1, 0, 0, 25⟩ (va_Pc [.int x0] (fun _ => True)) (pQ vI post) 0 0 (fun _ => False) := by
  refine s_ofW (by decide) (Nat.le_of_ble_eq_true rfl) (fun p e s m below meth c ls X hr hlk hl => ?_)
  have hl : lv_has ls 1 [(0, .int x0)] := hl
  have hx := X.1
  have hb := X.2.1
  have hml := X.2.2.1
  have hown := X.2.2.2.1
  have hts := X.2.2.2.2
  unfold wX1_isN at h
  refine lv_iload_n (pc := 0) hx hb dX1_isN_0 rfl (lv_at hl 0 rfl) ?_
  refine lv_i2l (pc := 1) hx hb dX1_isN_1 rfl ?_
  refine lv_ldc2 (pc := 2) hx hb hown (hts _ q2214) dX1_isN_2 ?_
  refine lv_ldc2 (pc := 5) hx hb hown (hts _ q2189) dX1_isN_5 ?_
  refine uX1_isIn (pc := 8) X h ⟨Nat.le_of_ble_eq_true rfl, Nat.le_of_ble_eq_true rfl⟩ hl.1 (Nat.le_of_ble_eq_true rfl) ⟨Nat.le_refl _, Nat.le_refl _⟩ dX1_isN_8 (fun r1 h => ?_)
  obtain ⟨hB, h⟩ := h
  exact W.zret (pc := 11) hx hb hr (isB_n hB) (fun t ht hW => s_ret (val := vI) h ht) (fun _ hq => absurd hq List.not_mem_nil) dX1_isN_11 hlk
theorem uX1_isN {p : Program} {l : Launch} {e : Env} {R : Room} {s : State} {m : MethodId} {args : Array Value} {below : List Frame} {meth : Method} {c : Code} {H : Heap} {locs : List Loc} {cells slots : Nat} {Q : Jvm.State → Prop} {cc : ByteArray} {pc : Nat} {ls : Array Slot} {rest : List Value} {post : Int32 → Prop} {x0 : Int32} {nL : Nat} (X : CallFix p m c cc nL s args lw_all RX1) (h : wX1_isN post x0) (hR : 1 + 1 ≤ R.frames ∧ 8 + (1 + 11) + 25 ≤ R.locals) (hsz : ls.size = nL) (hr : (rest.map fun v => v.category).sum ≤ 8) (hc : cells ≤ R.cells ∧ slots ≤ R.slots) (d : decode cc pc = .ok (.invokestatic 277, 3)) (kk : ∀ r : Int32, post r → W p l e R s m args below meth c H locs cells slots Q (F0 m (pc + 3) ls (.int r :: rest))) : W p l e R s m args below meth c H locs cells slots Q (F0 m pc ls (.int x0 :: rest)) :=
  s_call (val := vI) (post := post) (As := [.int x0]) X (tX1_isN h) (lw_S q2240 q2241 q105 q2242) ⟨by decide, by decide, (by decide +kernel : (parseMethodDescriptor yX1_isN.desc).map (fun d => d.parameters.length) = some 1)⟩ hR hsz hr hc d rfl kk

def wX1_laysNought_2 (post : Unit → MS → Prop) : Nat → Int32 → Int32 → MS → Prop
  | 0, _, _, _ => False
  | n + 1, x1, x2, S => (((30001 : Int32) ≤ x2) → (vp_in (((30001 : Int32) * x1) + (15000 : Int32)) 180006 ∧ (post () (mB S 22 (vp_updL (S.2.2.2 22) (((30001 : Int32) * x1) + (15000 : Int32)).toNatClampNeg (1 : Int64)))))) ∧ (¬ ((30001 : Int32) ≤ x2) → (vp_in (((30001 : Int32) * x1) + x2) 180006 ∧ (wX1_laysNought_2 post n x1 (x2 + (1 : Int32)) (mB S 22 (vp_updL (S.2.2.2 22) (((30001 : Int32) * x1) + x2).toNatClampNeg (0 : Int64))))))
def wX1_laysNought (post : Unit → MS → Prop) (S : MS) (x1 : Int32) : Prop :=
  (∃ k, wX1_laysNought_2 post k x1 (0 : Int32) S)
theorem kX1_laysNought_2 {p : Program} {l : Launch} {e : Env} {s : State} {m : MethodId} {args : Array Value} {below : List Frame} {meth : Method} {c : Code} {G : gG} {h0 : Nat} {ad : Nat → Nat} {post : Unit → MS → Prop} (X : mX G h0 ad p s m args c cX1_laysNought) (hml : c.maxLocals = 3) (hr : meth.sig.returnType = none) (hlk : meth.locks = false) : ∀ (n : Nat) (x1 : Int32) (x2 : Int32) (S : MS) (H : Heap) (locs : List Loc) (ls : Array Slot), wX1_laysNought_2 post n x1 x2 S → mH G h0 ad s S H locs → lv_has ls 3 [(0, .ref h0), (1, .int x1), (2, .int x2)] → W p l e ⟨0, 0, 0, 0⟩ s m args below meth c H locs 0 0 (MQ below (gQ vV post (mBw G h0 ad) (mAd h0 ad)) args s 0 0 (mAd h0 ad)) (F0 m 2 ls []) := by
  have hx := X.1
  have hb := X.2.1
  have hown := X.2.2.1
  have hts := X.2.2.2.1
  intro n
  induction n with
  | zero =>
    intro x1 x2 S H locs ls h
    exact False.elim h
  | succ n ih =>
    intro x1 x2 S H locs ls h hw hl
    unfold wX1_laysNought_2 at h
    refine lv_iload_n (pc := 2) hx hb dX1_laysNought_2 rfl (lv_at hl 2 rfl) ?_
    refine lv_sipush (pc := 3) (v := (30001 : Int32)) hx hb dX1_laysNought_3 (by decide) ?_
    refine lv_icmp_ge (pc := 6) (tgt := 28) hx hb dX1_laysNought_6 rfl (fun c1 => ?_) (fun c1 => ?_)
    · have h := h.1 c1
      refine lv_aload_n (pc := 28) hx hb dX1_laysNought_28 rfl (lv_at hl 0 rfl) ?_
      refine mg22 (pc := 29) X hw dX1_laysNought_29 ?_
      refine lv_sipush (pc := 32) (v := (30001 : Int32)) hx hb dX1_laysNought_32 (by decide) ?_
      refine lv_iload_n (pc := 35) hx hb dX1_laysNought_35 rfl (lv_at hl 1 rfl) ?_
      refine lv_imul (pc := 36) hx hb dX1_laysNought_36 ?_
      refine lv_sipush (pc := 37) (v := (15000 : Int32)) hx hb dX1_laysNought_37 (by decide) ?_
      refine lv_iadd (pc := 40) hx hb dX1_laysNought_40 ?_
      refine lv_lconst (pc := 41) (v := (1 : Int64)) hx hb dX1_laysNought_41 (by decide) ?_
      obtain ⟨hi, h⟩ := h
      refine ms22 (pc := 42) X hw hi dX1_laysNought_42 (fun H locs hw => ?_)
      exact W.vret (pc := 43) hx hb hr (fun t ht hW => m_ret (val := vV) (v := ()) hw h ht) hw.2.2.2 dX1_laysNought_43 hlk
    · have h := h.2 c1
      refine lv_aload_n (pc := 9) hx hb dX1_laysNought_9 rfl (lv_at hl 0 rfl) ?_
      refine mg22 (pc := 10) X hw dX1_laysNought_10 ?_
      refine lv_sipush (pc := 13) (v := (30001 : Int32)) hx hb dX1_laysNought_13 (by decide) ?_
      refine lv_iload_n (pc := 16) hx hb dX1_laysNought_16 rfl (lv_at hl 1 rfl) ?_
      refine lv_imul (pc := 17) hx hb dX1_laysNought_17 ?_
      refine lv_iload_n (pc := 18) hx hb dX1_laysNought_18 rfl (lv_at hl 2 rfl) ?_
      refine lv_iadd (pc := 19) hx hb dX1_laysNought_19 ?_
      refine lv_lconst (pc := 20) (v := (0 : Int64)) hx hb dX1_laysNought_20 (by decide) ?_
      obtain ⟨hi, h⟩ := h
      refine ms22 (pc := 21) X hw hi dX1_laysNought_21 (fun H locs hw => ?_)
      refine lv_iinc (pc := 22) (v := x2 + (1 : Int32)) (lv' := [(2, .int (x2 + (1 : Int32))), (0, .ref h0), (1, .int x1)]) hx hb dX1_laysNought_22 hl (k := 2) rfl rfl (by decide) rfl (fun ls hl => ?_)
      refine lv_goto (pc := 25) (tgt := 2) hx hb dX1_laysNought_25 rfl ?_
      exact ih _ _ _ _ _ _ h hw (lv_sub hl [1, 2, 0] rfl)
theorem tX1_laysNought {l : Launch} {G : gG} {h0 : Nat} {ad : Nat → Nat} (hd : mOk G h0 ad) {post : Unit → MS → Prop} {S : MS} {x1 : Int32} (h : wX1_laysNought post S x1) : Met l yX1_laysNought (ws_ yX1_laysNought cX1_laysNought 3 none) ⟨0, 0, 0, 0⟩ (va_Pc (.ref h0 :: [.int x1]) (fun U => mBw G h0 ad S U.heap ∧ gK G U)) (gQ vV post (mBw G h0 ad) (mAd h0 ad)) 0 0 (mAd h0 ad) := by
  refine m_ofW (by decide) rfl hd (Nat.le_of_ble_eq_true rfl) (fun p e s m below meth c ls X hml hr hlk hw hl => ?_)
  have hl : lv_has ls 3 [(0, .ref h0), (1, .int x1)] := hl
  have hx := X.1
  have hb := X.2.1
  have hown := X.2.2.1
  have hts := X.2.2.2.1
  unfold wX1_laysNought at h
  refine lv_iconst (pc := 0) (v := (0 : Int32)) hx hb dX1_laysNought_0 (by decide) ?_
  refine lv_istore_n (pc := 1) (lv' := [(2, .int (0 : Int32)), (0, .ref h0), (1, .int x1)]) hx hb dX1_laysNought_1 rfl hl (by decide) rfl (fun ls hl => ?_)
  obtain ⟨k, h⟩ := h
  exact kX1_laysNought_2 X hml hr hlk  k _ _ _ _ _ _ h hw (lv_sub hl [1, 2, 0] rfl)
theorem uX1_laysNought {p : Program} {l : Launch} {e : Env} {R : Room} {s : State} {m : MethodId} {args : Array Value} {below : List Frame} {meth : Method} {c : Code} {H : Heap} {locs : List Loc} {cells slots : Nat} {Q : Jvm.State → Prop} {cc : ByteArray} {pc : Nat} {ls : Array Slot} {rest : List Value} {G : gG} {h0 : Nat} {ad : Nat → Nat} {post : Unit → MS → Prop} {S : MS} {x1 : Int32} {nL : Nat} (X : mX G h0 ad p s m args c cc) (hml : c.maxLocals = nL) (hw : mH G h0 ad s S H locs) (h : wX1_laysNought post S x1) (hR : 0 + 1 ≤ R.frames ∧ 8 + (3 + 11) + 0 ≤ R.locals) (hsz : ls.size = nL) (hr : (rest.map fun v => v.category).sum ≤ 8) (hc : cells ≤ R.cells ∧ slots ≤ R.slots) (d : decode cc pc = .ok (.invokevirtual 267, 3)) (kk : ∀ (r : Unit) (S1 : MS) (H1 : Heap) (locs1 : List Loc), post r S1 → mH G h0 ad s S1 H1 locs1 → W p l e R s m args below meth c H1 locs1 cells slots Q (F0 m (pc + 3) ls (rest))) : W p l e R s m args below meth c H locs cells slots Q (F0 m pc ls (.int x1 :: .ref h0 :: rest)) :=
  m_call (val := vV) (post := post) (As := [.int x1]) X hml hw (tX1_laysNought X.2.2.2.2.2.1 h) (lw_V q2248 q2250 qs66 q105 q2251) ⟨rfl, by decide, by decide, (by decide +kernel : (parseMethodDescriptor yX1_laysNought.desc).map (fun d => d.parameters.length) = some 1)⟩ hR hsz hr hc d rfl kk

def wX1_at (post : Int64 → MS → Prop) (S : MS) (x1 : Int32) (x2 : Int64) : Prop :=
  wX1_isIn (fun r1 => ((r1 = (0 : Int32)) → (post (0 : Int64) S)) ∧ (¬ (r1 = (0 : Int32)) → (vp_in (((30001 : Int32) * x1) + x2.toInt32) 180006 ∧ (post (S.2.2.2 22 (((30001 : Int32) * x1) + x2.toInt32).toNatClampNeg) S)))) x2 (0 : Int64) (30000 : Int64)
theorem tX1_at {l : Launch} {G : gG} {h0 : Nat} {ad : Nat → Nat} (hd : mOk G h0 ad) {post : Int64 → MS → Prop} {S : MS} {x1 : Int32} {x2 : Int64} (h : wX1_at post S x1 x2) : Met l yX1_at (ws_ yX1_at cX1_at 4 (some .long)) ⟨1, 0, 0, 25⟩ (va_Pc (.ref h0 :: [.int x1, .long x2]) (fun U => mBw G h0 ad S U.heap ∧ gK G U)) (gQ vL post (mBw G h0 ad) (mAd h0 ad)) 0 0 (mAd h0 ad) := by
  refine m_ofW (by decide) rfl hd (Nat.le_of_ble_eq_true rfl) (fun p e s m below meth c ls X hml hr hlk hw hl => ?_)
  have hl : lv_has ls 4 [(0, .ref h0), (1, .int x1), (2, .long x2)] := hl
  have hx := X.1
  have hb := X.2.1
  have hown := X.2.2.1
  have hts := X.2.2.2.1
  unfold wX1_at at h
  refine lv_lload_n (pc := 0) hx hb dX1_at_0 rfl (lv_at hl 2 rfl) ?_
  refine lv_lconst (pc := 1) (v := (0 : Int64)) hx hb dX1_at_1 (by decide) ?_
  refine lv_ldc2 (pc := 2) hx hb hown (hts _ q2260) dX1_at_2 ?_
  refine uX1_isIn (pc := 5) ⟨hx, hb, hml, hown, hts⟩ h ⟨Nat.le_of_ble_eq_true rfl, Nat.le_of_ble_eq_true rfl⟩ hl.1 (Nat.le_of_ble_eq_true rfl) ⟨Nat.le_refl _, Nat.le_refl _⟩ dX1_at_5 (fun r1 h => ?_)
  refine lv_if_eq (pc := 8) (tgt := 27) hx hb dX1_at_8 rfl (fun c2 => ?_) (fun c2 => ?_)
  · have h := h.1 c2
    refine lv_lconst (pc := 27) (v := (0 : Int64)) hx hb dX1_at_27 (by decide) ?_
    exact W.lret (pc := 28) hx hb hr (fun t ht hW => m_ret (val := vL) hw h ht) hw.2.2.2 dX1_at_28 hlk
  · have h := h.2 c2
    refine lv_aload_n (pc := 11) hx hb dX1_at_11 rfl (lv_at hl 0 rfl) ?_
    refine mg22 (pc := 12) X hw dX1_at_12 ?_
    refine lv_sipush (pc := 15) (v := (30001 : Int32)) hx hb dX1_at_15 (by decide) ?_
    refine lv_iload_n (pc := 18) hx hb dX1_at_18 rfl (lv_at hl 1 rfl) ?_
    refine lv_imul (pc := 19) hx hb dX1_at_19 ?_
    refine lv_lload_n (pc := 20) hx hb dX1_at_20 rfl (lv_at hl 2 rfl) ?_
    refine lv_l2i (pc := 21) hx hb dX1_at_21 rfl ?_
    refine lv_iadd (pc := 22) hx hb dX1_at_22 ?_
    obtain ⟨hi, h⟩ := h
    refine ma22 (pc := 23) X hw hi dX1_at_23 ?_
    refine lv_goto (pc := 24) (tgt := 28) hx hb dX1_at_24 rfl ?_
    exact W.lret (pc := 28) hx hb hr (fun t ht hW => m_ret (val := vL) hw h ht) hw.2.2.2 dX1_at_28 hlk
theorem uX1_at {p : Program} {l : Launch} {e : Env} {R : Room} {s : State} {m : MethodId} {args : Array Value} {below : List Frame} {meth : Method} {c : Code} {H : Heap} {locs : List Loc} {cells slots : Nat} {Q : Jvm.State → Prop} {cc : ByteArray} {pc : Nat} {ls : Array Slot} {rest : List Value} {G : gG} {h0 : Nat} {ad : Nat → Nat} {post : Int64 → MS → Prop} {S : MS} {x1 : Int32} {x2 : Int64} {nL : Nat} (X : mX G h0 ad p s m args c cc) (hml : c.maxLocals = nL) (hw : mH G h0 ad s S H locs) (h : wX1_at post S x1 x2) (hR : 1 + 1 ≤ R.frames ∧ 8 + (4 + 11) + 25 ≤ R.locals) (hsz : ls.size = nL) (hr : (rest.map fun v => v.category).sum ≤ 8) (hc : cells ≤ R.cells ∧ slots ≤ R.slots) (d : decode cc pc = .ok (.invokevirtual 262, 3)) (kk : ∀ (r : Int64) (S1 : MS) (H1 : Heap) (locs1 : List Loc), post r S1 → mH G h0 ad s S1 H1 locs1 → W p l e R s m args below meth c H1 locs1 cells slots Q (F0 m (pc + 3) ls (.long r :: rest))) : W p l e R s m args below meth c H locs cells slots Q (F0 m pc ls (.long x2 :: .int x1 :: .ref h0 :: rest)) :=
  m_call (val := vL) (post := post) (As := [.int x1, .long x2]) X hml hw (tX1_at X.2.2.2.2.2.1 h) (lw_V q2256 q2258 qs68 q105 q2259) ⟨rfl, by decide, by decide, (by decide +kernel : (parseMethodDescriptor yX1_at.desc).map (fun d => d.parameters.length) = some 2)⟩ hR hsz hr hc d rfl kk

def wX1_waysOf (post : Int64 → MS → Prop) (S : MS) (x1 : Int32) : Prop :=
  wX1_at (fun r1 S2 => post r1 S2) S (0 : Int32) ((x1 + (15000 : Int32)).toInt64)
theorem tX1_waysOf {l : Launch} {G : gG} {h0 : Nat} {ad : Nat → Nat} (hd : mOk G h0 ad) {post : Int64 → MS → Prop} {S : MS} {x1 : Int32} (h : wX1_waysOf post S x1) : Met l yX1_waysOf (ws_ yX1_waysOf cX1_waysOf 2 (some .long)) ⟨2, 0, 0, 48⟩ (va_Pc (.ref h0 :: [.int x1]) (fun U => mBw G h0 ad S U.heap ∧ gK G U)) (gQ vL post (mBw G h0 ad) (mAd h0 ad)) 0 0 (mAd h0 ad) := by
  refine m_ofW (by decide) rfl hd (Nat.le_of_ble_eq_true rfl) (fun p e s m below meth c ls X hml hr hlk hw hl => ?_)
  have hl : lv_has ls 2 [(0, .ref h0), (1, .int x1)] := hl
  have hx := X.1
  have hb := X.2.1
  have hown := X.2.2.1
  have hts := X.2.2.2.1
  unfold wX1_waysOf at h
  refine lv_aload_n (pc := 0) hx hb dX1_waysOf_0 rfl (lv_at hl 0 rfl) ?_
  refine lv_iconst (pc := 1) (v := (0 : Int32)) hx hb dX1_waysOf_1 (by decide) ?_
  refine lv_iload_n (pc := 2) hx hb dX1_waysOf_2 rfl (lv_at hl 1 rfl) ?_
  refine lv_sipush (pc := 3) (v := (15000 : Int32)) hx hb dX1_waysOf_3 (by decide) ?_
  refine lv_iadd (pc := 6) hx hb dX1_waysOf_6 ?_
  refine lv_i2l (pc := 7) hx hb dX1_waysOf_7 rfl ?_
  refine uX1_at (pc := 8) X hml hw h ⟨Nat.le_of_ble_eq_true rfl, Nat.le_of_ble_eq_true rfl⟩ hl.1 (Nat.le_of_ble_eq_true rfl) ⟨Nat.le_refl _, Nat.le_refl _⟩ dX1_waysOf_8 (fun r1 S2 H locs h hw => ?_)
  exact W.lret (pc := 11) hx hb hr (fun t ht hW => m_ret (val := vL) hw h ht) hw.2.2.2 dX1_waysOf_11 hlk
theorem uX1_waysOf {p : Program} {l : Launch} {e : Env} {R : Room} {s : State} {m : MethodId} {args : Array Value} {below : List Frame} {meth : Method} {c : Code} {H : Heap} {locs : List Loc} {cells slots : Nat} {Q : Jvm.State → Prop} {cc : ByteArray} {pc : Nat} {ls : Array Slot} {rest : List Value} {G : gG} {h0 : Nat} {ad : Nat → Nat} {post : Int64 → MS → Prop} {S : MS} {x1 : Int32} {nL : Nat} (X : mX G h0 ad p s m args c cc) (hml : c.maxLocals = nL) (hw : mH G h0 ad s S H locs) (h : wX1_waysOf post S x1) (hR : 2 + 1 ≤ R.frames ∧ 8 + (2 + 11) + 48 ≤ R.locals) (hsz : ls.size = nL) (hr : (rest.map fun v => v.category).sum ≤ 8) (hc : cells ≤ R.cells ∧ slots ≤ R.slots) (d : decode cc pc = .ok (.invokevirtual 285, 3)) (kk : ∀ (r : Int64) (S1 : MS) (H1 : Heap) (locs1 : List Loc), post r S1 → mH G h0 ad s S1 H1 locs1 → W p l e R s m args below meth c H1 locs1 cells slots Q (F0 m (pc + 3) ls (.long r :: rest))) : W p l e R s m args below meth c H locs cells slots Q (F0 m pc ls (.int x1 :: .ref h0 :: rest)) :=
  m_call (val := vL) (post := post) (As := [.int x1]) X hml hw (tX1_waysOf X.2.2.2.2.2.1 h) (lw_V q2261 q2263 qs69 q105 q2264) ⟨rfl, by decide, by decide, (by decide +kernel : (parseMethodDescriptor yX1_waysOf.desc).map (fun d => d.parameters.length) = some 1)⟩ hR hsz hr hc d rfl kk

def wX1_areLike_3 (post : Int32 → MS → Prop) : Nat → Int32 → Int32 → Int32 → Int32 → MS → Prop
  | 0, _, _, _, _, _ => False
  | n + 1, x1, x2, x3, x4, S => (((4 : Int32) ≤ x4) → (post (1 : Int32) S)) ∧ (¬ ((4 : Int32) ≤ x4) → (wX1_of (fun r2 S3 => wX1_of (fun r4 S5 => ((r2 = r4) → (wX1_areLike_3 post n x1 x2 x3 (x4 + (1 : Int32)) S5)) ∧ (¬ (r2 = r4) → (post (0 : Int32) S5))) S3 x1 x3 x4) S x1 x2 x4))
def wX1_areLike (post : Int32 → MS → Prop) (S : MS) (x1 : Int32) (x2 : Int32) (x3 : Int32) : Prop :=
  (∃ k, wX1_areLike_3 post k x1 x2 x3 (0 : Int32) S)
theorem kX1_areLike_3 {p : Program} {l : Launch} {e : Env} {s : State} {m : MethodId} {args : Array Value} {below : List Frame} {meth : Method} {c : Code} {G : gG} {h0 : Nat} {ad : Nat → Nat} {post : Int32 → MS → Prop} (X : mX G h0 ad p s m args c cX1_areLike) (hml : c.maxLocals = 5) (hr : meth.sig.returnType = (some .boolean)) (hlk : meth.locks = false) : ∀ (n : Nat) (x1 : Int32) (x2 : Int32) (x3 : Int32) (x4 : Int32) (S : MS) (H : Heap) (locs : List Loc) (ls : Array Slot), wX1_areLike_3 post n x1 x2 x3 x4 S → mH G h0 ad s S H locs → lv_has ls 5 [(0, .ref h0), (1, .int x1), (2, .int x2), (3, .int x3), (4, .int x4)] → W p l e ⟨1, 0, 0, 23⟩ s m args below meth c H locs 0 0 (MQ below (gQ vI post (mBw G h0 ad) (mAd h0 ad)) args s 0 0 (mAd h0 ad)) (F0 m 3 ls []) := by
  have hx := X.1
  have hb := X.2.1
  have hown := X.2.2.1
  have hts := X.2.2.2.1
  intro n
  induction n with
  | zero =>
    intro x1 x2 x3 x4 S H locs ls h
    exact False.elim h
  | succ n ih =>
    intro x1 x2 x3 x4 S H locs ls h hw hl
    unfold wX1_areLike_3 at h
    refine lv_iload (pc := 3) hx hb dX1_areLike_3 (lv_at hl 4 rfl) ?_
    refine lv_iconst (pc := 5) (v := (4 : Int32)) hx hb dX1_areLike_5 (by decide) ?_
    refine lv_icmp_ge (pc := 6) (tgt := 36) hx hb dX1_areLike_6 rfl (fun c1 => ?_) (fun c1 => ?_)
    · have h := h.1 c1
      refine lv_iconst (pc := 36) (v := (1 : Int32)) hx hb dX1_areLike_36 (by decide) ?_
      exact W.zret (pc := 37) hx hb hr rfl (fun t ht hW => m_ret (val := vI) hw h ht) hw.2.2.2 dX1_areLike_37 hlk
    · have h := h.2 c1
      refine lv_aload_n (pc := 9) hx hb dX1_areLike_9 rfl (lv_at hl 0 rfl) ?_
      refine lv_iload_n (pc := 10) hx hb dX1_areLike_10 rfl (lv_at hl 1 rfl) ?_
      refine lv_iload_n (pc := 11) hx hb dX1_areLike_11 rfl (lv_at hl 2 rfl) ?_
      refine lv_iload (pc := 12) hx hb dX1_areLike_12 (lv_at hl 4 rfl) ?_
      refine uX1_of (pc := 14) X hml hw h ⟨Nat.le_of_ble_eq_true rfl, Nat.le_of_ble_eq_true rfl⟩ hl.1 (Nat.le_of_ble_eq_true rfl) ⟨Nat.le_refl _, Nat.le_refl _⟩ dX1_areLike_14 (fun r2 S3 H locs h hw => ?_)
      refine lv_aload_n (pc := 17) hx hb dX1_areLike_17 rfl (lv_at hl 0 rfl) ?_
      refine lv_iload_n (pc := 18) hx hb dX1_areLike_18 rfl (lv_at hl 1 rfl) ?_
      refine lv_iload_n (pc := 19) hx hb dX1_areLike_19 rfl (lv_at hl 3 rfl) ?_
      refine lv_iload (pc := 20) hx hb dX1_areLike_20 (lv_at hl 4 rfl) ?_
      refine uX1_of (pc := 22) X hml hw h ⟨Nat.le_of_ble_eq_true rfl, Nat.le_of_ble_eq_true rfl⟩ hl.1 (Nat.le_of_ble_eq_true rfl) ⟨Nat.le_refl _, Nat.le_refl _⟩ dX1_areLike_22 (fun r4 S5 H locs h hw => ?_)
      refine lv_icmp_eq (pc := 25) (tgt := 30) hx hb dX1_areLike_25 rfl (fun c6 => ?_) (fun c6 => ?_)
      · have h := h.1 c6
        refine lv_iinc (pc := 30) (v := x4 + (1 : Int32)) (lv' := [(4, .int (x4 + (1 : Int32))), (0, .ref h0), (1, .int x1), (2, .int x2), (3, .int x3)]) hx hb dX1_areLike_30 hl (k := 4) rfl rfl (by decide) rfl (fun ls hl => ?_)
        refine lv_goto (pc := 33) (tgt := 3) hx hb dX1_areLike_33 rfl ?_
        exact ih _ _ _ _ _ _ _ _ h hw (lv_sub hl [1, 2, 3, 4, 0] rfl)
      · have h := h.2 c6
        refine lv_iconst (pc := 28) (v := (0 : Int32)) hx hb dX1_areLike_28 (by decide) ?_
        exact W.zret (pc := 29) hx hb hr rfl (fun t ht hW => m_ret (val := vI) hw h ht) hw.2.2.2 dX1_areLike_29 hlk
theorem tX1_areLike {l : Launch} {G : gG} {h0 : Nat} {ad : Nat → Nat} (hd : mOk G h0 ad) {post : Int32 → MS → Prop} {S : MS} {x1 : Int32} {x2 : Int32} {x3 : Int32} (h : wX1_areLike post S x1 x2 x3) : Met l yX1_areLike (ws_ yX1_areLike cX1_areLike 5 (some .boolean)) ⟨1, 0, 0, 23⟩ (va_Pc (.ref h0 :: [.int x1, .int x2, .int x3]) (fun U => mBw G h0 ad S U.heap ∧ gK G U)) (gQ vI post (mBw G h0 ad) (mAd h0 ad)) 0 0 (mAd h0 ad) := by
  refine m_ofW (by decide) rfl hd (Nat.le_of_ble_eq_true rfl) (fun p e s m below meth c ls X hml hr hlk hw hl => ?_)
  have hl : lv_has ls 5 [(0, .ref h0), (1, .int x1), (2, .int x2), (3, .int x3)] := hl
  have hx := X.1
  have hb := X.2.1
  have hown := X.2.2.1
  have hts := X.2.2.2.1
  unfold wX1_areLike at h
  refine lv_iconst (pc := 0) (v := (0 : Int32)) hx hb dX1_areLike_0 (by decide) ?_
  refine lv_istore (pc := 1) (lv' := [(4, .int (0 : Int32)), (0, .ref h0), (1, .int x1), (2, .int x2), (3, .int x3)]) hx hb dX1_areLike_1 hl (by decide) rfl (fun ls hl => ?_)
  obtain ⟨k, h⟩ := h
  exact kX1_areLike_3 X hml hr hlk  k _ _ _ _ _ _ _ _ h hw (lv_sub hl [1, 2, 3, 4, 0] rfl)
theorem uX1_areLike {p : Program} {l : Launch} {e : Env} {R : Room} {s : State} {m : MethodId} {args : Array Value} {below : List Frame} {meth : Method} {c : Code} {H : Heap} {locs : List Loc} {cells slots : Nat} {Q : Jvm.State → Prop} {cc : ByteArray} {pc : Nat} {ls : Array Slot} {rest : List Value} {G : gG} {h0 : Nat} {ad : Nat → Nat} {post : Int32 → MS → Prop} {S : MS} {x1 : Int32} {x2 : Int32} {x3 : Int32} {nL : Nat} (X : mX G h0 ad p s m args c cc) (hml : c.maxLocals = nL) (hw : mH G h0 ad s S H locs) (h : wX1_areLike post S x1 x2 x3) (hR : 1 + 1 ≤ R.frames ∧ 8 + (5 + 11) + 23 ≤ R.locals) (hsz : ls.size = nL) (hr : (rest.map fun v => v.category).sum ≤ 8) (hc : cells ≤ R.cells ∧ slots ≤ R.slots) (d : decode cc pc = .ok (.invokevirtual 300, 3)) (kk : ∀ (r : Int32) (S1 : MS) (H1 : Heap) (locs1 : List Loc), post r S1 → mH G h0 ad s S1 H1 locs1 → W p l e R s m args below meth c H1 locs1 cells slots Q (F0 m (pc + 3) ls (.int r :: rest))) : W p l e R s m args below meth c H locs cells slots Q (F0 m pc ls (.int x3 :: .int x2 :: .int x1 :: .ref h0 :: rest)) :=
  m_call (val := vI) (post := post) (As := [.int x1, .int x2, .int x3]) X hml hw (tX1_areLike X.2.2.2.2.2.1 h) (lw_V q2277 q2279 qs72 q105 q2280) ⟨rfl, by decide, by decide, (by decide +kernel : (parseMethodDescriptor yX1_areLike.desc).map (fun d => d.parameters.length) = some 3)⟩ hR hsz hr hc d rfl kk

def wX1_sorts_82 (K2 : Int32 → Int32 → MS → Prop) (K16 : Int32 → Int32 → Int32 → MS → Prop) (post : Unit → MS → Prop) (x1 : Int32) (x2 : Int32) (x3 : Int32) (S : MS) : Prop :=
  K16 x1 x2 (x3 + (1 : Int32)) S
def wX1_sorts_16 (K2 : Int32 → Int32 → MS → Prop) (post : Unit → MS → Prop) : Nat → Int32 → Int32 → Int32 → MS → Prop
  | 0, _, _, _, _ => False
  | n + 1, x1, x2, x3, S => vp_in x1 5 ∧ ((((S.2.2.1 0 x1.toNatClampNeg) ≤ x3) → (K2 x1 (x2 + (1 : Int32)) S)) ∧ (¬ ((S.2.2.1 0 x1.toNatClampNeg) ≤ x3) → (wX1_areLike (fun r3 S4 => ((r3 = (0 : Int32)) → (wX1_sorts_82 K2 (fun x1 x2 x3 S => wX1_sorts_16 K2 post n x1 x2 x3 S) post x1 x2 x3 S4)) ∧ (¬ (r3 = (0 : Int32)) → (vp_in x2 5 ∧ (vp_in x3 5 ∧ ((((S4.2.2.1 26 x2.toNatClampNeg) < (S4.2.2.1 26 x3.toNatClampNeg)) → (vp_in x2 5 ∧ (vp_in x3 5 ∧ (vp_in x2 5 ∧ (vp_in x3 5 ∧ (wX1_sorts_82 K2 (fun x1 x2 x3 S => wX1_sorts_16 K2 post n x1 x2 x3 S) post x1 x2 x3 (mA (mA S4 26 (upd (S4.2.2.1 26) x2.toNatClampNeg (S4.2.2.1 26 x3.toNatClampNeg))) 26 (upd (upd (S4.2.2.1 26) x2.toNatClampNeg (S4.2.2.1 26 x3.toNatClampNeg)) x3.toNatClampNeg (S4.2.2.1 26 x2.toNatClampNeg))))))))) ∧ (¬ ((S4.2.2.1 26 x2.toNatClampNeg) < (S4.2.2.1 26 x3.toNatClampNeg)) → (wX1_sorts_82 K2 (fun x1 x2 x3 S => wX1_sorts_16 K2 post n x1 x2 x3 S) post x1 x2 x3 S4))))))) S x1 x2 x3)))
def wX1_sorts_2 (post : Unit → MS → Prop) : Nat → Int32 → Int32 → MS → Prop
  | 0, _, _, _ => False
  | n + 1, x1, x2, S => vp_in x1 5 ∧ ((((S.2.2.1 0 x1.toNatClampNeg) ≤ x2) → (post () S)) ∧ (¬ ((S.2.2.1 0 x1.toNatClampNeg) ≤ x2) → ((∃ k, wX1_sorts_16 (fun x1 x2 S => wX1_sorts_2 post n x1 x2 S) post k x1 x2 (x2 + (1 : Int32)) S))))
def wX1_sorts (post : Unit → MS → Prop) (S : MS) (x1 : Int32) : Prop :=
  (∃ k, wX1_sorts_2 post k x1 (0 : Int32) S)
theorem kX1_sorts_82 {p : Program} {l : Launch} {e : Env} {s : State} {m : MethodId} {args : Array Value} {below : List Frame} {meth : Method} {c : Code} {G : gG} {h0 : Nat} {ad : Nat → Nat} {K2 : Int32 → Int32 → MS → Prop} {K16 : Int32 → Int32 → Int32 → MS → Prop} {post : Unit → MS → Prop} (X : mX G h0 ad p s m args c cX1_sorts) (hml : c.maxLocals = 5) (hr : meth.sig.returnType = none) (hlk : meth.locks = false) (hK2 : ∀ (x1 : Int32) (x2 : Int32) (S : MS) (H : Heap) (locs : List Loc) (ls : Array Slot), K2 x1 x2 S → mH G h0 ad s S H locs → lv_has ls 5 [(0, .ref h0), (1, .int x1), (2, .int x2)] → W p l e ⟨2, 0, 0, 47⟩ s m args below meth c H locs 0 0 (MQ below (gQ vV post (mBw G h0 ad) (mAd h0 ad)) args s 0 0 (mAd h0 ad)) (F0 m 2 ls [])) (hK16 : ∀ (x1 : Int32) (x2 : Int32) (x3 : Int32) (S : MS) (H : Heap) (locs : List Loc) (ls : Array Slot), K16 x1 x2 x3 S → mH G h0 ad s S H locs → lv_has ls 5 [(0, .ref h0), (1, .int x1), (2, .int x2), (3, .int x3)] → W p l e ⟨2, 0, 0, 47⟩ s m args below meth c H locs 0 0 (MQ below (gQ vV post (mBw G h0 ad) (mAd h0 ad)) args s 0 0 (mAd h0 ad)) (F0 m 16 ls [])) : ∀ (x1 : Int32) (x2 : Int32) (x3 : Int32) (S : MS) (H : Heap) (locs : List Loc) (ls : Array Slot), wX1_sorts_82 K2 K16 post x1 x2 x3 S → mH G h0 ad s S H locs → lv_has ls 5 [(0, .ref h0), (1, .int x1), (2, .int x2), (3, .int x3)] → W p l e ⟨2, 0, 0, 47⟩ s m args below meth c H locs 0 0 (MQ below (gQ vV post (mBw G h0 ad) (mAd h0 ad)) args s 0 0 (mAd h0 ad)) (F0 m 82 ls []) := by
  have hx := X.1
  have hb := X.2.1
  have hown := X.2.2.1
  have hts := X.2.2.2.1
  intro x1 x2 x3 S H locs ls h hw hl
  unfold wX1_sorts_82 at h
  refine lv_iinc (pc := 82) (v := x3 + (1 : Int32)) (lv' := [(3, .int (x3 + (1 : Int32))), (0, .ref h0), (1, .int x1), (2, .int x2)]) hx hb dX1_sorts_82 hl (k := 3) rfl rfl (by decide) rfl (fun ls hl => ?_)
  refine lv_goto (pc := 85) (tgt := 16) hx hb dX1_sorts_85 rfl ?_
  exact hK16 _ _ _ _ _ _ _ h hw (lv_sub hl [1, 2, 3, 0] rfl)
theorem kX1_sorts_16 {p : Program} {l : Launch} {e : Env} {s : State} {m : MethodId} {args : Array Value} {below : List Frame} {meth : Method} {c : Code} {G : gG} {h0 : Nat} {ad : Nat → Nat} {K2 : Int32 → Int32 → MS → Prop} {post : Unit → MS → Prop} (X : mX G h0 ad p s m args c cX1_sorts) (hml : c.maxLocals = 5) (hr : meth.sig.returnType = none) (hlk : meth.locks = false) (hK2 : ∀ (x1 : Int32) (x2 : Int32) (S : MS) (H : Heap) (locs : List Loc) (ls : Array Slot), K2 x1 x2 S → mH G h0 ad s S H locs → lv_has ls 5 [(0, .ref h0), (1, .int x1), (2, .int x2)] → W p l e ⟨2, 0, 0, 47⟩ s m args below meth c H locs 0 0 (MQ below (gQ vV post (mBw G h0 ad) (mAd h0 ad)) args s 0 0 (mAd h0 ad)) (F0 m 2 ls [])) : ∀ (n : Nat) (x1 : Int32) (x2 : Int32) (x3 : Int32) (S : MS) (H : Heap) (locs : List Loc) (ls : Array Slot), wX1_sorts_16 K2 post n x1 x2 x3 S → mH G h0 ad s S H locs → lv_has ls 5 [(0, .ref h0), (1, .int x1), (2, .int x2), (3, .int x3)] → W p l e ⟨2, 0, 0, 47⟩ s m args below meth c H locs 0 0 (MQ below (gQ vV post (mBw G h0 ad) (mAd h0 ad)) args s 0 0 (mAd h0 ad)) (F0 m 16 ls []) := by
  have hx := X.1
  have hb := X.2.1
  have hown := X.2.2.1
  have hts := X.2.2.2.1
  intro n
  induction n with
  | zero =>
    intro x1 x2 x3 S H locs ls h
    exact False.elim h
  | succ n ih =>
    intro x1 x2 x3 S H locs ls h hw hl
    unfold wX1_sorts_16 at h
    refine lv_iload_n (pc := 16) hx hb dX1_sorts_16 rfl (lv_at hl 3 rfl) ?_
    refine lv_aload_n (pc := 17) hx hb dX1_sorts_17 rfl (lv_at hl 0 rfl) ?_
    refine mg0 (pc := 18) X hw dX1_sorts_18 ?_
    refine lv_iload_n (pc := 21) hx hb dX1_sorts_21 rfl (lv_at hl 1 rfl) ?_
    obtain ⟨hi, h⟩ := h
    refine ma0 (pc := 22) X hw hi dX1_sorts_22 ?_
    refine lv_icmp_ge (pc := 23) (tgt := 88) hx hb dX1_sorts_23 rfl (fun c2 => ?_) (fun c2 => ?_)
    · have h := h.1 c2
      refine lv_iinc (pc := 88) (v := x2 + (1 : Int32)) (lv' := [(2, .int (x2 + (1 : Int32))), (0, .ref h0), (1, .int x1), (3, .int x3)]) hx hb dX1_sorts_88 hl (k := 2) rfl rfl (by decide) rfl (fun ls hl => ?_)
      refine lv_goto (pc := 91) (tgt := 2) hx hb dX1_sorts_91 rfl ?_
      exact hK2 _ _ _ _ _ _ h hw (lv_sub hl [1, 2, 0] rfl)
    · have h := h.2 c2
      refine lv_aload_n (pc := 26) hx hb dX1_sorts_26 rfl (lv_at hl 0 rfl) ?_
      refine lv_iload_n (pc := 27) hx hb dX1_sorts_27 rfl (lv_at hl 1 rfl) ?_
      refine lv_iload_n (pc := 28) hx hb dX1_sorts_28 rfl (lv_at hl 2 rfl) ?_
      refine lv_iload_n (pc := 29) hx hb dX1_sorts_29 rfl (lv_at hl 3 rfl) ?_
      refine uX1_areLike (pc := 30) X hml hw h ⟨Nat.le_of_ble_eq_true rfl, Nat.le_of_ble_eq_true rfl⟩ hl.1 (Nat.le_of_ble_eq_true rfl) ⟨Nat.le_refl _, Nat.le_refl _⟩ dX1_sorts_30 (fun r3 S4 H locs h hw => ?_)
      refine lv_if_eq (pc := 33) (tgt := 82) hx hb dX1_sorts_33 rfl (fun c5 => ?_) (fun c5 => ?_)
      · have h := h.1 c5
        exact kX1_sorts_82 X hml hr hlk hK2 ih _ _ _ _ _ _ _ h hw (lv_sub hl [0, 1, 2, 3] rfl)
      · have h := h.2 c5
        refine lv_aload_n (pc := 36) hx hb dX1_sorts_36 rfl (lv_at hl 0 rfl) ?_
        refine mg26 (pc := 37) X hw dX1_sorts_37 ?_
        refine lv_iload_n (pc := 40) hx hb dX1_sorts_40 rfl (lv_at hl 2 rfl) ?_
        obtain ⟨hi, h⟩ := h
        refine ma26 (pc := 41) X hw hi dX1_sorts_41 ?_
        refine lv_aload_n (pc := 42) hx hb dX1_sorts_42 rfl (lv_at hl 0 rfl) ?_
        refine mg26 (pc := 43) X hw dX1_sorts_43 ?_
        refine lv_iload_n (pc := 46) hx hb dX1_sorts_46 rfl (lv_at hl 3 rfl) ?_
        obtain ⟨hi, h⟩ := h
        refine ma26 (pc := 47) X hw hi dX1_sorts_47 ?_
        refine lv_icmp_lt (pc := 48) (tgt := 54) hx hb dX1_sorts_48 rfl (fun c6 => ?_) (fun c6 => ?_)
        · have h := h.1 c6
          refine lv_aload_n (pc := 54) hx hb dX1_sorts_54 rfl (lv_at hl 0 rfl) ?_
          refine mg26 (pc := 55) X hw dX1_sorts_55 ?_
          refine lv_iload_n (pc := 58) hx hb dX1_sorts_58 rfl (lv_at hl 2 rfl) ?_
          obtain ⟨hi, h⟩ := h
          refine ma26 (pc := 59) X hw hi dX1_sorts_59 ?_
          refine lv_istore (pc := 60) (lv' := [(4, .int (S4.2.2.1 26 x2.toNatClampNeg)), (0, .ref h0), (1, .int x1), (2, .int x2), (3, .int x3)]) hx hb dX1_sorts_60 hl (by decide) rfl (fun ls hl => ?_)
          refine lv_aload_n (pc := 62) hx hb dX1_sorts_62 rfl (lv_at hl 1 rfl) ?_
          refine mg26 (pc := 63) X hw dX1_sorts_63 ?_
          refine lv_iload_n (pc := 66) hx hb dX1_sorts_66 rfl (lv_at hl 3 rfl) ?_
          refine lv_aload_n (pc := 67) hx hb dX1_sorts_67 rfl (lv_at hl 1 rfl) ?_
          refine mg26 (pc := 68) X hw dX1_sorts_68 ?_
          refine lv_iload_n (pc := 71) hx hb dX1_sorts_71 rfl (lv_at hl 4 rfl) ?_
          obtain ⟨hi, h⟩ := h
          refine ma26 (pc := 72) X hw hi dX1_sorts_72 ?_
          obtain ⟨hi, h⟩ := h
          refine ms26 (pc := 73) X hw hi dX1_sorts_73 (fun H locs hw => ?_)
          refine lv_aload_n (pc := 74) hx hb dX1_sorts_74 rfl (lv_at hl 1 rfl) ?_
          refine mg26 (pc := 75) X hw dX1_sorts_75 ?_
          refine lv_iload_n (pc := 78) hx hb dX1_sorts_78 rfl (lv_at hl 4 rfl) ?_
          refine lv_iload (pc := 79) hx hb dX1_sorts_79 (lv_at hl 0 rfl) ?_
          obtain ⟨hi, h⟩ := h
          refine ms26 (pc := 81) X hw hi dX1_sorts_81 (fun H locs hw => ?_)
          exact kX1_sorts_82 X hml hr hlk hK2 ih _ _ _ _ _ _ _ h hw (lv_sub hl [1, 2, 3, 4] rfl)
        · have h := h.2 c6
          refine lv_goto (pc := 51) (tgt := 82) hx hb dX1_sorts_51 rfl ?_
          exact kX1_sorts_82 X hml hr hlk hK2 ih _ _ _ _ _ _ _ h hw (lv_sub hl [0, 1, 2, 3] rfl)
theorem kX1_sorts_2 {p : Program} {l : Launch} {e : Env} {s : State} {m : MethodId} {args : Array Value} {below : List Frame} {meth : Method} {c : Code} {G : gG} {h0 : Nat} {ad : Nat → Nat} {post : Unit → MS → Prop} (X : mX G h0 ad p s m args c cX1_sorts) (hml : c.maxLocals = 5) (hr : meth.sig.returnType = none) (hlk : meth.locks = false) : ∀ (n : Nat) (x1 : Int32) (x2 : Int32) (S : MS) (H : Heap) (locs : List Loc) (ls : Array Slot), wX1_sorts_2 post n x1 x2 S → mH G h0 ad s S H locs → lv_has ls 5 [(0, .ref h0), (1, .int x1), (2, .int x2)] → W p l e ⟨2, 0, 0, 47⟩ s m args below meth c H locs 0 0 (MQ below (gQ vV post (mBw G h0 ad) (mAd h0 ad)) args s 0 0 (mAd h0 ad)) (F0 m 2 ls []) := by
  have hx := X.1
  have hb := X.2.1
  have hown := X.2.2.1
  have hts := X.2.2.2.1
  intro n
  induction n with
  | zero =>
    intro x1 x2 S H locs ls h
    exact False.elim h
  | succ n ih =>
    intro x1 x2 S H locs ls h hw hl
    unfold wX1_sorts_2 at h
    refine lv_iload_n (pc := 2) hx hb dX1_sorts_2 rfl (lv_at hl 2 rfl) ?_
    refine lv_aload_n (pc := 3) hx hb dX1_sorts_3 rfl (lv_at hl 0 rfl) ?_
    refine mg0 (pc := 4) X hw dX1_sorts_4 ?_
    refine lv_iload_n (pc := 7) hx hb dX1_sorts_7 rfl (lv_at hl 1 rfl) ?_
    obtain ⟨hi, h⟩ := h
    refine ma0 (pc := 8) X hw hi dX1_sorts_8 ?_
    refine lv_icmp_ge (pc := 9) (tgt := 94) hx hb dX1_sorts_9 rfl (fun c1 => ?_) (fun c1 => ?_)
    · have h := h.1 c1
      exact W.vret (pc := 94) hx hb hr (fun t ht hW => m_ret (val := vV) (v := ()) hw h ht) hw.2.2.2 dX1_sorts_94 hlk
    · have h := h.2 c1
      refine lv_iload_n (pc := 12) hx hb dX1_sorts_12 rfl (lv_at hl 2 rfl) ?_
      refine lv_iconst (pc := 13) (v := (1 : Int32)) hx hb dX1_sorts_13 (by decide) ?_
      refine lv_iadd (pc := 14) hx hb dX1_sorts_14 ?_
      refine lv_istore_n (pc := 15) (lv' := [(3, .int (x2 + (1 : Int32))), (0, .ref h0), (1, .int x1), (2, .int x2)]) hx hb dX1_sorts_15 rfl hl (by decide) rfl (fun ls hl => ?_)
      obtain ⟨k, h⟩ := h
      exact kX1_sorts_16 X hml hr hlk ih k _ _ _ _ _ _ _ h hw (lv_sub hl [1, 2, 3, 0] rfl)
theorem tX1_sorts {l : Launch} {G : gG} {h0 : Nat} {ad : Nat → Nat} (hd : mOk G h0 ad) {post : Unit → MS → Prop} {S : MS} {x1 : Int32} (h : wX1_sorts post S x1) : Met l yX1_sorts (ws_ yX1_sorts cX1_sorts 5 none) ⟨2, 0, 0, 47⟩ (va_Pc (.ref h0 :: [.int x1]) (fun U => mBw G h0 ad S U.heap ∧ gK G U)) (gQ vV post (mBw G h0 ad) (mAd h0 ad)) 0 0 (mAd h0 ad) := by
  refine m_ofW (by decide) rfl hd (Nat.le_of_ble_eq_true rfl) (fun p e s m below meth c ls X hml hr hlk hw hl => ?_)
  have hl : lv_has ls 5 [(0, .ref h0), (1, .int x1)] := hl
  have hx := X.1
  have hb := X.2.1
  have hown := X.2.2.1
  have hts := X.2.2.2.1
  unfold wX1_sorts at h
  refine lv_iconst (pc := 0) (v := (0 : Int32)) hx hb dX1_sorts_0 (by decide) ?_
  refine lv_istore_n (pc := 1) (lv' := [(2, .int (0 : Int32)), (0, .ref h0), (1, .int x1)]) hx hb dX1_sorts_1 rfl hl (by decide) rfl (fun ls hl => ?_)
  obtain ⟨k, h⟩ := h
  exact kX1_sorts_2 X hml hr hlk  k _ _ _ _ _ _ h hw (lv_sub hl [1, 2, 0] rfl)
theorem uX1_sorts {p : Program} {l : Launch} {e : Env} {R : Room} {s : State} {m : MethodId} {args : Array Value} {below : List Frame} {meth : Method} {c : Code} {H : Heap} {locs : List Loc} {cells slots : Nat} {Q : Jvm.State → Prop} {cc : ByteArray} {pc : Nat} {ls : Array Slot} {rest : List Value} {G : gG} {h0 : Nat} {ad : Nat → Nat} {post : Unit → MS → Prop} {S : MS} {x1 : Int32} {nL : Nat} (X : mX G h0 ad p s m args c cc) (hml : c.maxLocals = nL) (hw : mH G h0 ad s S H locs) (h : wX1_sorts post S x1) (hR : 2 + 1 ≤ R.frames ∧ 8 + (5 + 11) + 47 ≤ R.locals) (hsz : ls.size = nL) (hr : (rest.map fun v => v.category).sum ≤ 8) (hc : cells ≤ R.cells ∧ slots ≤ R.slots) (d : decode cc pc = .ok (.invokevirtual 304, 3)) (kk : ∀ (r : Unit) (S1 : MS) (H1 : Heap) (locs1 : List Loc), post r S1 → mH G h0 ad s S1 H1 locs1 → W p l e R s m args below meth c H1 locs1 cells slots Q (F0 m (pc + 3) ls (rest))) : W p l e R s m args below meth c H locs cells slots Q (F0 m pc ls (.int x1 :: .ref h0 :: rest)) :=
  m_call (val := vV) (post := post) (As := [.int x1]) X hml hw (tX1_sorts X.2.2.2.2.2.1 h) (lw_V q2281 q2283 qs73 q105 q2284) ⟨rfl, by decide, by decide, (by decide +kernel : (parseMethodDescriptor yX1_sorts.desc).map (fun d => d.parameters.length) = some 1)⟩ hR hsz hr hc d rfl kk

def wX1_isKind_2 (post : Int32 → MS → Prop) : Nat → Int32 → Int32 → MS → Prop
  | 0, _, _, _ => False
  | n + 1, x1, x2, S => (((5 : Int32) ≤ x2) → (post (1 : Int32) S)) ∧ (¬ ((5 : Int32) ≤ x2) → (vp_in (((5 : Int32) * x1) + x2) 600 ∧ (vp_in x2 5 ∧ ((((S.2.2.1 27 (((5 : Int32) * x1) + x2).toNatClampNeg) = (S.2.2.1 26 x2.toNatClampNeg)) → (wX1_isKind_2 post n x1 (x2 + (1 : Int32)) S)) ∧ (¬ ((S.2.2.1 27 (((5 : Int32) * x1) + x2).toNatClampNeg) = (S.2.2.1 26 x2.toNatClampNeg)) → (post (0 : Int32) S))))))
def wX1_isKind (post : Int32 → MS → Prop) (S : MS) (x1 : Int32) : Prop :=
  (∃ k, wX1_isKind_2 post k x1 (0 : Int32) S)
theorem kX1_isKind_2 {p : Program} {l : Launch} {e : Env} {s : State} {m : MethodId} {args : Array Value} {below : List Frame} {meth : Method} {c : Code} {G : gG} {h0 : Nat} {ad : Nat → Nat} {post : Int32 → MS → Prop} (X : mX G h0 ad p s m args c cX1_isKind) (hml : c.maxLocals = 3) (hr : meth.sig.returnType = (some .boolean)) (hlk : meth.locks = false) : ∀ (n : Nat) (x1 : Int32) (x2 : Int32) (S : MS) (H : Heap) (locs : List Loc) (ls : Array Slot), wX1_isKind_2 post n x1 x2 S → mH G h0 ad s S H locs → lv_has ls 3 [(0, .ref h0), (1, .int x1), (2, .int x2)] → W p l e ⟨0, 0, 0, 0⟩ s m args below meth c H locs 0 0 (MQ below (gQ vI post (mBw G h0 ad) (mAd h0 ad)) args s 0 0 (mAd h0 ad)) (F0 m 2 ls []) := by
  have hx := X.1
  have hb := X.2.1
  have hown := X.2.2.1
  have hts := X.2.2.2.1
  intro n
  induction n with
  | zero =>
    intro x1 x2 S H locs ls h
    exact False.elim h
  | succ n ih =>
    intro x1 x2 S H locs ls h hw hl
    unfold wX1_isKind_2 at h
    refine lv_iload_n (pc := 2) hx hb dX1_isKind_2 rfl (lv_at hl 2 rfl) ?_
    refine lv_iconst (pc := 3) (v := (5 : Int32)) hx hb dX1_isKind_3 (by decide) ?_
    refine lv_icmp_ge (pc := 4) (tgt := 34) hx hb dX1_isKind_4 rfl (fun c1 => ?_) (fun c1 => ?_)
    · have h := h.1 c1
      refine lv_iconst (pc := 34) (v := (1 : Int32)) hx hb dX1_isKind_34 (by decide) ?_
      exact W.zret (pc := 35) hx hb hr rfl (fun t ht hW => m_ret (val := vI) hw h ht) hw.2.2.2 dX1_isKind_35 hlk
    · have h := h.2 c1
      refine lv_aload_n (pc := 7) hx hb dX1_isKind_7 rfl (lv_at hl 0 rfl) ?_
      refine mg27 (pc := 8) X hw dX1_isKind_8 ?_
      refine lv_iconst (pc := 11) (v := (5 : Int32)) hx hb dX1_isKind_11 (by decide) ?_
      refine lv_iload_n (pc := 12) hx hb dX1_isKind_12 rfl (lv_at hl 1 rfl) ?_
      refine lv_imul (pc := 13) hx hb dX1_isKind_13 ?_
      refine lv_iload_n (pc := 14) hx hb dX1_isKind_14 rfl (lv_at hl 2 rfl) ?_
      refine lv_iadd (pc := 15) hx hb dX1_isKind_15 ?_
      obtain ⟨hi, h⟩ := h
      refine ma27 (pc := 16) X hw hi dX1_isKind_16 ?_
      refine lv_aload_n (pc := 17) hx hb dX1_isKind_17 rfl (lv_at hl 0 rfl) ?_
      refine mg26 (pc := 18) X hw dX1_isKind_18 ?_
      refine lv_iload_n (pc := 21) hx hb dX1_isKind_21 rfl (lv_at hl 2 rfl) ?_
      obtain ⟨hi, h⟩ := h
      refine ma26 (pc := 22) X hw hi dX1_isKind_22 ?_
      refine lv_icmp_eq (pc := 23) (tgt := 28) hx hb dX1_isKind_23 rfl (fun c2 => ?_) (fun c2 => ?_)
      · have h := h.1 c2
        refine lv_iinc (pc := 28) (v := x2 + (1 : Int32)) (lv' := [(2, .int (x2 + (1 : Int32))), (0, .ref h0), (1, .int x1)]) hx hb dX1_isKind_28 hl (k := 2) rfl rfl (by decide) rfl (fun ls hl => ?_)
        refine lv_goto (pc := 31) (tgt := 2) hx hb dX1_isKind_31 rfl ?_
        exact ih _ _ _ _ _ _ h hw (lv_sub hl [1, 2, 0] rfl)
      · have h := h.2 c2
        refine lv_iconst (pc := 26) (v := (0 : Int32)) hx hb dX1_isKind_26 (by decide) ?_
        exact W.zret (pc := 27) hx hb hr rfl (fun t ht hW => m_ret (val := vI) hw h ht) hw.2.2.2 dX1_isKind_27 hlk
theorem tX1_isKind {l : Launch} {G : gG} {h0 : Nat} {ad : Nat → Nat} (hd : mOk G h0 ad) {post : Int32 → MS → Prop} {S : MS} {x1 : Int32} (h : wX1_isKind post S x1) : Met l yX1_isKind (ws_ yX1_isKind cX1_isKind 3 (some .boolean)) ⟨0, 0, 0, 0⟩ (va_Pc (.ref h0 :: [.int x1]) (fun U => mBw G h0 ad S U.heap ∧ gK G U)) (gQ vI post (mBw G h0 ad) (mAd h0 ad)) 0 0 (mAd h0 ad) := by
  refine m_ofW (by decide) rfl hd (Nat.le_of_ble_eq_true rfl) (fun p e s m below meth c ls X hml hr hlk hw hl => ?_)
  have hl : lv_has ls 3 [(0, .ref h0), (1, .int x1)] := hl
  have hx := X.1
  have hb := X.2.1
  have hown := X.2.2.1
  have hts := X.2.2.2.1
  unfold wX1_isKind at h
  refine lv_iconst (pc := 0) (v := (0 : Int32)) hx hb dX1_isKind_0 (by decide) ?_
  refine lv_istore_n (pc := 1) (lv' := [(2, .int (0 : Int32)), (0, .ref h0), (1, .int x1)]) hx hb dX1_isKind_1 rfl hl (by decide) rfl (fun ls hl => ?_)
  obtain ⟨k, h⟩ := h
  exact kX1_isKind_2 X hml hr hlk  k _ _ _ _ _ _ h hw (lv_sub hl [1, 2, 0] rfl)
theorem uX1_isKind {p : Program} {l : Launch} {e : Env} {R : Room} {s : State} {m : MethodId} {args : Array Value} {below : List Frame} {meth : Method} {c : Code} {H : Heap} {locs : List Loc} {cells slots : Nat} {Q : Jvm.State → Prop} {cc : ByteArray} {pc : Nat} {ls : Array Slot} {rest : List Value} {G : gG} {h0 : Nat} {ad : Nat → Nat} {post : Int32 → MS → Prop} {S : MS} {x1 : Int32} {nL : Nat} (X : mX G h0 ad p s m args c cc) (hml : c.maxLocals = nL) (hw : mH G h0 ad s S H locs) (h : wX1_isKind post S x1) (hR : 0 + 1 ≤ R.frames ∧ 8 + (3 + 11) + 0 ≤ R.locals) (hsz : ls.size = nL) (hr : (rest.map fun v => v.category).sum ≤ 8) (hc : cells ≤ R.cells ∧ slots ≤ R.slots) (d : decode cc pc = .ok (.invokevirtual 307, 3)) (kk : ∀ (r : Int32) (S1 : MS) (H1 : Heap) (locs1 : List Loc), post r S1 → mH G h0 ad s S1 H1 locs1 → W p l e R s m args below meth c H1 locs1 cells slots Q (F0 m (pc + 3) ls (.int r :: rest))) : W p l e R s m args below meth c H locs cells slots Q (F0 m pc ls (.int x1 :: .ref h0 :: rest)) :=
  m_call (val := vI) (post := post) (As := [.int x1]) X hml hw (tX1_isKind X.2.2.2.2.2.1 h) (lw_V q2285 q2287 qs74 q105 q2288) ⟨rfl, by decide, by decide, (by decide +kernel : (parseMethodDescriptor yX1_isKind.desc).map (fun d => d.parameters.length) = some 1)⟩ hR hsz hr hc d rfl kk

def wX1_isTerm (post : Int32 → MS → Prop) (S : MS) (x1 : Int32) (x2 : Int32) : Prop :=
  wX1_isSlot (fun r1 => ((r1 = (0 : Int32)) → (post (0 : Int32) S)) ∧ (¬ (r1 = (0 : Int32)) → (vp_in x1 5 ∧ (wX1_isIn (fun r3 => ((r3 = (0 : Int32)) → (post (0 : Int32) S)) ∧ (¬ (r3 = (0 : Int32)) → (post (1 : Int32) S))) x2.toInt64 (0 : Int64) (((S.2.2.1 0 x1.toNatClampNeg) - (1 : Int32)).toInt64))))) x1
theorem tX1_isTerm {l : Launch} {G : gG} {h0 : Nat} {ad : Nat → Nat} (hd : mOk G h0 ad) {post : Int32 → MS → Prop} {S : MS} {x1 : Int32} {x2 : Int32} (h : wX1_isTerm post S x1 x2) : Met l yX1_isTerm (ws_ yX1_isTerm cX1_isTerm 3 (some .boolean)) ⟨2, 0, 0, 45⟩ (va_Pc (.ref h0 :: [.int x1, .int x2]) (fun U => mBw G h0 ad S U.heap ∧ gK G U)) (gQ vI post (mBw G h0 ad) (mAd h0 ad)) 0 0 (mAd h0 ad) := by
  refine m_ofW (by decide) rfl hd (Nat.le_of_ble_eq_true rfl) (fun p e s m below meth c ls X hml hr hlk hw hl => ?_)
  have hl : lv_has ls 3 [(0, .ref h0), (1, .int x1), (2, .int x2)] := hl
  have hx := X.1
  have hb := X.2.1
  have hown := X.2.2.1
  have hts := X.2.2.2.1
  unfold wX1_isTerm at h
  refine lv_iload_n (pc := 0) hx hb dX1_isTerm_0 rfl (lv_at hl 1 rfl) ?_
  refine uX1_isSlot (pc := 1) ⟨hx, hb, hml, hown, hts⟩ h ⟨Nat.le_of_ble_eq_true rfl, Nat.le_of_ble_eq_true rfl⟩ hl.1 (Nat.le_of_ble_eq_true rfl) ⟨Nat.le_refl _, Nat.le_refl _⟩ dX1_isTerm_1 (fun r1 h => ?_)
  refine lv_if_eq (pc := 4) (tgt := 29) hx hb dX1_isTerm_4 rfl (fun c2 => ?_) (fun c2 => ?_)
  · have h := h.1 c2
    refine lv_iconst (pc := 29) (v := (0 : Int32)) hx hb dX1_isTerm_29 (by decide) ?_
    exact W.zret (pc := 30) hx hb hr rfl (fun t ht hW => m_ret (val := vI) hw h ht) hw.2.2.2 dX1_isTerm_30 hlk
  · have h := h.2 c2
    refine lv_iload_n (pc := 7) hx hb dX1_isTerm_7 rfl (lv_at hl 2 rfl) ?_
    refine lv_i2l (pc := 8) hx hb dX1_isTerm_8 rfl ?_
    refine lv_lconst (pc := 9) (v := (0 : Int64)) hx hb dX1_isTerm_9 (by decide) ?_
    refine lv_aload_n (pc := 10) hx hb dX1_isTerm_10 rfl (lv_at hl 0 rfl) ?_
    refine mg0 (pc := 11) X hw dX1_isTerm_11 ?_
    refine lv_iload_n (pc := 14) hx hb dX1_isTerm_14 rfl (lv_at hl 1 rfl) ?_
    obtain ⟨hi, h⟩ := h
    refine ma0 (pc := 15) X hw hi dX1_isTerm_15 ?_
    refine lv_iconst (pc := 16) (v := (1 : Int32)) hx hb dX1_isTerm_16 (by decide) ?_
    refine lv_isub (pc := 17) hx hb dX1_isTerm_17 ?_
    refine lv_i2l (pc := 18) hx hb dX1_isTerm_18 rfl ?_
    refine uX1_isIn (pc := 19) ⟨hx, hb, hml, hown, hts⟩ h ⟨Nat.le_of_ble_eq_true rfl, Nat.le_of_ble_eq_true rfl⟩ hl.1 (Nat.le_of_ble_eq_true rfl) ⟨Nat.le_refl _, Nat.le_refl _⟩ dX1_isTerm_19 (fun r3 h => ?_)
    refine lv_if_eq (pc := 22) (tgt := 29) hx hb dX1_isTerm_22 rfl (fun c4 => ?_) (fun c4 => ?_)
    · have h := h.1 c4
      refine lv_iconst (pc := 29) (v := (0 : Int32)) hx hb dX1_isTerm_29 (by decide) ?_
      exact W.zret (pc := 30) hx hb hr rfl (fun t ht hW => m_ret (val := vI) hw h ht) hw.2.2.2 dX1_isTerm_30 hlk
    · have h := h.2 c4
      refine lv_iconst (pc := 25) (v := (1 : Int32)) hx hb dX1_isTerm_25 (by decide) ?_
      refine lv_goto (pc := 26) (tgt := 30) hx hb dX1_isTerm_26 rfl ?_
      exact W.zret (pc := 30) hx hb hr rfl (fun t ht hW => m_ret (val := vI) hw h ht) hw.2.2.2 dX1_isTerm_30 hlk
theorem uX1_isTerm {p : Program} {l : Launch} {e : Env} {R : Room} {s : State} {m : MethodId} {args : Array Value} {below : List Frame} {meth : Method} {c : Code} {H : Heap} {locs : List Loc} {cells slots : Nat} {Q : Jvm.State → Prop} {cc : ByteArray} {pc : Nat} {ls : Array Slot} {rest : List Value} {G : gG} {h0 : Nat} {ad : Nat → Nat} {post : Int32 → MS → Prop} {S : MS} {x1 : Int32} {x2 : Int32} {nL : Nat} (X : mX G h0 ad p s m args c cc) (hml : c.maxLocals = nL) (hw : mH G h0 ad s S H locs) (h : wX1_isTerm post S x1 x2) (hR : 2 + 1 ≤ R.frames ∧ 8 + (3 + 11) + 45 ≤ R.locals) (hsz : ls.size = nL) (hr : (rest.map fun v => v.category).sum ≤ 8) (hc : cells ≤ R.cells ∧ slots ≤ R.slots) (d : decode cc pc = .ok (.invokevirtual 313, 3)) (kk : ∀ (r : Int32) (S1 : MS) (H1 : Heap) (locs1 : List Loc), post r S1 → mH G h0 ad s S1 H1 locs1 → W p l e R s m args below meth c H1 locs1 cells slots Q (F0 m (pc + 3) ls (.int r :: rest))) : W p l e R s m args below meth c H locs cells slots Q (F0 m pc ls (.int x2 :: .int x1 :: .ref h0 :: rest)) :=
  m_call (val := vI) (post := post) (As := [.int x1, .int x2]) X hml hw (tX1_isTerm X.2.2.2.2.2.1 h) (lw_V q2297 q2299 qs76 q105 q2300) ⟨rfl, by decide, by decide, (by decide +kernel : (parseMethodDescriptor yX1_isTerm.desc).map (fun d => d.parameters.length) = some 2)⟩ hR hsz hr hc d rfl kk

def wX1_isOut_2 (post : Int32 → MS → Prop) : Nat → Int32 → Int32 → MS → Prop
  | 0, _, _, _ => False
  | n + 1, x1, x2, S => (((S.1 32) ≤ x2) → (wX1_isN (fun r2 => ((r2 = (0 : Int32)) → (post (1 : Int32) S)) ∧ (¬ (r2 = (0 : Int32)) → (post (0 : Int32) S))) x1)) ∧ (¬ ((S.1 32) ≤ x2) → (vp_in x2 60 ∧ ((((S.2.2.1 31 x2.toNatClampNeg) = x1) → (post (1 : Int32) S)) ∧ (¬ ((S.2.2.1 31 x2.toNatClampNeg) = x1) → (wX1_isOut_2 post n x1 (x2 + (1 : Int32)) S)))))
def wX1_isOut (post : Int32 → MS → Prop) (S : MS) (x1 : Int32) : Prop :=
  (∃ k, wX1_isOut_2 post k x1 (0 : Int32) S)
theorem kX1_isOut_2 {p : Program} {l : Launch} {e : Env} {s : State} {m : MethodId} {args : Array Value} {below : List Frame} {meth : Method} {c : Code} {G : gG} {h0 : Nat} {ad : Nat → Nat} {post : Int32 → MS → Prop} (X : mX G h0 ad p s m args c cX1_isOut) (hml : c.maxLocals = 3) (hr : meth.sig.returnType = (some .boolean)) (hlk : meth.locks = false) : ∀ (n : Nat) (x1 : Int32) (x2 : Int32) (S : MS) (H : Heap) (locs : List Loc) (ls : Array Slot), wX1_isOut_2 post n x1 x2 S → mH G h0 ad s S H locs → lv_has ls 3 [(0, .ref h0), (1, .int x1), (2, .int x2)] → W p l e ⟨2, 0, 0, 45⟩ s m args below meth c H locs 0 0 (MQ below (gQ vI post (mBw G h0 ad) (mAd h0 ad)) args s 0 0 (mAd h0 ad)) (F0 m 2 ls []) := by
  have hx := X.1
  have hb := X.2.1
  have hown := X.2.2.1
  have hts := X.2.2.2.1
  intro n
  induction n with
  | zero =>
    intro x1 x2 S H locs ls h
    exact False.elim h
  | succ n ih =>
    intro x1 x2 S H locs ls h hw hl
    unfold wX1_isOut_2 at h
    refine lv_iload_n (pc := 2) hx hb dX1_isOut_2 rfl (lv_at hl 2 rfl) ?_
    refine lv_aload_n (pc := 3) hx hb dX1_isOut_3 rfl (lv_at hl 0 rfl) ?_
    refine mg32 (pc := 4) X hw dX1_isOut_4 ?_
    refine lv_icmp_ge (pc := 7) (tgt := 28) hx hb dX1_isOut_7 rfl (fun c1 => ?_) (fun c1 => ?_)
    · have h := h.1 c1
      refine lv_iload_n (pc := 28) hx hb dX1_isOut_28 rfl (lv_at hl 1 rfl) ?_
      refine uX1_isN (pc := 29) ⟨hx, hb, hml, hown, hts⟩ h ⟨Nat.le_of_ble_eq_true rfl, Nat.le_of_ble_eq_true rfl⟩ hl.1 (Nat.le_of_ble_eq_true rfl) ⟨Nat.le_refl _, Nat.le_refl _⟩ dX1_isOut_29 (fun r2 h => ?_)
      refine lv_if_ne (pc := 32) (tgt := 39) hx hb dX1_isOut_32 rfl (fun c3 => ?_) (fun c3 => ?_)
      · have h := h.2 c3
        refine lv_iconst (pc := 39) (v := (0 : Int32)) hx hb dX1_isOut_39 (by decide) ?_
        exact W.zret (pc := 40) hx hb hr rfl (fun t ht hW => m_ret (val := vI) hw h ht) hw.2.2.2 dX1_isOut_40 hlk
      · have h := h.1 c3
        refine lv_iconst (pc := 35) (v := (1 : Int32)) hx hb dX1_isOut_35 (by decide) ?_
        refine lv_goto (pc := 36) (tgt := 40) hx hb dX1_isOut_36 rfl ?_
        exact W.zret (pc := 40) hx hb hr rfl (fun t ht hW => m_ret (val := vI) hw h ht) hw.2.2.2 dX1_isOut_40 hlk
    · have h := h.2 c1
      refine lv_aload_n (pc := 10) hx hb dX1_isOut_10 rfl (lv_at hl 0 rfl) ?_
      refine mg31 (pc := 11) X hw dX1_isOut_11 ?_
      refine lv_iload_n (pc := 14) hx hb dX1_isOut_14 rfl (lv_at hl 2 rfl) ?_
      obtain ⟨hi, h⟩ := h
      refine ma31 (pc := 15) X hw hi dX1_isOut_15 ?_
      refine lv_iload_n (pc := 16) hx hb dX1_isOut_16 rfl (lv_at hl 1 rfl) ?_
      refine lv_icmp_ne (pc := 17) (tgt := 22) hx hb dX1_isOut_17 rfl (fun c4 => ?_) (fun c4 => ?_)
      · have h := h.2 c4
        refine lv_iinc (pc := 22) (v := x2 + (1 : Int32)) (lv' := [(2, .int (x2 + (1 : Int32))), (0, .ref h0), (1, .int x1)]) hx hb dX1_isOut_22 hl (k := 2) rfl rfl (by decide) rfl (fun ls hl => ?_)
        refine lv_goto (pc := 25) (tgt := 2) hx hb dX1_isOut_25 rfl ?_
        exact ih _ _ _ _ _ _ h hw (lv_sub hl [1, 2, 0] rfl)
      · have h := h.1 c4
        refine lv_iconst (pc := 20) (v := (1 : Int32)) hx hb dX1_isOut_20 (by decide) ?_
        exact W.zret (pc := 21) hx hb hr rfl (fun t ht hW => m_ret (val := vI) hw h ht) hw.2.2.2 dX1_isOut_21 hlk
theorem tX1_isOut {l : Launch} {G : gG} {h0 : Nat} {ad : Nat → Nat} (hd : mOk G h0 ad) {post : Int32 → MS → Prop} {S : MS} {x1 : Int32} (h : wX1_isOut post S x1) : Met l yX1_isOut (ws_ yX1_isOut cX1_isOut 3 (some .boolean)) ⟨2, 0, 0, 45⟩ (va_Pc (.ref h0 :: [.int x1]) (fun U => mBw G h0 ad S U.heap ∧ gK G U)) (gQ vI post (mBw G h0 ad) (mAd h0 ad)) 0 0 (mAd h0 ad) := by
  refine m_ofW (by decide) rfl hd (Nat.le_of_ble_eq_true rfl) (fun p e s m below meth c ls X hml hr hlk hw hl => ?_)
  have hl : lv_has ls 3 [(0, .ref h0), (1, .int x1)] := hl
  have hx := X.1
  have hb := X.2.1
  have hown := X.2.2.1
  have hts := X.2.2.2.1
  unfold wX1_isOut at h
  refine lv_iconst (pc := 0) (v := (0 : Int32)) hx hb dX1_isOut_0 (by decide) ?_
  refine lv_istore_n (pc := 1) (lv' := [(2, .int (0 : Int32)), (0, .ref h0), (1, .int x1)]) hx hb dX1_isOut_1 rfl hl (by decide) rfl (fun ls hl => ?_)
  obtain ⟨k, h⟩ := h
  exact kX1_isOut_2 X hml hr hlk  k _ _ _ _ _ _ h hw (lv_sub hl [1, 2, 0] rfl)
theorem uX1_isOut {p : Program} {l : Launch} {e : Env} {R : Room} {s : State} {m : MethodId} {args : Array Value} {below : List Frame} {meth : Method} {c : Code} {H : Heap} {locs : List Loc} {cells slots : Nat} {Q : Jvm.State → Prop} {cc : ByteArray} {pc : Nat} {ls : Array Slot} {rest : List Value} {G : gG} {h0 : Nat} {ad : Nat → Nat} {post : Int32 → MS → Prop} {S : MS} {x1 : Int32} {nL : Nat} (X : mX G h0 ad p s m args c cc) (hml : c.maxLocals = nL) (hw : mH G h0 ad s S H locs) (h : wX1_isOut post S x1) (hR : 2 + 1 ≤ R.frames ∧ 8 + (3 + 11) + 45 ≤ R.locals) (hsz : ls.size = nL) (hr : (rest.map fun v => v.category).sum ≤ 8) (hc : cells ≤ R.cells ∧ slots ≤ R.slots) (d : decode cc pc = .ok (.invokevirtual 327, 3)) (kk : ∀ (r : Int32) (S1 : MS) (H1 : Heap) (locs1 : List Loc), post r S1 → mH G h0 ad s S1 H1 locs1 → W p l e R s m args below meth c H1 locs1 cells slots Q (F0 m (pc + 3) ls (.int r :: rest))) : W p l e R s m args below meth c H locs cells slots Q (F0 m pc ls (.int x1 :: .ref h0 :: rest)) :=
  m_call (val := vI) (post := post) (As := [.int x1]) X hml hw (tX1_isOut X.2.2.2.2.2.1 h) (lw_V q2319 q2321 qs79 q105 q2322) ⟨rfl, by decide, by decide, (by decide +kernel : (parseMethodDescriptor yX1_isOut.desc).map (fun d => d.parameters.length) = some 1)⟩ hR hsz hr hc d rfl kk

def wX1_puts (post : Unit → MS → Prop) (S : MS) (x1 : Int32) (x2 : Int32) : Prop :=
  vp_in ((900 : Int32) + (S.1 36)) 1800 ∧ (vp_in ((900 : Int32) + (S.1 36)) 1800 ∧ (post () (mI (mA (mA S 34 (upd (S.2.2.1 34) ((900 : Int32) + (S.1 36)).toNatClampNeg x1)) 33 (upd (S.2.2.1 33) ((900 : Int32) + (S.1 36)).toNatClampNeg x2)) 36 ((S.1 36) + (1 : Int32)))))
theorem tX1_puts {l : Launch} {G : gG} {h0 : Nat} {ad : Nat → Nat} (hd : mOk G h0 ad) {post : Unit → MS → Prop} {S : MS} {x1 : Int32} {x2 : Int32} (h : wX1_puts post S x1 x2) : Met l yX1_puts (ws_ yX1_puts cX1_puts 3 none) ⟨0, 0, 0, 0⟩ (va_Pc (.ref h0 :: [.int x1, .int x2]) (fun U => mBw G h0 ad S U.heap ∧ gK G U)) (gQ vV post (mBw G h0 ad) (mAd h0 ad)) 0 0 (mAd h0 ad) := by
  refine m_ofW (by decide) rfl hd (Nat.le_of_ble_eq_true rfl) (fun p e s m below meth c ls X hml hr hlk hw hl => ?_)
  have hl : lv_has ls 3 [(0, .ref h0), (1, .int x1), (2, .int x2)] := hl
  have hx := X.1
  have hb := X.2.1
  have hown := X.2.2.1
  have hts := X.2.2.2.1
  unfold wX1_puts at h
  refine lv_aload_n (pc := 0) hx hb dX1_puts_0 rfl (lv_at hl 0 rfl) ?_
  refine mg34 (pc := 1) X hw dX1_puts_1 ?_
  refine lv_sipush (pc := 4) (v := (900 : Int32)) hx hb dX1_puts_4 (by decide) ?_
  refine lv_aload_n (pc := 7) hx hb dX1_puts_7 rfl (lv_at hl 0 rfl) ?_
  refine mg36 (pc := 8) X hw dX1_puts_8 ?_
  refine lv_iadd (pc := 11) hx hb dX1_puts_11 ?_
  refine lv_iload_n (pc := 12) hx hb dX1_puts_12 rfl (lv_at hl 1 rfl) ?_
  obtain ⟨hi, h⟩ := h
  refine ms34 (pc := 13) X hw hi dX1_puts_13 (fun H locs hw => ?_)
  refine lv_aload_n (pc := 14) hx hb dX1_puts_14 rfl (lv_at hl 0 rfl) ?_
  refine mg33 (pc := 15) X hw dX1_puts_15 ?_
  refine lv_sipush (pc := 18) (v := (900 : Int32)) hx hb dX1_puts_18 (by decide) ?_
  refine lv_aload_n (pc := 21) hx hb dX1_puts_21 rfl (lv_at hl 0 rfl) ?_
  refine mg36 (pc := 22) X hw dX1_puts_22 ?_
  refine lv_iadd (pc := 25) hx hb dX1_puts_25 ?_
  refine lv_iload_n (pc := 26) hx hb dX1_puts_26 rfl (lv_at hl 2 rfl) ?_
  obtain ⟨hi, h⟩ := h
  refine ms33 (pc := 27) X hw hi dX1_puts_27 (fun H locs hw => ?_)
  refine lv_aload_n (pc := 28) hx hb dX1_puts_28 rfl (lv_at hl 0 rfl) ?_
  refine lv_dup (pc := 29) hx hb dX1_puts_29 rfl ?_
  refine mg36 (pc := 30) X hw dX1_puts_30 ?_
  refine lv_iconst (pc := 33) (v := (1 : Int32)) hx hb dX1_puts_33 (by decide) ?_
  refine lv_iadd (pc := 34) hx hb dX1_puts_34 ?_
  refine mp36 (pc := 35) X hw dX1_puts_35 (fun H locs hw => ?_)
  exact W.vret (pc := 38) hx hb hr (fun t ht hW => m_ret (val := vV) (v := ()) hw h ht) hw.2.2.2 dX1_puts_38 hlk
theorem uX1_puts {p : Program} {l : Launch} {e : Env} {R : Room} {s : State} {m : MethodId} {args : Array Value} {below : List Frame} {meth : Method} {c : Code} {H : Heap} {locs : List Loc} {cells slots : Nat} {Q : Jvm.State → Prop} {cc : ByteArray} {pc : Nat} {ls : Array Slot} {rest : List Value} {G : gG} {h0 : Nat} {ad : Nat → Nat} {post : Unit → MS → Prop} {S : MS} {x1 : Int32} {x2 : Int32} {nL : Nat} (X : mX G h0 ad p s m args c cc) (hml : c.maxLocals = nL) (hw : mH G h0 ad s S H locs) (h : wX1_puts post S x1 x2) (hR : 0 + 1 ≤ R.frames ∧ 8 + (3 + 11) + 0 ≤ R.locals) (hsz : ls.size = nL) (hr : (rest.map fun v => v.category).sum ≤ 8) (hc : cells ≤ R.cells ∧ slots ≤ R.slots) (d : decode cc pc = .ok (.invokevirtual 344, 3)) (kk : ∀ (r : Unit) (S1 : MS) (H1 : Heap) (locs1 : List Loc), post r S1 → mH G h0 ad s S1 H1 locs1 → W p l e R s m args below meth c H1 locs1 cells slots Q (F0 m (pc + 3) ls (rest))) : W p l e R s m args below meth c H locs cells slots Q (F0 m pc ls (.int x2 :: .int x1 :: .ref h0 :: rest)) :=
  m_call (val := vV) (post := post) (As := [.int x1, .int x2]) X hml hw (tX1_puts X.2.2.2.2.2.1 h) (lw_V q2353 q2355 qs86 q105 q2356) ⟨rfl, by decide, by decide, (by decide +kernel : (parseMethodDescriptor yX1_puts.desc).map (fun d => d.parameters.length) = some 2)⟩ hR hsz hr hc d rfl kk

def wX1_bits_4 (post : Int32 → Prop) : Nat → Int32 → Int32 → Prop
  | 0, _, _ => False
  | n + 1, x1, x2 => ((x2 ≤ (0 : Int32)) → (post x1)) ∧ (¬ (x2 ≤ (0 : Int32)) → (wX1_bits_4 post n (x1 + (x2 - x2 / (2 : Int32) * (2 : Int32))) (x2 / (2 : Int32))))
def wX1_bits (post : Int32 → Prop) (x0 : Int32) : Prop :=
  (∃ k, wX1_bits_4 post k (0 : Int32) x0)
theorem kX1_bits_4 {p : Program} {l : Launch} {e : Env} {s : State} {m : MethodId} {args : Array Value} {below : List Frame} {meth : Method} {c : Code} {post : Int32 → Prop} (X : CallFix p m c cX1_bits 3 s args lw_all RX1) (hr : meth.sig.returnType = (some .int)) (hlk : meth.locks = false) : ∀ (n : Nat) (x1 : Int32) (x2 : Int32) (ls : Array Slot), wX1_bits_4 post n x1 x2 → True → lv_has ls 3 [(1, .int x1), (2, .int x2)] → W p l e ⟨0, 0, 0, 0⟩ s m args below meth c s.heap [] 0 0 (MQ below (pQ vI post) args s 0 0 (fun _ => False)) (F0 m 4 ls []) := by
  have hx := X.1
  have hb := X.2.1
  have hml := X.2.2.1
  have hown := X.2.2.2.1
  have hts := X.2.2.2.2
  intro n
  induction n with
  | zero =>
    intro x1 x2 ls h
    exact False.elim h
  | succ n ih =>
    intro x1 x2 ls h _ hl
    unfold wX1_bits_4 at h
    refine lv_iload_n (pc := 4) hx hb dX1_bits_4 rfl (lv_at hl 1 rfl) ?_
    refine lv_if_le (pc := 5) (tgt := 21) hx hb dX1_bits_5 rfl (fun c1 => ?_) (fun c1 => ?_)
    · have h := h.1 c1
      refine lv_iload_n (pc := 21) hx hb dX1_bits_21 rfl (lv_at hl 0 rfl) ?_
      exact W.iret (pc := 22) hx hb hr (fun t ht hW => s_ret (val := vI) h ht) (fun _ hq => absurd hq List.not_mem_nil) dX1_bits_22 hlk
    · have h := h.2 c1
      refine lv_iload_n (pc := 8) hx hb dX1_bits_8 rfl (lv_at hl 0 rfl) ?_
      refine lv_iload_n (pc := 9) hx hb dX1_bits_9 rfl (lv_at hl 1 rfl) ?_
      refine lv_iconst (pc := 10) (v := (2 : Int32)) hx hb dX1_bits_10 (by decide) ?_
      refine lv_irem (pc := 11) hx hb dX1_bits_11 (by decide) ?_
      refine lv_iadd (pc := 12) hx hb dX1_bits_12 ?_
      refine lv_istore_n (pc := 13) (lv' := [(1, .int (x1 + (x2 - x2 / (2 : Int32) * (2 : Int32)))), (2, .int x2)]) hx hb dX1_bits_13 rfl hl (by decide) rfl (fun ls hl => ?_)
      refine lv_iload_n (pc := 14) hx hb dX1_bits_14 rfl (lv_at hl 1 rfl) ?_
      refine lv_iconst (pc := 15) (v := (2 : Int32)) hx hb dX1_bits_15 (by decide) ?_
      refine lv_idiv (pc := 16) hx hb dX1_bits_16 (by decide) ?_
      refine lv_istore_n (pc := 17) (lv' := [(2, .int (x2 / (2 : Int32))), (1, .int (x1 + (x2 - x2 / (2 : Int32) * (2 : Int32))))]) hx hb dX1_bits_17 rfl hl (by decide) rfl (fun ls hl => ?_)
      refine lv_goto (pc := 18) (tgt := 4) hx hb dX1_bits_18 rfl ?_
      exact ih _ _ _ h trivial (lv_sub hl [1, 0] rfl)
theorem tX1_bits {l : Launch} {post : Int32 → Prop} {x0 : Int32} (h : wX1_bits post x0) : Met l yX1_bits (ws_ yX1_bits cX1_bits 3 (some .int)) ⟨0, 0, 0, 0⟩ (va_Pc [.int x0] (fun _ => True)) (pQ vI post) 0 0 (fun _ => False) := by
  refine s_ofW (by decide) (Nat.le_of_ble_eq_true rfl) (fun p e s m below meth c ls X hr hlk hl => ?_)
  have hl : lv_has ls 3 [(0, .int x0)] := hl
  have hx := X.1
  have hb := X.2.1
  have hml := X.2.2.1
  have hown := X.2.2.2.1
  have hts := X.2.2.2.2
  unfold wX1_bits at h
  refine lv_iconst (pc := 0) (v := (0 : Int32)) hx hb dX1_bits_0 (by decide) ?_
  refine lv_istore_n (pc := 1) (lv' := [(1, .int (0 : Int32)), (0, .int x0)]) hx hb dX1_bits_1 rfl hl (by decide) rfl (fun ls hl => ?_)
  refine lv_iload_n (pc := 2) hx hb dX1_bits_2 rfl (lv_at hl 1 rfl) ?_
  refine lv_istore_n (pc := 3) (lv' := [(2, .int x0), (1, .int (0 : Int32)), (0, .int x0)]) hx hb dX1_bits_3 rfl hl (by decide) rfl (fun ls hl => ?_)
  obtain ⟨k, h⟩ := h
  exact kX1_bits_4 X hr hlk  k _ _ _ h trivial (lv_sub hl [1, 0] rfl)
theorem uX1_bits {p : Program} {l : Launch} {e : Env} {R : Room} {s : State} {m : MethodId} {args : Array Value} {below : List Frame} {meth : Method} {c : Code} {H : Heap} {locs : List Loc} {cells slots : Nat} {Q : Jvm.State → Prop} {cc : ByteArray} {pc : Nat} {ls : Array Slot} {rest : List Value} {post : Int32 → Prop} {x0 : Int32} {nL : Nat} (X : CallFix p m c cc nL s args lw_all RX1) (h : wX1_bits post x0) (hR : 0 + 1 ≤ R.frames ∧ 8 + (3 + 11) + 0 ≤ R.locals) (hsz : ls.size = nL) (hr : (rest.map fun v => v.category).sum ≤ 8) (hc : cells ≤ R.cells ∧ slots ≤ R.slots) (d : decode cc pc = .ok (.invokestatic 376, 3)) (kk : ∀ r : Int32, post r → W p l e R s m args below meth c H locs cells slots Q (F0 m (pc + 3) ls (.int r :: rest))) : W p l e R s m args below meth c H locs cells slots Q (F0 m pc ls (.int x0 :: rest)) :=
  s_call (val := vI) (post := post) (As := [.int x0]) X (tX1_bits h) (lw_S q2357 q2358 q105 q2359) ⟨by decide, by decide, (by decide +kernel : (parseMethodDescriptor yX1_bits.desc).map (fun d => d.parameters.length) = some 1)⟩ hR hsz hr hc d rfl kk

def wX1_times_36 (post : Int64 → MS → Prop) (x5 : Int64) (S : MS) : Prop :=
  post x5 (mI S 44 (1 : Int32))
def wX1_times (post : Int64 → MS → Prop) (S : MS) (x1 : Int64) (x3 : Int64) : Prop :=
  ((x1 = (0 : Int64)) → (post (x1 * x3) S)) ∧ (¬ (x1 = (0 : Int64)) → (¬ x1 = 0 ∧ (((((x1 * x3) / x1) = x3) → (((x1 = (-1 : Int64)) → (((x3 = (-9223372036854775808 : Int64)) → (wX1_times_36 post (x1 * x3) S)) ∧ (¬ (x3 = (-9223372036854775808 : Int64)) → (post (x1 * x3) S)))) ∧ (¬ (x1 = (-1 : Int64)) → (post (x1 * x3) S)))) ∧ (¬ (((x1 * x3) / x1) = x3) → (wX1_times_36 post (x1 * x3) S)))))
theorem kX1_times_36 {p : Program} {l : Launch} {e : Env} {s : State} {m : MethodId} {args : Array Value} {below : List Frame} {meth : Method} {c : Code} {G : gG} {h0 : Nat} {ad : Nat → Nat} {post : Int64 → MS → Prop} (X : mX G h0 ad p s m args c cX1_times) (hml : c.maxLocals = 7) (hr : meth.sig.returnType = (some .long)) (hlk : meth.locks = false) : ∀ (x5 : Int64) (S : MS) (H : Heap) (locs : List Loc) (ls : Array Slot), wX1_times_36 post x5 S → mH G h0 ad s S H locs → lv_has ls 7 [(0, .ref h0), (5, .long x5)] → W p l e ⟨0, 0, 0, 0⟩ s m args below meth c H locs 0 0 (MQ below (gQ vL post (mBw G h0 ad) (mAd h0 ad)) args s 0 0 (mAd h0 ad)) (F0 m 36 ls []) := by
  have hx := X.1
  have hb := X.2.1
  have hown := X.2.2.1
  have hts := X.2.2.2.1
  intro x5 S H locs ls h hw hl
  unfold wX1_times_36 at h
  refine lv_aload_n (pc := 36) hx hb dX1_times_36 rfl (lv_at hl 0 rfl) ?_
  refine lv_iconst (pc := 37) (v := (1 : Int32)) hx hb dX1_times_37 (by decide) ?_
  refine mp44 (pc := 38) X hw isB_1 dX1_times_38 (fun H locs hw => ?_)
  refine lv_lload (pc := 41) hx hb dX1_times_41 (lv_at hl 1 rfl) ?_
  exact W.lret (pc := 43) hx hb hr (fun t ht hW => m_ret (val := vL) hw h ht) hw.2.2.2 dX1_times_43 hlk
theorem tX1_times {l : Launch} {G : gG} {h0 : Nat} {ad : Nat → Nat} (hd : mOk G h0 ad) {post : Int64 → MS → Prop} {S : MS} {x1 : Int64} {x3 : Int64} (h : wX1_times post S x1 x3) : Met l yX1_times (ws_ yX1_times cX1_times 7 (some .long)) ⟨0, 0, 0, 0⟩ (va_Pc (.ref h0 :: [.long x1, .long x3]) (fun U => mBw G h0 ad S U.heap ∧ gK G U)) (gQ vL post (mBw G h0 ad) (mAd h0 ad)) 0 0 (mAd h0 ad) := by
  refine m_ofW (by decide) rfl hd (Nat.le_of_ble_eq_true rfl) (fun p e s m below meth c ls X hml hr hlk hw hl => ?_)
  have hl : lv_has ls 7 [(0, .ref h0), (1, .long x1), (3, .long x3)] := hl
  have hx := X.1
  have hb := X.2.1
  have hown := X.2.2.1
  have hts := X.2.2.2.1
  unfold wX1_times at h
  refine lv_lload_n (pc := 0) hx hb dX1_times_0 rfl (lv_at hl 1 rfl) ?_
  refine lv_lload_n (pc := 1) hx hb dX1_times_1 rfl (lv_at hl 2 rfl) ?_
  refine lv_lmul (pc := 2) hx hb dX1_times_2 ?_
  refine lv_lstore (pc := 3) (lv' := [(5, .long (x1 * x3)), (0, .ref h0), (1, .long x1), (3, .long x3)]) hx hb dX1_times_3 hl (by decide) rfl (fun ls hl => ?_)
  refine lv_lload_n (pc := 5) hx hb dX1_times_5 rfl (lv_at hl 2 rfl) ?_
  refine lv_lconst (pc := 6) (v := (0 : Int64)) hx hb dX1_times_6 (by decide) ?_
  refine W.lcmp (pc := 7) hx hb dX1_times_7 ?_
  refine lv_if_eq (pc := 8) (tgt := 41) hx hb dX1_times_8 rfl (fun c1 => ?_) (fun c1 => ?_)
  · have h := h.1 ((lg_cmp_eq _ _).mp c1)
    refine lv_lload (pc := 41) hx hb dX1_times_41 (lv_at hl 0 rfl) ?_
    exact W.lret (pc := 43) hx hb hr (fun t ht hW => m_ret (val := vL) hw h ht) hw.2.2.2 dX1_times_43 hlk
  · have h := h.2 (fun z => c1 ((lg_cmp_eq _ _).mpr z))
    refine lv_lload (pc := 11) hx hb dX1_times_11 (lv_at hl 0 rfl) ?_
    refine lv_lload_n (pc := 13) hx hb dX1_times_13 rfl (lv_at hl 2 rfl) ?_
    obtain ⟨hne, h⟩ := h
    refine lv_ldiv (pc := 14) hx hb dX1_times_14 hne ?_
    refine lv_lload_n (pc := 15) hx hb dX1_times_15 rfl (lv_at hl 3 rfl) ?_
    refine W.lcmp (pc := 16) hx hb dX1_times_16 ?_
    refine lv_if_ne (pc := 17) (tgt := 36) hx hb dX1_times_17 rfl (fun c2 => ?_) (fun c2 => ?_)
    · have h := h.2 (fun z => c2 ((lg_cmp_eq _ _).mpr z))
      exact kX1_times_36 X hml hr hlk  _ _ _ _ _ h hw (lv_sub hl [1, 0] rfl)
    · have h := h.1 ((lg_cmp_eq _ _).mp c2)
      refine lv_lload_n (pc := 20) hx hb dX1_times_20 rfl (lv_at hl 2 rfl) ?_
      refine lv_ldc2 (pc := 21) hx hb hown (hts _ q2243) dX1_times_21 ?_
      refine W.lcmp (pc := 24) hx hb dX1_times_24 ?_
      refine lv_if_ne (pc := 25) (tgt := 41) hx hb dX1_times_25 rfl (fun c3 => ?_) (fun c3 => ?_)
      · have h := h.2 (fun z => c3 ((lg_cmp_eq _ _).mpr z))
        refine lv_lload (pc := 41) hx hb dX1_times_41 (lv_at hl 0 rfl) ?_
        exact W.lret (pc := 43) hx hb hr (fun t ht hW => m_ret (val := vL) hw h ht) hw.2.2.2 dX1_times_43 hlk
      · have h := h.1 ((lg_cmp_eq _ _).mp c3)
        refine lv_lload_n (pc := 28) hx hb dX1_times_28 rfl (lv_at hl 3 rfl) ?_
        refine lv_ldc2 (pc := 29) hx hb hown (hts _ q2381) dX1_times_29 ?_
        refine W.lcmp (pc := 32) hx hb dX1_times_32 ?_
        refine lv_if_ne (pc := 33) (tgt := 41) hx hb dX1_times_33 rfl (fun c4 => ?_) (fun c4 => ?_)
        · have h := h.2 (fun z => c4 ((lg_cmp_eq _ _).mpr z))
          refine lv_lload (pc := 41) hx hb dX1_times_41 (lv_at hl 0 rfl) ?_
          exact W.lret (pc := 43) hx hb hr (fun t ht hW => m_ret (val := vL) hw h ht) hw.2.2.2 dX1_times_43 hlk
        · have h := h.1 ((lg_cmp_eq _ _).mp c4)
          exact kX1_times_36 X hml hr hlk  _ _ _ _ _ h hw (lv_sub hl [1, 0] rfl)
theorem uX1_times {p : Program} {l : Launch} {e : Env} {R : Room} {s : State} {m : MethodId} {args : Array Value} {below : List Frame} {meth : Method} {c : Code} {H : Heap} {locs : List Loc} {cells slots : Nat} {Q : Jvm.State → Prop} {cc : ByteArray} {pc : Nat} {ls : Array Slot} {rest : List Value} {G : gG} {h0 : Nat} {ad : Nat → Nat} {post : Int64 → MS → Prop} {S : MS} {x1 : Int64} {x3 : Int64} {nL : Nat} (X : mX G h0 ad p s m args c cc) (hml : c.maxLocals = nL) (hw : mH G h0 ad s S H locs) (h : wX1_times post S x1 x3) (hR : 0 + 1 ≤ R.frames ∧ 8 + (7 + 11) + 0 ≤ R.locals) (hsz : ls.size = nL) (hr : (rest.map fun v => v.category).sum ≤ 8) (hc : cells ≤ R.cells ∧ slots ≤ R.slots) (d : decode cc pc = .ok (.invokevirtual 384, 3)) (kk : ∀ (r : Int64) (S1 : MS) (H1 : Heap) (locs1 : List Loc), post r S1 → mH G h0 ad s S1 H1 locs1 → W p l e R s m args below meth c H1 locs1 cells slots Q (F0 m (pc + 3) ls (.long r :: rest))) : W p l e R s m args below meth c H locs cells slots Q (F0 m pc ls (.long x3 :: .long x1 :: .ref h0 :: rest)) :=
  m_call (val := vL) (post := post) (As := [.long x1, .long x3]) X hml hw (tX1_times X.2.2.2.2.2.1 h) (lw_V q2377 q2379 qs90 q105 q2380) ⟨rfl, by decide, by decide, (by decide +kernel : (parseMethodDescriptor yX1_times.desc).map (fun d => d.parameters.length) = some 2)⟩ hR hsz hr hc d rfl kk

def wX1_plus (post : Int64 → MS → Prop) (S : MS) (x1 : Int64) (x3 : Int64) : Prop :=
  (((0 : Int64) ≤ ((x1 ^^^ (x1 + x3)) &&& (x3 ^^^ (x1 + x3)))) → (post (x1 + x3) S)) ∧ (¬ ((0 : Int64) ≤ ((x1 ^^^ (x1 + x3)) &&& (x3 ^^^ (x1 + x3)))) → (post (x1 + x3) (mI S 44 (1 : Int32))))
theorem tX1_plus {l : Launch} {G : gG} {h0 : Nat} {ad : Nat → Nat} (hd : mOk G h0 ad) {post : Int64 → MS → Prop} {S : MS} {x1 : Int64} {x3 : Int64} (h : wX1_plus post S x1 x3) : Met l yX1_plus (ws_ yX1_plus cX1_plus 7 (some .long)) ⟨0, 0, 0, 0⟩ (va_Pc (.ref h0 :: [.long x1, .long x3]) (fun U => mBw G h0 ad S U.heap ∧ gK G U)) (gQ vL post (mBw G h0 ad) (mAd h0 ad)) 0 0 (mAd h0 ad) := by
  refine m_ofW (by decide) rfl hd (Nat.le_of_ble_eq_true rfl) (fun p e s m below meth c ls X hml hr hlk hw hl => ?_)
  have hl : lv_has ls 7 [(0, .ref h0), (1, .long x1), (3, .long x3)] := hl
  have hx := X.1
  have hb := X.2.1
  have hown := X.2.2.1
  have hts := X.2.2.2.1
  unfold wX1_plus at h
  refine lv_lload_n (pc := 0) hx hb dX1_plus_0 rfl (lv_at hl 1 rfl) ?_
  refine lv_lload_n (pc := 1) hx hb dX1_plus_1 rfl (lv_at hl 2 rfl) ?_
  refine lv_ladd (pc := 2) hx hb dX1_plus_2 ?_
  refine lv_lstore (pc := 3) (lv' := [(5, .long (x1 + x3)), (0, .ref h0), (1, .long x1), (3, .long x3)]) hx hb dX1_plus_3 hl (by decide) rfl (fun ls hl => ?_)
  refine lv_lload_n (pc := 5) hx hb dX1_plus_5 rfl (lv_at hl 2 rfl) ?_
  refine lv_lload (pc := 6) hx hb dX1_plus_6 (lv_at hl 0 rfl) ?_
  refine lv_lxor (pc := 8) hx hb dX1_plus_8 ?_
  refine lv_lload_n (pc := 9) hx hb dX1_plus_9 rfl (lv_at hl 3 rfl) ?_
  refine lv_lload (pc := 10) hx hb dX1_plus_10 (lv_at hl 0 rfl) ?_
  refine lv_lxor (pc := 12) hx hb dX1_plus_12 ?_
  refine lv_land (pc := 13) hx hb dX1_plus_13 ?_
  refine lv_lconst (pc := 14) (v := (0 : Int64)) hx hb dX1_plus_14 (by decide) ?_
  refine W.lcmp (pc := 15) hx hb dX1_plus_15 ?_
  refine lv_if_ge (pc := 16) (tgt := 24) hx hb dX1_plus_16 rfl (fun c1 => ?_) (fun c1 => ?_)
  · have h := h.1 ((lg_cmp_ge _ _).mp c1)
    refine lv_lload (pc := 24) hx hb dX1_plus_24 (lv_at hl 0 rfl) ?_
    exact W.lret (pc := 26) hx hb hr (fun t ht hW => m_ret (val := vL) hw h ht) hw.2.2.2 dX1_plus_26 hlk
  · have h := h.2 (fun z => c1 ((lg_cmp_ge _ _).mpr z))
    refine lv_aload_n (pc := 19) hx hb dX1_plus_19 rfl (lv_at hl 1 rfl) ?_
    refine lv_iconst (pc := 20) (v := (1 : Int32)) hx hb dX1_plus_20 (by decide) ?_
    refine mp44 (pc := 21) X hw isB_1 dX1_plus_21 (fun H locs hw => ?_)
    refine lv_lload (pc := 24) hx hb dX1_plus_24 (lv_at hl 0 rfl) ?_
    exact W.lret (pc := 26) hx hb hr (fun t ht hW => m_ret (val := vL) hw h ht) hw.2.2.2 dX1_plus_26 hlk
theorem uX1_plus {p : Program} {l : Launch} {e : Env} {R : Room} {s : State} {m : MethodId} {args : Array Value} {below : List Frame} {meth : Method} {c : Code} {H : Heap} {locs : List Loc} {cells slots : Nat} {Q : Jvm.State → Prop} {cc : ByteArray} {pc : Nat} {ls : Array Slot} {rest : List Value} {G : gG} {h0 : Nat} {ad : Nat → Nat} {post : Int64 → MS → Prop} {S : MS} {x1 : Int64} {x3 : Int64} {nL : Nat} (X : mX G h0 ad p s m args c cc) (hml : c.maxLocals = nL) (hw : mH G h0 ad s S H locs) (h : wX1_plus post S x1 x3) (hR : 0 + 1 ≤ R.frames ∧ 8 + (7 + 11) + 0 ≤ R.locals) (hsz : ls.size = nL) (hr : (rest.map fun v => v.category).sum ≤ 8) (hc : cells ≤ R.cells ∧ slots ≤ R.slots) (d : decode cc pc = .ok (.invokevirtual 392, 3)) (kk : ∀ (r : Int64) (S1 : MS) (H1 : Heap) (locs1 : List Loc), post r S1 → mH G h0 ad s S1 H1 locs1 → W p l e R s m args below meth c H1 locs1 cells slots Q (F0 m (pc + 3) ls (.long r :: rest))) : W p l e R s m args below meth c H locs cells slots Q (F0 m pc ls (.long x3 :: .long x1 :: .ref h0 :: rest)) :=
  m_call (val := vL) (post := post) (As := [.long x1, .long x3]) X hml hw (tX1_plus X.2.2.2.2.2.1 h) (lw_V q2382 q2384 qs91 q105 q2385) ⟨rfl, by decide, by decide, (by decide +kernel : (parseMethodDescriptor yX1_plus.desc).map (fun d => d.parameters.length) = some 2)⟩ hR hsz hr hc d rfl kk

def wX1_minus (post : Int64 → MS → Prop) (S : MS) (x1 : Int64) (x3 : Int64) : Prop :=
  (((0 : Int64) ≤ ((x1 ^^^ x3) &&& (x1 ^^^ (x1 - x3)))) → (post (x1 - x3) S)) ∧ (¬ ((0 : Int64) ≤ ((x1 ^^^ x3) &&& (x1 ^^^ (x1 - x3)))) → (post (x1 - x3) (mI S 44 (1 : Int32))))
theorem tX1_minus {l : Launch} {G : gG} {h0 : Nat} {ad : Nat → Nat} (hd : mOk G h0 ad) {post : Int64 → MS → Prop} {S : MS} {x1 : Int64} {x3 : Int64} (h : wX1_minus post S x1 x3) : Met l yX1_minus (ws_ yX1_minus cX1_minus 7 (some .long)) ⟨0, 0, 0, 0⟩ (va_Pc (.ref h0 :: [.long x1, .long x3]) (fun U => mBw G h0 ad S U.heap ∧ gK G U)) (gQ vL post (mBw G h0 ad) (mAd h0 ad)) 0 0 (mAd h0 ad) := by
  refine m_ofW (by decide) rfl hd (Nat.le_of_ble_eq_true rfl) (fun p e s m below meth c ls X hml hr hlk hw hl => ?_)
  have hl : lv_has ls 7 [(0, .ref h0), (1, .long x1), (3, .long x3)] := hl
  have hx := X.1
  have hb := X.2.1
  have hown := X.2.2.1
  have hts := X.2.2.2.1
  unfold wX1_minus at h
  refine lv_lload_n (pc := 0) hx hb dX1_minus_0 rfl (lv_at hl 1 rfl) ?_
  refine lv_lload_n (pc := 1) hx hb dX1_minus_1 rfl (lv_at hl 2 rfl) ?_
  refine lv_lsub (pc := 2) hx hb dX1_minus_2 ?_
  refine lv_lstore (pc := 3) (lv' := [(5, .long (x1 - x3)), (0, .ref h0), (1, .long x1), (3, .long x3)]) hx hb dX1_minus_3 hl (by decide) rfl (fun ls hl => ?_)
  refine lv_lload_n (pc := 5) hx hb dX1_minus_5 rfl (lv_at hl 2 rfl) ?_
  refine lv_lload_n (pc := 6) hx hb dX1_minus_6 rfl (lv_at hl 3 rfl) ?_
  refine lv_lxor (pc := 7) hx hb dX1_minus_7 ?_
  refine lv_lload_n (pc := 8) hx hb dX1_minus_8 rfl (lv_at hl 2 rfl) ?_
  refine lv_lload (pc := 9) hx hb dX1_minus_9 (lv_at hl 0 rfl) ?_
  refine lv_lxor (pc := 11) hx hb dX1_minus_11 ?_
  refine lv_land (pc := 12) hx hb dX1_minus_12 ?_
  refine lv_lconst (pc := 13) (v := (0 : Int64)) hx hb dX1_minus_13 (by decide) ?_
  refine W.lcmp (pc := 14) hx hb dX1_minus_14 ?_
  refine lv_if_ge (pc := 15) (tgt := 23) hx hb dX1_minus_15 rfl (fun c1 => ?_) (fun c1 => ?_)
  · have h := h.1 ((lg_cmp_ge _ _).mp c1)
    refine lv_lload (pc := 23) hx hb dX1_minus_23 (lv_at hl 0 rfl) ?_
    exact W.lret (pc := 25) hx hb hr (fun t ht hW => m_ret (val := vL) hw h ht) hw.2.2.2 dX1_minus_25 hlk
  · have h := h.2 (fun z => c1 ((lg_cmp_ge _ _).mpr z))
    refine lv_aload_n (pc := 18) hx hb dX1_minus_18 rfl (lv_at hl 1 rfl) ?_
    refine lv_iconst (pc := 19) (v := (1 : Int32)) hx hb dX1_minus_19 (by decide) ?_
    refine mp44 (pc := 20) X hw isB_1 dX1_minus_20 (fun H locs hw => ?_)
    refine lv_lload (pc := 23) hx hb dX1_minus_23 (lv_at hl 0 rfl) ?_
    exact W.lret (pc := 25) hx hb hr (fun t ht hW => m_ret (val := vL) hw h ht) hw.2.2.2 dX1_minus_25 hlk
theorem uX1_minus {p : Program} {l : Launch} {e : Env} {R : Room} {s : State} {m : MethodId} {args : Array Value} {below : List Frame} {meth : Method} {c : Code} {H : Heap} {locs : List Loc} {cells slots : Nat} {Q : Jvm.State → Prop} {cc : ByteArray} {pc : Nat} {ls : Array Slot} {rest : List Value} {G : gG} {h0 : Nat} {ad : Nat → Nat} {post : Int64 → MS → Prop} {S : MS} {x1 : Int64} {x3 : Int64} {nL : Nat} (X : mX G h0 ad p s m args c cc) (hml : c.maxLocals = nL) (hw : mH G h0 ad s S H locs) (h : wX1_minus post S x1 x3) (hR : 0 + 1 ≤ R.frames ∧ 8 + (7 + 11) + 0 ≤ R.locals) (hsz : ls.size = nL) (hr : (rest.map fun v => v.category).sum ≤ 8) (hc : cells ≤ R.cells ∧ slots ≤ R.slots) (d : decode cc pc = .ok (.invokevirtual 395, 3)) (kk : ∀ (r : Int64) (S1 : MS) (H1 : Heap) (locs1 : List Loc), post r S1 → mH G h0 ad s S1 H1 locs1 → W p l e R s m args below meth c H1 locs1 cells slots Q (F0 m (pc + 3) ls (.long r :: rest))) : W p l e R s m args below meth c H locs cells slots Q (F0 m pc ls (.long x3 :: .long x1 :: .ref h0 :: rest)) :=
  m_call (val := vL) (post := post) (As := [.long x1, .long x3]) X hml hw (tX1_minus X.2.2.2.2.2.1 h) (lw_V q2386 q2388 qs92 q105 q2389) ⟨rfl, by decide, by decide, (by decide +kernel : (parseMethodDescriptor yX1_minus.desc).map (fun d => d.parameters.length) = some 2)⟩ hR hsz hr hc d rfl kk

def wX1_one (post : Int32 → Prop) (x0 : Int32) : Prop :=
  ((x0 = (0 : Int32)) → (post (0 : Int32))) ∧ (¬ (x0 = (0 : Int32)) → (post (1 : Int32)))
theorem tX1_one {l : Launch} {post : Int32 → Prop} {x0 : Int32} (h : wX1_one post x0) : Met l yX1_one (ws_ yX1_one cX1_one 1 (some .int)) ⟨0, 0, 0, 0⟩ (va_Pc [.int x0] (fun _ => True)) (pQ vI post) 0 0 (fun _ => False) := by
  refine s_ofW (by decide) (Nat.le_of_ble_eq_true rfl) (fun p e s m below meth c ls X hr hlk hl => ?_)
  have hl : lv_has ls 1 [(0, .int x0)] := hl
  have hx := X.1
  have hb := X.2.1
  have hml := X.2.2.1
  have hown := X.2.2.2.1
  have hts := X.2.2.2.2
  unfold wX1_one at h
  refine lv_iload_n (pc := 0) hx hb dX1_one_0 rfl (lv_at hl 0 rfl) ?_
  refine lv_if_eq (pc := 1) (tgt := 8) hx hb dX1_one_1 rfl (fun c1 => ?_) (fun c1 => ?_)
  · have h := h.1 c1
    refine lv_iconst (pc := 8) (v := (0 : Int32)) hx hb dX1_one_8 (by decide) ?_
    exact W.iret (pc := 9) hx hb hr (fun t ht hW => s_ret (val := vI) h ht) (fun _ hq => absurd hq List.not_mem_nil) dX1_one_9 hlk
  · have h := h.2 c1
    refine lv_iconst (pc := 4) (v := (1 : Int32)) hx hb dX1_one_4 (by decide) ?_
    refine lv_goto (pc := 5) (tgt := 9) hx hb dX1_one_5 rfl ?_
    exact W.iret (pc := 9) hx hb hr (fun t ht hW => s_ret (val := vI) h ht) (fun _ hq => absurd hq List.not_mem_nil) dX1_one_9 hlk
theorem uX1_one {p : Program} {l : Launch} {e : Env} {R : Room} {s : State} {m : MethodId} {args : Array Value} {below : List Frame} {meth : Method} {c : Code} {H : Heap} {locs : List Loc} {cells slots : Nat} {Q : Jvm.State → Prop} {cc : ByteArray} {pc : Nat} {ls : Array Slot} {rest : List Value} {post : Int32 → Prop} {x0 : Int32} {nL : Nat} (X : CallFix p m c cc nL s args lw_all RX1) (h : wX1_one post x0) (hR : 0 + 1 ≤ R.frames ∧ 8 + (1 + 11) + 0 ≤ R.locals) (hsz : ls.size = nL) (hr : (rest.map fun v => v.category).sum ≤ 8) (hc : cells ≤ R.cells ∧ slots ≤ R.slots) (d : decode cc pc = .ok (.invokestatic 406, 3)) (kk : ∀ r : Int32, post r → W p l e R s m args below meth c H locs cells slots Q (F0 m (pc + 3) ls (.int r :: rest))) : W p l e R s m args below meth c H locs cells slots Q (F0 m pc ls (.int x0 :: rest)) :=
  s_call (val := vI) (post := post) (As := [.int x0]) X (tX1_one h) (lw_S q2390 q2391 q105 q2392) ⟨by decide, by decide, (by decide +kernel : (parseMethodDescriptor yX1_one.desc).map (fun d => d.parameters.length) = some 1)⟩ hR hsz hr hc d rfl kk

def wX1_goesOn_50 (K2 : Int32 → Int32 → MS → Prop) (post : Int32 → MS → Prop) (x1 : Int32) (x2 : Int32) (S : MS) : Prop :=
  K2 x1 (x2 + (-1 : Int32)) S
def wX1_goesOn_2 (post : Int32 → MS → Prop) : Nat → Int32 → Int32 → MS → Prop
  | 0, _, _, _ => False
  | n + 1, x1, x2, S => ((x2 < (0 : Int32)) → (post (0 : Int32) S)) ∧ (¬ (x2 < (0 : Int32)) → ((((((S.1 39) >>> (x2 &&& 31)) &&& (1 : Int32)) = (0 : Int32)) → (wX1_goesOn_50 (fun x1 x2 S => wX1_goesOn_2 post n x1 x2 S) post x1 x2 S)) ∧ (¬ ((((S.1 39) >>> (x2 &&& 31)) &&& (1 : Int32)) = (0 : Int32)) → (vp_in x2 6 ∧ (((x1 ≤ (S.2.2.1 42 x2.toNatClampNeg)) → (vp_in x2 6 ∧ (wX1_goesOn_50 (fun x1 x2 S => wX1_goesOn_2 post n x1 x2 S) post x1 x2 (mA S 42 (upd (S.2.2.1 42) x2.toNatClampNeg (-x1)))))) ∧ (¬ (x1 ≤ (S.2.2.1 42 x2.toNatClampNeg)) → (vp_in x2 6 ∧ (vp_in x2 6 ∧ (post (1 : Int32) (mA S 42 (upd (S.2.2.1 42) x2.toNatClampNeg ((S.2.2.1 42 x2.toNatClampNeg) + (1 : Int32)))))))))))))
def wX1_goesOn (post : Int32 → MS → Prop) (S : MS) (x1 : Int32) : Prop :=
  (∃ k, wX1_goesOn_2 post k x1 (5 : Int32) S)
theorem kX1_goesOn_50 {p : Program} {l : Launch} {e : Env} {s : State} {m : MethodId} {args : Array Value} {below : List Frame} {meth : Method} {c : Code} {G : gG} {h0 : Nat} {ad : Nat → Nat} {K2 : Int32 → Int32 → MS → Prop} {post : Int32 → MS → Prop} (X : mX G h0 ad p s m args c cX1_goesOn) (hml : c.maxLocals = 3) (hr : meth.sig.returnType = (some .boolean)) (hlk : meth.locks = false) (hK2 : ∀ (x1 : Int32) (x2 : Int32) (S : MS) (H : Heap) (locs : List Loc) (ls : Array Slot), K2 x1 x2 S → mH G h0 ad s S H locs → lv_has ls 3 [(0, .ref h0), (1, .int x1), (2, .int x2)] → W p l e ⟨0, 0, 0, 0⟩ s m args below meth c H locs 0 0 (MQ below (gQ vI post (mBw G h0 ad) (mAd h0 ad)) args s 0 0 (mAd h0 ad)) (F0 m 2 ls [])) : ∀ (x1 : Int32) (x2 : Int32) (S : MS) (H : Heap) (locs : List Loc) (ls : Array Slot), wX1_goesOn_50 K2 post x1 x2 S → mH G h0 ad s S H locs → lv_has ls 3 [(0, .ref h0), (1, .int x1), (2, .int x2)] → W p l e ⟨0, 0, 0, 0⟩ s m args below meth c H locs 0 0 (MQ below (gQ vI post (mBw G h0 ad) (mAd h0 ad)) args s 0 0 (mAd h0 ad)) (F0 m 50 ls []) := by
  have hx := X.1
  have hb := X.2.1
  have hown := X.2.2.1
  have hts := X.2.2.2.1
  intro x1 x2 S H locs ls h hw hl
  unfold wX1_goesOn_50 at h
  refine lv_iinc (pc := 50) (v := x2 + (-1 : Int32)) (lv' := [(2, .int (x2 + (-1 : Int32))), (0, .ref h0), (1, .int x1)]) hx hb dX1_goesOn_50 hl (k := 2) rfl rfl (by decide) rfl (fun ls hl => ?_)
  refine lv_goto (pc := 53) (tgt := 2) hx hb dX1_goesOn_53 rfl ?_
  exact hK2 _ _ _ _ _ _ h hw (lv_sub hl [1, 2, 0] rfl)
theorem kX1_goesOn_2 {p : Program} {l : Launch} {e : Env} {s : State} {m : MethodId} {args : Array Value} {below : List Frame} {meth : Method} {c : Code} {G : gG} {h0 : Nat} {ad : Nat → Nat} {post : Int32 → MS → Prop} (X : mX G h0 ad p s m args c cX1_goesOn) (hml : c.maxLocals = 3) (hr : meth.sig.returnType = (some .boolean)) (hlk : meth.locks = false) : ∀ (n : Nat) (x1 : Int32) (x2 : Int32) (S : MS) (H : Heap) (locs : List Loc) (ls : Array Slot), wX1_goesOn_2 post n x1 x2 S → mH G h0 ad s S H locs → lv_has ls 3 [(0, .ref h0), (1, .int x1), (2, .int x2)] → W p l e ⟨0, 0, 0, 0⟩ s m args below meth c H locs 0 0 (MQ below (gQ vI post (mBw G h0 ad) (mAd h0 ad)) args s 0 0 (mAd h0 ad)) (F0 m 2 ls []) := by
  have hx := X.1
  have hb := X.2.1
  have hown := X.2.2.1
  have hts := X.2.2.2.1
  intro n
  induction n with
  | zero =>
    intro x1 x2 S H locs ls h
    exact False.elim h
  | succ n ih =>
    intro x1 x2 S H locs ls h hw hl
    unfold wX1_goesOn_2 at h
    refine lv_iload_n (pc := 2) hx hb dX1_goesOn_2 rfl (lv_at hl 2 rfl) ?_
    refine lv_if_lt (pc := 3) (tgt := 56) hx hb dX1_goesOn_3 rfl (fun c1 => ?_) (fun c1 => ?_)
    · have h := h.1 c1
      refine lv_iconst (pc := 56) (v := (0 : Int32)) hx hb dX1_goesOn_56 (by decide) ?_
      exact W.zret (pc := 57) hx hb hr rfl (fun t ht hW => m_ret (val := vI) hw h ht) hw.2.2.2 dX1_goesOn_57 hlk
    · have h := h.2 c1
      refine lv_aload_n (pc := 6) hx hb dX1_goesOn_6 rfl (lv_at hl 0 rfl) ?_
      refine mg39 (pc := 7) X hw dX1_goesOn_7 ?_
      refine lv_iload_n (pc := 10) hx hb dX1_goesOn_10 rfl (lv_at hl 2 rfl) ?_
      refine lv_ishr (pc := 11) hx hb dX1_goesOn_11 ?_
      refine lv_iconst (pc := 12) (v := (1 : Int32)) hx hb dX1_goesOn_12 (by decide) ?_
      refine lv_iand (pc := 13) hx hb dX1_goesOn_13 ?_
      refine lv_if_ne (pc := 14) (tgt := 20) hx hb dX1_goesOn_14 rfl (fun c2 => ?_) (fun c2 => ?_)
      · have h := h.2 c2
        refine lv_aload_n (pc := 20) hx hb dX1_goesOn_20 rfl (lv_at hl 0 rfl) ?_
        refine mg42 (pc := 21) X hw dX1_goesOn_21 ?_
        refine lv_iload_n (pc := 24) hx hb dX1_goesOn_24 rfl (lv_at hl 2 rfl) ?_
        obtain ⟨hi, h⟩ := h
        refine ma42 (pc := 25) X hw hi dX1_goesOn_25 ?_
        refine lv_iload_n (pc := 26) hx hb dX1_goesOn_26 rfl (lv_at hl 1 rfl) ?_
        refine lv_icmp_ge (pc := 27) (tgt := 42) hx hb dX1_goesOn_27 rfl (fun c3 => ?_) (fun c3 => ?_)
        · have h := h.1 c3
          refine lv_aload_n (pc := 42) hx hb dX1_goesOn_42 rfl (lv_at hl 0 rfl) ?_
          refine mg42 (pc := 43) X hw dX1_goesOn_43 ?_
          refine lv_iload_n (pc := 46) hx hb dX1_goesOn_46 rfl (lv_at hl 2 rfl) ?_
          refine lv_iload_n (pc := 47) hx hb dX1_goesOn_47 rfl (lv_at hl 1 rfl) ?_
          refine lv_ineg (pc := 48) hx hb dX1_goesOn_48 ?_
          obtain ⟨hi, h⟩ := h
          refine ms42 (pc := 49) X hw hi dX1_goesOn_49 (fun H locs hw => ?_)
          exact kX1_goesOn_50 X hml hr hlk ih _ _ _ _ _ _ h hw (lv_sub hl [0, 1, 2] rfl)
        · have h := h.2 c3
          refine lv_aload_n (pc := 30) hx hb dX1_goesOn_30 rfl (lv_at hl 0 rfl) ?_
          refine mg42 (pc := 31) X hw dX1_goesOn_31 ?_
          refine lv_iload_n (pc := 34) hx hb dX1_goesOn_34 rfl (lv_at hl 2 rfl) ?_
          refine lv_dup2_11 (pc := 35) hx hb dX1_goesOn_35 rfl rfl ?_
          obtain ⟨hi, h⟩ := h
          refine ma42 (pc := 36) X hw hi dX1_goesOn_36 ?_
          refine lv_iconst (pc := 37) (v := (1 : Int32)) hx hb dX1_goesOn_37 (by decide) ?_
          refine lv_iadd (pc := 38) hx hb dX1_goesOn_38 ?_
          obtain ⟨hi, h⟩ := h
          refine ms42 (pc := 39) X hw hi dX1_goesOn_39 (fun H locs hw => ?_)
          refine lv_iconst (pc := 40) (v := (1 : Int32)) hx hb dX1_goesOn_40 (by decide) ?_
          exact W.zret (pc := 41) hx hb hr rfl (fun t ht hW => m_ret (val := vI) hw h ht) hw.2.2.2 dX1_goesOn_41 hlk
      · have h := h.1 c2
        refine lv_goto (pc := 17) (tgt := 50) hx hb dX1_goesOn_17 rfl ?_
        exact kX1_goesOn_50 X hml hr hlk ih _ _ _ _ _ _ h hw (lv_sub hl [0, 1, 2] rfl)
theorem tX1_goesOn {l : Launch} {G : gG} {h0 : Nat} {ad : Nat → Nat} (hd : mOk G h0 ad) {post : Int32 → MS → Prop} {S : MS} {x1 : Int32} (h : wX1_goesOn post S x1) : Met l yX1_goesOn (ws_ yX1_goesOn cX1_goesOn 3 (some .boolean)) ⟨0, 0, 0, 0⟩ (va_Pc (.ref h0 :: [.int x1]) (fun U => mBw G h0 ad S U.heap ∧ gK G U)) (gQ vI post (mBw G h0 ad) (mAd h0 ad)) 0 0 (mAd h0 ad) := by
  refine m_ofW (by decide) rfl hd (Nat.le_of_ble_eq_true rfl) (fun p e s m below meth c ls X hml hr hlk hw hl => ?_)
  have hl : lv_has ls 3 [(0, .ref h0), (1, .int x1)] := hl
  have hx := X.1
  have hb := X.2.1
  have hown := X.2.2.1
  have hts := X.2.2.2.1
  unfold wX1_goesOn at h
  refine lv_iconst (pc := 0) (v := (5 : Int32)) hx hb dX1_goesOn_0 (by decide) ?_
  refine lv_istore_n (pc := 1) (lv' := [(2, .int (5 : Int32)), (0, .ref h0), (1, .int x1)]) hx hb dX1_goesOn_1 rfl hl (by decide) rfl (fun ls hl => ?_)
  obtain ⟨k, h⟩ := h
  exact kX1_goesOn_2 X hml hr hlk  k _ _ _ _ _ _ h hw (lv_sub hl [1, 2, 0] rfl)
theorem uX1_goesOn {p : Program} {l : Launch} {e : Env} {R : Room} {s : State} {m : MethodId} {args : Array Value} {below : List Frame} {meth : Method} {c : Code} {H : Heap} {locs : List Loc} {cells slots : Nat} {Q : Jvm.State → Prop} {cc : ByteArray} {pc : Nat} {ls : Array Slot} {rest : List Value} {G : gG} {h0 : Nat} {ad : Nat → Nat} {post : Int32 → MS → Prop} {S : MS} {x1 : Int32} {nL : Nat} (X : mX G h0 ad p s m args c cc) (hml : c.maxLocals = nL) (hw : mH G h0 ad s S H locs) (h : wX1_goesOn post S x1) (hR : 0 + 1 ≤ R.frames ∧ 8 + (3 + 11) + 0 ≤ R.locals) (hsz : ls.size = nL) (hr : (rest.map fun v => v.category).sum ≤ 8) (hc : cells ≤ R.cells ∧ slots ≤ R.slots) (d : decode cc pc = .ok (.invokevirtual 410, 3)) (kk : ∀ (r : Int32) (S1 : MS) (H1 : Heap) (locs1 : List Loc), post r S1 → mH G h0 ad s S1 H1 locs1 → W p l e R s m args below meth c H1 locs1 cells slots Q (F0 m (pc + 3) ls (.int r :: rest))) : W p l e R s m args below meth c H locs cells slots Q (F0 m pc ls (.int x1 :: .ref h0 :: rest)) :=
  m_call (val := vI) (post := post) (As := [.int x1]) X hml hw (tX1_goesOn X.2.2.2.2.2.1 h) (lw_V q2393 q2395 qs93 q105 q2396) ⟨rfl, by decide, by decide, (by decide +kernel : (parseMethodDescriptor yX1_goesOn.desc).map (fun d => d.parameters.length) = some 1)⟩ hR hsz hr hc d rfl kk

def wX1_term (post : Int32 → MS → Prop) (S : MS) (x1 : Int32) (x2 : Int32) (x3 : Int32) : Prop :=
  wX1_isTerm (fun r1 S2 => ((r1 = (0 : Int32)) → (post (-100000 : Int32) S2)) ∧ (¬ (r1 = (0 : Int32)) → (wX1_isIn (fun r4 => ((r4 = (0 : Int32)) → (post (-100000 : Int32) S2)) ∧ (¬ (r4 = (0 : Int32)) → (wX1_of (fun r6 S7 => post r6 S7) S2 x1 x2 x3))) x3.toInt64 (0 : Int64) (3 : Int64)))) S x1 x2
theorem tX1_term {l : Launch} {G : gG} {h0 : Nat} {ad : Nat → Nat} (hd : mOk G h0 ad) {post : Int32 → MS → Prop} {S : MS} {x1 : Int32} {x2 : Int32} {x3 : Int32} (h : wX1_term post S x1 x2 x3) : Met l yX1_term (ws_ yX1_term cX1_term 4 (some .int)) ⟨3, 0, 0, 67⟩ (va_Pc (.ref h0 :: [.int x1, .int x2, .int x3]) (fun U => mBw G h0 ad S U.heap ∧ gK G U)) (gQ vI post (mBw G h0 ad) (mAd h0 ad)) 0 0 (mAd h0 ad) := by
  refine m_ofW (by decide) rfl hd (Nat.le_of_ble_eq_true rfl) (fun p e s m below meth c ls X hml hr hlk hw hl => ?_)
  have hl : lv_has ls 4 [(0, .ref h0), (1, .int x1), (2, .int x2), (3, .int x3)] := hl
  have hx := X.1
  have hb := X.2.1
  have hown := X.2.2.1
  have hts := X.2.2.2.1
  unfold wX1_term at h
  refine lv_aload_n (pc := 0) hx hb dX1_term_0 rfl (lv_at hl 0 rfl) ?_
  refine lv_iload_n (pc := 1) hx hb dX1_term_1 rfl (lv_at hl 1 rfl) ?_
  refine lv_iload_n (pc := 2) hx hb dX1_term_2 rfl (lv_at hl 2 rfl) ?_
  refine uX1_isTerm (pc := 3) X hml hw h ⟨Nat.le_of_ble_eq_true rfl, Nat.le_of_ble_eq_true rfl⟩ hl.1 (Nat.le_of_ble_eq_true rfl) ⟨Nat.le_refl _, Nat.le_refl _⟩ dX1_term_3 (fun r1 S2 H locs h hw => ?_)
  refine lv_if_eq (pc := 6) (tgt := 31) hx hb dX1_term_6 rfl (fun c3 => ?_) (fun c3 => ?_)
  · have h := h.1 c3
    refine lv_ldcw (pc := 31) hx hb hown (hts _ q2305) dX1_term_31 ?_
    exact W.iret (pc := 34) hx hb hr (fun t ht hW => m_ret (val := vI) hw h ht) hw.2.2.2 dX1_term_34 hlk
  · have h := h.2 c3
    refine lv_iload_n (pc := 9) hx hb dX1_term_9 rfl (lv_at hl 3 rfl) ?_
    refine lv_i2l (pc := 10) hx hb dX1_term_10 rfl ?_
    refine lv_lconst (pc := 11) (v := (0 : Int64)) hx hb dX1_term_11 (by decide) ?_
    refine lv_ldc2 (pc := 12) hx hb hown (hts _ q2150) dX1_term_12 ?_
    refine uX1_isIn (pc := 15) ⟨hx, hb, hml, hown, hts⟩ h ⟨Nat.le_of_ble_eq_true rfl, Nat.le_of_ble_eq_true rfl⟩ hl.1 (Nat.le_of_ble_eq_true rfl) ⟨Nat.le_refl _, Nat.le_refl _⟩ dX1_term_15 (fun r4 h => ?_)
    refine lv_if_eq (pc := 18) (tgt := 31) hx hb dX1_term_18 rfl (fun c5 => ?_) (fun c5 => ?_)
    · have h := h.1 c5
      refine lv_ldcw (pc := 31) hx hb hown (hts _ q2305) dX1_term_31 ?_
      exact W.iret (pc := 34) hx hb hr (fun t ht hW => m_ret (val := vI) hw h ht) hw.2.2.2 dX1_term_34 hlk
    · have h := h.2 c5
      refine lv_aload_n (pc := 21) hx hb dX1_term_21 rfl (lv_at hl 0 rfl) ?_
      refine lv_iload_n (pc := 22) hx hb dX1_term_22 rfl (lv_at hl 1 rfl) ?_
      refine lv_iload_n (pc := 23) hx hb dX1_term_23 rfl (lv_at hl 2 rfl) ?_
      refine lv_iload_n (pc := 24) hx hb dX1_term_24 rfl (lv_at hl 3 rfl) ?_
      refine uX1_of (pc := 25) X hml hw h ⟨Nat.le_of_ble_eq_true rfl, Nat.le_of_ble_eq_true rfl⟩ hl.1 (Nat.le_of_ble_eq_true rfl) ⟨Nat.le_refl _, Nat.le_refl _⟩ dX1_term_25 (fun r6 S7 H locs h hw => ?_)
      refine lv_goto (pc := 28) (tgt := 34) hx hb dX1_term_28 rfl ?_
      exact W.iret (pc := 34) hx hb hr (fun t ht hW => m_ret (val := vI) hw h ht) hw.2.2.2 dX1_term_34 hlk

def wX1_isSpan (post : Int32 → Prop) (x0 : Int32) (x1 : Int32) : Prop :=
  wX1_isN (fun r1 => ((r1 = (0 : Int32)) → (post (0 : Int32))) ∧ (¬ (r1 = (0 : Int32)) → (wX1_isN (fun r3 => ((r3 = (0 : Int32)) → (post (0 : Int32))) ∧ (¬ (r3 = (0 : Int32)) → (((x1 < x0) → (post (0 : Int32))) ∧ (¬ (x1 < x0) → (post (1 : Int32)))))) x1))) x0
theorem tX1_isSpan {l : Launch} {post : Int32 → Prop} {x0 : Int32} {x1 : Int32} (h : wX1_isSpan post x0 x1) : Met l yX1_isSpan (ws_ yX1_isSpan cX1_isSpan 2 (some .boolean)) ⟨2, 0, 0, 45⟩ (va_Pc [.int x0, .int x1] (fun _ => True)) (pQ vI post) 0 0 (fun _ => False) := by
  refine s_ofW (by decide) (Nat.le_of_ble_eq_true rfl) (fun p e s m below meth c ls X hr hlk hl => ?_)
  have hl : lv_has ls 2 [(0, .int x0), (1, .int x1)] := hl
  have hx := X.1
  have hb := X.2.1
  have hml := X.2.2.1
  have hown := X.2.2.2.1
  have hts := X.2.2.2.2
  unfold wX1_isSpan at h
  refine lv_iload_n (pc := 0) hx hb dX1_isSpan_0 rfl (lv_at hl 0 rfl) ?_
  refine uX1_isN (pc := 1) X h ⟨Nat.le_of_ble_eq_true rfl, Nat.le_of_ble_eq_true rfl⟩ hl.1 (Nat.le_of_ble_eq_true rfl) ⟨Nat.le_refl _, Nat.le_refl _⟩ dX1_isSpan_1 (fun r1 h => ?_)
  refine lv_if_eq (pc := 4) (tgt := 23) hx hb dX1_isSpan_4 rfl (fun c2 => ?_) (fun c2 => ?_)
  · have h := h.1 c2
    refine lv_iconst (pc := 23) (v := (0 : Int32)) hx hb dX1_isSpan_23 (by decide) ?_
    exact W.zret (pc := 24) hx hb hr rfl (fun t ht hW => s_ret (val := vI) h ht) (fun _ hq => absurd hq List.not_mem_nil) dX1_isSpan_24 hlk
  · have h := h.2 c2
    refine lv_iload_n (pc := 7) hx hb dX1_isSpan_7 rfl (lv_at hl 1 rfl) ?_
    refine uX1_isN (pc := 8) X h ⟨Nat.le_of_ble_eq_true rfl, Nat.le_of_ble_eq_true rfl⟩ hl.1 (Nat.le_of_ble_eq_true rfl) ⟨Nat.le_refl _, Nat.le_refl _⟩ dX1_isSpan_8 (fun r3 h => ?_)
    refine lv_if_eq (pc := 11) (tgt := 23) hx hb dX1_isSpan_11 rfl (fun c4 => ?_) (fun c4 => ?_)
    · have h := h.1 c4
      refine lv_iconst (pc := 23) (v := (0 : Int32)) hx hb dX1_isSpan_23 (by decide) ?_
      exact W.zret (pc := 24) hx hb hr rfl (fun t ht hW => s_ret (val := vI) h ht) (fun _ hq => absurd hq List.not_mem_nil) dX1_isSpan_24 hlk
    · have h := h.2 c4
      refine lv_iload_n (pc := 14) hx hb dX1_isSpan_14 rfl (lv_at hl 0 rfl) ?_
      refine lv_iload_n (pc := 15) hx hb dX1_isSpan_15 rfl (lv_at hl 1 rfl) ?_
      refine lv_icmp_gt (pc := 16) (tgt := 23) hx hb dX1_isSpan_16 rfl (fun c5 => ?_) (fun c5 => ?_)
      · have h := h.1 c5
        refine lv_iconst (pc := 23) (v := (0 : Int32)) hx hb dX1_isSpan_23 (by decide) ?_
        exact W.zret (pc := 24) hx hb hr rfl (fun t ht hW => s_ret (val := vI) h ht) (fun _ hq => absurd hq List.not_mem_nil) dX1_isSpan_24 hlk
      · have h := h.2 c5
        refine lv_iconst (pc := 19) (v := (1 : Int32)) hx hb dX1_isSpan_19 (by decide) ?_
        refine lv_goto (pc := 20) (tgt := 24) hx hb dX1_isSpan_20 rfl ?_
        exact W.zret (pc := 24) hx hb hr rfl (fun t ht hW => s_ret (val := vI) h ht) (fun _ hq => absurd hq List.not_mem_nil) dX1_isSpan_24 hlk
theorem uX1_isSpan {p : Program} {l : Launch} {e : Env} {R : Room} {s : State} {m : MethodId} {args : Array Value} {below : List Frame} {meth : Method} {c : Code} {H : Heap} {locs : List Loc} {cells slots : Nat} {Q : Jvm.State → Prop} {cc : ByteArray} {pc : Nat} {ls : Array Slot} {rest : List Value} {post : Int32 → Prop} {x0 : Int32} {x1 : Int32} {nL : Nat} (X : CallFix p m c cc nL s args lw_all RX1) (h : wX1_isSpan post x0 x1) (hR : 2 + 1 ≤ R.frames ∧ 8 + (2 + 11) + 45 ≤ R.locals) (hsz : ls.size = nL) (hr : (rest.map fun v => v.category).sum ≤ 8) (hc : cells ≤ R.cells ∧ slots ≤ R.slots) (d : decode cc pc = .ok (.invokestatic 417, 3)) (kk : ∀ r : Int32, post r → W p l e R s m args below meth c H locs cells slots Q (F0 m (pc + 3) ls (.int r :: rest))) : W p l e R s m args below meth c H locs cells slots Q (F0 m pc ls (.int x1 :: .int x0 :: rest)) :=
  s_call (val := vI) (post := post) (As := [.int x0, .int x1]) X (tX1_isSpan h) (lw_S q2411 q2412 q105 q2413) ⟨by decide, by decide, (by decide +kernel : (parseMethodDescriptor yX1_isSpan.desc).map (fun d => d.parameters.length) = some 2)⟩ hR hsz hr hc d rfl kk

def wX1_xs (post : Int32 → Prop) (x0 : Int32) (x1 : Int32) : Prop :=
  ((x0 = (4 : Int32)) → (post ((2 : Int32) * x1))) ∧ (¬ (x0 = (4 : Int32)) → (post x1))
theorem tX1_xs {l : Launch} {post : Int32 → Prop} {x0 : Int32} {x1 : Int32} (h : wX1_xs post x0 x1) : Met l yX1_xs (ws_ yX1_xs cX1_xs 2 (some .int)) ⟨0, 0, 0, 0⟩ (va_Pc [.int x0, .int x1] (fun _ => True)) (pQ vI post) 0 0 (fun _ => False) := by
  refine s_ofW (by decide) (Nat.le_of_ble_eq_true rfl) (fun p e s m below meth c ls X hr hlk hl => ?_)
  have hl : lv_has ls 2 [(0, .int x0), (1, .int x1)] := hl
  have hx := X.1
  have hb := X.2.1
  have hml := X.2.2.1
  have hown := X.2.2.2.1
  have hts := X.2.2.2.2
  unfold wX1_xs at h
  refine lv_iload_n (pc := 0) hx hb dX1_xs_0 rfl (lv_at hl 0 rfl) ?_
  refine lv_iconst (pc := 1) (v := (4 : Int32)) hx hb dX1_xs_1 (by decide) ?_
  refine lv_icmp_ne (pc := 2) (tgt := 11) hx hb dX1_xs_2 rfl (fun c1 => ?_) (fun c1 => ?_)
  · have h := h.2 c1
    refine lv_iload_n (pc := 11) hx hb dX1_xs_11 rfl (lv_at hl 1 rfl) ?_
    exact W.iret (pc := 12) hx hb hr (fun t ht hW => s_ret (val := vI) h ht) (fun _ hq => absurd hq List.not_mem_nil) dX1_xs_12 hlk
  · have h := h.1 c1
    refine lv_iconst (pc := 5) (v := (2 : Int32)) hx hb dX1_xs_5 (by decide) ?_
    refine lv_iload_n (pc := 6) hx hb dX1_xs_6 rfl (lv_at hl 1 rfl) ?_
    refine lv_imul (pc := 7) hx hb dX1_xs_7 ?_
    refine lv_goto (pc := 8) (tgt := 12) hx hb dX1_xs_8 rfl ?_
    exact W.iret (pc := 12) hx hb hr (fun t ht hW => s_ret (val := vI) h ht) (fun _ hq => absurd hq List.not_mem_nil) dX1_xs_12 hlk
theorem uX1_xs {p : Program} {l : Launch} {e : Env} {R : Room} {s : State} {m : MethodId} {args : Array Value} {below : List Frame} {meth : Method} {c : Code} {H : Heap} {locs : List Loc} {cells slots : Nat} {Q : Jvm.State → Prop} {cc : ByteArray} {pc : Nat} {ls : Array Slot} {rest : List Value} {post : Int32 → Prop} {x0 : Int32} {x1 : Int32} {nL : Nat} (X : CallFix p m c cc nL s args lw_all RX1) (h : wX1_xs post x0 x1) (hR : 0 + 1 ≤ R.frames ∧ 8 + (2 + 11) + 0 ≤ R.locals) (hsz : ls.size = nL) (hr : (rest.map fun v => v.category).sum ≤ 8) (hc : cells ≤ R.cells ∧ slots ≤ R.slots) (d : decode cc pc = .ok (.invokestatic 425, 3)) (kk : ∀ r : Int32, post r → W p l e R s m args below meth c H locs cells slots Q (F0 m (pc + 3) ls (.int r :: rest))) : W p l e R s m args below meth c H locs cells slots Q (F0 m pc ls (.int x1 :: .int x0 :: rest)) :=
  s_call (val := vI) (post := post) (As := [.int x0, .int x1]) X (tX1_xs h) (lw_S q2423 q2424 q105 q2425) ⟨by decide, by decide, (by decide +kernel : (parseMethodDescriptor yX1_xs.desc).map (fun d => d.parameters.length) = some 2)⟩ hR hsz hr hc d rfl kk

def wX1_isClass (post : Int32 → MS → Prop) (S : MS) (x1 : Int32) (x2 : Int32) (x3 : Int32) : Prop :=
  wX1_isForm (fun r1 S2 => ((r1 = (0 : Int32)) → (post (0 : Int32) S2)) ∧ (¬ (r1 = (0 : Int32)) → (wX1_isIn (fun r4 => ((r4 = (0 : Int32)) → (post (0 : Int32) S2)) ∧ (¬ (r4 = (0 : Int32)) → (wX1_isIn (fun r6 => ((r6 = (0 : Int32)) → (post (0 : Int32) S2)) ∧ (¬ (r6 = (0 : Int32)) → (post (1 : Int32) S2))) x3.toInt64 (0 : Int64) ((x2 - (1 : Int32)).toInt64)))) x2.toInt64 (1 : Int64) (60 : Int64)))) S x1
theorem tX1_isClass {l : Launch} {G : gG} {h0 : Nat} {ad : Nat → Nat} (hd : mOk G h0 ad) {post : Int32 → MS → Prop} {S : MS} {x1 : Int32} {x2 : Int32} {x3 : Int32} (h : wX1_isClass post S x1 x2 x3) : Met l yX1_isClass (ws_ yX1_isClass cX1_isClass 4 (some .boolean)) ⟨3, 0, 0, 66⟩ (va_Pc (.ref h0 :: [.int x1, .int x2, .int x3]) (fun U => mBw G h0 ad S U.heap ∧ gK G U)) (gQ vI post (mBw G h0 ad) (mAd h0 ad)) 0 0 (mAd h0 ad) := by
  refine m_ofW (by decide) rfl hd (Nat.le_of_ble_eq_true rfl) (fun p e s m below meth c ls X hml hr hlk hw hl => ?_)
  have hl : lv_has ls 4 [(0, .ref h0), (1, .int x1), (2, .int x2), (3, .int x3)] := hl
  have hx := X.1
  have hb := X.2.1
  have hown := X.2.2.1
  have hts := X.2.2.2.1
  unfold wX1_isClass at h
  refine lv_aload_n (pc := 0) hx hb dX1_isClass_0 rfl (lv_at hl 0 rfl) ?_
  refine lv_iload_n (pc := 1) hx hb dX1_isClass_1 rfl (lv_at hl 1 rfl) ?_
  refine uX1_isForm (pc := 2) X hml hw h ⟨Nat.le_of_ble_eq_true rfl, Nat.le_of_ble_eq_true rfl⟩ hl.1 (Nat.le_of_ble_eq_true rfl) ⟨Nat.le_refl _, Nat.le_refl _⟩ dX1_isClass_2 (fun r1 S2 H locs h hw => ?_)
  refine lv_if_eq (pc := 5) (tgt := 37) hx hb dX1_isClass_5 rfl (fun c3 => ?_) (fun c3 => ?_)
  · have h := h.1 c3
    refine lv_iconst (pc := 37) (v := (0 : Int32)) hx hb dX1_isClass_37 (by decide) ?_
    exact W.zret (pc := 38) hx hb hr rfl (fun t ht hW => m_ret (val := vI) hw h ht) hw.2.2.2 dX1_isClass_38 hlk
  · have h := h.2 c3
    refine lv_iload_n (pc := 8) hx hb dX1_isClass_8 rfl (lv_at hl 2 rfl) ?_
    refine lv_i2l (pc := 9) hx hb dX1_isClass_9 rfl ?_
    refine lv_lconst (pc := 10) (v := (1 : Int64)) hx hb dX1_isClass_10 (by decide) ?_
    refine lv_ldc2 (pc := 11) hx hb hown (hts _ q2418) dX1_isClass_11 ?_
    refine uX1_isIn (pc := 14) ⟨hx, hb, hml, hown, hts⟩ h ⟨Nat.le_of_ble_eq_true rfl, Nat.le_of_ble_eq_true rfl⟩ hl.1 (Nat.le_of_ble_eq_true rfl) ⟨Nat.le_refl _, Nat.le_refl _⟩ dX1_isClass_14 (fun r4 h => ?_)
    refine lv_if_eq (pc := 17) (tgt := 37) hx hb dX1_isClass_17 rfl (fun c5 => ?_) (fun c5 => ?_)
    · have h := h.1 c5
      refine lv_iconst (pc := 37) (v := (0 : Int32)) hx hb dX1_isClass_37 (by decide) ?_
      exact W.zret (pc := 38) hx hb hr rfl (fun t ht hW => m_ret (val := vI) hw h ht) hw.2.2.2 dX1_isClass_38 hlk
    · have h := h.2 c5
      refine lv_iload_n (pc := 20) hx hb dX1_isClass_20 rfl (lv_at hl 3 rfl) ?_
      refine lv_i2l (pc := 21) hx hb dX1_isClass_21 rfl ?_
      refine lv_lconst (pc := 22) (v := (0 : Int64)) hx hb dX1_isClass_22 (by decide) ?_
      refine lv_iload_n (pc := 23) hx hb dX1_isClass_23 rfl (lv_at hl 2 rfl) ?_
      refine lv_iconst (pc := 24) (v := (1 : Int32)) hx hb dX1_isClass_24 (by decide) ?_
      refine lv_isub (pc := 25) hx hb dX1_isClass_25 ?_
      refine lv_i2l (pc := 26) hx hb dX1_isClass_26 rfl ?_
      refine uX1_isIn (pc := 27) ⟨hx, hb, hml, hown, hts⟩ h ⟨Nat.le_of_ble_eq_true rfl, Nat.le_of_ble_eq_true rfl⟩ hl.1 (Nat.le_of_ble_eq_true rfl) ⟨Nat.le_refl _, Nat.le_refl _⟩ dX1_isClass_27 (fun r6 h => ?_)
      refine lv_if_eq (pc := 30) (tgt := 37) hx hb dX1_isClass_30 rfl (fun c7 => ?_) (fun c7 => ?_)
      · have h := h.1 c7
        refine lv_iconst (pc := 37) (v := (0 : Int32)) hx hb dX1_isClass_37 (by decide) ?_
        exact W.zret (pc := 38) hx hb hr rfl (fun t ht hW => m_ret (val := vI) hw h ht) hw.2.2.2 dX1_isClass_38 hlk
      · have h := h.2 c7
        refine lv_iconst (pc := 33) (v := (1 : Int32)) hx hb dX1_isClass_33 (by decide) ?_
        refine lv_goto (pc := 34) (tgt := 38) hx hb dX1_isClass_34 rfl ?_
        exact W.zret (pc := 38) hx hb hr rfl (fun t ht hW => m_ret (val := vI) hw h ht) hw.2.2.2 dX1_isClass_38 hlk
theorem uX1_isClass {p : Program} {l : Launch} {e : Env} {R : Room} {s : State} {m : MethodId} {args : Array Value} {below : List Frame} {meth : Method} {c : Code} {H : Heap} {locs : List Loc} {cells slots : Nat} {Q : Jvm.State → Prop} {cc : ByteArray} {pc : Nat} {ls : Array Slot} {rest : List Value} {G : gG} {h0 : Nat} {ad : Nat → Nat} {post : Int32 → MS → Prop} {S : MS} {x1 : Int32} {x2 : Int32} {x3 : Int32} {nL : Nat} (X : mX G h0 ad p s m args c cc) (hml : c.maxLocals = nL) (hw : mH G h0 ad s S H locs) (h : wX1_isClass post S x1 x2 x3) (hR : 3 + 1 ≤ R.frames ∧ 8 + (4 + 11) + 66 ≤ R.locals) (hsz : ls.size = nL) (hr : (rest.map fun v => v.category).sum ≤ 8) (hc : cells ≤ R.cells ∧ slots ≤ R.slots) (d : decode cc pc = .ok (.invokevirtual 432, 3)) (kk : ∀ (r : Int32) (S1 : MS) (H1 : Heap) (locs1 : List Loc), post r S1 → mH G h0 ad s S1 H1 locs1 → W p l e R s m args below meth c H1 locs1 cells slots Q (F0 m (pc + 3) ls (.int r :: rest))) : W p l e R s m args below meth c H locs cells slots Q (F0 m pc ls (.int x3 :: .int x2 :: .int x1 :: .ref h0 :: rest)) :=
  m_call (val := vI) (post := post) (As := [.int x1, .int x2, .int x3]) X hml hw (tX1_isClass X.2.2.2.2.2.1 h) (lw_V q2438 q2440 qs96 q105 q2441) ⟨rfl, by decide, by decide, (by decide +kernel : (parseMethodDescriptor yX1_isClass.desc).map (fun d => d.parameters.length) = some 3)⟩ hR hsz hr hc d rfl kk

def wX1_says (post : Unit → MS → Prop) (S : MS) (x1 : Int32) : Prop :=
  vp_in (S.1 49) 3000 ∧ (post () (mI (mA S 48 (upd (S.2.2.1 48) (S.1 49).toNatClampNeg x1)) 49 ((S.1 49) + (1 : Int32))))
theorem tX1_says {l : Launch} {G : gG} {h0 : Nat} {ad : Nat → Nat} (hd : mOk G h0 ad) {post : Unit → MS → Prop} {S : MS} {x1 : Int32} (h : wX1_says post S x1) : Met l yX1_says (ws_ yX1_says cX1_says 2 none) ⟨0, 0, 0, 0⟩ (va_Pc (.ref h0 :: [.int x1]) (fun U => mBw G h0 ad S U.heap ∧ gK G U)) (gQ vV post (mBw G h0 ad) (mAd h0 ad)) 0 0 (mAd h0 ad) := by
  refine m_ofW (by decide) rfl hd (Nat.le_of_ble_eq_true rfl) (fun p e s m below meth c ls X hml hr hlk hw hl => ?_)
  have hl : lv_has ls 2 [(0, .ref h0), (1, .int x1)] := hl
  have hx := X.1
  have hb := X.2.1
  have hown := X.2.2.1
  have hts := X.2.2.2.1
  unfold wX1_says at h
  refine lv_aload_n (pc := 0) hx hb dX1_says_0 rfl (lv_at hl 0 rfl) ?_
  refine mg48 (pc := 1) X hw dX1_says_1 ?_
  refine lv_aload_n (pc := 4) hx hb dX1_says_4 rfl (lv_at hl 0 rfl) ?_
  refine mg49 (pc := 5) X hw dX1_says_5 ?_
  refine lv_iload_n (pc := 8) hx hb dX1_says_8 rfl (lv_at hl 1 rfl) ?_
  obtain ⟨hi, h⟩ := h
  refine ms48 (pc := 9) X hw hi dX1_says_9 (fun H locs hw => ?_)
  refine lv_aload_n (pc := 10) hx hb dX1_says_10 rfl (lv_at hl 0 rfl) ?_
  refine lv_dup (pc := 11) hx hb dX1_says_11 rfl ?_
  refine mg49 (pc := 12) X hw dX1_says_12 ?_
  refine lv_iconst (pc := 15) (v := (1 : Int32)) hx hb dX1_says_15 (by decide) ?_
  refine lv_iadd (pc := 16) hx hb dX1_says_16 ?_
  refine mp49 (pc := 17) X hw dX1_says_17 (fun H locs hw => ?_)
  exact W.vret (pc := 20) hx hb hr (fun t ht hW => m_ret (val := vV) (v := ()) hw h ht) hw.2.2.2 dX1_says_20 hlk
theorem uX1_says {p : Program} {l : Launch} {e : Env} {R : Room} {s : State} {m : MethodId} {args : Array Value} {below : List Frame} {meth : Method} {c : Code} {H : Heap} {locs : List Loc} {cells slots : Nat} {Q : Jvm.State → Prop} {cc : ByteArray} {pc : Nat} {ls : Array Slot} {rest : List Value} {G : gG} {h0 : Nat} {ad : Nat → Nat} {post : Unit → MS → Prop} {S : MS} {x1 : Int32} {nL : Nat} (X : mX G h0 ad p s m args c cc) (hml : c.maxLocals = nL) (hw : mH G h0 ad s S H locs) (h : wX1_says post S x1) (hR : 0 + 1 ≤ R.frames ∧ 8 + (2 + 11) + 0 ≤ R.locals) (hsz : ls.size = nL) (hr : (rest.map fun v => v.category).sum ≤ 8) (hc : cells ≤ R.cells ∧ slots ≤ R.slots) (d : decode cc pc = .ok (.invokevirtual 445, 3)) (kk : ∀ (r : Unit) (S1 : MS) (H1 : Heap) (locs1 : List Loc), post r S1 → mH G h0 ad s S1 H1 locs1 → W p l e R s m args below meth c H1 locs1 cells slots Q (F0 m (pc + 3) ls (rest))) : W p l e R s m args below meth c H locs cells slots Q (F0 m pc ls (.int x1 :: .ref h0 :: rest)) :=
  m_call (val := vV) (post := post) (As := [.int x1]) X hml hw (tX1_says X.2.2.2.2.2.1 h) (lw_V q2501 q2503 qs97 q105 q2504) ⟨rfl, by decide, by decide, (by decide +kernel : (parseMethodDescriptor yX1_says.desc).map (fun d => d.parameters.length) = some 1)⟩ hR hsz hr hc d rfl kk

def wX1_saysNumber_39 (post : Unit → MS → Prop) : Nat → Int32 → Int32 → MS → Prop
  | 0, _, _, _ => False
  | n + 1, x2, x3, S => ((x3 ≤ (0 : Int32)) → (post () S)) ∧ (¬ (x3 ≤ (0 : Int32)) → (¬ x3 = 0 ∧ (wX1_says (fun _ S6 => wX1_saysNumber_39 post n x2 (x3 / (10 : Int32)) S6) S ((48 : Int32) + ((x2 / x3) - (x2 / x3) / (10 : Int32) * (10 : Int32))))))
def wX1_saysNumber_23 (post : Unit → MS → Prop) : Nat → Int32 → Int32 → MS → Prop
  | 0, _, _, _ => False
  | n + 1, x2, x3, S => ¬ x3 = 0 ∧ ((((x2 / x3) ≤ (9 : Int32)) → ((∃ k, wX1_saysNumber_39 post k x2 x3 S))) ∧ (¬ ((x2 / x3) ≤ (9 : Int32)) → (wX1_saysNumber_23 post n x2 (x3 * (10 : Int32)) S)))
def wX1_saysNumber_20 (post : Unit → MS → Prop) (v0 : Int32) (S : MS) : Prop :=
  (∃ k, wX1_saysNumber_23 post k v0 (1 : Int32) S)
def wX1_saysNumber_10 (post : Unit → MS → Prop) (x1 : Int32) (S : MS) : Prop :=
  (((0 : Int32) ≤ x1) → (wX1_saysNumber_20 post x1 S)) ∧ (¬ ((0 : Int32) ≤ x1) → (wX1_saysNumber_20 post (-x1) S))
def wX1_saysNumber (post : Unit → MS → Prop) (S : MS) (x1 : Int32) : Prop :=
  (((0 : Int32) ≤ x1) → (wX1_saysNumber_10 post x1 S)) ∧ (¬ ((0 : Int32) ≤ x1) → (wX1_says (fun _ S8 => wX1_saysNumber_10 post x1 S8) S (45 : Int32)))
theorem kX1_saysNumber_39 {p : Program} {l : Launch} {e : Env} {s : State} {m : MethodId} {args : Array Value} {below : List Frame} {meth : Method} {c : Code} {G : gG} {h0 : Nat} {ad : Nat → Nat} {post : Unit → MS → Prop} (X : mX G h0 ad p s m args c cX1_saysNumber) (hml : c.maxLocals = 4) (hr : meth.sig.returnType = none) (hlk : meth.locks = false) : ∀ (n : Nat) (x2 : Int32) (x3 : Int32) (S : MS) (H : Heap) (locs : List Loc) (ls : Array Slot), wX1_saysNumber_39 post n x2 x3 S → mH G h0 ad s S H locs → lv_has ls 4 [(0, .ref h0), (2, .int x2), (3, .int x3)] → W p l e ⟨1, 0, 0, 21⟩ s m args below meth c H locs 0 0 (MQ below (gQ vV post (mBw G h0 ad) (mAd h0 ad)) args s 0 0 (mAd h0 ad)) (F0 m 39 ls []) := by
  have hx := X.1
  have hb := X.2.1
  have hown := X.2.2.1
  have hts := X.2.2.2.1
  intro n
  induction n with
  | zero =>
    intro x2 x3 S H locs ls h
    exact False.elim h
  | succ n ih =>
    intro x2 x3 S H locs ls h hw hl
    unfold wX1_saysNumber_39 at h
    refine lv_iload_n (pc := 39) hx hb dX1_saysNumber_39 rfl (lv_at hl 2 rfl) ?_
    refine lv_if_le (pc := 40) (tgt := 64) hx hb dX1_saysNumber_40 rfl (fun c4 => ?_) (fun c4 => ?_)
    · have h := h.1 c4
      exact W.vret (pc := 64) hx hb hr (fun t ht hW => m_ret (val := vV) (v := ()) hw h ht) hw.2.2.2 dX1_saysNumber_64 hlk
    · have h := h.2 c4
      refine lv_aload_n (pc := 43) hx hb dX1_saysNumber_43 rfl (lv_at hl 0 rfl) ?_
      refine lv_bipush (pc := 44) (v := (48 : Int32)) hx hb dX1_saysNumber_44 (by decide) ?_
      refine lv_iload_n (pc := 46) hx hb dX1_saysNumber_46 rfl (lv_at hl 1 rfl) ?_
      refine lv_iload_n (pc := 47) hx hb dX1_saysNumber_47 rfl (lv_at hl 2 rfl) ?_
      obtain ⟨hne, h⟩ := h
      refine lv_idiv (pc := 48) hx hb dX1_saysNumber_48 hne ?_
      refine lv_bipush (pc := 49) (v := (10 : Int32)) hx hb dX1_saysNumber_49 (by decide) ?_
      refine lv_irem (pc := 51) hx hb dX1_saysNumber_51 (by decide) ?_
      refine lv_iadd (pc := 52) hx hb dX1_saysNumber_52 ?_
      refine uX1_says (pc := 53) X hml hw h ⟨Nat.le_of_ble_eq_true rfl, Nat.le_of_ble_eq_true rfl⟩ hl.1 (Nat.le_of_ble_eq_true rfl) ⟨Nat.le_refl _, Nat.le_refl _⟩ dX1_saysNumber_53 (fun _ S6 H locs h hw => ?_)
      refine lv_iload_n (pc := 56) hx hb dX1_saysNumber_56 rfl (lv_at hl 2 rfl) ?_
      refine lv_bipush (pc := 57) (v := (10 : Int32)) hx hb dX1_saysNumber_57 (by decide) ?_
      refine lv_idiv (pc := 59) hx hb dX1_saysNumber_59 (by decide) ?_
      refine lv_istore_n (pc := 60) (lv' := [(3, .int (x3 / (10 : Int32))), (0, .ref h0), (2, .int x2)]) hx hb dX1_saysNumber_60 rfl hl (by decide) rfl (fun ls hl => ?_)
      refine lv_goto (pc := 61) (tgt := 39) hx hb dX1_saysNumber_61 rfl ?_
      exact ih _ _ _ _ _ _ h hw (lv_sub hl [1, 2, 0] rfl)
theorem kX1_saysNumber_23 {p : Program} {l : Launch} {e : Env} {s : State} {m : MethodId} {args : Array Value} {below : List Frame} {meth : Method} {c : Code} {G : gG} {h0 : Nat} {ad : Nat → Nat} {post : Unit → MS → Prop} (X : mX G h0 ad p s m args c cX1_saysNumber) (hml : c.maxLocals = 4) (hr : meth.sig.returnType = none) (hlk : meth.locks = false) : ∀ (n : Nat) (x2 : Int32) (x3 : Int32) (S : MS) (H : Heap) (locs : List Loc) (ls : Array Slot), wX1_saysNumber_23 post n x2 x3 S → mH G h0 ad s S H locs → lv_has ls 4 [(0, .ref h0), (2, .int x2), (3, .int x3)] → W p l e ⟨1, 0, 0, 21⟩ s m args below meth c H locs 0 0 (MQ below (gQ vV post (mBw G h0 ad) (mAd h0 ad)) args s 0 0 (mAd h0 ad)) (F0 m 23 ls []) := by
  have hx := X.1
  have hb := X.2.1
  have hown := X.2.2.1
  have hts := X.2.2.2.1
  intro n
  induction n with
  | zero =>
    intro x2 x3 S H locs ls h
    exact False.elim h
  | succ n ih =>
    intro x2 x3 S H locs ls h hw hl
    unfold wX1_saysNumber_23 at h
    refine lv_iload_n (pc := 23) hx hb dX1_saysNumber_23 rfl (lv_at hl 1 rfl) ?_
    refine lv_iload_n (pc := 24) hx hb dX1_saysNumber_24 rfl (lv_at hl 2 rfl) ?_
    obtain ⟨hne, h⟩ := h
    refine lv_idiv (pc := 25) hx hb dX1_saysNumber_25 hne ?_
    refine lv_bipush (pc := 26) (v := (9 : Int32)) hx hb dX1_saysNumber_26 (by decide) ?_
    refine lv_icmp_le (pc := 28) (tgt := 39) hx hb dX1_saysNumber_28 rfl (fun c3 => ?_) (fun c3 => ?_)
    · have h := h.1 c3
      obtain ⟨k, h⟩ := h
      exact kX1_saysNumber_39 X hml hr hlk  k _ _ _ _ _ _ h hw (lv_sub hl [0, 1, 2] rfl)
    · have h := h.2 c3
      refine lv_iload_n (pc := 31) hx hb dX1_saysNumber_31 rfl (lv_at hl 2 rfl) ?_
      refine lv_bipush (pc := 32) (v := (10 : Int32)) hx hb dX1_saysNumber_32 (by decide) ?_
      refine lv_imul (pc := 34) hx hb dX1_saysNumber_34 ?_
      refine lv_istore_n (pc := 35) (lv' := [(3, .int (x3 * (10 : Int32))), (0, .ref h0), (2, .int x2)]) hx hb dX1_saysNumber_35 rfl hl (by decide) rfl (fun ls hl => ?_)
      refine lv_goto (pc := 36) (tgt := 23) hx hb dX1_saysNumber_36 rfl ?_
      exact ih _ _ _ _ _ _ h hw (lv_sub hl [1, 2, 0] rfl)
theorem kX1_saysNumber_20 {p : Program} {l : Launch} {e : Env} {s : State} {m : MethodId} {args : Array Value} {below : List Frame} {meth : Method} {c : Code} {G : gG} {h0 : Nat} {ad : Nat → Nat} {post : Unit → MS → Prop} (X : mX G h0 ad p s m args c cX1_saysNumber) (hml : c.maxLocals = 4) (hr : meth.sig.returnType = none) (hlk : meth.locks = false) : ∀ (v0 : Int32) (S : MS) (H : Heap) (locs : List Loc) (ls : Array Slot), wX1_saysNumber_20 post v0 S → mH G h0 ad s S H locs → lv_has ls 4 [(0, .ref h0)] → W p l e ⟨1, 0, 0, 21⟩ s m args below meth c H locs 0 0 (MQ below (gQ vV post (mBw G h0 ad) (mAd h0 ad)) args s 0 0 (mAd h0 ad)) (F0 m 20 ls [.int v0]) := by
  have hx := X.1
  have hb := X.2.1
  have hown := X.2.2.1
  have hts := X.2.2.2.1
  intro v0 S H locs ls h hw hl
  unfold wX1_saysNumber_20 at h
  refine lv_istore_n (pc := 20) (lv' := [(2, .int v0), (0, .ref h0)]) hx hb dX1_saysNumber_20 rfl hl (by decide) rfl (fun ls hl => ?_)
  refine lv_iconst (pc := 21) (v := (1 : Int32)) hx hb dX1_saysNumber_21 (by decide) ?_
  refine lv_istore_n (pc := 22) (lv' := [(3, .int (1 : Int32)), (2, .int v0), (0, .ref h0)]) hx hb dX1_saysNumber_22 rfl hl (by decide) rfl (fun ls hl => ?_)
  obtain ⟨k, h⟩ := h
  exact kX1_saysNumber_23 X hml hr hlk  k _ _ _ _ _ _ h hw (lv_sub hl [2, 1, 0] rfl)
theorem kX1_saysNumber_10 {p : Program} {l : Launch} {e : Env} {s : State} {m : MethodId} {args : Array Value} {below : List Frame} {meth : Method} {c : Code} {G : gG} {h0 : Nat} {ad : Nat → Nat} {post : Unit → MS → Prop} (X : mX G h0 ad p s m args c cX1_saysNumber) (hml : c.maxLocals = 4) (hr : meth.sig.returnType = none) (hlk : meth.locks = false) : ∀ (x1 : Int32) (S : MS) (H : Heap) (locs : List Loc) (ls : Array Slot), wX1_saysNumber_10 post x1 S → mH G h0 ad s S H locs → lv_has ls 4 [(0, .ref h0), (1, .int x1)] → W p l e ⟨1, 0, 0, 21⟩ s m args below meth c H locs 0 0 (MQ below (gQ vV post (mBw G h0 ad) (mAd h0 ad)) args s 0 0 (mAd h0 ad)) (F0 m 10 ls []) := by
  have hx := X.1
  have hb := X.2.1
  have hown := X.2.2.1
  have hts := X.2.2.2.1
  intro x1 S H locs ls h hw hl
  unfold wX1_saysNumber_10 at h
  refine lv_iload_n (pc := 10) hx hb dX1_saysNumber_10 rfl (lv_at hl 1 rfl) ?_
  refine lv_if_ge (pc := 11) (tgt := 19) hx hb dX1_saysNumber_11 rfl (fun c2 => ?_) (fun c2 => ?_)
  · have h := h.1 c2
    refine lv_iload_n (pc := 19) hx hb dX1_saysNumber_19 rfl (lv_at hl 1 rfl) ?_
    exact kX1_saysNumber_20 X hml hr hlk  _ _ _ _ _ h hw (lv_sub hl [0] rfl)
  · have h := h.2 c2
    refine lv_iload_n (pc := 14) hx hb dX1_saysNumber_14 rfl (lv_at hl 1 rfl) ?_
    refine lv_ineg (pc := 15) hx hb dX1_saysNumber_15 ?_
    refine lv_goto (pc := 16) (tgt := 20) hx hb dX1_saysNumber_16 rfl ?_
    exact kX1_saysNumber_20 X hml hr hlk  _ _ _ _ _ h hw (lv_sub hl [0] rfl)
theorem tX1_saysNumber {l : Launch} {G : gG} {h0 : Nat} {ad : Nat → Nat} (hd : mOk G h0 ad) {post : Unit → MS → Prop} {S : MS} {x1 : Int32} (h : wX1_saysNumber post S x1) : Met l yX1_saysNumber (ws_ yX1_saysNumber cX1_saysNumber 4 none) ⟨1, 0, 0, 21⟩ (va_Pc (.ref h0 :: [.int x1]) (fun U => mBw G h0 ad S U.heap ∧ gK G U)) (gQ vV post (mBw G h0 ad) (mAd h0 ad)) 0 0 (mAd h0 ad) := by
  refine m_ofW (by decide) rfl hd (Nat.le_of_ble_eq_true rfl) (fun p e s m below meth c ls X hml hr hlk hw hl => ?_)
  have hl : lv_has ls 4 [(0, .ref h0), (1, .int x1)] := hl
  have hx := X.1
  have hb := X.2.1
  have hown := X.2.2.1
  have hts := X.2.2.2.1
  unfold wX1_saysNumber at h
  refine lv_iload_n (pc := 0) hx hb dX1_saysNumber_0 rfl (lv_at hl 1 rfl) ?_
  refine lv_if_ge (pc := 1) (tgt := 10) hx hb dX1_saysNumber_1 rfl (fun c1 => ?_) (fun c1 => ?_)
  · have h := h.1 c1
    exact kX1_saysNumber_10 X hml hr hlk  _ _ _ _ _ h hw (lv_sub hl [0, 1] rfl)
  · have h := h.2 c1
    refine lv_aload_n (pc := 4) hx hb dX1_saysNumber_4 rfl (lv_at hl 0 rfl) ?_
    refine lv_bipush (pc := 5) (v := (45 : Int32)) hx hb dX1_saysNumber_5 (by decide) ?_
    refine uX1_says (pc := 7) X hml hw h ⟨Nat.le_of_ble_eq_true rfl, Nat.le_of_ble_eq_true rfl⟩ hl.1 (Nat.le_of_ble_eq_true rfl) ⟨Nat.le_refl _, Nat.le_refl _⟩ dX1_saysNumber_7 (fun _ S8 H locs h hw => ?_)
    exact kX1_saysNumber_10 X hml hr hlk  _ _ _ _ _ h hw (lv_sub hl [0, 1] rfl)
theorem uX1_saysNumber {p : Program} {l : Launch} {e : Env} {R : Room} {s : State} {m : MethodId} {args : Array Value} {below : List Frame} {meth : Method} {c : Code} {H : Heap} {locs : List Loc} {cells slots : Nat} {Q : Jvm.State → Prop} {cc : ByteArray} {pc : Nat} {ls : Array Slot} {rest : List Value} {G : gG} {h0 : Nat} {ad : Nat → Nat} {post : Unit → MS → Prop} {S : MS} {x1 : Int32} {nL : Nat} (X : mX G h0 ad p s m args c cc) (hml : c.maxLocals = nL) (hw : mH G h0 ad s S H locs) (h : wX1_saysNumber post S x1) (hR : 1 + 1 ≤ R.frames ∧ 8 + (4 + 11) + 21 ≤ R.locals) (hsz : ls.size = nL) (hr : (rest.map fun v => v.category).sum ≤ 8) (hc : cells ≤ R.cells ∧ slots ≤ R.slots) (d : decode cc pc = .ok (.invokevirtual 452, 3)) (kk : ∀ (r : Unit) (S1 : MS) (H1 : Heap) (locs1 : List Loc), post r S1 → mH G h0 ad s S1 H1 locs1 → W p l e R s m args below meth c H1 locs1 cells slots Q (F0 m (pc + 3) ls (rest))) : W p l e R s m args below meth c H locs cells slots Q (F0 m pc ls (.int x1 :: .ref h0 :: rest)) :=
  m_call (val := vV) (post := post) (As := [.int x1]) X hml hw (tX1_saysNumber X.2.2.2.2.2.1 h) (lw_V q2505 q2507 qs98 q105 q2508) ⟨rfl, by decide, by decide, (by decide +kernel : (parseMethodDescriptor yX1_saysNumber.desc).map (fun d => d.parameters.length) = some 1)⟩ hR hsz hr hc d rfl kk

def wX1_saysWord_2 (post : Unit → MS → Prop) : Nat → Nat → Int32 → MS → Prop
  | 0, _, _, _ => False
  | n + 1, x1, x2, S => x1 < sN ∧ ((((nI (sLen.getD x1 0)) ≤ x2) → (post () S)) ∧ (¬ ((nI (sLen.getD x1 0)) ≤ x2) → (x1 < sN ∧ vp_in x2 (sLen.getD x1 0) ∧ (wX1_says (fun _ S3 => wX1_saysWord_2 post n x1 (x2 + (1 : Int32)) S3) S (sCh x1 x2.toNatClampNeg)))))
def wX1_saysWord (post : Unit → MS → Prop) (S : MS) (x1 : Nat) : Prop :=
  (∃ k, wX1_saysWord_2 post k x1 (0 : Int32) S)
theorem kX1_saysWord_2 {p : Program} {l : Launch} {e : Env} {s : State} {m : MethodId} {args : Array Value} {below : List Frame} {meth : Method} {c : Code} {G : gG} {h0 : Nat} {ad : Nat → Nat} {post : Unit → MS → Prop} (X : mX G h0 ad p s m args c cX1_saysWord) (hml : c.maxLocals = 3) (hr : meth.sig.returnType = none) (hlk : meth.locks = false) : ∀ (n : Nat) (x1 : Nat) (x2 : Int32) (S : MS) (H : Heap) (locs : List Loc) (ls : Array Slot), wX1_saysWord_2 post n x1 x2 S → mH G h0 ad s S H locs → lv_has ls 3 [(0, .ref h0), (1, .ref (gC G 0 x1)), (2, .int x2)] → W p l e ⟨4, 0, 0, 85⟩ s m args below meth c H locs 0 0 (MQ below (gQ vV post (mBw G h0 ad) (mAd h0 ad)) args s 0 0 (mAd h0 ad)) (F0 m 2 ls []) := by
  have hx := X.1
  have hb := X.2.1
  have hown := X.2.2.1
  have hts := X.2.2.2.1
  intro n
  induction n with
  | zero =>
    intro x1 x2 S H locs ls h
    exact False.elim h
  | succ n ih =>
    intro x1 x2 S H locs ls h hw hl
    unfold wX1_saysWord_2 at h
    refine lv_iload_n (pc := 2) hx hb dX1_saysWord_2 rfl (lv_at hl 2 rfl) ?_
    refine lv_aload_n (pc := 3) hx hb dX1_saysWord_3 rfl (lv_at hl 1 rfl) ?_
    obtain ⟨hT, h⟩ := h
    refine str_len (pc := 4) ⟨hx, hb, hml, hown, hts⟩ X.2.2.2.2.2.1.2.1 (X.at hw hT) (fun U hU hW => X.go hw hU hW)  (lw_V q2168 q696 q697 q111 q698) ⟨Nat.le_of_ble_eq_true rfl, Nat.le_of_ble_eq_true rfl⟩ hl.1 (Nat.le_of_ble_eq_true rfl) ⟨Nat.le_refl _, Nat.le_refl _⟩ dX1_saysWord_4 ?_
    refine lv_icmp_ge (pc := 7) (tgt := 25) hx hb dX1_saysWord_7 rfl (fun c1 => ?_) (fun c1 => ?_)
    · have h := h.1 c1
      exact W.vret (pc := 25) hx hb hr (fun t ht hW => m_ret (val := vV) (v := ()) hw h ht) hw.2.2.2 dX1_saysWord_25 hlk
    · have h := h.2 c1
      refine lv_aload_n (pc := 10) hx hb dX1_saysWord_10 rfl (lv_at hl 0 rfl) ?_
      refine lv_aload_n (pc := 11) hx hb dX1_saysWord_11 rfl (lv_at hl 1 rfl) ?_
      refine lv_iload_n (pc := 12) hx hb dX1_saysWord_12 rfl (lv_at hl 2 rfl) ?_
      obtain ⟨hT, h⟩ := h
      obtain ⟨hi, h⟩ := h
      refine str_charAt (pc := 13) ⟨hx, hb, hml, hown, hts⟩ X.2.2.2.2.2.1.2.1 (X.at hw hT) (sLen_lt _) (fun U hU hW => X.go hw hU hW) hi (lw_V q2172 q1451 q1452 q111 q1453) ⟨Nat.le_of_ble_eq_true rfl, Nat.le_of_ble_eq_true rfl⟩ hl.1 (Nat.le_of_ble_eq_true rfl) ⟨Nat.le_refl _, Nat.le_refl _⟩ dX1_saysWord_13 ?_
      refine uX1_says (pc := 16) X hml hw h ⟨Nat.le_of_ble_eq_true rfl, Nat.le_of_ble_eq_true rfl⟩ hl.1 (Nat.le_of_ble_eq_true rfl) ⟨Nat.le_refl _, Nat.le_refl _⟩ dX1_saysWord_16 (fun _ S3 H locs h hw => ?_)
      refine lv_iinc (pc := 19) (v := x2 + (1 : Int32)) (lv' := [(2, .int (x2 + (1 : Int32))), (0, .ref h0), (1, .ref (gC G 0 x1))]) hx hb dX1_saysWord_19 hl (k := 2) rfl rfl (by decide) rfl (fun ls hl => ?_)
      refine lv_goto (pc := 22) (tgt := 2) hx hb dX1_saysWord_22 rfl ?_
      exact ih _ _ _ _ _ _ h hw (lv_sub hl [1, 2, 0] rfl)
theorem tX1_saysWord {l : Launch} {G : gG} {h0 : Nat} {ad : Nat → Nat} (hd : mOk G h0 ad) {post : Unit → MS → Prop} {S : MS} {x1 : Nat} (h : wX1_saysWord post S x1) : Met l yX1_saysWord (ws_ yX1_saysWord cX1_saysWord 3 none) ⟨4, 0, 0, 85⟩ (va_Pc (.ref h0 :: [.ref (gC G 0 x1)]) (fun U => mBw G h0 ad S U.heap ∧ gK G U)) (gQ vV post (mBw G h0 ad) (mAd h0 ad)) 0 0 (mAd h0 ad) := by
  refine m_ofW (by decide) rfl hd (Nat.le_of_ble_eq_true rfl) (fun p e s m below meth c ls X hml hr hlk hw hl => ?_)
  have hl : lv_has ls 3 [(0, .ref h0), (1, .ref (gC G 0 x1))] := hl
  have hx := X.1
  have hb := X.2.1
  have hown := X.2.2.1
  have hts := X.2.2.2.1
  unfold wX1_saysWord at h
  refine lv_iconst (pc := 0) (v := (0 : Int32)) hx hb dX1_saysWord_0 (by decide) ?_
  refine lv_istore_n (pc := 1) (lv' := [(2, .int (0 : Int32)), (0, .ref h0), (1, .ref (gC G 0 x1))]) hx hb dX1_saysWord_1 rfl hl (by decide) rfl (fun ls hl => ?_)
  obtain ⟨k, h⟩ := h
  exact kX1_saysWord_2 X hml hr hlk  k _ _ _ _ _ _ h hw (lv_sub hl [1, 2, 0] rfl)
theorem uX1_saysWord {p : Program} {l : Launch} {e : Env} {R : Room} {s : State} {m : MethodId} {args : Array Value} {below : List Frame} {meth : Method} {c : Code} {H : Heap} {locs : List Loc} {cells slots : Nat} {Q : Jvm.State → Prop} {cc : ByteArray} {pc : Nat} {ls : Array Slot} {rest : List Value} {G : gG} {h0 : Nat} {ad : Nat → Nat} {post : Unit → MS → Prop} {S : MS} {x1 : Nat} {nL : Nat} (X : mX G h0 ad p s m args c cc) (hml : c.maxLocals = nL) (hw : mH G h0 ad s S H locs) (h : wX1_saysWord post S x1) (hR : 4 + 1 ≤ R.frames ∧ 8 + (3 + 11) + 85 ≤ R.locals) (hsz : ls.size = nL) (hr : (rest.map fun v => v.category).sum ≤ 8) (hc : cells ≤ R.cells ∧ slots ≤ R.slots) (d : decode cc pc = .ok (.invokevirtual 448, 3)) (kk : ∀ (r : Unit) (S1 : MS) (H1 : Heap) (locs1 : List Loc), post r S1 → mH G h0 ad s S1 H1 locs1 → W p l e R s m args below meth c H1 locs1 cells slots Q (F0 m (pc + 3) ls (rest))) : W p l e R s m args below meth c H locs cells slots Q (F0 m pc ls (.ref (gC G 0 x1) :: .ref h0 :: rest)) :=
  m_call (val := vV) (post := post) (As := [.ref (gC G 0 x1)]) X hml hw (tX1_saysWord X.2.2.2.2.2.1 h) (lw_V q2513 q2515 qs100 q105 q2516) ⟨rfl, by decide, by decide, (by decide +kernel : (parseMethodDescriptor yX1_saysWord.desc).map (fun d => d.parameters.length) = some 1)⟩ hR hsz hr hc d rfl kk

def wX1_out (post : Int32 → MS → Prop) (S : MS) (x1 : Int32) : Prop :=
  wX1_isIn (fun r1 => ((r1 = (0 : Int32)) → (post (-1 : Int32) S)) ∧ (¬ (r1 = (0 : Int32)) → (vp_in x1 3000 ∧ (post (S.2.2.1 48 x1.toNatClampNeg) S)))) x1.toInt64 (0 : Int64) (((S.1 49) - (1 : Int32)).toInt64)
theorem tX1_out {l : Launch} {G : gG} {h0 : Nat} {ad : Nat → Nat} (hd : mOk G h0 ad) {post : Int32 → MS → Prop} {S : MS} {x1 : Int32} (h : wX1_out post S x1) : Met l yX1_out (ws_ yX1_out cX1_out 2 (some .int)) ⟨1, 0, 0, 25⟩ (va_Pc (.ref h0 :: [.int x1]) (fun U => mBw G h0 ad S U.heap ∧ gK G U)) (gQ vI post (mBw G h0 ad) (mAd h0 ad)) 0 0 (mAd h0 ad) := by
  refine m_ofW (by decide) rfl hd (Nat.le_of_ble_eq_true rfl) (fun p e s m below meth c ls X hml hr hlk hw hl => ?_)
  have hl : lv_has ls 2 [(0, .ref h0), (1, .int x1)] := hl
  have hx := X.1
  have hb := X.2.1
  have hown := X.2.2.1
  have hts := X.2.2.2.1
  unfold wX1_out at h
  refine lv_iload_n (pc := 0) hx hb dX1_out_0 rfl (lv_at hl 1 rfl) ?_
  refine lv_i2l (pc := 1) hx hb dX1_out_1 rfl ?_
  refine lv_lconst (pc := 2) (v := (0 : Int64)) hx hb dX1_out_2 (by decide) ?_
  refine lv_aload_n (pc := 3) hx hb dX1_out_3 rfl (lv_at hl 0 rfl) ?_
  refine mg49 (pc := 4) X hw dX1_out_4 ?_
  refine lv_iconst (pc := 7) (v := (1 : Int32)) hx hb dX1_out_7 (by decide) ?_
  refine lv_isub (pc := 8) hx hb dX1_out_8 ?_
  refine lv_i2l (pc := 9) hx hb dX1_out_9 rfl ?_
  refine uX1_isIn (pc := 10) ⟨hx, hb, hml, hown, hts⟩ h ⟨Nat.le_of_ble_eq_true rfl, Nat.le_of_ble_eq_true rfl⟩ hl.1 (Nat.le_of_ble_eq_true rfl) ⟨Nat.le_refl _, Nat.le_refl _⟩ dX1_out_10 (fun r1 h => ?_)
  refine lv_if_eq (pc := 13) (tgt := 25) hx hb dX1_out_13 rfl (fun c2 => ?_) (fun c2 => ?_)
  · have h := h.1 c2
    refine lv_iconst (pc := 25) (v := (-1 : Int32)) hx hb dX1_out_25 (by decide) ?_
    exact W.iret (pc := 26) hx hb hr (fun t ht hW => m_ret (val := vI) hw h ht) hw.2.2.2 dX1_out_26 hlk
  · have h := h.2 c2
    refine lv_aload_n (pc := 16) hx hb dX1_out_16 rfl (lv_at hl 0 rfl) ?_
    refine mg48 (pc := 17) X hw dX1_out_17 ?_
    refine lv_iload_n (pc := 20) hx hb dX1_out_20 rfl (lv_at hl 1 rfl) ?_
    obtain ⟨hi, h⟩ := h
    refine ma48 (pc := 21) X hw hi dX1_out_21 ?_
    refine lv_goto (pc := 22) (tgt := 26) hx hb dX1_out_22 rfl ?_
    exact W.iret (pc := 26) hx hb hr (fun t ht hW => m_ret (val := vI) hw h ht) hw.2.2.2 dX1_out_26 hlk

def wX1_look (post : Int32 → MS → Prop) (S : MS) (x1 : Int32) : Prop :=
  wX1_isIn (fun r1 => ((r1 = (0 : Int32)) → (((x1 = (4 : Int32)) → (post (S.1 3) S)) ∧ (¬ (x1 = (4 : Int32)) → (((x1 = (5 : Int32)) → (post (S.1 39) S)) ∧ (¬ (x1 = (5 : Int32)) → (((x1 = (6 : Int32)) → (post (S.1 37) S)) ∧ (¬ (x1 = (6 : Int32)) → (post (-1 : Int32) S)))))))) ∧ (¬ (r1 = (0 : Int32)) → (vp_in x1 5 ∧ (post (S.2.2.1 0 x1.toNatClampNeg) S)))) x1.toInt64 (0 : Int64) (3 : Int64)
theorem tX1_look {l : Launch} {G : gG} {h0 : Nat} {ad : Nat → Nat} (hd : mOk G h0 ad) {post : Int32 → MS → Prop} {S : MS} {x1 : Int32} (h : wX1_look post S x1) : Met l yX1_look (ws_ yX1_look cX1_look 2 (some .int)) ⟨1, 0, 0, 25⟩ (va_Pc (.ref h0 :: [.int x1]) (fun U => mBw G h0 ad S U.heap ∧ gK G U)) (gQ vI post (mBw G h0 ad) (mAd h0 ad)) 0 0 (mAd h0 ad) := by
  refine m_ofW (by decide) rfl hd (Nat.le_of_ble_eq_true rfl) (fun p e s m below meth c ls X hml hr hlk hw hl => ?_)
  have hl : lv_has ls 2 [(0, .ref h0), (1, .int x1)] := hl
  have hx := X.1
  have hb := X.2.1
  have hown := X.2.2.1
  have hts := X.2.2.2.1
  unfold wX1_look at h
  refine lv_iload_n (pc := 0) hx hb dX1_look_0 rfl (lv_at hl 1 rfl) ?_
  refine lv_i2l (pc := 1) hx hb dX1_look_1 rfl ?_
  refine lv_lconst (pc := 2) (v := (0 : Int64)) hx hb dX1_look_2 (by decide) ?_
  refine lv_ldc2 (pc := 3) hx hb hown (hts _ q2150) dX1_look_3 ?_
  refine uX1_isIn (pc := 6) ⟨hx, hb, hml, hown, hts⟩ h ⟨Nat.le_of_ble_eq_true rfl, Nat.le_of_ble_eq_true rfl⟩ hl.1 (Nat.le_of_ble_eq_true rfl) ⟨Nat.le_refl _, Nat.le_refl _⟩ dX1_look_6 (fun r1 h => ?_)
  refine lv_if_eq (pc := 9) (tgt := 19) hx hb dX1_look_9 rfl (fun c2 => ?_) (fun c2 => ?_)
  · have h := h.1 c2
    refine lv_iload_n (pc := 19) hx hb dX1_look_19 rfl (lv_at hl 1 rfl) ?_
    refine lv_iconst (pc := 20) (v := (4 : Int32)) hx hb dX1_look_20 (by decide) ?_
    refine lv_icmp_ne (pc := 21) (tgt := 31) hx hb dX1_look_21 rfl (fun c3 => ?_) (fun c3 => ?_)
    · have h := h.2 c3
      refine lv_iload_n (pc := 31) hx hb dX1_look_31 rfl (lv_at hl 1 rfl) ?_
      refine lv_iconst (pc := 32) (v := (5 : Int32)) hx hb dX1_look_32 (by decide) ?_
      refine lv_icmp_ne (pc := 33) (tgt := 43) hx hb dX1_look_33 rfl (fun c4 => ?_) (fun c4 => ?_)
      · have h := h.2 c4
        refine lv_iload_n (pc := 43) hx hb dX1_look_43 rfl (lv_at hl 1 rfl) ?_
        refine lv_bipush (pc := 44) (v := (6 : Int32)) hx hb dX1_look_44 (by decide) ?_
        refine lv_icmp_ne (pc := 46) (tgt := 56) hx hb dX1_look_46 rfl (fun c5 => ?_) (fun c5 => ?_)
        · have h := h.2 c5
          refine lv_iconst (pc := 56) (v := (-1 : Int32)) hx hb dX1_look_56 (by decide) ?_
          exact W.iret (pc := 57) hx hb hr (fun t ht hW => m_ret (val := vI) hw h ht) hw.2.2.2 dX1_look_57 hlk
        · have h := h.1 c5
          refine lv_aload_n (pc := 49) hx hb dX1_look_49 rfl (lv_at hl 0 rfl) ?_
          refine mg37 (pc := 50) X hw dX1_look_50 ?_
          refine lv_goto (pc := 53) (tgt := 57) hx hb dX1_look_53 rfl ?_
          exact W.iret (pc := 57) hx hb hr (fun t ht hW => m_ret (val := vI) hw h ht) hw.2.2.2 dX1_look_57 hlk
      · have h := h.1 c4
        refine lv_aload_n (pc := 36) hx hb dX1_look_36 rfl (lv_at hl 0 rfl) ?_
        refine mg39 (pc := 37) X hw dX1_look_37 ?_
        refine lv_goto (pc := 40) (tgt := 57) hx hb dX1_look_40 rfl ?_
        exact W.iret (pc := 57) hx hb hr (fun t ht hW => m_ret (val := vI) hw h ht) hw.2.2.2 dX1_look_57 hlk
    · have h := h.1 c3
      refine lv_aload_n (pc := 24) hx hb dX1_look_24 rfl (lv_at hl 0 rfl) ?_
      refine mg3 (pc := 25) X hw dX1_look_25 ?_
      refine lv_goto (pc := 28) (tgt := 57) hx hb dX1_look_28 rfl ?_
      exact W.iret (pc := 57) hx hb hr (fun t ht hW => m_ret (val := vI) hw h ht) hw.2.2.2 dX1_look_57 hlk
  · have h := h.2 c2
    refine lv_aload_n (pc := 12) hx hb dX1_look_12 rfl (lv_at hl 0 rfl) ?_
    refine mg0 (pc := 13) X hw dX1_look_13 ?_
    refine lv_iload_n (pc := 16) hx hb dX1_look_16 rfl (lv_at hl 1 rfl) ?_
    obtain ⟨hi, h⟩ := h
    refine ma0 (pc := 17) X hw hi dX1_look_17 ?_
    exact W.iret (pc := 18) hx hb hr (fun t ht hW => m_ret (val := vI) hw h ht) hw.2.2.2 dX1_look_18 hlk

def wX1_feed (post : Int32 → MS → Prop) (S : MS) (x1 : Int32) (x2 : Int32) (x3 : Int32) (x4 : Int32) (x5 : Int32) : Prop :=
  ((((S.1 3) + (20 : Int32)) ≤ (800 : Int32)) → (wX1_four (fun _ S3 => wX1_four (fun _ S5 => wX1_four (fun _ S7 => wX1_four (fun _ S9 => wX1_four (fun _ S11 => post (S11.1 3) S11) S9 x5) S7 x4) S5 x3) S3 x2) S x1)) ∧ (¬ (((S.1 3) + (20 : Int32)) ≤ (800 : Int32)) → (post (-1 : Int32) S))
theorem tX1_feed {l : Launch} {G : gG} {h0 : Nat} {ad : Nat → Nat} (hd : mOk G h0 ad) {post : Int32 → MS → Prop} {S : MS} {x1 : Int32} {x2 : Int32} {x3 : Int32} {x4 : Int32} {x5 : Int32} (h : wX1_feed post S x1 x2 x3 x4 x5) : Met l yX1_feed (ws_ yX1_feed cX1_feed 6 (some .int)) ⟨1, 0, 0, 22⟩ (va_Pc (.ref h0 :: [.int x1, .int x2, .int x3, .int x4, .int x5]) (fun U => mBw G h0 ad S U.heap ∧ gK G U)) (gQ vI post (mBw G h0 ad) (mAd h0 ad)) 0 0 (mAd h0 ad) := by
  refine m_ofW (by decide) rfl hd (Nat.le_of_ble_eq_true rfl) (fun p e s m below meth c ls X hml hr hlk hw hl => ?_)
  have hl : lv_has ls 6 [(0, .ref h0), (1, .int x1), (2, .int x2), (3, .int x3), (4, .int x4), (5, .int x5)] := hl
  have hx := X.1
  have hb := X.2.1
  have hown := X.2.2.1
  have hts := X.2.2.2.1
  unfold wX1_feed at h
  refine lv_aload_n (pc := 0) hx hb dX1_feed_0 rfl (lv_at hl 0 rfl) ?_
  refine mg3 (pc := 1) X hw dX1_feed_1 ?_
  refine lv_bipush (pc := 4) (v := (20 : Int32)) hx hb dX1_feed_4 (by decide) ?_
  refine lv_iadd (pc := 6) hx hb dX1_feed_6 ?_
  refine lv_sipush (pc := 7) (v := (800 : Int32)) hx hb dX1_feed_7 (by decide) ?_
  refine lv_icmp_le (pc := 10) (tgt := 15) hx hb dX1_feed_10 rfl (fun c1 => ?_) (fun c1 => ?_)
  · have h := h.1 c1
    refine lv_aload_n (pc := 15) hx hb dX1_feed_15 rfl (lv_at hl 0 rfl) ?_
    refine lv_iload_n (pc := 16) hx hb dX1_feed_16 rfl (lv_at hl 1 rfl) ?_
    refine uX1_four (pc := 17) X hml hw h ⟨Nat.le_of_ble_eq_true rfl, Nat.le_of_ble_eq_true rfl⟩ hl.1 (Nat.le_of_ble_eq_true rfl) ⟨Nat.le_refl _, Nat.le_refl _⟩ dX1_feed_17 (fun _ S3 H locs h hw => ?_)
    refine lv_aload_n (pc := 20) hx hb dX1_feed_20 rfl (lv_at hl 0 rfl) ?_
    refine lv_iload_n (pc := 21) hx hb dX1_feed_21 rfl (lv_at hl 2 rfl) ?_
    refine uX1_four (pc := 22) X hml hw h ⟨Nat.le_of_ble_eq_true rfl, Nat.le_of_ble_eq_true rfl⟩ hl.1 (Nat.le_of_ble_eq_true rfl) ⟨Nat.le_refl _, Nat.le_refl _⟩ dX1_feed_22 (fun _ S5 H locs h hw => ?_)
    refine lv_aload_n (pc := 25) hx hb dX1_feed_25 rfl (lv_at hl 0 rfl) ?_
    refine lv_iload_n (pc := 26) hx hb dX1_feed_26 rfl (lv_at hl 3 rfl) ?_
    refine uX1_four (pc := 27) X hml hw h ⟨Nat.le_of_ble_eq_true rfl, Nat.le_of_ble_eq_true rfl⟩ hl.1 (Nat.le_of_ble_eq_true rfl) ⟨Nat.le_refl _, Nat.le_refl _⟩ dX1_feed_27 (fun _ S7 H locs h hw => ?_)
    refine lv_aload_n (pc := 30) hx hb dX1_feed_30 rfl (lv_at hl 0 rfl) ?_
    refine lv_iload (pc := 31) hx hb dX1_feed_31 (lv_at hl 4 rfl) ?_
    refine uX1_four (pc := 33) X hml hw h ⟨Nat.le_of_ble_eq_true rfl, Nat.le_of_ble_eq_true rfl⟩ hl.1 (Nat.le_of_ble_eq_true rfl) ⟨Nat.le_refl _, Nat.le_refl _⟩ dX1_feed_33 (fun _ S9 H locs h hw => ?_)
    refine lv_aload_n (pc := 36) hx hb dX1_feed_36 rfl (lv_at hl 0 rfl) ?_
    refine lv_iload (pc := 37) hx hb dX1_feed_37 (lv_at hl 5 rfl) ?_
    refine uX1_four (pc := 39) X hml hw h ⟨Nat.le_of_ble_eq_true rfl, Nat.le_of_ble_eq_true rfl⟩ hl.1 (Nat.le_of_ble_eq_true rfl) ⟨Nat.le_refl _, Nat.le_refl _⟩ dX1_feed_39 (fun _ S11 H locs h hw => ?_)
    refine lv_aload_n (pc := 42) hx hb dX1_feed_42 rfl (lv_at hl 0 rfl) ?_
    refine mg3 (pc := 43) X hw dX1_feed_43 ?_
    exact W.iret (pc := 46) hx hb hr (fun t ht hW => m_ret (val := vI) hw h ht) hw.2.2.2 dX1_feed_46 hlk
  · have h := h.2 c1
    refine lv_iconst (pc := 13) (v := (-1 : Int32)) hx hb dX1_feed_13 (by decide) ?_
    exact W.iret (pc := 14) hx hb hr (fun t ht hW => m_ret (val := vI) hw h ht) hw.2.2.2 dX1_feed_14 hlk

def wX1_end (post : Int32 → MS → Prop) (S : MS) (x1 : Int32) : Prop :=
  wX1_isIn (fun r1 => ((r1 = (0 : Int32)) → (post (0 : Int32) S)) ∧ (¬ (r1 = (0 : Int32)) → (post (1 : Int32) (mI S 3 x1)))) x1.toInt64 (0 : Int64) ((S.1 3).toInt64)
theorem tX1_end {l : Launch} {G : gG} {h0 : Nat} {ad : Nat → Nat} (hd : mOk G h0 ad) {post : Int32 → MS → Prop} {S : MS} {x1 : Int32} (h : wX1_end post S x1) : Met l yX1_end (ws_ yX1_end cX1_end 2 (some .boolean)) ⟨1, 0, 0, 25⟩ (va_Pc (.ref h0 :: [.int x1]) (fun U => mBw G h0 ad S U.heap ∧ gK G U)) (gQ vI post (mBw G h0 ad) (mAd h0 ad)) 0 0 (mAd h0 ad) := by
  refine m_ofW (by decide) rfl hd (Nat.le_of_ble_eq_true rfl) (fun p e s m below meth c ls X hml hr hlk hw hl => ?_)
  have hl : lv_has ls 2 [(0, .ref h0), (1, .int x1)] := hl
  have hx := X.1
  have hb := X.2.1
  have hown := X.2.2.1
  have hts := X.2.2.2.1
  unfold wX1_end at h
  refine lv_iload_n (pc := 0) hx hb dX1_end_0 rfl (lv_at hl 1 rfl) ?_
  refine lv_i2l (pc := 1) hx hb dX1_end_1 rfl ?_
  refine lv_lconst (pc := 2) (v := (0 : Int64)) hx hb dX1_end_2 (by decide) ?_
  refine lv_aload_n (pc := 3) hx hb dX1_end_3 rfl (lv_at hl 0 rfl) ?_
  refine mg3 (pc := 4) X hw dX1_end_4 ?_
  refine lv_i2l (pc := 7) hx hb dX1_end_7 rfl ?_
  refine uX1_isIn (pc := 8) ⟨hx, hb, hml, hown, hts⟩ h ⟨Nat.le_of_ble_eq_true rfl, Nat.le_of_ble_eq_true rfl⟩ hl.1 (Nat.le_of_ble_eq_true rfl) ⟨Nat.le_refl _, Nat.le_refl _⟩ dX1_end_8 (fun r1 h => ?_)
  refine lv_if_ne (pc := 11) (tgt := 16) hx hb dX1_end_11 rfl (fun c2 => ?_) (fun c2 => ?_)
  · have h := h.2 c2
    refine lv_aload_n (pc := 16) hx hb dX1_end_16 rfl (lv_at hl 0 rfl) ?_
    refine lv_iload_n (pc := 17) hx hb dX1_end_17 rfl (lv_at hl 1 rfl) ?_
    refine mp3 (pc := 18) X hw dX1_end_18 (fun H locs hw => ?_)
    refine lv_iconst (pc := 21) (v := (1 : Int32)) hx hb dX1_end_21 (by decide) ?_
    exact W.zret (pc := 22) hx hb hr rfl (fun t ht hW => m_ret (val := vI) hw h ht) hw.2.2.2 dX1_end_22 hlk
  · have h := h.1 c2
    refine lv_iconst (pc := 14) (v := (0 : Int32)) hx hb dX1_end_14 (by decide) ?_
    exact W.zret (pc := 15) hx hb hr rfl (fun t ht hW => m_ret (val := vI) hw h ht) hw.2.2.2 dX1_end_15 hlk

def wX1_next_26 (K0 : MS → Prop) (post : Unit → MS → Prop) (S : MS) : Prop :=
  K0 (mI S 14 ((S.1 14) + (1 : Int32)))
def wX1_next_250 (K193 : MS → Prop) (post : Unit → MS → Prop) (S : MS) : Prop :=
  K193 (mI S 14 ((S.1 14) + (1 : Int32)))
def wX1_next_193 (post : Unit → MS → Prop) : Nat → MS → Prop
  | 0, _ => False
  | n + 1, S => wX1_see (fun r14 S15 => wX1_isIn (fun r16 => ((r16 = (0 : Int32)) → (post () S15)) ∧ (¬ (r16 = (0 : Int32)) → ((((4 : Int32) ≤ ((S15.1 14) - (S15.1 13))) → (wX1_next_250 (fun S => wX1_next_193 post n S) post S15)) ∧ (¬ ((4 : Int32) ≤ ((S15.1 14) - (S15.1 13))) → (wX1_see (fun r19 S20 => wX1_next_250 (fun S => wX1_next_193 post n S) post (mI S20 16 ((((10 : Int32) * (S15.1 16)) + r19) - (48 : Int32)))) S15 (S15.1 14)))))) r14.toInt64 (48 : Int64) (57 : Int64)) S (S.1 14)
def wX1_next_161 (K103 : MS → Prop) (post : Unit → MS → Prop) (S : MS) : Prop :=
  K103 (mI S 14 ((S.1 14) + (1 : Int32)))
def wX1_next_103 (post : Unit → MS → Prop) : Nat → MS → Prop
  | 0, _ => False
  | n + 1, S => wX1_see (fun r21 S22 => wX1_isIn (fun r23 => ((r23 = (0 : Int32)) → (post () S22)) ∧ (¬ (r23 = (0 : Int32)) → ((((7 : Int32) ≤ ((S22.1 14) - (S22.1 13))) → (wX1_next_161 (fun S => wX1_next_103 post n S) post S22)) ∧ (¬ ((7 : Int32) ≤ ((S22.1 14) - (S22.1 13))) → (wX1_see (fun r26 S27 => wX1_next_161 (fun S => wX1_next_103 post n S) post (mL S27 15 (((S22.2.1 15) <<< ((5 : Int32).toInt64 &&& 63)) ||| ((r26 - (96 : Int32)).toInt64)))) S22 (S22.1 14)))))) r21.toInt64 (97 : Int64) (122 : Int64)) S (S.1 14)
def wX1_next_0 (post : Unit → MS → Prop) : Nat → MS → Prop
  | 0, _ => False
  | n + 1, S => wX1_see (fun r1 S2 => ((r1 = (32 : Int32)) → (wX1_next_26 (fun S => wX1_next_0 post n S) post S2)) ∧ (¬ (r1 = (32 : Int32)) → (wX1_see (fun r4 S5 => ((r4 = (10 : Int32)) → (wX1_next_26 (fun S => wX1_next_0 post n S) post S5)) ∧ (¬ (r4 = (10 : Int32)) → (wX1_see (fun r7 S8 => ((r7 = (-1 : Int32)) → (post () (mI (mI (mI (mL S8 15 (0 : Int64)) 16 (0 : Int32)) 17 (0 : Int32)) 12 (0 : Int32)))) ∧ (¬ (r7 = (-1 : Int32)) → (wX1_isIn (fun r10 => ((r10 = (0 : Int32)) → (wX1_isIn (fun r12 => ((r12 = (0 : Int32)) → (post () (mI (mI (mI (mI (mI (mL S8 15 (0 : Int64)) 16 (0 : Int32)) 17 (0 : Int32)) 12 (3 : Int32)) 17 r7) 14 ((S8.1 14) + (1 : Int32))))) ∧ (¬ (r12 = (0 : Int32)) → ((∃ k, wX1_next_193 post k (mI (mI (mI (mL S8 15 (0 : Int64)) 16 (0 : Int32)) 17 (0 : Int32)) 12 (2 : Int32)))))) r7.toInt64 (48 : Int64) (57 : Int64))) ∧ (¬ (r10 = (0 : Int32)) → ((∃ k, wX1_next_103 post k (mI (mI (mI (mL S8 15 (0 : Int64)) 16 (0 : Int32)) 17 (0 : Int32)) 12 (1 : Int32)))))) r7.toInt64 (97 : Int64) (122 : Int64)))) (mI S5 13 (S5.1 14)) (S5.1 14)))) S2 (S2.1 14)))) S (S.1 14)
def wX1_next (post : Unit → MS → Prop) (S : MS) : Prop :=
  (∃ k, wX1_next_0 post k S)
theorem kX1_next_26 {p : Program} {l : Launch} {e : Env} {s : State} {m : MethodId} {args : Array Value} {below : List Frame} {meth : Method} {c : Code} {G : gG} {h0 : Nat} {ad : Nat → Nat} {K0 : MS → Prop} {post : Unit → MS → Prop} (X : mX G h0 ad p s m args c cX1_next) (hml : c.maxLocals = 2) (hr : meth.sig.returnType = none) (hlk : meth.locks = false) (hK0 : ∀ (S : MS) (H : Heap) (locs : List Loc) (ls : Array Slot), K0 S → mH G h0 ad s S H locs → lv_has ls 2 [(0, .ref h0)] → W p l e ⟨1, 0, 0, 25⟩ s m args below meth c H locs 0 0 (MQ below (gQ vV post (mBw G h0 ad) (mAd h0 ad)) args s 0 0 (mAd h0 ad)) (F0 m 0 ls [])) : ∀ (S : MS) (H : Heap) (locs : List Loc) (ls : Array Slot), wX1_next_26 K0 post S → mH G h0 ad s S H locs → lv_has ls 2 [(0, .ref h0)] → W p l e ⟨1, 0, 0, 25⟩ s m args below meth c H locs 0 0 (MQ below (gQ vV post (mBw G h0 ad) (mAd h0 ad)) args s 0 0 (mAd h0 ad)) (F0 m 26 ls []) := by
  have hx := X.1
  have hb := X.2.1
  have hown := X.2.2.1
  have hts := X.2.2.2.1
  intro S H locs ls h hw hl
  unfold wX1_next_26 at h
  refine lv_aload_n (pc := 26) hx hb dX1_next_26 rfl (lv_at hl 0 rfl) ?_
  refine lv_dup (pc := 27) hx hb dX1_next_27 rfl ?_
  refine mg14 (pc := 28) X hw dX1_next_28 ?_
  refine lv_iconst (pc := 31) (v := (1 : Int32)) hx hb dX1_next_31 (by decide) ?_
  refine lv_iadd (pc := 32) hx hb dX1_next_32 ?_
  refine mp14 (pc := 33) X hw dX1_next_33 (fun H locs hw => ?_)
  refine lv_goto (pc := 36) (tgt := 0) hx hb dX1_next_36 rfl ?_
  exact hK0  _ _ _ _ h hw (lv_sub hl [0] rfl)
theorem kX1_next_250 {p : Program} {l : Launch} {e : Env} {s : State} {m : MethodId} {args : Array Value} {below : List Frame} {meth : Method} {c : Code} {G : gG} {h0 : Nat} {ad : Nat → Nat} {K193 : MS → Prop} {post : Unit → MS → Prop} (X : mX G h0 ad p s m args c cX1_next) (hml : c.maxLocals = 2) (hr : meth.sig.returnType = none) (hlk : meth.locks = false) (hK193 : ∀ (S : MS) (H : Heap) (locs : List Loc) (ls : Array Slot), K193 S → mH G h0 ad s S H locs → lv_has ls 2 [(0, .ref h0)] → W p l e ⟨1, 0, 0, 25⟩ s m args below meth c H locs 0 0 (MQ below (gQ vV post (mBw G h0 ad) (mAd h0 ad)) args s 0 0 (mAd h0 ad)) (F0 m 193 ls [])) : ∀ (S : MS) (H : Heap) (locs : List Loc) (ls : Array Slot), wX1_next_250 K193 post S → mH G h0 ad s S H locs → lv_has ls 2 [(0, .ref h0)] → W p l e ⟨1, 0, 0, 25⟩ s m args below meth c H locs 0 0 (MQ below (gQ vV post (mBw G h0 ad) (mAd h0 ad)) args s 0 0 (mAd h0 ad)) (F0 m 250 ls []) := by
  have hx := X.1
  have hb := X.2.1
  have hown := X.2.2.1
  have hts := X.2.2.2.1
  intro S H locs ls h hw hl
  unfold wX1_next_250 at h
  refine lv_aload_n (pc := 250) hx hb dX1_next_250 rfl (lv_at hl 0 rfl) ?_
  refine lv_dup (pc := 251) hx hb dX1_next_251 rfl ?_
  refine mg14 (pc := 252) X hw dX1_next_252 ?_
  refine lv_iconst (pc := 255) (v := (1 : Int32)) hx hb dX1_next_255 (by decide) ?_
  refine lv_iadd (pc := 256) hx hb dX1_next_256 ?_
  refine mp14 (pc := 257) X hw dX1_next_257 (fun H locs hw => ?_)
  refine lv_goto (pc := 260) (tgt := 193) hx hb dX1_next_260 rfl ?_
  exact hK193  _ _ _ _ h hw (lv_sub hl [0] rfl)
theorem kX1_next_193 {p : Program} {l : Launch} {e : Env} {s : State} {m : MethodId} {args : Array Value} {below : List Frame} {meth : Method} {c : Code} {G : gG} {h0 : Nat} {ad : Nat → Nat} {post : Unit → MS → Prop} (X : mX G h0 ad p s m args c cX1_next) (hml : c.maxLocals = 2) (hr : meth.sig.returnType = none) (hlk : meth.locks = false) : ∀ (n : Nat) (S : MS) (H : Heap) (locs : List Loc) (ls : Array Slot), wX1_next_193 post n S → mH G h0 ad s S H locs → lv_has ls 2 [(0, .ref h0)] → W p l e ⟨1, 0, 0, 25⟩ s m args below meth c H locs 0 0 (MQ below (gQ vV post (mBw G h0 ad) (mAd h0 ad)) args s 0 0 (mAd h0 ad)) (F0 m 193 ls []) := by
  have hx := X.1
  have hb := X.2.1
  have hown := X.2.2.1
  have hts := X.2.2.2.1
  intro n
  induction n with
  | zero =>
    intro S H locs ls h
    exact False.elim h
  | succ n ih =>
    intro S H locs ls h hw hl
    unfold wX1_next_193 at h
    refine lv_aload_n (pc := 193) hx hb dX1_next_193 rfl (lv_at hl 0 rfl) ?_
    refine lv_aload_n (pc := 194) hx hb dX1_next_194 rfl (lv_at hl 0 rfl) ?_
    refine mg14 (pc := 195) X hw dX1_next_195 ?_
    refine uX1_see (pc := 198) X hml hw h ⟨Nat.le_of_ble_eq_true rfl, Nat.le_of_ble_eq_true rfl⟩ hl.1 (Nat.le_of_ble_eq_true rfl) ⟨Nat.le_refl _, Nat.le_refl _⟩ dX1_next_198 (fun r14 S15 H locs h hw => ?_)
    refine lv_i2l (pc := 201) hx hb dX1_next_201 rfl ?_
    refine lv_ldc2 (pc := 202) hx hb hown (hts _ q2145) dX1_next_202 ?_
    refine lv_ldc2 (pc := 205) hx hb hown (hts _ q2146) dX1_next_205 ?_
    refine uX1_isIn (pc := 208) ⟨hx, hb, hml, hown, hts⟩ h ⟨Nat.le_of_ble_eq_true rfl, Nat.le_of_ble_eq_true rfl⟩ hl.1 (Nat.le_of_ble_eq_true rfl) ⟨Nat.le_refl _, Nat.le_refl _⟩ dX1_next_208 (fun r16 h => ?_)
    refine lv_if_eq (pc := 211) (tgt := 283) hx hb dX1_next_211 rfl (fun c17 => ?_) (fun c17 => ?_)
    · have h := h.1 c17
      exact W.vret (pc := 283) hx hb hr (fun t ht hW => m_ret (val := vV) (v := ()) hw h ht) hw.2.2.2 dX1_next_283 hlk
    · have h := h.2 c17
      refine lv_aload_n (pc := 214) hx hb dX1_next_214 rfl (lv_at hl 0 rfl) ?_
      refine mg14 (pc := 215) X hw dX1_next_215 ?_
      refine lv_aload_n (pc := 218) hx hb dX1_next_218 rfl (lv_at hl 0 rfl) ?_
      refine mg13 (pc := 219) X hw dX1_next_219 ?_
      refine lv_isub (pc := 222) hx hb dX1_next_222 ?_
      refine lv_iconst (pc := 223) (v := (4 : Int32)) hx hb dX1_next_223 (by decide) ?_
      refine lv_icmp_ge (pc := 224) (tgt := 250) hx hb dX1_next_224 rfl (fun c18 => ?_) (fun c18 => ?_)
      · have h := h.1 c18
        exact kX1_next_250 X hml hr hlk ih  _ _ _ _ h hw (lv_sub hl [0] rfl)
      · have h := h.2 c18
        refine lv_aload_n (pc := 227) hx hb dX1_next_227 rfl (lv_at hl 0 rfl) ?_
        refine lv_bipush (pc := 228) (v := (10 : Int32)) hx hb dX1_next_228 (by decide) ?_
        refine lv_aload_n (pc := 230) hx hb dX1_next_230 rfl (lv_at hl 0 rfl) ?_
        refine mg16 (pc := 231) X hw dX1_next_231 ?_
        refine lv_imul (pc := 234) hx hb dX1_next_234 ?_
        refine lv_aload_n (pc := 235) hx hb dX1_next_235 rfl (lv_at hl 0 rfl) ?_
        refine lv_aload_n (pc := 236) hx hb dX1_next_236 rfl (lv_at hl 0 rfl) ?_
        refine mg14 (pc := 237) X hw dX1_next_237 ?_
        refine uX1_see (pc := 240) X hml hw h ⟨Nat.le_of_ble_eq_true rfl, Nat.le_of_ble_eq_true rfl⟩ hl.1 (Nat.le_of_ble_eq_true rfl) ⟨Nat.le_refl _, Nat.le_refl _⟩ dX1_next_240 (fun r19 S20 H locs h hw => ?_)
        refine lv_iadd (pc := 243) hx hb dX1_next_243 ?_
        refine lv_bipush (pc := 244) (v := (48 : Int32)) hx hb dX1_next_244 (by decide) ?_
        refine lv_isub (pc := 246) hx hb dX1_next_246 ?_
        refine mp16 (pc := 247) X hw dX1_next_247 (fun H locs hw => ?_)
        exact kX1_next_250 X hml hr hlk ih  _ _ _ _ h hw (lv_sub hl [0] rfl)
theorem kX1_next_161 {p : Program} {l : Launch} {e : Env} {s : State} {m : MethodId} {args : Array Value} {below : List Frame} {meth : Method} {c : Code} {G : gG} {h0 : Nat} {ad : Nat → Nat} {K103 : MS → Prop} {post : Unit → MS → Prop} (X : mX G h0 ad p s m args c cX1_next) (hml : c.maxLocals = 2) (hr : meth.sig.returnType = none) (hlk : meth.locks = false) (hK103 : ∀ (S : MS) (H : Heap) (locs : List Loc) (ls : Array Slot), K103 S → mH G h0 ad s S H locs → lv_has ls 2 [(0, .ref h0)] → W p l e ⟨1, 0, 0, 25⟩ s m args below meth c H locs 0 0 (MQ below (gQ vV post (mBw G h0 ad) (mAd h0 ad)) args s 0 0 (mAd h0 ad)) (F0 m 103 ls [])) : ∀ (S : MS) (H : Heap) (locs : List Loc) (ls : Array Slot), wX1_next_161 K103 post S → mH G h0 ad s S H locs → lv_has ls 2 [(0, .ref h0)] → W p l e ⟨1, 0, 0, 25⟩ s m args below meth c H locs 0 0 (MQ below (gQ vV post (mBw G h0 ad) (mAd h0 ad)) args s 0 0 (mAd h0 ad)) (F0 m 161 ls []) := by
  have hx := X.1
  have hb := X.2.1
  have hown := X.2.2.1
  have hts := X.2.2.2.1
  intro S H locs ls h hw hl
  unfold wX1_next_161 at h
  refine lv_aload_n (pc := 161) hx hb dX1_next_161 rfl (lv_at hl 0 rfl) ?_
  refine lv_dup (pc := 162) hx hb dX1_next_162 rfl ?_
  refine mg14 (pc := 163) X hw dX1_next_163 ?_
  refine lv_iconst (pc := 166) (v := (1 : Int32)) hx hb dX1_next_166 (by decide) ?_
  refine lv_iadd (pc := 167) hx hb dX1_next_167 ?_
  refine mp14 (pc := 168) X hw dX1_next_168 (fun H locs hw => ?_)
  refine lv_goto (pc := 171) (tgt := 103) hx hb dX1_next_171 rfl ?_
  exact hK103  _ _ _ _ h hw (lv_sub hl [0] rfl)
theorem kX1_next_103 {p : Program} {l : Launch} {e : Env} {s : State} {m : MethodId} {args : Array Value} {below : List Frame} {meth : Method} {c : Code} {G : gG} {h0 : Nat} {ad : Nat → Nat} {post : Unit → MS → Prop} (X : mX G h0 ad p s m args c cX1_next) (hml : c.maxLocals = 2) (hr : meth.sig.returnType = none) (hlk : meth.locks = false) : ∀ (n : Nat) (S : MS) (H : Heap) (locs : List Loc) (ls : Array Slot), wX1_next_103 post n S → mH G h0 ad s S H locs → lv_has ls 2 [(0, .ref h0)] → W p l e ⟨1, 0, 0, 25⟩ s m args below meth c H locs 0 0 (MQ below (gQ vV post (mBw G h0 ad) (mAd h0 ad)) args s 0 0 (mAd h0 ad)) (F0 m 103 ls []) := by
  have hx := X.1
  have hb := X.2.1
  have hown := X.2.2.1
  have hts := X.2.2.2.1
  intro n
  induction n with
  | zero =>
    intro S H locs ls h
    exact False.elim h
  | succ n ih =>
    intro S H locs ls h hw hl
    unfold wX1_next_103 at h
    refine lv_aload_n (pc := 103) hx hb dX1_next_103 rfl (lv_at hl 0 rfl) ?_
    refine lv_aload_n (pc := 104) hx hb dX1_next_104 rfl (lv_at hl 0 rfl) ?_
    refine mg14 (pc := 105) X hw dX1_next_105 ?_
    refine uX1_see (pc := 108) X hml hw h ⟨Nat.le_of_ble_eq_true rfl, Nat.le_of_ble_eq_true rfl⟩ hl.1 (Nat.le_of_ble_eq_true rfl) ⟨Nat.le_refl _, Nat.le_refl _⟩ dX1_next_108 (fun r21 S22 H locs h hw => ?_)
    refine lv_i2l (pc := 111) hx hb dX1_next_111 rfl ?_
    refine lv_ldc2 (pc := 112) hx hb hown (hts _ q2143) dX1_next_112 ?_
    refine lv_ldc2 (pc := 115) hx hb hown (hts _ q2144) dX1_next_115 ?_
    refine uX1_isIn (pc := 118) ⟨hx, hb, hml, hown, hts⟩ h ⟨Nat.le_of_ble_eq_true rfl, Nat.le_of_ble_eq_true rfl⟩ hl.1 (Nat.le_of_ble_eq_true rfl) ⟨Nat.le_refl _, Nat.le_refl _⟩ dX1_next_118 (fun r23 h => ?_)
    refine lv_if_eq (pc := 121) (tgt := 283) hx hb dX1_next_121 rfl (fun c24 => ?_) (fun c24 => ?_)
    · have h := h.1 c24
      exact W.vret (pc := 283) hx hb hr (fun t ht hW => m_ret (val := vV) (v := ()) hw h ht) hw.2.2.2 dX1_next_283 hlk
    · have h := h.2 c24
      refine lv_aload_n (pc := 124) hx hb dX1_next_124 rfl (lv_at hl 0 rfl) ?_
      refine mg14 (pc := 125) X hw dX1_next_125 ?_
      refine lv_aload_n (pc := 128) hx hb dX1_next_128 rfl (lv_at hl 0 rfl) ?_
      refine mg13 (pc := 129) X hw dX1_next_129 ?_
      refine lv_isub (pc := 132) hx hb dX1_next_132 ?_
      refine lv_bipush (pc := 133) (v := (7 : Int32)) hx hb dX1_next_133 (by decide) ?_
      refine lv_icmp_ge (pc := 135) (tgt := 161) hx hb dX1_next_135 rfl (fun c25 => ?_) (fun c25 => ?_)
      · have h := h.1 c25
        exact kX1_next_161 X hml hr hlk ih  _ _ _ _ h hw (lv_sub hl [0] rfl)
      · have h := h.2 c25
        refine lv_aload_n (pc := 138) hx hb dX1_next_138 rfl (lv_at hl 0 rfl) ?_
        refine lv_aload_n (pc := 139) hx hb dX1_next_139 rfl (lv_at hl 0 rfl) ?_
        refine mg15 (pc := 140) X hw dX1_next_140 ?_
        refine lv_iconst (pc := 143) (v := (5 : Int32)) hx hb dX1_next_143 (by decide) ?_
        refine lv_lshl (pc := 144) hx hb dX1_next_144 rfl ?_
        refine lv_aload_n (pc := 145) hx hb dX1_next_145 rfl (lv_at hl 0 rfl) ?_
        refine lv_aload_n (pc := 146) hx hb dX1_next_146 rfl (lv_at hl 0 rfl) ?_
        refine mg14 (pc := 147) X hw dX1_next_147 ?_
        refine uX1_see (pc := 150) X hml hw h ⟨Nat.le_of_ble_eq_true rfl, Nat.le_of_ble_eq_true rfl⟩ hl.1 (Nat.le_of_ble_eq_true rfl) ⟨Nat.le_refl _, Nat.le_refl _⟩ dX1_next_150 (fun r26 S27 H locs h hw => ?_)
        refine lv_bipush (pc := 153) (v := (96 : Int32)) hx hb dX1_next_153 (by decide) ?_
        refine lv_isub (pc := 155) hx hb dX1_next_155 ?_
        refine lv_i2l (pc := 156) hx hb dX1_next_156 rfl ?_
        refine lv_lor (pc := 157) hx hb dX1_next_157 ?_
        refine mp15 (pc := 158) X hw dX1_next_158 (fun H locs hw => ?_)
        exact kX1_next_161 X hml hr hlk ih  _ _ _ _ h hw (lv_sub hl [0] rfl)
theorem kX1_next_0 {p : Program} {l : Launch} {e : Env} {s : State} {m : MethodId} {args : Array Value} {below : List Frame} {meth : Method} {c : Code} {G : gG} {h0 : Nat} {ad : Nat → Nat} {post : Unit → MS → Prop} (X : mX G h0 ad p s m args c cX1_next) (hml : c.maxLocals = 2) (hr : meth.sig.returnType = none) (hlk : meth.locks = false) : ∀ (n : Nat) (S : MS) (H : Heap) (locs : List Loc) (ls : Array Slot), wX1_next_0 post n S → mH G h0 ad s S H locs → lv_has ls 2 [(0, .ref h0)] → W p l e ⟨1, 0, 0, 25⟩ s m args below meth c H locs 0 0 (MQ below (gQ vV post (mBw G h0 ad) (mAd h0 ad)) args s 0 0 (mAd h0 ad)) (F0 m 0 ls []) := by
  have hx := X.1
  have hb := X.2.1
  have hown := X.2.2.1
  have hts := X.2.2.2.1
  intro n
  induction n with
  | zero =>
    intro S H locs ls h
    exact False.elim h
  | succ n ih =>
    intro S H locs ls h hw hl
    unfold wX1_next_0 at h
    refine lv_aload_n (pc := 0) hx hb dX1_next_0 rfl (lv_at hl 0 rfl) ?_
    refine lv_aload_n (pc := 1) hx hb dX1_next_1 rfl (lv_at hl 0 rfl) ?_
    refine mg14 (pc := 2) X hw dX1_next_2 ?_
    refine uX1_see (pc := 5) X hml hw h ⟨Nat.le_of_ble_eq_true rfl, Nat.le_of_ble_eq_true rfl⟩ hl.1 (Nat.le_of_ble_eq_true rfl) ⟨Nat.le_refl _, Nat.le_refl _⟩ dX1_next_5 (fun r1 S2 H locs h hw => ?_)
    refine lv_bipush (pc := 8) (v := (32 : Int32)) hx hb dX1_next_8 (by decide) ?_
    refine lv_icmp_eq (pc := 10) (tgt := 26) hx hb dX1_next_10 rfl (fun c3 => ?_) (fun c3 => ?_)
    · have h := h.1 c3
      exact kX1_next_26 X hml hr hlk ih  _ _ _ _ h hw (lv_sub hl [0] rfl)
    · have h := h.2 c3
      refine lv_aload_n (pc := 13) hx hb dX1_next_13 rfl (lv_at hl 0 rfl) ?_
      refine lv_aload_n (pc := 14) hx hb dX1_next_14 rfl (lv_at hl 0 rfl) ?_
      refine mg14 (pc := 15) X hw dX1_next_15 ?_
      refine uX1_see (pc := 18) X hml hw h ⟨Nat.le_of_ble_eq_true rfl, Nat.le_of_ble_eq_true rfl⟩ hl.1 (Nat.le_of_ble_eq_true rfl) ⟨Nat.le_refl _, Nat.le_refl _⟩ dX1_next_18 (fun r4 S5 H locs h hw => ?_)
      refine lv_bipush (pc := 21) (v := (10 : Int32)) hx hb dX1_next_21 (by decide) ?_
      refine lv_icmp_ne (pc := 23) (tgt := 39) hx hb dX1_next_23 rfl (fun c6 => ?_) (fun c6 => ?_)
      · have h := h.2 c6
        refine lv_aload_n (pc := 39) hx hb dX1_next_39 rfl (lv_at hl 0 rfl) ?_
        refine lv_aload_n (pc := 40) hx hb dX1_next_40 rfl (lv_at hl 0 rfl) ?_
        refine mg14 (pc := 41) X hw dX1_next_41 ?_
        refine mp13 (pc := 44) X hw dX1_next_44 (fun H locs hw => ?_)
        refine lv_aload_n (pc := 47) hx hb dX1_next_47 rfl (lv_at hl 0 rfl) ?_
        refine lv_aload_n (pc := 48) hx hb dX1_next_48 rfl (lv_at hl 0 rfl) ?_
        refine mg14 (pc := 49) X hw dX1_next_49 ?_
        refine uX1_see (pc := 52) X hml hw h ⟨Nat.le_of_ble_eq_true rfl, Nat.le_of_ble_eq_true rfl⟩ hl.1 (Nat.le_of_ble_eq_true rfl) ⟨Nat.le_refl _, Nat.le_refl _⟩ dX1_next_52 (fun r7 S8 H locs h hw => ?_)
        refine lv_istore_n (pc := 55) (lv' := [(1, .int r7), (0, .ref h0)]) hx hb dX1_next_55 rfl hl (by decide) rfl (fun ls hl => ?_)
        refine lv_aload_n (pc := 56) hx hb dX1_next_56 rfl (lv_at hl 1 rfl) ?_
        refine lv_lconst (pc := 57) (v := (0 : Int64)) hx hb dX1_next_57 (by decide) ?_
        refine mp15 (pc := 58) X hw dX1_next_58 (fun H locs hw => ?_)
        refine lv_aload_n (pc := 61) hx hb dX1_next_61 rfl (lv_at hl 1 rfl) ?_
        refine lv_iconst (pc := 62) (v := (0 : Int32)) hx hb dX1_next_62 (by decide) ?_
        refine mp16 (pc := 63) X hw dX1_next_63 (fun H locs hw => ?_)
        refine lv_aload_n (pc := 66) hx hb dX1_next_66 rfl (lv_at hl 1 rfl) ?_
        refine lv_iconst (pc := 67) (v := (0 : Int32)) hx hb dX1_next_67 (by decide) ?_
        refine mp17 (pc := 68) X hw dX1_next_68 (fun H locs hw => ?_)
        refine lv_iload_n (pc := 71) hx hb dX1_next_71 rfl (lv_at hl 0 rfl) ?_
        refine lv_iconst (pc := 72) (v := (-1 : Int32)) hx hb dX1_next_72 (by decide) ?_
        refine lv_icmp_ne (pc := 73) (tgt := 84) hx hb dX1_next_73 rfl (fun c9 => ?_) (fun c9 => ?_)
        · have h := h.2 c9
          refine lv_iload_n (pc := 84) hx hb dX1_next_84 rfl (lv_at hl 0 rfl) ?_
          refine lv_i2l (pc := 85) hx hb dX1_next_85 rfl ?_
          refine lv_ldc2 (pc := 86) hx hb hown (hts _ q2143) dX1_next_86 ?_
          refine lv_ldc2 (pc := 89) hx hb hown (hts _ q2144) dX1_next_89 ?_
          refine uX1_isIn (pc := 92) ⟨hx, hb, hml, hown, hts⟩ h ⟨Nat.le_of_ble_eq_true rfl, Nat.le_of_ble_eq_true rfl⟩ hl.1 (Nat.le_of_ble_eq_true rfl) ⟨Nat.le_refl _, Nat.le_refl _⟩ dX1_next_92 (fun r10 h => ?_)
          refine lv_if_eq (pc := 95) (tgt := 174) hx hb dX1_next_95 rfl (fun c11 => ?_) (fun c11 => ?_)
          · have h := h.1 c11
            refine lv_iload_n (pc := 174) hx hb dX1_next_174 rfl (lv_at hl 0 rfl) ?_
            refine lv_i2l (pc := 175) hx hb dX1_next_175 rfl ?_
            refine lv_ldc2 (pc := 176) hx hb hown (hts _ q2145) dX1_next_176 ?_
            refine lv_ldc2 (pc := 179) hx hb hown (hts _ q2146) dX1_next_179 ?_
            refine uX1_isIn (pc := 182) ⟨hx, hb, hml, hown, hts⟩ h ⟨Nat.le_of_ble_eq_true rfl, Nat.le_of_ble_eq_true rfl⟩ hl.1 (Nat.le_of_ble_eq_true rfl) ⟨Nat.le_refl _, Nat.le_refl _⟩ dX1_next_182 (fun r12 h => ?_)
            refine lv_if_eq (pc := 185) (tgt := 263) hx hb dX1_next_185 rfl (fun c13 => ?_) (fun c13 => ?_)
            · have h := h.1 c13
              refine lv_aload_n (pc := 263) hx hb dX1_next_263 rfl (lv_at hl 1 rfl) ?_
              refine lv_iconst (pc := 264) (v := (3 : Int32)) hx hb dX1_next_264 (by decide) ?_
              refine mp12 (pc := 265) X hw dX1_next_265 (fun H locs hw => ?_)
              refine lv_aload_n (pc := 268) hx hb dX1_next_268 rfl (lv_at hl 1 rfl) ?_
              refine lv_iload_n (pc := 269) hx hb dX1_next_269 rfl (lv_at hl 0 rfl) ?_
              refine mp17 (pc := 270) X hw dX1_next_270 (fun H locs hw => ?_)
              refine lv_aload_n (pc := 273) hx hb dX1_next_273 rfl (lv_at hl 1 rfl) ?_
              refine lv_dup (pc := 274) hx hb dX1_next_274 rfl ?_
              refine mg14 (pc := 275) X hw dX1_next_275 ?_
              refine lv_iconst (pc := 278) (v := (1 : Int32)) hx hb dX1_next_278 (by decide) ?_
              refine lv_iadd (pc := 279) hx hb dX1_next_279 ?_
              refine mp14 (pc := 280) X hw dX1_next_280 (fun H locs hw => ?_)
              exact W.vret (pc := 283) hx hb hr (fun t ht hW => m_ret (val := vV) (v := ()) hw h ht) hw.2.2.2 dX1_next_283 hlk
            · have h := h.2 c13
              refine lv_aload_n (pc := 188) hx hb dX1_next_188 rfl (lv_at hl 1 rfl) ?_
              refine lv_iconst (pc := 189) (v := (2 : Int32)) hx hb dX1_next_189 (by decide) ?_
              refine mp12 (pc := 190) X hw dX1_next_190 (fun H locs hw => ?_)
              obtain ⟨k, h⟩ := h
              exact kX1_next_193 X hml hr hlk  k  _ _ _ _ h hw (lv_sub hl [1] rfl)
          · have h := h.2 c11
            refine lv_aload_n (pc := 98) hx hb dX1_next_98 rfl (lv_at hl 1 rfl) ?_
            refine lv_iconst (pc := 99) (v := (1 : Int32)) hx hb dX1_next_99 (by decide) ?_
            refine mp12 (pc := 100) X hw dX1_next_100 (fun H locs hw => ?_)
            obtain ⟨k, h⟩ := h
            exact kX1_next_103 X hml hr hlk  k  _ _ _ _ h hw (lv_sub hl [1] rfl)
        · have h := h.1 c9
          refine lv_aload_n (pc := 76) hx hb dX1_next_76 rfl (lv_at hl 1 rfl) ?_
          refine lv_iconst (pc := 77) (v := (0 : Int32)) hx hb dX1_next_77 (by decide) ?_
          refine mp12 (pc := 78) X hw dX1_next_78 (fun H locs hw => ?_)
          refine lv_goto (pc := 81) (tgt := 283) hx hb dX1_next_81 rfl ?_
          exact W.vret (pc := 283) hx hb hr (fun t ht hW => m_ret (val := vV) (v := ()) hw h ht) hw.2.2.2 dX1_next_283 hlk
      · have h := h.1 c6
        exact kX1_next_26 X hml hr hlk ih  _ _ _ _ h hw (lv_sub hl [0] rfl)
theorem tX1_next {l : Launch} {G : gG} {h0 : Nat} {ad : Nat → Nat} (hd : mOk G h0 ad) {post : Unit → MS → Prop} {S : MS} (h : wX1_next post S) : Met l yX1_next (ws_ yX1_next cX1_next 2 none) ⟨1, 0, 0, 25⟩ (va_Pc (.ref h0 :: []) (fun U => mBw G h0 ad S U.heap ∧ gK G U)) (gQ vV post (mBw G h0 ad) (mAd h0 ad)) 0 0 (mAd h0 ad) := by
  refine m_ofW (by decide) rfl hd (Nat.le_of_ble_eq_true rfl) (fun p e s m below meth c ls X hml hr hlk hw hl => ?_)
  have hl : lv_has ls 2 [(0, .ref h0)] := hl
  have hx := X.1
  have hb := X.2.1
  have hown := X.2.2.1
  have hts := X.2.2.2.1
  unfold wX1_next at h
  obtain ⟨k, h⟩ := h
  exact kX1_next_0 X hml hr hlk  k  _ _ _ _ h hw (lv_sub hl [0] rfl)
theorem uX1_next {p : Program} {l : Launch} {e : Env} {R : Room} {s : State} {m : MethodId} {args : Array Value} {below : List Frame} {meth : Method} {c : Code} {H : Heap} {locs : List Loc} {cells slots : Nat} {Q : Jvm.State → Prop} {cc : ByteArray} {pc : Nat} {ls : Array Slot} {rest : List Value} {G : gG} {h0 : Nat} {ad : Nat → Nat} {post : Unit → MS → Prop} {S : MS} {nL : Nat} (X : mX G h0 ad p s m args c cc) (hml : c.maxLocals = nL) (hw : mH G h0 ad s S H locs) (h : wX1_next post S) (hR : 1 + 1 ≤ R.frames ∧ 8 + (2 + 11) + 25 ≤ R.locals) (hsz : ls.size = nL) (hr : (rest.map fun v => v.category).sum ≤ 8) (hc : cells ≤ R.cells ∧ slots ≤ R.slots) (d : decode cc pc = .ok (.invokevirtual 190, 3)) (kk : ∀ (r : Unit) (S1 : MS) (H1 : Heap) (locs1 : List Loc), post r S1 → mH G h0 ad s S1 H1 locs1 → W p l e R s m args below meth c H1 locs1 cells slots Q (F0 m (pc + 3) ls (rest))) : W p l e R s m args below meth c H locs cells slots Q (F0 m pc ls (.ref h0 :: rest)) :=
  m_call (val := vV) (post := post) (As := []) X hml hw (tX1_next X.2.2.2.2.2.1 h) (lw_V q2135 q2137 qs48 q105 q2138) ⟨rfl, by decide, by decide, (by decide +kernel : (parseMethodDescriptor yX1_next.desc).map (fun d => d.parameters.length) = some 0)⟩ hR hsz hr hc d rfl kk

def wX1_isWord (post : Int32 → MS → Prop) (S : MS) (x1 : Nat) : Prop :=
  (((S.1 12) = (1 : Int32)) → (x1 < sN ∧ (((((S.1 14) - (S.1 13)) = (nI (sLen.getD x1 0))) → (wX1_packed (fun r3 => (((S.2.1 15) = r3) → (post (1 : Int32) S)) ∧ (¬ ((S.2.1 15) = r3) → (post (0 : Int32) S))) x1)) ∧ (¬ (((S.1 14) - (S.1 13)) = (nI (sLen.getD x1 0))) → (post (0 : Int32) S))))) ∧ (¬ ((S.1 12) = (1 : Int32)) → (post (0 : Int32) S))
theorem tX1_isWord {l : Launch} {G : gG} {h0 : Nat} {ad : Nat → Nat} (hd : mOk G h0 ad) {post : Int32 → MS → Prop} {S : MS} {x1 : Nat} (h : wX1_isWord post S x1) : Met l yX1_isWord (ws_ yX1_isWord cX1_isWord 2 (some .boolean)) ⟨5, 0, 0, 108⟩ (va_Pc (.ref h0 :: [.ref (gC G 0 x1)]) (fun U => mBw G h0 ad S U.heap ∧ gK G U)) (gQ vI post (mBw G h0 ad) (mAd h0 ad)) 0 0 (mAd h0 ad) := by
  refine m_ofW (by decide) rfl hd (Nat.le_of_ble_eq_true rfl) (fun p e s m below meth c ls X hml hr hlk hw hl => ?_)
  have hl : lv_has ls 2 [(0, .ref h0), (1, .ref (gC G 0 x1))] := hl
  have hx := X.1
  have hb := X.2.1
  have hown := X.2.2.1
  have hts := X.2.2.2.1
  unfold wX1_isWord at h
  refine lv_aload_n (pc := 0) hx hb dX1_isWord_0 rfl (lv_at hl 0 rfl) ?_
  refine mg12 (pc := 1) X hw dX1_isWord_1 ?_
  refine lv_iconst (pc := 4) (v := (1 : Int32)) hx hb dX1_isWord_4 (by decide) ?_
  refine lv_icmp_ne (pc := 5) (tgt := 40) hx hb dX1_isWord_5 rfl (fun c1 => ?_) (fun c1 => ?_)
  · have h := h.2 c1
    refine lv_iconst (pc := 40) (v := (0 : Int32)) hx hb dX1_isWord_40 (by decide) ?_
    exact W.zret (pc := 41) hx hb hr rfl (fun t ht hW => m_ret (val := vI) hw h ht) hw.2.2.2 dX1_isWord_41 hlk
  · have h := h.1 c1
    refine lv_aload_n (pc := 8) hx hb dX1_isWord_8 rfl (lv_at hl 0 rfl) ?_
    refine mg14 (pc := 9) X hw dX1_isWord_9 ?_
    refine lv_aload_n (pc := 12) hx hb dX1_isWord_12 rfl (lv_at hl 0 rfl) ?_
    refine mg13 (pc := 13) X hw dX1_isWord_13 ?_
    refine lv_isub (pc := 16) hx hb dX1_isWord_16 ?_
    refine lv_aload_n (pc := 17) hx hb dX1_isWord_17 rfl (lv_at hl 1 rfl) ?_
    obtain ⟨hT, h⟩ := h
    refine str_len (pc := 18) ⟨hx, hb, hml, hown, hts⟩ X.2.2.2.2.2.1.2.1 (X.at hw hT) (fun U hU hW => X.go hw hU hW)  (lw_V q2168 q696 q697 q111 q698) ⟨Nat.le_of_ble_eq_true rfl, Nat.le_of_ble_eq_true rfl⟩ hl.1 (Nat.le_of_ble_eq_true rfl) ⟨Nat.le_refl _, Nat.le_refl _⟩ dX1_isWord_18 ?_
    refine lv_icmp_ne (pc := 21) (tgt := 40) hx hb dX1_isWord_21 rfl (fun c2 => ?_) (fun c2 => ?_)
    · have h := h.2 c2
      refine lv_iconst (pc := 40) (v := (0 : Int32)) hx hb dX1_isWord_40 (by decide) ?_
      exact W.zret (pc := 41) hx hb hr rfl (fun t ht hW => m_ret (val := vI) hw h ht) hw.2.2.2 dX1_isWord_41 hlk
    · have h := h.1 c2
      refine lv_aload_n (pc := 24) hx hb dX1_isWord_24 rfl (lv_at hl 0 rfl) ?_
      refine mg15 (pc := 25) X hw dX1_isWord_25 ?_
      refine lv_aload_n (pc := 28) hx hb dX1_isWord_28 rfl (lv_at hl 1 rfl) ?_
      refine uX1_packed (pc := 29) X hml hw h ⟨Nat.le_of_ble_eq_true rfl, Nat.le_of_ble_eq_true rfl⟩ hl.1 (Nat.le_of_ble_eq_true rfl) ⟨Nat.le_refl _, Nat.le_refl _⟩ dX1_isWord_29 (fun r3 h => ?_)
      refine W.lcmp (pc := 32) hx hb dX1_isWord_32 ?_
      refine lv_if_ne (pc := 33) (tgt := 40) hx hb dX1_isWord_33 rfl (fun c4 => ?_) (fun c4 => ?_)
      · have h := h.2 (fun z => c4 ((lg_cmp_eq _ _).mpr z))
        refine lv_iconst (pc := 40) (v := (0 : Int32)) hx hb dX1_isWord_40 (by decide) ?_
        exact W.zret (pc := 41) hx hb hr rfl (fun t ht hW => m_ret (val := vI) hw h ht) hw.2.2.2 dX1_isWord_41 hlk
      · have h := h.1 ((lg_cmp_eq _ _).mp c4)
        refine lv_iconst (pc := 36) (v := (1 : Int32)) hx hb dX1_isWord_36 (by decide) ?_
        refine lv_goto (pc := 37) (tgt := 41) hx hb dX1_isWord_37 rfl ?_
        exact W.zret (pc := 41) hx hb hr rfl (fun t ht hW => m_ret (val := vI) hw h ht) hw.2.2.2 dX1_isWord_41 hlk
theorem uX1_isWord {p : Program} {l : Launch} {e : Env} {R : Room} {s : State} {m : MethodId} {args : Array Value} {below : List Frame} {meth : Method} {c : Code} {H : Heap} {locs : List Loc} {cells slots : Nat} {Q : Jvm.State → Prop} {cc : ByteArray} {pc : Nat} {ls : Array Slot} {rest : List Value} {G : gG} {h0 : Nat} {ad : Nat → Nat} {post : Int32 → MS → Prop} {S : MS} {x1 : Nat} {nL : Nat} (X : mX G h0 ad p s m args c cc) (hml : c.maxLocals = nL) (hw : mH G h0 ad s S H locs) (h : wX1_isWord post S x1) (hR : 5 + 1 ≤ R.frames ∧ 8 + (2 + 11) + 108 ≤ R.locals) (hsz : ls.size = nL) (hr : (rest.map fun v => v.category).sum ≤ 8) (hc : cells ≤ R.cells ∧ slots ≤ R.slots) (d : decode cc pc = .ok (.invokevirtual 198, 3)) (kk : ∀ (r : Int32) (S1 : MS) (H1 : Heap) (locs1 : List Loc), post r S1 → mH G h0 ad s S1 H1 locs1 → W p l e R s m args below meth c H1 locs1 cells slots Q (F0 m (pc + 3) ls (.int r :: rest))) : W p l e R s m args below meth c H locs cells slots Q (F0 m pc ls (.ref (gC G 0 x1) :: .ref h0 :: rest)) :=
  m_call (val := vI) (post := post) (As := [.ref (gC G 0 x1)]) X hml hw (tX1_isWord X.2.2.2.2.2.1 h) (lw_V q2164 q2166 qs53 q105 q2167) ⟨rfl, by decide, by decide, (by decide +kernel : (parseMethodDescriptor yX1_isWord.desc).map (fun d => d.parameters.length) = some 1)⟩ hR hsz hr hc d rfl kk

def wX1_greatest_2 (post : Int32 → Prop) : Nat → Int32 → Int32 → Int32 → Prop
  | 0, _, _, _ => False
  | n + 1, x0, x1, x2 => wX1_plain (fun r1 => (((3000 : Int64) < (x0.toInt64 * r1)) → (post x2)) ∧ (¬ ((3000 : Int64) < (x0.toInt64 * r1)) → (wX1_greatest_2 post n x0 x1 (x2 + (1 : Int32))))) x1 ((x2 + (1 : Int32)).toInt64)
def wX1_greatest (post : Int32 → Prop) (x0 : Int32) (x1 : Int32) : Prop :=
  (∃ k, wX1_greatest_2 post k x0 x1 (0 : Int32))
theorem kX1_greatest_2 {p : Program} {l : Launch} {e : Env} {s : State} {m : MethodId} {args : Array Value} {below : List Frame} {meth : Method} {c : Code} {post : Int32 → Prop} (X : CallFix p m c cX1_greatest 3 s args lw_all RX1) (hr : meth.sig.returnType = (some .int)) (hlk : meth.locks = false) : ∀ (n : Nat) (x0 : Int32) (x1 : Int32) (x2 : Int32) (ls : Array Slot), wX1_greatest_2 post n x0 x1 x2 → True → lv_has ls 3 [(0, .int x0), (1, .int x1), (2, .int x2)] → W p l e ⟨1, 0, 0, 22⟩ s m args below meth c s.heap [] 0 0 (MQ below (pQ vI post) args s 0 0 (fun _ => False)) (F0 m 2 ls []) := by
  have hx := X.1
  have hb := X.2.1
  have hml := X.2.2.1
  have hown := X.2.2.2.1
  have hts := X.2.2.2.2
  intro n
  induction n with
  | zero =>
    intro x0 x1 x2 ls h
    exact False.elim h
  | succ n ih =>
    intro x0 x1 x2 ls h _ hl
    unfold wX1_greatest_2 at h
    refine lv_iload_n (pc := 2) hx hb dX1_greatest_2 rfl (lv_at hl 0 rfl) ?_
    refine lv_i2l (pc := 3) hx hb dX1_greatest_3 rfl ?_
    refine lv_iload_n (pc := 4) hx hb dX1_greatest_4 rfl (lv_at hl 1 rfl) ?_
    refine lv_iload_n (pc := 5) hx hb dX1_greatest_5 rfl (lv_at hl 2 rfl) ?_
    refine lv_iconst (pc := 6) (v := (1 : Int32)) hx hb dX1_greatest_6 (by decide) ?_
    refine lv_iadd (pc := 7) hx hb dX1_greatest_7 ?_
    refine lv_i2l (pc := 8) hx hb dX1_greatest_8 rfl ?_
    refine uX1_plain (pc := 9) X h ⟨Nat.le_of_ble_eq_true rfl, Nat.le_of_ble_eq_true rfl⟩ hl.1 (Nat.le_of_ble_eq_true rfl) ⟨Nat.le_refl _, Nat.le_refl _⟩ dX1_greatest_9 (fun r1 h => ?_)
    refine lv_lmul (pc := 12) hx hb dX1_greatest_12 ?_
    refine lv_ldc2 (pc := 13) hx hb hown (hts _ q2189) dX1_greatest_13 ?_
    refine W.lcmp (pc := 16) hx hb dX1_greatest_16 ?_
    refine lv_if_gt (pc := 17) (tgt := 26) hx hb dX1_greatest_17 rfl (fun c2 => ?_) (fun c2 => ?_)
    · have h := h.1 ((lg_cmp_gt _ _).mp c2)
      refine lv_iload_n (pc := 26) hx hb dX1_greatest_26 rfl (lv_at hl 2 rfl) ?_
      exact W.iret (pc := 27) hx hb hr (fun t ht hW => s_ret (val := vI) h ht) (fun _ hq => absurd hq List.not_mem_nil) dX1_greatest_27 hlk
    · have h := h.2 (fun z => c2 ((lg_cmp_gt _ _).mpr z))
      refine lv_iinc (pc := 20) (v := x2 + (1 : Int32)) (lv' := [(2, .int (x2 + (1 : Int32))), (0, .int x0), (1, .int x1)]) hx hb dX1_greatest_20 hl (k := 2) rfl rfl (by decide) rfl (fun ls hl => ?_)
      refine lv_goto (pc := 23) (tgt := 2) hx hb dX1_greatest_23 rfl ?_
      exact ih _ _ _ _ h trivial (lv_sub hl [1, 2, 0] rfl)
theorem tX1_greatest {l : Launch} {post : Int32 → Prop} {x0 : Int32} {x1 : Int32} (h : wX1_greatest post x0 x1) : Met l yX1_greatest (ws_ yX1_greatest cX1_greatest 3 (some .int)) ⟨1, 0, 0, 22⟩ (va_Pc [.int x0, .int x1] (fun _ => True)) (pQ vI post) 0 0 (fun _ => False) := by
  refine s_ofW (by decide) (Nat.le_of_ble_eq_true rfl) (fun p e s m below meth c ls X hr hlk hl => ?_)
  have hl : lv_has ls 3 [(0, .int x0), (1, .int x1)] := hl
  have hx := X.1
  have hb := X.2.1
  have hml := X.2.2.1
  have hown := X.2.2.2.1
  have hts := X.2.2.2.2
  unfold wX1_greatest at h
  refine lv_iconst (pc := 0) (v := (0 : Int32)) hx hb dX1_greatest_0 (by decide) ?_
  refine lv_istore_n (pc := 1) (lv' := [(2, .int (0 : Int32)), (0, .int x0), (1, .int x1)]) hx hb dX1_greatest_1 rfl hl (by decide) rfl (fun ls hl => ?_)
  obtain ⟨k, h⟩ := h
  exact kX1_greatest_2 X hr hlk  k _ _ _ _ h trivial (lv_sub hl [1, 2, 0] rfl)
theorem uX1_greatest {p : Program} {l : Launch} {e : Env} {R : Room} {s : State} {m : MethodId} {args : Array Value} {below : List Frame} {meth : Method} {c : Code} {H : Heap} {locs : List Loc} {cells slots : Nat} {Q : Jvm.State → Prop} {cc : ByteArray} {pc : Nat} {ls : Array Slot} {rest : List Value} {post : Int32 → Prop} {x0 : Int32} {x1 : Int32} {nL : Nat} (X : CallFix p m c cc nL s args lw_all RX1) (h : wX1_greatest post x0 x1) (hR : 1 + 1 ≤ R.frames ∧ 8 + (3 + 11) + 22 ≤ R.locals) (hsz : ls.size = nL) (hr : (rest.map fun v => v.category).sum ≤ 8) (hc : cells ≤ R.cells ∧ slots ≤ R.slots) (d : decode cc pc = .ok (.invokestatic 223, 3)) (kk : ∀ r : Int32, post r → W p l e R s m args below meth c H locs cells slots Q (F0 m (pc + 3) ls (.int r :: rest))) : W p l e R s m args below meth c H locs cells slots Q (F0 m pc ls (.int x1 :: .int x0 :: rest)) :=
  s_call (val := vI) (post := post) (As := [.int x0, .int x1]) X (tX1_greatest h) (lw_S q2182 q2183 q105 q2184) ⟨by decide, by decide, (by decide +kernel : (parseMethodDescriptor yX1_greatest.desc).map (fun d => d.parameters.length) = some 2)⟩ hR hsz hr hc d rfl kk

def wX1_comesToWhole_36 (post : Int32 → MS → Prop) (S : MS) : Prop :=
  post (1 : Int32) S
def wX1_comesToWhole_21 (post : Int32 → MS → Prop) (S : MS) : Prop :=
  wX1_isNumber (fun r4 S5 => ((r4 = (0 : Int32)) → (wX1_fails (fun r7 S8 => ((r7 = (0 : Int32)) → (post (0 : Int32) S8)) ∧ (¬ (r7 = (0 : Int32)) → (wX1_comesToWhole_36 post S8))) S5 (1 : Int32))) ∧ (¬ (r4 = (0 : Int32)) → (wX1_comesToWhole_36 post S5))) S
def wX1_comesToWhole (post : Int32 → MS → Prop) (S : MS) : Prop :=
  wX1_isSign (fun r1 S2 => isB r1 ∧ (((r1 = (0 : Int32)) → (wX1_comesToWhole_21 post (mI S2 20 r1))) ∧ (¬ (r1 = (0 : Int32)) → (wX1_next (fun _ S11 => wX1_comesToWhole_21 post S11) (mI S2 20 r1))))) S (45 : Int32)
theorem kX1_comesToWhole_36 {p : Program} {l : Launch} {e : Env} {s : State} {m : MethodId} {args : Array Value} {below : List Frame} {meth : Method} {c : Code} {G : gG} {h0 : Nat} {ad : Nat → Nat} {post : Int32 → MS → Prop} (X : mX G h0 ad p s m args c cX1_comesToWhole) (hml : c.maxLocals = 1) (hr : meth.sig.returnType = (some .boolean)) (hlk : meth.locks = false) : ∀ (S : MS) (H : Heap) (locs : List Loc) (ls : Array Slot), wX1_comesToWhole_36 post S → mH G h0 ad s S H locs → lv_has ls 1 [] → W p l e ⟨2, 0, 0, 46⟩ s m args below meth c H locs 0 0 (MQ below (gQ vI post (mBw G h0 ad) (mAd h0 ad)) args s 0 0 (mAd h0 ad)) (F0 m 36 ls []) := by
  have hx := X.1
  have hb := X.2.1
  have hown := X.2.2.1
  have hts := X.2.2.2.1
  intro S H locs ls h hw hl
  unfold wX1_comesToWhole_36 at h
  refine lv_iconst (pc := 36) (v := (1 : Int32)) hx hb dX1_comesToWhole_36 (by decide) ?_
  refine lv_goto (pc := 37) (tgt := 41) hx hb dX1_comesToWhole_37 rfl ?_
  exact W.zret (pc := 41) hx hb hr rfl (fun t ht hW => m_ret (val := vI) hw h ht) hw.2.2.2 dX1_comesToWhole_41 hlk
theorem kX1_comesToWhole_21 {p : Program} {l : Launch} {e : Env} {s : State} {m : MethodId} {args : Array Value} {below : List Frame} {meth : Method} {c : Code} {G : gG} {h0 : Nat} {ad : Nat → Nat} {post : Int32 → MS → Prop} (X : mX G h0 ad p s m args c cX1_comesToWhole) (hml : c.maxLocals = 1) (hr : meth.sig.returnType = (some .boolean)) (hlk : meth.locks = false) : ∀ (S : MS) (H : Heap) (locs : List Loc) (ls : Array Slot), wX1_comesToWhole_21 post S → mH G h0 ad s S H locs → lv_has ls 1 [(0, .ref h0)] → W p l e ⟨2, 0, 0, 46⟩ s m args below meth c H locs 0 0 (MQ below (gQ vI post (mBw G h0 ad) (mAd h0 ad)) args s 0 0 (mAd h0 ad)) (F0 m 21 ls []) := by
  have hx := X.1
  have hb := X.2.1
  have hown := X.2.2.1
  have hts := X.2.2.2.1
  intro S H locs ls h hw hl
  unfold wX1_comesToWhole_21 at h
  refine lv_aload_n (pc := 21) hx hb dX1_comesToWhole_21 rfl (lv_at hl 0 rfl) ?_
  refine uX1_isNumber (pc := 22) X hml hw h ⟨Nat.le_of_ble_eq_true rfl, Nat.le_of_ble_eq_true rfl⟩ hl.1 (Nat.le_of_ble_eq_true rfl) ⟨Nat.le_refl _, Nat.le_refl _⟩ dX1_comesToWhole_22 (fun r4 S5 H locs h hw => ?_)
  refine lv_if_ne (pc := 25) (tgt := 36) hx hb dX1_comesToWhole_25 rfl (fun c6 => ?_) (fun c6 => ?_)
  · have h := h.2 c6
    exact kX1_comesToWhole_36 X hml hr hlk   _ _ _ _ h hw (lv_sub hl [] rfl)
  · have h := h.1 c6
    refine lv_aload_n (pc := 28) hx hb dX1_comesToWhole_28 rfl (lv_at hl 0 rfl) ?_
    refine lv_iconst (pc := 29) (v := (1 : Int32)) hx hb dX1_comesToWhole_29 (by decide) ?_
    refine uX1_fails (pc := 30) X hml hw h ⟨Nat.le_of_ble_eq_true rfl, Nat.le_of_ble_eq_true rfl⟩ hl.1 (Nat.le_of_ble_eq_true rfl) ⟨Nat.le_refl _, Nat.le_refl _⟩ dX1_comesToWhole_30 (fun r7 S8 H locs h hw => ?_)
    refine lv_if_eq (pc := 33) (tgt := 40) hx hb dX1_comesToWhole_33 rfl (fun c9 => ?_) (fun c9 => ?_)
    · have h := h.1 c9
      refine lv_iconst (pc := 40) (v := (0 : Int32)) hx hb dX1_comesToWhole_40 (by decide) ?_
      exact W.zret (pc := 41) hx hb hr rfl (fun t ht hW => m_ret (val := vI) hw h ht) hw.2.2.2 dX1_comesToWhole_41 hlk
    · have h := h.2 c9
      exact kX1_comesToWhole_36 X hml hr hlk   _ _ _ _ h hw (lv_sub hl [] rfl)
theorem tX1_comesToWhole {l : Launch} {G : gG} {h0 : Nat} {ad : Nat → Nat} (hd : mOk G h0 ad) {post : Int32 → MS → Prop} {S : MS} (h : wX1_comesToWhole post S) : Met l yX1_comesToWhole (ws_ yX1_comesToWhole cX1_comesToWhole 1 (some .boolean)) ⟨2, 0, 0, 46⟩ (va_Pc (.ref h0 :: []) (fun U => mBw G h0 ad S U.heap ∧ gK G U)) (gQ vI post (mBw G h0 ad) (mAd h0 ad)) 0 0 (mAd h0 ad) := by
  refine m_ofW (by decide) rfl hd (Nat.le_of_ble_eq_true rfl) (fun p e s m below meth c ls X hml hr hlk hw hl => ?_)
  have hl : lv_has ls 1 [(0, .ref h0)] := hl
  have hx := X.1
  have hb := X.2.1
  have hown := X.2.2.1
  have hts := X.2.2.2.1
  unfold wX1_comesToWhole at h
  refine lv_aload_n (pc := 0) hx hb dX1_comesToWhole_0 rfl (lv_at hl 0 rfl) ?_
  refine lv_aload_n (pc := 1) hx hb dX1_comesToWhole_1 rfl (lv_at hl 0 rfl) ?_
  refine lv_bipush (pc := 2) (v := (45 : Int32)) hx hb dX1_comesToWhole_2 (by decide) ?_
  refine uX1_isSign (pc := 4) X hml hw h ⟨Nat.le_of_ble_eq_true rfl, Nat.le_of_ble_eq_true rfl⟩ hl.1 (Nat.le_of_ble_eq_true rfl) ⟨Nat.le_refl _, Nat.le_refl _⟩ dX1_comesToWhole_4 (fun r1 S2 H locs h hw => ?_)
  obtain ⟨hB, h⟩ := h
  refine mp20 (pc := 7) X hw hB dX1_comesToWhole_7 (fun H locs hw => ?_)
  refine lv_aload_n (pc := 10) hx hb dX1_comesToWhole_10 rfl (lv_at hl 0 rfl) ?_
  refine mg20 (pc := 11) X hw dX1_comesToWhole_11 ?_
  refine lv_if_eq (pc := 14) (tgt := 21) hx hb dX1_comesToWhole_14 rfl (fun c3 => ?_) (fun c3 => ?_)
  · have h := h.1 c3
    exact kX1_comesToWhole_21 X hml hr hlk   _ _ _ _ h hw (lv_sub hl [0] rfl)
  · have h := h.2 c3
    refine lv_aload_n (pc := 17) hx hb dX1_comesToWhole_17 rfl (lv_at hl 0 rfl) ?_
    refine uX1_next (pc := 18) X hml hw h ⟨Nat.le_of_ble_eq_true rfl, Nat.le_of_ble_eq_true rfl⟩ hl.1 (Nat.le_of_ble_eq_true rfl) ⟨Nat.le_refl _, Nat.le_refl _⟩ dX1_comesToWhole_18 (fun _ S11 H locs h hw => ?_)
    exact kX1_comesToWhole_21 X hml hr hlk   _ _ _ _ h hw (lv_sub hl [0] rfl)
theorem uX1_comesToWhole {p : Program} {l : Launch} {e : Env} {R : Room} {s : State} {m : MethodId} {args : Array Value} {below : List Frame} {meth : Method} {c : Code} {H : Heap} {locs : List Loc} {cells slots : Nat} {Q : Jvm.State → Prop} {cc : ByteArray} {pc : Nat} {ls : Array Slot} {rest : List Value} {G : gG} {h0 : Nat} {ad : Nat → Nat} {post : Int32 → MS → Prop} {S : MS} {nL : Nat} (X : mX G h0 ad p s m args c cc) (hml : c.maxLocals = nL) (hw : mH G h0 ad s S H locs) (h : wX1_comesToWhole post S) (hR : 2 + 1 ≤ R.frames ∧ 8 + (1 + 11) + 46 ≤ R.locals) (hsz : ls.size = nL) (hr : (rest.map fun v => v.category).sum ≤ 8) (hc : cells ≤ R.cells ∧ slots ≤ R.slots) (d : decode cc pc = .ok (.invokevirtual 228, 3)) (kk : ∀ (r : Int32) (S1 : MS) (H1 : Heap) (locs1 : List Loc), post r S1 → mH G h0 ad s S1 H1 locs1 → W p l e R s m args below meth c H1 locs1 cells slots Q (F0 m (pc + 3) ls (.int r :: rest))) : W p l e R s m args below meth c H locs cells slots Q (F0 m pc ls (.ref h0 :: rest)) :=
  m_call (val := vI) (post := post) (As := []) X hml hw (tX1_comesToWhole X.2.2.2.2.2.1 h) (lw_V q2191 q2193 qs55 q105 q2194) ⟨rfl, by decide, by decide, (by decide +kernel : (parseMethodDescriptor yX1_comesToWhole.desc).map (fun d => d.parameters.length) = some 0)⟩ hR hsz hr hc d rfl kk

def wX1_valueOf (post : Int64 → MS → Prop) (S : MS) (x1 : Int32) (x2 : Int32) (x3 : Int64) : Prop :=
  wX1_of (fun r1 S2 => wX1_of (fun r3 S4 => wX1_plain (fun r5 => post (r1.toInt64 * r5) S4) r3 x3) S2 x1 x2 (1 : Int32)) S x1 x2 (0 : Int32)
theorem tX1_valueOf {l : Launch} {G : gG} {h0 : Nat} {ad : Nat → Nat} (hd : mOk G h0 ad) {post : Int64 → MS → Prop} {S : MS} {x1 : Int32} {x2 : Int32} {x3 : Int64} (h : wX1_valueOf post S x1 x2 x3) : Met l yX1_valueOf (ws_ yX1_valueOf cX1_valueOf 5 (some .long)) ⟨1, 0, 0, 23⟩ (va_Pc (.ref h0 :: [.int x1, .int x2, .long x3]) (fun U => mBw G h0 ad S U.heap ∧ gK G U)) (gQ vL post (mBw G h0 ad) (mAd h0 ad)) 0 0 (mAd h0 ad) := by
  refine m_ofW (by decide) rfl hd (Nat.le_of_ble_eq_true rfl) (fun p e s m below meth c ls X hml hr hlk hw hl => ?_)
  have hl : lv_has ls 5 [(0, .ref h0), (1, .int x1), (2, .int x2), (3, .long x3)] := hl
  have hx := X.1
  have hb := X.2.1
  have hown := X.2.2.1
  have hts := X.2.2.2.1
  unfold wX1_valueOf at h
  refine lv_aload_n (pc := 0) hx hb dX1_valueOf_0 rfl (lv_at hl 0 rfl) ?_
  refine lv_iload_n (pc := 1) hx hb dX1_valueOf_1 rfl (lv_at hl 1 rfl) ?_
  refine lv_iload_n (pc := 2) hx hb dX1_valueOf_2 rfl (lv_at hl 2 rfl) ?_
  refine lv_iconst (pc := 3) (v := (0 : Int32)) hx hb dX1_valueOf_3 (by decide) ?_
  refine uX1_of (pc := 4) X hml hw h ⟨Nat.le_of_ble_eq_true rfl, Nat.le_of_ble_eq_true rfl⟩ hl.1 (Nat.le_of_ble_eq_true rfl) ⟨Nat.le_refl _, Nat.le_refl _⟩ dX1_valueOf_4 (fun r1 S2 H locs h hw => ?_)
  refine lv_i2l (pc := 7) hx hb dX1_valueOf_7 rfl ?_
  refine lv_aload_n (pc := 8) hx hb dX1_valueOf_8 rfl (lv_at hl 0 rfl) ?_
  refine lv_iload_n (pc := 9) hx hb dX1_valueOf_9 rfl (lv_at hl 1 rfl) ?_
  refine lv_iload_n (pc := 10) hx hb dX1_valueOf_10 rfl (lv_at hl 2 rfl) ?_
  refine lv_iconst (pc := 11) (v := (1 : Int32)) hx hb dX1_valueOf_11 (by decide) ?_
  refine uX1_of (pc := 12) X hml hw h ⟨Nat.le_of_ble_eq_true rfl, Nat.le_of_ble_eq_true rfl⟩ hl.1 (Nat.le_of_ble_eq_true rfl) ⟨Nat.le_refl _, Nat.le_refl _⟩ dX1_valueOf_12 (fun r3 S4 H locs h hw => ?_)
  refine lv_lload_n (pc := 15) hx hb dX1_valueOf_15 rfl (lv_at hl 3 rfl) ?_
  refine uX1_plain (pc := 16) ⟨hx, hb, hml, hown, hts⟩ h ⟨Nat.le_of_ble_eq_true rfl, Nat.le_of_ble_eq_true rfl⟩ hl.1 (Nat.le_of_ble_eq_true rfl) ⟨Nat.le_refl _, Nat.le_refl _⟩ dX1_valueOf_16 (fun r5 h => ?_)
  refine lv_lmul (pc := 19) hx hb dX1_valueOf_19 ?_
  exact W.lret (pc := 20) hx hb hr (fun t ht hW => m_ret (val := vL) hw h ht) hw.2.2.2 dX1_valueOf_20 hlk
theorem uX1_valueOf {p : Program} {l : Launch} {e : Env} {R : Room} {s : State} {m : MethodId} {args : Array Value} {below : List Frame} {meth : Method} {c : Code} {H : Heap} {locs : List Loc} {cells slots : Nat} {Q : Jvm.State → Prop} {cc : ByteArray} {pc : Nat} {ls : Array Slot} {rest : List Value} {G : gG} {h0 : Nat} {ad : Nat → Nat} {post : Int64 → MS → Prop} {S : MS} {x1 : Int32} {x2 : Int32} {x3 : Int64} {nL : Nat} (X : mX G h0 ad p s m args c cc) (hml : c.maxLocals = nL) (hw : mH G h0 ad s S H locs) (h : wX1_valueOf post S x1 x2 x3) (hR : 1 + 1 ≤ R.frames ∧ 8 + (5 + 11) + 23 ≤ R.locals) (hsz : ls.size = nL) (hr : (rest.map fun v => v.category).sum ≤ 8) (hc : cells ≤ R.cells ∧ slots ≤ R.slots) (d : decode cc pc = .ok (.invokevirtual 234, 3)) (kk : ∀ (r : Int64) (S1 : MS) (H1 : Heap) (locs1 : List Loc), post r S1 → mH G h0 ad s S1 H1 locs1 → W p l e R s m args below meth c H1 locs1 cells slots Q (F0 m (pc + 3) ls (.long r :: rest))) : W p l e R s m args below meth c H locs cells slots Q (F0 m pc ls (.long x3 :: .int x2 :: .int x1 :: .ref h0 :: rest)) :=
  m_call (val := vL) (post := post) (As := [.int x1, .int x2, .long x3]) X hml hw (tX1_valueOf X.2.2.2.2.2.1 h) (lw_V q2203 q2205 qs58 q105 q2206) ⟨rfl, by decide, by decide, (by decide +kernel : (parseMethodDescriptor yX1_valueOf.desc).map (fun d => d.parameters.length) = some 3)⟩ hR hsz hr hc d rfl kk

def wX1_takesSign (post : Int32 → MS → Prop) (S : MS) (x1 : Int32) : Prop :=
  wX1_isSign (fun r1 S2 => ((r1 = (0 : Int32)) → (wX1_fails (fun r6 S7 => isB r6 ∧ post r6 S7) S2 (1 : Int32))) ∧ (¬ (r1 = (0 : Int32)) → (wX1_next (fun _ S5 => post (1 : Int32) S5) S2))) S x1
theorem tX1_takesSign {l : Launch} {G : gG} {h0 : Nat} {ad : Nat → Nat} (hd : mOk G h0 ad) {post : Int32 → MS → Prop} {S : MS} {x1 : Int32} (h : wX1_takesSign post S x1) : Met l yX1_takesSign (ws_ yX1_takesSign cX1_takesSign 2 (some .boolean)) ⟨2, 0, 0, 46⟩ (va_Pc (.ref h0 :: [.int x1]) (fun U => mBw G h0 ad S U.heap ∧ gK G U)) (gQ vI post (mBw G h0 ad) (mAd h0 ad)) 0 0 (mAd h0 ad) := by
  refine m_ofW (by decide) rfl hd (Nat.le_of_ble_eq_true rfl) (fun p e s m below meth c ls X hml hr hlk hw hl => ?_)
  have hl : lv_has ls 2 [(0, .ref h0), (1, .int x1)] := hl
  have hx := X.1
  have hb := X.2.1
  have hown := X.2.2.1
  have hts := X.2.2.2.1
  unfold wX1_takesSign at h
  refine lv_aload_n (pc := 0) hx hb dX1_takesSign_0 rfl (lv_at hl 0 rfl) ?_
  refine lv_iload_n (pc := 1) hx hb dX1_takesSign_1 rfl (lv_at hl 1 rfl) ?_
  refine uX1_isSign (pc := 2) X hml hw h ⟨Nat.le_of_ble_eq_true rfl, Nat.le_of_ble_eq_true rfl⟩ hl.1 (Nat.le_of_ble_eq_true rfl) ⟨Nat.le_refl _, Nat.le_refl _⟩ dX1_takesSign_2 (fun r1 S2 H locs h hw => ?_)
  refine lv_if_ne (pc := 5) (tgt := 14) hx hb dX1_takesSign_5 rfl (fun c3 => ?_) (fun c3 => ?_)
  · have h := h.2 c3
    refine lv_aload_n (pc := 14) hx hb dX1_takesSign_14 rfl (lv_at hl 0 rfl) ?_
    refine uX1_next (pc := 15) X hml hw h ⟨Nat.le_of_ble_eq_true rfl, Nat.le_of_ble_eq_true rfl⟩ hl.1 (Nat.le_of_ble_eq_true rfl) ⟨Nat.le_refl _, Nat.le_refl _⟩ dX1_takesSign_15 (fun _ S5 H locs h hw => ?_)
    refine lv_iconst (pc := 18) (v := (1 : Int32)) hx hb dX1_takesSign_18 (by decide) ?_
    exact W.zret (pc := 19) hx hb hr rfl (fun t ht hW => m_ret (val := vI) hw h ht) hw.2.2.2 dX1_takesSign_19 hlk
  · have h := h.1 c3
    refine lv_aload_n (pc := 8) hx hb dX1_takesSign_8 rfl (lv_at hl 0 rfl) ?_
    refine lv_iconst (pc := 9) (v := (1 : Int32)) hx hb dX1_takesSign_9 (by decide) ?_
    refine uX1_fails (pc := 10) X hml hw h ⟨Nat.le_of_ble_eq_true rfl, Nat.le_of_ble_eq_true rfl⟩ hl.1 (Nat.le_of_ble_eq_true rfl) ⟨Nat.le_refl _, Nat.le_refl _⟩ dX1_takesSign_10 (fun r6 S7 H locs h hw => ?_)
    obtain ⟨hB, h⟩ := h
    exact W.zret (pc := 13) hx hb hr (isB_n hB) (fun t ht hW => m_ret (val := vI) hw h ht) hw.2.2.2 dX1_takesSign_13 hlk
theorem uX1_takesSign {p : Program} {l : Launch} {e : Env} {R : Room} {s : State} {m : MethodId} {args : Array Value} {below : List Frame} {meth : Method} {c : Code} {H : Heap} {locs : List Loc} {cells slots : Nat} {Q : Jvm.State → Prop} {cc : ByteArray} {pc : Nat} {ls : Array Slot} {rest : List Value} {G : gG} {h0 : Nat} {ad : Nat → Nat} {post : Int32 → MS → Prop} {S : MS} {x1 : Int32} {nL : Nat} (X : mX G h0 ad p s m args c cc) (hml : c.maxLocals = nL) (hw : mH G h0 ad s S H locs) (h : wX1_takesSign post S x1) (hR : 2 + 1 ≤ R.frames ∧ 8 + (2 + 11) + 46 ≤ R.locals) (hsz : ls.size = nL) (hr : (rest.map fun v => v.category).sum ≤ 8) (hc : cells ≤ R.cells ∧ slots ≤ R.slots) (d : decode cc pc = .ok (.invokevirtual 253, 3)) (kk : ∀ (r : Int32) (S1 : MS) (H1 : Heap) (locs1 : List Loc), post r S1 → mH G h0 ad s S1 H1 locs1 → W p l e R s m args below meth c H1 locs1 cells slots Q (F0 m (pc + 3) ls (.int r :: rest))) : W p l e R s m args below meth c H locs cells slots Q (F0 m pc ls (.int x1 :: .ref h0 :: rest)) :=
  m_call (val := vI) (post := post) (As := [.int x1]) X hml hw (tX1_takesSign X.2.2.2.2.2.1 h) (lw_V q2216 q2218 qs60 q105 q2219) ⟨rfl, by decide, by decide, (by decide +kernel : (parseMethodDescriptor yX1_takesSign.desc).map (fun d => d.parameters.length) = some 1)⟩ hR hsz hr hc d rfl kk

def wX1_takesOver_14 (post : Unit → MS → Prop) : Nat → Int32 → Int32 → MS → Prop
  | 0, _, _, _ => False
  | n + 1, x1, x2, S => (((5 : Int32) ≤ x2) → (post () (mI (mI S 21 (-1 : Int32)) 23 (-1 : Int32)))) ∧ (¬ ((5 : Int32) ≤ x2) → (wX1_copies (fun _ S3 => wX1_takesOver_14 post n x1 (x2 + (1 : Int32)) S3) S (4 : Int32) x2 x1 x2))
def wX1_takesOver (post : Unit → MS → Prop) (S : MS) (x1 : Int32) : Prop :=
  vp_in (4 : Int32) 5 ∧ (vp_in x1 5 ∧ ((∃ k, wX1_takesOver_14 post k x1 (0 : Int32) (mA S 0 (upd (S.2.2.1 0) x1.toNatClampNeg (S.2.2.1 0 (4 : Int32).toNatClampNeg))))))
theorem kX1_takesOver_14 {p : Program} {l : Launch} {e : Env} {s : State} {m : MethodId} {args : Array Value} {below : List Frame} {meth : Method} {c : Code} {G : gG} {h0 : Nat} {ad : Nat → Nat} {post : Unit → MS → Prop} (X : mX G h0 ad p s m args c cX1_takesOver) (hml : c.maxLocals = 3) (hr : meth.sig.returnType = none) (hlk : meth.locks = false) : ∀ (n : Nat) (x1 : Int32) (x2 : Int32) (S : MS) (H : Heap) (locs : List Loc) (ls : Array Slot), wX1_takesOver_14 post n x1 x2 S → mH G h0 ad s S H locs → lv_has ls 3 [(0, .ref h0), (1, .int x1), (2, .int x2)] → W p l e ⟨1, 0, 0, 25⟩ s m args below meth c H locs 0 0 (MQ below (gQ vV post (mBw G h0 ad) (mAd h0 ad)) args s 0 0 (mAd h0 ad)) (F0 m 14 ls []) := by
  have hx := X.1
  have hb := X.2.1
  have hown := X.2.2.1
  have hts := X.2.2.2.1
  intro n
  induction n with
  | zero =>
    intro x1 x2 S H locs ls h
    exact False.elim h
  | succ n ih =>
    intro x1 x2 S H locs ls h hw hl
    unfold wX1_takesOver_14 at h
    refine lv_iload_n (pc := 14) hx hb dX1_takesOver_14 rfl (lv_at hl 2 rfl) ?_
    refine lv_iconst (pc := 15) (v := (5 : Int32)) hx hb dX1_takesOver_15 (by decide) ?_
    refine lv_icmp_ge (pc := 16) (tgt := 33) hx hb dX1_takesOver_16 rfl (fun c1 => ?_) (fun c1 => ?_)
    · have h := h.1 c1
      refine lv_aload_n (pc := 33) hx hb dX1_takesOver_33 rfl (lv_at hl 0 rfl) ?_
      refine lv_iconst (pc := 34) (v := (-1 : Int32)) hx hb dX1_takesOver_34 (by decide) ?_
      refine mp21 (pc := 35) X hw dX1_takesOver_35 (fun H locs hw => ?_)
      refine lv_aload_n (pc := 38) hx hb dX1_takesOver_38 rfl (lv_at hl 0 rfl) ?_
      refine lv_iconst (pc := 39) (v := (-1 : Int32)) hx hb dX1_takesOver_39 (by decide) ?_
      refine mp23 (pc := 40) X hw dX1_takesOver_40 (fun H locs hw => ?_)
      exact W.vret (pc := 43) hx hb hr (fun t ht hW => m_ret (val := vV) (v := ()) hw h ht) hw.2.2.2 dX1_takesOver_43 hlk
    · have h := h.2 c1
      refine lv_aload_n (pc := 19) hx hb dX1_takesOver_19 rfl (lv_at hl 0 rfl) ?_
      refine lv_iconst (pc := 20) (v := (4 : Int32)) hx hb dX1_takesOver_20 (by decide) ?_
      refine lv_iload_n (pc := 21) hx hb dX1_takesOver_21 rfl (lv_at hl 2 rfl) ?_
      refine lv_iload_n (pc := 22) hx hb dX1_takesOver_22 rfl (lv_at hl 1 rfl) ?_
      refine lv_iload_n (pc := 23) hx hb dX1_takesOver_23 rfl (lv_at hl 2 rfl) ?_
      refine uX1_copies (pc := 24) X hml hw h ⟨Nat.le_of_ble_eq_true rfl, Nat.le_of_ble_eq_true rfl⟩ hl.1 (Nat.le_of_ble_eq_true rfl) ⟨Nat.le_refl _, Nat.le_refl _⟩ dX1_takesOver_24 (fun _ S3 H locs h hw => ?_)
      refine lv_iinc (pc := 27) (v := x2 + (1 : Int32)) (lv' := [(2, .int (x2 + (1 : Int32))), (0, .ref h0), (1, .int x1)]) hx hb dX1_takesOver_27 hl (k := 2) rfl rfl (by decide) rfl (fun ls hl => ?_)
      refine lv_goto (pc := 30) (tgt := 14) hx hb dX1_takesOver_30 rfl ?_
      exact ih _ _ _ _ _ _ h hw (lv_sub hl [1, 2, 0] rfl)
theorem tX1_takesOver {l : Launch} {G : gG} {h0 : Nat} {ad : Nat → Nat} (hd : mOk G h0 ad) {post : Unit → MS → Prop} {S : MS} {x1 : Int32} (h : wX1_takesOver post S x1) : Met l yX1_takesOver (ws_ yX1_takesOver cX1_takesOver 3 none) ⟨1, 0, 0, 25⟩ (va_Pc (.ref h0 :: [.int x1]) (fun U => mBw G h0 ad S U.heap ∧ gK G U)) (gQ vV post (mBw G h0 ad) (mAd h0 ad)) 0 0 (mAd h0 ad) := by
  refine m_ofW (by decide) rfl hd (Nat.le_of_ble_eq_true rfl) (fun p e s m below meth c ls X hml hr hlk hw hl => ?_)
  have hl : lv_has ls 3 [(0, .ref h0), (1, .int x1)] := hl
  have hx := X.1
  have hb := X.2.1
  have hown := X.2.2.1
  have hts := X.2.2.2.1
  unfold wX1_takesOver at h
  refine lv_aload_n (pc := 0) hx hb dX1_takesOver_0 rfl (lv_at hl 0 rfl) ?_
  refine mg0 (pc := 1) X hw dX1_takesOver_1 ?_
  refine lv_iload_n (pc := 4) hx hb dX1_takesOver_4 rfl (lv_at hl 1 rfl) ?_
  refine lv_aload_n (pc := 5) hx hb dX1_takesOver_5 rfl (lv_at hl 0 rfl) ?_
  refine mg0 (pc := 6) X hw dX1_takesOver_6 ?_
  refine lv_iconst (pc := 9) (v := (4 : Int32)) hx hb dX1_takesOver_9 (by decide) ?_
  obtain ⟨hi, h⟩ := h
  refine ma0 (pc := 10) X hw hi dX1_takesOver_10 ?_
  obtain ⟨hi, h⟩ := h
  refine ms0 (pc := 11) X hw hi dX1_takesOver_11 (fun H locs hw => ?_)
  refine lv_iconst (pc := 12) (v := (0 : Int32)) hx hb dX1_takesOver_12 (by decide) ?_
  refine lv_istore_n (pc := 13) (lv' := [(2, .int (0 : Int32)), (0, .ref h0), (1, .int x1)]) hx hb dX1_takesOver_13 rfl hl (by decide) rfl (fun ls hl => ?_)
  obtain ⟨k, h⟩ := h
  exact kX1_takesOver_14 X hml hr hlk  k _ _ _ _ _ _ h hw (lv_sub hl [1, 2, 0] rfl)
theorem uX1_takesOver {p : Program} {l : Launch} {e : Env} {R : Room} {s : State} {m : MethodId} {args : Array Value} {below : List Frame} {meth : Method} {c : Code} {H : Heap} {locs : List Loc} {cells slots : Nat} {Q : Jvm.State → Prop} {cc : ByteArray} {pc : Nat} {ls : Array Slot} {rest : List Value} {G : gG} {h0 : Nat} {ad : Nat → Nat} {post : Unit → MS → Prop} {S : MS} {x1 : Int32} {nL : Nat} (X : mX G h0 ad p s m args c cc) (hml : c.maxLocals = nL) (hw : mH G h0 ad s S H locs) (h : wX1_takesOver post S x1) (hR : 1 + 1 ≤ R.frames ∧ 8 + (3 + 11) + 25 ≤ R.locals) (hsz : ls.size = nL) (hr : (rest.map fun v => v.category).sum ≤ 8) (hc : cells ≤ R.cells ∧ slots ≤ R.slots) (d : decode cc pc = .ok (.invokevirtual 259, 3)) (kk : ∀ (r : Unit) (S1 : MS) (H1 : Heap) (locs1 : List Loc), post r S1 → mH G h0 ad s S1 H1 locs1 → W p l e R s m args below meth c H1 locs1 cells slots Q (F0 m (pc + 3) ls (rest))) : W p l e R s m args below meth c H locs cells slots Q (F0 m pc ls (.int x1 :: .ref h0 :: rest)) :=
  m_call (val := vV) (post := post) (As := [.int x1]) X hml hw (tX1_takesOver X.2.2.2.2.2.1 h) (lw_V q2224 q2226 qs62 q105 q2227) ⟨rfl, by decide, by decide, (by decide +kernel : (parseMethodDescriptor yX1_takesOver.desc).map (fun d => d.parameters.length) = some 1)⟩ hR hsz hr hc d rfl kk

def wX1_laysLayer_121 (K3 : Int32 → Int32 → Int32 → Int32 → Int32 → Int32 → Int32 → MS → Prop) (post : Unit → MS → Prop) (x1 : Int32) (x2 : Int32) (x3 : Int32) (x4 : Int32) (x5 : Int32) (x6 : Int32) (x7 : Int32) (x8 : Int64) (S : MS) : Prop :=
  vp_in (((30001 : Int32) * x1) + x7) 180006 ∧ (K3 x1 x2 x3 x4 x5 x6 (x7 + (1 : Int32)) (mB S 22 (vp_updL (S.2.2.2 22) (((30001 : Int32) * x1) + x7).toNatClampNeg x8)))
def wX1_laysLayer_83 (K3 : Int32 → Int32 → Int32 → Int32 → Int32 → Int32 → Int32 → MS → Prop) (post : Unit → MS → Prop) : Nat → Int32 → Int32 → Int32 → Int32 → Int32 → Int32 → Int32 → Int64 → Int32 → MS → Prop
  | 0, _, _, _, _, _, _, _, _, _, _ => False
  | n + 1, x1, x2, x3, x4, x5, x6, x7, x8, x10, S => ((x6 < x10) → (wX1_laysLayer_121 K3 post x1 x2 x3 x4 x5 x6 x7 x8 S)) ∧ (¬ (x6 < x10) → (wX1_plain (fun r4 => wX1_at (fun r5 S6 => wX1_laysLayer_83 K3 post n x1 x2 x3 x4 x5 x6 x7 (x8 + r5) (x10 + (1 : Int32)) S6) S x2 (x7.toInt64 - (x3.toInt64 * r4))) x4 x10.toInt64))
def wX1_laysLayer_44 (K3 : Int32 → Int32 → Int32 → Int32 → Int32 → Int32 → Int32 → MS → Prop) (post : Unit → MS → Prop) (x1 : Int32) (x2 : Int32) (x3 : Int32) (x4 : Int32) (x5 : Int32) (x6 : Int32) (x7 : Int32) (v0 : Int64) (S : MS) : Prop :=
  wX1_at (fun r8 S9 => wX1_at (fun r10 S11 => wX1_laysLayer_121 K3 post x1 x2 x3 x4 x5 x6 x7 ((v0 + r8) - r10) S11) S9 x2 ((x7 - (x3 * (x6 + (1 : Int32)))).toInt64)) S x2 ((x7 - (x3 * x5)).toInt64)
def wX1_laysLayer_3 (post : Unit → MS → Prop) : Nat → Int32 → Int32 → Int32 → Int32 → Int32 → Int32 → Int32 → MS → Prop
  | 0, _, _, _, _, _, _, _, _ => False
  | n + 1, x1, x2, x3, x4, x5, x6, x7, S => (((30001 : Int32) ≤ x7) → (post () S)) ∧ (¬ ((30001 : Int32) ≤ x7) → (((x4 = (0 : Int32)) → (((x7 < x3) → (wX1_laysLayer_44 (fun x1 x2 x3 x4 x5 x6 x7 S => wX1_laysLayer_3 post n x1 x2 x3 x4 x5 x6 x7 S) post x1 x2 x3 x4 x5 x6 x7 (0 : Int64) S)) ∧ (¬ (x7 < x3) → (vp_in ((((30001 : Int32) * x1) + x7) - x3) 180006 ∧ (wX1_laysLayer_44 (fun x1 x2 x3 x4 x5 x6 x7 S => wX1_laysLayer_3 post n x1 x2 x3 x4 x5 x6 x7 S) post x1 x2 x3 x4 x5 x6 x7 (S.2.2.2 22 ((((30001 : Int32) * x1) + x7) - x3).toNatClampNeg) S))))) ∧ (¬ (x4 = (0 : Int32)) → ((∃ k, wX1_laysLayer_83 (fun x1 x2 x3 x4 x5 x6 x7 S => wX1_laysLayer_3 post n x1 x2 x3 x4 x5 x6 x7 S) post k x1 x2 x3 x4 x5 x6 x7 (0 : Int64) x5 S)))))
def wX1_laysLayer (post : Unit → MS → Prop) (S : MS) (x1 : Int32) (x2 : Int32) (x3 : Int32) (x4 : Int32) (x5 : Int32) (x6 : Int32) : Prop :=
  (∃ k, wX1_laysLayer_3 post k x1 x2 x3 x4 x5 x6 (0 : Int32) S)
theorem kX1_laysLayer_121 {p : Program} {l : Launch} {e : Env} {s : State} {m : MethodId} {args : Array Value} {below : List Frame} {meth : Method} {c : Code} {G : gG} {h0 : Nat} {ad : Nat → Nat} {K3 : Int32 → Int32 → Int32 → Int32 → Int32 → Int32 → Int32 → MS → Prop} {post : Unit → MS → Prop} (X : mX G h0 ad p s m args c cX1_laysLayer) (hml : c.maxLocals = 11) (hr : meth.sig.returnType = none) (hlk : meth.locks = false) (hK3 : ∀ (x1 : Int32) (x2 : Int32) (x3 : Int32) (x4 : Int32) (x5 : Int32) (x6 : Int32) (x7 : Int32) (S : MS) (H : Heap) (locs : List Loc) (ls : Array Slot), K3 x1 x2 x3 x4 x5 x6 x7 S → mH G h0 ad s S H locs → lv_has ls 11 [(0, .ref h0), (1, .int x1), (2, .int x2), (3, .int x3), (4, .int x4), (5, .int x5), (6, .int x6), (7, .int x7)] → W p l e ⟨2, 0, 0, 48⟩ s m args below meth c H locs 0 0 (MQ below (gQ vV post (mBw G h0 ad) (mAd h0 ad)) args s 0 0 (mAd h0 ad)) (F0 m 3 ls [])) : ∀ (x1 : Int32) (x2 : Int32) (x3 : Int32) (x4 : Int32) (x5 : Int32) (x6 : Int32) (x7 : Int32) (x8 : Int64) (S : MS) (H : Heap) (locs : List Loc) (ls : Array Slot), wX1_laysLayer_121 K3 post x1 x2 x3 x4 x5 x6 x7 x8 S → mH G h0 ad s S H locs → lv_has ls 11 [(0, .ref h0), (1, .int x1), (2, .int x2), (3, .int x3), (4, .int x4), (5, .int x5), (6, .int x6), (7, .int x7), (8, .long x8)] → W p l e ⟨2, 0, 0, 48⟩ s m args below meth c H locs 0 0 (MQ below (gQ vV post (mBw G h0 ad) (mAd h0 ad)) args s 0 0 (mAd h0 ad)) (F0 m 121 ls []) := by
  have hx := X.1
  have hb := X.2.1
  have hown := X.2.2.1
  have hts := X.2.2.2.1
  intro x1 x2 x3 x4 x5 x6 x7 x8 S H locs ls h hw hl
  unfold wX1_laysLayer_121 at h
  refine lv_aload_n (pc := 121) hx hb dX1_laysLayer_121 rfl (lv_at hl 0 rfl) ?_
  refine mg22 (pc := 122) X hw dX1_laysLayer_122 ?_
  refine lv_sipush (pc := 125) (v := (30001 : Int32)) hx hb dX1_laysLayer_125 (by decide) ?_
  refine lv_iload_n (pc := 128) hx hb dX1_laysLayer_128 rfl (lv_at hl 1 rfl) ?_
  refine lv_imul (pc := 129) hx hb dX1_laysLayer_129 ?_
  refine lv_iload (pc := 130) hx hb dX1_laysLayer_130 (lv_at hl 7 rfl) ?_
  refine lv_iadd (pc := 132) hx hb dX1_laysLayer_132 ?_
  refine lv_lload (pc := 133) hx hb dX1_laysLayer_133 (lv_at hl 8 rfl) ?_
  obtain ⟨hi, h⟩ := h
  refine ms22 (pc := 135) X hw hi dX1_laysLayer_135 (fun H locs hw => ?_)
  refine lv_iinc (pc := 136) (v := x7 + (1 : Int32)) (lv' := [(7, .int (x7 + (1 : Int32))), (0, .ref h0), (1, .int x1), (2, .int x2), (3, .int x3), (4, .int x4), (5, .int x5), (6, .int x6), (8, .long x8)]) hx hb dX1_laysLayer_136 hl (k := 7) rfl rfl (by decide) rfl (fun ls hl => ?_)
  refine lv_goto (pc := 139) (tgt := 3) hx hb dX1_laysLayer_139 rfl ?_
  exact hK3 _ _ _ _ _ _ _ _ _ _ _ h hw (lv_sub hl [1, 2, 3, 4, 5, 6, 7, 0] rfl)
theorem kX1_laysLayer_83 {p : Program} {l : Launch} {e : Env} {s : State} {m : MethodId} {args : Array Value} {below : List Frame} {meth : Method} {c : Code} {G : gG} {h0 : Nat} {ad : Nat → Nat} {K3 : Int32 → Int32 → Int32 → Int32 → Int32 → Int32 → Int32 → MS → Prop} {post : Unit → MS → Prop} (X : mX G h0 ad p s m args c cX1_laysLayer) (hml : c.maxLocals = 11) (hr : meth.sig.returnType = none) (hlk : meth.locks = false) (hK3 : ∀ (x1 : Int32) (x2 : Int32) (x3 : Int32) (x4 : Int32) (x5 : Int32) (x6 : Int32) (x7 : Int32) (S : MS) (H : Heap) (locs : List Loc) (ls : Array Slot), K3 x1 x2 x3 x4 x5 x6 x7 S → mH G h0 ad s S H locs → lv_has ls 11 [(0, .ref h0), (1, .int x1), (2, .int x2), (3, .int x3), (4, .int x4), (5, .int x5), (6, .int x6), (7, .int x7)] → W p l e ⟨2, 0, 0, 48⟩ s m args below meth c H locs 0 0 (MQ below (gQ vV post (mBw G h0 ad) (mAd h0 ad)) args s 0 0 (mAd h0 ad)) (F0 m 3 ls [])) : ∀ (n : Nat) (x1 : Int32) (x2 : Int32) (x3 : Int32) (x4 : Int32) (x5 : Int32) (x6 : Int32) (x7 : Int32) (x8 : Int64) (x10 : Int32) (S : MS) (H : Heap) (locs : List Loc) (ls : Array Slot), wX1_laysLayer_83 K3 post n x1 x2 x3 x4 x5 x6 x7 x8 x10 S → mH G h0 ad s S H locs → lv_has ls 11 [(0, .ref h0), (1, .int x1), (2, .int x2), (3, .int x3), (4, .int x4), (5, .int x5), (6, .int x6), (7, .int x7), (8, .long x8), (10, .int x10)] → W p l e ⟨2, 0, 0, 48⟩ s m args below meth c H locs 0 0 (MQ below (gQ vV post (mBw G h0 ad) (mAd h0 ad)) args s 0 0 (mAd h0 ad)) (F0 m 83 ls []) := by
  have hx := X.1
  have hb := X.2.1
  have hown := X.2.2.1
  have hts := X.2.2.2.1
  intro n
  induction n with
  | zero =>
    intro x1 x2 x3 x4 x5 x6 x7 x8 x10 S H locs ls h
    exact False.elim h
  | succ n ih =>
    intro x1 x2 x3 x4 x5 x6 x7 x8 x10 S H locs ls h hw hl
    unfold wX1_laysLayer_83 at h
    refine lv_iload (pc := 83) hx hb dX1_laysLayer_83 (lv_at hl 9 rfl) ?_
    refine lv_iload (pc := 85) hx hb dX1_laysLayer_85 (lv_at hl 6 rfl) ?_
    refine lv_icmp_gt (pc := 87) (tgt := 121) hx hb dX1_laysLayer_87 rfl (fun c3 => ?_) (fun c3 => ?_)
    · have h := h.1 c3
      exact kX1_laysLayer_121 X hml hr hlk hK3 _ _ _ _ _ _ _ _ _ _ _ _ h hw (lv_sub hl [0, 1, 2, 3, 4, 5, 6, 7, 8] rfl)
    · have h := h.2 c3
      refine lv_lload (pc := 90) hx hb dX1_laysLayer_90 (lv_at hl 8 rfl) ?_
      refine lv_aload_n (pc := 92) hx hb dX1_laysLayer_92 rfl (lv_at hl 0 rfl) ?_
      refine lv_iload_n (pc := 93) hx hb dX1_laysLayer_93 rfl (lv_at hl 2 rfl) ?_
      refine lv_iload (pc := 94) hx hb dX1_laysLayer_94 (lv_at hl 7 rfl) ?_
      refine lv_i2l (pc := 96) hx hb dX1_laysLayer_96 rfl ?_
      refine lv_iload_n (pc := 97) hx hb dX1_laysLayer_97 rfl (lv_at hl 3 rfl) ?_
      refine lv_i2l (pc := 98) hx hb dX1_laysLayer_98 rfl ?_
      refine lv_iload (pc := 99) hx hb dX1_laysLayer_99 (lv_at hl 4 rfl) ?_
      refine lv_iload (pc := 101) hx hb dX1_laysLayer_101 (lv_at hl 9 rfl) ?_
      refine lv_i2l (pc := 103) hx hb dX1_laysLayer_103 rfl ?_
      refine uX1_plain (pc := 104) ⟨hx, hb, hml, hown, hts⟩ h ⟨Nat.le_of_ble_eq_true rfl, Nat.le_of_ble_eq_true rfl⟩ hl.1 (Nat.le_of_ble_eq_true rfl) ⟨Nat.le_refl _, Nat.le_refl _⟩ dX1_laysLayer_104 (fun r4 h => ?_)
      refine lv_lmul (pc := 107) hx hb dX1_laysLayer_107 ?_
      refine lv_lsub (pc := 108) hx hb dX1_laysLayer_108 ?_
      refine uX1_at (pc := 109) X hml hw h ⟨Nat.le_of_ble_eq_true rfl, Nat.le_of_ble_eq_true rfl⟩ hl.1 (Nat.le_of_ble_eq_true rfl) ⟨Nat.le_refl _, Nat.le_refl _⟩ dX1_laysLayer_109 (fun r5 S6 H locs h hw => ?_)
      refine lv_ladd (pc := 112) hx hb dX1_laysLayer_112 ?_
      refine lv_lstore (pc := 113) (lv' := [(8, .long (x8 + r5)), (0, .ref h0), (1, .int x1), (2, .int x2), (3, .int x3), (4, .int x4), (5, .int x5), (6, .int x6), (7, .int x7), (10, .int x10)]) hx hb dX1_laysLayer_113 hl (by decide) rfl (fun ls hl => ?_)
      refine lv_iinc (pc := 115) (v := x10 + (1 : Int32)) (lv' := [(10, .int (x10 + (1 : Int32))), (8, .long (x8 + r5)), (0, .ref h0), (1, .int x1), (2, .int x2), (3, .int x3), (4, .int x4), (5, .int x5), (6, .int x6), (7, .int x7)]) hx hb dX1_laysLayer_115 hl (k := 9) rfl rfl (by decide) rfl (fun ls hl => ?_)
      refine lv_goto (pc := 118) (tgt := 83) hx hb dX1_laysLayer_118 rfl ?_
      exact ih _ _ _ _ _ _ _ _ _ _ _ _ _ h hw (lv_sub hl [2, 3, 4, 5, 6, 7, 8, 9, 1, 0] rfl)
theorem kX1_laysLayer_44 {p : Program} {l : Launch} {e : Env} {s : State} {m : MethodId} {args : Array Value} {below : List Frame} {meth : Method} {c : Code} {G : gG} {h0 : Nat} {ad : Nat → Nat} {K3 : Int32 → Int32 → Int32 → Int32 → Int32 → Int32 → Int32 → MS → Prop} {post : Unit → MS → Prop} (X : mX G h0 ad p s m args c cX1_laysLayer) (hml : c.maxLocals = 11) (hr : meth.sig.returnType = none) (hlk : meth.locks = false) (hK3 : ∀ (x1 : Int32) (x2 : Int32) (x3 : Int32) (x4 : Int32) (x5 : Int32) (x6 : Int32) (x7 : Int32) (S : MS) (H : Heap) (locs : List Loc) (ls : Array Slot), K3 x1 x2 x3 x4 x5 x6 x7 S → mH G h0 ad s S H locs → lv_has ls 11 [(0, .ref h0), (1, .int x1), (2, .int x2), (3, .int x3), (4, .int x4), (5, .int x5), (6, .int x6), (7, .int x7)] → W p l e ⟨2, 0, 0, 48⟩ s m args below meth c H locs 0 0 (MQ below (gQ vV post (mBw G h0 ad) (mAd h0 ad)) args s 0 0 (mAd h0 ad)) (F0 m 3 ls [])) : ∀ (x1 : Int32) (x2 : Int32) (x3 : Int32) (x4 : Int32) (x5 : Int32) (x6 : Int32) (x7 : Int32) (v0 : Int64) (S : MS) (H : Heap) (locs : List Loc) (ls : Array Slot), wX1_laysLayer_44 K3 post x1 x2 x3 x4 x5 x6 x7 v0 S → mH G h0 ad s S H locs → lv_has ls 11 [(0, .ref h0), (1, .int x1), (2, .int x2), (3, .int x3), (4, .int x4), (5, .int x5), (6, .int x6), (7, .int x7)] → W p l e ⟨2, 0, 0, 48⟩ s m args below meth c H locs 0 0 (MQ below (gQ vV post (mBw G h0 ad) (mAd h0 ad)) args s 0 0 (mAd h0 ad)) (F0 m 44 ls [.long v0]) := by
  have hx := X.1
  have hb := X.2.1
  have hown := X.2.2.1
  have hts := X.2.2.2.1
  intro x1 x2 x3 x4 x5 x6 x7 v0 S H locs ls h hw hl
  unfold wX1_laysLayer_44 at h
  refine lv_aload_n (pc := 44) hx hb dX1_laysLayer_44 rfl (lv_at hl 0 rfl) ?_
  refine lv_iload_n (pc := 45) hx hb dX1_laysLayer_45 rfl (lv_at hl 2 rfl) ?_
  refine lv_iload (pc := 46) hx hb dX1_laysLayer_46 (lv_at hl 7 rfl) ?_
  refine lv_iload_n (pc := 48) hx hb dX1_laysLayer_48 rfl (lv_at hl 3 rfl) ?_
  refine lv_iload (pc := 49) hx hb dX1_laysLayer_49 (lv_at hl 5 rfl) ?_
  refine lv_imul (pc := 51) hx hb dX1_laysLayer_51 ?_
  refine lv_isub (pc := 52) hx hb dX1_laysLayer_52 ?_
  refine lv_i2l (pc := 53) hx hb dX1_laysLayer_53 rfl ?_
  refine uX1_at (pc := 54) X hml hw h ⟨Nat.le_of_ble_eq_true rfl, Nat.le_of_ble_eq_true rfl⟩ hl.1 (Nat.le_of_ble_eq_true rfl) ⟨Nat.le_refl _, Nat.le_refl _⟩ dX1_laysLayer_54 (fun r8 S9 H locs h hw => ?_)
  refine lv_ladd (pc := 57) hx hb dX1_laysLayer_57 ?_
  refine lv_aload_n (pc := 58) hx hb dX1_laysLayer_58 rfl (lv_at hl 0 rfl) ?_
  refine lv_iload_n (pc := 59) hx hb dX1_laysLayer_59 rfl (lv_at hl 2 rfl) ?_
  refine lv_iload (pc := 60) hx hb dX1_laysLayer_60 (lv_at hl 7 rfl) ?_
  refine lv_iload_n (pc := 62) hx hb dX1_laysLayer_62 rfl (lv_at hl 3 rfl) ?_
  refine lv_iload (pc := 63) hx hb dX1_laysLayer_63 (lv_at hl 6 rfl) ?_
  refine lv_iconst (pc := 65) (v := (1 : Int32)) hx hb dX1_laysLayer_65 (by decide) ?_
  refine lv_iadd (pc := 66) hx hb dX1_laysLayer_66 ?_
  refine lv_imul (pc := 67) hx hb dX1_laysLayer_67 ?_
  refine lv_isub (pc := 68) hx hb dX1_laysLayer_68 ?_
  refine lv_i2l (pc := 69) hx hb dX1_laysLayer_69 rfl ?_
  refine uX1_at (pc := 70) X hml hw h ⟨Nat.le_of_ble_eq_true rfl, Nat.le_of_ble_eq_true rfl⟩ hl.1 (Nat.le_of_ble_eq_true rfl) ⟨Nat.le_refl _, Nat.le_refl _⟩ dX1_laysLayer_70 (fun r10 S11 H locs h hw => ?_)
  refine lv_lsub (pc := 73) hx hb dX1_laysLayer_73 ?_
  refine lv_lstore (pc := 74) (lv' := [(8, .long ((v0 + r8) - r10)), (0, .ref h0), (1, .int x1), (2, .int x2), (3, .int x3), (4, .int x4), (5, .int x5), (6, .int x6), (7, .int x7)]) hx hb dX1_laysLayer_74 hl (by decide) rfl (fun ls hl => ?_)
  refine lv_goto (pc := 76) (tgt := 121) hx hb dX1_laysLayer_76 rfl ?_
  exact kX1_laysLayer_121 X hml hr hlk hK3 _ _ _ _ _ _ _ _ _ _ _ _ h hw (lv_sub hl [1, 2, 3, 4, 5, 6, 7, 8, 0] rfl)
theorem kX1_laysLayer_3 {p : Program} {l : Launch} {e : Env} {s : State} {m : MethodId} {args : Array Value} {below : List Frame} {meth : Method} {c : Code} {G : gG} {h0 : Nat} {ad : Nat → Nat} {post : Unit → MS → Prop} (X : mX G h0 ad p s m args c cX1_laysLayer) (hml : c.maxLocals = 11) (hr : meth.sig.returnType = none) (hlk : meth.locks = false) : ∀ (n : Nat) (x1 : Int32) (x2 : Int32) (x3 : Int32) (x4 : Int32) (x5 : Int32) (x6 : Int32) (x7 : Int32) (S : MS) (H : Heap) (locs : List Loc) (ls : Array Slot), wX1_laysLayer_3 post n x1 x2 x3 x4 x5 x6 x7 S → mH G h0 ad s S H locs → lv_has ls 11 [(0, .ref h0), (1, .int x1), (2, .int x2), (3, .int x3), (4, .int x4), (5, .int x5), (6, .int x6), (7, .int x7)] → W p l e ⟨2, 0, 0, 48⟩ s m args below meth c H locs 0 0 (MQ below (gQ vV post (mBw G h0 ad) (mAd h0 ad)) args s 0 0 (mAd h0 ad)) (F0 m 3 ls []) := by
  have hx := X.1
  have hb := X.2.1
  have hown := X.2.2.1
  have hts := X.2.2.2.1
  intro n
  induction n with
  | zero =>
    intro x1 x2 x3 x4 x5 x6 x7 S H locs ls h
    exact False.elim h
  | succ n ih =>
    intro x1 x2 x3 x4 x5 x6 x7 S H locs ls h hw hl
    unfold wX1_laysLayer_3 at h
    refine lv_iload (pc := 3) hx hb dX1_laysLayer_3 (lv_at hl 7 rfl) ?_
    refine lv_sipush (pc := 5) (v := (30001 : Int32)) hx hb dX1_laysLayer_5 (by decide) ?_
    refine lv_icmp_ge (pc := 8) (tgt := 142) hx hb dX1_laysLayer_8 rfl (fun c1 => ?_) (fun c1 => ?_)
    · have h := h.1 c1
      exact W.vret (pc := 142) hx hb hr (fun t ht hW => m_ret (val := vV) (v := ()) hw h ht) hw.2.2.2 dX1_laysLayer_142 hlk
    · have h := h.2 c1
      refine lv_lconst (pc := 11) (v := (0 : Int64)) hx hb dX1_laysLayer_11 (by decide) ?_
      refine lv_lstore (pc := 12) (lv' := [(8, .long (0 : Int64)), (0, .ref h0), (1, .int x1), (2, .int x2), (3, .int x3), (4, .int x4), (5, .int x5), (6, .int x6), (7, .int x7)]) hx hb dX1_laysLayer_12 hl (by decide) rfl (fun ls hl => ?_)
      refine lv_iload (pc := 14) hx hb dX1_laysLayer_14 (lv_at hl 5 rfl) ?_
      refine lv_if_ne (pc := 16) (tgt := 79) hx hb dX1_laysLayer_16 rfl (fun c2 => ?_) (fun c2 => ?_)
      · have h := h.2 c2
        refine lv_iload (pc := 79) hx hb dX1_laysLayer_79 (lv_at hl 6 rfl) ?_
        refine lv_istore (pc := 81) (lv' := [(10, .int x5), (8, .long (0 : Int64)), (0, .ref h0), (1, .int x1), (2, .int x2), (3, .int x3), (4, .int x4), (5, .int x5), (6, .int x6), (7, .int x7)]) hx hb dX1_laysLayer_81 hl (by decide) rfl (fun ls hl => ?_)
        obtain ⟨k, h⟩ := h
        exact kX1_laysLayer_83 X hml hr hlk ih k _ _ _ _ _ _ _ _ _ _ _ _ _ h hw (lv_sub hl [2, 3, 4, 5, 6, 7, 8, 9, 1, 0] rfl)
      · have h := h.1 c2
        refine lv_iload (pc := 19) hx hb dX1_laysLayer_19 (lv_at hl 8 rfl) ?_
        refine lv_iload_n (pc := 21) hx hb dX1_laysLayer_21 rfl (lv_at hl 4 rfl) ?_
        refine lv_icmp_lt (pc := 22) (tgt := 43) hx hb dX1_laysLayer_22 rfl (fun c7 => ?_) (fun c7 => ?_)
        · have h := h.1 c7
          refine lv_lconst (pc := 43) (v := (0 : Int64)) hx hb dX1_laysLayer_43 (by decide) ?_
          exact kX1_laysLayer_44 X hml hr hlk ih _ _ _ _ _ _ _ _ _ _ _ _ h hw (lv_sub hl [1, 2, 3, 4, 5, 6, 7, 8] rfl)
        · have h := h.2 c7
          refine lv_aload_n (pc := 25) hx hb dX1_laysLayer_25 rfl (lv_at hl 1 rfl) ?_
          refine mg22 (pc := 26) X hw dX1_laysLayer_26 ?_
          refine lv_sipush (pc := 29) (v := (30001 : Int32)) hx hb dX1_laysLayer_29 (by decide) ?_
          refine lv_iload_n (pc := 32) hx hb dX1_laysLayer_32 rfl (lv_at hl 2 rfl) ?_
          refine lv_imul (pc := 33) hx hb dX1_laysLayer_33 ?_
          refine lv_iload (pc := 34) hx hb dX1_laysLayer_34 (lv_at hl 8 rfl) ?_
          refine lv_iadd (pc := 36) hx hb dX1_laysLayer_36 ?_
          refine lv_iload_n (pc := 37) hx hb dX1_laysLayer_37 rfl (lv_at hl 4 rfl) ?_
          refine lv_isub (pc := 38) hx hb dX1_laysLayer_38 ?_
          obtain ⟨hi, h⟩ := h
          refine ma22 (pc := 39) X hw hi dX1_laysLayer_39 ?_
          refine lv_goto (pc := 40) (tgt := 44) hx hb dX1_laysLayer_40 rfl ?_
          exact kX1_laysLayer_44 X hml hr hlk ih _ _ _ _ _ _ _ _ _ _ _ _ h hw (lv_sub hl [1, 2, 3, 4, 5, 6, 7, 8] rfl)
theorem tX1_laysLayer {l : Launch} {G : gG} {h0 : Nat} {ad : Nat → Nat} (hd : mOk G h0 ad) {post : Unit → MS → Prop} {S : MS} {x1 : Int32} {x2 : Int32} {x3 : Int32} {x4 : Int32} {x5 : Int32} {x6 : Int32} (h : wX1_laysLayer post S x1 x2 x3 x4 x5 x6) : Met l yX1_laysLayer (ws_ yX1_laysLayer cX1_laysLayer 11 none) ⟨2, 0, 0, 48⟩ (va_Pc (.ref h0 :: [.int x1, .int x2, .int x3, .int x4, .int x5, .int x6]) (fun U => mBw G h0 ad S U.heap ∧ gK G U)) (gQ vV post (mBw G h0 ad) (mAd h0 ad)) 0 0 (mAd h0 ad) := by
  refine m_ofW (by decide) rfl hd (Nat.le_of_ble_eq_true rfl) (fun p e s m below meth c ls X hml hr hlk hw hl => ?_)
  have hl : lv_has ls 11 [(0, .ref h0), (1, .int x1), (2, .int x2), (3, .int x3), (4, .int x4), (5, .int x5), (6, .int x6)] := hl
  have hx := X.1
  have hb := X.2.1
  have hown := X.2.2.1
  have hts := X.2.2.2.1
  unfold wX1_laysLayer at h
  refine lv_iconst (pc := 0) (v := (0 : Int32)) hx hb dX1_laysLayer_0 (by decide) ?_
  refine lv_istore (pc := 1) (lv' := [(7, .int (0 : Int32)), (0, .ref h0), (1, .int x1), (2, .int x2), (3, .int x3), (4, .int x4), (5, .int x5), (6, .int x6)]) hx hb dX1_laysLayer_1 hl (by decide) rfl (fun ls hl => ?_)
  obtain ⟨k, h⟩ := h
  exact kX1_laysLayer_3 X hml hr hlk  k _ _ _ _ _ _ _ _ _ _ _ h hw (lv_sub hl [1, 2, 3, 4, 5, 6, 7, 0] rfl)
theorem uX1_laysLayer {p : Program} {l : Launch} {e : Env} {R : Room} {s : State} {m : MethodId} {args : Array Value} {below : List Frame} {meth : Method} {c : Code} {H : Heap} {locs : List Loc} {cells slots : Nat} {Q : Jvm.State → Prop} {cc : ByteArray} {pc : Nat} {ls : Array Slot} {rest : List Value} {G : gG} {h0 : Nat} {ad : Nat → Nat} {post : Unit → MS → Prop} {S : MS} {x1 : Int32} {x2 : Int32} {x3 : Int32} {x4 : Int32} {x5 : Int32} {x6 : Int32} {nL : Nat} (X : mX G h0 ad p s m args c cc) (hml : c.maxLocals = nL) (hw : mH G h0 ad s S H locs) (h : wX1_laysLayer post S x1 x2 x3 x4 x5 x6) (hR : 2 + 1 ≤ R.frames ∧ 8 + (11 + 11) + 48 ≤ R.locals) (hsz : ls.size = nL) (hr : (rest.map fun v => v.category).sum ≤ 8) (hc : cells ≤ R.cells ∧ slots ≤ R.slots) (d : decode cc pc = .ok (.invokevirtual 270, 3)) (kk : ∀ (r : Unit) (S1 : MS) (H1 : Heap) (locs1 : List Loc), post r S1 → mH G h0 ad s S1 H1 locs1 → W p l e R s m args below meth c H1 locs1 cells slots Q (F0 m (pc + 3) ls (rest))) : W p l e R s m args below meth c H locs cells slots Q (F0 m pc ls (.int x6 :: .int x5 :: .int x4 :: .int x3 :: .int x2 :: .int x1 :: .ref h0 :: rest)) :=
  m_call (val := vV) (post := post) (As := [.int x1, .int x2, .int x3, .int x4, .int x5, .int x6]) X hml hw (tX1_laysLayer X.2.2.2.2.2.1 h) (lw_V q2252 q2254 qs67 q105 q2255) ⟨rfl, by decide, by decide, (by decide +kernel : (parseMethodDescriptor yX1_laysLayer.desc).map (fun d => d.parameters.length) = some 6)⟩ hR hsz hr hc d rfl kk

def wX1_turns_208 (rc : (Unit → MS → Prop) → MS → Int32 → Int32 → Int32 → Prop) (post : Unit → MS → Prop) : Nat → Int32 → Int32 → MS → Prop
  | 0, _, _, _ => False
  | n + 1, x5, x6, S => (((5 : Int32) ≤ x6) → (vp_in x5 120 ∧ (vp_in x5 120 ∧ (((x5 = (S.1 29)) → (post () (mI (mB S 28 (vp_updL (S.2.2.2 28) x5.toNatClampNeg ((S.2.2.2 28 x5.toNatClampNeg) + (1 : Int64)))) 29 ((S.1 29) + (1 : Int32))))) ∧ (¬ (x5 = (S.1 29)) → (post () (mB S 28 (vp_updL (S.2.2.2 28) x5.toNatClampNeg ((S.2.2.2 28 x5.toNatClampNeg) + (1 : Int64)))))))))) ∧ (¬ ((5 : Int32) ≤ x6) → (vp_in x6 5 ∧ (vp_in (((5 : Int32) * x5) + x6) 600 ∧ (wX1_turns_208 rc post n x5 (x6 + (1 : Int32)) (mA S 27 (upd (S.2.2.1 27) (((5 : Int32) * x5) + x6).toNatClampNeg (S.2.2.1 26 x6.toNatClampNeg)))))))
def wX1_turns_205 (rc : (Unit → MS → Prop) → MS → Int32 → Int32 → Int32 → Prop) (post : Unit → MS → Prop) (x5 : Int32) (S : MS) : Prop :=
  (∃ k, wX1_turns_208 rc post k x5 (0 : Int32) S)
def wX1_turns_181 (rc : (Unit → MS → Prop) → MS → Int32 → Int32 → Int32 → Prop) (post : Unit → MS → Prop) : Nat → Int32 → MS → Prop
  | 0, _, _ => False
  | n + 1, x5, S => (((S.1 29) ≤ x5) → (wX1_turns_205 rc post x5 S)) ∧ (¬ ((S.1 29) ≤ x5) → (wX1_isKind (fun r9 S10 => ((r9 = (0 : Int32)) → (wX1_turns_181 rc post n (x5 + (1 : Int32)) S10)) ∧ (¬ (r9 = (0 : Int32)) → (wX1_turns_205 rc post x5 S10))) S x5))
def wX1_turns_124 (rc : (Unit → MS → Prop) → MS → Int32 → Int32 → Int32 → Prop) (K106 : Int32 → Int32 → Int32 → MS → Prop) (post : Unit → MS → Prop) : Nat → Int32 → Int32 → Int32 → Int32 → Int32 → MS → Prop
  | 0, _, _, _, _, _, _ => False
  | n + 1, x1, x4, x5, x6, x7, S => ((((x4 >>> (x7 &&& 31)) &&& (1 : Int32)) = (0 : Int32)) → (vp_in x7 5 ∧ (wX1_turns_124 rc K106 post n x1 (x4 ||| ((1 : Int32) <<< (x7 &&& 31))) x5 (x6 + (1 : Int32)) (S.2.2.1 25 x7.toNatClampNeg) S))) ∧ (¬ (((x4 >>> (x7 &&& 31)) &&& (1 : Int32)) = (0 : Int32)) → (vp_in x5 5 ∧ (K106 x1 x4 (x5 + (1 : Int32)) (mA S 26 (upd (S.2.2.1 26) x5.toNatClampNeg x6)))))
def wX1_turns_106 (rc : (Unit → MS → Prop) → MS → Int32 → Int32 → Int32 → Prop) (post : Unit → MS → Prop) : Nat → Int32 → Int32 → Int32 → MS → Prop
  | 0, _, _, _, _ => False
  | n + 1, x1, x4, x5, S => vp_in x1 5 ∧ ((((S.2.2.1 0 x1.toNatClampNeg) ≤ x5) → (wX1_sorts (fun _ S5 => (∃ k, wX1_turns_181 rc post k (0 : Int32) S5)) S x1)) ∧ (¬ ((S.2.2.1 0 x1.toNatClampNeg) ≤ x5) → ((∃ k, wX1_turns_124 rc (fun x1 x4 x5 S => wX1_turns_106 rc post n x1 x4 x5 S) post k x1 x4 x5 (0 : Int32) x5 S))))
def wX1_turns_80 (rc : (Unit → MS → Prop) → MS → Int32 → Int32 → Int32 → Prop) (post : Unit → MS → Prop) : Nat → Int32 → Int32 → MS → Prop
  | 0, _, _, _ => False
  | n + 1, x1, x4, S => (((5 : Int32) ≤ x4) → ((∃ k, wX1_turns_106 rc post k x1 (0 : Int32) (0 : Int32) S))) ∧ (¬ ((5 : Int32) ≤ x4) → (vp_in x4 5 ∧ (wX1_turns_80 rc post n x1 (x4 + (1 : Int32)) (mA S 26 (upd (S.2.2.1 26) x4.toNatClampNeg (0 : Int32))))))
def wX1_turns_70 (rc : (Unit → MS → Prop) → MS → Int32 → Int32 → Int32 → Prop) (K13 : Int32 → Int32 → Int32 → Int32 → MS → Prop) (post : Unit → MS → Prop) (x1 : Int32) (x2 : Int32) (x3 : Int32) (x4 : Int32) (S : MS) : Prop :=
  K13 x1 x2 x3 (x4 + (1 : Int32)) S
def wX1_turns_13 (rc : (Unit → MS → Prop) → MS → Int32 → Int32 → Int32 → Prop) (post : Unit → MS → Prop) : Nat → Int32 → Int32 → Int32 → Int32 → MS → Prop
  | 0, _, _, _, _, _ => False
  | n + 1, x1, x2, x3, x4, S => vp_in x1 5 ∧ ((((S.2.2.1 0 x1.toNatClampNeg) ≤ x4) → (post () S)) ∧ (¬ ((S.2.2.1 0 x1.toNatClampNeg) ≤ x4) → (((((x3 >>> (x4 &&& 31)) &&& (1 : Int32)) = (1 : Int32)) → (wX1_turns_70 rc (fun x1 x2 x3 x4 S => wX1_turns_13 rc post n x1 x2 x3 x4 S) post x1 x2 x3 x4 S)) ∧ (¬ (((x3 >>> (x4 &&& 31)) &&& (1 : Int32)) = (1 : Int32)) → (wX1_areLike (fun r15 S16 => ((r15 = (0 : Int32)) → (wX1_turns_70 rc (fun x1 x2 x3 x4 S => wX1_turns_13 rc post n x1 x2 x3 x4 S) post x1 x2 x3 x4 S16)) ∧ (¬ (r15 = (0 : Int32)) → (vp_in x2 5 ∧ (rc (fun _ S19 => wX1_turns_70 rc (fun x1 x2 x3 x4 S => wX1_turns_13 rc post n x1 x2 x3 x4 S) post x1 x2 x3 x4 S19) (mA S16 25 (upd (S16.2.2.1 25) x2.toNatClampNeg x4)) x1 (x2 + (1 : Int32)) (x3 ||| ((1 : Int32) <<< (x4 &&& 31))))))) S x1 x2 x4)))))
def wX1_turnsB (rc : (Unit → MS → Prop) → MS → Int32 → Int32 → Int32 → Prop) (post : Unit → MS → Prop) (S : MS) (x1 : Int32) (x2 : Int32) (x3 : Int32) : Prop :=
  vp_in x1 5 ∧ ((((S.2.2.1 0 x1.toNatClampNeg) ≤ x2) → ((∃ k, wX1_turns_80 rc post k x1 (0 : Int32) S))) ∧ (¬ ((S.2.2.1 0 x1.toNatClampNeg) ≤ x2) → ((∃ k, wX1_turns_13 rc post k x1 x2 x3 (0 : Int32) S))))
def wX1_turns : Nat → (Unit → MS → Prop) → MS → Int32 → Int32 → Int32 → Prop
  | 0, _, _, _, _, _ => False
  | d + 1, post, S, x1, x2, x3 => wX1_turnsB (fun post S x1 x2 x3 => wX1_turns d post S x1 x2 x3) post S x1 x2 x3
theorem kX1_turns_208 {p : Program} {l : Launch} {e : Env} {s : State} {m : MethodId} {args : Array Value} {below : List Frame} {meth : Method} {c : Code} {G : gG} {h0 : Nat} {ad : Nat → Nat} {d : Nat} {rc : (Unit → MS → Prop) → MS → Int32 → Int32 → Int32 → Prop} {post : Unit → MS → Prop} (X : mX G h0 ad p s m args c cX1_turns) (hml : c.maxLocals = 8) (hr : meth.sig.returnType = none) (hlk : meth.locks = false) (hI : ∀ {post : Unit → MS → Prop} {S : MS} {x1 : Int32} {x2 : Int32} {x3 : Int32}, rc post S x1 x2 x3 → Met l yX1_turns (ws_ yX1_turns cX1_turns 8 none) ⟨20 + 1 * d, 0, 0, 1000 + 27 * d⟩ (va_Pc (.ref h0 :: [.int x1, .int x2, .int x3]) (fun U => mBw G h0 ad S U.heap ∧ gK G U)) (gQ vV post (mBw G h0 ad) (mAd h0 ad)) 0 0 (mAd h0 ad)) : ∀ (n : Nat) (x5 : Int32) (x6 : Int32) (S : MS) (H : Heap) (locs : List Loc) (ls : Array Slot), wX1_turns_208 rc post n x5 x6 S → mH G h0 ad s S H locs → lv_has ls 8 [(0, .ref h0), (5, .int x5), (6, .int x6)] → W p l e ⟨21 + 1 * d, 0, 0, 1027 + 27 * d⟩ s m args below meth c H locs 0 0 (MQ below (gQ vV post (mBw G h0 ad) (mAd h0 ad)) args s 0 0 (mAd h0 ad)) (F0 m 208 ls []) := by
  have hx := X.1
  have hb := X.2.1
  have hown := X.2.2.1
  have hts := X.2.2.2.1
  intro n
  induction n with
  | zero =>
    intro x5 x6 S H locs ls h
    exact False.elim h
  | succ n ih =>
    intro x5 x6 S H locs ls h hw hl
    unfold wX1_turns_208 at h
    refine lv_iload (pc := 208) hx hb dX1_turns_208 (lv_at hl 2 rfl) ?_
    refine lv_iconst (pc := 210) (v := (5 : Int32)) hx hb dX1_turns_210 (by decide) ?_
    refine lv_icmp_ge (pc := 211) (tgt := 239) hx hb dX1_turns_211 rfl (fun c7 => ?_) (fun c7 => ?_)
    · have h := h.1 c7
      refine lv_aload_n (pc := 239) hx hb dX1_turns_239 rfl (lv_at hl 0 rfl) ?_
      refine mg28 (pc := 240) X hw dX1_turns_240 ?_
      refine lv_iload (pc := 243) hx hb dX1_turns_243 (lv_at hl 1 rfl) ?_
      refine lv_dup2_11 (pc := 245) hx hb dX1_turns_245 rfl rfl ?_
      obtain ⟨hi, h⟩ := h
      refine ma28 (pc := 246) X hw hi dX1_turns_246 ?_
      refine lv_lconst (pc := 247) (v := (1 : Int64)) hx hb dX1_turns_247 (by decide) ?_
      refine lv_ladd (pc := 248) hx hb dX1_turns_248 ?_
      obtain ⟨hi, h⟩ := h
      refine ms28 (pc := 249) X hw hi dX1_turns_249 (fun H locs hw => ?_)
      refine lv_iload (pc := 250) hx hb dX1_turns_250 (lv_at hl 1 rfl) ?_
      refine lv_aload_n (pc := 252) hx hb dX1_turns_252 rfl (lv_at hl 0 rfl) ?_
      refine mg29 (pc := 253) X hw dX1_turns_253 ?_
      refine lv_icmp_ne (pc := 256) (tgt := 269) hx hb dX1_turns_256 rfl (fun c8 => ?_) (fun c8 => ?_)
      · have h := h.2 c8
        exact W.vret (pc := 269) hx hb hr (fun t ht hW => m_ret (val := vV) (v := ()) hw h ht) hw.2.2.2 dX1_turns_269 hlk
      · have h := h.1 c8
        refine lv_aload_n (pc := 259) hx hb dX1_turns_259 rfl (lv_at hl 0 rfl) ?_
        refine lv_dup (pc := 260) hx hb dX1_turns_260 rfl ?_
        refine mg29 (pc := 261) X hw dX1_turns_261 ?_
        refine lv_iconst (pc := 264) (v := (1 : Int32)) hx hb dX1_turns_264 (by decide) ?_
        refine lv_iadd (pc := 265) hx hb dX1_turns_265 ?_
        refine mp29 (pc := 266) X hw dX1_turns_266 (fun H locs hw => ?_)
        exact W.vret (pc := 269) hx hb hr (fun t ht hW => m_ret (val := vV) (v := ()) hw h ht) hw.2.2.2 dX1_turns_269 hlk
    · have h := h.2 c7
      refine lv_aload_n (pc := 214) hx hb dX1_turns_214 rfl (lv_at hl 0 rfl) ?_
      refine mg27 (pc := 215) X hw dX1_turns_215 ?_
      refine lv_iconst (pc := 218) (v := (5 : Int32)) hx hb dX1_turns_218 (by decide) ?_
      refine lv_iload (pc := 219) hx hb dX1_turns_219 (lv_at hl 1 rfl) ?_
      refine lv_imul (pc := 221) hx hb dX1_turns_221 ?_
      refine lv_iload (pc := 222) hx hb dX1_turns_222 (lv_at hl 2 rfl) ?_
      refine lv_iadd (pc := 224) hx hb dX1_turns_224 ?_
      refine lv_aload_n (pc := 225) hx hb dX1_turns_225 rfl (lv_at hl 0 rfl) ?_
      refine mg26 (pc := 226) X hw dX1_turns_226 ?_
      refine lv_iload (pc := 229) hx hb dX1_turns_229 (lv_at hl 2 rfl) ?_
      obtain ⟨hi, h⟩ := h
      refine ma26 (pc := 231) X hw hi dX1_turns_231 ?_
      obtain ⟨hi, h⟩ := h
      refine ms27 (pc := 232) X hw hi dX1_turns_232 (fun H locs hw => ?_)
      refine lv_iinc (pc := 233) (v := x6 + (1 : Int32)) (lv' := [(6, .int (x6 + (1 : Int32))), (0, .ref h0), (5, .int x5)]) hx hb dX1_turns_233 hl (k := 2) rfl rfl (by decide) rfl (fun ls hl => ?_)
      refine lv_goto (pc := 236) (tgt := 208) hx hb dX1_turns_236 rfl ?_
      exact ih _ _ _ _ _ _ h hw (lv_sub hl [1, 2, 0] rfl)
theorem kX1_turns_205 {p : Program} {l : Launch} {e : Env} {s : State} {m : MethodId} {args : Array Value} {below : List Frame} {meth : Method} {c : Code} {G : gG} {h0 : Nat} {ad : Nat → Nat} {d : Nat} {rc : (Unit → MS → Prop) → MS → Int32 → Int32 → Int32 → Prop} {post : Unit → MS → Prop} (X : mX G h0 ad p s m args c cX1_turns) (hml : c.maxLocals = 8) (hr : meth.sig.returnType = none) (hlk : meth.locks = false) (hI : ∀ {post : Unit → MS → Prop} {S : MS} {x1 : Int32} {x2 : Int32} {x3 : Int32}, rc post S x1 x2 x3 → Met l yX1_turns (ws_ yX1_turns cX1_turns 8 none) ⟨20 + 1 * d, 0, 0, 1000 + 27 * d⟩ (va_Pc (.ref h0 :: [.int x1, .int x2, .int x3]) (fun U => mBw G h0 ad S U.heap ∧ gK G U)) (gQ vV post (mBw G h0 ad) (mAd h0 ad)) 0 0 (mAd h0 ad)) : ∀ (x5 : Int32) (S : MS) (H : Heap) (locs : List Loc) (ls : Array Slot), wX1_turns_205 rc post x5 S → mH G h0 ad s S H locs → lv_has ls 8 [(0, .ref h0), (5, .int x5)] → W p l e ⟨21 + 1 * d, 0, 0, 1027 + 27 * d⟩ s m args below meth c H locs 0 0 (MQ below (gQ vV post (mBw G h0 ad) (mAd h0 ad)) args s 0 0 (mAd h0 ad)) (F0 m 205 ls []) := by
  have hx := X.1
  have hb := X.2.1
  have hown := X.2.2.1
  have hts := X.2.2.2.1
  intro x5 S H locs ls h hw hl
  unfold wX1_turns_205 at h
  refine lv_iconst (pc := 205) (v := (0 : Int32)) hx hb dX1_turns_205 (by decide) ?_
  refine lv_istore (pc := 206) (lv' := [(6, .int (0 : Int32)), (0, .ref h0), (5, .int x5)]) hx hb dX1_turns_206 hl (by decide) rfl (fun ls hl => ?_)
  obtain ⟨k, h⟩ := h
  exact kX1_turns_208 X hml hr hlk hI  k _ _ _ _ _ _ h hw (lv_sub hl [1, 2, 0] rfl)
theorem kX1_turns_181 {p : Program} {l : Launch} {e : Env} {s : State} {m : MethodId} {args : Array Value} {below : List Frame} {meth : Method} {c : Code} {G : gG} {h0 : Nat} {ad : Nat → Nat} {d : Nat} {rc : (Unit → MS → Prop) → MS → Int32 → Int32 → Int32 → Prop} {post : Unit → MS → Prop} (X : mX G h0 ad p s m args c cX1_turns) (hml : c.maxLocals = 8) (hr : meth.sig.returnType = none) (hlk : meth.locks = false) (hI : ∀ {post : Unit → MS → Prop} {S : MS} {x1 : Int32} {x2 : Int32} {x3 : Int32}, rc post S x1 x2 x3 → Met l yX1_turns (ws_ yX1_turns cX1_turns 8 none) ⟨20 + 1 * d, 0, 0, 1000 + 27 * d⟩ (va_Pc (.ref h0 :: [.int x1, .int x2, .int x3]) (fun U => mBw G h0 ad S U.heap ∧ gK G U)) (gQ vV post (mBw G h0 ad) (mAd h0 ad)) 0 0 (mAd h0 ad)) : ∀ (n : Nat) (x5 : Int32) (S : MS) (H : Heap) (locs : List Loc) (ls : Array Slot), wX1_turns_181 rc post n x5 S → mH G h0 ad s S H locs → lv_has ls 8 [(0, .ref h0), (5, .int x5)] → W p l e ⟨21 + 1 * d, 0, 0, 1027 + 27 * d⟩ s m args below meth c H locs 0 0 (MQ below (gQ vV post (mBw G h0 ad) (mAd h0 ad)) args s 0 0 (mAd h0 ad)) (F0 m 181 ls []) := by
  have hx := X.1
  have hb := X.2.1
  have hown := X.2.2.1
  have hts := X.2.2.2.1
  intro n
  induction n with
  | zero =>
    intro x5 S H locs ls h
    exact False.elim h
  | succ n ih =>
    intro x5 S H locs ls h hw hl
    unfold wX1_turns_181 at h
    refine lv_iload (pc := 181) hx hb dX1_turns_181 (lv_at hl 1 rfl) ?_
    refine lv_aload_n (pc := 183) hx hb dX1_turns_183 rfl (lv_at hl 0 rfl) ?_
    refine mg29 (pc := 184) X hw dX1_turns_184 ?_
    refine lv_icmp_ge (pc := 187) (tgt := 205) hx hb dX1_turns_187 rfl (fun c6 => ?_) (fun c6 => ?_)
    · have h := h.1 c6
      exact kX1_turns_205 X hml hr hlk hI  _ _ _ _ _ h hw (lv_sub hl [0, 1] rfl)
    · have h := h.2 c6
      refine lv_aload_n (pc := 190) hx hb dX1_turns_190 rfl (lv_at hl 0 rfl) ?_
      refine lv_iload (pc := 191) hx hb dX1_turns_191 (lv_at hl 1 rfl) ?_
      refine uX1_isKind (pc := 193) X hml hw h ⟨show 0 + 1 ≤ 21 + 1 * d by omega, show 8 + (3 + 11) + (0) ≤ 1027 + 27 * d by omega⟩ hl.1 (Nat.le_of_ble_eq_true rfl) ⟨Nat.le_refl _, Nat.le_refl _⟩ dX1_turns_193 (fun r9 S10 H locs h hw => ?_)
      refine lv_if_ne (pc := 196) (tgt := 205) hx hb dX1_turns_196 rfl (fun c11 => ?_) (fun c11 => ?_)
      · have h := h.2 c11
        exact kX1_turns_205 X hml hr hlk hI  _ _ _ _ _ h hw (lv_sub hl [0, 1] rfl)
      · have h := h.1 c11
        refine lv_iinc (pc := 199) (v := x5 + (1 : Int32)) (lv' := [(5, .int (x5 + (1 : Int32))), (0, .ref h0)]) hx hb dX1_turns_199 hl (k := 1) rfl rfl (by decide) rfl (fun ls hl => ?_)
        refine lv_goto (pc := 202) (tgt := 181) hx hb dX1_turns_202 rfl ?_
        exact ih _ _ _ _ _ h hw (lv_sub hl [1, 0] rfl)
theorem kX1_turns_124 {p : Program} {l : Launch} {e : Env} {s : State} {m : MethodId} {args : Array Value} {below : List Frame} {meth : Method} {c : Code} {G : gG} {h0 : Nat} {ad : Nat → Nat} {d : Nat} {rc : (Unit → MS → Prop) → MS → Int32 → Int32 → Int32 → Prop} {K106 : Int32 → Int32 → Int32 → MS → Prop} {post : Unit → MS → Prop} (X : mX G h0 ad p s m args c cX1_turns) (hml : c.maxLocals = 8) (hr : meth.sig.returnType = none) (hlk : meth.locks = false) (hI : ∀ {post : Unit → MS → Prop} {S : MS} {x1 : Int32} {x2 : Int32} {x3 : Int32}, rc post S x1 x2 x3 → Met l yX1_turns (ws_ yX1_turns cX1_turns 8 none) ⟨20 + 1 * d, 0, 0, 1000 + 27 * d⟩ (va_Pc (.ref h0 :: [.int x1, .int x2, .int x3]) (fun U => mBw G h0 ad S U.heap ∧ gK G U)) (gQ vV post (mBw G h0 ad) (mAd h0 ad)) 0 0 (mAd h0 ad)) (hK106 : ∀ (x1 : Int32) (x4 : Int32) (x5 : Int32) (S : MS) (H : Heap) (locs : List Loc) (ls : Array Slot), K106 x1 x4 x5 S → mH G h0 ad s S H locs → lv_has ls 8 [(0, .ref h0), (1, .int x1), (4, .int x4), (5, .int x5)] → W p l e ⟨21 + 1 * d, 0, 0, 1027 + 27 * d⟩ s m args below meth c H locs 0 0 (MQ below (gQ vV post (mBw G h0 ad) (mAd h0 ad)) args s 0 0 (mAd h0 ad)) (F0 m 106 ls [])) : ∀ (n : Nat) (x1 : Int32) (x4 : Int32) (x5 : Int32) (x6 : Int32) (x7 : Int32) (S : MS) (H : Heap) (locs : List Loc) (ls : Array Slot), wX1_turns_124 rc K106 post n x1 x4 x5 x6 x7 S → mH G h0 ad s S H locs → lv_has ls 8 [(0, .ref h0), (1, .int x1), (4, .int x4), (5, .int x5), (6, .int x6), (7, .int x7)] → W p l e ⟨21 + 1 * d, 0, 0, 1027 + 27 * d⟩ s m args below meth c H locs 0 0 (MQ below (gQ vV post (mBw G h0 ad) (mAd h0 ad)) args s 0 0 (mAd h0 ad)) (F0 m 124 ls []) := by
  have hx := X.1
  have hb := X.2.1
  have hown := X.2.2.1
  have hts := X.2.2.2.1
  intro n
  induction n with
  | zero =>
    intro x1 x4 x5 x6 x7 S H locs ls h
    exact False.elim h
  | succ n ih =>
    intro x1 x4 x5 x6 x7 S H locs ls h hw hl
    unfold wX1_turns_124 at h
    refine lv_iload (pc := 124) hx hb dX1_turns_124 (lv_at hl 2 rfl) ?_
    refine lv_iload (pc := 126) hx hb dX1_turns_126 (lv_at hl 5 rfl) ?_
    refine lv_ishr (pc := 128) hx hb dX1_turns_128 ?_
    refine lv_iconst (pc := 129) (v := (1 : Int32)) hx hb dX1_turns_129 (by decide) ?_
    refine lv_iand (pc := 130) hx hb dX1_turns_130 ?_
    refine lv_if_ne (pc := 131) (tgt := 158) hx hb dX1_turns_131 rfl (fun c12 => ?_) (fun c12 => ?_)
    · have h := h.2 c12
      refine lv_aload_n (pc := 158) hx hb dX1_turns_158 rfl (lv_at hl 0 rfl) ?_
      refine mg26 (pc := 159) X hw dX1_turns_159 ?_
      refine lv_iload (pc := 162) hx hb dX1_turns_162 (lv_at hl 3 rfl) ?_
      refine lv_iload (pc := 164) hx hb dX1_turns_164 (lv_at hl 4 rfl) ?_
      obtain ⟨hi, h⟩ := h
      refine ms26 (pc := 166) X hw hi dX1_turns_166 (fun H locs hw => ?_)
      refine lv_iinc (pc := 167) (v := x5 + (1 : Int32)) (lv' := [(5, .int (x5 + (1 : Int32))), (0, .ref h0), (1, .int x1), (4, .int x4), (6, .int x6), (7, .int x7)]) hx hb dX1_turns_167 hl (k := 3) rfl rfl (by decide) rfl (fun ls hl => ?_)
      refine lv_goto (pc := 170) (tgt := 106) hx hb dX1_turns_170 rfl ?_
      exact hK106 _ _ _ _ _ _ _ h hw (lv_sub hl [1, 2, 3, 0] rfl)
    · have h := h.1 c12
      refine lv_iload (pc := 134) hx hb dX1_turns_134 (lv_at hl 2 rfl) ?_
      refine lv_iconst (pc := 136) (v := (1 : Int32)) hx hb dX1_turns_136 (by decide) ?_
      refine lv_iload (pc := 137) hx hb dX1_turns_137 (lv_at hl 5 rfl) ?_
      refine lv_ishl (pc := 139) hx hb dX1_turns_139 ?_
      refine lv_ior (pc := 140) hx hb dX1_turns_140 ?_
      refine lv_istore (pc := 141) (lv' := [(4, .int (x4 ||| ((1 : Int32) <<< (x7 &&& 31)))), (0, .ref h0), (1, .int x1), (5, .int x5), (6, .int x6), (7, .int x7)]) hx hb dX1_turns_141 hl (by decide) rfl (fun ls hl => ?_)
      refine lv_iinc (pc := 143) (v := x6 + (1 : Int32)) (lv' := [(6, .int (x6 + (1 : Int32))), (4, .int (x4 ||| ((1 : Int32) <<< (x7 &&& 31)))), (0, .ref h0), (1, .int x1), (5, .int x5), (7, .int x7)]) hx hb dX1_turns_143 hl (k := 4) rfl rfl (by decide) rfl (fun ls hl => ?_)
      refine lv_aload_n (pc := 146) hx hb dX1_turns_146 rfl (lv_at hl 2 rfl) ?_
      refine mg25 (pc := 147) X hw dX1_turns_147 ?_
      refine lv_iload (pc := 150) hx hb dX1_turns_150 (lv_at hl 5 rfl) ?_
      obtain ⟨hi, h⟩ := h
      refine ma25 (pc := 152) X hw hi dX1_turns_152 ?_
      refine lv_istore (pc := 153) (lv' := [(7, .int (S.2.2.1 25 x7.toNatClampNeg)), (6, .int (x6 + (1 : Int32))), (4, .int (x4 ||| ((1 : Int32) <<< (x7 &&& 31)))), (0, .ref h0), (1, .int x1), (5, .int x5)]) hx hb dX1_turns_153 hl (by decide) rfl (fun ls hl => ?_)
      refine lv_goto (pc := 155) (tgt := 124) hx hb dX1_turns_155 rfl ?_
      exact ih _ _ _ _ _ _ _ _ _ h hw (lv_sub hl [3, 4, 2, 5, 1, 0] rfl)
theorem kX1_turns_106 {p : Program} {l : Launch} {e : Env} {s : State} {m : MethodId} {args : Array Value} {below : List Frame} {meth : Method} {c : Code} {G : gG} {h0 : Nat} {ad : Nat → Nat} {d : Nat} {rc : (Unit → MS → Prop) → MS → Int32 → Int32 → Int32 → Prop} {post : Unit → MS → Prop} (X : mX G h0 ad p s m args c cX1_turns) (hml : c.maxLocals = 8) (hr : meth.sig.returnType = none) (hlk : meth.locks = false) (hI : ∀ {post : Unit → MS → Prop} {S : MS} {x1 : Int32} {x2 : Int32} {x3 : Int32}, rc post S x1 x2 x3 → Met l yX1_turns (ws_ yX1_turns cX1_turns 8 none) ⟨20 + 1 * d, 0, 0, 1000 + 27 * d⟩ (va_Pc (.ref h0 :: [.int x1, .int x2, .int x3]) (fun U => mBw G h0 ad S U.heap ∧ gK G U)) (gQ vV post (mBw G h0 ad) (mAd h0 ad)) 0 0 (mAd h0 ad)) : ∀ (n : Nat) (x1 : Int32) (x4 : Int32) (x5 : Int32) (S : MS) (H : Heap) (locs : List Loc) (ls : Array Slot), wX1_turns_106 rc post n x1 x4 x5 S → mH G h0 ad s S H locs → lv_has ls 8 [(0, .ref h0), (1, .int x1), (4, .int x4), (5, .int x5)] → W p l e ⟨21 + 1 * d, 0, 0, 1027 + 27 * d⟩ s m args below meth c H locs 0 0 (MQ below (gQ vV post (mBw G h0 ad) (mAd h0 ad)) args s 0 0 (mAd h0 ad)) (F0 m 106 ls []) := by
  have hx := X.1
  have hb := X.2.1
  have hown := X.2.2.1
  have hts := X.2.2.2.1
  intro n
  induction n with
  | zero =>
    intro x1 x4 x5 S H locs ls h
    exact False.elim h
  | succ n ih =>
    intro x1 x4 x5 S H locs ls h hw hl
    unfold wX1_turns_106 at h
    refine lv_iload (pc := 106) hx hb dX1_turns_106 (lv_at hl 3 rfl) ?_
    refine lv_aload_n (pc := 108) hx hb dX1_turns_108 rfl (lv_at hl 0 rfl) ?_
    refine mg0 (pc := 109) X hw dX1_turns_109 ?_
    refine lv_iload_n (pc := 112) hx hb dX1_turns_112 rfl (lv_at hl 1 rfl) ?_
    obtain ⟨hi, h⟩ := h
    refine ma0 (pc := 113) X hw hi dX1_turns_113 ?_
    refine lv_icmp_ge (pc := 114) (tgt := 173) hx hb dX1_turns_114 rfl (fun c3 => ?_) (fun c3 => ?_)
    · have h := h.1 c3
      refine lv_aload_n (pc := 173) hx hb dX1_turns_173 rfl (lv_at hl 0 rfl) ?_
      refine lv_iload_n (pc := 174) hx hb dX1_turns_174 rfl (lv_at hl 1 rfl) ?_
      refine uX1_sorts (pc := 175) X hml hw h ⟨show 2 + 1 ≤ 21 + 1 * d by omega, show 8 + (5 + 11) + (47) ≤ 1027 + 27 * d by omega⟩ hl.1 (Nat.le_of_ble_eq_true rfl) ⟨Nat.le_refl _, Nat.le_refl _⟩ dX1_turns_175 (fun _ S5 H locs h hw => ?_)
      refine lv_iconst (pc := 178) (v := (0 : Int32)) hx hb dX1_turns_178 (by decide) ?_
      refine lv_istore (pc := 179) (lv' := [(5, .int (0 : Int32)), (0, .ref h0), (1, .int x1), (4, .int x4)]) hx hb dX1_turns_179 hl (by decide) rfl (fun ls hl => ?_)
      obtain ⟨k, h⟩ := h
      exact kX1_turns_181 X hml hr hlk hI  k _ _ _ _ _ h hw (lv_sub hl [1, 0] rfl)
    · have h := h.2 c3
      refine lv_iconst (pc := 117) (v := (0 : Int32)) hx hb dX1_turns_117 (by decide) ?_
      refine lv_istore (pc := 118) (lv' := [(6, .int (0 : Int32)), (0, .ref h0), (1, .int x1), (4, .int x4), (5, .int x5)]) hx hb dX1_turns_118 hl (by decide) rfl (fun ls hl => ?_)
      refine lv_iload (pc := 120) hx hb dX1_turns_120 (lv_at hl 4 rfl) ?_
      refine lv_istore (pc := 122) (lv' := [(7, .int x5), (6, .int (0 : Int32)), (0, .ref h0), (1, .int x1), (4, .int x4), (5, .int x5)]) hx hb dX1_turns_122 hl (by decide) rfl (fun ls hl => ?_)
      obtain ⟨k, h⟩ := h
      exact kX1_turns_124 X hml hr hlk hI ih k _ _ _ _ _ _ _ _ _ h hw (lv_sub hl [2, 3, 4, 5, 1, 0] rfl)
theorem kX1_turns_80 {p : Program} {l : Launch} {e : Env} {s : State} {m : MethodId} {args : Array Value} {below : List Frame} {meth : Method} {c : Code} {G : gG} {h0 : Nat} {ad : Nat → Nat} {d : Nat} {rc : (Unit → MS → Prop) → MS → Int32 → Int32 → Int32 → Prop} {post : Unit → MS → Prop} (X : mX G h0 ad p s m args c cX1_turns) (hml : c.maxLocals = 8) (hr : meth.sig.returnType = none) (hlk : meth.locks = false) (hI : ∀ {post : Unit → MS → Prop} {S : MS} {x1 : Int32} {x2 : Int32} {x3 : Int32}, rc post S x1 x2 x3 → Met l yX1_turns (ws_ yX1_turns cX1_turns 8 none) ⟨20 + 1 * d, 0, 0, 1000 + 27 * d⟩ (va_Pc (.ref h0 :: [.int x1, .int x2, .int x3]) (fun U => mBw G h0 ad S U.heap ∧ gK G U)) (gQ vV post (mBw G h0 ad) (mAd h0 ad)) 0 0 (mAd h0 ad)) : ∀ (n : Nat) (x1 : Int32) (x4 : Int32) (S : MS) (H : Heap) (locs : List Loc) (ls : Array Slot), wX1_turns_80 rc post n x1 x4 S → mH G h0 ad s S H locs → lv_has ls 8 [(0, .ref h0), (1, .int x1), (4, .int x4)] → W p l e ⟨21 + 1 * d, 0, 0, 1027 + 27 * d⟩ s m args below meth c H locs 0 0 (MQ below (gQ vV post (mBw G h0 ad) (mAd h0 ad)) args s 0 0 (mAd h0 ad)) (F0 m 80 ls []) := by
  have hx := X.1
  have hb := X.2.1
  have hown := X.2.2.1
  have hts := X.2.2.2.1
  intro n
  induction n with
  | zero =>
    intro x1 x4 S H locs ls h
    exact False.elim h
  | succ n ih =>
    intro x1 x4 S H locs ls h hw hl
    unfold wX1_turns_80 at h
    refine lv_iload (pc := 80) hx hb dX1_turns_80 (lv_at hl 2 rfl) ?_
    refine lv_iconst (pc := 82) (v := (5 : Int32)) hx hb dX1_turns_82 (by decide) ?_
    refine lv_icmp_ge (pc := 83) (tgt := 100) hx hb dX1_turns_83 rfl (fun c2 => ?_) (fun c2 => ?_)
    · have h := h.1 c2
      refine lv_iconst (pc := 100) (v := (0 : Int32)) hx hb dX1_turns_100 (by decide) ?_
      refine lv_istore (pc := 101) (lv' := [(4, .int (0 : Int32)), (0, .ref h0), (1, .int x1)]) hx hb dX1_turns_101 hl (by decide) rfl (fun ls hl => ?_)
      refine lv_iconst (pc := 103) (v := (0 : Int32)) hx hb dX1_turns_103 (by decide) ?_
      refine lv_istore (pc := 104) (lv' := [(5, .int (0 : Int32)), (4, .int (0 : Int32)), (0, .ref h0), (1, .int x1)]) hx hb dX1_turns_104 hl (by decide) rfl (fun ls hl => ?_)
      obtain ⟨k, h⟩ := h
      exact kX1_turns_106 X hml hr hlk hI  k _ _ _ _ _ _ _ h hw (lv_sub hl [2, 3, 1, 0] rfl)
    · have h := h.2 c2
      refine lv_aload_n (pc := 86) hx hb dX1_turns_86 rfl (lv_at hl 0 rfl) ?_
      refine mg26 (pc := 87) X hw dX1_turns_87 ?_
      refine lv_iload (pc := 90) hx hb dX1_turns_90 (lv_at hl 2 rfl) ?_
      refine lv_iconst (pc := 92) (v := (0 : Int32)) hx hb dX1_turns_92 (by decide) ?_
      obtain ⟨hi, h⟩ := h
      refine ms26 (pc := 93) X hw hi dX1_turns_93 (fun H locs hw => ?_)
      refine lv_iinc (pc := 94) (v := x4 + (1 : Int32)) (lv' := [(4, .int (x4 + (1 : Int32))), (0, .ref h0), (1, .int x1)]) hx hb dX1_turns_94 hl (k := 2) rfl rfl (by decide) rfl (fun ls hl => ?_)
      refine lv_goto (pc := 97) (tgt := 80) hx hb dX1_turns_97 rfl ?_
      exact ih _ _ _ _ _ _ h hw (lv_sub hl [1, 2, 0] rfl)
theorem kX1_turns_70 {p : Program} {l : Launch} {e : Env} {s : State} {m : MethodId} {args : Array Value} {below : List Frame} {meth : Method} {c : Code} {G : gG} {h0 : Nat} {ad : Nat → Nat} {d : Nat} {rc : (Unit → MS → Prop) → MS → Int32 → Int32 → Int32 → Prop} {K13 : Int32 → Int32 → Int32 → Int32 → MS → Prop} {post : Unit → MS → Prop} (X : mX G h0 ad p s m args c cX1_turns) (hml : c.maxLocals = 8) (hr : meth.sig.returnType = none) (hlk : meth.locks = false) (hI : ∀ {post : Unit → MS → Prop} {S : MS} {x1 : Int32} {x2 : Int32} {x3 : Int32}, rc post S x1 x2 x3 → Met l yX1_turns (ws_ yX1_turns cX1_turns 8 none) ⟨20 + 1 * d, 0, 0, 1000 + 27 * d⟩ (va_Pc (.ref h0 :: [.int x1, .int x2, .int x3]) (fun U => mBw G h0 ad S U.heap ∧ gK G U)) (gQ vV post (mBw G h0 ad) (mAd h0 ad)) 0 0 (mAd h0 ad)) (hK13 : ∀ (x1 : Int32) (x2 : Int32) (x3 : Int32) (x4 : Int32) (S : MS) (H : Heap) (locs : List Loc) (ls : Array Slot), K13 x1 x2 x3 x4 S → mH G h0 ad s S H locs → lv_has ls 8 [(0, .ref h0), (1, .int x1), (2, .int x2), (3, .int x3), (4, .int x4)] → W p l e ⟨21 + 1 * d, 0, 0, 1027 + 27 * d⟩ s m args below meth c H locs 0 0 (MQ below (gQ vV post (mBw G h0 ad) (mAd h0 ad)) args s 0 0 (mAd h0 ad)) (F0 m 13 ls [])) : ∀ (x1 : Int32) (x2 : Int32) (x3 : Int32) (x4 : Int32) (S : MS) (H : Heap) (locs : List Loc) (ls : Array Slot), wX1_turns_70 rc K13 post x1 x2 x3 x4 S → mH G h0 ad s S H locs → lv_has ls 8 [(0, .ref h0), (1, .int x1), (2, .int x2), (3, .int x3), (4, .int x4)] → W p l e ⟨21 + 1 * d, 0, 0, 1027 + 27 * d⟩ s m args below meth c H locs 0 0 (MQ below (gQ vV post (mBw G h0 ad) (mAd h0 ad)) args s 0 0 (mAd h0 ad)) (F0 m 70 ls []) := by
  have hx := X.1
  have hb := X.2.1
  have hown := X.2.2.1
  have hts := X.2.2.2.1
  intro x1 x2 x3 x4 S H locs ls h hw hl
  unfold wX1_turns_70 at h
  refine lv_iinc (pc := 70) (v := x4 + (1 : Int32)) (lv' := [(4, .int (x4 + (1 : Int32))), (0, .ref h0), (1, .int x1), (2, .int x2), (3, .int x3)]) hx hb dX1_turns_70 hl (k := 4) rfl rfl (by decide) rfl (fun ls hl => ?_)
  refine lv_goto (pc := 73) (tgt := 13) hx hb dX1_turns_73 rfl ?_
  exact hK13 _ _ _ _ _ _ _ _ h hw (lv_sub hl [1, 2, 3, 4, 0] rfl)
theorem kX1_turns_13 {p : Program} {l : Launch} {e : Env} {s : State} {m : MethodId} {args : Array Value} {below : List Frame} {meth : Method} {c : Code} {G : gG} {h0 : Nat} {ad : Nat → Nat} {d : Nat} {rc : (Unit → MS → Prop) → MS → Int32 → Int32 → Int32 → Prop} {post : Unit → MS → Prop} (X : mX G h0 ad p s m args c cX1_turns) (hml : c.maxLocals = 8) (hr : meth.sig.returnType = none) (hlk : meth.locks = false) (hI : ∀ {post : Unit → MS → Prop} {S : MS} {x1 : Int32} {x2 : Int32} {x3 : Int32}, rc post S x1 x2 x3 → Met l yX1_turns (ws_ yX1_turns cX1_turns 8 none) ⟨20 + 1 * d, 0, 0, 1000 + 27 * d⟩ (va_Pc (.ref h0 :: [.int x1, .int x2, .int x3]) (fun U => mBw G h0 ad S U.heap ∧ gK G U)) (gQ vV post (mBw G h0 ad) (mAd h0 ad)) 0 0 (mAd h0 ad)) : ∀ (n : Nat) (x1 : Int32) (x2 : Int32) (x3 : Int32) (x4 : Int32) (S : MS) (H : Heap) (locs : List Loc) (ls : Array Slot), wX1_turns_13 rc post n x1 x2 x3 x4 S → mH G h0 ad s S H locs → lv_has ls 8 [(0, .ref h0), (1, .int x1), (2, .int x2), (3, .int x3), (4, .int x4)] → W p l e ⟨21 + 1 * d, 0, 0, 1027 + 27 * d⟩ s m args below meth c H locs 0 0 (MQ below (gQ vV post (mBw G h0 ad) (mAd h0 ad)) args s 0 0 (mAd h0 ad)) (F0 m 13 ls []) := by
  have hx := X.1
  have hb := X.2.1
  have hown := X.2.2.1
  have hts := X.2.2.2.1
  intro n
  induction n with
  | zero =>
    intro x1 x2 x3 x4 S H locs ls h
    exact False.elim h
  | succ n ih =>
    intro x1 x2 x3 x4 S H locs ls h hw hl
    unfold wX1_turns_13 at h
    refine lv_iload (pc := 13) hx hb dX1_turns_13 (lv_at hl 4 rfl) ?_
    refine lv_aload_n (pc := 15) hx hb dX1_turns_15 rfl (lv_at hl 0 rfl) ?_
    refine mg0 (pc := 16) X hw dX1_turns_16 ?_
    refine lv_iload_n (pc := 19) hx hb dX1_turns_19 rfl (lv_at hl 1 rfl) ?_
    obtain ⟨hi, h⟩ := h
    refine ma0 (pc := 20) X hw hi dX1_turns_20 ?_
    refine lv_icmp_ge (pc := 21) (tgt := 76) hx hb dX1_turns_21 rfl (fun c13 => ?_) (fun c13 => ?_)
    · have h := h.1 c13
      exact W.vret (pc := 76) hx hb hr (fun t ht hW => m_ret (val := vV) (v := ()) hw h ht) hw.2.2.2 dX1_turns_76 hlk
    · have h := h.2 c13
      refine lv_iload_n (pc := 24) hx hb dX1_turns_24 rfl (lv_at hl 3 rfl) ?_
      refine lv_iload (pc := 25) hx hb dX1_turns_25 (lv_at hl 4 rfl) ?_
      refine lv_ishr (pc := 27) hx hb dX1_turns_27 ?_
      refine lv_iconst (pc := 28) (v := (1 : Int32)) hx hb dX1_turns_28 (by decide) ?_
      refine lv_iand (pc := 29) hx hb dX1_turns_29 ?_
      refine lv_iconst (pc := 30) (v := (1 : Int32)) hx hb dX1_turns_30 (by decide) ?_
      refine lv_icmp_eq (pc := 31) (tgt := 70) hx hb dX1_turns_31 rfl (fun c14 => ?_) (fun c14 => ?_)
      · have h := h.1 c14
        exact kX1_turns_70 X hml hr hlk hI ih _ _ _ _ _ _ _ _ h hw (lv_sub hl [0, 1, 2, 3, 4] rfl)
      · have h := h.2 c14
        refine lv_aload_n (pc := 34) hx hb dX1_turns_34 rfl (lv_at hl 0 rfl) ?_
        refine lv_iload_n (pc := 35) hx hb dX1_turns_35 rfl (lv_at hl 1 rfl) ?_
        refine lv_iload_n (pc := 36) hx hb dX1_turns_36 rfl (lv_at hl 2 rfl) ?_
        refine lv_iload (pc := 37) hx hb dX1_turns_37 (lv_at hl 4 rfl) ?_
        refine uX1_areLike (pc := 39) X hml hw h ⟨show 1 + 1 ≤ 21 + 1 * d by omega, show 8 + (5 + 11) + (23) ≤ 1027 + 27 * d by omega⟩ hl.1 (Nat.le_of_ble_eq_true rfl) ⟨Nat.le_refl _, Nat.le_refl _⟩ dX1_turns_39 (fun r15 S16 H locs h hw => ?_)
        refine lv_if_ne (pc := 42) (tgt := 48) hx hb dX1_turns_42 rfl (fun c17 => ?_) (fun c17 => ?_)
        · have h := h.2 c17
          refine lv_aload_n (pc := 48) hx hb dX1_turns_48 rfl (lv_at hl 0 rfl) ?_
          refine mg25 (pc := 49) X hw dX1_turns_49 ?_
          refine lv_iload_n (pc := 52) hx hb dX1_turns_52 rfl (lv_at hl 2 rfl) ?_
          refine lv_iload (pc := 53) hx hb dX1_turns_53 (lv_at hl 4 rfl) ?_
          obtain ⟨hi, h⟩ := h
          refine ms25 (pc := 55) X hw hi dX1_turns_55 (fun H locs hw => ?_)
          refine lv_aload_n (pc := 56) hx hb dX1_turns_56 rfl (lv_at hl 0 rfl) ?_
          refine lv_iload_n (pc := 57) hx hb dX1_turns_57 rfl (lv_at hl 1 rfl) ?_
          refine lv_iload_n (pc := 58) hx hb dX1_turns_58 rfl (lv_at hl 2 rfl) ?_
          refine lv_iconst (pc := 59) (v := (1 : Int32)) hx hb dX1_turns_59 (by decide) ?_
          refine lv_iadd (pc := 60) hx hb dX1_turns_60 ?_
          refine lv_iload_n (pc := 61) hx hb dX1_turns_61 rfl (lv_at hl 3 rfl) ?_
          refine lv_iconst (pc := 62) (v := (1 : Int32)) hx hb dX1_turns_62 (by decide) ?_
          refine lv_iload (pc := 63) hx hb dX1_turns_63 (lv_at hl 4 rfl) ?_
          refine lv_ishl (pc := 65) hx hb dX1_turns_65 ?_
          refine lv_ior (pc := 66) hx hb dX1_turns_66 ?_
          refine m_call (pc := 67) (val := vV) (As := [.int x1, .int (x2 + (1 : Int32)), .int (x3 ||| ((1 : Int32) <<< (x4 &&& 31)))]) (rest := []) X hml hw (hI h) (lw_V q2273 q2275 qs71 q105 q2276) ⟨rfl, by decide, by decide, (by decide +kernel : (parseMethodDescriptor yX1_turns.desc).map (fun d => d.parameters.length) = some 3)⟩ ⟨show 20 + 1 * d + 1 ≤ 21 + 1 * d by omega, show 8 + (8 + 11) + (1000 + 27 * d) ≤ 1027 + 27 * d by omega⟩ hl.1 (Nat.le_of_ble_eq_true rfl) ⟨Nat.le_refl _, Nat.le_refl _⟩ dX1_turns_67 rfl (fun _ S19 H locs h hw => ?_)
          refine W.eq (g2 := F0 m 70 ls ([])) rfl ?_
          exact kX1_turns_70 X hml hr hlk hI ih _ _ _ _ _ _ _ _ h hw (lv_sub hl [0, 1, 2, 3, 4] rfl)
        · have h := h.1 c17
          refine lv_goto (pc := 45) (tgt := 70) hx hb dX1_turns_45 rfl ?_
          exact kX1_turns_70 X hml hr hlk hI ih _ _ _ _ _ _ _ _ h hw (lv_sub hl [0, 1, 2, 3, 4] rfl)
theorem tX1_turnsB {l : Launch} {G : gG} {h0 : Nat} {ad : Nat → Nat} {d : Nat} {rc : (Unit → MS → Prop) → MS → Int32 → Int32 → Int32 → Prop} (hd : mOk G h0 ad) (hI : ∀ {post : Unit → MS → Prop} {S : MS} {x1 : Int32} {x2 : Int32} {x3 : Int32}, rc post S x1 x2 x3 → Met l yX1_turns (ws_ yX1_turns cX1_turns 8 none) ⟨20 + 1 * d, 0, 0, 1000 + 27 * d⟩ (va_Pc (.ref h0 :: [.int x1, .int x2, .int x3]) (fun U => mBw G h0 ad S U.heap ∧ gK G U)) (gQ vV post (mBw G h0 ad) (mAd h0 ad)) 0 0 (mAd h0 ad)) {post : Unit → MS → Prop} {S : MS} {x1 : Int32} {x2 : Int32} {x3 : Int32} (h : wX1_turnsB rc post S x1 x2 x3) : Met l yX1_turns (ws_ yX1_turns cX1_turns 8 none) ⟨21 + 1 * d, 0, 0, 1027 + 27 * d⟩ (va_Pc (.ref h0 :: [.int x1, .int x2, .int x3]) (fun U => mBw G h0 ad S U.heap ∧ gK G U)) (gQ vV post (mBw G h0 ad) (mAd h0 ad)) 0 0 (mAd h0 ad) := by
  refine m_ofW (by decide) rfl hd (Nat.le_of_ble_eq_true rfl) (fun p e s m below meth c ls X hml hr hlk hw hl => ?_)
  have hl : lv_has ls 8 [(0, .ref h0), (1, .int x1), (2, .int x2), (3, .int x3)] := hl
  have hx := X.1
  have hb := X.2.1
  have hown := X.2.2.1
  have hts := X.2.2.2.1
  unfold wX1_turnsB at h
  refine lv_iload_n (pc := 0) hx hb dX1_turns_0 rfl (lv_at hl 2 rfl) ?_
  refine lv_aload_n (pc := 1) hx hb dX1_turns_1 rfl (lv_at hl 0 rfl) ?_
  refine mg0 (pc := 2) X hw dX1_turns_2 ?_
  refine lv_iload_n (pc := 5) hx hb dX1_turns_5 rfl (lv_at hl 1 rfl) ?_
  obtain ⟨hi, h⟩ := h
  refine ma0 (pc := 6) X hw hi dX1_turns_6 ?_
  refine lv_icmp_ge (pc := 7) (tgt := 77) hx hb dX1_turns_7 rfl (fun c1 => ?_) (fun c1 => ?_)
  · have h := h.1 c1
    refine lv_iconst (pc := 77) (v := (0 : Int32)) hx hb dX1_turns_77 (by decide) ?_
    refine lv_istore (pc := 78) (lv' := [(4, .int (0 : Int32)), (0, .ref h0), (1, .int x1), (2, .int x2), (3, .int x3)]) hx hb dX1_turns_78 hl (by decide) rfl (fun ls hl => ?_)
    obtain ⟨k, h⟩ := h
    exact kX1_turns_80 X hml hr hlk hI  k _ _ _ _ _ _ h hw (lv_sub hl [1, 2, 0] rfl)
  · have h := h.2 c1
    refine lv_iconst (pc := 10) (v := (0 : Int32)) hx hb dX1_turns_10 (by decide) ?_
    refine lv_istore (pc := 11) (lv' := [(4, .int (0 : Int32)), (0, .ref h0), (1, .int x1), (2, .int x2), (3, .int x3)]) hx hb dX1_turns_11 hl (by decide) rfl (fun ls hl => ?_)
    obtain ⟨k, h⟩ := h
    exact kX1_turns_13 X hml hr hlk hI  k _ _ _ _ _ _ _ _ h hw (lv_sub hl [1, 2, 3, 4, 0] rfl)
theorem tX1_turns {l : Launch} {G : gG} {h0 : Nat} {ad : Nat → Nat} (hd : mOk G h0 ad) : ∀ (d : Nat) {post : Unit → MS → Prop} {S : MS} {x1 : Int32} {x2 : Int32} {x3 : Int32}, wX1_turns d post S x1 x2 x3 → Met l yX1_turns (ws_ yX1_turns cX1_turns 8 none) ⟨20 + 1 * d, 0, 0, 1000 + 27 * d⟩ (va_Pc (.ref h0 :: [.int x1, .int x2, .int x3]) (fun U => mBw G h0 ad S U.heap ∧ gK G U)) (gQ vV post (mBw G h0 ad) (mAd h0 ad)) 0 0 (mAd h0 ad) := by
  intro d
  induction d with
  | zero =>
    intro post S x1 x2 x3 h
    exact False.elim h
  | succ d ih =>
    intro post S x1 x2 x3 h
    have h2 := tX1_turnsB (l := l) (d := d) hd (fun h => ih h) (show wX1_turnsB _ post S x1 x2 x3 from h)
    rw [show 20 + 1 * (d + 1) = 21 + 1 * d by omega, show 1000 + 27 * (d + 1) = 1027 + 27 * d by omega]
    exact h2
theorem uX1_turns {p : Program} {l : Launch} {e : Env} {R : Room} {s : State} {m : MethodId} {args : Array Value} {below : List Frame} {meth : Method} {c : Code} {H : Heap} {locs : List Loc} {cells slots : Nat} {Q : Jvm.State → Prop} {cc : ByteArray} {pc : Nat} {ls : Array Slot} {rest : List Value} {G : gG} {h0 : Nat} {ad : Nat → Nat} {post : Unit → MS → Prop} {S : MS} {x1 : Int32} {x2 : Int32} {x3 : Int32} {nL : Nat} (X : mX G h0 ad p s m args c cc) (hml : c.maxLocals = nL) (hw : mH G h0 ad s S H locs) (h : wX1_turns 6 post S x1 x2 x3) (hR : 26 + 1 ≤ R.frames ∧ 8 + (8 + 11) + 1162 ≤ R.locals) (hsz : ls.size = nL) (hr : (rest.map fun v => v.category).sum ≤ 8) (hc : cells ≤ R.cells ∧ slots ≤ R.slots) (d : decode cc pc = .ok (.invokevirtual 292, 3)) (kk : ∀ (r : Unit) (S1 : MS) (H1 : Heap) (locs1 : List Loc), post r S1 → mH G h0 ad s S1 H1 locs1 → W p l e R s m args below meth c H1 locs1 cells slots Q (F0 m (pc + 3) ls (rest))) : W p l e R s m args below meth c H locs cells slots Q (F0 m pc ls (.int x3 :: .int x2 :: .int x1 :: .ref h0 :: rest)) :=
  m_call (fr := 26) (lo := 1162) (val := vV) (post := post) (As := [.int x1, .int x2, .int x3]) X hml hw (tX1_turns X.2.2.2.2.2.1 6 h) (lw_V q2273 q2275 qs71 q105 q2276) ⟨rfl, by decide, by decide, (by decide +kernel : (parseMethodDescriptor yX1_turns.desc).map (fun d => d.parameters.length) = some 3)⟩ hR hsz hr hc d rfl kk
