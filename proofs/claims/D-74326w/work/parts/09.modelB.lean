set_option maxRecDepth 100000
set_option maxHeartbeats 4000000
def wX1_laysRounds_109 (K7 : Int32 → Int32 → Int32 → MS → Prop) (post : Unit → MS → Prop) (x1 : Int32) (x2 : Int32) (x3 : Int32) (S : MS) : Prop :=
  K7 x1 x2 (x3 + (1 : Int32)) S
def wX1_laysRounds_40 (K7 : Int32 → Int32 → Int32 → MS → Prop) (post : Unit → MS → Prop) : Nat → Int32 → Int32 → Int32 → Int32 → Int32 → MS → Prop
  | 0, _, _, _, _, _, _ => False
  | n + 1, x1, x2, x3, x4, x5, S => (((30001 : Int32) ≤ x5) → (wX1_of (fun r6 S7 => wX1_of (fun r8 S9 => wX1_of (fun r10 S11 => wX1_of (fun r12 S13 => wX1_laysLayer (fun _ S15 => wX1_laysRounds_109 K7 post x1 x2 x3 S15) S13 (0 : Int32) (1 : Int32) (x4 * r6) r8 r10 r12) S11 x1 x3 (3 : Int32)) S9 x1 x3 (2 : Int32)) S7 x1 x3 (1 : Int32)) S x1 x3 (0 : Int32))) ∧ (¬ ((30001 : Int32) ≤ x5) → (vp_in x5 180006 ∧ (vp_in ((30001 : Int32) + x5) 180006 ∧ (wX1_laysRounds_40 K7 post n x1 x2 x3 x4 (x5 + (1 : Int32)) (mB S 22 (vp_updL (S.2.2.2 22) ((30001 : Int32) + x5).toNatClampNeg (S.2.2.2 22 x5.toNatClampNeg)))))))
def wX1_laysRounds_7 (post : Unit → MS → Prop) : Nat → Int32 → Int32 → Int32 → MS → Prop
  | 0, _, _, _, _ => False
  | n + 1, x1, x2, x3, S => vp_in x1 5 ∧ ((((S.2.2.1 0 x1.toNatClampNeg) ≤ x3) → (post () S)) ∧ (¬ ((S.2.2.1 0 x1.toNatClampNeg) ≤ x3) → (vp_in (((5 : Int32) * x2) + x3) 600 ∧ ((((S.2.2.1 27 (((5 : Int32) * x2) + x3).toNatClampNeg) = (0 : Int32)) → (wX1_laysRounds_109 (fun x1 x2 x3 S => wX1_laysRounds_7 post n x1 x2 x3 S) post x1 x2 x3 S)) ∧ (¬ ((S.2.2.1 27 (((5 : Int32) * x2) + x3).toNatClampNeg) = (0 : Int32)) → ((∃ k, wX1_laysRounds_40 (fun x1 x2 x3 S => wX1_laysRounds_7 post n x1 x2 x3 S) post k x1 x2 x3 (S.2.2.1 27 (((5 : Int32) * x2) + x3).toNatClampNeg) (0 : Int32) S)))))))
def wX1_laysRounds (post : Unit → MS → Prop) (S : MS) (x1 : Int32) (x2 : Int32) : Prop :=
  wX1_laysNought (fun _ S2 => (∃ k, wX1_laysRounds_7 post k x1 x2 (0 : Int32) S2)) S (0 : Int32)
theorem kX1_laysRounds_109 {p : Program} {l : Launch} {e : Env} {s : State} {m : MethodId} {args : Array Value} {below : List Frame} {meth : Method} {c : Code} {G : gG} {h0 : Nat} {ad : Nat → Nat} {K7 : Int32 → Int32 → Int32 → MS → Prop} {post : Unit → MS → Prop} (X : mX G h0 ad p s m args c cX1_laysRounds) (hml : c.maxLocals = 6) (hr : meth.sig.returnType = none) (hlk : meth.locks = false) (hK7 : ∀ (x1 : Int32) (x2 : Int32) (x3 : Int32) (S : MS) (H : Heap) (locs : List Loc) (ls : Array Slot), K7 x1 x2 x3 S → mH G h0 ad s S H locs → lv_has ls 6 [(0, .ref h0), (1, .int x1), (2, .int x2), (3, .int x3)] → W p l e ⟨3, 0, 0, 78⟩ s m args below meth c H locs 0 0 (MQ below (gQ vV post (mBw G h0 ad) (mAd h0 ad)) args s 0 0 (mAd h0 ad)) (F0 m 7 ls [])) : ∀ (x1 : Int32) (x2 : Int32) (x3 : Int32) (S : MS) (H : Heap) (locs : List Loc) (ls : Array Slot), wX1_laysRounds_109 K7 post x1 x2 x3 S → mH G h0 ad s S H locs → lv_has ls 6 [(0, .ref h0), (1, .int x1), (2, .int x2), (3, .int x3)] → W p l e ⟨3, 0, 0, 78⟩ s m args below meth c H locs 0 0 (MQ below (gQ vV post (mBw G h0 ad) (mAd h0 ad)) args s 0 0 (mAd h0 ad)) (F0 m 109 ls []) := by
  have hx := X.1
  have hb := X.2.1
  have hown := X.2.2.1
  have hts := X.2.2.2.1
  intro x1 x2 x3 S H locs ls h hw hl
  unfold wX1_laysRounds_109 at h
  refine lv_iinc (pc := 109) (v := x3 + (1 : Int32)) (lv' := [(3, .int (x3 + (1 : Int32))), (0, .ref h0), (1, .int x1), (2, .int x2)]) hx hb dX1_laysRounds_109 hl (k := 3) rfl rfl (by decide) rfl (fun ls hl => ?_)
  refine lv_goto (pc := 112) (tgt := 7) hx hb dX1_laysRounds_112 rfl ?_
  exact hK7 _ _ _ _ _ _ _ h hw (lv_sub hl [1, 2, 3, 0] rfl)
theorem kX1_laysRounds_40 {p : Program} {l : Launch} {e : Env} {s : State} {m : MethodId} {args : Array Value} {below : List Frame} {meth : Method} {c : Code} {G : gG} {h0 : Nat} {ad : Nat → Nat} {K7 : Int32 → Int32 → Int32 → MS → Prop} {post : Unit → MS → Prop} (X : mX G h0 ad p s m args c cX1_laysRounds) (hml : c.maxLocals = 6) (hr : meth.sig.returnType = none) (hlk : meth.locks = false) (hK7 : ∀ (x1 : Int32) (x2 : Int32) (x3 : Int32) (S : MS) (H : Heap) (locs : List Loc) (ls : Array Slot), K7 x1 x2 x3 S → mH G h0 ad s S H locs → lv_has ls 6 [(0, .ref h0), (1, .int x1), (2, .int x2), (3, .int x3)] → W p l e ⟨3, 0, 0, 78⟩ s m args below meth c H locs 0 0 (MQ below (gQ vV post (mBw G h0 ad) (mAd h0 ad)) args s 0 0 (mAd h0 ad)) (F0 m 7 ls [])) : ∀ (n : Nat) (x1 : Int32) (x2 : Int32) (x3 : Int32) (x4 : Int32) (x5 : Int32) (S : MS) (H : Heap) (locs : List Loc) (ls : Array Slot), wX1_laysRounds_40 K7 post n x1 x2 x3 x4 x5 S → mH G h0 ad s S H locs → lv_has ls 6 [(0, .ref h0), (1, .int x1), (2, .int x2), (3, .int x3), (4, .int x4), (5, .int x5)] → W p l e ⟨3, 0, 0, 78⟩ s m args below meth c H locs 0 0 (MQ below (gQ vV post (mBw G h0 ad) (mAd h0 ad)) args s 0 0 (mAd h0 ad)) (F0 m 40 ls []) := by
  have hx := X.1
  have hb := X.2.1
  have hown := X.2.2.1
  have hts := X.2.2.2.1
  intro n
  induction n with
  | zero =>
    intro x1 x2 x3 x4 x5 S H locs ls h
    exact False.elim h
  | succ n ih =>
    intro x1 x2 x3 x4 x5 S H locs ls h hw hl
    unfold wX1_laysRounds_40 at h
    refine lv_iload (pc := 40) hx hb dX1_laysRounds_40 (lv_at hl 5 rfl) ?_
    refine lv_sipush (pc := 42) (v := (30001 : Int32)) hx hb dX1_laysRounds_42 (by decide) ?_
    refine lv_icmp_ge (pc := 45) (tgt := 72) hx hb dX1_laysRounds_45 rfl (fun c5 => ?_) (fun c5 => ?_)
    · have h := h.1 c5
      refine lv_aload_n (pc := 72) hx hb dX1_laysRounds_72 rfl (lv_at hl 0 rfl) ?_
      refine lv_iconst (pc := 73) (v := (0 : Int32)) hx hb dX1_laysRounds_73 (by decide) ?_
      refine lv_iconst (pc := 74) (v := (1 : Int32)) hx hb dX1_laysRounds_74 (by decide) ?_
      refine lv_iload (pc := 75) hx hb dX1_laysRounds_75 (lv_at hl 4 rfl) ?_
      refine lv_aload_n (pc := 77) hx hb dX1_laysRounds_77 rfl (lv_at hl 0 rfl) ?_
      refine lv_iload_n (pc := 78) hx hb dX1_laysRounds_78 rfl (lv_at hl 1 rfl) ?_
      refine lv_iload_n (pc := 79) hx hb dX1_laysRounds_79 rfl (lv_at hl 3 rfl) ?_
      refine lv_iconst (pc := 80) (v := (0 : Int32)) hx hb dX1_laysRounds_80 (by decide) ?_
      refine uX1_of (pc := 81) X hml hw h ⟨Nat.le_of_ble_eq_true rfl, Nat.le_of_ble_eq_true rfl⟩ hl.1 (Nat.le_of_ble_eq_true rfl) ⟨Nat.le_refl _, Nat.le_refl _⟩ dX1_laysRounds_81 (fun r6 S7 H locs h hw => ?_)
      refine lv_imul (pc := 84) hx hb dX1_laysRounds_84 ?_
      refine lv_aload_n (pc := 85) hx hb dX1_laysRounds_85 rfl (lv_at hl 0 rfl) ?_
      refine lv_iload_n (pc := 86) hx hb dX1_laysRounds_86 rfl (lv_at hl 1 rfl) ?_
      refine lv_iload_n (pc := 87) hx hb dX1_laysRounds_87 rfl (lv_at hl 3 rfl) ?_
      refine lv_iconst (pc := 88) (v := (1 : Int32)) hx hb dX1_laysRounds_88 (by decide) ?_
      refine uX1_of (pc := 89) X hml hw h ⟨Nat.le_of_ble_eq_true rfl, Nat.le_of_ble_eq_true rfl⟩ hl.1 (Nat.le_of_ble_eq_true rfl) ⟨Nat.le_refl _, Nat.le_refl _⟩ dX1_laysRounds_89 (fun r8 S9 H locs h hw => ?_)
      refine lv_aload_n (pc := 92) hx hb dX1_laysRounds_92 rfl (lv_at hl 0 rfl) ?_
      refine lv_iload_n (pc := 93) hx hb dX1_laysRounds_93 rfl (lv_at hl 1 rfl) ?_
      refine lv_iload_n (pc := 94) hx hb dX1_laysRounds_94 rfl (lv_at hl 3 rfl) ?_
      refine lv_iconst (pc := 95) (v := (2 : Int32)) hx hb dX1_laysRounds_95 (by decide) ?_
      refine uX1_of (pc := 96) X hml hw h ⟨Nat.le_of_ble_eq_true rfl, Nat.le_of_ble_eq_true rfl⟩ hl.1 (Nat.le_of_ble_eq_true rfl) ⟨Nat.le_refl _, Nat.le_refl _⟩ dX1_laysRounds_96 (fun r10 S11 H locs h hw => ?_)
      refine lv_aload_n (pc := 99) hx hb dX1_laysRounds_99 rfl (lv_at hl 0 rfl) ?_
      refine lv_iload_n (pc := 100) hx hb dX1_laysRounds_100 rfl (lv_at hl 1 rfl) ?_
      refine lv_iload_n (pc := 101) hx hb dX1_laysRounds_101 rfl (lv_at hl 3 rfl) ?_
      refine lv_iconst (pc := 102) (v := (3 : Int32)) hx hb dX1_laysRounds_102 (by decide) ?_
      refine uX1_of (pc := 103) X hml hw h ⟨Nat.le_of_ble_eq_true rfl, Nat.le_of_ble_eq_true rfl⟩ hl.1 (Nat.le_of_ble_eq_true rfl) ⟨Nat.le_refl _, Nat.le_refl _⟩ dX1_laysRounds_103 (fun r12 S13 H locs h hw => ?_)
      refine uX1_laysLayer (pc := 106) X hml hw h ⟨Nat.le_of_ble_eq_true rfl, Nat.le_of_ble_eq_true rfl⟩ hl.1 (Nat.le_of_ble_eq_true rfl) ⟨Nat.le_refl _, Nat.le_refl _⟩ dX1_laysRounds_106 (fun _ S15 H locs h hw => ?_)
      exact kX1_laysRounds_109 X hml hr hlk hK7 _ _ _ _ _ _ _ h hw (lv_sub hl [0, 1, 2, 3] rfl)
    · have h := h.2 c5
      refine lv_aload_n (pc := 48) hx hb dX1_laysRounds_48 rfl (lv_at hl 0 rfl) ?_
      refine mg22 (pc := 49) X hw dX1_laysRounds_49 ?_
      refine lv_sipush (pc := 52) (v := (30001 : Int32)) hx hb dX1_laysRounds_52 (by decide) ?_
      refine lv_iload (pc := 55) hx hb dX1_laysRounds_55 (lv_at hl 5 rfl) ?_
      refine lv_iadd (pc := 57) hx hb dX1_laysRounds_57 ?_
      refine lv_aload_n (pc := 58) hx hb dX1_laysRounds_58 rfl (lv_at hl 0 rfl) ?_
      refine mg22 (pc := 59) X hw dX1_laysRounds_59 ?_
      refine lv_iload (pc := 62) hx hb dX1_laysRounds_62 (lv_at hl 5 rfl) ?_
      obtain ⟨hi, h⟩ := h
      refine ma22 (pc := 64) X hw hi dX1_laysRounds_64 ?_
      obtain ⟨hi, h⟩ := h
      refine ms22 (pc := 65) X hw hi dX1_laysRounds_65 (fun H locs hw => ?_)
      refine lv_iinc (pc := 66) (v := x5 + (1 : Int32)) (lv' := [(5, .int (x5 + (1 : Int32))), (0, .ref h0), (1, .int x1), (2, .int x2), (3, .int x3), (4, .int x4)]) hx hb dX1_laysRounds_66 hl (k := 5) rfl rfl (by decide) rfl (fun ls hl => ?_)
      refine lv_goto (pc := 69) (tgt := 40) hx hb dX1_laysRounds_69 rfl ?_
      exact ih _ _ _ _ _ _ _ _ _ h hw (lv_sub hl [1, 2, 3, 4, 5, 0] rfl)
theorem kX1_laysRounds_7 {p : Program} {l : Launch} {e : Env} {s : State} {m : MethodId} {args : Array Value} {below : List Frame} {meth : Method} {c : Code} {G : gG} {h0 : Nat} {ad : Nat → Nat} {post : Unit → MS → Prop} (X : mX G h0 ad p s m args c cX1_laysRounds) (hml : c.maxLocals = 6) (hr : meth.sig.returnType = none) (hlk : meth.locks = false) : ∀ (n : Nat) (x1 : Int32) (x2 : Int32) (x3 : Int32) (S : MS) (H : Heap) (locs : List Loc) (ls : Array Slot), wX1_laysRounds_7 post n x1 x2 x3 S → mH G h0 ad s S H locs → lv_has ls 6 [(0, .ref h0), (1, .int x1), (2, .int x2), (3, .int x3)] → W p l e ⟨3, 0, 0, 78⟩ s m args below meth c H locs 0 0 (MQ below (gQ vV post (mBw G h0 ad) (mAd h0 ad)) args s 0 0 (mAd h0 ad)) (F0 m 7 ls []) := by
  have hx := X.1
  have hb := X.2.1
  have hown := X.2.2.1
  have hts := X.2.2.2.1
  intro n
  induction n with
  | zero =>
    intro x1 x2 x3 S H locs ls h
    exact False.elim h
  | succ n ih =>
    intro x1 x2 x3 S H locs ls h hw hl
    unfold wX1_laysRounds_7 at h
    refine lv_iload_n (pc := 7) hx hb dX1_laysRounds_7 rfl (lv_at hl 3 rfl) ?_
    refine lv_aload_n (pc := 8) hx hb dX1_laysRounds_8 rfl (lv_at hl 0 rfl) ?_
    refine mg0 (pc := 9) X hw dX1_laysRounds_9 ?_
    refine lv_iload_n (pc := 12) hx hb dX1_laysRounds_12 rfl (lv_at hl 1 rfl) ?_
    obtain ⟨hi, h⟩ := h
    refine ma0 (pc := 13) X hw hi dX1_laysRounds_13 ?_
    refine lv_icmp_ge (pc := 14) (tgt := 115) hx hb dX1_laysRounds_14 rfl (fun c3 => ?_) (fun c3 => ?_)
    · have h := h.1 c3
      exact W.vret (pc := 115) hx hb hr (fun t ht hW => m_ret (val := vV) (v := ()) hw h ht) hw.2.2.2 dX1_laysRounds_115 hlk
    · have h := h.2 c3
      refine lv_aload_n (pc := 17) hx hb dX1_laysRounds_17 rfl (lv_at hl 0 rfl) ?_
      refine mg27 (pc := 18) X hw dX1_laysRounds_18 ?_
      refine lv_iconst (pc := 21) (v := (5 : Int32)) hx hb dX1_laysRounds_21 (by decide) ?_
      refine lv_iload_n (pc := 22) hx hb dX1_laysRounds_22 rfl (lv_at hl 2 rfl) ?_
      refine lv_imul (pc := 23) hx hb dX1_laysRounds_23 ?_
      refine lv_iload_n (pc := 24) hx hb dX1_laysRounds_24 rfl (lv_at hl 3 rfl) ?_
      refine lv_iadd (pc := 25) hx hb dX1_laysRounds_25 ?_
      obtain ⟨hi, h⟩ := h
      refine ma27 (pc := 26) X hw hi dX1_laysRounds_26 ?_
      refine lv_istore (pc := 27) (lv' := [(4, .int (S.2.2.1 27 (((5 : Int32) * x2) + x3).toNatClampNeg)), (0, .ref h0), (1, .int x1), (2, .int x2), (3, .int x3)]) hx hb dX1_laysRounds_27 hl (by decide) rfl (fun ls hl => ?_)
      refine lv_iload (pc := 29) hx hb dX1_laysRounds_29 (lv_at hl 0 rfl) ?_
      refine lv_if_ne (pc := 31) (tgt := 37) hx hb dX1_laysRounds_31 rfl (fun c4 => ?_) (fun c4 => ?_)
      · have h := h.2 c4
        refine lv_iconst (pc := 37) (v := (0 : Int32)) hx hb dX1_laysRounds_37 (by decide) ?_
        refine lv_istore (pc := 38) (lv' := [(5, .int (0 : Int32)), (4, .int (S.2.2.1 27 (((5 : Int32) * x2) + x3).toNatClampNeg)), (0, .ref h0), (1, .int x1), (2, .int x2), (3, .int x3)]) hx hb dX1_laysRounds_38 hl (by decide) rfl (fun ls hl => ?_)
        obtain ⟨k, h⟩ := h
        exact kX1_laysRounds_40 X hml hr hlk ih k _ _ _ _ _ _ _ _ _ h hw (lv_sub hl [2, 3, 4, 5, 1, 0] rfl)
      · have h := h.1 c4
        refine lv_goto (pc := 34) (tgt := 109) hx hb dX1_laysRounds_34 rfl ?_
        exact kX1_laysRounds_109 X hml hr hlk ih _ _ _ _ _ _ _ h hw (lv_sub hl [1, 2, 3, 4] rfl)
theorem tX1_laysRounds {l : Launch} {G : gG} {h0 : Nat} {ad : Nat → Nat} (hd : mOk G h0 ad) {post : Unit → MS → Prop} {S : MS} {x1 : Int32} {x2 : Int32} (h : wX1_laysRounds post S x1 x2) : Met l yX1_laysRounds (ws_ yX1_laysRounds cX1_laysRounds 6 none) ⟨3, 0, 0, 78⟩ (va_Pc (.ref h0 :: [.int x1, .int x2]) (fun U => mBw G h0 ad S U.heap ∧ gK G U)) (gQ vV post (mBw G h0 ad) (mAd h0 ad)) 0 0 (mAd h0 ad) := by
  refine m_ofW (by decide) rfl hd (Nat.le_of_ble_eq_true rfl) (fun p e s m below meth c ls X hml hr hlk hw hl => ?_)
  have hl : lv_has ls 6 [(0, .ref h0), (1, .int x1), (2, .int x2)] := hl
  have hx := X.1
  have hb := X.2.1
  have hown := X.2.2.1
  have hts := X.2.2.2.1
  unfold wX1_laysRounds at h
  refine lv_aload_n (pc := 0) hx hb dX1_laysRounds_0 rfl (lv_at hl 0 rfl) ?_
  refine lv_iconst (pc := 1) (v := (0 : Int32)) hx hb dX1_laysRounds_1 (by decide) ?_
  refine uX1_laysNought (pc := 2) X hml hw h ⟨Nat.le_of_ble_eq_true rfl, Nat.le_of_ble_eq_true rfl⟩ hl.1 (Nat.le_of_ble_eq_true rfl) ⟨Nat.le_refl _, Nat.le_refl _⟩ dX1_laysRounds_2 (fun _ S2 H locs h hw => ?_)
  refine lv_iconst (pc := 5) (v := (0 : Int32)) hx hb dX1_laysRounds_5 (by decide) ?_
  refine lv_istore_n (pc := 6) (lv' := [(3, .int (0 : Int32)), (0, .ref h0), (1, .int x1), (2, .int x2)]) hx hb dX1_laysRounds_6 rfl hl (by decide) rfl (fun ls hl => ?_)
  obtain ⟨k, h⟩ := h
  exact kX1_laysRounds_7 X hml hr hlk  k _ _ _ _ _ _ _ h hw (lv_sub hl [1, 2, 3, 0] rfl)
theorem uX1_laysRounds {p : Program} {l : Launch} {e : Env} {R : Room} {s : State} {m : MethodId} {args : Array Value} {below : List Frame} {meth : Method} {c : Code} {H : Heap} {locs : List Loc} {cells slots : Nat} {Q : Jvm.State → Prop} {cc : ByteArray} {pc : Nat} {ls : Array Slot} {rest : List Value} {G : gG} {h0 : Nat} {ad : Nat → Nat} {post : Unit → MS → Prop} {S : MS} {x1 : Int32} {x2 : Int32} {nL : Nat} (X : mX G h0 ad p s m args c cc) (hml : c.maxLocals = nL) (hw : mH G h0 ad s S H locs) (h : wX1_laysRounds post S x1 x2) (hR : 3 + 1 ≤ R.frames ∧ 8 + (6 + 11) + 78 ≤ R.locals) (hsz : ls.size = nL) (hr : (rest.map fun v => v.category).sum ≤ 8) (hc : cells ≤ R.cells ∧ slots ≤ R.slots) (d : decode cc pc = .ok (.invokevirtual 296, 3)) (kk : ∀ (r : Unit) (S1 : MS) (H1 : Heap) (locs1 : List Loc), post r S1 → mH G h0 ad s S1 H1 locs1 → W p l e R s m args below meth c H1 locs1 cells slots Q (F0 m (pc + 3) ls (rest))) : W p l e R s m args below meth c H locs cells slots Q (F0 m pc ls (.int x2 :: .int x1 :: .ref h0 :: rest)) :=
  m_call (val := vV) (post := post) (As := [.int x1, .int x2]) X hml hw (tX1_laysRounds X.2.2.2.2.2.1 h) (lw_V q2289 q2291 qs75 q105 q2292) ⟨rfl, by decide, by decide, (by decide +kernel : (parseMethodDescriptor yX1_laysRounds.desc).map (fun d => d.parameters.length) = some 2)⟩ hR hsz hr hc d rfl kk

def wX1_readWay_226 (post : Int32 → MS → Prop) (S : MS) : Prop :=
  post (1 : Int32) S
def wX1_readWay_201 (post : Int32 → MS → Prop) (x2 : Int32) (x3 : Int64) (S : MS) : Prop :=
  wX1_isSign (fun r8 S9 => ((r8 = (0 : Int32)) → (wX1_readWay_226 post S9)) ∧ (¬ (r8 = (0 : Int32)) → (((x3 = x2.toInt64) → (wX1_readWay_226 post S9)) ∧ (¬ (x3 = x2.toInt64) → (wX1_fails (fun r12 S13 => ((r12 = (0 : Int32)) → (post (0 : Int32) S13)) ∧ (¬ (r12 = (0 : Int32)) → (wX1_readWay_226 post S13))) S9 (8 : Int32)))))) S (59 : Int32)
def wX1_readWay_171 (K19 : Int32 → Int32 → Int64 → Int32 → Int32 → MS → Prop) (post : Int32 → MS → Prop) (x1 : Int32) (x2 : Int32) (x3 : Int64) (x5 : Int32) (x6 : Int32) (S : MS) : Prop :=
  K19 x1 x2 x3 x5 x6 S
def wX1_readWay_51 (K19 : Int32 → Int32 → Int64 → Int32 → Int32 → MS → Prop) (post : Int32 → MS → Prop) (x1 : Int32) (x2 : Int32) (x3 : Int64) (x5 : Int32) (v0 : Int32) (S : MS) : Prop :=
  ((v0 = (0 : Int32)) → (wX1_fails (fun r49 S50 => isB r49 ∧ post r49 S50) S (1 : Int32))) ∧ (¬ (v0 = (0 : Int32)) → (vp_in x1 5 ∧ (((x5 = (S.2.2.1 0 x1.toNatClampNeg)) → (wX1_fails (fun r47 S48 => isB r47 ∧ post r47 S48) S (7 : Int32))) ∧ (¬ (x5 = (S.2.2.1 0 x1.toNatClampNeg)) → (wX1_comesToWhole (fun r23 S24 => ((r23 = (0 : Int32)) → (post (0 : Int32) S24)) ∧ (¬ (r23 = (0 : Int32)) → (wX1_whole (fun r26 S27 => wX1_of (fun r28 S29 => wX1_of (fun r30 S31 => wX1_isIn (fun r32 => ((r32 = (0 : Int32)) → (wX1_fails (fun r45 S46 => isB r45 ∧ post r45 S46) S31 (6 : Int32))) ∧ (¬ (r32 = (0 : Int32)) → (wX1_whole (fun r34 S35 => wX1_valueOf (fun r36 S37 => wX1_next (fun _ S39 => wX1_isSign (fun r40 S41 => ((r40 = (0 : Int32)) → (wX1_readWay_171 K19 post x1 x2 (x3 + r36) (x5 + (1 : Int32)) r40 S41)) ∧ (¬ (r40 = (0 : Int32)) → (wX1_next (fun _ S44 => wX1_readWay_171 K19 post x1 x2 (x3 + r36) (x5 + (1 : Int32)) r40 S44) S41))) (mI S39 19 (-1 : Int32)) (44 : Int32)) S37) S35 x1 x5 r34.toInt64) S31))) r26.toInt64 r28.toInt64 r30.toInt64) S29 x1 x5 (3 : Int32)) S27 x1 x5 (2 : Int32)) S24))) S)))))
def wX1_readWay_46 (K19 : Int32 → Int32 → Int64 → Int32 → Int32 → MS → Prop) (post : Int32 → MS → Prop) (x1 : Int32) (x2 : Int32) (x3 : Int64) (x5 : Int32) (S : MS) : Prop :=
  wX1_readWay_51 K19 post x1 x2 x3 x5 (1 : Int32) S
def wX1_readWay_19 (post : Int32 → MS → Prop) : Nat → Int32 → Int32 → Int64 → Int32 → Int32 → MS → Prop
  | 0, _, _, _, _, _, _ => False
  | n + 1, x1, x2, x3, x5, x6, S => ((x6 = (0 : Int32)) → (wX1_isSign (fun r5 S6 => ((r5 = (0 : Int32)) → (wX1_readWay_201 post x2 x3 S6)) ∧ (¬ (r5 = (0 : Int32)) → (vp_in x1 5 ∧ ((((S6.2.2.1 0 x1.toNatClampNeg) ≤ x5) → (wX1_readWay_201 post x2 x3 S6)) ∧ (¬ ((S6.2.2.1 0 x1.toNatClampNeg) ≤ x5) → (wX1_fails (fun r16 S17 => isB r16 ∧ post r16 S17) S6 (7 : Int32))))))) S (59 : Int32))) ∧ (¬ (x6 = (0 : Int32)) → (wX1_isNumber (fun r18 S19 => ((r18 = (0 : Int32)) → (wX1_isSign (fun r51 S52 => ((r51 = (0 : Int32)) → (wX1_readWay_51 (fun x1 x2 x3 x5 x6 S => wX1_readWay_19 post n x1 x2 x3 x5 x6 S) post x1 x2 x3 x5 (0 : Int32) S52)) ∧ (¬ (r51 = (0 : Int32)) → (wX1_readWay_46 (fun x1 x2 x3 x5 x6 S => wX1_readWay_19 post n x1 x2 x3 x5 x6 S) post x1 x2 x3 x5 S52))) S19 (45 : Int32))) ∧ (¬ (r18 = (0 : Int32)) → (wX1_readWay_46 (fun x1 x2 x3 x5 x6 S => wX1_readWay_19 post n x1 x2 x3 x5 x6 S) post x1 x2 x3 x5 S19))) (mI S 19 x5)))
def wX1_readWay (post : Int32 → MS → Prop) (S : MS) (x1 : Int32) (x2 : Int32) : Prop :=
  wX1_takesSign (fun r1 S2 => ((r1 = (0 : Int32)) → (post (0 : Int32) S2)) ∧ (¬ (r1 = (0 : Int32)) → ((∃ k, wX1_readWay_19 post k x1 x2 (0 : Int64) (0 : Int32) (1 : Int32) S2)))) S (61 : Int32)
theorem kX1_readWay_226 {p : Program} {l : Launch} {e : Env} {s : State} {m : MethodId} {args : Array Value} {below : List Frame} {meth : Method} {c : Code} {G : gG} {h0 : Nat} {ad : Nat → Nat} {post : Int32 → MS → Prop} (X : mX G h0 ad p s m args c cX1_readWay) (hml : c.maxLocals = 8) (hr : meth.sig.returnType = (some .boolean)) (hlk : meth.locks = false) : ∀ (S : MS) (H : Heap) (locs : List Loc) (ls : Array Slot), wX1_readWay_226 post S → mH G h0 ad s S H locs → lv_has ls 8 [] → W p l e ⟨3, 0, 0, 67⟩ s m args below meth c H locs 0 0 (MQ below (gQ vI post (mBw G h0 ad) (mAd h0 ad)) args s 0 0 (mAd h0 ad)) (F0 m 226 ls []) := by
  have hx := X.1
  have hb := X.2.1
  have hown := X.2.2.1
  have hts := X.2.2.2.1
  intro S H locs ls h hw hl
  unfold wX1_readWay_226 at h
  refine lv_iconst (pc := 226) (v := (1 : Int32)) hx hb dX1_readWay_226 (by decide) ?_
  refine lv_goto (pc := 227) (tgt := 231) hx hb dX1_readWay_227 rfl ?_
  exact W.zret (pc := 231) hx hb hr rfl (fun t ht hW => m_ret (val := vI) hw h ht) hw.2.2.2 dX1_readWay_231 hlk
theorem kX1_readWay_201 {p : Program} {l : Launch} {e : Env} {s : State} {m : MethodId} {args : Array Value} {below : List Frame} {meth : Method} {c : Code} {G : gG} {h0 : Nat} {ad : Nat → Nat} {post : Int32 → MS → Prop} (X : mX G h0 ad p s m args c cX1_readWay) (hml : c.maxLocals = 8) (hr : meth.sig.returnType = (some .boolean)) (hlk : meth.locks = false) : ∀ (x2 : Int32) (x3 : Int64) (S : MS) (H : Heap) (locs : List Loc) (ls : Array Slot), wX1_readWay_201 post x2 x3 S → mH G h0 ad s S H locs → lv_has ls 8 [(0, .ref h0), (2, .int x2), (3, .long x3)] → W p l e ⟨3, 0, 0, 67⟩ s m args below meth c H locs 0 0 (MQ below (gQ vI post (mBw G h0 ad) (mAd h0 ad)) args s 0 0 (mAd h0 ad)) (F0 m 201 ls []) := by
  have hx := X.1
  have hb := X.2.1
  have hown := X.2.2.1
  have hts := X.2.2.2.1
  intro x2 x3 S H locs ls h hw hl
  unfold wX1_readWay_201 at h
  refine lv_aload_n (pc := 201) hx hb dX1_readWay_201 rfl (lv_at hl 0 rfl) ?_
  refine lv_bipush (pc := 202) (v := (59 : Int32)) hx hb dX1_readWay_202 (by decide) ?_
  refine uX1_isSign (pc := 204) X hml hw h ⟨Nat.le_of_ble_eq_true rfl, Nat.le_of_ble_eq_true rfl⟩ hl.1 (Nat.le_of_ble_eq_true rfl) ⟨Nat.le_refl _, Nat.le_refl _⟩ dX1_readWay_204 (fun r8 S9 H locs h hw => ?_)
  refine lv_if_eq (pc := 207) (tgt := 226) hx hb dX1_readWay_207 rfl (fun c10 => ?_) (fun c10 => ?_)
  · have h := h.1 c10
    exact kX1_readWay_226 X hml hr hlk   _ _ _ _ h hw (lv_sub hl [] rfl)
  · have h := h.2 c10
    refine lv_lload_n (pc := 210) hx hb dX1_readWay_210 rfl (lv_at hl 2 rfl) ?_
    refine lv_iload_n (pc := 211) hx hb dX1_readWay_211 rfl (lv_at hl 1 rfl) ?_
    refine lv_i2l (pc := 212) hx hb dX1_readWay_212 rfl ?_
    refine W.lcmp (pc := 213) hx hb dX1_readWay_213 ?_
    refine lv_if_eq (pc := 214) (tgt := 226) hx hb dX1_readWay_214 rfl (fun c11 => ?_) (fun c11 => ?_)
    · have h := h.1 ((lg_cmp_eq _ _).mp c11)
      exact kX1_readWay_226 X hml hr hlk   _ _ _ _ h hw (lv_sub hl [] rfl)
    · have h := h.2 (fun z => c11 ((lg_cmp_eq _ _).mpr z))
      refine lv_aload_n (pc := 217) hx hb dX1_readWay_217 rfl (lv_at hl 0 rfl) ?_
      refine lv_bipush (pc := 218) (v := (8 : Int32)) hx hb dX1_readWay_218 (by decide) ?_
      refine uX1_fails (pc := 220) X hml hw h ⟨Nat.le_of_ble_eq_true rfl, Nat.le_of_ble_eq_true rfl⟩ hl.1 (Nat.le_of_ble_eq_true rfl) ⟨Nat.le_refl _, Nat.le_refl _⟩ dX1_readWay_220 (fun r12 S13 H locs h hw => ?_)
      refine lv_if_eq (pc := 223) (tgt := 230) hx hb dX1_readWay_223 rfl (fun c14 => ?_) (fun c14 => ?_)
      · have h := h.1 c14
        refine lv_iconst (pc := 230) (v := (0 : Int32)) hx hb dX1_readWay_230 (by decide) ?_
        exact W.zret (pc := 231) hx hb hr rfl (fun t ht hW => m_ret (val := vI) hw h ht) hw.2.2.2 dX1_readWay_231 hlk
      · have h := h.2 c14
        exact kX1_readWay_226 X hml hr hlk   _ _ _ _ h hw (lv_sub hl [] rfl)
theorem kX1_readWay_171 {p : Program} {l : Launch} {e : Env} {s : State} {m : MethodId} {args : Array Value} {below : List Frame} {meth : Method} {c : Code} {G : gG} {h0 : Nat} {ad : Nat → Nat} {K19 : Int32 → Int32 → Int64 → Int32 → Int32 → MS → Prop} {post : Int32 → MS → Prop} (X : mX G h0 ad p s m args c cX1_readWay) (hml : c.maxLocals = 8) (hr : meth.sig.returnType = (some .boolean)) (hlk : meth.locks = false) (hK19 : ∀ (x1 : Int32) (x2 : Int32) (x3 : Int64) (x5 : Int32) (x6 : Int32) (S : MS) (H : Heap) (locs : List Loc) (ls : Array Slot), K19 x1 x2 x3 x5 x6 S → mH G h0 ad s S H locs → lv_has ls 8 [(0, .ref h0), (1, .int x1), (2, .int x2), (3, .long x3), (5, .int x5), (6, .int x6)] → W p l e ⟨3, 0, 0, 67⟩ s m args below meth c H locs 0 0 (MQ below (gQ vI post (mBw G h0 ad) (mAd h0 ad)) args s 0 0 (mAd h0 ad)) (F0 m 19 ls [])) : ∀ (x1 : Int32) (x2 : Int32) (x3 : Int64) (x5 : Int32) (x6 : Int32) (S : MS) (H : Heap) (locs : List Loc) (ls : Array Slot), wX1_readWay_171 K19 post x1 x2 x3 x5 x6 S → mH G h0 ad s S H locs → lv_has ls 8 [(0, .ref h0), (1, .int x1), (2, .int x2), (3, .long x3), (5, .int x5), (6, .int x6)] → W p l e ⟨3, 0, 0, 67⟩ s m args below meth c H locs 0 0 (MQ below (gQ vI post (mBw G h0 ad) (mAd h0 ad)) args s 0 0 (mAd h0 ad)) (F0 m 171 ls []) := by
  have hx := X.1
  have hb := X.2.1
  have hown := X.2.2.1
  have hts := X.2.2.2.1
  intro x1 x2 x3 x5 x6 S H locs ls h hw hl
  unfold wX1_readWay_171 at h
  refine lv_goto (pc := 171) (tgt := 19) hx hb dX1_readWay_171 rfl ?_
  exact hK19 _ _ _ _ _ _ _ _ _ h hw (lv_sub hl [0, 1, 2, 3, 4, 5] rfl)
theorem kX1_readWay_51 {p : Program} {l : Launch} {e : Env} {s : State} {m : MethodId} {args : Array Value} {below : List Frame} {meth : Method} {c : Code} {G : gG} {h0 : Nat} {ad : Nat → Nat} {K19 : Int32 → Int32 → Int64 → Int32 → Int32 → MS → Prop} {post : Int32 → MS → Prop} (X : mX G h0 ad p s m args c cX1_readWay) (hml : c.maxLocals = 8) (hr : meth.sig.returnType = (some .boolean)) (hlk : meth.locks = false) (hK19 : ∀ (x1 : Int32) (x2 : Int32) (x3 : Int64) (x5 : Int32) (x6 : Int32) (S : MS) (H : Heap) (locs : List Loc) (ls : Array Slot), K19 x1 x2 x3 x5 x6 S → mH G h0 ad s S H locs → lv_has ls 8 [(0, .ref h0), (1, .int x1), (2, .int x2), (3, .long x3), (5, .int x5), (6, .int x6)] → W p l e ⟨3, 0, 0, 67⟩ s m args below meth c H locs 0 0 (MQ below (gQ vI post (mBw G h0 ad) (mAd h0 ad)) args s 0 0 (mAd h0 ad)) (F0 m 19 ls [])) : ∀ (x1 : Int32) (x2 : Int32) (x3 : Int64) (x5 : Int32) (v0 : Int32) (S : MS) (H : Heap) (locs : List Loc) (ls : Array Slot), wX1_readWay_51 K19 post x1 x2 x3 x5 v0 S → mH G h0 ad s S H locs → lv_has ls 8 [(0, .ref h0), (1, .int x1), (2, .int x2), (3, .long x3), (5, .int x5)] → W p l e ⟨3, 0, 0, 67⟩ s m args below meth c H locs 0 0 (MQ below (gQ vI post (mBw G h0 ad) (mAd h0 ad)) args s 0 0 (mAd h0 ad)) (F0 m 51 ls [.int v0]) := by
  have hx := X.1
  have hb := X.2.1
  have hown := X.2.2.1
  have hts := X.2.2.2.1
  intro x1 x2 x3 x5 v0 S H locs ls h hw hl
  unfold wX1_readWay_51 at h
  refine lv_istore (pc := 51) (lv' := [(7, .int v0), (0, .ref h0), (1, .int x1), (2, .int x2), (3, .long x3), (5, .int x5)]) hx hb dX1_readWay_51 hl (by decide) rfl (fun ls hl => ?_)
  refine lv_iload (pc := 53) hx hb dX1_readWay_53 (lv_at hl 0 rfl) ?_
  refine lv_if_ne (pc := 55) (tgt := 64) hx hb dX1_readWay_55 rfl (fun c21 => ?_) (fun c21 => ?_)
  · have h := h.2 c21
    refine lv_iload (pc := 64) hx hb dX1_readWay_64 (lv_at hl 5 rfl) ?_
    refine lv_aload_n (pc := 66) hx hb dX1_readWay_66 rfl (lv_at hl 1 rfl) ?_
    refine mg0 (pc := 67) X hw dX1_readWay_67 ?_
    refine lv_iload_n (pc := 70) hx hb dX1_readWay_70 rfl (lv_at hl 2 rfl) ?_
    obtain ⟨hi, h⟩ := h
    refine ma0 (pc := 71) X hw hi dX1_readWay_71 ?_
    refine lv_icmp_ne (pc := 72) (tgt := 82) hx hb dX1_readWay_72 rfl (fun c22 => ?_) (fun c22 => ?_)
    · have h := h.2 c22
      refine lv_aload_n (pc := 82) hx hb dX1_readWay_82 rfl (lv_at hl 1 rfl) ?_
      refine uX1_comesToWhole (pc := 83) X hml hw h ⟨Nat.le_of_ble_eq_true rfl, Nat.le_of_ble_eq_true rfl⟩ hl.1 (Nat.le_of_ble_eq_true rfl) ⟨Nat.le_refl _, Nat.le_refl _⟩ dX1_readWay_83 (fun r23 S24 H locs h hw => ?_)
      refine lv_if_ne (pc := 86) (tgt := 91) hx hb dX1_readWay_86 rfl (fun c25 => ?_) (fun c25 => ?_)
      · have h := h.2 c25
        refine lv_aload_n (pc := 91) hx hb dX1_readWay_91 rfl (lv_at hl 1 rfl) ?_
        refine uX1_whole (pc := 92) X hml hw h ⟨Nat.le_of_ble_eq_true rfl, Nat.le_of_ble_eq_true rfl⟩ hl.1 (Nat.le_of_ble_eq_true rfl) ⟨Nat.le_refl _, Nat.le_refl _⟩ dX1_readWay_92 (fun r26 S27 H locs h hw => ?_)
        refine lv_i2l (pc := 95) hx hb dX1_readWay_95 rfl ?_
        refine lv_aload_n (pc := 96) hx hb dX1_readWay_96 rfl (lv_at hl 1 rfl) ?_
        refine lv_iload_n (pc := 97) hx hb dX1_readWay_97 rfl (lv_at hl 2 rfl) ?_
        refine lv_iload (pc := 98) hx hb dX1_readWay_98 (lv_at hl 5 rfl) ?_
        refine lv_iconst (pc := 100) (v := (2 : Int32)) hx hb dX1_readWay_100 (by decide) ?_
        refine uX1_of (pc := 101) X hml hw h ⟨Nat.le_of_ble_eq_true rfl, Nat.le_of_ble_eq_true rfl⟩ hl.1 (Nat.le_of_ble_eq_true rfl) ⟨Nat.le_refl _, Nat.le_refl _⟩ dX1_readWay_101 (fun r28 S29 H locs h hw => ?_)
        refine lv_i2l (pc := 104) hx hb dX1_readWay_104 rfl ?_
        refine lv_aload_n (pc := 105) hx hb dX1_readWay_105 rfl (lv_at hl 1 rfl) ?_
        refine lv_iload_n (pc := 106) hx hb dX1_readWay_106 rfl (lv_at hl 2 rfl) ?_
        refine lv_iload (pc := 107) hx hb dX1_readWay_107 (lv_at hl 5 rfl) ?_
        refine lv_iconst (pc := 109) (v := (3 : Int32)) hx hb dX1_readWay_109 (by decide) ?_
        refine uX1_of (pc := 110) X hml hw h ⟨Nat.le_of_ble_eq_true rfl, Nat.le_of_ble_eq_true rfl⟩ hl.1 (Nat.le_of_ble_eq_true rfl) ⟨Nat.le_refl _, Nat.le_refl _⟩ dX1_readWay_110 (fun r30 S31 H locs h hw => ?_)
        refine lv_i2l (pc := 113) hx hb dX1_readWay_113 rfl ?_
        refine uX1_isIn (pc := 114) ⟨hx, hb, hml, hown, hts⟩ h ⟨Nat.le_of_ble_eq_true rfl, Nat.le_of_ble_eq_true rfl⟩ hl.1 (Nat.le_of_ble_eq_true rfl) ⟨Nat.le_refl _, Nat.le_refl _⟩ dX1_readWay_114 (fun r32 h => ?_)
        refine lv_if_ne (pc := 117) (tgt := 127) hx hb dX1_readWay_117 rfl (fun c33 => ?_) (fun c33 => ?_)
        · have h := h.2 c33
          refine lv_lload_n (pc := 127) hx hb dX1_readWay_127 rfl (lv_at hl 4 rfl) ?_
          refine lv_aload_n (pc := 128) hx hb dX1_readWay_128 rfl (lv_at hl 1 rfl) ?_
          refine lv_iload_n (pc := 129) hx hb dX1_readWay_129 rfl (lv_at hl 2 rfl) ?_
          refine lv_iload (pc := 130) hx hb dX1_readWay_130 (lv_at hl 5 rfl) ?_
          refine lv_aload_n (pc := 132) hx hb dX1_readWay_132 rfl (lv_at hl 1 rfl) ?_
          refine uX1_whole (pc := 133) X hml hw h ⟨Nat.le_of_ble_eq_true rfl, Nat.le_of_ble_eq_true rfl⟩ hl.1 (Nat.le_of_ble_eq_true rfl) ⟨Nat.le_refl _, Nat.le_refl _⟩ dX1_readWay_133 (fun r34 S35 H locs h hw => ?_)
          refine lv_i2l (pc := 136) hx hb dX1_readWay_136 rfl ?_
          refine uX1_valueOf (pc := 137) X hml hw h ⟨Nat.le_of_ble_eq_true rfl, Nat.le_of_ble_eq_true rfl⟩ hl.1 (Nat.le_of_ble_eq_true rfl) ⟨Nat.le_refl _, Nat.le_refl _⟩ dX1_readWay_137 (fun r36 S37 H locs h hw => ?_)
          refine lv_ladd (pc := 140) hx hb dX1_readWay_140 ?_
          refine lv_lstore_n (pc := 141) (lv' := [(3, .long (x3 + r36)), (7, .int v0), (0, .ref h0), (1, .int x1), (2, .int x2), (5, .int x5)]) hx hb dX1_readWay_141 rfl hl (by decide) rfl (fun ls hl => ?_)
          refine lv_aload_n (pc := 142) hx hb dX1_readWay_142 rfl (lv_at hl 2 rfl) ?_
          refine uX1_next (pc := 143) X hml hw h ⟨Nat.le_of_ble_eq_true rfl, Nat.le_of_ble_eq_true rfl⟩ hl.1 (Nat.le_of_ble_eq_true rfl) ⟨Nat.le_refl _, Nat.le_refl _⟩ dX1_readWay_143 (fun _ S39 H locs h hw => ?_)
          refine lv_aload_n (pc := 146) hx hb dX1_readWay_146 rfl (lv_at hl 2 rfl) ?_
          refine lv_iconst (pc := 147) (v := (-1 : Int32)) hx hb dX1_readWay_147 (by decide) ?_
          refine mp19 (pc := 148) X hw dX1_readWay_148 (fun H locs hw => ?_)
          refine lv_iinc (pc := 151) (v := x5 + (1 : Int32)) (lv' := [(5, .int (x5 + (1 : Int32))), (3, .long (x3 + r36)), (7, .int v0), (0, .ref h0), (1, .int x1), (2, .int x2)]) hx hb dX1_readWay_151 hl (k := 5) rfl rfl (by decide) rfl (fun ls hl => ?_)
          refine lv_aload_n (pc := 154) hx hb dX1_readWay_154 rfl (lv_at hl 3 rfl) ?_
          refine lv_bipush (pc := 155) (v := (44 : Int32)) hx hb dX1_readWay_155 (by decide) ?_
          refine uX1_isSign (pc := 157) X hml hw h ⟨Nat.le_of_ble_eq_true rfl, Nat.le_of_ble_eq_true rfl⟩ hl.1 (Nat.le_of_ble_eq_true rfl) ⟨Nat.le_refl _, Nat.le_refl _⟩ dX1_readWay_157 (fun r40 S41 H locs h hw => ?_)
          refine lv_istore (pc := 160) (lv' := [(6, .int r40), (5, .int (x5 + (1 : Int32))), (3, .long (x3 + r36)), (7, .int v0), (0, .ref h0), (1, .int x1), (2, .int x2)]) hx hb dX1_readWay_160 hl (by decide) rfl (fun ls hl => ?_)
          refine lv_iload (pc := 162) hx hb dX1_readWay_162 (lv_at hl 0 rfl) ?_
          refine lv_if_eq (pc := 164) (tgt := 171) hx hb dX1_readWay_164 rfl (fun c42 => ?_) (fun c42 => ?_)
          · have h := h.1 c42
            exact kX1_readWay_171 X hml hr hlk hK19 _ _ _ _ _ _ _ _ _ h hw (lv_sub hl [4, 5, 6, 2, 1, 0] rfl)
          · have h := h.2 c42
            refine lv_aload_n (pc := 167) hx hb dX1_readWay_167 rfl (lv_at hl 4 rfl) ?_
            refine uX1_next (pc := 168) X hml hw h ⟨Nat.le_of_ble_eq_true rfl, Nat.le_of_ble_eq_true rfl⟩ hl.1 (Nat.le_of_ble_eq_true rfl) ⟨Nat.le_refl _, Nat.le_refl _⟩ dX1_readWay_168 (fun _ S44 H locs h hw => ?_)
            exact kX1_readWay_171 X hml hr hlk hK19 _ _ _ _ _ _ _ _ _ h hw (lv_sub hl [4, 5, 6, 2, 1, 0] rfl)
        · have h := h.1 c33
          refine lv_aload_n (pc := 120) hx hb dX1_readWay_120 rfl (lv_at hl 1 rfl) ?_
          refine lv_bipush (pc := 121) (v := (6 : Int32)) hx hb dX1_readWay_121 (by decide) ?_
          refine uX1_fails (pc := 123) X hml hw h ⟨Nat.le_of_ble_eq_true rfl, Nat.le_of_ble_eq_true rfl⟩ hl.1 (Nat.le_of_ble_eq_true rfl) ⟨Nat.le_refl _, Nat.le_refl _⟩ dX1_readWay_123 (fun r45 S46 H locs h hw => ?_)
          obtain ⟨hB, h⟩ := h
          exact W.zret (pc := 126) hx hb hr (isB_n hB) (fun t ht hW => m_ret (val := vI) hw h ht) hw.2.2.2 dX1_readWay_126 hlk
      · have h := h.1 c25
        refine lv_iconst (pc := 89) (v := (0 : Int32)) hx hb dX1_readWay_89 (by decide) ?_
        exact W.zret (pc := 90) hx hb hr rfl (fun t ht hW => m_ret (val := vI) hw h ht) hw.2.2.2 dX1_readWay_90 hlk
    · have h := h.1 c22
      refine lv_aload_n (pc := 75) hx hb dX1_readWay_75 rfl (lv_at hl 1 rfl) ?_
      refine lv_bipush (pc := 76) (v := (7 : Int32)) hx hb dX1_readWay_76 (by decide) ?_
      refine uX1_fails (pc := 78) X hml hw h ⟨Nat.le_of_ble_eq_true rfl, Nat.le_of_ble_eq_true rfl⟩ hl.1 (Nat.le_of_ble_eq_true rfl) ⟨Nat.le_refl _, Nat.le_refl _⟩ dX1_readWay_78 (fun r47 S48 H locs h hw => ?_)
      obtain ⟨hB, h⟩ := h
      exact W.zret (pc := 81) hx hb hr (isB_n hB) (fun t ht hW => m_ret (val := vI) hw h ht) hw.2.2.2 dX1_readWay_81 hlk
  · have h := h.1 c21
    refine lv_aload_n (pc := 58) hx hb dX1_readWay_58 rfl (lv_at hl 1 rfl) ?_
    refine lv_iconst (pc := 59) (v := (1 : Int32)) hx hb dX1_readWay_59 (by decide) ?_
    refine uX1_fails (pc := 60) X hml hw h ⟨Nat.le_of_ble_eq_true rfl, Nat.le_of_ble_eq_true rfl⟩ hl.1 (Nat.le_of_ble_eq_true rfl) ⟨Nat.le_refl _, Nat.le_refl _⟩ dX1_readWay_60 (fun r49 S50 H locs h hw => ?_)
    obtain ⟨hB, h⟩ := h
    exact W.zret (pc := 63) hx hb hr (isB_n hB) (fun t ht hW => m_ret (val := vI) hw h ht) hw.2.2.2 dX1_readWay_63 hlk
theorem kX1_readWay_46 {p : Program} {l : Launch} {e : Env} {s : State} {m : MethodId} {args : Array Value} {below : List Frame} {meth : Method} {c : Code} {G : gG} {h0 : Nat} {ad : Nat → Nat} {K19 : Int32 → Int32 → Int64 → Int32 → Int32 → MS → Prop} {post : Int32 → MS → Prop} (X : mX G h0 ad p s m args c cX1_readWay) (hml : c.maxLocals = 8) (hr : meth.sig.returnType = (some .boolean)) (hlk : meth.locks = false) (hK19 : ∀ (x1 : Int32) (x2 : Int32) (x3 : Int64) (x5 : Int32) (x6 : Int32) (S : MS) (H : Heap) (locs : List Loc) (ls : Array Slot), K19 x1 x2 x3 x5 x6 S → mH G h0 ad s S H locs → lv_has ls 8 [(0, .ref h0), (1, .int x1), (2, .int x2), (3, .long x3), (5, .int x5), (6, .int x6)] → W p l e ⟨3, 0, 0, 67⟩ s m args below meth c H locs 0 0 (MQ below (gQ vI post (mBw G h0 ad) (mAd h0 ad)) args s 0 0 (mAd h0 ad)) (F0 m 19 ls [])) : ∀ (x1 : Int32) (x2 : Int32) (x3 : Int64) (x5 : Int32) (S : MS) (H : Heap) (locs : List Loc) (ls : Array Slot), wX1_readWay_46 K19 post x1 x2 x3 x5 S → mH G h0 ad s S H locs → lv_has ls 8 [(0, .ref h0), (1, .int x1), (2, .int x2), (3, .long x3), (5, .int x5)] → W p l e ⟨3, 0, 0, 67⟩ s m args below meth c H locs 0 0 (MQ below (gQ vI post (mBw G h0 ad) (mAd h0 ad)) args s 0 0 (mAd h0 ad)) (F0 m 46 ls []) := by
  have hx := X.1
  have hb := X.2.1
  have hown := X.2.2.1
  have hts := X.2.2.2.1
  intro x1 x2 x3 x5 S H locs ls h hw hl
  unfold wX1_readWay_46 at h
  refine lv_iconst (pc := 46) (v := (1 : Int32)) hx hb dX1_readWay_46 (by decide) ?_
  refine lv_goto (pc := 47) (tgt := 51) hx hb dX1_readWay_47 rfl ?_
  exact kX1_readWay_51 X hml hr hlk hK19 _ _ _ _ _ _ _ _ _ h hw (lv_sub hl [0, 1, 2, 3, 4] rfl)
theorem kX1_readWay_19 {p : Program} {l : Launch} {e : Env} {s : State} {m : MethodId} {args : Array Value} {below : List Frame} {meth : Method} {c : Code} {G : gG} {h0 : Nat} {ad : Nat → Nat} {post : Int32 → MS → Prop} (X : mX G h0 ad p s m args c cX1_readWay) (hml : c.maxLocals = 8) (hr : meth.sig.returnType = (some .boolean)) (hlk : meth.locks = false) : ∀ (n : Nat) (x1 : Int32) (x2 : Int32) (x3 : Int64) (x5 : Int32) (x6 : Int32) (S : MS) (H : Heap) (locs : List Loc) (ls : Array Slot), wX1_readWay_19 post n x1 x2 x3 x5 x6 S → mH G h0 ad s S H locs → lv_has ls 8 [(0, .ref h0), (1, .int x1), (2, .int x2), (3, .long x3), (5, .int x5), (6, .int x6)] → W p l e ⟨3, 0, 0, 67⟩ s m args below meth c H locs 0 0 (MQ below (gQ vI post (mBw G h0 ad) (mAd h0 ad)) args s 0 0 (mAd h0 ad)) (F0 m 19 ls []) := by
  have hx := X.1
  have hb := X.2.1
  have hown := X.2.2.1
  have hts := X.2.2.2.1
  intro n
  induction n with
  | zero =>
    intro x1 x2 x3 x5 x6 S H locs ls h
    exact False.elim h
  | succ n ih =>
    intro x1 x2 x3 x5 x6 S H locs ls h hw hl
    unfold wX1_readWay_19 at h
    refine lv_iload (pc := 19) hx hb dX1_readWay_19 (lv_at hl 5 rfl) ?_
    refine lv_if_eq (pc := 21) (tgt := 174) hx hb dX1_readWay_21 rfl (fun c4 => ?_) (fun c4 => ?_)
    · have h := h.1 c4
      refine lv_aload_n (pc := 174) hx hb dX1_readWay_174 rfl (lv_at hl 0 rfl) ?_
      refine lv_bipush (pc := 175) (v := (59 : Int32)) hx hb dX1_readWay_175 (by decide) ?_
      refine uX1_isSign (pc := 177) X hml hw h ⟨Nat.le_of_ble_eq_true rfl, Nat.le_of_ble_eq_true rfl⟩ hl.1 (Nat.le_of_ble_eq_true rfl) ⟨Nat.le_refl _, Nat.le_refl _⟩ dX1_readWay_177 (fun r5 S6 H locs h hw => ?_)
      refine lv_if_eq (pc := 180) (tgt := 201) hx hb dX1_readWay_180 rfl (fun c7 => ?_) (fun c7 => ?_)
      · have h := h.1 c7
        exact kX1_readWay_201 X hml hr hlk  _ _ _ _ _ _ h hw (lv_sub hl [0, 2, 3] rfl)
      · have h := h.2 c7
        refine lv_iload (pc := 183) hx hb dX1_readWay_183 (lv_at hl 4 rfl) ?_
        refine lv_aload_n (pc := 185) hx hb dX1_readWay_185 rfl (lv_at hl 0 rfl) ?_
        refine mg0 (pc := 186) X hw dX1_readWay_186 ?_
        refine lv_iload_n (pc := 189) hx hb dX1_readWay_189 rfl (lv_at hl 1 rfl) ?_
        obtain ⟨hi, h⟩ := h
        refine ma0 (pc := 190) X hw hi dX1_readWay_190 ?_
        refine lv_icmp_ge (pc := 191) (tgt := 201) hx hb dX1_readWay_191 rfl (fun c15 => ?_) (fun c15 => ?_)
        · have h := h.1 c15
          exact kX1_readWay_201 X hml hr hlk  _ _ _ _ _ _ h hw (lv_sub hl [0, 2, 3] rfl)
        · have h := h.2 c15
          refine lv_aload_n (pc := 194) hx hb dX1_readWay_194 rfl (lv_at hl 0 rfl) ?_
          refine lv_bipush (pc := 195) (v := (7 : Int32)) hx hb dX1_readWay_195 (by decide) ?_
          refine uX1_fails (pc := 197) X hml hw h ⟨Nat.le_of_ble_eq_true rfl, Nat.le_of_ble_eq_true rfl⟩ hl.1 (Nat.le_of_ble_eq_true rfl) ⟨Nat.le_refl _, Nat.le_refl _⟩ dX1_readWay_197 (fun r16 S17 H locs h hw => ?_)
          obtain ⟨hB, h⟩ := h
          exact W.zret (pc := 200) hx hb hr (isB_n hB) (fun t ht hW => m_ret (val := vI) hw h ht) hw.2.2.2 dX1_readWay_200 hlk
    · have h := h.2 c4
      refine lv_aload_n (pc := 24) hx hb dX1_readWay_24 rfl (lv_at hl 0 rfl) ?_
      refine lv_iload (pc := 25) hx hb dX1_readWay_25 (lv_at hl 4 rfl) ?_
      refine mp19 (pc := 27) X hw dX1_readWay_27 (fun H locs hw => ?_)
      refine lv_aload_n (pc := 30) hx hb dX1_readWay_30 rfl (lv_at hl 0 rfl) ?_
      refine uX1_isNumber (pc := 31) X hml hw h ⟨Nat.le_of_ble_eq_true rfl, Nat.le_of_ble_eq_true rfl⟩ hl.1 (Nat.le_of_ble_eq_true rfl) ⟨Nat.le_refl _, Nat.le_refl _⟩ dX1_readWay_31 (fun r18 S19 H locs h hw => ?_)
      refine lv_if_ne (pc := 34) (tgt := 46) hx hb dX1_readWay_34 rfl (fun c20 => ?_) (fun c20 => ?_)
      · have h := h.2 c20
        exact kX1_readWay_46 X hml hr hlk ih _ _ _ _ _ _ _ _ h hw (lv_sub hl [0, 1, 2, 3, 4] rfl)
      · have h := h.1 c20
        refine lv_aload_n (pc := 37) hx hb dX1_readWay_37 rfl (lv_at hl 0 rfl) ?_
        refine lv_bipush (pc := 38) (v := (45 : Int32)) hx hb dX1_readWay_38 (by decide) ?_
        refine uX1_isSign (pc := 40) X hml hw h ⟨Nat.le_of_ble_eq_true rfl, Nat.le_of_ble_eq_true rfl⟩ hl.1 (Nat.le_of_ble_eq_true rfl) ⟨Nat.le_refl _, Nat.le_refl _⟩ dX1_readWay_40 (fun r51 S52 H locs h hw => ?_)
        refine lv_if_eq (pc := 43) (tgt := 50) hx hb dX1_readWay_43 rfl (fun c53 => ?_) (fun c53 => ?_)
        · have h := h.1 c53
          refine lv_iconst (pc := 50) (v := (0 : Int32)) hx hb dX1_readWay_50 (by decide) ?_
          exact kX1_readWay_51 X hml hr hlk ih _ _ _ _ _ _ _ _ _ h hw (lv_sub hl [0, 1, 2, 3, 4] rfl)
        · have h := h.2 c53
          exact kX1_readWay_46 X hml hr hlk ih _ _ _ _ _ _ _ _ h hw (lv_sub hl [0, 1, 2, 3, 4] rfl)
theorem tX1_readWay {l : Launch} {G : gG} {h0 : Nat} {ad : Nat → Nat} (hd : mOk G h0 ad) {post : Int32 → MS → Prop} {S : MS} {x1 : Int32} {x2 : Int32} (h : wX1_readWay post S x1 x2) : Met l yX1_readWay (ws_ yX1_readWay cX1_readWay 8 (some .boolean)) ⟨3, 0, 0, 67⟩ (va_Pc (.ref h0 :: [.int x1, .int x2]) (fun U => mBw G h0 ad S U.heap ∧ gK G U)) (gQ vI post (mBw G h0 ad) (mAd h0 ad)) 0 0 (mAd h0 ad) := by
  refine m_ofW (by decide) rfl hd (Nat.le_of_ble_eq_true rfl) (fun p e s m below meth c ls X hml hr hlk hw hl => ?_)
  have hl : lv_has ls 8 [(0, .ref h0), (1, .int x1), (2, .int x2)] := hl
  have hx := X.1
  have hb := X.2.1
  have hown := X.2.2.1
  have hts := X.2.2.2.1
  unfold wX1_readWay at h
  refine lv_aload_n (pc := 0) hx hb dX1_readWay_0 rfl (lv_at hl 0 rfl) ?_
  refine lv_bipush (pc := 1) (v := (61 : Int32)) hx hb dX1_readWay_1 (by decide) ?_
  refine uX1_takesSign (pc := 3) X hml hw h ⟨Nat.le_of_ble_eq_true rfl, Nat.le_of_ble_eq_true rfl⟩ hl.1 (Nat.le_of_ble_eq_true rfl) ⟨Nat.le_refl _, Nat.le_refl _⟩ dX1_readWay_3 (fun r1 S2 H locs h hw => ?_)
  refine lv_if_ne (pc := 6) (tgt := 11) hx hb dX1_readWay_6 rfl (fun c3 => ?_) (fun c3 => ?_)
  · have h := h.2 c3
    refine lv_lconst (pc := 11) (v := (0 : Int64)) hx hb dX1_readWay_11 (by decide) ?_
    refine lv_lstore_n (pc := 12) (lv' := [(3, .long (0 : Int64)), (0, .ref h0), (1, .int x1), (2, .int x2)]) hx hb dX1_readWay_12 rfl hl (by decide) rfl (fun ls hl => ?_)
    refine lv_iconst (pc := 13) (v := (0 : Int32)) hx hb dX1_readWay_13 (by decide) ?_
    refine lv_istore (pc := 14) (lv' := [(5, .int (0 : Int32)), (3, .long (0 : Int64)), (0, .ref h0), (1, .int x1), (2, .int x2)]) hx hb dX1_readWay_14 hl (by decide) rfl (fun ls hl => ?_)
    refine lv_iconst (pc := 16) (v := (1 : Int32)) hx hb dX1_readWay_16 (by decide) ?_
    refine lv_istore (pc := 17) (lv' := [(6, .int (1 : Int32)), (5, .int (0 : Int32)), (3, .long (0 : Int64)), (0, .ref h0), (1, .int x1), (2, .int x2)]) hx hb dX1_readWay_17 hl (by decide) rfl (fun ls hl => ?_)
    obtain ⟨k, h⟩ := h
    exact kX1_readWay_19 X hml hr hlk  k _ _ _ _ _ _ _ _ _ h hw (lv_sub hl [3, 4, 5, 2, 1, 0] rfl)
  · have h := h.1 c3
    refine lv_iconst (pc := 9) (v := (0 : Int32)) hx hb dX1_readWay_9 (by decide) ?_
    exact W.zret (pc := 10) hx hb hr rfl (fun t ht hW => m_ret (val := vI) hw h ht) hw.2.2.2 dX1_readWay_10 hlk
theorem uX1_readWay {p : Program} {l : Launch} {e : Env} {R : Room} {s : State} {m : MethodId} {args : Array Value} {below : List Frame} {meth : Method} {c : Code} {H : Heap} {locs : List Loc} {cells slots : Nat} {Q : Jvm.State → Prop} {cc : ByteArray} {pc : Nat} {ls : Array Slot} {rest : List Value} {G : gG} {h0 : Nat} {ad : Nat → Nat} {post : Int32 → MS → Prop} {S : MS} {x1 : Int32} {x2 : Int32} {nL : Nat} (X : mX G h0 ad p s m args c cc) (hml : c.maxLocals = nL) (hw : mH G h0 ad s S H locs) (h : wX1_readWay post S x1 x2) (hR : 3 + 1 ≤ R.frames ∧ 8 + (8 + 11) + 67 ≤ R.locals) (hsz : ls.size = nL) (hr : (rest.map fun v => v.category).sum ≤ 8) (hc : cells ≤ R.cells ∧ slots ≤ R.slots) (d : decode cc pc = .ok (.invokevirtual 332, 3)) (kk : ∀ (r : Int32) (S1 : MS) (H1 : Heap) (locs1 : List Loc), post r S1 → mH G h0 ad s S1 H1 locs1 → W p l e R s m args below meth c H1 locs1 cells slots Q (F0 m (pc + 3) ls (.int r :: rest))) : W p l e R s m args below meth c H locs cells slots Q (F0 m pc ls (.int x2 :: .int x1 :: .ref h0 :: rest)) :=
  m_call (val := vI) (post := post) (As := [.int x1, .int x2]) X hml hw (tX1_readWay X.2.2.2.2.2.1 h) (lw_V q2324 q2326 qs80 q105 q2327) ⟨rfl, by decide, by decide, (by decide +kernel : (parseMethodDescriptor yX1_readWay.desc).map (fun d => d.parameters.length) = some 2)⟩ hR hsz hr hc d rfl kk

def wX1_readPart_221 (rc : (Int32 → MS → Prop) → MS → Prop) (post : Int32 → MS → Prop) (S : MS) : Prop :=
  wX1_next (fun _ S18 => post (1 : Int32) S18) S
def wX1_readPart_196 (rc : (Int32 → MS → Prop) → MS → Prop) (post : Int32 → MS → Prop) (x1 : Int32) (v0 : Int32) (v1 : Int32) (S : MS) : Prop :=
  wX1_puts (fun _ S15 => ((x1 = (0 : Int32)) → (wX1_readPart_221 rc post S15)) ∧ (¬ (x1 = (0 : Int32)) → (wX1_readPart_221 rc post (mI S15 40 ((S15.1 40) ||| ((1 : Int32) <<< ((((S15.2.1 15).toInt32) - (1 : Int32)) &&& 31))))))) S v1 v0
def wX1_readPart_178 (rc : (Int32 → MS → Prop) → MS → Prop) (post : Int32 → MS → Prop) (x1 : Int32) (v0 : Int32) (S : MS) : Prop :=
  ((x1 = (0 : Int32)) → (wX1_readPart_196 rc post x1 (S.1 16) v0 S)) ∧ (¬ (x1 = (0 : Int32)) → (wX1_readPart_196 rc post x1 (((S.2.1 15).toInt32) - (1 : Int32)) v0 S))
def wX1_readPart_89 (rc : (Int32 → MS → Prop) → MS → Prop) (post : Int32 → MS → Prop) (x1 : Int32) (S : MS) : Prop :=
  (((S.1 38) = (60 : Int32)) → (wX1_fails (fun r27 S28 => isB r27 ∧ post r27 S28) S (12 : Int32))) ∧ (¬ ((S.1 38) = (60 : Int32)) → (wX1_isSign (fun r9 S10 => ((r9 = (0 : Int32)) → (((x1 = (0 : Int32)) → (wX1_readPart_178 rc post x1 (0 : Int32) S10)) ∧ (¬ (x1 = (0 : Int32)) → (wX1_readPart_178 rc post x1 (1 : Int32) S10)))) ∧ (¬ (r9 = (0 : Int32)) → (wX1_next (fun _ S20 => rc (fun r21 S22 => ((r21 = (0 : Int32)) → (post (0 : Int32) S22)) ∧ (¬ (r21 = (0 : Int32)) → (wX1_takesSign (fun r24 S25 => ((r24 = (0 : Int32)) → (post (0 : Int32) S25)) ∧ (¬ (r24 = (0 : Int32)) → (post (1 : Int32) (mI S25 19 ((S25.1 19) - (1 : Int32)))))) S22 (41 : Int32)))) S20) (mI S10 19 ((S10.1 19) + (1 : Int32)))))) (mI S 38 ((S.1 38) + (1 : Int32))) (40 : Int32)))
def wX1_readPart_64 (rc : (Int32 → MS → Prop) → MS → Prop) (post : Int32 → MS → Prop) (x1 : Int32) (S : MS) : Prop :=
  wX1_isSign (fun r5 S6 => ((r5 = (0 : Int32)) → (wX1_readPart_89 rc post x1 S6)) ∧ (¬ (r5 = (0 : Int32)) → ((((S6.1 19) = (6 : Int32)) → (wX1_fails (fun r30 S31 => isB r30 ∧ post r30 S31) S6 (11 : Int32))) ∧ (¬ ((S6.1 19) = (6 : Int32)) → (wX1_readPart_89 rc post x1 S6))))) S (40 : Int32)
def wX1_readPart_37 (rc : (Int32 → MS → Prop) → MS → Prop) (post : Int32 → MS → Prop) (v0 : Int32) (S : MS) : Prop :=
  wX1_isNumber (fun r2 S3 => ((r2 = (0 : Int32)) → (((v0 = (0 : Int32)) → (wX1_isSign (fun r33 S34 => ((r33 = (0 : Int32)) → (wX1_fails (fun r36 S37 => isB r36 ∧ post r36 S37) S34 (1 : Int32))) ∧ (¬ (r33 = (0 : Int32)) → (wX1_readPart_64 rc post v0 S34))) S3 (40 : Int32))) ∧ (¬ (v0 = (0 : Int32)) → (wX1_readPart_64 rc post v0 S3)))) ∧ (¬ (r2 = (0 : Int32)) → (wX1_readPart_64 rc post v0 S3))) S
def wX1_readPart_36 (rc : (Int32 → MS → Prop) → MS → Prop) (post : Int32 → MS → Prop) (S : MS) : Prop :=
  wX1_readPart_37 rc post (0 : Int32) S
def wX1_readPart (rc : (Int32 → MS → Prop) → MS → Prop) (post : Int32 → MS → Prop) (S : MS) : Prop :=
  (((S.1 12) = (1 : Int32)) → (((((S.1 14) - (S.1 13)) = (1 : Int32)) → ((((6 : Int64) < (S.2.1 15)) → (wX1_readPart_36 rc post S)) ∧ (¬ ((6 : Int64) < (S.2.1 15)) → (wX1_readPart_37 rc post (1 : Int32) S)))) ∧ (¬ (((S.1 14) - (S.1 13)) = (1 : Int32)) → (wX1_readPart_36 rc post S)))) ∧ (¬ ((S.1 12) = (1 : Int32)) → (wX1_readPart_36 rc post S))
theorem kX1_readPart_221 {p : Program} {l : Launch} {e : Env} {s : State} {m : MethodId} {args : Array Value} {below : List Frame} {meth : Method} {c : Code} {G : gG} {h0 : Nat} {ad : Nat → Nat} {d : Nat} {rc : (Int32 → MS → Prop) → MS → Prop} {post : Int32 → MS → Prop} (X : mX G h0 ad p s m args c cX1_readPart) (hml : c.maxLocals = 2) (hr : meth.sig.returnType = (some .boolean)) (hlk : meth.locks = false) (hI : ∀ {post : Int32 → MS → Prop} {S : MS}, rc post S → Met l yX1_readSum (ws_ yX1_readSum cX1_readSum 2 (some .boolean)) ⟨20 + 4 * d, 0, 0, 1000 + 82 * d⟩ (va_Pc (.ref h0 :: []) (fun U => mBw G h0 ad S U.heap ∧ gK G U)) (gQ vI post (mBw G h0 ad) (mAd h0 ad)) 0 0 (mAd h0 ad)) : ∀ (S : MS) (H : Heap) (locs : List Loc) (ls : Array Slot), wX1_readPart_221 rc post S → mH G h0 ad s S H locs → lv_has ls 2 [(0, .ref h0)] → W p l e ⟨21 + 4 * d, 0, 0, 1021 + 82 * d⟩ s m args below meth c H locs 0 0 (MQ below (gQ vI post (mBw G h0 ad) (mAd h0 ad)) args s 0 0 (mAd h0 ad)) (F0 m 221 ls []) := by
  have hx := X.1
  have hb := X.2.1
  have hown := X.2.2.1
  have hts := X.2.2.2.1
  intro S H locs ls h hw hl
  unfold wX1_readPart_221 at h
  refine lv_aload_n (pc := 221) hx hb dX1_readPart_221 rfl (lv_at hl 0 rfl) ?_
  refine uX1_next (pc := 222) X hml hw h ⟨show 1 + 1 ≤ 21 + 4 * d by omega, show 8 + (2 + 11) + (25) ≤ 1021 + 82 * d by omega⟩ hl.1 (Nat.le_of_ble_eq_true rfl) ⟨Nat.le_refl _, Nat.le_refl _⟩ dX1_readPart_222 (fun _ S18 H locs h hw => ?_)
  refine lv_iconst (pc := 225) (v := (1 : Int32)) hx hb dX1_readPart_225 (by decide) ?_
  exact W.zret (pc := 226) hx hb hr rfl (fun t ht hW => m_ret (val := vI) hw h ht) hw.2.2.2 dX1_readPart_226 hlk
theorem kX1_readPart_196 {p : Program} {l : Launch} {e : Env} {s : State} {m : MethodId} {args : Array Value} {below : List Frame} {meth : Method} {c : Code} {G : gG} {h0 : Nat} {ad : Nat → Nat} {d : Nat} {rc : (Int32 → MS → Prop) → MS → Prop} {post : Int32 → MS → Prop} (X : mX G h0 ad p s m args c cX1_readPart) (hml : c.maxLocals = 2) (hr : meth.sig.returnType = (some .boolean)) (hlk : meth.locks = false) (hI : ∀ {post : Int32 → MS → Prop} {S : MS}, rc post S → Met l yX1_readSum (ws_ yX1_readSum cX1_readSum 2 (some .boolean)) ⟨20 + 4 * d, 0, 0, 1000 + 82 * d⟩ (va_Pc (.ref h0 :: []) (fun U => mBw G h0 ad S U.heap ∧ gK G U)) (gQ vI post (mBw G h0 ad) (mAd h0 ad)) 0 0 (mAd h0 ad)) : ∀ (x1 : Int32) (v0 : Int32) (v1 : Int32) (S : MS) (H : Heap) (locs : List Loc) (ls : Array Slot), wX1_readPart_196 rc post x1 v0 v1 S → mH G h0 ad s S H locs → lv_has ls 2 [(0, .ref h0), (1, .int x1)] → W p l e ⟨21 + 4 * d, 0, 0, 1021 + 82 * d⟩ s m args below meth c H locs 0 0 (MQ below (gQ vI post (mBw G h0 ad) (mAd h0 ad)) args s 0 0 (mAd h0 ad)) (F0 m 196 ls [.int v0, .int v1, .ref h0]) := by
  have hx := X.1
  have hb := X.2.1
  have hown := X.2.2.1
  have hts := X.2.2.2.1
  intro x1 v0 v1 S H locs ls h hw hl
  unfold wX1_readPart_196 at h
  refine uX1_puts (pc := 196) X hml hw h ⟨show 0 + 1 ≤ 21 + 4 * d by omega, show 8 + (3 + 11) + (0) ≤ 1021 + 82 * d by omega⟩ hl.1 (Nat.le_of_ble_eq_true rfl) ⟨Nat.le_refl _, Nat.le_refl _⟩ dX1_readPart_196 (fun _ S15 H locs h hw => ?_)
  refine lv_iload_n (pc := 199) hx hb dX1_readPart_199 rfl (lv_at hl 1 rfl) ?_
  refine lv_if_eq (pc := 200) (tgt := 221) hx hb dX1_readPart_200 rfl (fun c16 => ?_) (fun c16 => ?_)
  · have h := h.1 c16
    exact kX1_readPart_221 X hml hr hlk hI   _ _ _ _ h hw (lv_sub hl [0] rfl)
  · have h := h.2 c16
    refine lv_aload_n (pc := 203) hx hb dX1_readPart_203 rfl (lv_at hl 0 rfl) ?_
    refine lv_dup (pc := 204) hx hb dX1_readPart_204 rfl ?_
    refine mg40 (pc := 205) X hw dX1_readPart_205 ?_
    refine lv_iconst (pc := 208) (v := (1 : Int32)) hx hb dX1_readPart_208 (by decide) ?_
    refine lv_aload_n (pc := 209) hx hb dX1_readPart_209 rfl (lv_at hl 0 rfl) ?_
    refine mg15 (pc := 210) X hw dX1_readPart_210 ?_
    refine lv_l2i (pc := 213) hx hb dX1_readPart_213 rfl ?_
    refine lv_iconst (pc := 214) (v := (1 : Int32)) hx hb dX1_readPart_214 (by decide) ?_
    refine lv_isub (pc := 215) hx hb dX1_readPart_215 ?_
    refine lv_ishl (pc := 216) hx hb dX1_readPart_216 ?_
    refine lv_ior (pc := 217) hx hb dX1_readPart_217 ?_
    refine mp40 (pc := 218) X hw dX1_readPart_218 (fun H locs hw => ?_)
    exact kX1_readPart_221 X hml hr hlk hI   _ _ _ _ h hw (lv_sub hl [0] rfl)
theorem kX1_readPart_178 {p : Program} {l : Launch} {e : Env} {s : State} {m : MethodId} {args : Array Value} {below : List Frame} {meth : Method} {c : Code} {G : gG} {h0 : Nat} {ad : Nat → Nat} {d : Nat} {rc : (Int32 → MS → Prop) → MS → Prop} {post : Int32 → MS → Prop} (X : mX G h0 ad p s m args c cX1_readPart) (hml : c.maxLocals = 2) (hr : meth.sig.returnType = (some .boolean)) (hlk : meth.locks = false) (hI : ∀ {post : Int32 → MS → Prop} {S : MS}, rc post S → Met l yX1_readSum (ws_ yX1_readSum cX1_readSum 2 (some .boolean)) ⟨20 + 4 * d, 0, 0, 1000 + 82 * d⟩ (va_Pc (.ref h0 :: []) (fun U => mBw G h0 ad S U.heap ∧ gK G U)) (gQ vI post (mBw G h0 ad) (mAd h0 ad)) 0 0 (mAd h0 ad)) : ∀ (x1 : Int32) (v0 : Int32) (S : MS) (H : Heap) (locs : List Loc) (ls : Array Slot), wX1_readPart_178 rc post x1 v0 S → mH G h0 ad s S H locs → lv_has ls 2 [(0, .ref h0), (1, .int x1)] → W p l e ⟨21 + 4 * d, 0, 0, 1021 + 82 * d⟩ s m args below meth c H locs 0 0 (MQ below (gQ vI post (mBw G h0 ad) (mAd h0 ad)) args s 0 0 (mAd h0 ad)) (F0 m 178 ls [.int v0, .ref h0]) := by
  have hx := X.1
  have hb := X.2.1
  have hown := X.2.2.1
  have hts := X.2.2.2.1
  intro x1 v0 S H locs ls h hw hl
  unfold wX1_readPart_178 at h
  refine lv_iload_n (pc := 178) hx hb dX1_readPart_178 rfl (lv_at hl 1 rfl) ?_
  refine lv_if_eq (pc := 179) (tgt := 192) hx hb dX1_readPart_179 rfl (fun c13 => ?_) (fun c13 => ?_)
  · have h := h.1 c13
    refine lv_aload_n (pc := 192) hx hb dX1_readPart_192 rfl (lv_at hl 0 rfl) ?_
    refine mg16 (pc := 193) X hw dX1_readPart_193 ?_
    exact kX1_readPart_196 X hml hr hlk hI  _ _ _ _ _ _ _ h hw (lv_sub hl [0, 1] rfl)
  · have h := h.2 c13
    refine lv_aload_n (pc := 182) hx hb dX1_readPart_182 rfl (lv_at hl 0 rfl) ?_
    refine mg15 (pc := 183) X hw dX1_readPart_183 ?_
    refine lv_l2i (pc := 186) hx hb dX1_readPart_186 rfl ?_
    refine lv_iconst (pc := 187) (v := (1 : Int32)) hx hb dX1_readPart_187 (by decide) ?_
    refine lv_isub (pc := 188) hx hb dX1_readPart_188 ?_
    refine lv_goto (pc := 189) (tgt := 196) hx hb dX1_readPart_189 rfl ?_
    exact kX1_readPart_196 X hml hr hlk hI  _ _ _ _ _ _ _ h hw (lv_sub hl [0, 1] rfl)
theorem kX1_readPart_89 {p : Program} {l : Launch} {e : Env} {s : State} {m : MethodId} {args : Array Value} {below : List Frame} {meth : Method} {c : Code} {G : gG} {h0 : Nat} {ad : Nat → Nat} {d : Nat} {rc : (Int32 → MS → Prop) → MS → Prop} {post : Int32 → MS → Prop} (X : mX G h0 ad p s m args c cX1_readPart) (hml : c.maxLocals = 2) (hr : meth.sig.returnType = (some .boolean)) (hlk : meth.locks = false) (hI : ∀ {post : Int32 → MS → Prop} {S : MS}, rc post S → Met l yX1_readSum (ws_ yX1_readSum cX1_readSum 2 (some .boolean)) ⟨20 + 4 * d, 0, 0, 1000 + 82 * d⟩ (va_Pc (.ref h0 :: []) (fun U => mBw G h0 ad S U.heap ∧ gK G U)) (gQ vI post (mBw G h0 ad) (mAd h0 ad)) 0 0 (mAd h0 ad)) : ∀ (x1 : Int32) (S : MS) (H : Heap) (locs : List Loc) (ls : Array Slot), wX1_readPart_89 rc post x1 S → mH G h0 ad s S H locs → lv_has ls 2 [(0, .ref h0), (1, .int x1)] → W p l e ⟨21 + 4 * d, 0, 0, 1021 + 82 * d⟩ s m args below meth c H locs 0 0 (MQ below (gQ vI post (mBw G h0 ad) (mAd h0 ad)) args s 0 0 (mAd h0 ad)) (F0 m 89 ls []) := by
  have hx := X.1
  have hb := X.2.1
  have hown := X.2.2.1
  have hts := X.2.2.2.1
  intro x1 S H locs ls h hw hl
  unfold wX1_readPart_89 at h
  refine lv_aload_n (pc := 89) hx hb dX1_readPart_89 rfl (lv_at hl 0 rfl) ?_
  refine mg38 (pc := 90) X hw dX1_readPart_90 ?_
  refine lv_bipush (pc := 93) (v := (60 : Int32)) hx hb dX1_readPart_93 (by decide) ?_
  refine lv_icmp_ne (pc := 95) (tgt := 105) hx hb dX1_readPart_95 rfl (fun c8 => ?_) (fun c8 => ?_)
  · have h := h.2 c8
    refine lv_aload_n (pc := 105) hx hb dX1_readPart_105 rfl (lv_at hl 0 rfl) ?_
    refine lv_dup (pc := 106) hx hb dX1_readPart_106 rfl ?_
    refine mg38 (pc := 107) X hw dX1_readPart_107 ?_
    refine lv_iconst (pc := 110) (v := (1 : Int32)) hx hb dX1_readPart_110 (by decide) ?_
    refine lv_iadd (pc := 111) hx hb dX1_readPart_111 ?_
    refine mp38 (pc := 112) X hw dX1_readPart_112 (fun H locs hw => ?_)
    refine lv_aload_n (pc := 115) hx hb dX1_readPart_115 rfl (lv_at hl 0 rfl) ?_
    refine lv_bipush (pc := 116) (v := (40 : Int32)) hx hb dX1_readPart_116 (by decide) ?_
    refine uX1_isSign (pc := 118) X hml hw h ⟨show 0 + 1 ≤ 21 + 4 * d by omega, show 8 + (2 + 11) + (0) ≤ 1021 + 82 * d by omega⟩ hl.1 (Nat.le_of_ble_eq_true rfl) ⟨Nat.le_refl _, Nat.le_refl _⟩ dX1_readPart_118 (fun r9 S10 H locs h hw => ?_)
    refine lv_if_eq (pc := 121) (tgt := 168) hx hb dX1_readPart_121 rfl (fun c11 => ?_) (fun c11 => ?_)
    · have h := h.1 c11
      refine lv_aload_n (pc := 168) hx hb dX1_readPart_168 rfl (lv_at hl 0 rfl) ?_
      refine lv_iload_n (pc := 169) hx hb dX1_readPart_169 rfl (lv_at hl 1 rfl) ?_
      refine lv_if_eq (pc := 170) (tgt := 177) hx hb dX1_readPart_170 rfl (fun c12 => ?_) (fun c12 => ?_)
      · have h := h.1 c12
        refine lv_iconst (pc := 177) (v := (0 : Int32)) hx hb dX1_readPart_177 (by decide) ?_
        exact kX1_readPart_178 X hml hr hlk hI  _ _ _ _ _ _ h hw (lv_sub hl [0, 1] rfl)
      · have h := h.2 c12
        refine lv_iconst (pc := 173) (v := (1 : Int32)) hx hb dX1_readPart_173 (by decide) ?_
        refine lv_goto (pc := 174) (tgt := 178) hx hb dX1_readPart_174 rfl ?_
        exact kX1_readPart_178 X hml hr hlk hI  _ _ _ _ _ _ h hw (lv_sub hl [0, 1] rfl)
    · have h := h.2 c11
      refine lv_aload_n (pc := 124) hx hb dX1_readPart_124 rfl (lv_at hl 0 rfl) ?_
      refine lv_dup (pc := 125) hx hb dX1_readPart_125 rfl ?_
      refine mg19 (pc := 126) X hw dX1_readPart_126 ?_
      refine lv_iconst (pc := 129) (v := (1 : Int32)) hx hb dX1_readPart_129 (by decide) ?_
      refine lv_iadd (pc := 130) hx hb dX1_readPart_130 ?_
      refine mp19 (pc := 131) X hw dX1_readPart_131 (fun H locs hw => ?_)
      refine lv_aload_n (pc := 134) hx hb dX1_readPart_134 rfl (lv_at hl 0 rfl) ?_
      refine uX1_next (pc := 135) X hml hw h ⟨show 1 + 1 ≤ 21 + 4 * d by omega, show 8 + (2 + 11) + (25) ≤ 1021 + 82 * d by omega⟩ hl.1 (Nat.le_of_ble_eq_true rfl) ⟨Nat.le_refl _, Nat.le_refl _⟩ dX1_readPart_135 (fun _ S20 H locs h hw => ?_)
      refine lv_aload_n (pc := 138) hx hb dX1_readPart_138 rfl (lv_at hl 0 rfl) ?_
      refine m_call (pc := 139) (val := vI) (As := []) (rest := []) X hml hw (hI h) (lw_V q2336 q2338 qs82 q105 q2339) ⟨rfl, by decide, by decide, (by decide +kernel : (parseMethodDescriptor yX1_readSum.desc).map (fun d => d.parameters.length) = some 0)⟩ ⟨show 20 + 4 * d + 1 ≤ 21 + 4 * d by omega, show 8 + (2 + 11) + (1000 + 82 * d) ≤ 1021 + 82 * d by omega⟩ hl.1 (Nat.le_of_ble_eq_true rfl) ⟨Nat.le_refl _, Nat.le_refl _⟩ dX1_readPart_139 rfl (fun r21 S22 H locs h hw => ?_)
      refine W.eq (g2 := F0 m 142 ls (.int r21 :: [])) rfl ?_
      refine lv_if_eq (pc := 142) (tgt := 154) hx hb dX1_readPart_142 rfl (fun c23 => ?_) (fun c23 => ?_)
      · have h := h.1 c23
        refine lv_iconst (pc := 154) (v := (0 : Int32)) hx hb dX1_readPart_154 (by decide) ?_
        exact W.zret (pc := 155) hx hb hr rfl (fun t ht hW => m_ret (val := vI) hw h ht) hw.2.2.2 dX1_readPart_155 hlk
      · have h := h.2 c23
        refine lv_aload_n (pc := 145) hx hb dX1_readPart_145 rfl (lv_at hl 0 rfl) ?_
        refine lv_bipush (pc := 146) (v := (41 : Int32)) hx hb dX1_readPart_146 (by decide) ?_
        refine uX1_takesSign (pc := 148) X hml hw h ⟨show 2 + 1 ≤ 21 + 4 * d by omega, show 8 + (2 + 11) + (46) ≤ 1021 + 82 * d by omega⟩ hl.1 (Nat.le_of_ble_eq_true rfl) ⟨Nat.le_refl _, Nat.le_refl _⟩ dX1_readPart_148 (fun r24 S25 H locs h hw => ?_)
        refine lv_if_ne (pc := 151) (tgt := 156) hx hb dX1_readPart_151 rfl (fun c26 => ?_) (fun c26 => ?_)
        · have h := h.2 c26
          refine lv_aload_n (pc := 156) hx hb dX1_readPart_156 rfl (lv_at hl 0 rfl) ?_
          refine lv_dup (pc := 157) hx hb dX1_readPart_157 rfl ?_
          refine mg19 (pc := 158) X hw dX1_readPart_158 ?_
          refine lv_iconst (pc := 161) (v := (1 : Int32)) hx hb dX1_readPart_161 (by decide) ?_
          refine lv_isub (pc := 162) hx hb dX1_readPart_162 ?_
          refine mp19 (pc := 163) X hw dX1_readPart_163 (fun H locs hw => ?_)
          refine lv_iconst (pc := 166) (v := (1 : Int32)) hx hb dX1_readPart_166 (by decide) ?_
          exact W.zret (pc := 167) hx hb hr rfl (fun t ht hW => m_ret (val := vI) hw h ht) hw.2.2.2 dX1_readPart_167 hlk
        · have h := h.1 c26
          refine lv_iconst (pc := 154) (v := (0 : Int32)) hx hb dX1_readPart_154 (by decide) ?_
          exact W.zret (pc := 155) hx hb hr rfl (fun t ht hW => m_ret (val := vI) hw h ht) hw.2.2.2 dX1_readPart_155 hlk
  · have h := h.1 c8
    refine lv_aload_n (pc := 98) hx hb dX1_readPart_98 rfl (lv_at hl 0 rfl) ?_
    refine lv_bipush (pc := 99) (v := (12 : Int32)) hx hb dX1_readPart_99 (by decide) ?_
    refine uX1_fails (pc := 101) X hml hw h ⟨show 0 + 1 ≤ 21 + 4 * d by omega, show 8 + (2 + 11) + (0) ≤ 1021 + 82 * d by omega⟩ hl.1 (Nat.le_of_ble_eq_true rfl) ⟨Nat.le_refl _, Nat.le_refl _⟩ dX1_readPart_101 (fun r27 S28 H locs h hw => ?_)
    obtain ⟨hB, h⟩ := h
    exact W.zret (pc := 104) hx hb hr (isB_n hB) (fun t ht hW => m_ret (val := vI) hw h ht) hw.2.2.2 dX1_readPart_104 hlk
theorem kX1_readPart_64 {p : Program} {l : Launch} {e : Env} {s : State} {m : MethodId} {args : Array Value} {below : List Frame} {meth : Method} {c : Code} {G : gG} {h0 : Nat} {ad : Nat → Nat} {d : Nat} {rc : (Int32 → MS → Prop) → MS → Prop} {post : Int32 → MS → Prop} (X : mX G h0 ad p s m args c cX1_readPart) (hml : c.maxLocals = 2) (hr : meth.sig.returnType = (some .boolean)) (hlk : meth.locks = false) (hI : ∀ {post : Int32 → MS → Prop} {S : MS}, rc post S → Met l yX1_readSum (ws_ yX1_readSum cX1_readSum 2 (some .boolean)) ⟨20 + 4 * d, 0, 0, 1000 + 82 * d⟩ (va_Pc (.ref h0 :: []) (fun U => mBw G h0 ad S U.heap ∧ gK G U)) (gQ vI post (mBw G h0 ad) (mAd h0 ad)) 0 0 (mAd h0 ad)) : ∀ (x1 : Int32) (S : MS) (H : Heap) (locs : List Loc) (ls : Array Slot), wX1_readPart_64 rc post x1 S → mH G h0 ad s S H locs → lv_has ls 2 [(0, .ref h0), (1, .int x1)] → W p l e ⟨21 + 4 * d, 0, 0, 1021 + 82 * d⟩ s m args below meth c H locs 0 0 (MQ below (gQ vI post (mBw G h0 ad) (mAd h0 ad)) args s 0 0 (mAd h0 ad)) (F0 m 64 ls []) := by
  have hx := X.1
  have hb := X.2.1
  have hown := X.2.2.1
  have hts := X.2.2.2.1
  intro x1 S H locs ls h hw hl
  unfold wX1_readPart_64 at h
  refine lv_aload_n (pc := 64) hx hb dX1_readPart_64 rfl (lv_at hl 0 rfl) ?_
  refine lv_bipush (pc := 65) (v := (40 : Int32)) hx hb dX1_readPart_65 (by decide) ?_
  refine uX1_isSign (pc := 67) X hml hw h ⟨show 0 + 1 ≤ 21 + 4 * d by omega, show 8 + (2 + 11) + (0) ≤ 1021 + 82 * d by omega⟩ hl.1 (Nat.le_of_ble_eq_true rfl) ⟨Nat.le_refl _, Nat.le_refl _⟩ dX1_readPart_67 (fun r5 S6 H locs h hw => ?_)
  refine lv_if_eq (pc := 70) (tgt := 89) hx hb dX1_readPart_70 rfl (fun c7 => ?_) (fun c7 => ?_)
  · have h := h.1 c7
    exact kX1_readPart_89 X hml hr hlk hI  _ _ _ _ _ h hw (lv_sub hl [0, 1] rfl)
  · have h := h.2 c7
    refine lv_aload_n (pc := 73) hx hb dX1_readPart_73 rfl (lv_at hl 0 rfl) ?_
    refine mg19 (pc := 74) X hw dX1_readPart_74 ?_
    refine lv_bipush (pc := 77) (v := (6 : Int32)) hx hb dX1_readPart_77 (by decide) ?_
    refine lv_icmp_ne (pc := 79) (tgt := 89) hx hb dX1_readPart_79 rfl (fun c29 => ?_) (fun c29 => ?_)
    · have h := h.2 c29
      exact kX1_readPart_89 X hml hr hlk hI  _ _ _ _ _ h hw (lv_sub hl [0, 1] rfl)
    · have h := h.1 c29
      refine lv_aload_n (pc := 82) hx hb dX1_readPart_82 rfl (lv_at hl 0 rfl) ?_
      refine lv_bipush (pc := 83) (v := (11 : Int32)) hx hb dX1_readPart_83 (by decide) ?_
      refine uX1_fails (pc := 85) X hml hw h ⟨show 0 + 1 ≤ 21 + 4 * d by omega, show 8 + (2 + 11) + (0) ≤ 1021 + 82 * d by omega⟩ hl.1 (Nat.le_of_ble_eq_true rfl) ⟨Nat.le_refl _, Nat.le_refl _⟩ dX1_readPart_85 (fun r30 S31 H locs h hw => ?_)
      obtain ⟨hB, h⟩ := h
      exact W.zret (pc := 88) hx hb hr (isB_n hB) (fun t ht hW => m_ret (val := vI) hw h ht) hw.2.2.2 dX1_readPart_88 hlk
theorem kX1_readPart_37 {p : Program} {l : Launch} {e : Env} {s : State} {m : MethodId} {args : Array Value} {below : List Frame} {meth : Method} {c : Code} {G : gG} {h0 : Nat} {ad : Nat → Nat} {d : Nat} {rc : (Int32 → MS → Prop) → MS → Prop} {post : Int32 → MS → Prop} (X : mX G h0 ad p s m args c cX1_readPart) (hml : c.maxLocals = 2) (hr : meth.sig.returnType = (some .boolean)) (hlk : meth.locks = false) (hI : ∀ {post : Int32 → MS → Prop} {S : MS}, rc post S → Met l yX1_readSum (ws_ yX1_readSum cX1_readSum 2 (some .boolean)) ⟨20 + 4 * d, 0, 0, 1000 + 82 * d⟩ (va_Pc (.ref h0 :: []) (fun U => mBw G h0 ad S U.heap ∧ gK G U)) (gQ vI post (mBw G h0 ad) (mAd h0 ad)) 0 0 (mAd h0 ad)) : ∀ (v0 : Int32) (S : MS) (H : Heap) (locs : List Loc) (ls : Array Slot), wX1_readPart_37 rc post v0 S → mH G h0 ad s S H locs → lv_has ls 2 [(0, .ref h0)] → W p l e ⟨21 + 4 * d, 0, 0, 1021 + 82 * d⟩ s m args below meth c H locs 0 0 (MQ below (gQ vI post (mBw G h0 ad) (mAd h0 ad)) args s 0 0 (mAd h0 ad)) (F0 m 37 ls [.int v0]) := by
  have hx := X.1
  have hb := X.2.1
  have hown := X.2.2.1
  have hts := X.2.2.2.1
  intro v0 S H locs ls h hw hl
  unfold wX1_readPart_37 at h
  refine lv_istore_n (pc := 37) (lv' := [(1, .int v0), (0, .ref h0)]) hx hb dX1_readPart_37 rfl hl (by decide) rfl (fun ls hl => ?_)
  refine lv_aload_n (pc := 38) hx hb dX1_readPart_38 rfl (lv_at hl 1 rfl) ?_
  refine uX1_isNumber (pc := 39) X hml hw h ⟨show 0 + 1 ≤ 21 + 4 * d by omega, show 8 + (1 + 11) + (0) ≤ 1021 + 82 * d by omega⟩ hl.1 (Nat.le_of_ble_eq_true rfl) ⟨Nat.le_refl _, Nat.le_refl _⟩ dX1_readPart_39 (fun r2 S3 H locs h hw => ?_)
  refine lv_if_ne (pc := 42) (tgt := 64) hx hb dX1_readPart_42 rfl (fun c4 => ?_) (fun c4 => ?_)
  · have h := h.2 c4
    exact kX1_readPart_64 X hml hr hlk hI  _ _ _ _ _ h hw (lv_sub hl [1, 0] rfl)
  · have h := h.1 c4
    refine lv_iload_n (pc := 45) hx hb dX1_readPart_45 rfl (lv_at hl 0 rfl) ?_
    refine lv_if_ne (pc := 46) (tgt := 64) hx hb dX1_readPart_46 rfl (fun c32 => ?_) (fun c32 => ?_)
    · have h := h.2 c32
      exact kX1_readPart_64 X hml hr hlk hI  _ _ _ _ _ h hw (lv_sub hl [1, 0] rfl)
    · have h := h.1 c32
      refine lv_aload_n (pc := 49) hx hb dX1_readPart_49 rfl (lv_at hl 1 rfl) ?_
      refine lv_bipush (pc := 50) (v := (40 : Int32)) hx hb dX1_readPart_50 (by decide) ?_
      refine uX1_isSign (pc := 52) X hml hw h ⟨show 0 + 1 ≤ 21 + 4 * d by omega, show 8 + (2 + 11) + (0) ≤ 1021 + 82 * d by omega⟩ hl.1 (Nat.le_of_ble_eq_true rfl) ⟨Nat.le_refl _, Nat.le_refl _⟩ dX1_readPart_52 (fun r33 S34 H locs h hw => ?_)
      refine lv_if_ne (pc := 55) (tgt := 64) hx hb dX1_readPart_55 rfl (fun c35 => ?_) (fun c35 => ?_)
      · have h := h.2 c35
        exact kX1_readPart_64 X hml hr hlk hI  _ _ _ _ _ h hw (lv_sub hl [1, 0] rfl)
      · have h := h.1 c35
        refine lv_aload_n (pc := 58) hx hb dX1_readPart_58 rfl (lv_at hl 1 rfl) ?_
        refine lv_iconst (pc := 59) (v := (1 : Int32)) hx hb dX1_readPart_59 (by decide) ?_
        refine uX1_fails (pc := 60) X hml hw h ⟨show 0 + 1 ≤ 21 + 4 * d by omega, show 8 + (2 + 11) + (0) ≤ 1021 + 82 * d by omega⟩ hl.1 (Nat.le_of_ble_eq_true rfl) ⟨Nat.le_refl _, Nat.le_refl _⟩ dX1_readPart_60 (fun r36 S37 H locs h hw => ?_)
        obtain ⟨hB, h⟩ := h
        exact W.zret (pc := 63) hx hb hr (isB_n hB) (fun t ht hW => m_ret (val := vI) hw h ht) hw.2.2.2 dX1_readPart_63 hlk
theorem kX1_readPart_36 {p : Program} {l : Launch} {e : Env} {s : State} {m : MethodId} {args : Array Value} {below : List Frame} {meth : Method} {c : Code} {G : gG} {h0 : Nat} {ad : Nat → Nat} {d : Nat} {rc : (Int32 → MS → Prop) → MS → Prop} {post : Int32 → MS → Prop} (X : mX G h0 ad p s m args c cX1_readPart) (hml : c.maxLocals = 2) (hr : meth.sig.returnType = (some .boolean)) (hlk : meth.locks = false) (hI : ∀ {post : Int32 → MS → Prop} {S : MS}, rc post S → Met l yX1_readSum (ws_ yX1_readSum cX1_readSum 2 (some .boolean)) ⟨20 + 4 * d, 0, 0, 1000 + 82 * d⟩ (va_Pc (.ref h0 :: []) (fun U => mBw G h0 ad S U.heap ∧ gK G U)) (gQ vI post (mBw G h0 ad) (mAd h0 ad)) 0 0 (mAd h0 ad)) : ∀ (S : MS) (H : Heap) (locs : List Loc) (ls : Array Slot), wX1_readPart_36 rc post S → mH G h0 ad s S H locs → lv_has ls 2 [(0, .ref h0)] → W p l e ⟨21 + 4 * d, 0, 0, 1021 + 82 * d⟩ s m args below meth c H locs 0 0 (MQ below (gQ vI post (mBw G h0 ad) (mAd h0 ad)) args s 0 0 (mAd h0 ad)) (F0 m 36 ls []) := by
  have hx := X.1
  have hb := X.2.1
  have hown := X.2.2.1
  have hts := X.2.2.2.1
  intro S H locs ls h hw hl
  unfold wX1_readPart_36 at h
  refine lv_iconst (pc := 36) (v := (0 : Int32)) hx hb dX1_readPart_36 (by decide) ?_
  exact kX1_readPart_37 X hml hr hlk hI  _ _ _ _ _ h hw (lv_sub hl [0] rfl)
theorem tX1_readPart {l : Launch} {G : gG} {h0 : Nat} {ad : Nat → Nat} {d : Nat} {rc : (Int32 → MS → Prop) → MS → Prop} (hd : mOk G h0 ad) (hI : ∀ {post : Int32 → MS → Prop} {S : MS}, rc post S → Met l yX1_readSum (ws_ yX1_readSum cX1_readSum 2 (some .boolean)) ⟨20 + 4 * d, 0, 0, 1000 + 82 * d⟩ (va_Pc (.ref h0 :: []) (fun U => mBw G h0 ad S U.heap ∧ gK G U)) (gQ vI post (mBw G h0 ad) (mAd h0 ad)) 0 0 (mAd h0 ad)) {post : Int32 → MS → Prop} {S : MS} (h : wX1_readPart rc post S) : Met l yX1_readPart (ws_ yX1_readPart cX1_readPart 2 (some .boolean)) ⟨21 + 4 * d, 0, 0, 1021 + 82 * d⟩ (va_Pc (.ref h0 :: []) (fun U => mBw G h0 ad S U.heap ∧ gK G U)) (gQ vI post (mBw G h0 ad) (mAd h0 ad)) 0 0 (mAd h0 ad) := by
  refine m_ofW (by decide) rfl hd (Nat.le_of_ble_eq_true rfl) (fun p e s m below meth c ls X hml hr hlk hw hl => ?_)
  have hl : lv_has ls 2 [(0, .ref h0)] := hl
  have hx := X.1
  have hb := X.2.1
  have hown := X.2.2.1
  have hts := X.2.2.2.1
  unfold wX1_readPart at h
  refine lv_aload_n (pc := 0) hx hb dX1_readPart_0 rfl (lv_at hl 0 rfl) ?_
  refine mg12 (pc := 1) X hw dX1_readPart_1 ?_
  refine lv_iconst (pc := 4) (v := (1 : Int32)) hx hb dX1_readPart_4 (by decide) ?_
  refine lv_icmp_ne (pc := 5) (tgt := 36) hx hb dX1_readPart_5 rfl (fun c1 => ?_) (fun c1 => ?_)
  · have h := h.2 c1
    exact kX1_readPart_36 X hml hr hlk hI   _ _ _ _ h hw (lv_sub hl [0] rfl)
  · have h := h.1 c1
    refine lv_aload_n (pc := 8) hx hb dX1_readPart_8 rfl (lv_at hl 0 rfl) ?_
    refine mg14 (pc := 9) X hw dX1_readPart_9 ?_
    refine lv_aload_n (pc := 12) hx hb dX1_readPart_12 rfl (lv_at hl 0 rfl) ?_
    refine mg13 (pc := 13) X hw dX1_readPart_13 ?_
    refine lv_isub (pc := 16) hx hb dX1_readPart_16 ?_
    refine lv_iconst (pc := 17) (v := (1 : Int32)) hx hb dX1_readPart_17 (by decide) ?_
    refine lv_icmp_ne (pc := 18) (tgt := 36) hx hb dX1_readPart_18 rfl (fun c38 => ?_) (fun c38 => ?_)
    · have h := h.2 c38
      exact kX1_readPart_36 X hml hr hlk hI   _ _ _ _ h hw (lv_sub hl [0] rfl)
    · have h := h.1 c38
      refine lv_aload_n (pc := 21) hx hb dX1_readPart_21 rfl (lv_at hl 0 rfl) ?_
      refine mg15 (pc := 22) X hw dX1_readPart_22 ?_
      refine lv_ldc2 (pc := 25) hx hb hown (hts _ q2352) dX1_readPart_25 ?_
      refine W.lcmp (pc := 28) hx hb dX1_readPart_28 ?_
      refine lv_if_gt (pc := 29) (tgt := 36) hx hb dX1_readPart_29 rfl (fun c39 => ?_) (fun c39 => ?_)
      · have h := h.1 ((lg_cmp_gt _ _).mp c39)
        exact kX1_readPart_36 X hml hr hlk hI   _ _ _ _ h hw (lv_sub hl [0] rfl)
      · have h := h.2 (fun z => c39 ((lg_cmp_gt _ _).mpr z))
        refine lv_iconst (pc := 32) (v := (1 : Int32)) hx hb dX1_readPart_32 (by decide) ?_
        refine lv_goto (pc := 33) (tgt := 37) hx hb dX1_readPart_33 rfl ?_
        exact kX1_readPart_37 X hml hr hlk hI  _ _ _ _ _ h hw (lv_sub hl [0] rfl)
theorem uX1_readPart {p : Program} {l : Launch} {e : Env} {R : Room} {s : State} {m : MethodId} {args : Array Value} {below : List Frame} {meth : Method} {c : Code} {H : Heap} {locs : List Loc} {cells slots : Nat} {Q : Jvm.State → Prop} {cc : ByteArray} {pc : Nat} {ls : Array Slot} {rest : List Value} {G : gG} {h0 : Nat} {ad : Nat → Nat} {d : Nat} {rc : (Int32 → MS → Prop) → MS → Prop} {post : Int32 → MS → Prop} {S : MS} {nL : Nat} (X : mX G h0 ad p s m args c cc) (hml : c.maxLocals = nL) (hw : mH G h0 ad s S H locs) (hI : ∀ {post : Int32 → MS → Prop} {S : MS}, rc post S → Met l yX1_readSum (ws_ yX1_readSum cX1_readSum 2 (some .boolean)) ⟨20 + 4 * d, 0, 0, 1000 + 82 * d⟩ (va_Pc (.ref h0 :: []) (fun U => mBw G h0 ad S U.heap ∧ gK G U)) (gQ vI post (mBw G h0 ad) (mAd h0 ad)) 0 0 (mAd h0 ad)) (h : wX1_readPart rc post S) (hR : 21 + 4 * d + 1 ≤ R.frames ∧ 8 + (2 + 11) + (1021 + 82 * d) ≤ R.locals) (hsz : ls.size = nL) (hr : (rest.map fun v => v.category).sum ≤ 8) (hc : cells ≤ R.cells ∧ slots ≤ R.slots) (dd : decode cc pc = .ok (.invokevirtual 350, 3)) (kk : ∀ (r : Int32) (S1 : MS) (H1 : Heap) (locs1 : List Loc), post r S1 → mH G h0 ad s S1 H1 locs1 → W p l e R s m args below meth c H1 locs1 cells slots Q (F0 m (pc + 3) ls (.int r :: rest))) : W p l e R s m args below meth c H locs cells slots Q (F0 m pc ls (.ref h0 :: rest)) :=
  m_call (val := vI) (post := post) (As := []) X hml hw (tX1_readPart X.2.2.2.2.2.1 hI h) (lw_V q2348 q2350 qs85 q105 q2351) ⟨rfl, by decide, by decide, (by decide +kernel : (parseMethodDescriptor yX1_readPart.desc).map (fun d => d.parameters.length) = some 0)⟩ hR hsz hr hc dd rfl kk

def wX1_raised_6 (post : Int64 → MS → Prop) : Nat → Int64 → Int32 → Int64 → Int32 → MS → Prop
  | 0, _, _, _, _, _ => False
  | n + 1, x1, x3, x4, x6, S => ((x3 ≤ x6) → (post x4 S)) ∧ (¬ (x3 ≤ x6) → (wX1_times (fun r2 S3 => wX1_raised_6 post n x1 x3 r2 (x6 + (1 : Int32)) S3) S x4 x1))
def wX1_raised (post : Int64 → MS → Prop) (S : MS) (x1 : Int64) (x3 : Int32) : Prop :=
  (∃ k, wX1_raised_6 post k x1 x3 (1 : Int64) (0 : Int32) S)
theorem kX1_raised_6 {p : Program} {l : Launch} {e : Env} {s : State} {m : MethodId} {args : Array Value} {below : List Frame} {meth : Method} {c : Code} {G : gG} {h0 : Nat} {ad : Nat → Nat} {post : Int64 → MS → Prop} (X : mX G h0 ad p s m args c cX1_raised) (hml : c.maxLocals = 7) (hr : meth.sig.returnType = (some .long)) (hlk : meth.locks = false) : ∀ (n : Nat) (x1 : Int64) (x3 : Int32) (x4 : Int64) (x6 : Int32) (S : MS) (H : Heap) (locs : List Loc) (ls : Array Slot), wX1_raised_6 post n x1 x3 x4 x6 S → mH G h0 ad s S H locs → lv_has ls 7 [(0, .ref h0), (1, .long x1), (3, .int x3), (4, .long x4), (6, .int x6)] → W p l e ⟨1, 0, 0, 26⟩ s m args below meth c H locs 0 0 (MQ below (gQ vL post (mBw G h0 ad) (mAd h0 ad)) args s 0 0 (mAd h0 ad)) (F0 m 6 ls []) := by
  have hx := X.1
  have hb := X.2.1
  have hown := X.2.2.1
  have hts := X.2.2.2.1
  intro n
  induction n with
  | zero =>
    intro x1 x3 x4 x6 S H locs ls h
    exact False.elim h
  | succ n ih =>
    intro x1 x3 x4 x6 S H locs ls h hw hl
    unfold wX1_raised_6 at h
    refine lv_iload (pc := 6) hx hb dX1_raised_6 (lv_at hl 4 rfl) ?_
    refine lv_iload_n (pc := 8) hx hb dX1_raised_8 rfl (lv_at hl 2 rfl) ?_
    refine lv_icmp_ge (pc := 9) (tgt := 27) hx hb dX1_raised_9 rfl (fun c1 => ?_) (fun c1 => ?_)
    · have h := h.1 c1
      refine lv_lload (pc := 27) hx hb dX1_raised_27 (lv_at hl 3 rfl) ?_
      exact W.lret (pc := 29) hx hb hr (fun t ht hW => m_ret (val := vL) hw h ht) hw.2.2.2 dX1_raised_29 hlk
    · have h := h.2 c1
      refine lv_aload_n (pc := 12) hx hb dX1_raised_12 rfl (lv_at hl 0 rfl) ?_
      refine lv_lload (pc := 13) hx hb dX1_raised_13 (lv_at hl 3 rfl) ?_
      refine lv_lload_n (pc := 15) hx hb dX1_raised_15 rfl (lv_at hl 1 rfl) ?_
      refine uX1_times (pc := 16) X hml hw h ⟨Nat.le_of_ble_eq_true rfl, Nat.le_of_ble_eq_true rfl⟩ hl.1 (Nat.le_of_ble_eq_true rfl) ⟨Nat.le_refl _, Nat.le_refl _⟩ dX1_raised_16 (fun r2 S3 H locs h hw => ?_)
      refine lv_lstore (pc := 19) (lv' := [(4, .long r2), (0, .ref h0), (1, .long x1), (3, .int x3), (6, .int x6)]) hx hb dX1_raised_19 hl (by decide) rfl (fun ls hl => ?_)
      refine lv_iinc (pc := 21) (v := x6 + (1 : Int32)) (lv' := [(6, .int (x6 + (1 : Int32))), (4, .long r2), (0, .ref h0), (1, .long x1), (3, .int x3)]) hx hb dX1_raised_21 hl (k := 4) rfl rfl (by decide) rfl (fun ls hl => ?_)
      refine lv_goto (pc := 24) (tgt := 6) hx hb dX1_raised_24 rfl ?_
      exact ih _ _ _ _ _ _ _ _ h hw (lv_sub hl [2, 3, 4, 1, 0] rfl)
theorem tX1_raised {l : Launch} {G : gG} {h0 : Nat} {ad : Nat → Nat} (hd : mOk G h0 ad) {post : Int64 → MS → Prop} {S : MS} {x1 : Int64} {x3 : Int32} (h : wX1_raised post S x1 x3) : Met l yX1_raised (ws_ yX1_raised cX1_raised 7 (some .long)) ⟨1, 0, 0, 26⟩ (va_Pc (.ref h0 :: [.long x1, .int x3]) (fun U => mBw G h0 ad S U.heap ∧ gK G U)) (gQ vL post (mBw G h0 ad) (mAd h0 ad)) 0 0 (mAd h0 ad) := by
  refine m_ofW (by decide) rfl hd (Nat.le_of_ble_eq_true rfl) (fun p e s m below meth c ls X hml hr hlk hw hl => ?_)
  have hl : lv_has ls 7 [(0, .ref h0), (1, .long x1), (3, .int x3)] := hl
  have hx := X.1
  have hb := X.2.1
  have hown := X.2.2.1
  have hts := X.2.2.2.1
  unfold wX1_raised at h
  refine lv_lconst (pc := 0) (v := (1 : Int64)) hx hb dX1_raised_0 (by decide) ?_
  refine lv_lstore (pc := 1) (lv' := [(4, .long (1 : Int64)), (0, .ref h0), (1, .long x1), (3, .int x3)]) hx hb dX1_raised_1 hl (by decide) rfl (fun ls hl => ?_)
  refine lv_iconst (pc := 3) (v := (0 : Int32)) hx hb dX1_raised_3 (by decide) ?_
  refine lv_istore (pc := 4) (lv' := [(6, .int (0 : Int32)), (4, .long (1 : Int64)), (0, .ref h0), (1, .long x1), (3, .int x3)]) hx hb dX1_raised_4 hl (by decide) rfl (fun ls hl => ?_)
  obtain ⟨k, h⟩ := h
  exact kX1_raised_6 X hml hr hlk  k _ _ _ _ _ _ _ _ h hw (lv_sub hl [2, 3, 4, 1, 0] rfl)
theorem uX1_raised {p : Program} {l : Launch} {e : Env} {R : Room} {s : State} {m : MethodId} {args : Array Value} {below : List Frame} {meth : Method} {c : Code} {H : Heap} {locs : List Loc} {cells slots : Nat} {Q : Jvm.State → Prop} {cc : ByteArray} {pc : Nat} {ls : Array Slot} {rest : List Value} {G : gG} {h0 : Nat} {ad : Nat → Nat} {post : Int64 → MS → Prop} {S : MS} {x1 : Int64} {x3 : Int32} {nL : Nat} (X : mX G h0 ad p s m args c cc) (hml : c.maxLocals = nL) (hw : mH G h0 ad s S H locs) (h : wX1_raised post S x1 x3) (hR : 1 + 1 ≤ R.frames ∧ 8 + (7 + 11) + 26 ≤ R.locals) (hsz : ls.size = nL) (hr : (rest.map fun v => v.category).sum ≤ 8) (hc : cells ≤ R.cells ∧ slots ≤ R.slots) (d : decode cc pc = .ok (.invokevirtual 388, 3)) (kk : ∀ (r : Int64) (S1 : MS) (H1 : Heap) (locs1 : List Loc), post r S1 → mH G h0 ad s S1 H1 locs1 → W p l e R s m args below meth c H1 locs1 cells slots Q (F0 m (pc + 3) ls (.long r :: rest))) : W p l e R s m args below meth c H locs cells slots Q (F0 m pc ls (.int x3 :: .long x1 :: .ref h0 :: rest)) :=
  m_call (val := vL) (post := post) (As := [.long x1, .int x3]) X hml hw (tX1_raised X.2.2.2.2.2.1 h) (lw_V q2373 q2375 qs89 q105 q2376) ⟨rfl, by decide, by decide, (by decide +kernel : (parseMethodDescriptor yX1_raised.desc).map (fun d => d.parameters.length) = some 2)⟩ hR hsz hr hc d rfl kk

def wX1_classOf (post : Int32 → MS → Prop) (S : MS) (x1 : Int32) (x2 : Int32) (x3 : Int32) (x4 : Int32) : Prop :=
  wX1_valueOf (fun r1 S2 => ¬ x4.toInt64 = 0 ∧ (post ((r1 - r1 / x4.toInt64 * x4.toInt64).toInt32) S2)) S x1 x2 x3.toInt64
theorem tX1_classOf {l : Launch} {G : gG} {h0 : Nat} {ad : Nat → Nat} (hd : mOk G h0 ad) {post : Int32 → MS → Prop} {S : MS} {x1 : Int32} {x2 : Int32} {x3 : Int32} {x4 : Int32} (h : wX1_classOf post S x1 x2 x3 x4) : Met l yX1_classOf (ws_ yX1_classOf cX1_classOf 5 (some .int)) ⟨2, 0, 0, 47⟩ (va_Pc (.ref h0 :: [.int x1, .int x2, .int x3, .int x4]) (fun U => mBw G h0 ad S U.heap ∧ gK G U)) (gQ vI post (mBw G h0 ad) (mAd h0 ad)) 0 0 (mAd h0 ad) := by
  refine m_ofW (by decide) rfl hd (Nat.le_of_ble_eq_true rfl) (fun p e s m below meth c ls X hml hr hlk hw hl => ?_)
  have hl : lv_has ls 5 [(0, .ref h0), (1, .int x1), (2, .int x2), (3, .int x3), (4, .int x4)] := hl
  have hx := X.1
  have hb := X.2.1
  have hown := X.2.2.1
  have hts := X.2.2.2.1
  unfold wX1_classOf at h
  refine lv_aload_n (pc := 0) hx hb dX1_classOf_0 rfl (lv_at hl 0 rfl) ?_
  refine lv_iload_n (pc := 1) hx hb dX1_classOf_1 rfl (lv_at hl 1 rfl) ?_
  refine lv_iload_n (pc := 2) hx hb dX1_classOf_2 rfl (lv_at hl 2 rfl) ?_
  refine lv_iload_n (pc := 3) hx hb dX1_classOf_3 rfl (lv_at hl 3 rfl) ?_
  refine lv_i2l (pc := 4) hx hb dX1_classOf_4 rfl ?_
  refine uX1_valueOf (pc := 5) X hml hw h ⟨Nat.le_of_ble_eq_true rfl, Nat.le_of_ble_eq_true rfl⟩ hl.1 (Nat.le_of_ble_eq_true rfl) ⟨Nat.le_refl _, Nat.le_refl _⟩ dX1_classOf_5 (fun r1 S2 H locs h hw => ?_)
  refine lv_iload (pc := 8) hx hb dX1_classOf_8 (lv_at hl 4 rfl) ?_
  refine lv_i2l (pc := 10) hx hb dX1_classOf_10 rfl ?_
  obtain ⟨hne, h⟩ := h
  refine lv_lrem (pc := 11) hx hb dX1_classOf_11 hne ?_
  refine lv_l2i (pc := 12) hx hb dX1_classOf_12 rfl ?_
  exact W.iret (pc := 13) hx hb hr (fun t ht hW => m_ret (val := vI) hw h ht) hw.2.2.2 dX1_classOf_13 hlk
theorem uX1_classOf {p : Program} {l : Launch} {e : Env} {R : Room} {s : State} {m : MethodId} {args : Array Value} {below : List Frame} {meth : Method} {c : Code} {H : Heap} {locs : List Loc} {cells slots : Nat} {Q : Jvm.State → Prop} {cc : ByteArray} {pc : Nat} {ls : Array Slot} {rest : List Value} {G : gG} {h0 : Nat} {ad : Nat → Nat} {post : Int32 → MS → Prop} {S : MS} {x1 : Int32} {x2 : Int32} {x3 : Int32} {x4 : Int32} {nL : Nat} (X : mX G h0 ad p s m args c cc) (hml : c.maxLocals = nL) (hw : mH G h0 ad s S H locs) (h : wX1_classOf post S x1 x2 x3 x4) (hR : 2 + 1 ≤ R.frames ∧ 8 + (5 + 11) + 47 ≤ R.locals) (hsz : ls.size = nL) (hr : (rest.map fun v => v.category).sum ≤ 8) (hc : cells ≤ R.cells ∧ slots ≤ R.slots) (d : decode cc pc = .ok (.invokevirtual 428, 3)) (kk : ∀ (r : Int32) (S1 : MS) (H1 : Heap) (locs1 : List Loc), post r S1 → mH G h0 ad s S1 H1 locs1 → W p l e R s m args below meth c H1 locs1 cells slots Q (F0 m (pc + 3) ls (.int r :: rest))) : W p l e R s m args below meth c H locs cells slots Q (F0 m pc ls (.int x4 :: .int x3 :: .int x2 :: .int x1 :: .ref h0 :: rest)) :=
  m_call (val := vI) (post := post) (As := [.int x1, .int x2, .int x3, .int x4]) X hml hw (tX1_classOf X.2.2.2.2.2.1 h) (lw_V q2426 q2428 qs95 q105 q2429) ⟨rfl, by decide, by decide, (by decide +kernel : (parseMethodDescriptor yX1_classOf.desc).map (fun d => d.parameters.length) = some 4)⟩ hR hsz hr hc d rfl kk

def wX1_greed_151 (K40 : Int32 → Int32 → Int64 → Int32 → MS → Prop) (K67 : Int32 → Int32 → Int64 → Int32 → Int32 → Int32 → MS → Prop) (post : Int32 → MS → Prop) (x1 : Int32) (x3 : Int32) (x4 : Int64) (x6 : Int32) (x7 : Int32) (x8 : Int32) (S : MS) : Prop :=
  K67 x1 x3 x4 x6 x7 (x8 + (1 : Int32)) S
def wX1_greed_147 (K40 : Int32 → Int32 → Int64 → Int32 → MS → Prop) (K67 : Int32 → Int32 → Int64 → Int32 → Int32 → Int32 → MS → Prop) (post : Int32 → MS → Prop) (x1 : Int32) (x3 : Int32) (x4 : Int64) (x6 : Int32) (x8 : Int32) (S : MS) : Prop :=
  wX1_greed_151 K40 K67 post x1 x3 x4 x6 x8 x8 S
def wX1_greed_67 (K40 : Int32 → Int32 → Int64 → Int32 → MS → Prop) (post : Int32 → MS → Prop) : Nat → Int32 → Int32 → Int64 → Int32 → Int32 → Int32 → MS → Prop
  | 0, _, _, _, _, _, _, _ => False
  | n + 1, x1, x3, x4, x6, x7, x8, S => wX1_of (fun r10 S11 => ((r10 < x8) → (((x6 = x3) → (post x7 S11)) ∧ (¬ (x6 = x3) → (wX1_valueOf (fun r14 S15 => K40 x1 x3 (x4 - r14) (x6 + (1 : Int32)) S15) S11 x1 x6 x7.toInt64)))) ∧ (¬ (r10 < x8) → (wX1_valueOf (fun r16 S17 => wX1_valueOf (fun r18 S19 => ((x4 < r16) → (((r18 ≤ x4) → (wX1_greed_151 K40 (fun x1 x3 x4 x6 x7 x8 S => wX1_greed_67 K40 post n x1 x3 x4 x6 x7 x8 S) post x1 x3 x4 x6 x7 x8 S19)) ∧ (¬ (r18 ≤ x4) → (((r18 ≤ r16) → (wX1_greed_151 K40 (fun x1 x3 x4 x6 x7 x8 S => wX1_greed_67 K40 post n x1 x3 x4 x6 x7 x8 S) post x1 x3 x4 x6 x7 x8 S19)) ∧ (¬ (r18 ≤ r16) → (wX1_greed_147 K40 (fun x1 x3 x4 x6 x7 x8 S => wX1_greed_67 K40 post n x1 x3 x4 x6 x7 x8 S) post x1 x3 x4 x6 x8 S19)))))) ∧ (¬ (x4 < r16) → (((x4 < r18) → (wX1_greed_147 K40 (fun x1 x3 x4 x6 x7 x8 S => wX1_greed_67 K40 post n x1 x3 x4 x6 x7 x8 S) post x1 x3 x4 x6 x8 S19)) ∧ (¬ (x4 < r18) → (((r16 ≤ r18) → (wX1_greed_151 K40 (fun x1 x3 x4 x6 x7 x8 S => wX1_greed_67 K40 post n x1 x3 x4 x6 x7 x8 S) post x1 x3 x4 x6 x7 x8 S19)) ∧ (¬ (r16 ≤ r18) → (wX1_greed_147 K40 (fun x1 x3 x4 x6 x7 x8 S => wX1_greed_67 K40 post n x1 x3 x4 x6 x7 x8 S) post x1 x3 x4 x6 x8 S19))))))) S17 x1 x6 x7.toInt64) S11 x1 x6 x8.toInt64))) S x1 x6 (3 : Int32)
def wX1_greed_40 (post : Int32 → MS → Prop) : Nat → Int32 → Int32 → Int64 → Int32 → MS → Prop
  | 0, _, _, _, _, _ => False
  | n + 1, x1, x3, x4, x6, S => vp_in x1 5 ∧ ((((S.2.2.1 0 x1.toNatClampNeg) ≤ x6) → (post x4.toInt32 S)) ∧ (¬ ((S.2.2.1 0 x1.toNatClampNeg) ≤ x6) → (wX1_of (fun r8 S9 => (∃ k, wX1_greed_67 (fun x1 x3 x4 x6 S => wX1_greed_40 post n x1 x3 x4 x6 S) post k x1 x3 x4 x6 r8 (r8 + (1 : Int32)) S9)) S x1 x6 (2 : Int32))))
def wX1_greed_33 (post : Int32 → MS → Prop) (x1 : Int32) (x2 : Int32) (x3 : Int32) (S : MS) : Prop :=
  (∃ k, wX1_greed_40 post k x1 x3 x2.toInt64 (0 : Int32) S)
def wX1_greed (post : Int32 → MS → Prop) (S : MS) (x1 : Int32) (x2 : Int32) (x3 : Int32) : Prop :=
  wX1_isForm (fun r1 S2 => ((r1 = (0 : Int32)) → (post (-100000 : Int32) S2)) ∧ (¬ (r1 = (0 : Int32)) → (wX1_isN (fun r4 => ((r4 = (0 : Int32)) → (post (-100000 : Int32) S2)) ∧ (¬ (r4 = (0 : Int32)) → (((x3 = (-1 : Int32)) → (wX1_greed_33 post x1 x2 x3 S2)) ∧ (¬ (x3 = (-1 : Int32)) → (wX1_isTerm (fun r25 S26 => ((r25 = (0 : Int32)) → (post (-100000 : Int32) S26)) ∧ (¬ (r25 = (0 : Int32)) → (wX1_greed_33 post x1 x2 x3 S26))) S2 x1 x3))))) x2))) S x1
theorem kX1_greed_151 {p : Program} {l : Launch} {e : Env} {s : State} {m : MethodId} {args : Array Value} {below : List Frame} {meth : Method} {c : Code} {G : gG} {h0 : Nat} {ad : Nat → Nat} {K40 : Int32 → Int32 → Int64 → Int32 → MS → Prop} {K67 : Int32 → Int32 → Int64 → Int32 → Int32 → Int32 → MS → Prop} {post : Int32 → MS → Prop} (X : mX G h0 ad p s m args c cX1_greed) (hml : c.maxLocals = 13) (hr : meth.sig.returnType = (some .int)) (hlk : meth.locks = false) (hK40 : ∀ (x1 : Int32) (x3 : Int32) (x4 : Int64) (x6 : Int32) (S : MS) (H : Heap) (locs : List Loc) (ls : Array Slot), K40 x1 x3 x4 x6 S → mH G h0 ad s S H locs → lv_has ls 13 [(0, .ref h0), (1, .int x1), (3, .int x3), (4, .long x4), (6, .int x6)] → W p l e ⟨3, 0, 0, 67⟩ s m args below meth c H locs 0 0 (MQ below (gQ vI post (mBw G h0 ad) (mAd h0 ad)) args s 0 0 (mAd h0 ad)) (F0 m 40 ls [])) (hK67 : ∀ (x1 : Int32) (x3 : Int32) (x4 : Int64) (x6 : Int32) (x7 : Int32) (x8 : Int32) (S : MS) (H : Heap) (locs : List Loc) (ls : Array Slot), K67 x1 x3 x4 x6 x7 x8 S → mH G h0 ad s S H locs → lv_has ls 13 [(0, .ref h0), (1, .int x1), (3, .int x3), (4, .long x4), (6, .int x6), (7, .int x7), (8, .int x8)] → W p l e ⟨3, 0, 0, 67⟩ s m args below meth c H locs 0 0 (MQ below (gQ vI post (mBw G h0 ad) (mAd h0 ad)) args s 0 0 (mAd h0 ad)) (F0 m 67 ls [])) : ∀ (x1 : Int32) (x3 : Int32) (x4 : Int64) (x6 : Int32) (x7 : Int32) (x8 : Int32) (S : MS) (H : Heap) (locs : List Loc) (ls : Array Slot), wX1_greed_151 K40 K67 post x1 x3 x4 x6 x7 x8 S → mH G h0 ad s S H locs → lv_has ls 13 [(0, .ref h0), (1, .int x1), (3, .int x3), (4, .long x4), (6, .int x6), (7, .int x7), (8, .int x8)] → W p l e ⟨3, 0, 0, 67⟩ s m args below meth c H locs 0 0 (MQ below (gQ vI post (mBw G h0 ad) (mAd h0 ad)) args s 0 0 (mAd h0 ad)) (F0 m 151 ls []) := by
  have hx := X.1
  have hb := X.2.1
  have hown := X.2.2.1
  have hts := X.2.2.2.1
  intro x1 x3 x4 x6 x7 x8 S H locs ls h hw hl
  unfold wX1_greed_151 at h
  refine lv_iinc (pc := 151) (v := x8 + (1 : Int32)) (lv' := [(8, .int (x8 + (1 : Int32))), (0, .ref h0), (1, .int x1), (3, .int x3), (4, .long x4), (6, .int x6), (7, .int x7)]) hx hb dX1_greed_151 hl (k := 6) rfl rfl (by decide) rfl (fun ls hl => ?_)
  refine lv_goto (pc := 154) (tgt := 67) hx hb dX1_greed_154 rfl ?_
  exact hK67 _ _ _ _ _ _ _ _ _ _ h hw (lv_sub hl [1, 2, 3, 4, 5, 6, 0] rfl)
theorem kX1_greed_147 {p : Program} {l : Launch} {e : Env} {s : State} {m : MethodId} {args : Array Value} {below : List Frame} {meth : Method} {c : Code} {G : gG} {h0 : Nat} {ad : Nat → Nat} {K40 : Int32 → Int32 → Int64 → Int32 → MS → Prop} {K67 : Int32 → Int32 → Int64 → Int32 → Int32 → Int32 → MS → Prop} {post : Int32 → MS → Prop} (X : mX G h0 ad p s m args c cX1_greed) (hml : c.maxLocals = 13) (hr : meth.sig.returnType = (some .int)) (hlk : meth.locks = false) (hK40 : ∀ (x1 : Int32) (x3 : Int32) (x4 : Int64) (x6 : Int32) (S : MS) (H : Heap) (locs : List Loc) (ls : Array Slot), K40 x1 x3 x4 x6 S → mH G h0 ad s S H locs → lv_has ls 13 [(0, .ref h0), (1, .int x1), (3, .int x3), (4, .long x4), (6, .int x6)] → W p l e ⟨3, 0, 0, 67⟩ s m args below meth c H locs 0 0 (MQ below (gQ vI post (mBw G h0 ad) (mAd h0 ad)) args s 0 0 (mAd h0 ad)) (F0 m 40 ls [])) (hK67 : ∀ (x1 : Int32) (x3 : Int32) (x4 : Int64) (x6 : Int32) (x7 : Int32) (x8 : Int32) (S : MS) (H : Heap) (locs : List Loc) (ls : Array Slot), K67 x1 x3 x4 x6 x7 x8 S → mH G h0 ad s S H locs → lv_has ls 13 [(0, .ref h0), (1, .int x1), (3, .int x3), (4, .long x4), (6, .int x6), (7, .int x7), (8, .int x8)] → W p l e ⟨3, 0, 0, 67⟩ s m args below meth c H locs 0 0 (MQ below (gQ vI post (mBw G h0 ad) (mAd h0 ad)) args s 0 0 (mAd h0 ad)) (F0 m 67 ls [])) : ∀ (x1 : Int32) (x3 : Int32) (x4 : Int64) (x6 : Int32) (x8 : Int32) (S : MS) (H : Heap) (locs : List Loc) (ls : Array Slot), wX1_greed_147 K40 K67 post x1 x3 x4 x6 x8 S → mH G h0 ad s S H locs → lv_has ls 13 [(0, .ref h0), (1, .int x1), (3, .int x3), (4, .long x4), (6, .int x6), (8, .int x8)] → W p l e ⟨3, 0, 0, 67⟩ s m args below meth c H locs 0 0 (MQ below (gQ vI post (mBw G h0 ad) (mAd h0 ad)) args s 0 0 (mAd h0 ad)) (F0 m 147 ls []) := by
  have hx := X.1
  have hb := X.2.1
  have hown := X.2.2.1
  have hts := X.2.2.2.1
  intro x1 x3 x4 x6 x8 S H locs ls h hw hl
  unfold wX1_greed_147 at h
  refine lv_iload (pc := 147) hx hb dX1_greed_147 (lv_at hl 5 rfl) ?_
  refine lv_istore (pc := 149) (lv' := [(7, .int x8), (0, .ref h0), (1, .int x1), (3, .int x3), (4, .long x4), (6, .int x6), (8, .int x8)]) hx hb dX1_greed_149 hl (by decide) rfl (fun ls hl => ?_)
  exact kX1_greed_151 X hml hr hlk hK40 hK67 _ _ _ _ _ _ _ _ _ _ h hw (lv_sub hl [1, 2, 3, 4, 5, 0, 6] rfl)
theorem kX1_greed_67 {p : Program} {l : Launch} {e : Env} {s : State} {m : MethodId} {args : Array Value} {below : List Frame} {meth : Method} {c : Code} {G : gG} {h0 : Nat} {ad : Nat → Nat} {K40 : Int32 → Int32 → Int64 → Int32 → MS → Prop} {post : Int32 → MS → Prop} (X : mX G h0 ad p s m args c cX1_greed) (hml : c.maxLocals = 13) (hr : meth.sig.returnType = (some .int)) (hlk : meth.locks = false) (hK40 : ∀ (x1 : Int32) (x3 : Int32) (x4 : Int64) (x6 : Int32) (S : MS) (H : Heap) (locs : List Loc) (ls : Array Slot), K40 x1 x3 x4 x6 S → mH G h0 ad s S H locs → lv_has ls 13 [(0, .ref h0), (1, .int x1), (3, .int x3), (4, .long x4), (6, .int x6)] → W p l e ⟨3, 0, 0, 67⟩ s m args below meth c H locs 0 0 (MQ below (gQ vI post (mBw G h0 ad) (mAd h0 ad)) args s 0 0 (mAd h0 ad)) (F0 m 40 ls [])) : ∀ (n : Nat) (x1 : Int32) (x3 : Int32) (x4 : Int64) (x6 : Int32) (x7 : Int32) (x8 : Int32) (S : MS) (H : Heap) (locs : List Loc) (ls : Array Slot), wX1_greed_67 K40 post n x1 x3 x4 x6 x7 x8 S → mH G h0 ad s S H locs → lv_has ls 13 [(0, .ref h0), (1, .int x1), (3, .int x3), (4, .long x4), (6, .int x6), (7, .int x7), (8, .int x8)] → W p l e ⟨3, 0, 0, 67⟩ s m args below meth c H locs 0 0 (MQ below (gQ vI post (mBw G h0 ad) (mAd h0 ad)) args s 0 0 (mAd h0 ad)) (F0 m 67 ls []) := by
  have hx := X.1
  have hb := X.2.1
  have hown := X.2.2.1
  have hts := X.2.2.2.1
  intro n
  induction n with
  | zero =>
    intro x1 x3 x4 x6 x7 x8 S H locs ls h
    exact False.elim h
  | succ n ih =>
    intro x1 x3 x4 x6 x7 x8 S H locs ls h hw hl
    unfold wX1_greed_67 at h
    refine lv_iload (pc := 67) hx hb dX1_greed_67 (lv_at hl 6 rfl) ?_
    refine lv_aload_n (pc := 69) hx hb dX1_greed_69 rfl (lv_at hl 0 rfl) ?_
    refine lv_iload_n (pc := 70) hx hb dX1_greed_70 rfl (lv_at hl 1 rfl) ?_
    refine lv_iload (pc := 71) hx hb dX1_greed_71 (lv_at hl 4 rfl) ?_
    refine lv_iconst (pc := 73) (v := (3 : Int32)) hx hb dX1_greed_73 (by decide) ?_
    refine uX1_of (pc := 74) X hml hw h ⟨Nat.le_of_ble_eq_true rfl, Nat.le_of_ble_eq_true rfl⟩ hl.1 (Nat.le_of_ble_eq_true rfl) ⟨Nat.le_refl _, Nat.le_refl _⟩ dX1_greed_74 (fun r10 S11 H locs h hw => ?_)
    refine lv_icmp_gt (pc := 77) (tgt := 157) hx hb dX1_greed_77 rfl (fun c12 => ?_) (fun c12 => ?_)
    · have h := h.1 c12
      refine lv_iload (pc := 157) hx hb dX1_greed_157 (lv_at hl 4 rfl) ?_
      refine lv_iload_n (pc := 159) hx hb dX1_greed_159 rfl (lv_at hl 2 rfl) ?_
      refine lv_icmp_ne (pc := 160) (tgt := 166) hx hb dX1_greed_160 rfl (fun c13 => ?_) (fun c13 => ?_)
      · have h := h.2 c13
        refine lv_lload (pc := 166) hx hb dX1_greed_166 (lv_at hl 3 rfl) ?_
        refine lv_aload_n (pc := 168) hx hb dX1_greed_168 rfl (lv_at hl 0 rfl) ?_
        refine lv_iload_n (pc := 169) hx hb dX1_greed_169 rfl (lv_at hl 1 rfl) ?_
        refine lv_iload (pc := 170) hx hb dX1_greed_170 (lv_at hl 4 rfl) ?_
        refine lv_iload (pc := 172) hx hb dX1_greed_172 (lv_at hl 5 rfl) ?_
        refine lv_i2l (pc := 174) hx hb dX1_greed_174 rfl ?_
        refine uX1_valueOf (pc := 175) X hml hw h ⟨Nat.le_of_ble_eq_true rfl, Nat.le_of_ble_eq_true rfl⟩ hl.1 (Nat.le_of_ble_eq_true rfl) ⟨Nat.le_refl _, Nat.le_refl _⟩ dX1_greed_175 (fun r14 S15 H locs h hw => ?_)
        refine lv_lsub (pc := 178) hx hb dX1_greed_178 ?_
        refine lv_lstore (pc := 179) (lv' := [(4, .long (x4 - r14)), (0, .ref h0), (1, .int x1), (3, .int x3), (6, .int x6), (7, .int x7), (8, .int x8)]) hx hb dX1_greed_179 hl (by decide) rfl (fun ls hl => ?_)
        refine lv_iinc (pc := 181) (v := x6 + (1 : Int32)) (lv' := [(6, .int (x6 + (1 : Int32))), (4, .long (x4 - r14)), (0, .ref h0), (1, .int x1), (3, .int x3), (7, .int x7), (8, .int x8)]) hx hb dX1_greed_181 hl (k := 4) rfl rfl (by decide) rfl (fun ls hl => ?_)
        refine lv_goto (pc := 184) (tgt := 40) hx hb dX1_greed_184 rfl ?_
        exact hK40 _ _ _ _ _ _ _ _ h hw (lv_sub hl [2, 3, 4, 1, 0] rfl)
      · have h := h.1 c13
        refine lv_iload (pc := 163) hx hb dX1_greed_163 (lv_at hl 5 rfl) ?_
        exact W.iret (pc := 165) hx hb hr (fun t ht hW => m_ret (val := vI) hw h ht) hw.2.2.2 dX1_greed_165 hlk
    · have h := h.2 c12
      refine lv_aload_n (pc := 80) hx hb dX1_greed_80 rfl (lv_at hl 0 rfl) ?_
      refine lv_iload_n (pc := 81) hx hb dX1_greed_81 rfl (lv_at hl 1 rfl) ?_
      refine lv_iload (pc := 82) hx hb dX1_greed_82 (lv_at hl 4 rfl) ?_
      refine lv_iload (pc := 84) hx hb dX1_greed_84 (lv_at hl 6 rfl) ?_
      refine lv_i2l (pc := 86) hx hb dX1_greed_86 rfl ?_
      refine uX1_valueOf (pc := 87) X hml hw h ⟨Nat.le_of_ble_eq_true rfl, Nat.le_of_ble_eq_true rfl⟩ hl.1 (Nat.le_of_ble_eq_true rfl) ⟨Nat.le_refl _, Nat.le_refl _⟩ dX1_greed_87 (fun r16 S17 H locs h hw => ?_)
      refine lv_lstore (pc := 90) (lv' := [(9, .long r16), (0, .ref h0), (1, .int x1), (3, .int x3), (4, .long x4), (6, .int x6), (7, .int x7), (8, .int x8)]) hx hb dX1_greed_90 hl (by decide) rfl (fun ls hl => ?_)
      refine lv_aload_n (pc := 92) hx hb dX1_greed_92 rfl (lv_at hl 1 rfl) ?_
      refine lv_iload_n (pc := 93) hx hb dX1_greed_93 rfl (lv_at hl 2 rfl) ?_
      refine lv_iload (pc := 94) hx hb dX1_greed_94 (lv_at hl 5 rfl) ?_
      refine lv_iload (pc := 96) hx hb dX1_greed_96 (lv_at hl 6 rfl) ?_
      refine lv_i2l (pc := 98) hx hb dX1_greed_98 rfl ?_
      refine uX1_valueOf (pc := 99) X hml hw h ⟨Nat.le_of_ble_eq_true rfl, Nat.le_of_ble_eq_true rfl⟩ hl.1 (Nat.le_of_ble_eq_true rfl) ⟨Nat.le_refl _, Nat.le_refl _⟩ dX1_greed_99 (fun r18 S19 H locs h hw => ?_)
      refine lv_lstore (pc := 102) (lv' := [(11, .long r18), (9, .long r16), (0, .ref h0), (1, .int x1), (3, .int x3), (4, .long x4), (6, .int x6), (7, .int x7), (8, .int x8)]) hx hb dX1_greed_102 hl (by decide) rfl (fun ls hl => ?_)
      refine lv_lload (pc := 104) hx hb dX1_greed_104 (lv_at hl 1 rfl) ?_
      refine lv_lload (pc := 106) hx hb dX1_greed_106 (lv_at hl 5 rfl) ?_
      refine W.lcmp (pc := 108) hx hb dX1_greed_108 ?_
      refine lv_if_gt (pc := 109) (tgt := 131) hx hb dX1_greed_109 rfl (fun c20 => ?_) (fun c20 => ?_)
      · have h := h.1 ((lg_cmp_gt _ _).mp c20)
        refine lv_lload (pc := 131) hx hb dX1_greed_131 (lv_at hl 0 rfl) ?_
        refine lv_lload (pc := 133) hx hb dX1_greed_133 (lv_at hl 5 rfl) ?_
        refine W.lcmp (pc := 135) hx hb dX1_greed_135 ?_
        refine lv_if_le (pc := 136) (tgt := 151) hx hb dX1_greed_136 rfl (fun c21 => ?_) (fun c21 => ?_)
        · have h := h.1 ((lg_cmp_le _ _).mp c21)
          exact kX1_greed_151 X hml hr hlk hK40 ih _ _ _ _ _ _ _ _ _ _ h hw (lv_sub hl [2, 3, 4, 5, 6, 7, 8] rfl)
        · have h := h.2 (fun z => c21 ((lg_cmp_le _ _).mpr z))
          refine lv_lload (pc := 139) hx hb dX1_greed_139 (lv_at hl 1 rfl) ?_
          refine lv_lload (pc := 141) hx hb dX1_greed_141 (lv_at hl 0 rfl) ?_
          refine W.lcmp (pc := 143) hx hb dX1_greed_143 ?_
          refine lv_if_ge (pc := 144) (tgt := 151) hx hb dX1_greed_144 rfl (fun c22 => ?_) (fun c22 => ?_)
          · have h := h.1 ((lg_cmp_ge _ _).mp c22)
            exact kX1_greed_151 X hml hr hlk hK40 ih _ _ _ _ _ _ _ _ _ _ h hw (lv_sub hl [2, 3, 4, 5, 6, 7, 8] rfl)
          · have h := h.2 (fun z => c22 ((lg_cmp_ge _ _).mpr z))
            exact kX1_greed_147 X hml hr hlk hK40 ih _ _ _ _ _ _ _ _ _ h hw (lv_sub hl [2, 3, 4, 5, 6, 8] rfl)
      · have h := h.2 (fun z => c20 ((lg_cmp_gt _ _).mpr z))
        refine lv_lload (pc := 112) hx hb dX1_greed_112 (lv_at hl 0 rfl) ?_
        refine lv_lload (pc := 114) hx hb dX1_greed_114 (lv_at hl 5 rfl) ?_
        refine W.lcmp (pc := 116) hx hb dX1_greed_116 ?_
        refine lv_if_gt (pc := 117) (tgt := 147) hx hb dX1_greed_117 rfl (fun c23 => ?_) (fun c23 => ?_)
        · have h := h.1 ((lg_cmp_gt _ _).mp c23)
          exact kX1_greed_147 X hml hr hlk hK40 ih _ _ _ _ _ _ _ _ _ h hw (lv_sub hl [2, 3, 4, 5, 6, 8] rfl)
        · have h := h.2 (fun z => c23 ((lg_cmp_gt _ _).mpr z))
          refine lv_lload (pc := 120) hx hb dX1_greed_120 (lv_at hl 1 rfl) ?_
          refine lv_lload (pc := 122) hx hb dX1_greed_122 (lv_at hl 0 rfl) ?_
          refine W.lcmp (pc := 124) hx hb dX1_greed_124 ?_
          refine lv_if_le (pc := 125) (tgt := 151) hx hb dX1_greed_125 rfl (fun c24 => ?_) (fun c24 => ?_)
          · have h := h.1 ((lg_cmp_le _ _).mp c24)
            exact kX1_greed_151 X hml hr hlk hK40 ih _ _ _ _ _ _ _ _ _ _ h hw (lv_sub hl [2, 3, 4, 5, 6, 7, 8] rfl)
          · have h := h.2 (fun z => c24 ((lg_cmp_le _ _).mpr z))
            refine lv_goto (pc := 128) (tgt := 147) hx hb dX1_greed_128 rfl ?_
            exact kX1_greed_147 X hml hr hlk hK40 ih _ _ _ _ _ _ _ _ _ h hw (lv_sub hl [2, 3, 4, 5, 6, 8] rfl)
theorem kX1_greed_40 {p : Program} {l : Launch} {e : Env} {s : State} {m : MethodId} {args : Array Value} {below : List Frame} {meth : Method} {c : Code} {G : gG} {h0 : Nat} {ad : Nat → Nat} {post : Int32 → MS → Prop} (X : mX G h0 ad p s m args c cX1_greed) (hml : c.maxLocals = 13) (hr : meth.sig.returnType = (some .int)) (hlk : meth.locks = false) : ∀ (n : Nat) (x1 : Int32) (x3 : Int32) (x4 : Int64) (x6 : Int32) (S : MS) (H : Heap) (locs : List Loc) (ls : Array Slot), wX1_greed_40 post n x1 x3 x4 x6 S → mH G h0 ad s S H locs → lv_has ls 13 [(0, .ref h0), (1, .int x1), (3, .int x3), (4, .long x4), (6, .int x6)] → W p l e ⟨3, 0, 0, 67⟩ s m args below meth c H locs 0 0 (MQ below (gQ vI post (mBw G h0 ad) (mAd h0 ad)) args s 0 0 (mAd h0 ad)) (F0 m 40 ls []) := by
  have hx := X.1
  have hb := X.2.1
  have hown := X.2.2.1
  have hts := X.2.2.2.1
  intro n
  induction n with
  | zero =>
    intro x1 x3 x4 x6 S H locs ls h
    exact False.elim h
  | succ n ih =>
    intro x1 x3 x4 x6 S H locs ls h hw hl
    unfold wX1_greed_40 at h
    refine lv_iload (pc := 40) hx hb dX1_greed_40 (lv_at hl 4 rfl) ?_
    refine lv_aload_n (pc := 42) hx hb dX1_greed_42 rfl (lv_at hl 0 rfl) ?_
    refine mg0 (pc := 43) X hw dX1_greed_43 ?_
    refine lv_iload_n (pc := 46) hx hb dX1_greed_46 rfl (lv_at hl 1 rfl) ?_
    obtain ⟨hi, h⟩ := h
    refine ma0 (pc := 47) X hw hi dX1_greed_47 ?_
    refine lv_icmp_ge (pc := 48) (tgt := 187) hx hb dX1_greed_48 rfl (fun c7 => ?_) (fun c7 => ?_)
    · have h := h.1 c7
      refine lv_lload (pc := 187) hx hb dX1_greed_187 (lv_at hl 3 rfl) ?_
      refine lv_l2i (pc := 189) hx hb dX1_greed_189 rfl ?_
      exact W.iret (pc := 190) hx hb hr (fun t ht hW => m_ret (val := vI) hw h ht) hw.2.2.2 dX1_greed_190 hlk
    · have h := h.2 c7
      refine lv_aload_n (pc := 51) hx hb dX1_greed_51 rfl (lv_at hl 0 rfl) ?_
      refine lv_iload_n (pc := 52) hx hb dX1_greed_52 rfl (lv_at hl 1 rfl) ?_
      refine lv_iload (pc := 53) hx hb dX1_greed_53 (lv_at hl 4 rfl) ?_
      refine lv_iconst (pc := 55) (v := (2 : Int32)) hx hb dX1_greed_55 (by decide) ?_
      refine uX1_of (pc := 56) X hml hw h ⟨Nat.le_of_ble_eq_true rfl, Nat.le_of_ble_eq_true rfl⟩ hl.1 (Nat.le_of_ble_eq_true rfl) ⟨Nat.le_refl _, Nat.le_refl _⟩ dX1_greed_56 (fun r8 S9 H locs h hw => ?_)
      refine lv_istore (pc := 59) (lv' := [(7, .int r8), (0, .ref h0), (1, .int x1), (3, .int x3), (4, .long x4), (6, .int x6)]) hx hb dX1_greed_59 hl (by decide) rfl (fun ls hl => ?_)
      refine lv_iload (pc := 61) hx hb dX1_greed_61 (lv_at hl 0 rfl) ?_
      refine lv_iconst (pc := 63) (v := (1 : Int32)) hx hb dX1_greed_63 (by decide) ?_
      refine lv_iadd (pc := 64) hx hb dX1_greed_64 ?_
      refine lv_istore (pc := 65) (lv' := [(8, .int (r8 + (1 : Int32))), (7, .int r8), (0, .ref h0), (1, .int x1), (3, .int x3), (4, .long x4), (6, .int x6)]) hx hb dX1_greed_65 hl (by decide) rfl (fun ls hl => ?_)
      obtain ⟨k, h⟩ := h
      exact kX1_greed_67 X hml hr hlk ih k _ _ _ _ _ _ _ _ _ _ h hw (lv_sub hl [2, 3, 4, 5, 6, 1, 0] rfl)
theorem kX1_greed_33 {p : Program} {l : Launch} {e : Env} {s : State} {m : MethodId} {args : Array Value} {below : List Frame} {meth : Method} {c : Code} {G : gG} {h0 : Nat} {ad : Nat → Nat} {post : Int32 → MS → Prop} (X : mX G h0 ad p s m args c cX1_greed) (hml : c.maxLocals = 13) (hr : meth.sig.returnType = (some .int)) (hlk : meth.locks = false) : ∀ (x1 : Int32) (x2 : Int32) (x3 : Int32) (S : MS) (H : Heap) (locs : List Loc) (ls : Array Slot), wX1_greed_33 post x1 x2 x3 S → mH G h0 ad s S H locs → lv_has ls 13 [(0, .ref h0), (1, .int x1), (2, .int x2), (3, .int x3)] → W p l e ⟨3, 0, 0, 67⟩ s m args below meth c H locs 0 0 (MQ below (gQ vI post (mBw G h0 ad) (mAd h0 ad)) args s 0 0 (mAd h0 ad)) (F0 m 33 ls []) := by
  have hx := X.1
  have hb := X.2.1
  have hown := X.2.2.1
  have hts := X.2.2.2.1
  intro x1 x2 x3 S H locs ls h hw hl
  unfold wX1_greed_33 at h
  refine lv_iload_n (pc := 33) hx hb dX1_greed_33 rfl (lv_at hl 2 rfl) ?_
  refine lv_i2l (pc := 34) hx hb dX1_greed_34 rfl ?_
  refine lv_lstore (pc := 35) (lv' := [(4, .long x2.toInt64), (0, .ref h0), (1, .int x1), (2, .int x2), (3, .int x3)]) hx hb dX1_greed_35 hl (by decide) rfl (fun ls hl => ?_)
  refine lv_iconst (pc := 37) (v := (0 : Int32)) hx hb dX1_greed_37 (by decide) ?_
  refine lv_istore (pc := 38) (lv' := [(6, .int (0 : Int32)), (4, .long x2.toInt64), (0, .ref h0), (1, .int x1), (2, .int x2), (3, .int x3)]) hx hb dX1_greed_38 hl (by decide) rfl (fun ls hl => ?_)
  obtain ⟨k, h⟩ := h
  exact kX1_greed_40 X hml hr hlk  k _ _ _ _ _ _ _ _ h hw (lv_sub hl [2, 3, 5, 1, 0] rfl)
theorem tX1_greed {l : Launch} {G : gG} {h0 : Nat} {ad : Nat → Nat} (hd : mOk G h0 ad) {post : Int32 → MS → Prop} {S : MS} {x1 : Int32} {x2 : Int32} {x3 : Int32} (h : wX1_greed post S x1 x2 x3) : Met l yX1_greed (ws_ yX1_greed cX1_greed 13 (some .int)) ⟨3, 0, 0, 67⟩ (va_Pc (.ref h0 :: [.int x1, .int x2, .int x3]) (fun U => mBw G h0 ad S U.heap ∧ gK G U)) (gQ vI post (mBw G h0 ad) (mAd h0 ad)) 0 0 (mAd h0 ad) := by
  refine m_ofW (by decide) rfl hd (Nat.le_of_ble_eq_true rfl) (fun p e s m below meth c ls X hml hr hlk hw hl => ?_)
  have hl : lv_has ls 13 [(0, .ref h0), (1, .int x1), (2, .int x2), (3, .int x3)] := hl
  have hx := X.1
  have hb := X.2.1
  have hown := X.2.2.1
  have hts := X.2.2.2.1
  unfold wX1_greed at h
  refine lv_aload_n (pc := 0) hx hb dX1_greed_0 rfl (lv_at hl 0 rfl) ?_
  refine lv_iload_n (pc := 1) hx hb dX1_greed_1 rfl (lv_at hl 1 rfl) ?_
  refine uX1_isForm (pc := 2) X hml hw h ⟨Nat.le_of_ble_eq_true rfl, Nat.le_of_ble_eq_true rfl⟩ hl.1 (Nat.le_of_ble_eq_true rfl) ⟨Nat.le_refl _, Nat.le_refl _⟩ dX1_greed_2 (fun r1 S2 H locs h hw => ?_)
  refine lv_if_eq (pc := 5) (tgt := 29) hx hb dX1_greed_5 rfl (fun c3 => ?_) (fun c3 => ?_)
  · have h := h.1 c3
    refine lv_ldcw (pc := 29) hx hb hown (hts _ q2305) dX1_greed_29 ?_
    exact W.iret (pc := 32) hx hb hr (fun t ht hW => m_ret (val := vI) hw h ht) hw.2.2.2 dX1_greed_32 hlk
  · have h := h.2 c3
    refine lv_iload_n (pc := 8) hx hb dX1_greed_8 rfl (lv_at hl 2 rfl) ?_
    refine uX1_isN (pc := 9) ⟨hx, hb, hml, hown, hts⟩ h ⟨Nat.le_of_ble_eq_true rfl, Nat.le_of_ble_eq_true rfl⟩ hl.1 (Nat.le_of_ble_eq_true rfl) ⟨Nat.le_refl _, Nat.le_refl _⟩ dX1_greed_9 (fun r4 h => ?_)
    refine lv_if_eq (pc := 12) (tgt := 29) hx hb dX1_greed_12 rfl (fun c5 => ?_) (fun c5 => ?_)
    · have h := h.1 c5
      refine lv_ldcw (pc := 29) hx hb hown (hts _ q2305) dX1_greed_29 ?_
      exact W.iret (pc := 32) hx hb hr (fun t ht hW => m_ret (val := vI) hw h ht) hw.2.2.2 dX1_greed_32 hlk
    · have h := h.2 c5
      refine lv_iload_n (pc := 15) hx hb dX1_greed_15 rfl (lv_at hl 3 rfl) ?_
      refine lv_iconst (pc := 16) (v := (-1 : Int32)) hx hb dX1_greed_16 (by decide) ?_
      refine lv_icmp_eq (pc := 17) (tgt := 33) hx hb dX1_greed_17 rfl (fun c6 => ?_) (fun c6 => ?_)
      · have h := h.1 c6
        exact kX1_greed_33 X hml hr hlk  _ _ _ _ _ _ _ h hw (lv_sub hl [0, 1, 2, 3] rfl)
      · have h := h.2 c6
        refine lv_aload_n (pc := 20) hx hb dX1_greed_20 rfl (lv_at hl 0 rfl) ?_
        refine lv_iload_n (pc := 21) hx hb dX1_greed_21 rfl (lv_at hl 1 rfl) ?_
        refine lv_iload_n (pc := 22) hx hb dX1_greed_22 rfl (lv_at hl 3 rfl) ?_
        refine uX1_isTerm (pc := 23) X hml hw h ⟨Nat.le_of_ble_eq_true rfl, Nat.le_of_ble_eq_true rfl⟩ hl.1 (Nat.le_of_ble_eq_true rfl) ⟨Nat.le_refl _, Nat.le_refl _⟩ dX1_greed_23 (fun r25 S26 H locs h hw => ?_)
        refine lv_if_ne (pc := 26) (tgt := 33) hx hb dX1_greed_26 rfl (fun c27 => ?_) (fun c27 => ?_)
        · have h := h.2 c27
          exact kX1_greed_33 X hml hr hlk  _ _ _ _ _ _ _ h hw (lv_sub hl [0, 1, 2, 3] rfl)
        · have h := h.1 c27
          refine lv_ldcw (pc := 29) hx hb hown (hts _ q2305) dX1_greed_29 ?_
          exact W.iret (pc := 32) hx hb hr (fun t ht hW => m_ret (val := vI) hw h ht) hw.2.2.2 dX1_greed_32 hlk

def wX1_enough_42 (K29 : Int32 → Int32 → Int32 → MS → Prop) (post : Int32 → MS → Prop) : Nat → Int32 → Int32 → Int32 → Int32 → MS → Prop
  | 0, _, _, _, _, _ => False
  | n + 1, x1, x2, x3, x4, S => (((30001 : Int32) ≤ x4) → (wX1_of (fun r10 S11 => wX1_of (fun r12 S13 => wX1_of (fun r14 S15 => wX1_of (fun r16 S17 => wX1_laysLayer (fun _ S19 => wX1_waysOf (fun r20 S21 => ((r20 ≤ (0 : Int64)) → (K29 x1 x2 (x3 + (1 : Int32)) S21)) ∧ (¬ (r20 ≤ (0 : Int64)) → (post (x3 + (1 : Int32)) S21))) S19 x2) S17 (0 : Int32) (1 : Int32) r10 r12 r14 r16) S15 x1 x3 (3 : Int32)) S13 x1 x3 (2 : Int32)) S11 x1 x3 (1 : Int32)) S x1 x3 (0 : Int32))) ∧ (¬ ((30001 : Int32) ≤ x4) → (vp_in x4 180006 ∧ (vp_in ((30001 : Int32) + x4) 180006 ∧ (wX1_enough_42 K29 post n x1 x2 x3 (x4 + (1 : Int32)) (mB S 22 (vp_updL (S.2.2.2 22) ((30001 : Int32) + x4).toNatClampNeg (S.2.2.2 22 x4.toNatClampNeg)))))))
def wX1_enough_29 (post : Int32 → MS → Prop) : Nat → Int32 → Int32 → Int32 → MS → Prop
  | 0, _, _, _, _ => False
  | n + 1, x1, x2, x3, S => vp_in x1 5 ∧ ((((S.2.2.1 0 x1.toNatClampNeg) ≤ x3) → (post (-1 : Int32) S)) ∧ (¬ ((S.2.2.1 0 x1.toNatClampNeg) ≤ x3) → ((∃ k, wX1_enough_42 (fun x1 x2 x3 S => wX1_enough_29 post n x1 x2 x3 S) post k x1 x2 x3 (0 : Int32) S))))
def wX1_enough (post : Int32 → MS → Prop) (S : MS) (x1 : Int32) (x2 : Int32) : Prop :=
  wX1_isForm (fun r1 S2 => ((r1 = (0 : Int32)) → (post (-1 : Int32) S2)) ∧ (¬ (r1 = (0 : Int32)) → (wX1_isN (fun r4 => ((r4 = (0 : Int32)) → (post (-1 : Int32) S2)) ∧ (¬ (r4 = (0 : Int32)) → (wX1_laysNought (fun _ S7 => (∃ k, wX1_enough_29 post k x1 x2 (0 : Int32) S7)) (mI S2 21 (-1 : Int32)) (0 : Int32)))) x2))) S x1
theorem kX1_enough_42 {p : Program} {l : Launch} {e : Env} {s : State} {m : MethodId} {args : Array Value} {below : List Frame} {meth : Method} {c : Code} {G : gG} {h0 : Nat} {ad : Nat → Nat} {K29 : Int32 → Int32 → Int32 → MS → Prop} {post : Int32 → MS → Prop} (X : mX G h0 ad p s m args c cX1_enough) (hml : c.maxLocals = 5) (hr : meth.sig.returnType = (some .int)) (hlk : meth.locks = false) (hK29 : ∀ (x1 : Int32) (x2 : Int32) (x3 : Int32) (S : MS) (H : Heap) (locs : List Loc) (ls : Array Slot), K29 x1 x2 x3 S → mH G h0 ad s S H locs → lv_has ls 5 [(0, .ref h0), (1, .int x1), (2, .int x2), (3, .int x3)] → W p l e ⟨3, 0, 0, 78⟩ s m args below meth c H locs 0 0 (MQ below (gQ vI post (mBw G h0 ad) (mAd h0 ad)) args s 0 0 (mAd h0 ad)) (F0 m 29 ls [])) : ∀ (n : Nat) (x1 : Int32) (x2 : Int32) (x3 : Int32) (x4 : Int32) (S : MS) (H : Heap) (locs : List Loc) (ls : Array Slot), wX1_enough_42 K29 post n x1 x2 x3 x4 S → mH G h0 ad s S H locs → lv_has ls 5 [(0, .ref h0), (1, .int x1), (2, .int x2), (3, .int x3), (4, .int x4)] → W p l e ⟨3, 0, 0, 78⟩ s m args below meth c H locs 0 0 (MQ below (gQ vI post (mBw G h0 ad) (mAd h0 ad)) args s 0 0 (mAd h0 ad)) (F0 m 42 ls []) := by
  have hx := X.1
  have hb := X.2.1
  have hown := X.2.2.1
  have hts := X.2.2.2.1
  intro n
  induction n with
  | zero =>
    intro x1 x2 x3 x4 S H locs ls h
    exact False.elim h
  | succ n ih =>
    intro x1 x2 x3 x4 S H locs ls h hw hl
    unfold wX1_enough_42 at h
    refine lv_iload (pc := 42) hx hb dX1_enough_42 (lv_at hl 4 rfl) ?_
    refine lv_sipush (pc := 44) (v := (30001 : Int32)) hx hb dX1_enough_44 (by decide) ?_
    refine lv_icmp_ge (pc := 47) (tgt := 74) hx hb dX1_enough_47 rfl (fun c9 => ?_) (fun c9 => ?_)
    · have h := h.1 c9
      refine lv_aload_n (pc := 74) hx hb dX1_enough_74 rfl (lv_at hl 0 rfl) ?_
      refine lv_iconst (pc := 75) (v := (0 : Int32)) hx hb dX1_enough_75 (by decide) ?_
      refine lv_iconst (pc := 76) (v := (1 : Int32)) hx hb dX1_enough_76 (by decide) ?_
      refine lv_aload_n (pc := 77) hx hb dX1_enough_77 rfl (lv_at hl 0 rfl) ?_
      refine lv_iload_n (pc := 78) hx hb dX1_enough_78 rfl (lv_at hl 1 rfl) ?_
      refine lv_iload_n (pc := 79) hx hb dX1_enough_79 rfl (lv_at hl 3 rfl) ?_
      refine lv_iconst (pc := 80) (v := (0 : Int32)) hx hb dX1_enough_80 (by decide) ?_
      refine uX1_of (pc := 81) X hml hw h ⟨Nat.le_of_ble_eq_true rfl, Nat.le_of_ble_eq_true rfl⟩ hl.1 (Nat.le_of_ble_eq_true rfl) ⟨Nat.le_refl _, Nat.le_refl _⟩ dX1_enough_81 (fun r10 S11 H locs h hw => ?_)
      refine lv_aload_n (pc := 84) hx hb dX1_enough_84 rfl (lv_at hl 0 rfl) ?_
      refine lv_iload_n (pc := 85) hx hb dX1_enough_85 rfl (lv_at hl 1 rfl) ?_
      refine lv_iload_n (pc := 86) hx hb dX1_enough_86 rfl (lv_at hl 3 rfl) ?_
      refine lv_iconst (pc := 87) (v := (1 : Int32)) hx hb dX1_enough_87 (by decide) ?_
      refine uX1_of (pc := 88) X hml hw h ⟨Nat.le_of_ble_eq_true rfl, Nat.le_of_ble_eq_true rfl⟩ hl.1 (Nat.le_of_ble_eq_true rfl) ⟨Nat.le_refl _, Nat.le_refl _⟩ dX1_enough_88 (fun r12 S13 H locs h hw => ?_)
      refine lv_aload_n (pc := 91) hx hb dX1_enough_91 rfl (lv_at hl 0 rfl) ?_
      refine lv_iload_n (pc := 92) hx hb dX1_enough_92 rfl (lv_at hl 1 rfl) ?_
      refine lv_iload_n (pc := 93) hx hb dX1_enough_93 rfl (lv_at hl 3 rfl) ?_
      refine lv_iconst (pc := 94) (v := (2 : Int32)) hx hb dX1_enough_94 (by decide) ?_
      refine uX1_of (pc := 95) X hml hw h ⟨Nat.le_of_ble_eq_true rfl, Nat.le_of_ble_eq_true rfl⟩ hl.1 (Nat.le_of_ble_eq_true rfl) ⟨Nat.le_refl _, Nat.le_refl _⟩ dX1_enough_95 (fun r14 S15 H locs h hw => ?_)
      refine lv_aload_n (pc := 98) hx hb dX1_enough_98 rfl (lv_at hl 0 rfl) ?_
      refine lv_iload_n (pc := 99) hx hb dX1_enough_99 rfl (lv_at hl 1 rfl) ?_
      refine lv_iload_n (pc := 100) hx hb dX1_enough_100 rfl (lv_at hl 3 rfl) ?_
      refine lv_iconst (pc := 101) (v := (3 : Int32)) hx hb dX1_enough_101 (by decide) ?_
      refine uX1_of (pc := 102) X hml hw h ⟨Nat.le_of_ble_eq_true rfl, Nat.le_of_ble_eq_true rfl⟩ hl.1 (Nat.le_of_ble_eq_true rfl) ⟨Nat.le_refl _, Nat.le_refl _⟩ dX1_enough_102 (fun r16 S17 H locs h hw => ?_)
      refine uX1_laysLayer (pc := 105) X hml hw h ⟨Nat.le_of_ble_eq_true rfl, Nat.le_of_ble_eq_true rfl⟩ hl.1 (Nat.le_of_ble_eq_true rfl) ⟨Nat.le_refl _, Nat.le_refl _⟩ dX1_enough_105 (fun _ S19 H locs h hw => ?_)
      refine lv_aload_n (pc := 108) hx hb dX1_enough_108 rfl (lv_at hl 0 rfl) ?_
      refine lv_iload_n (pc := 109) hx hb dX1_enough_109 rfl (lv_at hl 2 rfl) ?_
      refine uX1_waysOf (pc := 110) X hml hw h ⟨Nat.le_of_ble_eq_true rfl, Nat.le_of_ble_eq_true rfl⟩ hl.1 (Nat.le_of_ble_eq_true rfl) ⟨Nat.le_refl _, Nat.le_refl _⟩ dX1_enough_110 (fun r20 S21 H locs h hw => ?_)
      refine lv_lconst (pc := 113) (v := (0 : Int64)) hx hb dX1_enough_113 (by decide) ?_
      refine W.lcmp (pc := 114) hx hb dX1_enough_114 ?_
      refine lv_if_le (pc := 115) (tgt := 122) hx hb dX1_enough_115 rfl (fun c22 => ?_) (fun c22 => ?_)
      · have h := h.1 ((lg_cmp_le _ _).mp c22)
        refine lv_iinc (pc := 122) (v := x3 + (1 : Int32)) (lv' := [(3, .int (x3 + (1 : Int32))), (0, .ref h0), (1, .int x1), (2, .int x2), (4, .int x4)]) hx hb dX1_enough_122 hl (k := 3) rfl rfl (by decide) rfl (fun ls hl => ?_)
        refine lv_goto (pc := 125) (tgt := 29) hx hb dX1_enough_125 rfl ?_
        exact hK29 _ _ _ _ _ _ _ h hw (lv_sub hl [1, 2, 3, 0] rfl)
      · have h := h.2 (fun z => c22 ((lg_cmp_le _ _).mpr z))
        refine lv_iload_n (pc := 118) hx hb dX1_enough_118 rfl (lv_at hl 3 rfl) ?_
        refine lv_iconst (pc := 119) (v := (1 : Int32)) hx hb dX1_enough_119 (by decide) ?_
        refine lv_iadd (pc := 120) hx hb dX1_enough_120 ?_
        exact W.iret (pc := 121) hx hb hr (fun t ht hW => m_ret (val := vI) hw h ht) hw.2.2.2 dX1_enough_121 hlk
    · have h := h.2 c9
      refine lv_aload_n (pc := 50) hx hb dX1_enough_50 rfl (lv_at hl 0 rfl) ?_
      refine mg22 (pc := 51) X hw dX1_enough_51 ?_
      refine lv_sipush (pc := 54) (v := (30001 : Int32)) hx hb dX1_enough_54 (by decide) ?_
      refine lv_iload (pc := 57) hx hb dX1_enough_57 (lv_at hl 4 rfl) ?_
      refine lv_iadd (pc := 59) hx hb dX1_enough_59 ?_
      refine lv_aload_n (pc := 60) hx hb dX1_enough_60 rfl (lv_at hl 0 rfl) ?_
      refine mg22 (pc := 61) X hw dX1_enough_61 ?_
      refine lv_iload (pc := 64) hx hb dX1_enough_64 (lv_at hl 4 rfl) ?_
      obtain ⟨hi, h⟩ := h
      refine ma22 (pc := 66) X hw hi dX1_enough_66 ?_
      obtain ⟨hi, h⟩ := h
      refine ms22 (pc := 67) X hw hi dX1_enough_67 (fun H locs hw => ?_)
      refine lv_iinc (pc := 68) (v := x4 + (1 : Int32)) (lv' := [(4, .int (x4 + (1 : Int32))), (0, .ref h0), (1, .int x1), (2, .int x2), (3, .int x3)]) hx hb dX1_enough_68 hl (k := 4) rfl rfl (by decide) rfl (fun ls hl => ?_)
      refine lv_goto (pc := 71) (tgt := 42) hx hb dX1_enough_71 rfl ?_
      exact ih _ _ _ _ _ _ _ _ h hw (lv_sub hl [1, 2, 3, 4, 0] rfl)
theorem kX1_enough_29 {p : Program} {l : Launch} {e : Env} {s : State} {m : MethodId} {args : Array Value} {below : List Frame} {meth : Method} {c : Code} {G : gG} {h0 : Nat} {ad : Nat → Nat} {post : Int32 → MS → Prop} (X : mX G h0 ad p s m args c cX1_enough) (hml : c.maxLocals = 5) (hr : meth.sig.returnType = (some .int)) (hlk : meth.locks = false) : ∀ (n : Nat) (x1 : Int32) (x2 : Int32) (x3 : Int32) (S : MS) (H : Heap) (locs : List Loc) (ls : Array Slot), wX1_enough_29 post n x1 x2 x3 S → mH G h0 ad s S H locs → lv_has ls 5 [(0, .ref h0), (1, .int x1), (2, .int x2), (3, .int x3)] → W p l e ⟨3, 0, 0, 78⟩ s m args below meth c H locs 0 0 (MQ below (gQ vI post (mBw G h0 ad) (mAd h0 ad)) args s 0 0 (mAd h0 ad)) (F0 m 29 ls []) := by
  have hx := X.1
  have hb := X.2.1
  have hown := X.2.2.1
  have hts := X.2.2.2.1
  intro n
  induction n with
  | zero =>
    intro x1 x2 x3 S H locs ls h
    exact False.elim h
  | succ n ih =>
    intro x1 x2 x3 S H locs ls h hw hl
    unfold wX1_enough_29 at h
    refine lv_iload_n (pc := 29) hx hb dX1_enough_29 rfl (lv_at hl 3 rfl) ?_
    refine lv_aload_n (pc := 30) hx hb dX1_enough_30 rfl (lv_at hl 0 rfl) ?_
    refine mg0 (pc := 31) X hw dX1_enough_31 ?_
    refine lv_iload_n (pc := 34) hx hb dX1_enough_34 rfl (lv_at hl 1 rfl) ?_
    obtain ⟨hi, h⟩ := h
    refine ma0 (pc := 35) X hw hi dX1_enough_35 ?_
    refine lv_icmp_ge (pc := 36) (tgt := 128) hx hb dX1_enough_36 rfl (fun c8 => ?_) (fun c8 => ?_)
    · have h := h.1 c8
      refine lv_iconst (pc := 128) (v := (-1 : Int32)) hx hb dX1_enough_128 (by decide) ?_
      exact W.iret (pc := 129) hx hb hr (fun t ht hW => m_ret (val := vI) hw h ht) hw.2.2.2 dX1_enough_129 hlk
    · have h := h.2 c8
      refine lv_iconst (pc := 39) (v := (0 : Int32)) hx hb dX1_enough_39 (by decide) ?_
      refine lv_istore (pc := 40) (lv' := [(4, .int (0 : Int32)), (0, .ref h0), (1, .int x1), (2, .int x2), (3, .int x3)]) hx hb dX1_enough_40 hl (by decide) rfl (fun ls hl => ?_)
      obtain ⟨k, h⟩ := h
      exact kX1_enough_42 X hml hr hlk ih k _ _ _ _ _ _ _ _ h hw (lv_sub hl [1, 2, 3, 4, 0] rfl)
theorem tX1_enough {l : Launch} {G : gG} {h0 : Nat} {ad : Nat → Nat} (hd : mOk G h0 ad) {post : Int32 → MS → Prop} {S : MS} {x1 : Int32} {x2 : Int32} (h : wX1_enough post S x1 x2) : Met l yX1_enough (ws_ yX1_enough cX1_enough 5 (some .int)) ⟨3, 0, 0, 78⟩ (va_Pc (.ref h0 :: [.int x1, .int x2]) (fun U => mBw G h0 ad S U.heap ∧ gK G U)) (gQ vI post (mBw G h0 ad) (mAd h0 ad)) 0 0 (mAd h0 ad) := by
  refine m_ofW (by decide) rfl hd (Nat.le_of_ble_eq_true rfl) (fun p e s m below meth c ls X hml hr hlk hw hl => ?_)
  have hl : lv_has ls 5 [(0, .ref h0), (1, .int x1), (2, .int x2)] := hl
  have hx := X.1
  have hb := X.2.1
  have hown := X.2.2.1
  have hts := X.2.2.2.1
  unfold wX1_enough at h
  refine lv_aload_n (pc := 0) hx hb dX1_enough_0 rfl (lv_at hl 0 rfl) ?_
  refine lv_iload_n (pc := 1) hx hb dX1_enough_1 rfl (lv_at hl 1 rfl) ?_
  refine uX1_isForm (pc := 2) X hml hw h ⟨Nat.le_of_ble_eq_true rfl, Nat.le_of_ble_eq_true rfl⟩ hl.1 (Nat.le_of_ble_eq_true rfl) ⟨Nat.le_refl _, Nat.le_refl _⟩ dX1_enough_2 (fun r1 S2 H locs h hw => ?_)
  refine lv_if_eq (pc := 5) (tgt := 15) hx hb dX1_enough_5 rfl (fun c3 => ?_) (fun c3 => ?_)
  · have h := h.1 c3
    refine lv_iconst (pc := 15) (v := (-1 : Int32)) hx hb dX1_enough_15 (by decide) ?_
    exact W.iret (pc := 16) hx hb hr (fun t ht hW => m_ret (val := vI) hw h ht) hw.2.2.2 dX1_enough_16 hlk
  · have h := h.2 c3
    refine lv_iload_n (pc := 8) hx hb dX1_enough_8 rfl (lv_at hl 2 rfl) ?_
    refine uX1_isN (pc := 9) ⟨hx, hb, hml, hown, hts⟩ h ⟨Nat.le_of_ble_eq_true rfl, Nat.le_of_ble_eq_true rfl⟩ hl.1 (Nat.le_of_ble_eq_true rfl) ⟨Nat.le_refl _, Nat.le_refl _⟩ dX1_enough_9 (fun r4 h => ?_)
    refine lv_if_ne (pc := 12) (tgt := 17) hx hb dX1_enough_12 rfl (fun c5 => ?_) (fun c5 => ?_)
    · have h := h.2 c5
      refine lv_aload_n (pc := 17) hx hb dX1_enough_17 rfl (lv_at hl 0 rfl) ?_
      refine lv_iconst (pc := 18) (v := (-1 : Int32)) hx hb dX1_enough_18 (by decide) ?_
      refine mp21 (pc := 19) X hw dX1_enough_19 (fun H locs hw => ?_)
      refine lv_aload_n (pc := 22) hx hb dX1_enough_22 rfl (lv_at hl 0 rfl) ?_
      refine lv_iconst (pc := 23) (v := (0 : Int32)) hx hb dX1_enough_23 (by decide) ?_
      refine uX1_laysNought (pc := 24) X hml hw h ⟨Nat.le_of_ble_eq_true rfl, Nat.le_of_ble_eq_true rfl⟩ hl.1 (Nat.le_of_ble_eq_true rfl) ⟨Nat.le_refl _, Nat.le_refl _⟩ dX1_enough_24 (fun _ S7 H locs h hw => ?_)
      refine lv_iconst (pc := 27) (v := (0 : Int32)) hx hb dX1_enough_27 (by decide) ?_
      refine lv_istore_n (pc := 28) (lv' := [(3, .int (0 : Int32)), (0, .ref h0), (1, .int x1), (2, .int x2)]) hx hb dX1_enough_28 rfl hl (by decide) rfl (fun ls hl => ?_)
      obtain ⟨k, h⟩ := h
      exact kX1_enough_29 X hml hr hlk  k _ _ _ _ _ _ _ h hw (lv_sub hl [1, 2, 3, 0] rfl)
    · have h := h.1 c5
      refine lv_iconst (pc := 15) (v := (-1 : Int32)) hx hb dX1_enough_15 (by decide) ?_
      exact W.iret (pc := 16) hx hb hr (fun t ht hW => m_ret (val := vI) hw h ht) hw.2.2.2 dX1_enough_16 hlk

def wX1_join_99 (post : Int32 → MS → Prop) : Nat → Int32 → Int32 → Int32 → Int32 → MS → Prop
  | 0, _, _, _, _, _ => False
  | n + 1, x1, x2, x3, x4, S => vp_in x2 5 ∧ ((((S.2.2.1 0 x2.toNatClampNeg) ≤ x4) → (wX1_takesOver (fun _ S12 => post (1 : Int32) S12) S x3)) ∧ (¬ ((S.2.2.1 0 x2.toNatClampNeg) ≤ x4) → (vp_in x1 5 ∧ (wX1_copies (fun _ S14 => wX1_join_99 post n x1 x2 x3 (x4 + (1 : Int32)) S14) S x2 x4 (4 : Int32) ((S.2.2.1 0 x1.toNatClampNeg) + x4)))))
def wX1_join_69 (post : Int32 → MS → Prop) : Nat → Int32 → Int32 → Int32 → Int32 → MS → Prop
  | 0, _, _, _, _, _ => False
  | n + 1, x1, x2, x3, x4, S => vp_in x1 5 ∧ ((((S.2.2.1 0 x1.toNatClampNeg) ≤ x4) → ((∃ k, wX1_join_99 post k x1 x2 x3 (0 : Int32) S))) ∧ (¬ ((S.2.2.1 0 x1.toNatClampNeg) ≤ x4) → (wX1_copies (fun _ S16 => wX1_join_69 post n x1 x2 x3 (x4 + (1 : Int32)) S16) S x1 x4 (4 : Int32) x4)))
def wX1_join (post : Int32 → MS → Prop) (S : MS) (x1 : Int32) (x2 : Int32) (x3 : Int32) : Prop :=
  wX1_isSlot (fun r1 => ((r1 = (0 : Int32)) → (post (0 : Int32) S)) ∧ (¬ (r1 = (0 : Int32)) → (wX1_isSlot (fun r3 => ((r3 = (0 : Int32)) → (post (0 : Int32) S)) ∧ (¬ (r3 = (0 : Int32)) → (wX1_isSlot (fun r5 => ((r5 = (0 : Int32)) → (post (0 : Int32) S)) ∧ (¬ (r5 = (0 : Int32)) → (vp_in x1 5 ∧ (vp_in x2 5 ∧ (wX1_isIn (fun r7 => ((r7 = (0 : Int32)) → (post (0 : Int32) S)) ∧ (¬ (r7 = (0 : Int32)) → (vp_in x1 5 ∧ (vp_in x2 5 ∧ (vp_in (4 : Int32) 5 ∧ ((∃ k, wX1_join_69 post k x1 x2 x3 (0 : Int32) (mA S 0 (upd (S.2.2.1 0) (4 : Int32).toNatClampNeg ((S.2.2.1 0 x1.toNatClampNeg) + (S.2.2.1 0 x2.toNatClampNeg))))))))))) (((S.2.2.1 0 x1.toNatClampNeg) + (S.2.2.1 0 x2.toNatClampNeg)).toInt64) (1 : Int64) (5 : Int64)))))) x3))) x2))) x1
theorem kX1_join_99 {p : Program} {l : Launch} {e : Env} {s : State} {m : MethodId} {args : Array Value} {below : List Frame} {meth : Method} {c : Code} {G : gG} {h0 : Nat} {ad : Nat → Nat} {post : Int32 → MS → Prop} (X : mX G h0 ad p s m args c cX1_join) (hml : c.maxLocals = 5) (hr : meth.sig.returnType = (some .boolean)) (hlk : meth.locks = false) : ∀ (n : Nat) (x1 : Int32) (x2 : Int32) (x3 : Int32) (x4 : Int32) (S : MS) (H : Heap) (locs : List Loc) (ls : Array Slot), wX1_join_99 post n x1 x2 x3 x4 S → mH G h0 ad s S H locs → lv_has ls 5 [(0, .ref h0), (1, .int x1), (2, .int x2), (3, .int x3), (4, .int x4)] → W p l e ⟨2, 0, 0, 47⟩ s m args below meth c H locs 0 0 (MQ below (gQ vI post (mBw G h0 ad) (mAd h0 ad)) args s 0 0 (mAd h0 ad)) (F0 m 99 ls []) := by
  have hx := X.1
  have hb := X.2.1
  have hown := X.2.2.1
  have hts := X.2.2.2.1
  intro n
  induction n with
  | zero =>
    intro x1 x2 x3 x4 S H locs ls h
    exact False.elim h
  | succ n ih =>
    intro x1 x2 x3 x4 S H locs ls h hw hl
    unfold wX1_join_99 at h
    refine lv_iload (pc := 99) hx hb dX1_join_99 (lv_at hl 4 rfl) ?_
    refine lv_aload_n (pc := 101) hx hb dX1_join_101 rfl (lv_at hl 0 rfl) ?_
    refine mg0 (pc := 102) X hw dX1_join_102 ?_
    refine lv_iload_n (pc := 105) hx hb dX1_join_105 rfl (lv_at hl 2 rfl) ?_
    obtain ⟨hi, h⟩ := h
    refine ma0 (pc := 106) X hw hi dX1_join_106 ?_
    refine lv_icmp_ge (pc := 107) (tgt := 133) hx hb dX1_join_107 rfl (fun c10 => ?_) (fun c10 => ?_)
    · have h := h.1 c10
      refine lv_aload_n (pc := 133) hx hb dX1_join_133 rfl (lv_at hl 0 rfl) ?_
      refine lv_iload_n (pc := 134) hx hb dX1_join_134 rfl (lv_at hl 3 rfl) ?_
      refine uX1_takesOver (pc := 135) X hml hw h ⟨Nat.le_of_ble_eq_true rfl, Nat.le_of_ble_eq_true rfl⟩ hl.1 (Nat.le_of_ble_eq_true rfl) ⟨Nat.le_refl _, Nat.le_refl _⟩ dX1_join_135 (fun _ S12 H locs h hw => ?_)
      refine lv_iconst (pc := 138) (v := (1 : Int32)) hx hb dX1_join_138 (by decide) ?_
      exact W.zret (pc := 139) hx hb hr rfl (fun t ht hW => m_ret (val := vI) hw h ht) hw.2.2.2 dX1_join_139 hlk
    · have h := h.2 c10
      refine lv_aload_n (pc := 110) hx hb dX1_join_110 rfl (lv_at hl 0 rfl) ?_
      refine lv_iload_n (pc := 111) hx hb dX1_join_111 rfl (lv_at hl 2 rfl) ?_
      refine lv_iload (pc := 112) hx hb dX1_join_112 (lv_at hl 4 rfl) ?_
      refine lv_iconst (pc := 114) (v := (4 : Int32)) hx hb dX1_join_114 (by decide) ?_
      refine lv_aload_n (pc := 115) hx hb dX1_join_115 rfl (lv_at hl 0 rfl) ?_
      refine mg0 (pc := 116) X hw dX1_join_116 ?_
      refine lv_iload_n (pc := 119) hx hb dX1_join_119 rfl (lv_at hl 1 rfl) ?_
      obtain ⟨hi, h⟩ := h
      refine ma0 (pc := 120) X hw hi dX1_join_120 ?_
      refine lv_iload (pc := 121) hx hb dX1_join_121 (lv_at hl 4 rfl) ?_
      refine lv_iadd (pc := 123) hx hb dX1_join_123 ?_
      refine uX1_copies (pc := 124) X hml hw h ⟨Nat.le_of_ble_eq_true rfl, Nat.le_of_ble_eq_true rfl⟩ hl.1 (Nat.le_of_ble_eq_true rfl) ⟨Nat.le_refl _, Nat.le_refl _⟩ dX1_join_124 (fun _ S14 H locs h hw => ?_)
      refine lv_iinc (pc := 127) (v := x4 + (1 : Int32)) (lv' := [(4, .int (x4 + (1 : Int32))), (0, .ref h0), (1, .int x1), (2, .int x2), (3, .int x3)]) hx hb dX1_join_127 hl (k := 4) rfl rfl (by decide) rfl (fun ls hl => ?_)
      refine lv_goto (pc := 130) (tgt := 99) hx hb dX1_join_130 rfl ?_
      exact ih _ _ _ _ _ _ _ _ h hw (lv_sub hl [1, 2, 3, 4, 0] rfl)
theorem kX1_join_69 {p : Program} {l : Launch} {e : Env} {s : State} {m : MethodId} {args : Array Value} {below : List Frame} {meth : Method} {c : Code} {G : gG} {h0 : Nat} {ad : Nat → Nat} {post : Int32 → MS → Prop} (X : mX G h0 ad p s m args c cX1_join) (hml : c.maxLocals = 5) (hr : meth.sig.returnType = (some .boolean)) (hlk : meth.locks = false) : ∀ (n : Nat) (x1 : Int32) (x2 : Int32) (x3 : Int32) (x4 : Int32) (S : MS) (H : Heap) (locs : List Loc) (ls : Array Slot), wX1_join_69 post n x1 x2 x3 x4 S → mH G h0 ad s S H locs → lv_has ls 5 [(0, .ref h0), (1, .int x1), (2, .int x2), (3, .int x3), (4, .int x4)] → W p l e ⟨2, 0, 0, 47⟩ s m args below meth c H locs 0 0 (MQ below (gQ vI post (mBw G h0 ad) (mAd h0 ad)) args s 0 0 (mAd h0 ad)) (F0 m 69 ls []) := by
  have hx := X.1
  have hb := X.2.1
  have hown := X.2.2.1
  have hts := X.2.2.2.1
  intro n
  induction n with
  | zero =>
    intro x1 x2 x3 x4 S H locs ls h
    exact False.elim h
  | succ n ih =>
    intro x1 x2 x3 x4 S H locs ls h hw hl
    unfold wX1_join_69 at h
    refine lv_iload (pc := 69) hx hb dX1_join_69 (lv_at hl 4 rfl) ?_
    refine lv_aload_n (pc := 71) hx hb dX1_join_71 rfl (lv_at hl 0 rfl) ?_
    refine mg0 (pc := 72) X hw dX1_join_72 ?_
    refine lv_iload_n (pc := 75) hx hb dX1_join_75 rfl (lv_at hl 1 rfl) ?_
    obtain ⟨hi, h⟩ := h
    refine ma0 (pc := 76) X hw hi dX1_join_76 ?_
    refine lv_icmp_ge (pc := 77) (tgt := 96) hx hb dX1_join_77 rfl (fun c9 => ?_) (fun c9 => ?_)
    · have h := h.1 c9
      refine lv_iconst (pc := 96) (v := (0 : Int32)) hx hb dX1_join_96 (by decide) ?_
      refine lv_istore (pc := 97) (lv' := [(4, .int (0 : Int32)), (0, .ref h0), (1, .int x1), (2, .int x2), (3, .int x3)]) hx hb dX1_join_97 hl (by decide) rfl (fun ls hl => ?_)
      obtain ⟨k, h⟩ := h
      exact kX1_join_99 X hml hr hlk  k _ _ _ _ _ _ _ _ h hw (lv_sub hl [1, 2, 3, 4, 0] rfl)
    · have h := h.2 c9
      refine lv_aload_n (pc := 80) hx hb dX1_join_80 rfl (lv_at hl 0 rfl) ?_
      refine lv_iload_n (pc := 81) hx hb dX1_join_81 rfl (lv_at hl 1 rfl) ?_
      refine lv_iload (pc := 82) hx hb dX1_join_82 (lv_at hl 4 rfl) ?_
      refine lv_iconst (pc := 84) (v := (4 : Int32)) hx hb dX1_join_84 (by decide) ?_
      refine lv_iload (pc := 85) hx hb dX1_join_85 (lv_at hl 4 rfl) ?_
      refine uX1_copies (pc := 87) X hml hw h ⟨Nat.le_of_ble_eq_true rfl, Nat.le_of_ble_eq_true rfl⟩ hl.1 (Nat.le_of_ble_eq_true rfl) ⟨Nat.le_refl _, Nat.le_refl _⟩ dX1_join_87 (fun _ S16 H locs h hw => ?_)
      refine lv_iinc (pc := 90) (v := x4 + (1 : Int32)) (lv' := [(4, .int (x4 + (1 : Int32))), (0, .ref h0), (1, .int x1), (2, .int x2), (3, .int x3)]) hx hb dX1_join_90 hl (k := 4) rfl rfl (by decide) rfl (fun ls hl => ?_)
      refine lv_goto (pc := 93) (tgt := 69) hx hb dX1_join_93 rfl ?_
      exact ih _ _ _ _ _ _ _ _ h hw (lv_sub hl [1, 2, 3, 4, 0] rfl)
theorem tX1_join {l : Launch} {G : gG} {h0 : Nat} {ad : Nat → Nat} (hd : mOk G h0 ad) {post : Int32 → MS → Prop} {S : MS} {x1 : Int32} {x2 : Int32} {x3 : Int32} (h : wX1_join post S x1 x2 x3) : Met l yX1_join (ws_ yX1_join cX1_join 5 (some .boolean)) ⟨2, 0, 0, 47⟩ (va_Pc (.ref h0 :: [.int x1, .int x2, .int x3]) (fun U => mBw G h0 ad S U.heap ∧ gK G U)) (gQ vI post (mBw G h0 ad) (mAd h0 ad)) 0 0 (mAd h0 ad) := by
  refine m_ofW (by decide) rfl hd (Nat.le_of_ble_eq_true rfl) (fun p e s m below meth c ls X hml hr hlk hw hl => ?_)
  have hl : lv_has ls 5 [(0, .ref h0), (1, .int x1), (2, .int x2), (3, .int x3)] := hl
  have hx := X.1
  have hb := X.2.1
  have hown := X.2.2.1
  have hts := X.2.2.2.1
  unfold wX1_join at h
  refine lv_iload_n (pc := 0) hx hb dX1_join_0 rfl (lv_at hl 1 rfl) ?_
  refine uX1_isSlot (pc := 1) ⟨hx, hb, hml, hown, hts⟩ h ⟨Nat.le_of_ble_eq_true rfl, Nat.le_of_ble_eq_true rfl⟩ hl.1 (Nat.le_of_ble_eq_true rfl) ⟨Nat.le_refl _, Nat.le_refl _⟩ dX1_join_1 (fun r1 h => ?_)
  refine lv_if_eq (pc := 4) (tgt := 45) hx hb dX1_join_4 rfl (fun c2 => ?_) (fun c2 => ?_)
  · have h := h.1 c2
    refine lv_iconst (pc := 45) (v := (0 : Int32)) hx hb dX1_join_45 (by decide) ?_
    exact W.zret (pc := 46) hx hb hr rfl (fun t ht hW => m_ret (val := vI) hw h ht) hw.2.2.2 dX1_join_46 hlk
  · have h := h.2 c2
    refine lv_iload_n (pc := 7) hx hb dX1_join_7 rfl (lv_at hl 2 rfl) ?_
    refine uX1_isSlot (pc := 8) ⟨hx, hb, hml, hown, hts⟩ h ⟨Nat.le_of_ble_eq_true rfl, Nat.le_of_ble_eq_true rfl⟩ hl.1 (Nat.le_of_ble_eq_true rfl) ⟨Nat.le_refl _, Nat.le_refl _⟩ dX1_join_8 (fun r3 h => ?_)
    refine lv_if_eq (pc := 11) (tgt := 45) hx hb dX1_join_11 rfl (fun c4 => ?_) (fun c4 => ?_)
    · have h := h.1 c4
      refine lv_iconst (pc := 45) (v := (0 : Int32)) hx hb dX1_join_45 (by decide) ?_
      exact W.zret (pc := 46) hx hb hr rfl (fun t ht hW => m_ret (val := vI) hw h ht) hw.2.2.2 dX1_join_46 hlk
    · have h := h.2 c4
      refine lv_iload_n (pc := 14) hx hb dX1_join_14 rfl (lv_at hl 3 rfl) ?_
      refine uX1_isSlot (pc := 15) ⟨hx, hb, hml, hown, hts⟩ h ⟨Nat.le_of_ble_eq_true rfl, Nat.le_of_ble_eq_true rfl⟩ hl.1 (Nat.le_of_ble_eq_true rfl) ⟨Nat.le_refl _, Nat.le_refl _⟩ dX1_join_15 (fun r5 h => ?_)
      refine lv_if_eq (pc := 18) (tgt := 45) hx hb dX1_join_18 rfl (fun c6 => ?_) (fun c6 => ?_)
      · have h := h.1 c6
        refine lv_iconst (pc := 45) (v := (0 : Int32)) hx hb dX1_join_45 (by decide) ?_
        exact W.zret (pc := 46) hx hb hr rfl (fun t ht hW => m_ret (val := vI) hw h ht) hw.2.2.2 dX1_join_46 hlk
      · have h := h.2 c6
        refine lv_aload_n (pc := 21) hx hb dX1_join_21 rfl (lv_at hl 0 rfl) ?_
        refine mg0 (pc := 22) X hw dX1_join_22 ?_
        refine lv_iload_n (pc := 25) hx hb dX1_join_25 rfl (lv_at hl 1 rfl) ?_
        obtain ⟨hi, h⟩ := h
        refine ma0 (pc := 26) X hw hi dX1_join_26 ?_
        refine lv_aload_n (pc := 27) hx hb dX1_join_27 rfl (lv_at hl 0 rfl) ?_
        refine mg0 (pc := 28) X hw dX1_join_28 ?_
        refine lv_iload_n (pc := 31) hx hb dX1_join_31 rfl (lv_at hl 2 rfl) ?_
        obtain ⟨hi, h⟩ := h
        refine ma0 (pc := 32) X hw hi dX1_join_32 ?_
        refine lv_iadd (pc := 33) hx hb dX1_join_33 ?_
        refine lv_i2l (pc := 34) hx hb dX1_join_34 rfl ?_
        refine lv_lconst (pc := 35) (v := (1 : Int64)) hx hb dX1_join_35 (by decide) ?_
        refine lv_ldc2 (pc := 36) hx hb hown (hts _ q2476) dX1_join_36 ?_
        refine uX1_isIn (pc := 39) ⟨hx, hb, hml, hown, hts⟩ h ⟨Nat.le_of_ble_eq_true rfl, Nat.le_of_ble_eq_true rfl⟩ hl.1 (Nat.le_of_ble_eq_true rfl) ⟨Nat.le_refl _, Nat.le_refl _⟩ dX1_join_39 (fun r7 h => ?_)
        refine lv_if_ne (pc := 42) (tgt := 47) hx hb dX1_join_42 rfl (fun c8 => ?_) (fun c8 => ?_)
        · have h := h.2 c8
          refine lv_aload_n (pc := 47) hx hb dX1_join_47 rfl (lv_at hl 0 rfl) ?_
          refine mg0 (pc := 48) X hw dX1_join_48 ?_
          refine lv_iconst (pc := 51) (v := (4 : Int32)) hx hb dX1_join_51 (by decide) ?_
          refine lv_aload_n (pc := 52) hx hb dX1_join_52 rfl (lv_at hl 0 rfl) ?_
          refine mg0 (pc := 53) X hw dX1_join_53 ?_
          refine lv_iload_n (pc := 56) hx hb dX1_join_56 rfl (lv_at hl 1 rfl) ?_
          obtain ⟨hi, h⟩ := h
          refine ma0 (pc := 57) X hw hi dX1_join_57 ?_
          refine lv_aload_n (pc := 58) hx hb dX1_join_58 rfl (lv_at hl 0 rfl) ?_
          refine mg0 (pc := 59) X hw dX1_join_59 ?_
          refine lv_iload_n (pc := 62) hx hb dX1_join_62 rfl (lv_at hl 2 rfl) ?_
          obtain ⟨hi, h⟩ := h
          refine ma0 (pc := 63) X hw hi dX1_join_63 ?_
          refine lv_iadd (pc := 64) hx hb dX1_join_64 ?_
          obtain ⟨hi, h⟩ := h
          refine ms0 (pc := 65) X hw hi dX1_join_65 (fun H locs hw => ?_)
          refine lv_iconst (pc := 66) (v := (0 : Int32)) hx hb dX1_join_66 (by decide) ?_
          refine lv_istore (pc := 67) (lv' := [(4, .int (0 : Int32)), (0, .ref h0), (1, .int x1), (2, .int x2), (3, .int x3)]) hx hb dX1_join_67 hl (by decide) rfl (fun ls hl => ?_)
          obtain ⟨k, h⟩ := h
          exact kX1_join_69 X hml hr hlk  k _ _ _ _ _ _ _ _ h hw (lv_sub hl [1, 2, 3, 4, 0] rfl)
        · have h := h.1 c8
          refine lv_iconst (pc := 45) (v := (0 : Int32)) hx hb dX1_join_45 (by decide) ?_
          exact W.zret (pc := 46) hx hb hr rfl (fun t ht hW => m_ret (val := vI) hw h ht) hw.2.2.2 dX1_join_46 hlk

def wX1_drop_51 (K27 : Int32 → Int32 → Int32 → MS → Prop) (post : Int32 → MS → Prop) (x1 : Int32) (x2 : Int32) (x3 : Int32) (v0 : Int32) (v1 : Int32) (S : MS) : Prop :=
  wX1_copies (fun _ S9 => K27 x1 x2 (x3 + (1 : Int32)) S9) S v1 v0 (4 : Int32) x3
def wX1_drop_27 (post : Int32 → MS → Prop) : Nat → Int32 → Int32 → Int32 → MS → Prop
  | 0, _, _, _, _ => False
  | n + 1, x1, x2, x3, S => vp_in (4 : Int32) 5 ∧ ((((S.2.2.1 0 (4 : Int32).toNatClampNeg) ≤ x3) → (wX1_takesOver (fun _ S6 => post (1 : Int32) S6) S x1)) ∧ (¬ ((S.2.2.1 0 (4 : Int32).toNatClampNeg) ≤ x3) → (((x2 ≤ x3) → (wX1_drop_51 (fun x1 x2 x3 S => wX1_drop_27 post n x1 x2 x3 S) post x1 x2 x3 (x3 + (1 : Int32)) x1 S)) ∧ (¬ (x2 ≤ x3) → (wX1_drop_51 (fun x1 x2 x3 S => wX1_drop_27 post n x1 x2 x3 S) post x1 x2 x3 x3 x1 S)))))
def wX1_drop (post : Int32 → MS → Prop) (S : MS) (x1 : Int32) (x2 : Int32) : Prop :=
  wX1_isTerm (fun r1 S2 => ((r1 = (0 : Int32)) → (post (0 : Int32) S2)) ∧ (¬ (r1 = (0 : Int32)) → (vp_in x1 5 ∧ (vp_in (4 : Int32) 5 ∧ ((∃ k, wX1_drop_27 post k x1 x2 (0 : Int32) (mA S2 0 (upd (S2.2.2.1 0) (4 : Int32).toNatClampNeg ((S2.2.2.1 0 x1.toNatClampNeg) - (1 : Int32)))))))))) S x1 x2
theorem kX1_drop_51 {p : Program} {l : Launch} {e : Env} {s : State} {m : MethodId} {args : Array Value} {below : List Frame} {meth : Method} {c : Code} {G : gG} {h0 : Nat} {ad : Nat → Nat} {K27 : Int32 → Int32 → Int32 → MS → Prop} {post : Int32 → MS → Prop} (X : mX G h0 ad p s m args c cX1_drop) (hml : c.maxLocals = 4) (hr : meth.sig.returnType = (some .boolean)) (hlk : meth.locks = false) (hK27 : ∀ (x1 : Int32) (x2 : Int32) (x3 : Int32) (S : MS) (H : Heap) (locs : List Loc) (ls : Array Slot), K27 x1 x2 x3 S → mH G h0 ad s S H locs → lv_has ls 4 [(0, .ref h0), (1, .int x1), (2, .int x2), (3, .int x3)] → W p l e ⟨3, 0, 0, 67⟩ s m args below meth c H locs 0 0 (MQ below (gQ vI post (mBw G h0 ad) (mAd h0 ad)) args s 0 0 (mAd h0 ad)) (F0 m 27 ls [])) : ∀ (x1 : Int32) (x2 : Int32) (x3 : Int32) (v0 : Int32) (v1 : Int32) (S : MS) (H : Heap) (locs : List Loc) (ls : Array Slot), wX1_drop_51 K27 post x1 x2 x3 v0 v1 S → mH G h0 ad s S H locs → lv_has ls 4 [(0, .ref h0), (1, .int x1), (2, .int x2), (3, .int x3)] → W p l e ⟨3, 0, 0, 67⟩ s m args below meth c H locs 0 0 (MQ below (gQ vI post (mBw G h0 ad) (mAd h0 ad)) args s 0 0 (mAd h0 ad)) (F0 m 51 ls [.int v0, .int v1, .ref h0]) := by
  have hx := X.1
  have hb := X.2.1
  have hown := X.2.2.1
  have hts := X.2.2.2.1
  intro x1 x2 x3 v0 v1 S H locs ls h hw hl
  unfold wX1_drop_51 at h
  refine lv_iconst (pc := 51) (v := (4 : Int32)) hx hb dX1_drop_51 (by decide) ?_
  refine lv_iload_n (pc := 52) hx hb dX1_drop_52 rfl (lv_at hl 3 rfl) ?_
  refine uX1_copies (pc := 53) X hml hw h ⟨Nat.le_of_ble_eq_true rfl, Nat.le_of_ble_eq_true rfl⟩ hl.1 (Nat.le_of_ble_eq_true rfl) ⟨Nat.le_refl _, Nat.le_refl _⟩ dX1_drop_53 (fun _ S9 H locs h hw => ?_)
  refine lv_iinc (pc := 56) (v := x3 + (1 : Int32)) (lv' := [(3, .int (x3 + (1 : Int32))), (0, .ref h0), (1, .int x1), (2, .int x2)]) hx hb dX1_drop_56 hl (k := 3) rfl rfl (by decide) rfl (fun ls hl => ?_)
  refine lv_goto (pc := 59) (tgt := 27) hx hb dX1_drop_59 rfl ?_
  exact hK27 _ _ _ _ _ _ _ h hw (lv_sub hl [1, 2, 3, 0] rfl)
theorem kX1_drop_27 {p : Program} {l : Launch} {e : Env} {s : State} {m : MethodId} {args : Array Value} {below : List Frame} {meth : Method} {c : Code} {G : gG} {h0 : Nat} {ad : Nat → Nat} {post : Int32 → MS → Prop} (X : mX G h0 ad p s m args c cX1_drop) (hml : c.maxLocals = 4) (hr : meth.sig.returnType = (some .boolean)) (hlk : meth.locks = false) : ∀ (n : Nat) (x1 : Int32) (x2 : Int32) (x3 : Int32) (S : MS) (H : Heap) (locs : List Loc) (ls : Array Slot), wX1_drop_27 post n x1 x2 x3 S → mH G h0 ad s S H locs → lv_has ls 4 [(0, .ref h0), (1, .int x1), (2, .int x2), (3, .int x3)] → W p l e ⟨3, 0, 0, 67⟩ s m args below meth c H locs 0 0 (MQ below (gQ vI post (mBw G h0 ad) (mAd h0 ad)) args s 0 0 (mAd h0 ad)) (F0 m 27 ls []) := by
  have hx := X.1
  have hb := X.2.1
  have hown := X.2.2.1
  have hts := X.2.2.2.1
  intro n
  induction n with
  | zero =>
    intro x1 x2 x3 S H locs ls h
    exact False.elim h
  | succ n ih =>
    intro x1 x2 x3 S H locs ls h hw hl
    unfold wX1_drop_27 at h
    refine lv_iload_n (pc := 27) hx hb dX1_drop_27 rfl (lv_at hl 3 rfl) ?_
    refine lv_aload_n (pc := 28) hx hb dX1_drop_28 rfl (lv_at hl 0 rfl) ?_
    refine mg0 (pc := 29) X hw dX1_drop_29 ?_
    refine lv_iconst (pc := 32) (v := (4 : Int32)) hx hb dX1_drop_32 (by decide) ?_
    obtain ⟨hi, h⟩ := h
    refine ma0 (pc := 33) X hw hi dX1_drop_33 ?_
    refine lv_icmp_ge (pc := 34) (tgt := 62) hx hb dX1_drop_34 rfl (fun c4 => ?_) (fun c4 => ?_)
    · have h := h.1 c4
      refine lv_aload_n (pc := 62) hx hb dX1_drop_62 rfl (lv_at hl 0 rfl) ?_
      refine lv_iload_n (pc := 63) hx hb dX1_drop_63 rfl (lv_at hl 1 rfl) ?_
      refine uX1_takesOver (pc := 64) X hml hw h ⟨Nat.le_of_ble_eq_true rfl, Nat.le_of_ble_eq_true rfl⟩ hl.1 (Nat.le_of_ble_eq_true rfl) ⟨Nat.le_refl _, Nat.le_refl _⟩ dX1_drop_64 (fun _ S6 H locs h hw => ?_)
      refine lv_iconst (pc := 67) (v := (1 : Int32)) hx hb dX1_drop_67 (by decide) ?_
      exact W.zret (pc := 68) hx hb hr rfl (fun t ht hW => m_ret (val := vI) hw h ht) hw.2.2.2 dX1_drop_68 hlk
    · have h := h.2 c4
      refine lv_aload_n (pc := 37) hx hb dX1_drop_37 rfl (lv_at hl 0 rfl) ?_
      refine lv_iload_n (pc := 38) hx hb dX1_drop_38 rfl (lv_at hl 1 rfl) ?_
      refine lv_iload_n (pc := 39) hx hb dX1_drop_39 rfl (lv_at hl 3 rfl) ?_
      refine lv_iload_n (pc := 40) hx hb dX1_drop_40 rfl (lv_at hl 2 rfl) ?_
      refine lv_icmp_ge (pc := 41) (tgt := 48) hx hb dX1_drop_41 rfl (fun c7 => ?_) (fun c7 => ?_)
      · have h := h.1 c7
        refine lv_iload_n (pc := 48) hx hb dX1_drop_48 rfl (lv_at hl 3 rfl) ?_
        refine lv_iconst (pc := 49) (v := (1 : Int32)) hx hb dX1_drop_49 (by decide) ?_
        refine lv_iadd (pc := 50) hx hb dX1_drop_50 ?_
        exact kX1_drop_51 X hml hr hlk ih _ _ _ _ _ _ _ _ _ h hw (lv_sub hl [0, 1, 2, 3] rfl)
      · have h := h.2 c7
        refine lv_iload_n (pc := 44) hx hb dX1_drop_44 rfl (lv_at hl 3 rfl) ?_
        refine lv_goto (pc := 45) (tgt := 51) hx hb dX1_drop_45 rfl ?_
        exact kX1_drop_51 X hml hr hlk ih _ _ _ _ _ _ _ _ _ h hw (lv_sub hl [0, 1, 2, 3] rfl)
theorem tX1_drop {l : Launch} {G : gG} {h0 : Nat} {ad : Nat → Nat} (hd : mOk G h0 ad) {post : Int32 → MS → Prop} {S : MS} {x1 : Int32} {x2 : Int32} (h : wX1_drop post S x1 x2) : Met l yX1_drop (ws_ yX1_drop cX1_drop 4 (some .boolean)) ⟨3, 0, 0, 67⟩ (va_Pc (.ref h0 :: [.int x1, .int x2]) (fun U => mBw G h0 ad S U.heap ∧ gK G U)) (gQ vI post (mBw G h0 ad) (mAd h0 ad)) 0 0 (mAd h0 ad) := by
  refine m_ofW (by decide) rfl hd (Nat.le_of_ble_eq_true rfl) (fun p e s m below meth c ls X hml hr hlk hw hl => ?_)
  have hl : lv_has ls 4 [(0, .ref h0), (1, .int x1), (2, .int x2)] := hl
  have hx := X.1
  have hb := X.2.1
  have hown := X.2.2.1
  have hts := X.2.2.2.1
  unfold wX1_drop at h
  refine lv_aload_n (pc := 0) hx hb dX1_drop_0 rfl (lv_at hl 0 rfl) ?_
  refine lv_iload_n (pc := 1) hx hb dX1_drop_1 rfl (lv_at hl 1 rfl) ?_
  refine lv_iload_n (pc := 2) hx hb dX1_drop_2 rfl (lv_at hl 2 rfl) ?_
  refine uX1_isTerm (pc := 3) X hml hw h ⟨Nat.le_of_ble_eq_true rfl, Nat.le_of_ble_eq_true rfl⟩ hl.1 (Nat.le_of_ble_eq_true rfl) ⟨Nat.le_refl _, Nat.le_refl _⟩ dX1_drop_3 (fun r1 S2 H locs h hw => ?_)
  refine lv_if_ne (pc := 6) (tgt := 11) hx hb dX1_drop_6 rfl (fun c3 => ?_) (fun c3 => ?_)
  · have h := h.2 c3
    refine lv_aload_n (pc := 11) hx hb dX1_drop_11 rfl (lv_at hl 0 rfl) ?_
    refine mg0 (pc := 12) X hw dX1_drop_12 ?_
    refine lv_iconst (pc := 15) (v := (4 : Int32)) hx hb dX1_drop_15 (by decide) ?_
    refine lv_aload_n (pc := 16) hx hb dX1_drop_16 rfl (lv_at hl 0 rfl) ?_
    refine mg0 (pc := 17) X hw dX1_drop_17 ?_
    refine lv_iload_n (pc := 20) hx hb dX1_drop_20 rfl (lv_at hl 1 rfl) ?_
    obtain ⟨hi, h⟩ := h
    refine ma0 (pc := 21) X hw hi dX1_drop_21 ?_
    refine lv_iconst (pc := 22) (v := (1 : Int32)) hx hb dX1_drop_22 (by decide) ?_
    refine lv_isub (pc := 23) hx hb dX1_drop_23 ?_
    obtain ⟨hi, h⟩ := h
    refine ms0 (pc := 24) X hw hi dX1_drop_24 (fun H locs hw => ?_)
    refine lv_iconst (pc := 25) (v := (0 : Int32)) hx hb dX1_drop_25 (by decide) ?_
    refine lv_istore_n (pc := 26) (lv' := [(3, .int (0 : Int32)), (0, .ref h0), (1, .int x1), (2, .int x2)]) hx hb dX1_drop_26 rfl hl (by decide) rfl (fun ls hl => ?_)
    obtain ⟨k, h⟩ := h
    exact kX1_drop_27 X hml hr hlk  k _ _ _ _ _ _ _ h hw (lv_sub hl [1, 2, 3, 0] rfl)
  · have h := h.1 c3
    refine lv_iconst (pc := 9) (v := (0 : Int32)) hx hb dX1_drop_9 (by decide) ?_
    exact W.zret (pc := 10) hx hb hr rfl (fun t ht hW => m_ret (val := vI) hw h ht) hw.2.2.2 dX1_drop_10 hlk

def wX1_lead_57 (K25 : Int32 → Int32 → Int32 → MS → Prop) (post : Int32 → MS → Prop) (x1 : Int32) (x2 : Int32) (x3 : Int32) (v0 : Int32) (v1 : Int32) (S : MS) : Prop :=
  wX1_copies (fun _ S10 => K25 x1 x2 (x3 + (1 : Int32)) S10) S v1 v0 (4 : Int32) x3
def wX1_lead_25 (post : Int32 → MS → Prop) : Nat → Int32 → Int32 → Int32 → MS → Prop
  | 0, _, _, _, _ => False
  | n + 1, x1, x2, x3, S => vp_in (4 : Int32) 5 ∧ ((((S.2.2.1 0 (4 : Int32).toNatClampNeg) ≤ x3) → (wX1_takesOver (fun _ S6 => post (1 : Int32) S6) S x1)) ∧ (¬ ((S.2.2.1 0 (4 : Int32).toNatClampNeg) ≤ x3) → (((x3 = (0 : Int32)) → (wX1_lead_57 (fun x1 x2 x3 S => wX1_lead_25 post n x1 x2 x3 S) post x1 x2 x3 x2 x1 S)) ∧ (¬ (x3 = (0 : Int32)) → (((x2 < x3) → (wX1_lead_57 (fun x1 x2 x3 S => wX1_lead_25 post n x1 x2 x3 S) post x1 x2 x3 x3 x1 S)) ∧ (¬ (x2 < x3) → (wX1_lead_57 (fun x1 x2 x3 S => wX1_lead_25 post n x1 x2 x3 S) post x1 x2 x3 (x3 - (1 : Int32)) x1 S)))))))
def wX1_lead (post : Int32 → MS → Prop) (S : MS) (x1 : Int32) (x2 : Int32) : Prop :=
  wX1_isTerm (fun r1 S2 => ((r1 = (0 : Int32)) → (post (0 : Int32) S2)) ∧ (¬ (r1 = (0 : Int32)) → (vp_in x1 5 ∧ (vp_in (4 : Int32) 5 ∧ ((∃ k, wX1_lead_25 post k x1 x2 (0 : Int32) (mA S2 0 (upd (S2.2.2.1 0) (4 : Int32).toNatClampNeg (S2.2.2.1 0 x1.toNatClampNeg))))))))) S x1 x2
theorem kX1_lead_57 {p : Program} {l : Launch} {e : Env} {s : State} {m : MethodId} {args : Array Value} {below : List Frame} {meth : Method} {c : Code} {G : gG} {h0 : Nat} {ad : Nat → Nat} {K25 : Int32 → Int32 → Int32 → MS → Prop} {post : Int32 → MS → Prop} (X : mX G h0 ad p s m args c cX1_lead) (hml : c.maxLocals = 4) (hr : meth.sig.returnType = (some .boolean)) (hlk : meth.locks = false) (hK25 : ∀ (x1 : Int32) (x2 : Int32) (x3 : Int32) (S : MS) (H : Heap) (locs : List Loc) (ls : Array Slot), K25 x1 x2 x3 S → mH G h0 ad s S H locs → lv_has ls 4 [(0, .ref h0), (1, .int x1), (2, .int x2), (3, .int x3)] → W p l e ⟨3, 0, 0, 67⟩ s m args below meth c H locs 0 0 (MQ below (gQ vI post (mBw G h0 ad) (mAd h0 ad)) args s 0 0 (mAd h0 ad)) (F0 m 25 ls [])) : ∀ (x1 : Int32) (x2 : Int32) (x3 : Int32) (v0 : Int32) (v1 : Int32) (S : MS) (H : Heap) (locs : List Loc) (ls : Array Slot), wX1_lead_57 K25 post x1 x2 x3 v0 v1 S → mH G h0 ad s S H locs → lv_has ls 4 [(0, .ref h0), (1, .int x1), (2, .int x2), (3, .int x3)] → W p l e ⟨3, 0, 0, 67⟩ s m args below meth c H locs 0 0 (MQ below (gQ vI post (mBw G h0 ad) (mAd h0 ad)) args s 0 0 (mAd h0 ad)) (F0 m 57 ls [.int v0, .int v1, .ref h0]) := by
  have hx := X.1
  have hb := X.2.1
  have hown := X.2.2.1
  have hts := X.2.2.2.1
  intro x1 x2 x3 v0 v1 S H locs ls h hw hl
  unfold wX1_lead_57 at h
  refine lv_iconst (pc := 57) (v := (4 : Int32)) hx hb dX1_lead_57 (by decide) ?_
  refine lv_iload_n (pc := 58) hx hb dX1_lead_58 rfl (lv_at hl 3 rfl) ?_
  refine uX1_copies (pc := 59) X hml hw h ⟨Nat.le_of_ble_eq_true rfl, Nat.le_of_ble_eq_true rfl⟩ hl.1 (Nat.le_of_ble_eq_true rfl) ⟨Nat.le_refl _, Nat.le_refl _⟩ dX1_lead_59 (fun _ S10 H locs h hw => ?_)
  refine lv_iinc (pc := 62) (v := x3 + (1 : Int32)) (lv' := [(3, .int (x3 + (1 : Int32))), (0, .ref h0), (1, .int x1), (2, .int x2)]) hx hb dX1_lead_62 hl (k := 3) rfl rfl (by decide) rfl (fun ls hl => ?_)
  refine lv_goto (pc := 65) (tgt := 25) hx hb dX1_lead_65 rfl ?_
  exact hK25 _ _ _ _ _ _ _ h hw (lv_sub hl [1, 2, 3, 0] rfl)
theorem kX1_lead_25 {p : Program} {l : Launch} {e : Env} {s : State} {m : MethodId} {args : Array Value} {below : List Frame} {meth : Method} {c : Code} {G : gG} {h0 : Nat} {ad : Nat → Nat} {post : Int32 → MS → Prop} (X : mX G h0 ad p s m args c cX1_lead) (hml : c.maxLocals = 4) (hr : meth.sig.returnType = (some .boolean)) (hlk : meth.locks = false) : ∀ (n : Nat) (x1 : Int32) (x2 : Int32) (x3 : Int32) (S : MS) (H : Heap) (locs : List Loc) (ls : Array Slot), wX1_lead_25 post n x1 x2 x3 S → mH G h0 ad s S H locs → lv_has ls 4 [(0, .ref h0), (1, .int x1), (2, .int x2), (3, .int x3)] → W p l e ⟨3, 0, 0, 67⟩ s m args below meth c H locs 0 0 (MQ below (gQ vI post (mBw G h0 ad) (mAd h0 ad)) args s 0 0 (mAd h0 ad)) (F0 m 25 ls []) := by
  have hx := X.1
  have hb := X.2.1
  have hown := X.2.2.1
  have hts := X.2.2.2.1
  intro n
  induction n with
  | zero =>
    intro x1 x2 x3 S H locs ls h
    exact False.elim h
  | succ n ih =>
    intro x1 x2 x3 S H locs ls h hw hl
    unfold wX1_lead_25 at h
    refine lv_iload_n (pc := 25) hx hb dX1_lead_25 rfl (lv_at hl 3 rfl) ?_
    refine lv_aload_n (pc := 26) hx hb dX1_lead_26 rfl (lv_at hl 0 rfl) ?_
    refine mg0 (pc := 27) X hw dX1_lead_27 ?_
    refine lv_iconst (pc := 30) (v := (4 : Int32)) hx hb dX1_lead_30 (by decide) ?_
    obtain ⟨hi, h⟩ := h
    refine ma0 (pc := 31) X hw hi dX1_lead_31 ?_
    refine lv_icmp_ge (pc := 32) (tgt := 68) hx hb dX1_lead_32 rfl (fun c4 => ?_) (fun c4 => ?_)
    · have h := h.1 c4
      refine lv_aload_n (pc := 68) hx hb dX1_lead_68 rfl (lv_at hl 0 rfl) ?_
      refine lv_iload_n (pc := 69) hx hb dX1_lead_69 rfl (lv_at hl 1 rfl) ?_
      refine uX1_takesOver (pc := 70) X hml hw h ⟨Nat.le_of_ble_eq_true rfl, Nat.le_of_ble_eq_true rfl⟩ hl.1 (Nat.le_of_ble_eq_true rfl) ⟨Nat.le_refl _, Nat.le_refl _⟩ dX1_lead_70 (fun _ S6 H locs h hw => ?_)
      refine lv_iconst (pc := 73) (v := (1 : Int32)) hx hb dX1_lead_73 (by decide) ?_
      exact W.zret (pc := 74) hx hb hr rfl (fun t ht hW => m_ret (val := vI) hw h ht) hw.2.2.2 dX1_lead_74 hlk
    · have h := h.2 c4
      refine lv_aload_n (pc := 35) hx hb dX1_lead_35 rfl (lv_at hl 0 rfl) ?_
      refine lv_iload_n (pc := 36) hx hb dX1_lead_36 rfl (lv_at hl 1 rfl) ?_
      refine lv_iload_n (pc := 37) hx hb dX1_lead_37 rfl (lv_at hl 3 rfl) ?_
      refine lv_if_ne (pc := 38) (tgt := 45) hx hb dX1_lead_38 rfl (fun c7 => ?_) (fun c7 => ?_)
      · have h := h.2 c7
        refine lv_iload_n (pc := 45) hx hb dX1_lead_45 rfl (lv_at hl 3 rfl) ?_
        refine lv_iload_n (pc := 46) hx hb dX1_lead_46 rfl (lv_at hl 2 rfl) ?_
        refine lv_icmp_gt (pc := 47) (tgt := 56) hx hb dX1_lead_47 rfl (fun c8 => ?_) (fun c8 => ?_)
        · have h := h.1 c8
          refine lv_iload_n (pc := 56) hx hb dX1_lead_56 rfl (lv_at hl 3 rfl) ?_
          exact kX1_lead_57 X hml hr hlk ih _ _ _ _ _ _ _ _ _ h hw (lv_sub hl [0, 1, 2, 3] rfl)
        · have h := h.2 c8
          refine lv_iload_n (pc := 50) hx hb dX1_lead_50 rfl (lv_at hl 3 rfl) ?_
          refine lv_iconst (pc := 51) (v := (1 : Int32)) hx hb dX1_lead_51 (by decide) ?_
          refine lv_isub (pc := 52) hx hb dX1_lead_52 ?_
          refine lv_goto (pc := 53) (tgt := 57) hx hb dX1_lead_53 rfl ?_
          exact kX1_lead_57 X hml hr hlk ih _ _ _ _ _ _ _ _ _ h hw (lv_sub hl [0, 1, 2, 3] rfl)
      · have h := h.1 c7
        refine lv_iload_n (pc := 41) hx hb dX1_lead_41 rfl (lv_at hl 2 rfl) ?_
        refine lv_goto (pc := 42) (tgt := 57) hx hb dX1_lead_42 rfl ?_
        exact kX1_lead_57 X hml hr hlk ih _ _ _ _ _ _ _ _ _ h hw (lv_sub hl [0, 1, 2, 3] rfl)
theorem tX1_lead {l : Launch} {G : gG} {h0 : Nat} {ad : Nat → Nat} (hd : mOk G h0 ad) {post : Int32 → MS → Prop} {S : MS} {x1 : Int32} {x2 : Int32} (h : wX1_lead post S x1 x2) : Met l yX1_lead (ws_ yX1_lead cX1_lead 4 (some .boolean)) ⟨3, 0, 0, 67⟩ (va_Pc (.ref h0 :: [.int x1, .int x2]) (fun U => mBw G h0 ad S U.heap ∧ gK G U)) (gQ vI post (mBw G h0 ad) (mAd h0 ad)) 0 0 (mAd h0 ad) := by
  refine m_ofW (by decide) rfl hd (Nat.le_of_ble_eq_true rfl) (fun p e s m below meth c ls X hml hr hlk hw hl => ?_)
  have hl : lv_has ls 4 [(0, .ref h0), (1, .int x1), (2, .int x2)] := hl
  have hx := X.1
  have hb := X.2.1
  have hown := X.2.2.1
  have hts := X.2.2.2.1
  unfold wX1_lead at h
  refine lv_aload_n (pc := 0) hx hb dX1_lead_0 rfl (lv_at hl 0 rfl) ?_
  refine lv_iload_n (pc := 1) hx hb dX1_lead_1 rfl (lv_at hl 1 rfl) ?_
  refine lv_iload_n (pc := 2) hx hb dX1_lead_2 rfl (lv_at hl 2 rfl) ?_
  refine uX1_isTerm (pc := 3) X hml hw h ⟨Nat.le_of_ble_eq_true rfl, Nat.le_of_ble_eq_true rfl⟩ hl.1 (Nat.le_of_ble_eq_true rfl) ⟨Nat.le_refl _, Nat.le_refl _⟩ dX1_lead_3 (fun r1 S2 H locs h hw => ?_)
  refine lv_if_ne (pc := 6) (tgt := 11) hx hb dX1_lead_6 rfl (fun c3 => ?_) (fun c3 => ?_)
  · have h := h.2 c3
    refine lv_aload_n (pc := 11) hx hb dX1_lead_11 rfl (lv_at hl 0 rfl) ?_
    refine mg0 (pc := 12) X hw dX1_lead_12 ?_
    refine lv_iconst (pc := 15) (v := (4 : Int32)) hx hb dX1_lead_15 (by decide) ?_
    refine lv_aload_n (pc := 16) hx hb dX1_lead_16 rfl (lv_at hl 0 rfl) ?_
    refine mg0 (pc := 17) X hw dX1_lead_17 ?_
    refine lv_iload_n (pc := 20) hx hb dX1_lead_20 rfl (lv_at hl 1 rfl) ?_
    obtain ⟨hi, h⟩ := h
    refine ma0 (pc := 21) X hw hi dX1_lead_21 ?_
    obtain ⟨hi, h⟩ := h
    refine ms0 (pc := 22) X hw hi dX1_lead_22 (fun H locs hw => ?_)
    refine lv_iconst (pc := 23) (v := (0 : Int32)) hx hb dX1_lead_23 (by decide) ?_
    refine lv_istore_n (pc := 24) (lv' := [(3, .int (0 : Int32)), (0, .ref h0), (1, .int x1), (2, .int x2)]) hx hb dX1_lead_24 rfl hl (by decide) rfl (fun ls hl => ?_)
    obtain ⟨k, h⟩ := h
    exact kX1_lead_25 X hml hr hlk  k _ _ _ _ _ _ _ h hw (lv_sub hl [1, 2, 3, 0] rfl)
  · have h := h.1 c3
    refine lv_iconst (pc := 9) (v := (0 : Int32)) hx hb dX1_lead_9 (by decide) ?_
    exact W.zret (pc := 10) hx hb hr rfl (fun t ht hW => m_ret (val := vI) hw h ht) hw.2.2.2 dX1_lead_10 hlk

def wX1_saysKind (post : Unit → MS → Prop) (S : MS) (x1 : Int32) : Prop :=
  ((x1 = (0 : Int32)) → (wX1_saysWord (fun _ S3 => post () S3) S 0)) ∧ (¬ (x1 = (0 : Int32)) → (((x1 = (1 : Int32)) → (wX1_saysWord (fun _ S6 => post () S6) S 1)) ∧ (¬ (x1 = (1 : Int32)) → (((x1 = (2 : Int32)) → (wX1_saysWord (fun _ S9 => post () S9) S 2)) ∧ (¬ (x1 = (2 : Int32)) → (((x1 = (3 : Int32)) → (wX1_saysWord (fun _ S12 => post () S12) S 3)) ∧ (¬ (x1 = (3 : Int32)) → (wX1_saysWord (fun _ S14 => post () S14) S 4))))))))
theorem tX1_saysKind {l : Launch} {G : gG} {h0 : Nat} {ad : Nat → Nat} (hd : mOk G h0 ad) {post : Unit → MS → Prop} {S : MS} {x1 : Int32} (h : wX1_saysKind post S x1) : Met l yX1_saysKind (ws_ yX1_saysKind cX1_saysKind 2 none) ⟨5, 0, 0, 107⟩ (va_Pc (.ref h0 :: [.int x1]) (fun U => mBw G h0 ad S U.heap ∧ gK G U)) (gQ vV post (mBw G h0 ad) (mAd h0 ad)) 0 0 (mAd h0 ad) := by
  refine m_ofW (by decide) rfl hd (Nat.le_of_ble_eq_true rfl) (fun p e s m below meth c ls X hml hr hlk hw hl => ?_)
  have hl : lv_has ls 2 [(0, .ref h0), (1, .int x1)] := hl
  have hx := X.1
  have hb := X.2.1
  have hown := X.2.2.1
  have hts := X.2.2.2.1
  unfold wX1_saysKind at h
  refine lv_iload_n (pc := 0) hx hb dX1_saysKind_0 rfl (lv_at hl 1 rfl) ?_
  by_cases c1 : x1 = (0 : Int32)
  · have h := h.1 c1
    refine lv_tableIn (pc := 1) (tgt := 32) hx hb dX1_saysKind_1 (by rw [show _ = _ from c1]; decide) (by rw [show _ = _ from c1]; decide) (by rw [show _ = _ from c1]; rfl) rfl ?_
    refine lv_aload_n (pc := 32) hx hb dX1_saysKind_32 rfl (lv_at hl 0 rfl) ?_
    refine va_ldcS (pc := 33) hx hb hown (X.str (r := ("ToldPowersModel", 196, "line", 0)) (List.mem_of_getElem? (i := 12) rfl)) dX1_saysKind_33 ?_
    refine uX1_saysWord (pc := 35) X hml hw h ⟨Nat.le_of_ble_eq_true rfl, Nat.le_of_ble_eq_true rfl⟩ hl.1 (Nat.le_of_ble_eq_true rfl) ⟨Nat.le_refl _, Nat.le_refl _⟩ dX1_saysKind_35 (fun _ S3 H locs h hw => ?_)
    refine lv_goto (pc := 38) (tgt := 74) hx hb dX1_saysKind_38 rfl ?_
    exact W.vret (pc := 74) hx hb hr (fun t ht hW => m_ret (val := vV) (v := ()) hw h ht) hw.2.2.2 dX1_saysKind_74 hlk
  · have h := h.2 c1
    by_cases c4 : x1 = (1 : Int32)
    · have h := h.1 c4
      refine lv_tableIn (pc := 1) (tgt := 41) hx hb dX1_saysKind_1 (by rw [show _ = _ from c4]; decide) (by rw [show _ = _ from c4]; decide) (by rw [show _ = _ from c4]; rfl) rfl ?_
      refine lv_aload_n (pc := 41) hx hb dX1_saysKind_41 rfl (lv_at hl 0 rfl) ?_
      refine va_ldcS (pc := 42) hx hb hown (X.str (r := ("ToldPowersModel", 202, "square", 1)) (List.mem_of_getElem? (i := 13) rfl)) dX1_saysKind_42 ?_
      refine uX1_saysWord (pc := 44) X hml hw h ⟨Nat.le_of_ble_eq_true rfl, Nat.le_of_ble_eq_true rfl⟩ hl.1 (Nat.le_of_ble_eq_true rfl) ⟨Nat.le_refl _, Nat.le_refl _⟩ dX1_saysKind_44 (fun _ S6 H locs h hw => ?_)
      refine lv_goto (pc := 47) (tgt := 74) hx hb dX1_saysKind_47 rfl ?_
      exact W.vret (pc := 74) hx hb hr (fun t ht hW => m_ret (val := vV) (v := ()) hw h ht) hw.2.2.2 dX1_saysKind_74 hlk
    · have h := h.2 c4
      by_cases c7 : x1 = (2 : Int32)
      · have h := h.1 c7
        refine lv_tableIn (pc := 1) (tgt := 50) hx hb dX1_saysKind_1 (by rw [show _ = _ from c7]; decide) (by rw [show _ = _ from c7]; decide) (by rw [show _ = _ from c7]; rfl) rfl ?_
        refine lv_aload_n (pc := 50) hx hb dX1_saysKind_50 rfl (lv_at hl 0 rfl) ?_
        refine va_ldcS (pc := 51) hx hb hown (X.str (r := ("ToldPowersModel", 204, "cube", 2)) (List.mem_of_getElem? (i := 14) rfl)) dX1_saysKind_51 ?_
        refine uX1_saysWord (pc := 53) X hml hw h ⟨Nat.le_of_ble_eq_true rfl, Nat.le_of_ble_eq_true rfl⟩ hl.1 (Nat.le_of_ble_eq_true rfl) ⟨Nat.le_refl _, Nat.le_refl _⟩ dX1_saysKind_53 (fun _ S9 H locs h hw => ?_)
        refine lv_goto (pc := 56) (tgt := 74) hx hb dX1_saysKind_56 rfl ?_
        exact W.vret (pc := 74) hx hb hr (fun t ht hW => m_ret (val := vV) (v := ()) hw h ht) hw.2.2.2 dX1_saysKind_74 hlk
      · have h := h.2 c7
        by_cases c10 : x1 = (3 : Int32)
        · have h := h.1 c10
          refine lv_tableIn (pc := 1) (tgt := 59) hx hb dX1_saysKind_1 (by rw [show _ = _ from c10]; decide) (by rw [show _ = _ from c10]; decide) (by rw [show _ = _ from c10]; rfl) rfl ?_
          refine lv_aload_n (pc := 59) hx hb dX1_saysKind_59 rfl (lv_at hl 0 rfl) ?_
          refine va_ldcS (pc := 60) hx hb hown (X.str (r := ("ToldPowersModel", 206, "fourth", 3)) (List.mem_of_getElem? (i := 15) rfl)) dX1_saysKind_60 ?_
          refine uX1_saysWord (pc := 62) X hml hw h ⟨Nat.le_of_ble_eq_true rfl, Nat.le_of_ble_eq_true rfl⟩ hl.1 (Nat.le_of_ble_eq_true rfl) ⟨Nat.le_refl _, Nat.le_refl _⟩ dX1_saysKind_62 (fun _ S12 H locs h hw => ?_)
          refine lv_goto (pc := 65) (tgt := 74) hx hb dX1_saysKind_65 rfl ?_
          exact W.vret (pc := 74) hx hb hr (fun t ht hW => m_ret (val := vV) (v := ()) hw h ht) hw.2.2.2 dX1_saysKind_74 hlk
        · have h := h.2 c10
          refine lv_tableOut (pc := 1) (tgt := 68) hx hb dX1_saysKind_1 (sw_out4 c1 c4 c7 c10) rfl ?_
          refine lv_aload_n (pc := 68) hx hb dX1_saysKind_68 rfl (lv_at hl 0 rfl) ?_
          refine va_ldcS (pc := 69) hx hb hown (X.str (r := ("ToldPowersModel", 208, "three", 4)) (List.mem_of_getElem? (i := 16) rfl)) dX1_saysKind_69 ?_
          refine uX1_saysWord (pc := 71) X hml hw h ⟨Nat.le_of_ble_eq_true rfl, Nat.le_of_ble_eq_true rfl⟩ hl.1 (Nat.le_of_ble_eq_true rfl) ⟨Nat.le_refl _, Nat.le_refl _⟩ dX1_saysKind_71 (fun _ S14 H locs h hw => ?_)
          exact W.vret (pc := 74) hx hb hr (fun t ht hW => m_ret (val := vV) (v := ()) hw h ht) hw.2.2.2 dX1_saysKind_74 hlk
theorem uX1_saysKind {p : Program} {l : Launch} {e : Env} {R : Room} {s : State} {m : MethodId} {args : Array Value} {below : List Frame} {meth : Method} {c : Code} {H : Heap} {locs : List Loc} {cells slots : Nat} {Q : Jvm.State → Prop} {cc : ByteArray} {pc : Nat} {ls : Array Slot} {rest : List Value} {G : gG} {h0 : Nat} {ad : Nat → Nat} {post : Unit → MS → Prop} {S : MS} {x1 : Int32} {nL : Nat} (X : mX G h0 ad p s m args c cc) (hml : c.maxLocals = nL) (hw : mH G h0 ad s S H locs) (h : wX1_saysKind post S x1) (hR : 5 + 1 ≤ R.frames ∧ 8 + (2 + 11) + 107 ≤ R.locals) (hsz : ls.size = nL) (hr : (rest.map fun v => v.category).sum ≤ 8) (hc : cells ≤ R.cells ∧ slots ≤ R.slots) (d : decode cc pc = .ok (.invokevirtual 455, 3)) (kk : ∀ (r : Unit) (S1 : MS) (H1 : Heap) (locs1 : List Loc), post r S1 → mH G h0 ad s S1 H1 locs1 → W p l e R s m args below meth c H1 locs1 cells slots Q (F0 m (pc + 3) ls (rest))) : W p l e R s m args below meth c H locs cells slots Q (F0 m pc ls (.int x1 :: .ref h0 :: rest)) :=
  m_call (val := vV) (post := post) (As := [.int x1]) X hml hw (tX1_saysKind X.2.2.2.2.2.1 h) (lw_V q2509 q2511 qs99 q105 q2512) ⟨rfl, by decide, by decide, (by decide +kernel : (parseMethodDescriptor yX1_saysKind.desc).map (fun d => d.parameters.length) = some 1)⟩ hR hsz hr hc d rfl kk

def wX1_begins (post : Unit → MS → Prop) (S : MS) : Prop :=
  wX1_next (fun _ S2 => post () S2) (mI (mI (mI (mI (mI (mI (mI S 14 (0 : Int32)) 8 (0 : Int32)) 9 (-1 : Int32)) 10 (-1 : Int32)) 11 (-1 : Int32)) 18 (0 : Int32)) 19 (-1 : Int32))
theorem tX1_begins {l : Launch} {G : gG} {h0 : Nat} {ad : Nat → Nat} (hd : mOk G h0 ad) {post : Unit → MS → Prop} {S : MS} (h : wX1_begins post S) : Met l yX1_begins (ws_ yX1_begins cX1_begins 1 none) ⟨2, 0, 0, 46⟩ (va_Pc (.ref h0 :: []) (fun U => mBw G h0 ad S U.heap ∧ gK G U)) (gQ vV post (mBw G h0 ad) (mAd h0 ad)) 0 0 (mAd h0 ad) := by
  refine m_ofW (by decide) rfl hd (Nat.le_of_ble_eq_true rfl) (fun p e s m below meth c ls X hml hr hlk hw hl => ?_)
  have hl : lv_has ls 1 [(0, .ref h0)] := hl
  have hx := X.1
  have hb := X.2.1
  have hown := X.2.2.1
  have hts := X.2.2.2.1
  unfold wX1_begins at h
  refine lv_aload_n (pc := 0) hx hb dX1_begins_0 rfl (lv_at hl 0 rfl) ?_
  refine lv_iconst (pc := 1) (v := (0 : Int32)) hx hb dX1_begins_1 (by decide) ?_
  refine mp14 (pc := 2) X hw dX1_begins_2 (fun H locs hw => ?_)
  refine lv_aload_n (pc := 5) hx hb dX1_begins_5 rfl (lv_at hl 0 rfl) ?_
  refine lv_iconst (pc := 6) (v := (0 : Int32)) hx hb dX1_begins_6 (by decide) ?_
  refine mp8 (pc := 7) X hw dX1_begins_7 (fun H locs hw => ?_)
  refine lv_aload_n (pc := 10) hx hb dX1_begins_10 rfl (lv_at hl 0 rfl) ?_
  refine lv_iconst (pc := 11) (v := (-1 : Int32)) hx hb dX1_begins_11 (by decide) ?_
  refine mp9 (pc := 12) X hw dX1_begins_12 (fun H locs hw => ?_)
  refine lv_aload_n (pc := 15) hx hb dX1_begins_15 rfl (lv_at hl 0 rfl) ?_
  refine lv_iconst (pc := 16) (v := (-1 : Int32)) hx hb dX1_begins_16 (by decide) ?_
  refine mp10 (pc := 17) X hw dX1_begins_17 (fun H locs hw => ?_)
  refine lv_aload_n (pc := 20) hx hb dX1_begins_20 rfl (lv_at hl 0 rfl) ?_
  refine lv_iconst (pc := 21) (v := (-1 : Int32)) hx hb dX1_begins_21 (by decide) ?_
  refine mp11 (pc := 22) X hw dX1_begins_22 (fun H locs hw => ?_)
  refine lv_aload_n (pc := 25) hx hb dX1_begins_25 rfl (lv_at hl 0 rfl) ?_
  refine lv_iconst (pc := 26) (v := (0 : Int32)) hx hb dX1_begins_26 (by decide) ?_
  refine mp18 (pc := 27) X hw dX1_begins_27 (fun H locs hw => ?_)
  refine lv_aload_n (pc := 30) hx hb dX1_begins_30 rfl (lv_at hl 0 rfl) ?_
  refine lv_iconst (pc := 31) (v := (-1 : Int32)) hx hb dX1_begins_31 (by decide) ?_
  refine mp19 (pc := 32) X hw dX1_begins_32 (fun H locs hw => ?_)
  refine lv_aload_n (pc := 35) hx hb dX1_begins_35 rfl (lv_at hl 0 rfl) ?_
  refine uX1_next (pc := 36) X hml hw h ⟨Nat.le_of_ble_eq_true rfl, Nat.le_of_ble_eq_true rfl⟩ hl.1 (Nat.le_of_ble_eq_true rfl) ⟨Nat.le_refl _, Nat.le_refl _⟩ dX1_begins_36 (fun _ S2 H locs h hw => ?_)
  exact W.vret (pc := 39) hx hb hr (fun t ht hW => m_ret (val := vV) (v := ()) hw h ht) hw.2.2.2 dX1_begins_39 hlk
theorem uX1_begins {p : Program} {l : Launch} {e : Env} {R : Room} {s : State} {m : MethodId} {args : Array Value} {below : List Frame} {meth : Method} {c : Code} {H : Heap} {locs : List Loc} {cells slots : Nat} {Q : Jvm.State → Prop} {cc : ByteArray} {pc : Nat} {ls : Array Slot} {rest : List Value} {G : gG} {h0 : Nat} {ad : Nat → Nat} {post : Unit → MS → Prop} {S : MS} {nL : Nat} (X : mX G h0 ad p s m args c cc) (hml : c.maxLocals = nL) (hw : mH G h0 ad s S H locs) (h : wX1_begins post S) (hR : 2 + 1 ≤ R.frames ∧ 8 + (1 + 11) + 46 ≤ R.locals) (hsz : ls.size = nL) (hr : (rest.map fun v => v.category).sum ≤ 8) (hc : cells ≤ R.cells ∧ slots ≤ R.slots) (d : decode cc pc = .ok (.invokevirtual 247, 3)) (kk : ∀ (r : Unit) (S1 : MS) (H1 : Heap) (locs1 : List Loc), post r S1 → mH G h0 ad s S1 H1 locs1 → W p l e R s m args below meth c H1 locs1 cells slots Q (F0 m (pc + 3) ls (rest))) : W p l e R s m args below meth c H locs cells slots Q (F0 m pc ls (.ref h0 :: rest)) :=
  m_call (val := vV) (post := post) (As := []) X hml hw (tX1_begins X.2.2.2.2.2.1 h) (lw_V q2131 q2133 qs47 q105 q2134) ⟨rfl, by decide, by decide, (by decide +kernel : (parseMethodDescriptor yX1_begins.desc).map (fun d => d.parameters.length) = some 0)⟩ hR hsz hr hc d rfl kk

def wX1_kindHere (post : Int32 → MS → Prop) (S : MS) : Prop :=
  wX1_isWord (fun r1 S2 => ((r1 = (0 : Int32)) → (wX1_isWord (fun r4 S5 => ((r4 = (0 : Int32)) → (wX1_isWord (fun r7 S8 => ((r7 = (0 : Int32)) → (wX1_isWord (fun r10 S11 => ((r10 = (0 : Int32)) → (wX1_isWord (fun r13 S14 => ((r13 = (0 : Int32)) → (post (-1 : Int32) S14)) ∧ (¬ (r13 = (0 : Int32)) → (post (4 : Int32) S14))) S11 4)) ∧ (¬ (r10 = (0 : Int32)) → (post (3 : Int32) S11))) S8 3)) ∧ (¬ (r7 = (0 : Int32)) → (post (2 : Int32) S8))) S5 2)) ∧ (¬ (r4 = (0 : Int32)) → (post (1 : Int32) S5))) S2 1)) ∧ (¬ (r1 = (0 : Int32)) → (post (0 : Int32) S2))) S 0
theorem tX1_kindHere {l : Launch} {G : gG} {h0 : Nat} {ad : Nat → Nat} (hd : mOk G h0 ad) {post : Int32 → MS → Prop} {S : MS} (h : wX1_kindHere post S) : Met l yX1_kindHere (ws_ yX1_kindHere cX1_kindHere 1 (some .int)) ⟨6, 0, 0, 129⟩ (va_Pc (.ref h0 :: []) (fun U => mBw G h0 ad S U.heap ∧ gK G U)) (gQ vI post (mBw G h0 ad) (mAd h0 ad)) 0 0 (mAd h0 ad) := by
  refine m_ofW (by decide) rfl hd (Nat.le_of_ble_eq_true rfl) (fun p e s m below meth c ls X hml hr hlk hw hl => ?_)
  have hl : lv_has ls 1 [(0, .ref h0)] := hl
  have hx := X.1
  have hb := X.2.1
  have hown := X.2.2.1
  have hts := X.2.2.2.1
  unfold wX1_kindHere at h
  refine lv_aload_n (pc := 0) hx hb dX1_kindHere_0 rfl (lv_at hl 0 rfl) ?_
  refine va_ldcS (pc := 1) hx hb hown (X.str (r := ("ToldPowersModel", 196, "line", 0)) (List.mem_of_getElem? (i := 12) rfl)) dX1_kindHere_1 ?_
  refine uX1_isWord (pc := 3) X hml hw h ⟨Nat.le_of_ble_eq_true rfl, Nat.le_of_ble_eq_true rfl⟩ hl.1 (Nat.le_of_ble_eq_true rfl) ⟨Nat.le_refl _, Nat.le_refl _⟩ dX1_kindHere_3 (fun r1 S2 H locs h hw => ?_)
  refine lv_if_eq (pc := 6) (tgt := 13) hx hb dX1_kindHere_6 rfl (fun c3 => ?_) (fun c3 => ?_)
  · have h := h.1 c3
    refine lv_aload_n (pc := 13) hx hb dX1_kindHere_13 rfl (lv_at hl 0 rfl) ?_
    refine va_ldcS (pc := 14) hx hb hown (X.str (r := ("ToldPowersModel", 202, "square", 1)) (List.mem_of_getElem? (i := 13) rfl)) dX1_kindHere_14 ?_
    refine uX1_isWord (pc := 16) X hml hw h ⟨Nat.le_of_ble_eq_true rfl, Nat.le_of_ble_eq_true rfl⟩ hl.1 (Nat.le_of_ble_eq_true rfl) ⟨Nat.le_refl _, Nat.le_refl _⟩ dX1_kindHere_16 (fun r4 S5 H locs h hw => ?_)
    refine lv_if_eq (pc := 19) (tgt := 26) hx hb dX1_kindHere_19 rfl (fun c6 => ?_) (fun c6 => ?_)
    · have h := h.1 c6
      refine lv_aload_n (pc := 26) hx hb dX1_kindHere_26 rfl (lv_at hl 0 rfl) ?_
      refine va_ldcS (pc := 27) hx hb hown (X.str (r := ("ToldPowersModel", 204, "cube", 2)) (List.mem_of_getElem? (i := 14) rfl)) dX1_kindHere_27 ?_
      refine uX1_isWord (pc := 29) X hml hw h ⟨Nat.le_of_ble_eq_true rfl, Nat.le_of_ble_eq_true rfl⟩ hl.1 (Nat.le_of_ble_eq_true rfl) ⟨Nat.le_refl _, Nat.le_refl _⟩ dX1_kindHere_29 (fun r7 S8 H locs h hw => ?_)
      refine lv_if_eq (pc := 32) (tgt := 39) hx hb dX1_kindHere_32 rfl (fun c9 => ?_) (fun c9 => ?_)
      · have h := h.1 c9
        refine lv_aload_n (pc := 39) hx hb dX1_kindHere_39 rfl (lv_at hl 0 rfl) ?_
        refine va_ldcS (pc := 40) hx hb hown (X.str (r := ("ToldPowersModel", 206, "fourth", 3)) (List.mem_of_getElem? (i := 15) rfl)) dX1_kindHere_40 ?_
        refine uX1_isWord (pc := 42) X hml hw h ⟨Nat.le_of_ble_eq_true rfl, Nat.le_of_ble_eq_true rfl⟩ hl.1 (Nat.le_of_ble_eq_true rfl) ⟨Nat.le_refl _, Nat.le_refl _⟩ dX1_kindHere_42 (fun r10 S11 H locs h hw => ?_)
        refine lv_if_eq (pc := 45) (tgt := 52) hx hb dX1_kindHere_45 rfl (fun c12 => ?_) (fun c12 => ?_)
        · have h := h.1 c12
          refine lv_aload_n (pc := 52) hx hb dX1_kindHere_52 rfl (lv_at hl 0 rfl) ?_
          refine va_ldcS (pc := 53) hx hb hown (X.str (r := ("ToldPowersModel", 208, "three", 4)) (List.mem_of_getElem? (i := 16) rfl)) dX1_kindHere_53 ?_
          refine uX1_isWord (pc := 55) X hml hw h ⟨Nat.le_of_ble_eq_true rfl, Nat.le_of_ble_eq_true rfl⟩ hl.1 (Nat.le_of_ble_eq_true rfl) ⟨Nat.le_refl _, Nat.le_refl _⟩ dX1_kindHere_55 (fun r13 S14 H locs h hw => ?_)
          refine lv_if_eq (pc := 58) (tgt := 65) hx hb dX1_kindHere_58 rfl (fun c15 => ?_) (fun c15 => ?_)
          · have h := h.1 c15
            refine lv_iconst (pc := 65) (v := (-1 : Int32)) hx hb dX1_kindHere_65 (by decide) ?_
            exact W.iret (pc := 66) hx hb hr (fun t ht hW => m_ret (val := vI) hw h ht) hw.2.2.2 dX1_kindHere_66 hlk
          · have h := h.2 c15
            refine lv_iconst (pc := 61) (v := (4 : Int32)) hx hb dX1_kindHere_61 (by decide) ?_
            refine lv_goto (pc := 62) (tgt := 66) hx hb dX1_kindHere_62 rfl ?_
            exact W.iret (pc := 66) hx hb hr (fun t ht hW => m_ret (val := vI) hw h ht) hw.2.2.2 dX1_kindHere_66 hlk
        · have h := h.2 c12
          refine lv_iconst (pc := 48) (v := (3 : Int32)) hx hb dX1_kindHere_48 (by decide) ?_
          refine lv_goto (pc := 49) (tgt := 66) hx hb dX1_kindHere_49 rfl ?_
          exact W.iret (pc := 66) hx hb hr (fun t ht hW => m_ret (val := vI) hw h ht) hw.2.2.2 dX1_kindHere_66 hlk
      · have h := h.2 c9
        refine lv_iconst (pc := 35) (v := (2 : Int32)) hx hb dX1_kindHere_35 (by decide) ?_
        refine lv_goto (pc := 36) (tgt := 66) hx hb dX1_kindHere_36 rfl ?_
        exact W.iret (pc := 66) hx hb hr (fun t ht hW => m_ret (val := vI) hw h ht) hw.2.2.2 dX1_kindHere_66 hlk
    · have h := h.2 c6
      refine lv_iconst (pc := 22) (v := (1 : Int32)) hx hb dX1_kindHere_22 (by decide) ?_
      refine lv_goto (pc := 23) (tgt := 66) hx hb dX1_kindHere_23 rfl ?_
      exact W.iret (pc := 66) hx hb hr (fun t ht hW => m_ret (val := vI) hw h ht) hw.2.2.2 dX1_kindHere_66 hlk
  · have h := h.2 c3
    refine lv_iconst (pc := 9) (v := (0 : Int32)) hx hb dX1_kindHere_9 (by decide) ?_
    refine lv_goto (pc := 10) (tgt := 66) hx hb dX1_kindHere_10 rfl ?_
    exact W.iret (pc := 66) hx hb hr (fun t ht hW => m_ret (val := vI) hw h ht) hw.2.2.2 dX1_kindHere_66 hlk
theorem uX1_kindHere {p : Program} {l : Launch} {e : Env} {R : Room} {s : State} {m : MethodId} {args : Array Value} {below : List Frame} {meth : Method} {c : Code} {H : Heap} {locs : List Loc} {cells slots : Nat} {Q : Jvm.State → Prop} {cc : ByteArray} {pc : Nat} {ls : Array Slot} {rest : List Value} {G : gG} {h0 : Nat} {ad : Nat → Nat} {post : Int32 → MS → Prop} {S : MS} {nL : Nat} (X : mX G h0 ad p s m args c cc) (hml : c.maxLocals = nL) (hw : mH G h0 ad s S H locs) (h : wX1_kindHere post S) (hR : 6 + 1 ≤ R.frames ∧ 8 + (1 + 11) + 129 ≤ R.locals) (hsz : ls.size = nL) (hr : (rest.map fun v => v.category).sum ≤ 8) (hc : cells ≤ R.cells ∧ slots ≤ R.slots) (d : decode cc pc = .ok (.invokevirtual 218, 3)) (kk : ∀ (r : Int32) (S1 : MS) (H1 : Heap) (locs1 : List Loc), post r S1 → mH G h0 ad s S1 H1 locs1 → W p l e R s m args below meth c H1 locs1 cells slots Q (F0 m (pc + 3) ls (.int r :: rest))) : W p l e R s m args below meth c H locs cells slots Q (F0 m pc ls (.ref h0 :: rest)) :=
  m_call (val := vI) (post := post) (As := []) X hml hw (tX1_kindHere X.2.2.2.2.2.1 h) (lw_V q2159 q2161 qs52 q105 q2162) ⟨rfl, by decide, by decide, (by decide +kernel : (parseMethodDescriptor yX1_kindHere.desc).map (fun d => d.parameters.length) = some 0)⟩ hR hsz hr hc d rfl kk

def wX1_lays_30 (post : Unit → MS → Prop) : Nat → Int32 → Int32 → MS → Prop
  | 0, _, _, _ => False
  | n + 1, x1, x3, S => ((x3 < (0 : Int32)) → (post () S)) ∧ (¬ (x3 < (0 : Int32)) → (wX1_of (fun r5 S6 => wX1_of (fun r7 S8 => wX1_of (fun r9 S10 => wX1_of (fun r11 S12 => wX1_laysLayer (fun _ S14 => wX1_lays_30 post n x1 (x3 + (-1 : Int32)) S14) S12 x3 (x3 + (1 : Int32)) r5 r7 r9 r11) S10 x1 x3 (3 : Int32)) S8 x1 x3 (2 : Int32)) S6 x1 x3 (1 : Int32)) S x1 x3 (0 : Int32)))
def wX1_lays (post : Unit → MS → Prop) (S : MS) (x1 : Int32) : Prop :=
  (((S.1 21) = x1) → (post () S)) ∧ (¬ ((S.1 21) = x1) → (vp_in x1 5 ∧ (wX1_laysNought (fun _ S3 => (∃ k, wX1_lays_30 post k x1 ((S.2.2.1 0 x1.toNatClampNeg) - (1 : Int32)) S3)) (mI S 21 x1) (S.2.2.1 0 x1.toNatClampNeg))))
theorem kX1_lays_30 {p : Program} {l : Launch} {e : Env} {s : State} {m : MethodId} {args : Array Value} {below : List Frame} {meth : Method} {c : Code} {G : gG} {h0 : Nat} {ad : Nat → Nat} {post : Unit → MS → Prop} (X : mX G h0 ad p s m args c cX1_lays) (hml : c.maxLocals = 4) (hr : meth.sig.returnType = none) (hlk : meth.locks = false) : ∀ (n : Nat) (x1 : Int32) (x3 : Int32) (S : MS) (H : Heap) (locs : List Loc) (ls : Array Slot), wX1_lays_30 post n x1 x3 S → mH G h0 ad s S H locs → lv_has ls 4 [(0, .ref h0), (1, .int x1), (3, .int x3)] → W p l e ⟨3, 0, 0, 78⟩ s m args below meth c H locs 0 0 (MQ below (gQ vV post (mBw G h0 ad) (mAd h0 ad)) args s 0 0 (mAd h0 ad)) (F0 m 30 ls []) := by
  have hx := X.1
  have hb := X.2.1
  have hown := X.2.2.1
  have hts := X.2.2.2.1
  intro n
  induction n with
  | zero =>
    intro x1 x3 S H locs ls h
    exact False.elim h
  | succ n ih =>
    intro x1 x3 S H locs ls h hw hl
    unfold wX1_lays_30 at h
    refine lv_iload_n (pc := 30) hx hb dX1_lays_30 rfl (lv_at hl 2 rfl) ?_
    refine lv_if_lt (pc := 31) (tgt := 76) hx hb dX1_lays_31 rfl (fun c4 => ?_) (fun c4 => ?_)
    · have h := h.1 c4
      exact W.vret (pc := 76) hx hb hr (fun t ht hW => m_ret (val := vV) (v := ()) hw h ht) hw.2.2.2 dX1_lays_76 hlk
    · have h := h.2 c4
      refine lv_aload_n (pc := 34) hx hb dX1_lays_34 rfl (lv_at hl 0 rfl) ?_
      refine lv_iload_n (pc := 35) hx hb dX1_lays_35 rfl (lv_at hl 2 rfl) ?_
      refine lv_iload_n (pc := 36) hx hb dX1_lays_36 rfl (lv_at hl 2 rfl) ?_
      refine lv_iconst (pc := 37) (v := (1 : Int32)) hx hb dX1_lays_37 (by decide) ?_
      refine lv_iadd (pc := 38) hx hb dX1_lays_38 ?_
      refine lv_aload_n (pc := 39) hx hb dX1_lays_39 rfl (lv_at hl 0 rfl) ?_
      refine lv_iload_n (pc := 40) hx hb dX1_lays_40 rfl (lv_at hl 1 rfl) ?_
      refine lv_iload_n (pc := 41) hx hb dX1_lays_41 rfl (lv_at hl 2 rfl) ?_
      refine lv_iconst (pc := 42) (v := (0 : Int32)) hx hb dX1_lays_42 (by decide) ?_
      refine uX1_of (pc := 43) X hml hw h ⟨Nat.le_of_ble_eq_true rfl, Nat.le_of_ble_eq_true rfl⟩ hl.1 (Nat.le_of_ble_eq_true rfl) ⟨Nat.le_refl _, Nat.le_refl _⟩ dX1_lays_43 (fun r5 S6 H locs h hw => ?_)
      refine lv_aload_n (pc := 46) hx hb dX1_lays_46 rfl (lv_at hl 0 rfl) ?_
      refine lv_iload_n (pc := 47) hx hb dX1_lays_47 rfl (lv_at hl 1 rfl) ?_
      refine lv_iload_n (pc := 48) hx hb dX1_lays_48 rfl (lv_at hl 2 rfl) ?_
      refine lv_iconst (pc := 49) (v := (1 : Int32)) hx hb dX1_lays_49 (by decide) ?_
      refine uX1_of (pc := 50) X hml hw h ⟨Nat.le_of_ble_eq_true rfl, Nat.le_of_ble_eq_true rfl⟩ hl.1 (Nat.le_of_ble_eq_true rfl) ⟨Nat.le_refl _, Nat.le_refl _⟩ dX1_lays_50 (fun r7 S8 H locs h hw => ?_)
      refine lv_aload_n (pc := 53) hx hb dX1_lays_53 rfl (lv_at hl 0 rfl) ?_
      refine lv_iload_n (pc := 54) hx hb dX1_lays_54 rfl (lv_at hl 1 rfl) ?_
      refine lv_iload_n (pc := 55) hx hb dX1_lays_55 rfl (lv_at hl 2 rfl) ?_
      refine lv_iconst (pc := 56) (v := (2 : Int32)) hx hb dX1_lays_56 (by decide) ?_
      refine uX1_of (pc := 57) X hml hw h ⟨Nat.le_of_ble_eq_true rfl, Nat.le_of_ble_eq_true rfl⟩ hl.1 (Nat.le_of_ble_eq_true rfl) ⟨Nat.le_refl _, Nat.le_refl _⟩ dX1_lays_57 (fun r9 S10 H locs h hw => ?_)
      refine lv_aload_n (pc := 60) hx hb dX1_lays_60 rfl (lv_at hl 0 rfl) ?_
      refine lv_iload_n (pc := 61) hx hb dX1_lays_61 rfl (lv_at hl 1 rfl) ?_
      refine lv_iload_n (pc := 62) hx hb dX1_lays_62 rfl (lv_at hl 2 rfl) ?_
      refine lv_iconst (pc := 63) (v := (3 : Int32)) hx hb dX1_lays_63 (by decide) ?_
      refine uX1_of (pc := 64) X hml hw h ⟨Nat.le_of_ble_eq_true rfl, Nat.le_of_ble_eq_true rfl⟩ hl.1 (Nat.le_of_ble_eq_true rfl) ⟨Nat.le_refl _, Nat.le_refl _⟩ dX1_lays_64 (fun r11 S12 H locs h hw => ?_)
      refine uX1_laysLayer (pc := 67) X hml hw h ⟨Nat.le_of_ble_eq_true rfl, Nat.le_of_ble_eq_true rfl⟩ hl.1 (Nat.le_of_ble_eq_true rfl) ⟨Nat.le_refl _, Nat.le_refl _⟩ dX1_lays_67 (fun _ S14 H locs h hw => ?_)
      refine lv_iinc (pc := 70) (v := x3 + (-1 : Int32)) (lv' := [(3, .int (x3 + (-1 : Int32))), (0, .ref h0), (1, .int x1)]) hx hb dX1_lays_70 hl (k := 2) rfl rfl (by decide) rfl (fun ls hl => ?_)
      refine lv_goto (pc := 73) (tgt := 30) hx hb dX1_lays_73 rfl ?_
      exact ih _ _ _ _ _ _ h hw (lv_sub hl [1, 2, 0] rfl)
theorem tX1_lays {l : Launch} {G : gG} {h0 : Nat} {ad : Nat → Nat} (hd : mOk G h0 ad) {post : Unit → MS → Prop} {S : MS} {x1 : Int32} (h : wX1_lays post S x1) : Met l yX1_lays (ws_ yX1_lays cX1_lays 4 none) ⟨3, 0, 0, 78⟩ (va_Pc (.ref h0 :: [.int x1]) (fun U => mBw G h0 ad S U.heap ∧ gK G U)) (gQ vV post (mBw G h0 ad) (mAd h0 ad)) 0 0 (mAd h0 ad) := by
  refine m_ofW (by decide) rfl hd (Nat.le_of_ble_eq_true rfl) (fun p e s m below meth c ls X hml hr hlk hw hl => ?_)
  have hl : lv_has ls 4 [(0, .ref h0), (1, .int x1)] := hl
  have hx := X.1
  have hb := X.2.1
  have hown := X.2.2.1
  have hts := X.2.2.2.1
  unfold wX1_lays at h
  refine lv_aload_n (pc := 0) hx hb dX1_lays_0 rfl (lv_at hl 0 rfl) ?_
  refine mg21 (pc := 1) X hw dX1_lays_1 ?_
  refine lv_iload_n (pc := 4) hx hb dX1_lays_4 rfl (lv_at hl 1 rfl) ?_
  refine lv_icmp_ne (pc := 5) (tgt := 9) hx hb dX1_lays_5 rfl (fun c1 => ?_) (fun c1 => ?_)
  · have h := h.2 c1
    refine lv_aload_n (pc := 9) hx hb dX1_lays_9 rfl (lv_at hl 0 rfl) ?_
    refine lv_iload_n (pc := 10) hx hb dX1_lays_10 rfl (lv_at hl 1 rfl) ?_
    refine mp21 (pc := 11) X hw dX1_lays_11 (fun H locs hw => ?_)
    refine lv_aload_n (pc := 14) hx hb dX1_lays_14 rfl (lv_at hl 0 rfl) ?_
    refine mg0 (pc := 15) X hw dX1_lays_15 ?_
    refine lv_iload_n (pc := 18) hx hb dX1_lays_18 rfl (lv_at hl 1 rfl) ?_
    obtain ⟨hi, h⟩ := h
    refine ma0 (pc := 19) X hw hi dX1_lays_19 ?_
    refine lv_istore_n (pc := 20) (lv' := [(2, .int (S.2.2.1 0 x1.toNatClampNeg)), (0, .ref h0), (1, .int x1)]) hx hb dX1_lays_20 rfl hl (by decide) rfl (fun ls hl => ?_)
    refine lv_aload_n (pc := 21) hx hb dX1_lays_21 rfl (lv_at hl 1 rfl) ?_
    refine lv_iload_n (pc := 22) hx hb dX1_lays_22 rfl (lv_at hl 0 rfl) ?_
    refine uX1_laysNought (pc := 23) X hml hw h ⟨Nat.le_of_ble_eq_true rfl, Nat.le_of_ble_eq_true rfl⟩ hl.1 (Nat.le_of_ble_eq_true rfl) ⟨Nat.le_refl _, Nat.le_refl _⟩ dX1_lays_23 (fun _ S3 H locs h hw => ?_)
    refine lv_iload_n (pc := 26) hx hb dX1_lays_26 rfl (lv_at hl 0 rfl) ?_
    refine lv_iconst (pc := 27) (v := (1 : Int32)) hx hb dX1_lays_27 (by decide) ?_
    refine lv_isub (pc := 28) hx hb dX1_lays_28 ?_
    refine lv_istore_n (pc := 29) (lv' := [(3, .int ((S.2.2.1 0 x1.toNatClampNeg) - (1 : Int32))), (2, .int (S.2.2.1 0 x1.toNatClampNeg)), (0, .ref h0), (1, .int x1)]) hx hb dX1_lays_29 rfl hl (by decide) rfl (fun ls hl => ?_)
    obtain ⟨k, h⟩ := h
    exact kX1_lays_30 X hml hr hlk  k _ _ _ _ _ _ h hw (lv_sub hl [2, 3, 0] rfl)
  · have h := h.1 c1
    exact W.vret (pc := 8) hx hb hr (fun t ht hW => m_ret (val := vV) (v := ()) hw h ht) hw.2.2.2 dX1_lays_8 hlk
theorem uX1_lays {p : Program} {l : Launch} {e : Env} {R : Room} {s : State} {m : MethodId} {args : Array Value} {below : List Frame} {meth : Method} {c : Code} {H : Heap} {locs : List Loc} {cells slots : Nat} {Q : Jvm.State → Prop} {cc : ByteArray} {pc : Nat} {ls : Array Slot} {rest : List Value} {G : gG} {h0 : Nat} {ad : Nat → Nat} {post : Unit → MS → Prop} {S : MS} {x1 : Int32} {nL : Nat} (X : mX G h0 ad p s m args c cc) (hml : c.maxLocals = nL) (hw : mH G h0 ad s S H locs) (h : wX1_lays post S x1) (hR : 3 + 1 ≤ R.frames ∧ 8 + (4 + 11) + 78 ≤ R.locals) (hsz : ls.size = nL) (hr : (rest.map fun v => v.category).sum ≤ 8) (hc : cells ≤ R.cells ∧ slots ≤ R.slots) (d : decode cc pc = .ok (.invokevirtual 282, 3)) (kk : ∀ (r : Unit) (S1 : MS) (H1 : Heap) (locs1 : List Loc), post r S1 → mH G h0 ad s S1 H1 locs1 → W p l e R s m args below meth c H1 locs1 cells slots Q (F0 m (pc + 3) ls (rest))) : W p l e R s m args below meth c H locs cells slots Q (F0 m pc ls (.int x1 :: .ref h0 :: rest)) :=
  m_call (val := vV) (post := post) (As := [.int x1]) X hml hw (tX1_lays X.2.2.2.2.2.1 h) (lw_V q2244 q2246 qs65 q105 q2247) ⟨rfl, by decide, by decide, (by decide +kernel : (parseMethodDescriptor yX1_lays.desc).map (fun d => d.parameters.length) = some 1)⟩ hR hsz hr hc d rfl kk

def wX1_laysUnlike_161 (post : Unit → MS → Prop) : Nat → Int64 → Int32 → MS → Prop
  | 0, _, _, _ => False
  | n + 1, x2, x4, S => (((6001 : Int32) ≤ x4) → (post () S)) ∧ (¬ ((6001 : Int32) ≤ x4) → (vp_in x4 6001 ∧ (¬ x2 = 0 ∧ (vp_in x4 6001 ∧ (wX1_laysUnlike_161 post n x2 (x4 + (1 : Int32)) (mB S 24 (vp_updL (S.2.2.2 24) x4.toNatClampNeg ((S.2.2.2 24 x4.toNatClampNeg) / x2))))))))
def wX1_laysUnlike_110 (K79 : Int32 → Int64 → Int32 → MS → Prop) (post : Unit → MS → Prop) : Nat → Int32 → Int64 → Int32 → Int32 → MS → Prop
  | 0, _, _, _, _, _ => False
  | n + 1, x1, x2, x4, x5, S => (((3000 : Int32) < x5) → (K79 x1 x2 (x4 + (1 : Int32)) S)) ∧ (¬ ((3000 : Int32) < x5) → (vp_in (x5 + (3000 : Int32)) 6001 ∧ (vp_in x4 120 ∧ (wX1_waysOf (fun r11 S12 => vp_in (x5 + (3000 : Int32)) 6001 ∧ (wX1_laysUnlike_110 K79 post n x1 x2 x4 (x5 + (1 : Int32)) (mB S12 24 (vp_updL (S12.2.2.2 24) (x5 + (3000 : Int32)).toNatClampNeg ((S.2.2.2 24 (x5 + (3000 : Int32)).toNatClampNeg) + ((S.2.2.2 28 x4.toNatClampNeg) * r11)))))) S x5))))
def wX1_laysUnlike_79 (post : Unit → MS → Prop) : Nat → Int32 → Int64 → Int32 → MS → Prop
  | 0, _, _, _, _ => False
  | n + 1, x1, x2, x4, S => (((S.1 29) ≤ x4) → ((∃ k, wX1_laysUnlike_161 post k x2 (0 : Int32) S))) ∧ (¬ ((S.1 29) ≤ x4) → (wX1_laysRounds (fun _ S9 => vp_in x4 120 ∧ ((∃ k, wX1_laysUnlike_110 (fun x1 x2 x4 S => wX1_laysUnlike_79 post n x1 x2 x4 S) post k x1 (x2 + (S9.2.2.2 28 x4.toNatClampNeg)) x4 (-3000 : Int32) S9))) S x1 x4))
def wX1_laysUnlike_43 (post : Unit → MS → Prop) : Nat → Int32 → Int32 → MS → Prop
  | 0, _, _, _ => False
  | n + 1, x1, x2, S => (((8 : Int32) ≤ x2) → (wX1_turns 6 (fun _ S5 => (∃ k, wX1_laysUnlike_79 post k x1 (0 : Int64) (0 : Int32) S5)) (mI S 29 (0 : Int32)) x1 (0 : Int32) (0 : Int32))) ∧ (¬ ((8 : Int32) ≤ x2) → (vp_in x2 120 ∧ (wX1_laysUnlike_43 post n x1 (x2 + (1 : Int32)) (mB S 28 (vp_updL (S.2.2.2 28) x2.toNatClampNeg (0 : Int64))))))
def wX1_laysUnlike_21 (post : Unit → MS → Prop) : Nat → Int32 → Int32 → MS → Prop
  | 0, _, _, _ => False
  | n + 1, x1, x2, S => (((6001 : Int32) ≤ x2) → ((∃ k, wX1_laysUnlike_43 post k x1 (0 : Int32) S))) ∧ (¬ ((6001 : Int32) ≤ x2) → (vp_in x2 6001 ∧ (wX1_laysUnlike_21 post n x1 (x2 + (1 : Int32)) (mB S 24 (vp_updL (S.2.2.2 24) x2.toNatClampNeg (0 : Int64))))))
def wX1_laysUnlike (post : Unit → MS → Prop) (S : MS) (x1 : Int32) : Prop :=
  (((S.1 23) = x1) → (post () S)) ∧ (¬ ((S.1 23) = x1) → ((∃ k, wX1_laysUnlike_21 post k x1 (0 : Int32) (mI (mI S 23 x1) 21 (-1 : Int32)))))
theorem kX1_laysUnlike_161 {p : Program} {l : Launch} {e : Env} {s : State} {m : MethodId} {args : Array Value} {below : List Frame} {meth : Method} {c : Code} {G : gG} {h0 : Nat} {ad : Nat → Nat} {post : Unit → MS → Prop} (X : mX G h0 ad p s m args c cX1_laysUnlike) (hml : c.maxLocals = 6) (hr : meth.sig.returnType = none) (hlk : meth.locks = false) : ∀ (n : Nat) (x2 : Int64) (x4 : Int32) (S : MS) (H : Heap) (locs : List Loc) (ls : Array Slot), wX1_laysUnlike_161 post n x2 x4 S → mH G h0 ad s S H locs → lv_has ls 6 [(0, .ref h0), (2, .long x2), (4, .int x4)] → W p l e ⟨27, 0, 0, 1189⟩ s m args below meth c H locs 0 0 (MQ below (gQ vV post (mBw G h0 ad) (mAd h0 ad)) args s 0 0 (mAd h0 ad)) (F0 m 161 ls []) := by
  have hx := X.1
  have hb := X.2.1
  have hown := X.2.2.1
  have hts := X.2.2.2.1
  intro n
  induction n with
  | zero =>
    intro x2 x4 S H locs ls h
    exact False.elim h
  | succ n ih =>
    intro x2 x4 S H locs ls h hw hl
    unfold wX1_laysUnlike_161 at h
    refine lv_iload (pc := 161) hx hb dX1_laysUnlike_161 (lv_at hl 2 rfl) ?_
    refine lv_sipush (pc := 163) (v := (6001 : Int32)) hx hb dX1_laysUnlike_163 (by decide) ?_
    refine lv_icmp_ge (pc := 166) (tgt := 186) hx hb dX1_laysUnlike_166 rfl (fun c7 => ?_) (fun c7 => ?_)
    · have h := h.1 c7
      exact W.vret (pc := 186) hx hb hr (fun t ht hW => m_ret (val := vV) (v := ()) hw h ht) hw.2.2.2 dX1_laysUnlike_186 hlk
    · have h := h.2 c7
      refine lv_aload_n (pc := 169) hx hb dX1_laysUnlike_169 rfl (lv_at hl 0 rfl) ?_
      refine mg24 (pc := 170) X hw dX1_laysUnlike_170 ?_
      refine lv_iload (pc := 173) hx hb dX1_laysUnlike_173 (lv_at hl 2 rfl) ?_
      refine lv_dup2_11 (pc := 175) hx hb dX1_laysUnlike_175 rfl rfl ?_
      obtain ⟨hi, h⟩ := h
      refine ma24 (pc := 176) X hw hi dX1_laysUnlike_176 ?_
      refine lv_lload_n (pc := 177) hx hb dX1_laysUnlike_177 rfl (lv_at hl 1 rfl) ?_
      obtain ⟨hne, h⟩ := h
      refine lv_ldiv (pc := 178) hx hb dX1_laysUnlike_178 hne ?_
      obtain ⟨hi, h⟩ := h
      refine ms24 (pc := 179) X hw hi dX1_laysUnlike_179 (fun H locs hw => ?_)
      refine lv_iinc (pc := 180) (v := x4 + (1 : Int32)) (lv' := [(4, .int (x4 + (1 : Int32))), (0, .ref h0), (2, .long x2)]) hx hb dX1_laysUnlike_180 hl (k := 2) rfl rfl (by decide) rfl (fun ls hl => ?_)
      refine lv_goto (pc := 183) (tgt := 161) hx hb dX1_laysUnlike_183 rfl ?_
      exact ih _ _ _ _ _ _ h hw (lv_sub hl [1, 2, 0] rfl)
theorem kX1_laysUnlike_110 {p : Program} {l : Launch} {e : Env} {s : State} {m : MethodId} {args : Array Value} {below : List Frame} {meth : Method} {c : Code} {G : gG} {h0 : Nat} {ad : Nat → Nat} {K79 : Int32 → Int64 → Int32 → MS → Prop} {post : Unit → MS → Prop} (X : mX G h0 ad p s m args c cX1_laysUnlike) (hml : c.maxLocals = 6) (hr : meth.sig.returnType = none) (hlk : meth.locks = false) (hK79 : ∀ (x1 : Int32) (x2 : Int64) (x4 : Int32) (S : MS) (H : Heap) (locs : List Loc) (ls : Array Slot), K79 x1 x2 x4 S → mH G h0 ad s S H locs → lv_has ls 6 [(0, .ref h0), (1, .int x1), (2, .long x2), (4, .int x4)] → W p l e ⟨27, 0, 0, 1189⟩ s m args below meth c H locs 0 0 (MQ below (gQ vV post (mBw G h0 ad) (mAd h0 ad)) args s 0 0 (mAd h0 ad)) (F0 m 79 ls [])) : ∀ (n : Nat) (x1 : Int32) (x2 : Int64) (x4 : Int32) (x5 : Int32) (S : MS) (H : Heap) (locs : List Loc) (ls : Array Slot), wX1_laysUnlike_110 K79 post n x1 x2 x4 x5 S → mH G h0 ad s S H locs → lv_has ls 6 [(0, .ref h0), (1, .int x1), (2, .long x2), (4, .int x4), (5, .int x5)] → W p l e ⟨27, 0, 0, 1189⟩ s m args below meth c H locs 0 0 (MQ below (gQ vV post (mBw G h0 ad) (mAd h0 ad)) args s 0 0 (mAd h0 ad)) (F0 m 110 ls []) := by
  have hx := X.1
  have hb := X.2.1
  have hown := X.2.2.1
  have hts := X.2.2.2.1
  intro n
  induction n with
  | zero =>
    intro x1 x2 x4 x5 S H locs ls h
    exact False.elim h
  | succ n ih =>
    intro x1 x2 x4 x5 S H locs ls h hw hl
    unfold wX1_laysUnlike_110 at h
    refine lv_iload (pc := 110) hx hb dX1_laysUnlike_110 (lv_at hl 4 rfl) ?_
    refine lv_sipush (pc := 112) (v := (3000 : Int32)) hx hb dX1_laysUnlike_112 (by decide) ?_
    refine lv_icmp_gt (pc := 115) (tgt := 152) hx hb dX1_laysUnlike_115 rfl (fun c10 => ?_) (fun c10 => ?_)
    · have h := h.1 c10
      refine lv_iinc (pc := 152) (v := x4 + (1 : Int32)) (lv' := [(4, .int (x4 + (1 : Int32))), (0, .ref h0), (1, .int x1), (2, .long x2), (5, .int x5)]) hx hb dX1_laysUnlike_152 hl (k := 3) rfl rfl (by decide) rfl (fun ls hl => ?_)
      refine lv_goto (pc := 155) (tgt := 79) hx hb dX1_laysUnlike_155 rfl ?_
      exact hK79 _ _ _ _ _ _ _ h hw (lv_sub hl [1, 2, 3, 0] rfl)
    · have h := h.2 c10
      refine lv_aload_n (pc := 118) hx hb dX1_laysUnlike_118 rfl (lv_at hl 0 rfl) ?_
      refine mg24 (pc := 119) X hw dX1_laysUnlike_119 ?_
      refine lv_iload (pc := 122) hx hb dX1_laysUnlike_122 (lv_at hl 4 rfl) ?_
      refine lv_sipush (pc := 124) (v := (3000 : Int32)) hx hb dX1_laysUnlike_124 (by decide) ?_
      refine lv_iadd (pc := 127) hx hb dX1_laysUnlike_127 ?_
      refine lv_dup2_11 (pc := 128) hx hb dX1_laysUnlike_128 rfl rfl ?_
      obtain ⟨hi, h⟩ := h
      refine ma24 (pc := 129) X hw hi dX1_laysUnlike_129 ?_
      refine lv_aload_n (pc := 130) hx hb dX1_laysUnlike_130 rfl (lv_at hl 0 rfl) ?_
      refine mg28 (pc := 131) X hw dX1_laysUnlike_131 ?_
      refine lv_iload (pc := 134) hx hb dX1_laysUnlike_134 (lv_at hl 3 rfl) ?_
      obtain ⟨hi, h⟩ := h
      refine ma28 (pc := 136) X hw hi dX1_laysUnlike_136 ?_
      refine lv_aload_n (pc := 137) hx hb dX1_laysUnlike_137 rfl (lv_at hl 0 rfl) ?_
      refine lv_iload (pc := 138) hx hb dX1_laysUnlike_138 (lv_at hl 4 rfl) ?_
      refine uX1_waysOf (pc := 140) X hml hw h ⟨Nat.le_of_ble_eq_true rfl, Nat.le_of_ble_eq_true rfl⟩ hl.1 (Nat.le_of_ble_eq_true rfl) ⟨Nat.le_refl _, Nat.le_refl _⟩ dX1_laysUnlike_140 (fun r11 S12 H locs h hw => ?_)
      refine lv_lmul (pc := 143) hx hb dX1_laysUnlike_143 ?_
      refine lv_ladd (pc := 144) hx hb dX1_laysUnlike_144 ?_
      obtain ⟨hi, h⟩ := h
      refine ms24 (pc := 145) X hw hi dX1_laysUnlike_145 (fun H locs hw => ?_)
      refine lv_iinc (pc := 146) (v := x5 + (1 : Int32)) (lv' := [(5, .int (x5 + (1 : Int32))), (0, .ref h0), (1, .int x1), (2, .long x2), (4, .int x4)]) hx hb dX1_laysUnlike_146 hl (k := 4) rfl rfl (by decide) rfl (fun ls hl => ?_)
      refine lv_goto (pc := 149) (tgt := 110) hx hb dX1_laysUnlike_149 rfl ?_
      exact ih _ _ _ _ _ _ _ _ h hw (lv_sub hl [1, 2, 3, 4, 0] rfl)
theorem kX1_laysUnlike_79 {p : Program} {l : Launch} {e : Env} {s : State} {m : MethodId} {args : Array Value} {below : List Frame} {meth : Method} {c : Code} {G : gG} {h0 : Nat} {ad : Nat → Nat} {post : Unit → MS → Prop} (X : mX G h0 ad p s m args c cX1_laysUnlike) (hml : c.maxLocals = 6) (hr : meth.sig.returnType = none) (hlk : meth.locks = false) : ∀ (n : Nat) (x1 : Int32) (x2 : Int64) (x4 : Int32) (S : MS) (H : Heap) (locs : List Loc) (ls : Array Slot), wX1_laysUnlike_79 post n x1 x2 x4 S → mH G h0 ad s S H locs → lv_has ls 6 [(0, .ref h0), (1, .int x1), (2, .long x2), (4, .int x4)] → W p l e ⟨27, 0, 0, 1189⟩ s m args below meth c H locs 0 0 (MQ below (gQ vV post (mBw G h0 ad) (mAd h0 ad)) args s 0 0 (mAd h0 ad)) (F0 m 79 ls []) := by
  have hx := X.1
  have hb := X.2.1
  have hown := X.2.2.1
  have hts := X.2.2.2.1
  intro n
  induction n with
  | zero =>
    intro x1 x2 x4 S H locs ls h
    exact False.elim h
  | succ n ih =>
    intro x1 x2 x4 S H locs ls h hw hl
    unfold wX1_laysUnlike_79 at h
    refine lv_iload (pc := 79) hx hb dX1_laysUnlike_79 (lv_at hl 3 rfl) ?_
    refine lv_aload_n (pc := 81) hx hb dX1_laysUnlike_81 rfl (lv_at hl 0 rfl) ?_
    refine mg29 (pc := 82) X hw dX1_laysUnlike_82 ?_
    refine lv_icmp_ge (pc := 85) (tgt := 158) hx hb dX1_laysUnlike_85 rfl (fun c6 => ?_) (fun c6 => ?_)
    · have h := h.1 c6
      refine lv_iconst (pc := 158) (v := (0 : Int32)) hx hb dX1_laysUnlike_158 (by decide) ?_
      refine lv_istore (pc := 159) (lv' := [(4, .int (0 : Int32)), (0, .ref h0), (1, .int x1), (2, .long x2)]) hx hb dX1_laysUnlike_159 hl (by decide) rfl (fun ls hl => ?_)
      obtain ⟨k, h⟩ := h
      exact kX1_laysUnlike_161 X hml hr hlk  k _ _ _ _ _ _ h hw (lv_sub hl [1, 3, 0] rfl)
    · have h := h.2 c6
      refine lv_aload_n (pc := 88) hx hb dX1_laysUnlike_88 rfl (lv_at hl 0 rfl) ?_
      refine lv_iload_n (pc := 89) hx hb dX1_laysUnlike_89 rfl (lv_at hl 1 rfl) ?_
      refine lv_iload (pc := 90) hx hb dX1_laysUnlike_90 (lv_at hl 3 rfl) ?_
      refine uX1_laysRounds (pc := 92) X hml hw h ⟨Nat.le_of_ble_eq_true rfl, Nat.le_of_ble_eq_true rfl⟩ hl.1 (Nat.le_of_ble_eq_true rfl) ⟨Nat.le_refl _, Nat.le_refl _⟩ dX1_laysUnlike_92 (fun _ S9 H locs h hw => ?_)
      refine lv_lload_n (pc := 95) hx hb dX1_laysUnlike_95 rfl (lv_at hl 2 rfl) ?_
      refine lv_aload_n (pc := 96) hx hb dX1_laysUnlike_96 rfl (lv_at hl 0 rfl) ?_
      refine mg28 (pc := 97) X hw dX1_laysUnlike_97 ?_
      refine lv_iload (pc := 100) hx hb dX1_laysUnlike_100 (lv_at hl 3 rfl) ?_
      obtain ⟨hi, h⟩ := h
      refine ma28 (pc := 102) X hw hi dX1_laysUnlike_102 ?_
      refine lv_ladd (pc := 103) hx hb dX1_laysUnlike_103 ?_
      refine lv_lstore_n (pc := 104) (lv' := [(2, .long (x2 + (S9.2.2.2 28 x4.toNatClampNeg))), (0, .ref h0), (1, .int x1), (4, .int x4)]) hx hb dX1_laysUnlike_104 rfl hl (by decide) rfl (fun ls hl => ?_)
      refine lv_sipush (pc := 105) (v := (-3000 : Int32)) hx hb dX1_laysUnlike_105 (by decide) ?_
      refine lv_istore (pc := 108) (lv' := [(5, .int (-3000 : Int32)), (2, .long (x2 + (S9.2.2.2 28 x4.toNatClampNeg))), (0, .ref h0), (1, .int x1), (4, .int x4)]) hx hb dX1_laysUnlike_108 hl (by decide) rfl (fun ls hl => ?_)
      obtain ⟨k, h⟩ := h
      exact kX1_laysUnlike_110 X hml hr hlk ih k _ _ _ _ _ _ _ _ h hw (lv_sub hl [2, 3, 1, 4, 0] rfl)
theorem kX1_laysUnlike_43 {p : Program} {l : Launch} {e : Env} {s : State} {m : MethodId} {args : Array Value} {below : List Frame} {meth : Method} {c : Code} {G : gG} {h0 : Nat} {ad : Nat → Nat} {post : Unit → MS → Prop} (X : mX G h0 ad p s m args c cX1_laysUnlike) (hml : c.maxLocals = 6) (hr : meth.sig.returnType = none) (hlk : meth.locks = false) : ∀ (n : Nat) (x1 : Int32) (x2 : Int32) (S : MS) (H : Heap) (locs : List Loc) (ls : Array Slot), wX1_laysUnlike_43 post n x1 x2 S → mH G h0 ad s S H locs → lv_has ls 6 [(0, .ref h0), (1, .int x1), (2, .int x2)] → W p l e ⟨27, 0, 0, 1189⟩ s m args below meth c H locs 0 0 (MQ below (gQ vV post (mBw G h0 ad) (mAd h0 ad)) args s 0 0 (mAd h0 ad)) (F0 m 43 ls []) := by
  have hx := X.1
  have hb := X.2.1
  have hown := X.2.2.1
  have hts := X.2.2.2.1
  intro n
  induction n with
  | zero =>
    intro x1 x2 S H locs ls h
    exact False.elim h
  | succ n ih =>
    intro x1 x2 S H locs ls h hw hl
    unfold wX1_laysUnlike_43 at h
    refine lv_iload_n (pc := 43) hx hb dX1_laysUnlike_43 rfl (lv_at hl 2 rfl) ?_
    refine lv_bipush (pc := 44) (v := (8 : Int32)) hx hb dX1_laysUnlike_44 (by decide) ?_
    refine lv_icmp_ge (pc := 46) (tgt := 62) hx hb dX1_laysUnlike_46 rfl (fun c3 => ?_) (fun c3 => ?_)
    · have h := h.1 c3
      refine lv_aload_n (pc := 62) hx hb dX1_laysUnlike_62 rfl (lv_at hl 0 rfl) ?_
      refine lv_iconst (pc := 63) (v := (0 : Int32)) hx hb dX1_laysUnlike_63 (by decide) ?_
      refine mp29 (pc := 64) X hw dX1_laysUnlike_64 (fun H locs hw => ?_)
      refine lv_aload_n (pc := 67) hx hb dX1_laysUnlike_67 rfl (lv_at hl 0 rfl) ?_
      refine lv_iload_n (pc := 68) hx hb dX1_laysUnlike_68 rfl (lv_at hl 1 rfl) ?_
      refine lv_iconst (pc := 69) (v := (0 : Int32)) hx hb dX1_laysUnlike_69 (by decide) ?_
      refine lv_iconst (pc := 70) (v := (0 : Int32)) hx hb dX1_laysUnlike_70 (by decide) ?_
      refine uX1_turns (pc := 71) X hml hw h ⟨Nat.le_of_ble_eq_true rfl, Nat.le_of_ble_eq_true rfl⟩ hl.1 (Nat.le_of_ble_eq_true rfl) ⟨Nat.le_refl _, Nat.le_refl _⟩ dX1_laysUnlike_71 (fun _ S5 H locs h hw => ?_)
      refine lv_lconst (pc := 74) (v := (0 : Int64)) hx hb dX1_laysUnlike_74 (by decide) ?_
      refine lv_lstore_n (pc := 75) (lv' := [(2, .long (0 : Int64)), (0, .ref h0), (1, .int x1)]) hx hb dX1_laysUnlike_75 rfl hl (by decide) rfl (fun ls hl => ?_)
      refine lv_iconst (pc := 76) (v := (0 : Int32)) hx hb dX1_laysUnlike_76 (by decide) ?_
      refine lv_istore (pc := 77) (lv' := [(4, .int (0 : Int32)), (2, .long (0 : Int64)), (0, .ref h0), (1, .int x1)]) hx hb dX1_laysUnlike_77 hl (by decide) rfl (fun ls hl => ?_)
      obtain ⟨k, h⟩ := h
      exact kX1_laysUnlike_79 X hml hr hlk  k _ _ _ _ _ _ _ h hw (lv_sub hl [2, 3, 1, 0] rfl)
    · have h := h.2 c3
      refine lv_aload_n (pc := 49) hx hb dX1_laysUnlike_49 rfl (lv_at hl 0 rfl) ?_
      refine mg28 (pc := 50) X hw dX1_laysUnlike_50 ?_
      refine lv_iload_n (pc := 53) hx hb dX1_laysUnlike_53 rfl (lv_at hl 2 rfl) ?_
      refine lv_lconst (pc := 54) (v := (0 : Int64)) hx hb dX1_laysUnlike_54 (by decide) ?_
      obtain ⟨hi, h⟩ := h
      refine ms28 (pc := 55) X hw hi dX1_laysUnlike_55 (fun H locs hw => ?_)
      refine lv_iinc (pc := 56) (v := x2 + (1 : Int32)) (lv' := [(2, .int (x2 + (1 : Int32))), (0, .ref h0), (1, .int x1)]) hx hb dX1_laysUnlike_56 hl (k := 2) rfl rfl (by decide) rfl (fun ls hl => ?_)
      refine lv_goto (pc := 59) (tgt := 43) hx hb dX1_laysUnlike_59 rfl ?_
      exact ih _ _ _ _ _ _ h hw (lv_sub hl [1, 2, 0] rfl)
theorem kX1_laysUnlike_21 {p : Program} {l : Launch} {e : Env} {s : State} {m : MethodId} {args : Array Value} {below : List Frame} {meth : Method} {c : Code} {G : gG} {h0 : Nat} {ad : Nat → Nat} {post : Unit → MS → Prop} (X : mX G h0 ad p s m args c cX1_laysUnlike) (hml : c.maxLocals = 6) (hr : meth.sig.returnType = none) (hlk : meth.locks = false) : ∀ (n : Nat) (x1 : Int32) (x2 : Int32) (S : MS) (H : Heap) (locs : List Loc) (ls : Array Slot), wX1_laysUnlike_21 post n x1 x2 S → mH G h0 ad s S H locs → lv_has ls 6 [(0, .ref h0), (1, .int x1), (2, .int x2)] → W p l e ⟨27, 0, 0, 1189⟩ s m args below meth c H locs 0 0 (MQ below (gQ vV post (mBw G h0 ad) (mAd h0 ad)) args s 0 0 (mAd h0 ad)) (F0 m 21 ls []) := by
  have hx := X.1
  have hb := X.2.1
  have hown := X.2.2.1
  have hts := X.2.2.2.1
  intro n
  induction n with
  | zero =>
    intro x1 x2 S H locs ls h
    exact False.elim h
  | succ n ih =>
    intro x1 x2 S H locs ls h hw hl
    unfold wX1_laysUnlike_21 at h
    refine lv_iload_n (pc := 21) hx hb dX1_laysUnlike_21 rfl (lv_at hl 2 rfl) ?_
    refine lv_sipush (pc := 22) (v := (6001 : Int32)) hx hb dX1_laysUnlike_22 (by decide) ?_
    refine lv_icmp_ge (pc := 25) (tgt := 41) hx hb dX1_laysUnlike_25 rfl (fun c2 => ?_) (fun c2 => ?_)
    · have h := h.1 c2
      refine lv_iconst (pc := 41) (v := (0 : Int32)) hx hb dX1_laysUnlike_41 (by decide) ?_
      refine lv_istore_n (pc := 42) (lv' := [(2, .int (0 : Int32)), (0, .ref h0), (1, .int x1)]) hx hb dX1_laysUnlike_42 rfl hl (by decide) rfl (fun ls hl => ?_)
      obtain ⟨k, h⟩ := h
      exact kX1_laysUnlike_43 X hml hr hlk  k _ _ _ _ _ _ h hw (lv_sub hl [1, 2, 0] rfl)
    · have h := h.2 c2
      refine lv_aload_n (pc := 28) hx hb dX1_laysUnlike_28 rfl (lv_at hl 0 rfl) ?_
      refine mg24 (pc := 29) X hw dX1_laysUnlike_29 ?_
      refine lv_iload_n (pc := 32) hx hb dX1_laysUnlike_32 rfl (lv_at hl 2 rfl) ?_
      refine lv_lconst (pc := 33) (v := (0 : Int64)) hx hb dX1_laysUnlike_33 (by decide) ?_
      obtain ⟨hi, h⟩ := h
      refine ms24 (pc := 34) X hw hi dX1_laysUnlike_34 (fun H locs hw => ?_)
      refine lv_iinc (pc := 35) (v := x2 + (1 : Int32)) (lv' := [(2, .int (x2 + (1 : Int32))), (0, .ref h0), (1, .int x1)]) hx hb dX1_laysUnlike_35 hl (k := 2) rfl rfl (by decide) rfl (fun ls hl => ?_)
      refine lv_goto (pc := 38) (tgt := 21) hx hb dX1_laysUnlike_38 rfl ?_
      exact ih _ _ _ _ _ _ h hw (lv_sub hl [1, 2, 0] rfl)
theorem tX1_laysUnlike {l : Launch} {G : gG} {h0 : Nat} {ad : Nat → Nat} (hd : mOk G h0 ad) {post : Unit → MS → Prop} {S : MS} {x1 : Int32} (h : wX1_laysUnlike post S x1) : Met l yX1_laysUnlike (ws_ yX1_laysUnlike cX1_laysUnlike 6 none) ⟨27, 0, 0, 1189⟩ (va_Pc (.ref h0 :: [.int x1]) (fun U => mBw G h0 ad S U.heap ∧ gK G U)) (gQ vV post (mBw G h0 ad) (mAd h0 ad)) 0 0 (mAd h0 ad) := by
  refine m_ofW (by decide) rfl hd (Nat.le_of_ble_eq_true rfl) (fun p e s m below meth c ls X hml hr hlk hw hl => ?_)
  have hl : lv_has ls 6 [(0, .ref h0), (1, .int x1)] := hl
  have hx := X.1
  have hb := X.2.1
  have hown := X.2.2.1
  have hts := X.2.2.2.1
  unfold wX1_laysUnlike at h
  refine lv_aload_n (pc := 0) hx hb dX1_laysUnlike_0 rfl (lv_at hl 0 rfl) ?_
  refine mg23 (pc := 1) X hw dX1_laysUnlike_1 ?_
  refine lv_iload_n (pc := 4) hx hb dX1_laysUnlike_4 rfl (lv_at hl 1 rfl) ?_
  refine lv_icmp_ne (pc := 5) (tgt := 9) hx hb dX1_laysUnlike_5 rfl (fun c1 => ?_) (fun c1 => ?_)
  · have h := h.2 c1
    refine lv_aload_n (pc := 9) hx hb dX1_laysUnlike_9 rfl (lv_at hl 0 rfl) ?_
    refine lv_iload_n (pc := 10) hx hb dX1_laysUnlike_10 rfl (lv_at hl 1 rfl) ?_
    refine mp23 (pc := 11) X hw dX1_laysUnlike_11 (fun H locs hw => ?_)
    refine lv_aload_n (pc := 14) hx hb dX1_laysUnlike_14 rfl (lv_at hl 0 rfl) ?_
    refine lv_iconst (pc := 15) (v := (-1 : Int32)) hx hb dX1_laysUnlike_15 (by decide) ?_
    refine mp21 (pc := 16) X hw dX1_laysUnlike_16 (fun H locs hw => ?_)
    refine lv_iconst (pc := 19) (v := (0 : Int32)) hx hb dX1_laysUnlike_19 (by decide) ?_
    refine lv_istore_n (pc := 20) (lv' := [(2, .int (0 : Int32)), (0, .ref h0), (1, .int x1)]) hx hb dX1_laysUnlike_20 rfl hl (by decide) rfl (fun ls hl => ?_)
    obtain ⟨k, h⟩ := h
    exact kX1_laysUnlike_21 X hml hr hlk  k _ _ _ _ _ _ h hw (lv_sub hl [1, 2, 0] rfl)
  · have h := h.1 c1
    exact W.vret (pc := 8) hx hb hr (fun t ht hW => m_ret (val := vV) (v := ()) hw h ht) hw.2.2.2 dX1_laysUnlike_8 hlk
theorem uX1_laysUnlike {p : Program} {l : Launch} {e : Env} {R : Room} {s : State} {m : MethodId} {args : Array Value} {below : List Frame} {meth : Method} {c : Code} {H : Heap} {locs : List Loc} {cells slots : Nat} {Q : Jvm.State → Prop} {cc : ByteArray} {pc : Nat} {ls : Array Slot} {rest : List Value} {G : gG} {h0 : Nat} {ad : Nat → Nat} {post : Unit → MS → Prop} {S : MS} {x1 : Int32} {nL : Nat} (X : mX G h0 ad p s m args c cc) (hml : c.maxLocals = nL) (hw : mH G h0 ad s S H locs) (h : wX1_laysUnlike post S x1) (hR : 27 + 1 ≤ R.frames ∧ 8 + (6 + 11) + 1189 ≤ R.locals) (hsz : ls.size = nL) (hr : (rest.map fun v => v.category).sum ≤ 8) (hc : cells ≤ R.cells ∧ slots ≤ R.slots) (d : decode cc pc = .ok (.invokevirtual 310, 3)) (kk : ∀ (r : Unit) (S1 : MS) (H1 : Heap) (locs1 : List Loc), post r S1 → mH G h0 ad s S1 H1 locs1 → W p l e R s m args below meth c H1 locs1 cells slots Q (F0 m (pc + 3) ls (rest))) : W p l e R s m args below meth c H locs cells slots Q (F0 m pc ls (.int x1 :: .ref h0 :: rest)) :=
  m_call (val := vV) (post := post) (As := [.int x1]) X hml hw (tX1_laysUnlike X.2.2.2.2.2.1 h) (lw_V q2269 q2271 qs70 q105 q2272) ⟨rfl, by decide, by decide, (by decide +kernel : (parseMethodDescriptor yX1_laysUnlike.desc).map (fun d => d.parameters.length) = some 1)⟩ hR hsz hr hc d rfl kk

def wX1_finds_57 (K36 : Int32 → Int64 → Int64 → Int32 → MS → Prop) (post : Int32 → MS → Prop) : Nat → Int32 → Int64 → Int64 → Int32 → Int32 → MS → Prop
  | 0, _, _, _, _, _, _ => False
  | n + 1, x1, x5, x7, x9, x10, S => wX1_valueOf (fun r10 S11 => wX1_at (fun r12 S13 => ((x5 < r12) → (vp_in x9 5 ∧ (wX1_valueOf (fun r15 S16 => K36 x1 x5 (x7 - r15) (x9 + (1 : Int32)) S16) (mA S13 30 (upd (S13.2.2.1 30) x9.toNatClampNeg x10)) x1 x9 x10.toInt64))) ∧ (¬ (x5 < r12) → (wX1_valueOf (fun r17 S18 => wX1_at (fun r19 S20 => wX1_finds_57 K36 post n x1 (x5 - r19) x7 x9 (x10 + (1 : Int32)) S20) S18 (x9 + (1 : Int32)) (x7 - r17)) S13 x1 x9 x10.toInt64))) S11 (x9 + (1 : Int32)) (x7 - r10)) S x1 x9 x10.toInt64
def wX1_finds_36 (post : Int32 → MS → Prop) : Nat → Int32 → Int64 → Int64 → Int32 → MS → Prop
  | 0, _, _, _, _, _ => False
  | n + 1, x1, x5, x7, x9, S => vp_in x1 5 ∧ ((((S.2.2.1 0 x1.toNatClampNeg) ≤ x9) → (post (1 : Int32) S)) ∧ (¬ ((S.2.2.1 0 x1.toNatClampNeg) ≤ x9) → (wX1_of (fun r8 S9 => (∃ k, wX1_finds_57 (fun x1 x5 x7 x9 S => wX1_finds_36 post n x1 x5 x7 x9 S) post k x1 x5 x7 x9 r8 S9)) S x1 x9 (2 : Int32))))
def wX1_finds (post : Int32 → MS → Prop) (S : MS) (x1 : Int32) (x2 : Int32) (x3 : Int64) : Prop :=
  wX1_lays (fun _ S2 => wX1_waysOf (fun r3 S4 => wX1_isIn (fun r5 => ((r5 = (0 : Int32)) → (post (0 : Int32) S4)) ∧ (¬ (r5 = (0 : Int32)) → ((∃ k, wX1_finds_36 post k x1 x3 ((x2 + (15000 : Int32)).toInt64) (0 : Int32) S4)))) x3 (0 : Int64) (r3 - (1 : Int64))) S2 x2) S x1
theorem kX1_finds_57 {p : Program} {l : Launch} {e : Env} {s : State} {m : MethodId} {args : Array Value} {below : List Frame} {meth : Method} {c : Code} {G : gG} {h0 : Nat} {ad : Nat → Nat} {K36 : Int32 → Int64 → Int64 → Int32 → MS → Prop} {post : Int32 → MS → Prop} (X : mX G h0 ad p s m args c cX1_finds) (hml : c.maxLocals = 11) (hr : meth.sig.returnType = (some .boolean)) (hlk : meth.locks = false) (hK36 : ∀ (x1 : Int32) (x5 : Int64) (x7 : Int64) (x9 : Int32) (S : MS) (H : Heap) (locs : List Loc) (ls : Array Slot), K36 x1 x5 x7 x9 S → mH G h0 ad s S H locs → lv_has ls 11 [(0, .ref h0), (1, .int x1), (5, .long x5), (7, .long x7), (9, .int x9)] → W p l e ⟨4, 0, 0, 101⟩ s m args below meth c H locs 0 0 (MQ below (gQ vI post (mBw G h0 ad) (mAd h0 ad)) args s 0 0 (mAd h0 ad)) (F0 m 36 ls [])) : ∀ (n : Nat) (x1 : Int32) (x5 : Int64) (x7 : Int64) (x9 : Int32) (x10 : Int32) (S : MS) (H : Heap) (locs : List Loc) (ls : Array Slot), wX1_finds_57 K36 post n x1 x5 x7 x9 x10 S → mH G h0 ad s S H locs → lv_has ls 11 [(0, .ref h0), (1, .int x1), (5, .long x5), (7, .long x7), (9, .int x9), (10, .int x10)] → W p l e ⟨4, 0, 0, 101⟩ s m args below meth c H locs 0 0 (MQ below (gQ vI post (mBw G h0 ad) (mAd h0 ad)) args s 0 0 (mAd h0 ad)) (F0 m 57 ls []) := by
  have hx := X.1
  have hb := X.2.1
  have hown := X.2.2.1
  have hts := X.2.2.2.1
  intro n
  induction n with
  | zero =>
    intro x1 x5 x7 x9 x10 S H locs ls h
    exact False.elim h
  | succ n ih =>
    intro x1 x5 x7 x9 x10 S H locs ls h hw hl
    unfold wX1_finds_57 at h
    refine lv_lload (pc := 57) hx hb dX1_finds_57 (lv_at hl 2 rfl) ?_
    refine lv_aload_n (pc := 59) hx hb dX1_finds_59 rfl (lv_at hl 0 rfl) ?_
    refine lv_iload (pc := 60) hx hb dX1_finds_60 (lv_at hl 4 rfl) ?_
    refine lv_iconst (pc := 62) (v := (1 : Int32)) hx hb dX1_finds_62 (by decide) ?_
    refine lv_iadd (pc := 63) hx hb dX1_finds_63 ?_
    refine lv_lload (pc := 64) hx hb dX1_finds_64 (lv_at hl 3 rfl) ?_
    refine lv_aload_n (pc := 66) hx hb dX1_finds_66 rfl (lv_at hl 0 rfl) ?_
    refine lv_iload_n (pc := 67) hx hb dX1_finds_67 rfl (lv_at hl 1 rfl) ?_
    refine lv_iload (pc := 68) hx hb dX1_finds_68 (lv_at hl 4 rfl) ?_
    refine lv_iload (pc := 70) hx hb dX1_finds_70 (lv_at hl 5 rfl) ?_
    refine lv_i2l (pc := 72) hx hb dX1_finds_72 rfl ?_
    refine uX1_valueOf (pc := 73) X hml hw h ⟨Nat.le_of_ble_eq_true rfl, Nat.le_of_ble_eq_true rfl⟩ hl.1 (Nat.le_of_ble_eq_true rfl) ⟨Nat.le_refl _, Nat.le_refl _⟩ dX1_finds_73 (fun r10 S11 H locs h hw => ?_)
    refine lv_lsub (pc := 76) hx hb dX1_finds_76 ?_
    refine uX1_at (pc := 77) X hml hw h ⟨Nat.le_of_ble_eq_true rfl, Nat.le_of_ble_eq_true rfl⟩ hl.1 (Nat.le_of_ble_eq_true rfl) ⟨Nat.le_refl _, Nat.le_refl _⟩ dX1_finds_77 (fun r12 S13 H locs h hw => ?_)
    refine W.lcmp (pc := 80) hx hb dX1_finds_80 ?_
    refine lv_if_lt (pc := 81) (tgt := 116) hx hb dX1_finds_81 rfl (fun c14 => ?_) (fun c14 => ?_)
    · have h := h.1 ((lg_cmp_lt _ _).mp c14)
      refine lv_aload_n (pc := 116) hx hb dX1_finds_116 rfl (lv_at hl 0 rfl) ?_
      refine mg30 (pc := 117) X hw dX1_finds_117 ?_
      refine lv_iload (pc := 120) hx hb dX1_finds_120 (lv_at hl 4 rfl) ?_
      refine lv_iload (pc := 122) hx hb dX1_finds_122 (lv_at hl 5 rfl) ?_
      obtain ⟨hi, h⟩ := h
      refine ms30 (pc := 124) X hw hi dX1_finds_124 (fun H locs hw => ?_)
      refine lv_lload (pc := 125) hx hb dX1_finds_125 (lv_at hl 3 rfl) ?_
      refine lv_aload_n (pc := 127) hx hb dX1_finds_127 rfl (lv_at hl 0 rfl) ?_
      refine lv_iload_n (pc := 128) hx hb dX1_finds_128 rfl (lv_at hl 1 rfl) ?_
      refine lv_iload (pc := 129) hx hb dX1_finds_129 (lv_at hl 4 rfl) ?_
      refine lv_iload (pc := 131) hx hb dX1_finds_131 (lv_at hl 5 rfl) ?_
      refine lv_i2l (pc := 133) hx hb dX1_finds_133 rfl ?_
      refine uX1_valueOf (pc := 134) X hml hw h ⟨Nat.le_of_ble_eq_true rfl, Nat.le_of_ble_eq_true rfl⟩ hl.1 (Nat.le_of_ble_eq_true rfl) ⟨Nat.le_refl _, Nat.le_refl _⟩ dX1_finds_134 (fun r15 S16 H locs h hw => ?_)
      refine lv_lsub (pc := 137) hx hb dX1_finds_137 ?_
      refine lv_lstore (pc := 138) (lv' := [(7, .long (x7 - r15)), (0, .ref h0), (1, .int x1), (5, .long x5), (9, .int x9), (10, .int x10)]) hx hb dX1_finds_138 hl (by decide) rfl (fun ls hl => ?_)
      refine lv_iinc (pc := 140) (v := x9 + (1 : Int32)) (lv' := [(9, .int (x9 + (1 : Int32))), (7, .long (x7 - r15)), (0, .ref h0), (1, .int x1), (5, .long x5), (10, .int x10)]) hx hb dX1_finds_140 hl (k := 4) rfl rfl (by decide) rfl (fun ls hl => ?_)
      refine lv_goto (pc := 143) (tgt := 36) hx hb dX1_finds_143 rfl ?_
      exact hK36 _ _ _ _ _ _ _ _ h hw (lv_sub hl [2, 3, 4, 1, 0] rfl)
    · have h := h.2 (fun z => c14 ((lg_cmp_lt _ _).mpr z))
      refine lv_lload (pc := 84) hx hb dX1_finds_84 (lv_at hl 2 rfl) ?_
      refine lv_aload_n (pc := 86) hx hb dX1_finds_86 rfl (lv_at hl 0 rfl) ?_
      refine lv_iload (pc := 87) hx hb dX1_finds_87 (lv_at hl 4 rfl) ?_
      refine lv_iconst (pc := 89) (v := (1 : Int32)) hx hb dX1_finds_89 (by decide) ?_
      refine lv_iadd (pc := 90) hx hb dX1_finds_90 ?_
      refine lv_lload (pc := 91) hx hb dX1_finds_91 (lv_at hl 3 rfl) ?_
      refine lv_aload_n (pc := 93) hx hb dX1_finds_93 rfl (lv_at hl 0 rfl) ?_
      refine lv_iload_n (pc := 94) hx hb dX1_finds_94 rfl (lv_at hl 1 rfl) ?_
      refine lv_iload (pc := 95) hx hb dX1_finds_95 (lv_at hl 4 rfl) ?_
      refine lv_iload (pc := 97) hx hb dX1_finds_97 (lv_at hl 5 rfl) ?_
      refine lv_i2l (pc := 99) hx hb dX1_finds_99 rfl ?_
      refine uX1_valueOf (pc := 100) X hml hw h ⟨Nat.le_of_ble_eq_true rfl, Nat.le_of_ble_eq_true rfl⟩ hl.1 (Nat.le_of_ble_eq_true rfl) ⟨Nat.le_refl _, Nat.le_refl _⟩ dX1_finds_100 (fun r17 S18 H locs h hw => ?_)
      refine lv_lsub (pc := 103) hx hb dX1_finds_103 ?_
      refine uX1_at (pc := 104) X hml hw h ⟨Nat.le_of_ble_eq_true rfl, Nat.le_of_ble_eq_true rfl⟩ hl.1 (Nat.le_of_ble_eq_true rfl) ⟨Nat.le_refl _, Nat.le_refl _⟩ dX1_finds_104 (fun r19 S20 H locs h hw => ?_)
      refine lv_lsub (pc := 107) hx hb dX1_finds_107 ?_
      refine lv_lstore (pc := 108) (lv' := [(5, .long (x5 - r19)), (0, .ref h0), (1, .int x1), (7, .long x7), (9, .int x9), (10, .int x10)]) hx hb dX1_finds_108 hl (by decide) rfl (fun ls hl => ?_)
      refine lv_iinc (pc := 110) (v := x10 + (1 : Int32)) (lv' := [(10, .int (x10 + (1 : Int32))), (5, .long (x5 - r19)), (0, .ref h0), (1, .int x1), (7, .long x7), (9, .int x9)]) hx hb dX1_finds_110 hl (k := 5) rfl rfl (by decide) rfl (fun ls hl => ?_)
      refine lv_goto (pc := 113) (tgt := 57) hx hb dX1_finds_113 rfl ?_
      exact ih _ _ _ _ _ _ _ _ _ h hw (lv_sub hl [2, 3, 1, 4, 5, 0] rfl)
theorem kX1_finds_36 {p : Program} {l : Launch} {e : Env} {s : State} {m : MethodId} {args : Array Value} {below : List Frame} {meth : Method} {c : Code} {G : gG} {h0 : Nat} {ad : Nat → Nat} {post : Int32 → MS → Prop} (X : mX G h0 ad p s m args c cX1_finds) (hml : c.maxLocals = 11) (hr : meth.sig.returnType = (some .boolean)) (hlk : meth.locks = false) : ∀ (n : Nat) (x1 : Int32) (x5 : Int64) (x7 : Int64) (x9 : Int32) (S : MS) (H : Heap) (locs : List Loc) (ls : Array Slot), wX1_finds_36 post n x1 x5 x7 x9 S → mH G h0 ad s S H locs → lv_has ls 11 [(0, .ref h0), (1, .int x1), (5, .long x5), (7, .long x7), (9, .int x9)] → W p l e ⟨4, 0, 0, 101⟩ s m args below meth c H locs 0 0 (MQ below (gQ vI post (mBw G h0 ad) (mAd h0 ad)) args s 0 0 (mAd h0 ad)) (F0 m 36 ls []) := by
  have hx := X.1
  have hb := X.2.1
  have hown := X.2.2.1
  have hts := X.2.2.2.1
  intro n
  induction n with
  | zero =>
    intro x1 x5 x7 x9 S H locs ls h
    exact False.elim h
  | succ n ih =>
    intro x1 x5 x7 x9 S H locs ls h hw hl
    unfold wX1_finds_36 at h
    refine lv_iload (pc := 36) hx hb dX1_finds_36 (lv_at hl 4 rfl) ?_
    refine lv_aload_n (pc := 38) hx hb dX1_finds_38 rfl (lv_at hl 0 rfl) ?_
    refine mg0 (pc := 39) X hw dX1_finds_39 ?_
    refine lv_iload_n (pc := 42) hx hb dX1_finds_42 rfl (lv_at hl 1 rfl) ?_
    obtain ⟨hi, h⟩ := h
    refine ma0 (pc := 43) X hw hi dX1_finds_43 ?_
    refine lv_icmp_ge (pc := 44) (tgt := 146) hx hb dX1_finds_44 rfl (fun c7 => ?_) (fun c7 => ?_)
    · have h := h.1 c7
      refine lv_iconst (pc := 146) (v := (1 : Int32)) hx hb dX1_finds_146 (by decide) ?_
      exact W.zret (pc := 147) hx hb hr rfl (fun t ht hW => m_ret (val := vI) hw h ht) hw.2.2.2 dX1_finds_147 hlk
    · have h := h.2 c7
      refine lv_aload_n (pc := 47) hx hb dX1_finds_47 rfl (lv_at hl 0 rfl) ?_
      refine lv_iload_n (pc := 48) hx hb dX1_finds_48 rfl (lv_at hl 1 rfl) ?_
      refine lv_iload (pc := 49) hx hb dX1_finds_49 (lv_at hl 4 rfl) ?_
      refine lv_iconst (pc := 51) (v := (2 : Int32)) hx hb dX1_finds_51 (by decide) ?_
      refine uX1_of (pc := 52) X hml hw h ⟨Nat.le_of_ble_eq_true rfl, Nat.le_of_ble_eq_true rfl⟩ hl.1 (Nat.le_of_ble_eq_true rfl) ⟨Nat.le_refl _, Nat.le_refl _⟩ dX1_finds_52 (fun r8 S9 H locs h hw => ?_)
      refine lv_istore (pc := 55) (lv' := [(10, .int r8), (0, .ref h0), (1, .int x1), (5, .long x5), (7, .long x7), (9, .int x9)]) hx hb dX1_finds_55 hl (by decide) rfl (fun ls hl => ?_)
      obtain ⟨k, h⟩ := h
      exact kX1_finds_57 X hml hr hlk ih k _ _ _ _ _ _ _ _ _ h hw (lv_sub hl [1, 2, 3, 4, 5, 0] rfl)
theorem tX1_finds {l : Launch} {G : gG} {h0 : Nat} {ad : Nat → Nat} (hd : mOk G h0 ad) {post : Int32 → MS → Prop} {S : MS} {x1 : Int32} {x2 : Int32} {x3 : Int64} (h : wX1_finds post S x1 x2 x3) : Met l yX1_finds (ws_ yX1_finds cX1_finds 11 (some .boolean)) ⟨4, 0, 0, 101⟩ (va_Pc (.ref h0 :: [.int x1, .int x2, .long x3]) (fun U => mBw G h0 ad S U.heap ∧ gK G U)) (gQ vI post (mBw G h0 ad) (mAd h0 ad)) 0 0 (mAd h0 ad) := by
  refine m_ofW (by decide) rfl hd (Nat.le_of_ble_eq_true rfl) (fun p e s m below meth c ls X hml hr hlk hw hl => ?_)
  have hl : lv_has ls 11 [(0, .ref h0), (1, .int x1), (2, .int x2), (3, .long x3)] := hl
  have hx := X.1
  have hb := X.2.1
  have hown := X.2.2.1
  have hts := X.2.2.2.1
  unfold wX1_finds at h
  refine lv_aload_n (pc := 0) hx hb dX1_finds_0 rfl (lv_at hl 0 rfl) ?_
  refine lv_iload_n (pc := 1) hx hb dX1_finds_1 rfl (lv_at hl 1 rfl) ?_
  refine uX1_lays (pc := 2) X hml hw h ⟨Nat.le_of_ble_eq_true rfl, Nat.le_of_ble_eq_true rfl⟩ hl.1 (Nat.le_of_ble_eq_true rfl) ⟨Nat.le_refl _, Nat.le_refl _⟩ dX1_finds_2 (fun _ S2 H locs h hw => ?_)
  refine lv_lload_n (pc := 5) hx hb dX1_finds_5 rfl (lv_at hl 3 rfl) ?_
  refine lv_lconst (pc := 6) (v := (0 : Int64)) hx hb dX1_finds_6 (by decide) ?_
  refine lv_aload_n (pc := 7) hx hb dX1_finds_7 rfl (lv_at hl 0 rfl) ?_
  refine lv_iload_n (pc := 8) hx hb dX1_finds_8 rfl (lv_at hl 2 rfl) ?_
  refine uX1_waysOf (pc := 9) X hml hw h ⟨Nat.le_of_ble_eq_true rfl, Nat.le_of_ble_eq_true rfl⟩ hl.1 (Nat.le_of_ble_eq_true rfl) ⟨Nat.le_refl _, Nat.le_refl _⟩ dX1_finds_9 (fun r3 S4 H locs h hw => ?_)
  refine lv_lconst (pc := 12) (v := (1 : Int64)) hx hb dX1_finds_12 (by decide) ?_
  refine lv_lsub (pc := 13) hx hb dX1_finds_13 ?_
  refine uX1_isIn (pc := 14) ⟨hx, hb, hml, hown, hts⟩ h ⟨Nat.le_of_ble_eq_true rfl, Nat.le_of_ble_eq_true rfl⟩ hl.1 (Nat.le_of_ble_eq_true rfl) ⟨Nat.le_refl _, Nat.le_refl _⟩ dX1_finds_14 (fun r5 h => ?_)
  refine lv_if_ne (pc := 17) (tgt := 22) hx hb dX1_finds_17 rfl (fun c6 => ?_) (fun c6 => ?_)
  · have h := h.2 c6
    refine lv_lload_n (pc := 22) hx hb dX1_finds_22 rfl (lv_at hl 3 rfl) ?_
    refine lv_lstore (pc := 23) (lv' := [(5, .long x3), (0, .ref h0), (1, .int x1), (2, .int x2), (3, .long x3)]) hx hb dX1_finds_23 hl (by decide) rfl (fun ls hl => ?_)
    refine lv_iload_n (pc := 25) hx hb dX1_finds_25 rfl (lv_at hl 3 rfl) ?_
    refine lv_sipush (pc := 26) (v := (15000 : Int32)) hx hb dX1_finds_26 (by decide) ?_
    refine lv_iadd (pc := 29) hx hb dX1_finds_29 ?_
    refine lv_i2l (pc := 30) hx hb dX1_finds_30 rfl ?_
    refine lv_lstore (pc := 31) (lv' := [(7, .long ((x2 + (15000 : Int32)).toInt64)), (5, .long x3), (0, .ref h0), (1, .int x1), (2, .int x2), (3, .long x3)]) hx hb dX1_finds_31 hl (by decide) rfl (fun ls hl => ?_)
    refine lv_iconst (pc := 33) (v := (0 : Int32)) hx hb dX1_finds_33 (by decide) ?_
    refine lv_istore (pc := 34) (lv' := [(9, .int (0 : Int32)), (7, .long ((x2 + (15000 : Int32)).toInt64)), (5, .long x3), (0, .ref h0), (1, .int x1), (2, .int x2), (3, .long x3)]) hx hb dX1_finds_34 hl (by decide) rfl (fun ls hl => ?_)
    obtain ⟨k, h⟩ := h
    exact kX1_finds_36 X hml hr hlk  k _ _ _ _ _ _ _ _ h hw (lv_sub hl [3, 4, 2, 1, 0] rfl)
  · have h := h.1 c6
    refine lv_iconst (pc := 20) (v := (0 : Int32)) hx hb dX1_finds_20 (by decide) ?_
    exact W.zret (pc := 21) hx hb hr rfl (fun t ht hW => m_ret (val := vI) hw h ht) hw.2.2.2 dX1_finds_21 hlk
theorem uX1_finds {p : Program} {l : Launch} {e : Env} {R : Room} {s : State} {m : MethodId} {args : Array Value} {below : List Frame} {meth : Method} {c : Code} {H : Heap} {locs : List Loc} {cells slots : Nat} {Q : Jvm.State → Prop} {cc : ByteArray} {pc : Nat} {ls : Array Slot} {rest : List Value} {G : gG} {h0 : Nat} {ad : Nat → Nat} {post : Int32 → MS → Prop} {S : MS} {x1 : Int32} {x2 : Int32} {x3 : Int64} {nL : Nat} (X : mX G h0 ad p s m args c cc) (hml : c.maxLocals = nL) (hw : mH G h0 ad s S H locs) (h : wX1_finds post S x1 x2 x3) (hR : 4 + 1 ≤ R.frames ∧ 8 + (11 + 11) + 101 ≤ R.locals) (hsz : ls.size = nL) (hr : (rest.map fun v => v.category).sum ≤ 8) (hc : cells ≤ R.cells ∧ slots ≤ R.slots) (d : decode cc pc = .ok (.invokevirtual 317, 3)) (kk : ∀ (r : Int32) (S1 : MS) (H1 : Heap) (locs1 : List Loc), post r S1 → mH G h0 ad s S1 H1 locs1 → W p l e R s m args below meth c H1 locs1 cells slots Q (F0 m (pc + 3) ls (.int r :: rest))) : W p l e R s m args below meth c H locs cells slots Q (F0 m pc ls (.long x3 :: .int x2 :: .int x1 :: .ref h0 :: rest)) :=
  m_call (val := vI) (post := post) (As := [.int x1, .int x2, .long x3]) X hml hw (tX1_finds X.2.2.2.2.2.1 h) (lw_V q2301 q2303 qs77 q105 q2304) ⟨rfl, by decide, by decide, (by decide +kernel : (parseMethodDescriptor yX1_finds.desc).map (fun d => d.parameters.length) = some 3)⟩ hR hsz hr hc d rfl kk

def wX1_number_134 (K77 : Int32 → Int64 → Int64 → Int32 → MS → Prop) (post : Int64 → MS → Prop) : Nat → Int32 → Int64 → Int64 → Int32 → Int32 → MS → Prop
  | 0, _, _, _, _, _, _ => False
  | n + 1, x1, x8, x10, x12, x13, S => vp_in x12 5 ∧ ((((S.2.2.1 30 x12.toNatClampNeg) ≤ x13) → (vp_in x12 5 ∧ (wX1_valueOf (fun r19 S20 => K77 x1 x8 (x10 - r19) (x12 + (1 : Int32)) S20) S x1 x12 ((S.2.2.1 30 x12.toNatClampNeg).toInt64)))) ∧ (¬ ((S.2.2.1 30 x12.toNatClampNeg) ≤ x13) → (wX1_valueOf (fun r21 S22 => wX1_at (fun r23 S24 => wX1_number_134 K77 post n x1 (x8 + r23) x10 x12 (x13 + (1 : Int32)) S24) S22 (x12 + (1 : Int32)) (x10 - r21)) S x1 x12 x13.toInt64)))
def wX1_number_77 (post : Int64 → MS → Prop) : Nat → Int32 → Int64 → Int64 → Int32 → MS → Prop
  | 0, _, _, _, _, _ => False
  | n + 1, x1, x8, x10, x12, S => vp_in x1 5 ∧ ((((S.2.2.1 0 x1.toNatClampNeg) ≤ x12) → (((x10 = (15000 : Int64)) → (post x8 S)) ∧ (¬ (x10 = (15000 : Int64)) → (post (-1 : Int64) S)))) ∧ (¬ ((S.2.2.1 0 x1.toNatClampNeg) ≤ x12) → (vp_in x12 5 ∧ (wX1_of (fun r10 S11 => wX1_of (fun r12 S13 => wX1_isIn (fun r14 => ((r14 = (0 : Int32)) → (post (-1 : Int64) S13)) ∧ (¬ (r14 = (0 : Int32)) → (wX1_of (fun r16 S17 => (∃ k, wX1_number_134 (fun x1 x8 x10 x12 S => wX1_number_77 post n x1 x8 x10 x12 S) post k x1 x8 x10 x12 r16 S17)) S13 x1 x12 (2 : Int32)))) ((S.2.2.1 30 x12.toNatClampNeg).toInt64) r10.toInt64 r12.toInt64) S11 x1 x12 (3 : Int32)) S x1 x12 (2 : Int32)))))
def wX1_number (post : Int64 → MS → Prop) (S : MS) (x1 : Int32) (x2 : Int32) (x3 : Int32) (x4 : Int32) (x5 : Int32) (x6 : Int32) (x7 : Int32) : Prop :=
  wX1_isForm (fun r1 S2 => ((r1 = (0 : Int32)) → (post (-1 : Int64) S2)) ∧ (¬ (r1 = (0 : Int32)) → (wX1_isN (fun r4 => ((r4 = (0 : Int32)) → (post (-1 : Int64) S2)) ∧ (¬ (r4 = (0 : Int32)) → (vp_in (0 : Int32) 5 ∧ (vp_in (1 : Int32) 5 ∧ (vp_in (2 : Int32) 5 ∧ (vp_in (3 : Int32) 5 ∧ (vp_in (4 : Int32) 5 ∧ (wX1_lays (fun _ S7 => (∃ k, wX1_number_77 post k x1 (0 : Int64) ((x2 + (15000 : Int32)).toInt64) (0 : Int32) S7)) (mA (mA (mA (mA (mA S2 30 (upd (S2.2.2.1 30) (0 : Int32).toNatClampNeg x3)) 30 (upd (upd (S2.2.2.1 30) (0 : Int32).toNatClampNeg x3) (1 : Int32).toNatClampNeg x4)) 30 (upd (upd (upd (S2.2.2.1 30) (0 : Int32).toNatClampNeg x3) (1 : Int32).toNatClampNeg x4) (2 : Int32).toNatClampNeg x5)) 30 (upd (upd (upd (upd (S2.2.2.1 30) (0 : Int32).toNatClampNeg x3) (1 : Int32).toNatClampNeg x4) (2 : Int32).toNatClampNeg x5) (3 : Int32).toNatClampNeg x6)) 30 (upd (upd (upd (upd (upd (S2.2.2.1 30) (0 : Int32).toNatClampNeg x3) (1 : Int32).toNatClampNeg x4) (2 : Int32).toNatClampNeg x5) (3 : Int32).toNatClampNeg x6) (4 : Int32).toNatClampNeg x7)) x1)))))))) x2))) S x1
theorem kX1_number_134 {p : Program} {l : Launch} {e : Env} {s : State} {m : MethodId} {args : Array Value} {below : List Frame} {meth : Method} {c : Code} {G : gG} {h0 : Nat} {ad : Nat → Nat} {K77 : Int32 → Int64 → Int64 → Int32 → MS → Prop} {post : Int64 → MS → Prop} (X : mX G h0 ad p s m args c cX1_number) (hml : c.maxLocals = 14) (hr : meth.sig.returnType = (some .long)) (hlk : meth.locks = false) (hK77 : ∀ (x1 : Int32) (x8 : Int64) (x10 : Int64) (x12 : Int32) (S : MS) (H : Heap) (locs : List Loc) (ls : Array Slot), K77 x1 x8 x10 x12 S → mH G h0 ad s S H locs → lv_has ls 14 [(0, .ref h0), (1, .int x1), (8, .long x8), (10, .long x10), (12, .int x12)] → W p l e ⟨4, 0, 0, 101⟩ s m args below meth c H locs 0 0 (MQ below (gQ vL post (mBw G h0 ad) (mAd h0 ad)) args s 0 0 (mAd h0 ad)) (F0 m 77 ls [])) : ∀ (n : Nat) (x1 : Int32) (x8 : Int64) (x10 : Int64) (x12 : Int32) (x13 : Int32) (S : MS) (H : Heap) (locs : List Loc) (ls : Array Slot), wX1_number_134 K77 post n x1 x8 x10 x12 x13 S → mH G h0 ad s S H locs → lv_has ls 14 [(0, .ref h0), (1, .int x1), (8, .long x8), (10, .long x10), (12, .int x12), (13, .int x13)] → W p l e ⟨4, 0, 0, 101⟩ s m args below meth c H locs 0 0 (MQ below (gQ vL post (mBw G h0 ad) (mAd h0 ad)) args s 0 0 (mAd h0 ad)) (F0 m 134 ls []) := by
  have hx := X.1
  have hb := X.2.1
  have hown := X.2.2.1
  have hts := X.2.2.2.1
  intro n
  induction n with
  | zero =>
    intro x1 x8 x10 x12 x13 S H locs ls h
    exact False.elim h
  | succ n ih =>
    intro x1 x8 x10 x12 x13 S H locs ls h hw hl
    unfold wX1_number_134 at h
    refine lv_iload (pc := 134) hx hb dX1_number_134 (lv_at hl 5 rfl) ?_
    refine lv_aload_n (pc := 136) hx hb dX1_number_136 rfl (lv_at hl 0 rfl) ?_
    refine mg30 (pc := 137) X hw dX1_number_137 ?_
    refine lv_iload (pc := 140) hx hb dX1_number_140 (lv_at hl 4 rfl) ?_
    obtain ⟨hi, h⟩ := h
    refine ma30 (pc := 142) X hw hi dX1_number_142 ?_
    refine lv_icmp_ge (pc := 143) (tgt := 178) hx hb dX1_number_143 rfl (fun c18 => ?_) (fun c18 => ?_)
    · have h := h.1 c18
      refine lv_lload (pc := 178) hx hb dX1_number_178 (lv_at hl 3 rfl) ?_
      refine lv_aload_n (pc := 180) hx hb dX1_number_180 rfl (lv_at hl 0 rfl) ?_
      refine lv_iload_n (pc := 181) hx hb dX1_number_181 rfl (lv_at hl 1 rfl) ?_
      refine lv_iload (pc := 182) hx hb dX1_number_182 (lv_at hl 4 rfl) ?_
      refine lv_aload_n (pc := 184) hx hb dX1_number_184 rfl (lv_at hl 0 rfl) ?_
      refine mg30 (pc := 185) X hw dX1_number_185 ?_
      refine lv_iload (pc := 188) hx hb dX1_number_188 (lv_at hl 4 rfl) ?_
      obtain ⟨hi, h⟩ := h
      refine ma30 (pc := 190) X hw hi dX1_number_190 ?_
      refine lv_i2l (pc := 191) hx hb dX1_number_191 rfl ?_
      refine uX1_valueOf (pc := 192) X hml hw h ⟨Nat.le_of_ble_eq_true rfl, Nat.le_of_ble_eq_true rfl⟩ hl.1 (Nat.le_of_ble_eq_true rfl) ⟨Nat.le_refl _, Nat.le_refl _⟩ dX1_number_192 (fun r19 S20 H locs h hw => ?_)
      refine lv_lsub (pc := 195) hx hb dX1_number_195 ?_
      refine lv_lstore (pc := 196) (lv' := [(10, .long (x10 - r19)), (0, .ref h0), (1, .int x1), (8, .long x8), (12, .int x12), (13, .int x13)]) hx hb dX1_number_196 hl (by decide) rfl (fun ls hl => ?_)
      refine lv_iinc (pc := 198) (v := x12 + (1 : Int32)) (lv' := [(12, .int (x12 + (1 : Int32))), (10, .long (x10 - r19)), (0, .ref h0), (1, .int x1), (8, .long x8), (13, .int x13)]) hx hb dX1_number_198 hl (k := 4) rfl rfl (by decide) rfl (fun ls hl => ?_)
      refine lv_goto (pc := 201) (tgt := 77) hx hb dX1_number_201 rfl ?_
      exact hK77 _ _ _ _ _ _ _ _ h hw (lv_sub hl [2, 3, 4, 1, 0] rfl)
    · have h := h.2 c18
      refine lv_lload (pc := 146) hx hb dX1_number_146 (lv_at hl 2 rfl) ?_
      refine lv_aload_n (pc := 148) hx hb dX1_number_148 rfl (lv_at hl 0 rfl) ?_
      refine lv_iload (pc := 149) hx hb dX1_number_149 (lv_at hl 4 rfl) ?_
      refine lv_iconst (pc := 151) (v := (1 : Int32)) hx hb dX1_number_151 (by decide) ?_
      refine lv_iadd (pc := 152) hx hb dX1_number_152 ?_
      refine lv_lload (pc := 153) hx hb dX1_number_153 (lv_at hl 3 rfl) ?_
      refine lv_aload_n (pc := 155) hx hb dX1_number_155 rfl (lv_at hl 0 rfl) ?_
      refine lv_iload_n (pc := 156) hx hb dX1_number_156 rfl (lv_at hl 1 rfl) ?_
      refine lv_iload (pc := 157) hx hb dX1_number_157 (lv_at hl 4 rfl) ?_
      refine lv_iload (pc := 159) hx hb dX1_number_159 (lv_at hl 5 rfl) ?_
      refine lv_i2l (pc := 161) hx hb dX1_number_161 rfl ?_
      refine uX1_valueOf (pc := 162) X hml hw h ⟨Nat.le_of_ble_eq_true rfl, Nat.le_of_ble_eq_true rfl⟩ hl.1 (Nat.le_of_ble_eq_true rfl) ⟨Nat.le_refl _, Nat.le_refl _⟩ dX1_number_162 (fun r21 S22 H locs h hw => ?_)
      refine lv_lsub (pc := 165) hx hb dX1_number_165 ?_
      refine uX1_at (pc := 166) X hml hw h ⟨Nat.le_of_ble_eq_true rfl, Nat.le_of_ble_eq_true rfl⟩ hl.1 (Nat.le_of_ble_eq_true rfl) ⟨Nat.le_refl _, Nat.le_refl _⟩ dX1_number_166 (fun r23 S24 H locs h hw => ?_)
      refine lv_ladd (pc := 169) hx hb dX1_number_169 ?_
      refine lv_lstore (pc := 170) (lv' := [(8, .long (x8 + r23)), (0, .ref h0), (1, .int x1), (10, .long x10), (12, .int x12), (13, .int x13)]) hx hb dX1_number_170 hl (by decide) rfl (fun ls hl => ?_)
      refine lv_iinc (pc := 172) (v := x13 + (1 : Int32)) (lv' := [(13, .int (x13 + (1 : Int32))), (8, .long (x8 + r23)), (0, .ref h0), (1, .int x1), (10, .long x10), (12, .int x12)]) hx hb dX1_number_172 hl (k := 5) rfl rfl (by decide) rfl (fun ls hl => ?_)
      refine lv_goto (pc := 175) (tgt := 134) hx hb dX1_number_175 rfl ?_
      exact ih _ _ _ _ _ _ _ _ _ h hw (lv_sub hl [2, 3, 1, 4, 5, 0] rfl)
theorem kX1_number_77 {p : Program} {l : Launch} {e : Env} {s : State} {m : MethodId} {args : Array Value} {below : List Frame} {meth : Method} {c : Code} {G : gG} {h0 : Nat} {ad : Nat → Nat} {post : Int64 → MS → Prop} (X : mX G h0 ad p s m args c cX1_number) (hml : c.maxLocals = 14) (hr : meth.sig.returnType = (some .long)) (hlk : meth.locks = false) : ∀ (n : Nat) (x1 : Int32) (x8 : Int64) (x10 : Int64) (x12 : Int32) (S : MS) (H : Heap) (locs : List Loc) (ls : Array Slot), wX1_number_77 post n x1 x8 x10 x12 S → mH G h0 ad s S H locs → lv_has ls 14 [(0, .ref h0), (1, .int x1), (8, .long x8), (10, .long x10), (12, .int x12)] → W p l e ⟨4, 0, 0, 101⟩ s m args below meth c H locs 0 0 (MQ below (gQ vL post (mBw G h0 ad) (mAd h0 ad)) args s 0 0 (mAd h0 ad)) (F0 m 77 ls []) := by
  have hx := X.1
  have hb := X.2.1
  have hown := X.2.2.1
  have hts := X.2.2.2.1
  intro n
  induction n with
  | zero =>
    intro x1 x8 x10 x12 S H locs ls h
    exact False.elim h
  | succ n ih =>
    intro x1 x8 x10 x12 S H locs ls h hw hl
    unfold wX1_number_77 at h
    refine lv_iload (pc := 77) hx hb dX1_number_77 (lv_at hl 4 rfl) ?_
    refine lv_aload_n (pc := 79) hx hb dX1_number_79 rfl (lv_at hl 0 rfl) ?_
    refine mg0 (pc := 80) X hw dX1_number_80 ?_
    refine lv_iload_n (pc := 83) hx hb dX1_number_83 rfl (lv_at hl 1 rfl) ?_
    obtain ⟨hi, h⟩ := h
    refine ma0 (pc := 84) X hw hi dX1_number_84 ?_
    refine lv_icmp_ge (pc := 85) (tgt := 204) hx hb dX1_number_85 rfl (fun c8 => ?_) (fun c8 => ?_)
    · have h := h.1 c8
      refine lv_lload (pc := 204) hx hb dX1_number_204 (lv_at hl 3 rfl) ?_
      refine lv_ldc2 (pc := 206) hx hb hown (hts _ q2310) dX1_number_206 ?_
      refine W.lcmp (pc := 209) hx hb dX1_number_209 ?_
      refine lv_if_ne (pc := 210) (tgt := 218) hx hb dX1_number_210 rfl (fun c9 => ?_) (fun c9 => ?_)
      · have h := h.2 (fun z => c9 ((lg_cmp_eq _ _).mpr z))
        refine lv_ldc2 (pc := 218) hx hb hown (hts _ q2243) dX1_number_218 ?_
        exact W.lret (pc := 221) hx hb hr (fun t ht hW => m_ret (val := vL) hw h ht) hw.2.2.2 dX1_number_221 hlk
      · have h := h.1 ((lg_cmp_eq _ _).mp c9)
        refine lv_lload (pc := 213) hx hb dX1_number_213 (lv_at hl 2 rfl) ?_
        refine lv_goto (pc := 215) (tgt := 221) hx hb dX1_number_215 rfl ?_
        exact W.lret (pc := 221) hx hb hr (fun t ht hW => m_ret (val := vL) hw h ht) hw.2.2.2 dX1_number_221 hlk
    · have h := h.2 c8
      refine lv_aload_n (pc := 88) hx hb dX1_number_88 rfl (lv_at hl 0 rfl) ?_
      refine mg30 (pc := 89) X hw dX1_number_89 ?_
      refine lv_iload (pc := 92) hx hb dX1_number_92 (lv_at hl 4 rfl) ?_
      obtain ⟨hi, h⟩ := h
      refine ma30 (pc := 94) X hw hi dX1_number_94 ?_
      refine lv_i2l (pc := 95) hx hb dX1_number_95 rfl ?_
      refine lv_aload_n (pc := 96) hx hb dX1_number_96 rfl (lv_at hl 0 rfl) ?_
      refine lv_iload_n (pc := 97) hx hb dX1_number_97 rfl (lv_at hl 1 rfl) ?_
      refine lv_iload (pc := 98) hx hb dX1_number_98 (lv_at hl 4 rfl) ?_
      refine lv_iconst (pc := 100) (v := (2 : Int32)) hx hb dX1_number_100 (by decide) ?_
      refine uX1_of (pc := 101) X hml hw h ⟨Nat.le_of_ble_eq_true rfl, Nat.le_of_ble_eq_true rfl⟩ hl.1 (Nat.le_of_ble_eq_true rfl) ⟨Nat.le_refl _, Nat.le_refl _⟩ dX1_number_101 (fun r10 S11 H locs h hw => ?_)
      refine lv_i2l (pc := 104) hx hb dX1_number_104 rfl ?_
      refine lv_aload_n (pc := 105) hx hb dX1_number_105 rfl (lv_at hl 0 rfl) ?_
      refine lv_iload_n (pc := 106) hx hb dX1_number_106 rfl (lv_at hl 1 rfl) ?_
      refine lv_iload (pc := 107) hx hb dX1_number_107 (lv_at hl 4 rfl) ?_
      refine lv_iconst (pc := 109) (v := (3 : Int32)) hx hb dX1_number_109 (by decide) ?_
      refine uX1_of (pc := 110) X hml hw h ⟨Nat.le_of_ble_eq_true rfl, Nat.le_of_ble_eq_true rfl⟩ hl.1 (Nat.le_of_ble_eq_true rfl) ⟨Nat.le_refl _, Nat.le_refl _⟩ dX1_number_110 (fun r12 S13 H locs h hw => ?_)
      refine lv_i2l (pc := 113) hx hb dX1_number_113 rfl ?_
      refine uX1_isIn (pc := 114) ⟨hx, hb, hml, hown, hts⟩ h ⟨Nat.le_of_ble_eq_true rfl, Nat.le_of_ble_eq_true rfl⟩ hl.1 (Nat.le_of_ble_eq_true rfl) ⟨Nat.le_refl _, Nat.le_refl _⟩ dX1_number_114 (fun r14 h => ?_)
      refine lv_if_ne (pc := 117) (tgt := 124) hx hb dX1_number_117 rfl (fun c15 => ?_) (fun c15 => ?_)
      · have h := h.2 c15
        refine lv_aload_n (pc := 124) hx hb dX1_number_124 rfl (lv_at hl 0 rfl) ?_
        refine lv_iload_n (pc := 125) hx hb dX1_number_125 rfl (lv_at hl 1 rfl) ?_
        refine lv_iload (pc := 126) hx hb dX1_number_126 (lv_at hl 4 rfl) ?_
        refine lv_iconst (pc := 128) (v := (2 : Int32)) hx hb dX1_number_128 (by decide) ?_
        refine uX1_of (pc := 129) X hml hw h ⟨Nat.le_of_ble_eq_true rfl, Nat.le_of_ble_eq_true rfl⟩ hl.1 (Nat.le_of_ble_eq_true rfl) ⟨Nat.le_refl _, Nat.le_refl _⟩ dX1_number_129 (fun r16 S17 H locs h hw => ?_)
        refine lv_istore (pc := 132) (lv' := [(13, .int r16), (0, .ref h0), (1, .int x1), (8, .long x8), (10, .long x10), (12, .int x12)]) hx hb dX1_number_132 hl (by decide) rfl (fun ls hl => ?_)
        obtain ⟨k, h⟩ := h
        exact kX1_number_134 X hml hr hlk ih k _ _ _ _ _ _ _ _ _ h hw (lv_sub hl [1, 2, 3, 4, 5, 0] rfl)
      · have h := h.1 c15
        refine lv_ldc2 (pc := 120) hx hb hown (hts _ q2243) dX1_number_120 ?_
        exact W.lret (pc := 123) hx hb hr (fun t ht hW => m_ret (val := vL) hw h ht) hw.2.2.2 dX1_number_123 hlk
theorem tX1_number {l : Launch} {G : gG} {h0 : Nat} {ad : Nat → Nat} (hd : mOk G h0 ad) {post : Int64 → MS → Prop} {S : MS} {x1 : Int32} {x2 : Int32} {x3 : Int32} {x4 : Int32} {x5 : Int32} {x6 : Int32} {x7 : Int32} (h : wX1_number post S x1 x2 x3 x4 x5 x6 x7) : Met l yX1_number (ws_ yX1_number cX1_number 14 (some .long)) ⟨4, 0, 0, 101⟩ (va_Pc (.ref h0 :: [.int x1, .int x2, .int x3, .int x4, .int x5, .int x6, .int x7]) (fun U => mBw G h0 ad S U.heap ∧ gK G U)) (gQ vL post (mBw G h0 ad) (mAd h0 ad)) 0 0 (mAd h0 ad) := by
  refine m_ofW (by decide) rfl hd (Nat.le_of_ble_eq_true rfl) (fun p e s m below meth c ls X hml hr hlk hw hl => ?_)
  have hl : lv_has ls 14 [(0, .ref h0), (1, .int x1), (2, .int x2), (3, .int x3), (4, .int x4), (5, .int x5), (6, .int x6), (7, .int x7)] := hl
  have hx := X.1
  have hb := X.2.1
  have hown := X.2.2.1
  have hts := X.2.2.2.1
  unfold wX1_number at h
  refine lv_aload_n (pc := 0) hx hb dX1_number_0 rfl (lv_at hl 0 rfl) ?_
  refine lv_iload_n (pc := 1) hx hb dX1_number_1 rfl (lv_at hl 1 rfl) ?_
  refine uX1_isForm (pc := 2) X hml hw h ⟨Nat.le_of_ble_eq_true rfl, Nat.le_of_ble_eq_true rfl⟩ hl.1 (Nat.le_of_ble_eq_true rfl) ⟨Nat.le_refl _, Nat.le_refl _⟩ dX1_number_2 (fun r1 S2 H locs h hw => ?_)
  refine lv_if_eq (pc := 5) (tgt := 15) hx hb dX1_number_5 rfl (fun c3 => ?_) (fun c3 => ?_)
  · have h := h.1 c3
    refine lv_ldc2 (pc := 15) hx hb hown (hts _ q2243) dX1_number_15 ?_
    exact W.lret (pc := 18) hx hb hr (fun t ht hW => m_ret (val := vL) hw h ht) hw.2.2.2 dX1_number_18 hlk
  · have h := h.2 c3
    refine lv_iload_n (pc := 8) hx hb dX1_number_8 rfl (lv_at hl 2 rfl) ?_
    refine uX1_isN (pc := 9) ⟨hx, hb, hml, hown, hts⟩ h ⟨Nat.le_of_ble_eq_true rfl, Nat.le_of_ble_eq_true rfl⟩ hl.1 (Nat.le_of_ble_eq_true rfl) ⟨Nat.le_refl _, Nat.le_refl _⟩ dX1_number_9 (fun r4 h => ?_)
    refine lv_if_ne (pc := 12) (tgt := 19) hx hb dX1_number_12 rfl (fun c5 => ?_) (fun c5 => ?_)
    · have h := h.2 c5
      refine lv_aload_n (pc := 19) hx hb dX1_number_19 rfl (lv_at hl 0 rfl) ?_
      refine mg30 (pc := 20) X hw dX1_number_20 ?_
      refine lv_iconst (pc := 23) (v := (0 : Int32)) hx hb dX1_number_23 (by decide) ?_
      refine lv_iload_n (pc := 24) hx hb dX1_number_24 rfl (lv_at hl 3 rfl) ?_
      obtain ⟨hi, h⟩ := h
      refine ms30 (pc := 25) X hw hi dX1_number_25 (fun H locs hw => ?_)
      refine lv_aload_n (pc := 26) hx hb dX1_number_26 rfl (lv_at hl 0 rfl) ?_
      refine mg30 (pc := 27) X hw dX1_number_27 ?_
      refine lv_iconst (pc := 30) (v := (1 : Int32)) hx hb dX1_number_30 (by decide) ?_
      refine lv_iload (pc := 31) hx hb dX1_number_31 (lv_at hl 4 rfl) ?_
      obtain ⟨hi, h⟩ := h
      refine ms30 (pc := 33) X hw hi dX1_number_33 (fun H locs hw => ?_)
      refine lv_aload_n (pc := 34) hx hb dX1_number_34 rfl (lv_at hl 0 rfl) ?_
      refine mg30 (pc := 35) X hw dX1_number_35 ?_
      refine lv_iconst (pc := 38) (v := (2 : Int32)) hx hb dX1_number_38 (by decide) ?_
      refine lv_iload (pc := 39) hx hb dX1_number_39 (lv_at hl 5 rfl) ?_
      obtain ⟨hi, h⟩ := h
      refine ms30 (pc := 41) X hw hi dX1_number_41 (fun H locs hw => ?_)
      refine lv_aload_n (pc := 42) hx hb dX1_number_42 rfl (lv_at hl 0 rfl) ?_
      refine mg30 (pc := 43) X hw dX1_number_43 ?_
      refine lv_iconst (pc := 46) (v := (3 : Int32)) hx hb dX1_number_46 (by decide) ?_
      refine lv_iload (pc := 47) hx hb dX1_number_47 (lv_at hl 6 rfl) ?_
      obtain ⟨hi, h⟩ := h
      refine ms30 (pc := 49) X hw hi dX1_number_49 (fun H locs hw => ?_)
      refine lv_aload_n (pc := 50) hx hb dX1_number_50 rfl (lv_at hl 0 rfl) ?_
      refine mg30 (pc := 51) X hw dX1_number_51 ?_
      refine lv_iconst (pc := 54) (v := (4 : Int32)) hx hb dX1_number_54 (by decide) ?_
      refine lv_iload (pc := 55) hx hb dX1_number_55 (lv_at hl 7 rfl) ?_
      obtain ⟨hi, h⟩ := h
      refine ms30 (pc := 57) X hw hi dX1_number_57 (fun H locs hw => ?_)
      refine lv_aload_n (pc := 58) hx hb dX1_number_58 rfl (lv_at hl 0 rfl) ?_
      refine lv_iload_n (pc := 59) hx hb dX1_number_59 rfl (lv_at hl 1 rfl) ?_
      refine uX1_lays (pc := 60) X hml hw h ⟨Nat.le_of_ble_eq_true rfl, Nat.le_of_ble_eq_true rfl⟩ hl.1 (Nat.le_of_ble_eq_true rfl) ⟨Nat.le_refl _, Nat.le_refl _⟩ dX1_number_60 (fun _ S7 H locs h hw => ?_)
      refine lv_lconst (pc := 63) (v := (0 : Int64)) hx hb dX1_number_63 (by decide) ?_
      refine lv_lstore (pc := 64) (lv' := [(8, .long (0 : Int64)), (0, .ref h0), (1, .int x1), (2, .int x2), (3, .int x3), (4, .int x4), (5, .int x5), (6, .int x6), (7, .int x7)]) hx hb dX1_number_64 hl (by decide) rfl (fun ls hl => ?_)
      refine lv_iload_n (pc := 66) hx hb dX1_number_66 rfl (lv_at hl 3 rfl) ?_
      refine lv_sipush (pc := 67) (v := (15000 : Int32)) hx hb dX1_number_67 (by decide) ?_
      refine lv_iadd (pc := 70) hx hb dX1_number_70 ?_
      refine lv_i2l (pc := 71) hx hb dX1_number_71 rfl ?_
      refine lv_lstore (pc := 72) (lv' := [(10, .long ((x2 + (15000 : Int32)).toInt64)), (8, .long (0 : Int64)), (0, .ref h0), (1, .int x1), (2, .int x2), (3, .int x3), (4, .int x4), (5, .int x5), (6, .int x6), (7, .int x7)]) hx hb dX1_number_72 hl (by decide) rfl (fun ls hl => ?_)
      refine lv_iconst (pc := 74) (v := (0 : Int32)) hx hb dX1_number_74 (by decide) ?_
      refine lv_istore (pc := 75) (lv' := [(12, .int (0 : Int32)), (10, .long ((x2 + (15000 : Int32)).toInt64)), (8, .long (0 : Int64)), (0, .ref h0), (1, .int x1), (2, .int x2), (3, .int x3), (4, .int x4), (5, .int x5), (6, .int x6), (7, .int x7)]) hx hb dX1_number_75 hl (by decide) rfl (fun ls hl => ?_)
      obtain ⟨k, h⟩ := h
      exact kX1_number_77 X hml hr hlk  k _ _ _ _ _ _ _ _ h hw (lv_sub hl [3, 4, 2, 1, 0] rfl)
    · have h := h.1 c5
      refine lv_ldc2 (pc := 15) hx hb hown (hts _ q2243) dX1_number_15 ?_
      exact W.lret (pc := 18) hx hb hr (fun t ht hW => m_ret (val := vL) hw h ht) hw.2.2.2 dX1_number_18 hlk

def wX1_readLine_152 (post : Int32 → MS → Prop) (x3 : Int32) (S : MS) : Prop :=
  wX1_takesSign (fun r22 S23 => ((r22 = (0 : Int32)) → (post (0 : Int32) S23)) ∧ (¬ (r22 = (0 : Int32)) → (vp_in (S23.1 32) 60 ∧ (post (1 : Int32) (mI (mA S23 31 (upd (S23.2.2.1 31) (S23.1 32).toNatClampNeg x3)) 32 ((S23.1 32) + (1 : Int32))))))) S (59 : Int32)
def wX1_readLine_66 (post : Int32 → MS → Prop) (v0 : Int32) (S : MS) : Prop :=
  wX1_fails (fun r39 S40 => isB r39 ∧ post r39 S40) S v0
def wX1_readLine_64 (post : Int32 → MS → Prop) (S : MS) : Prop :=
  wX1_readLine_66 post (9 : Int32) S
def wX1_readLine_21 (post : Int32 → MS → Prop) (x1 : Int32) (v0 : Int32) (S : MS) : Prop :=
  ((v0 = (0 : Int32)) → (wX1_fails (fun r44 S45 => isB r44 ∧ post r44 S45) S (1 : Int32))) ∧ (¬ (v0 = (0 : Int32)) → ((((S.1 32) = (60 : Int32)) → (wX1_isNumber (fun r36 S37 => ((r36 = (0 : Int32)) → (wX1_readLine_64 post S37)) ∧ (¬ (r36 = (0 : Int32)) → (wX1_isOut (fun r41 S42 => ((r41 = (0 : Int32)) → (wX1_readLine_64 post S42)) ∧ (¬ (r41 = (0 : Int32)) → (wX1_readLine_66 post (5 : Int32) S42))) S37 (S37.1 16)))) S)) ∧ (¬ ((S.1 32) = (60 : Int32)) → (wX1_comesToWhole (fun r6 S7 => ((r6 = (0 : Int32)) → (post (0 : Int32) S7)) ∧ (¬ (r6 = (0 : Int32)) → (wX1_whole (fun r9 S10 => wX1_isOut (fun r11 S12 => ((r11 = (0 : Int32)) → (wX1_next (fun _ S15 => wX1_isWord (fun r16 S17 => ((r16 = (0 : Int32)) → (wX1_readWay (fun r19 S20 => ((r19 = (0 : Int32)) → (post (0 : Int32) S20)) ∧ (¬ (r19 = (0 : Int32)) → (wX1_readLine_152 post r9 S20))) S17 x1 r9)) ∧ (¬ (r16 = (0 : Int32)) → (wX1_lays (fun _ S26 => wX1_waysOf (fun r27 S28 => ((r27 ≤ (0 : Int64)) → (wX1_next (fun _ S31 => wX1_readLine_152 post r9 S31) S28)) ∧ (¬ (r27 ≤ (0 : Int64)) → (wX1_fails (fun r32 S33 => isB r32 ∧ post r32 S33) S28 (8 : Int32)))) S26 r9) S17 x1))) S15 11) S12)) ∧ (¬ (r11 = (0 : Int32)) → (wX1_fails (fun r34 S35 => isB r34 ∧ post r34 S35) S12 (5 : Int32)))) S10 r9) S7))) S))))
def wX1_readLine_16 (post : Int32 → MS → Prop) (x1 : Int32) (S : MS) : Prop :=
  wX1_readLine_21 post x1 (1 : Int32) S
def wX1_readLine (post : Int32 → MS → Prop) (S : MS) (x1 : Int32) : Prop :=
  wX1_isNumber (fun r1 S2 => ((r1 = (0 : Int32)) → (wX1_isSign (fun r46 S47 => ((r46 = (0 : Int32)) → (wX1_readLine_21 post x1 (0 : Int32) S47)) ∧ (¬ (r46 = (0 : Int32)) → (wX1_readLine_16 post x1 S47))) S2 (45 : Int32))) ∧ (¬ (r1 = (0 : Int32)) → (wX1_readLine_16 post x1 S2))) S
theorem kX1_readLine_152 {p : Program} {l : Launch} {e : Env} {s : State} {m : MethodId} {args : Array Value} {below : List Frame} {meth : Method} {c : Code} {G : gG} {h0 : Nat} {ad : Nat → Nat} {post : Int32 → MS → Prop} (X : mX G h0 ad p s m args c cX1_readLine) (hml : c.maxLocals = 4) (hr : meth.sig.returnType = (some .boolean)) (hlk : meth.locks = false) : ∀ (x3 : Int32) (S : MS) (H : Heap) (locs : List Loc) (ls : Array Slot), wX1_readLine_152 post x3 S → mH G h0 ad s S H locs → lv_has ls 4 [(0, .ref h0), (3, .int x3)] → W p l e ⟨6, 0, 0, 129⟩ s m args below meth c H locs 0 0 (MQ below (gQ vI post (mBw G h0 ad) (mAd h0 ad)) args s 0 0 (mAd h0 ad)) (F0 m 152 ls []) := by
  have hx := X.1
  have hb := X.2.1
  have hown := X.2.2.1
  have hts := X.2.2.2.1
  intro x3 S H locs ls h hw hl
  unfold wX1_readLine_152 at h
  refine lv_aload_n (pc := 152) hx hb dX1_readLine_152 rfl (lv_at hl 0 rfl) ?_
  refine lv_bipush (pc := 153) (v := (59 : Int32)) hx hb dX1_readLine_153 (by decide) ?_
  refine uX1_takesSign (pc := 155) X hml hw h ⟨Nat.le_of_ble_eq_true rfl, Nat.le_of_ble_eq_true rfl⟩ hl.1 (Nat.le_of_ble_eq_true rfl) ⟨Nat.le_refl _, Nat.le_refl _⟩ dX1_readLine_155 (fun r22 S23 H locs h hw => ?_)
  refine lv_if_ne (pc := 158) (tgt := 163) hx hb dX1_readLine_158 rfl (fun c24 => ?_) (fun c24 => ?_)
  · have h := h.2 c24
    refine lv_aload_n (pc := 163) hx hb dX1_readLine_163 rfl (lv_at hl 0 rfl) ?_
    refine mg31 (pc := 164) X hw dX1_readLine_164 ?_
    refine lv_aload_n (pc := 167) hx hb dX1_readLine_167 rfl (lv_at hl 0 rfl) ?_
    refine mg32 (pc := 168) X hw dX1_readLine_168 ?_
    refine lv_iload_n (pc := 171) hx hb dX1_readLine_171 rfl (lv_at hl 1 rfl) ?_
    obtain ⟨hi, h⟩ := h
    refine ms31 (pc := 172) X hw hi dX1_readLine_172 (fun H locs hw => ?_)
    refine lv_aload_n (pc := 173) hx hb dX1_readLine_173 rfl (lv_at hl 0 rfl) ?_
    refine lv_dup (pc := 174) hx hb dX1_readLine_174 rfl ?_
    refine mg32 (pc := 175) X hw dX1_readLine_175 ?_
    refine lv_iconst (pc := 178) (v := (1 : Int32)) hx hb dX1_readLine_178 (by decide) ?_
    refine lv_iadd (pc := 179) hx hb dX1_readLine_179 ?_
    refine mp32 (pc := 180) X hw dX1_readLine_180 (fun H locs hw => ?_)
    refine lv_iconst (pc := 183) (v := (1 : Int32)) hx hb dX1_readLine_183 (by decide) ?_
    exact W.zret (pc := 184) hx hb hr rfl (fun t ht hW => m_ret (val := vI) hw h ht) hw.2.2.2 dX1_readLine_184 hlk
  · have h := h.1 c24
    refine lv_iconst (pc := 161) (v := (0 : Int32)) hx hb dX1_readLine_161 (by decide) ?_
    exact W.zret (pc := 162) hx hb hr rfl (fun t ht hW => m_ret (val := vI) hw h ht) hw.2.2.2 dX1_readLine_162 hlk
theorem kX1_readLine_66 {p : Program} {l : Launch} {e : Env} {s : State} {m : MethodId} {args : Array Value} {below : List Frame} {meth : Method} {c : Code} {G : gG} {h0 : Nat} {ad : Nat → Nat} {post : Int32 → MS → Prop} (X : mX G h0 ad p s m args c cX1_readLine) (hml : c.maxLocals = 4) (hr : meth.sig.returnType = (some .boolean)) (hlk : meth.locks = false) : ∀ (v0 : Int32) (S : MS) (H : Heap) (locs : List Loc) (ls : Array Slot), wX1_readLine_66 post v0 S → mH G h0 ad s S H locs → lv_has ls 4 [] → W p l e ⟨6, 0, 0, 129⟩ s m args below meth c H locs 0 0 (MQ below (gQ vI post (mBw G h0 ad) (mAd h0 ad)) args s 0 0 (mAd h0 ad)) (F0 m 66 ls [.int v0, .ref h0]) := by
  have hx := X.1
  have hb := X.2.1
  have hown := X.2.2.1
  have hts := X.2.2.2.1
  intro v0 S H locs ls h hw hl
  unfold wX1_readLine_66 at h
  refine uX1_fails (pc := 66) X hml hw h ⟨Nat.le_of_ble_eq_true rfl, Nat.le_of_ble_eq_true rfl⟩ hl.1 (Nat.le_of_ble_eq_true rfl) ⟨Nat.le_refl _, Nat.le_refl _⟩ dX1_readLine_66 (fun r39 S40 H locs h hw => ?_)
  obtain ⟨hB, h⟩ := h
  exact W.zret (pc := 69) hx hb hr (isB_n hB) (fun t ht hW => m_ret (val := vI) hw h ht) hw.2.2.2 dX1_readLine_69 hlk
theorem kX1_readLine_64 {p : Program} {l : Launch} {e : Env} {s : State} {m : MethodId} {args : Array Value} {below : List Frame} {meth : Method} {c : Code} {G : gG} {h0 : Nat} {ad : Nat → Nat} {post : Int32 → MS → Prop} (X : mX G h0 ad p s m args c cX1_readLine) (hml : c.maxLocals = 4) (hr : meth.sig.returnType = (some .boolean)) (hlk : meth.locks = false) : ∀ (S : MS) (H : Heap) (locs : List Loc) (ls : Array Slot), wX1_readLine_64 post S → mH G h0 ad s S H locs → lv_has ls 4 [] → W p l e ⟨6, 0, 0, 129⟩ s m args below meth c H locs 0 0 (MQ below (gQ vI post (mBw G h0 ad) (mAd h0 ad)) args s 0 0 (mAd h0 ad)) (F0 m 64 ls [.ref h0]) := by
  have hx := X.1
  have hb := X.2.1
  have hown := X.2.2.1
  have hts := X.2.2.2.1
  intro S H locs ls h hw hl
  unfold wX1_readLine_64 at h
  refine lv_bipush (pc := 64) (v := (9 : Int32)) hx hb dX1_readLine_64 (by decide) ?_
  exact kX1_readLine_66 X hml hr hlk  _ _ _ _ _ h hw (lv_sub hl [] rfl)
theorem kX1_readLine_21 {p : Program} {l : Launch} {e : Env} {s : State} {m : MethodId} {args : Array Value} {below : List Frame} {meth : Method} {c : Code} {G : gG} {h0 : Nat} {ad : Nat → Nat} {post : Int32 → MS → Prop} (X : mX G h0 ad p s m args c cX1_readLine) (hml : c.maxLocals = 4) (hr : meth.sig.returnType = (some .boolean)) (hlk : meth.locks = false) : ∀ (x1 : Int32) (v0 : Int32) (S : MS) (H : Heap) (locs : List Loc) (ls : Array Slot), wX1_readLine_21 post x1 v0 S → mH G h0 ad s S H locs → lv_has ls 4 [(0, .ref h0), (1, .int x1)] → W p l e ⟨6, 0, 0, 129⟩ s m args below meth c H locs 0 0 (MQ below (gQ vI post (mBw G h0 ad) (mAd h0 ad)) args s 0 0 (mAd h0 ad)) (F0 m 21 ls [.int v0]) := by
  have hx := X.1
  have hb := X.2.1
  have hown := X.2.2.1
  have hts := X.2.2.2.1
  intro x1 v0 S H locs ls h hw hl
  unfold wX1_readLine_21 at h
  refine lv_istore_n (pc := 21) (lv' := [(2, .int v0), (0, .ref h0), (1, .int x1)]) hx hb dX1_readLine_21 rfl hl (by decide) rfl (fun ls hl => ?_)
  refine lv_iload_n (pc := 22) hx hb dX1_readLine_22 rfl (lv_at hl 0 rfl) ?_
  refine lv_if_ne (pc := 23) (tgt := 32) hx hb dX1_readLine_23 rfl (fun c4 => ?_) (fun c4 => ?_)
  · have h := h.2 c4
    refine lv_aload_n (pc := 32) hx hb dX1_readLine_32 rfl (lv_at hl 1 rfl) ?_
    refine mg32 (pc := 33) X hw dX1_readLine_33 ?_
    refine lv_bipush (pc := 36) (v := (60 : Int32)) hx hb dX1_readLine_36 (by decide) ?_
    refine lv_icmp_ne (pc := 38) (tgt := 70) hx hb dX1_readLine_38 rfl (fun c5 => ?_) (fun c5 => ?_)
    · have h := h.2 c5
      refine lv_aload_n (pc := 70) hx hb dX1_readLine_70 rfl (lv_at hl 1 rfl) ?_
      refine uX1_comesToWhole (pc := 71) X hml hw h ⟨Nat.le_of_ble_eq_true rfl, Nat.le_of_ble_eq_true rfl⟩ hl.1 (Nat.le_of_ble_eq_true rfl) ⟨Nat.le_refl _, Nat.le_refl _⟩ dX1_readLine_71 (fun r6 S7 H locs h hw => ?_)
      refine lv_if_ne (pc := 74) (tgt := 79) hx hb dX1_readLine_74 rfl (fun c8 => ?_) (fun c8 => ?_)
      · have h := h.2 c8
        refine lv_aload_n (pc := 79) hx hb dX1_readLine_79 rfl (lv_at hl 1 rfl) ?_
        refine uX1_whole (pc := 80) X hml hw h ⟨Nat.le_of_ble_eq_true rfl, Nat.le_of_ble_eq_true rfl⟩ hl.1 (Nat.le_of_ble_eq_true rfl) ⟨Nat.le_refl _, Nat.le_refl _⟩ dX1_readLine_80 (fun r9 S10 H locs h hw => ?_)
        refine lv_istore_n (pc := 83) (lv' := [(3, .int r9), (2, .int v0), (0, .ref h0), (1, .int x1)]) hx hb dX1_readLine_83 rfl hl (by decide) rfl (fun ls hl => ?_)
        refine lv_aload_n (pc := 84) hx hb dX1_readLine_84 rfl (lv_at hl 2 rfl) ?_
        refine lv_iload_n (pc := 85) hx hb dX1_readLine_85 rfl (lv_at hl 0 rfl) ?_
        refine uX1_isOut (pc := 86) X hml hw h ⟨Nat.le_of_ble_eq_true rfl, Nat.le_of_ble_eq_true rfl⟩ hl.1 (Nat.le_of_ble_eq_true rfl) ⟨Nat.le_refl _, Nat.le_refl _⟩ dX1_readLine_86 (fun r11 S12 H locs h hw => ?_)
        refine lv_if_eq (pc := 89) (tgt := 98) hx hb dX1_readLine_89 rfl (fun c13 => ?_) (fun c13 => ?_)
        · have h := h.1 c13
          refine lv_aload_n (pc := 98) hx hb dX1_readLine_98 rfl (lv_at hl 2 rfl) ?_
          refine uX1_next (pc := 99) X hml hw h ⟨Nat.le_of_ble_eq_true rfl, Nat.le_of_ble_eq_true rfl⟩ hl.1 (Nat.le_of_ble_eq_true rfl) ⟨Nat.le_refl _, Nat.le_refl _⟩ dX1_readLine_99 (fun _ S15 H locs h hw => ?_)
          refine lv_aload_n (pc := 102) hx hb dX1_readLine_102 rfl (lv_at hl 2 rfl) ?_
          refine va_ldcSw (pc := 103) hx hb hown (X.str (r := ("ToldPowersModel", 330, "not", 11)) (List.mem_of_getElem? (i := 19) rfl)) dX1_readLine_103 ?_
          refine uX1_isWord (pc := 106) X hml hw h ⟨Nat.le_of_ble_eq_true rfl, Nat.le_of_ble_eq_true rfl⟩ hl.1 (Nat.le_of_ble_eq_true rfl) ⟨Nat.le_refl _, Nat.le_refl _⟩ dX1_readLine_106 (fun r16 S17 H locs h hw => ?_)
          refine lv_if_eq (pc := 109) (tgt := 141) hx hb dX1_readLine_109 rfl (fun c18 => ?_) (fun c18 => ?_)
          · have h := h.1 c18
            refine lv_aload_n (pc := 141) hx hb dX1_readLine_141 rfl (lv_at hl 2 rfl) ?_
            refine lv_iload_n (pc := 142) hx hb dX1_readLine_142 rfl (lv_at hl 3 rfl) ?_
            refine lv_iload_n (pc := 143) hx hb dX1_readLine_143 rfl (lv_at hl 0 rfl) ?_
            refine uX1_readWay (pc := 144) X hml hw h ⟨Nat.le_of_ble_eq_true rfl, Nat.le_of_ble_eq_true rfl⟩ hl.1 (Nat.le_of_ble_eq_true rfl) ⟨Nat.le_refl _, Nat.le_refl _⟩ dX1_readLine_144 (fun r19 S20 H locs h hw => ?_)
            refine lv_if_ne (pc := 147) (tgt := 152) hx hb dX1_readLine_147 rfl (fun c21 => ?_) (fun c21 => ?_)
            · have h := h.2 c21
              exact kX1_readLine_152 X hml hr hlk  _ _ _ _ _ h hw (lv_sub hl [2, 0] rfl)
            · have h := h.1 c21
              refine lv_iconst (pc := 150) (v := (0 : Int32)) hx hb dX1_readLine_150 (by decide) ?_
              exact W.zret (pc := 151) hx hb hr rfl (fun t ht hW => m_ret (val := vI) hw h ht) hw.2.2.2 dX1_readLine_151 hlk
          · have h := h.2 c18
            refine lv_aload_n (pc := 112) hx hb dX1_readLine_112 rfl (lv_at hl 2 rfl) ?_
            refine lv_iload_n (pc := 113) hx hb dX1_readLine_113 rfl (lv_at hl 3 rfl) ?_
            refine uX1_lays (pc := 114) X hml hw h ⟨Nat.le_of_ble_eq_true rfl, Nat.le_of_ble_eq_true rfl⟩ hl.1 (Nat.le_of_ble_eq_true rfl) ⟨Nat.le_refl _, Nat.le_refl _⟩ dX1_readLine_114 (fun _ S26 H locs h hw => ?_)
            refine lv_aload_n (pc := 117) hx hb dX1_readLine_117 rfl (lv_at hl 2 rfl) ?_
            refine lv_iload_n (pc := 118) hx hb dX1_readLine_118 rfl (lv_at hl 0 rfl) ?_
            refine uX1_waysOf (pc := 119) X hml hw h ⟨Nat.le_of_ble_eq_true rfl, Nat.le_of_ble_eq_true rfl⟩ hl.1 (Nat.le_of_ble_eq_true rfl) ⟨Nat.le_refl _, Nat.le_refl _⟩ dX1_readLine_119 (fun r27 S28 H locs h hw => ?_)
            refine lv_lconst (pc := 122) (v := (0 : Int64)) hx hb dX1_readLine_122 (by decide) ?_
            refine W.lcmp (pc := 123) hx hb dX1_readLine_123 ?_
            refine lv_if_le (pc := 124) (tgt := 134) hx hb dX1_readLine_124 rfl (fun c29 => ?_) (fun c29 => ?_)
            · have h := h.1 ((lg_cmp_le _ _).mp c29)
              refine lv_aload_n (pc := 134) hx hb dX1_readLine_134 rfl (lv_at hl 2 rfl) ?_
              refine uX1_next (pc := 135) X hml hw h ⟨Nat.le_of_ble_eq_true rfl, Nat.le_of_ble_eq_true rfl⟩ hl.1 (Nat.le_of_ble_eq_true rfl) ⟨Nat.le_refl _, Nat.le_refl _⟩ dX1_readLine_135 (fun _ S31 H locs h hw => ?_)
              refine lv_goto (pc := 138) (tgt := 152) hx hb dX1_readLine_138 rfl ?_
              exact kX1_readLine_152 X hml hr hlk  _ _ _ _ _ h hw (lv_sub hl [2, 0] rfl)
            · have h := h.2 (fun z => c29 ((lg_cmp_le _ _).mpr z))
              refine lv_aload_n (pc := 127) hx hb dX1_readLine_127 rfl (lv_at hl 2 rfl) ?_
              refine lv_bipush (pc := 128) (v := (8 : Int32)) hx hb dX1_readLine_128 (by decide) ?_
              refine uX1_fails (pc := 130) X hml hw h ⟨Nat.le_of_ble_eq_true rfl, Nat.le_of_ble_eq_true rfl⟩ hl.1 (Nat.le_of_ble_eq_true rfl) ⟨Nat.le_refl _, Nat.le_refl _⟩ dX1_readLine_130 (fun r32 S33 H locs h hw => ?_)
              obtain ⟨hB, h⟩ := h
              exact W.zret (pc := 133) hx hb hr (isB_n hB) (fun t ht hW => m_ret (val := vI) hw h ht) hw.2.2.2 dX1_readLine_133 hlk
        · have h := h.2 c13
          refine lv_aload_n (pc := 92) hx hb dX1_readLine_92 rfl (lv_at hl 2 rfl) ?_
          refine lv_iconst (pc := 93) (v := (5 : Int32)) hx hb dX1_readLine_93 (by decide) ?_
          refine uX1_fails (pc := 94) X hml hw h ⟨Nat.le_of_ble_eq_true rfl, Nat.le_of_ble_eq_true rfl⟩ hl.1 (Nat.le_of_ble_eq_true rfl) ⟨Nat.le_refl _, Nat.le_refl _⟩ dX1_readLine_94 (fun r34 S35 H locs h hw => ?_)
          obtain ⟨hB, h⟩ := h
          exact W.zret (pc := 97) hx hb hr (isB_n hB) (fun t ht hW => m_ret (val := vI) hw h ht) hw.2.2.2 dX1_readLine_97 hlk
      · have h := h.1 c8
        refine lv_iconst (pc := 77) (v := (0 : Int32)) hx hb dX1_readLine_77 (by decide) ?_
        exact W.zret (pc := 78) hx hb hr rfl (fun t ht hW => m_ret (val := vI) hw h ht) hw.2.2.2 dX1_readLine_78 hlk
    · have h := h.1 c5
      refine lv_aload_n (pc := 41) hx hb dX1_readLine_41 rfl (lv_at hl 1 rfl) ?_
      refine lv_aload_n (pc := 42) hx hb dX1_readLine_42 rfl (lv_at hl 1 rfl) ?_
      refine uX1_isNumber (pc := 43) X hml hw h ⟨Nat.le_of_ble_eq_true rfl, Nat.le_of_ble_eq_true rfl⟩ hl.1 (Nat.le_of_ble_eq_true rfl) ⟨Nat.le_refl _, Nat.le_refl _⟩ dX1_readLine_43 (fun r36 S37 H locs h hw => ?_)
      refine lv_if_eq (pc := 46) (tgt := 64) hx hb dX1_readLine_46 rfl (fun c38 => ?_) (fun c38 => ?_)
      · have h := h.1 c38
        exact kX1_readLine_64 X hml hr hlk   _ _ _ _ h hw (lv_sub hl [] rfl)
      · have h := h.2 c38
        refine lv_aload_n (pc := 49) hx hb dX1_readLine_49 rfl (lv_at hl 1 rfl) ?_
        refine lv_aload_n (pc := 50) hx hb dX1_readLine_50 rfl (lv_at hl 1 rfl) ?_
        refine mg16 (pc := 51) X hw dX1_readLine_51 ?_
        refine uX1_isOut (pc := 54) X hml hw h ⟨Nat.le_of_ble_eq_true rfl, Nat.le_of_ble_eq_true rfl⟩ hl.1 (Nat.le_of_ble_eq_true rfl) ⟨Nat.le_refl _, Nat.le_refl _⟩ dX1_readLine_54 (fun r41 S42 H locs h hw => ?_)
        refine lv_if_eq (pc := 57) (tgt := 64) hx hb dX1_readLine_57 rfl (fun c43 => ?_) (fun c43 => ?_)
        · have h := h.1 c43
          exact kX1_readLine_64 X hml hr hlk   _ _ _ _ h hw (lv_sub hl [] rfl)
        · have h := h.2 c43
          refine lv_iconst (pc := 60) (v := (5 : Int32)) hx hb dX1_readLine_60 (by decide) ?_
          refine lv_goto (pc := 61) (tgt := 66) hx hb dX1_readLine_61 rfl ?_
          exact kX1_readLine_66 X hml hr hlk  _ _ _ _ _ h hw (lv_sub hl [] rfl)
  · have h := h.1 c4
    refine lv_aload_n (pc := 26) hx hb dX1_readLine_26 rfl (lv_at hl 1 rfl) ?_
    refine lv_iconst (pc := 27) (v := (1 : Int32)) hx hb dX1_readLine_27 (by decide) ?_
    refine uX1_fails (pc := 28) X hml hw h ⟨Nat.le_of_ble_eq_true rfl, Nat.le_of_ble_eq_true rfl⟩ hl.1 (Nat.le_of_ble_eq_true rfl) ⟨Nat.le_refl _, Nat.le_refl _⟩ dX1_readLine_28 (fun r44 S45 H locs h hw => ?_)
    obtain ⟨hB, h⟩ := h
    exact W.zret (pc := 31) hx hb hr (isB_n hB) (fun t ht hW => m_ret (val := vI) hw h ht) hw.2.2.2 dX1_readLine_31 hlk
theorem kX1_readLine_16 {p : Program} {l : Launch} {e : Env} {s : State} {m : MethodId} {args : Array Value} {below : List Frame} {meth : Method} {c : Code} {G : gG} {h0 : Nat} {ad : Nat → Nat} {post : Int32 → MS → Prop} (X : mX G h0 ad p s m args c cX1_readLine) (hml : c.maxLocals = 4) (hr : meth.sig.returnType = (some .boolean)) (hlk : meth.locks = false) : ∀ (x1 : Int32) (S : MS) (H : Heap) (locs : List Loc) (ls : Array Slot), wX1_readLine_16 post x1 S → mH G h0 ad s S H locs → lv_has ls 4 [(0, .ref h0), (1, .int x1)] → W p l e ⟨6, 0, 0, 129⟩ s m args below meth c H locs 0 0 (MQ below (gQ vI post (mBw G h0 ad) (mAd h0 ad)) args s 0 0 (mAd h0 ad)) (F0 m 16 ls []) := by
  have hx := X.1
  have hb := X.2.1
  have hown := X.2.2.1
  have hts := X.2.2.2.1
  intro x1 S H locs ls h hw hl
  unfold wX1_readLine_16 at h
  refine lv_iconst (pc := 16) (v := (1 : Int32)) hx hb dX1_readLine_16 (by decide) ?_
  refine lv_goto (pc := 17) (tgt := 21) hx hb dX1_readLine_17 rfl ?_
  exact kX1_readLine_21 X hml hr hlk  _ _ _ _ _ _ h hw (lv_sub hl [0, 1] rfl)
theorem tX1_readLine {l : Launch} {G : gG} {h0 : Nat} {ad : Nat → Nat} (hd : mOk G h0 ad) {post : Int32 → MS → Prop} {S : MS} {x1 : Int32} (h : wX1_readLine post S x1) : Met l yX1_readLine (ws_ yX1_readLine cX1_readLine 4 (some .boolean)) ⟨6, 0, 0, 129⟩ (va_Pc (.ref h0 :: [.int x1]) (fun U => mBw G h0 ad S U.heap ∧ gK G U)) (gQ vI post (mBw G h0 ad) (mAd h0 ad)) 0 0 (mAd h0 ad) := by
  refine m_ofW (by decide) rfl hd (Nat.le_of_ble_eq_true rfl) (fun p e s m below meth c ls X hml hr hlk hw hl => ?_)
  have hl : lv_has ls 4 [(0, .ref h0), (1, .int x1)] := hl
  have hx := X.1
  have hb := X.2.1
  have hown := X.2.2.1
  have hts := X.2.2.2.1
  unfold wX1_readLine at h
  refine lv_aload_n (pc := 0) hx hb dX1_readLine_0 rfl (lv_at hl 0 rfl) ?_
  refine uX1_isNumber (pc := 1) X hml hw h ⟨Nat.le_of_ble_eq_true rfl, Nat.le_of_ble_eq_true rfl⟩ hl.1 (Nat.le_of_ble_eq_true rfl) ⟨Nat.le_refl _, Nat.le_refl _⟩ dX1_readLine_1 (fun r1 S2 H locs h hw => ?_)
  refine lv_if_ne (pc := 4) (tgt := 16) hx hb dX1_readLine_4 rfl (fun c3 => ?_) (fun c3 => ?_)
  · have h := h.2 c3
    exact kX1_readLine_16 X hml hr hlk  _ _ _ _ _ h hw (lv_sub hl [0, 1] rfl)
  · have h := h.1 c3
    refine lv_aload_n (pc := 7) hx hb dX1_readLine_7 rfl (lv_at hl 0 rfl) ?_
    refine lv_bipush (pc := 8) (v := (45 : Int32)) hx hb dX1_readLine_8 (by decide) ?_
    refine uX1_isSign (pc := 10) X hml hw h ⟨Nat.le_of_ble_eq_true rfl, Nat.le_of_ble_eq_true rfl⟩ hl.1 (Nat.le_of_ble_eq_true rfl) ⟨Nat.le_refl _, Nat.le_refl _⟩ dX1_readLine_10 (fun r46 S47 H locs h hw => ?_)
    refine lv_if_eq (pc := 13) (tgt := 20) hx hb dX1_readLine_13 rfl (fun c48 => ?_) (fun c48 => ?_)
    · have h := h.1 c48
      refine lv_iconst (pc := 20) (v := (0 : Int32)) hx hb dX1_readLine_20 (by decide) ?_
      exact kX1_readLine_21 X hml hr hlk  _ _ _ _ _ _ h hw (lv_sub hl [0, 1] rfl)
    · have h := h.2 c48
      exact kX1_readLine_16 X hml hr hlk  _ _ _ _ _ h hw (lv_sub hl [0, 1] rfl)
theorem uX1_readLine {p : Program} {l : Launch} {e : Env} {R : Room} {s : State} {m : MethodId} {args : Array Value} {below : List Frame} {meth : Method} {c : Code} {H : Heap} {locs : List Loc} {cells slots : Nat} {Q : Jvm.State → Prop} {cc : ByteArray} {pc : Nat} {ls : Array Slot} {rest : List Value} {G : gG} {h0 : Nat} {ad : Nat → Nat} {post : Int32 → MS → Prop} {S : MS} {x1 : Int32} {nL : Nat} (X : mX G h0 ad p s m args c cc) (hml : c.maxLocals = nL) (hw : mH G h0 ad s S H locs) (h : wX1_readLine post S x1) (hR : 6 + 1 ≤ R.frames ∧ 8 + (4 + 11) + 129 ≤ R.locals) (hsz : ls.size = nL) (hr : (rest.map fun v => v.category).sum ≤ 8) (hc : cells ≤ R.cells ∧ slots ≤ R.slots) (d : decode cc pc = .ok (.invokevirtual 335, 3)) (kk : ∀ (r : Int32) (S1 : MS) (H1 : Heap) (locs1 : List Loc), post r S1 → mH G h0 ad s S1 H1 locs1 → W p l e R s m args below meth c H1 locs1 cells slots Q (F0 m (pc + 3) ls (.int r :: rest))) : W p l e R s m args below meth c H locs cells slots Q (F0 m pc ls (.int x1 :: .ref h0 :: rest)) :=
  m_call (val := vI) (post := post) (As := [.int x1]) X hml hw (tX1_readLine X.2.2.2.2.2.1 h) (lw_V q2315 q2317 qs78 q105 q2318) ⟨rfl, by decide, by decide, (by decide +kernel : (parseMethodDescriptor yX1_readLine.desc).map (fun d => d.parameters.length) = some 1)⟩ hR hsz hr hc d rfl kk

def wX1_readPower (rc : (Int32 → MS → Prop) → MS → Prop) (post : Int32 → MS → Prop) (S : MS) : Prop :=
  wX1_readPart rc (fun r1 S2 => ((r1 = (0 : Int32)) → (post (0 : Int32) S2)) ∧ (¬ (r1 = (0 : Int32)) → (wX1_isSign (fun r4 S5 => ((r4 = (0 : Int32)) → (post (1 : Int32) S5)) ∧ (¬ (r4 = (0 : Int32)) → (wX1_next (fun _ S8 => wX1_isNumber (fun r9 S10 => ((r9 = (0 : Int32)) → (wX1_fails (fun r19 S20 => isB r19 ∧ post r19 S20) S10 (1 : Int32))) ∧ (¬ (r9 = (0 : Int32)) → ((((S10.1 16) ≤ (6 : Int32)) → (wX1_puts (fun _ S14 => wX1_next (fun _ S16 => post (1 : Int32) S16) S14) S10 (94 : Int32) (S10.1 16))) ∧ (¬ ((S10.1 16) ≤ (6 : Int32)) → (wX1_fails (fun r17 S18 => isB r17 ∧ post r17 S18) S10 (10 : Int32)))))) S8) S5))) S2 (94 : Int32)))) S
theorem tX1_readPower {l : Launch} {G : gG} {h0 : Nat} {ad : Nat → Nat} {d : Nat} {rc : (Int32 → MS → Prop) → MS → Prop} (hd : mOk G h0 ad) (hI : ∀ {post : Int32 → MS → Prop} {S : MS}, rc post S → Met l yX1_readSum (ws_ yX1_readSum cX1_readSum 2 (some .boolean)) ⟨20 + 4 * d, 0, 0, 1000 + 82 * d⟩ (va_Pc (.ref h0 :: []) (fun U => mBw G h0 ad S U.heap ∧ gK G U)) (gQ vI post (mBw G h0 ad) (mAd h0 ad)) 0 0 (mAd h0 ad)) {post : Int32 → MS → Prop} {S : MS} (h : wX1_readPower rc post S) : Met l yX1_readPower (ws_ yX1_readPower cX1_readPower 1 (some .boolean)) ⟨22 + 4 * d, 0, 0, 1042 + 82 * d⟩ (va_Pc (.ref h0 :: []) (fun U => mBw G h0 ad S U.heap ∧ gK G U)) (gQ vI post (mBw G h0 ad) (mAd h0 ad)) 0 0 (mAd h0 ad) := by
  refine m_ofW (by decide) rfl hd (Nat.le_of_ble_eq_true rfl) (fun p e s m below meth c ls X hml hr hlk hw hl => ?_)
  have hl : lv_has ls 1 [(0, .ref h0)] := hl
  have hx := X.1
  have hb := X.2.1
  have hown := X.2.2.1
  have hts := X.2.2.2.1
  unfold wX1_readPower at h
  refine lv_aload_n (pc := 0) hx hb dX1_readPower_0 rfl (lv_at hl 0 rfl) ?_
  refine uX1_readPart (pc := 1) X hml hw hI h ⟨show 21 + 4 * d + 1 ≤ 22 + 4 * d by omega, show 8 + (2 + 11) + (1021 + 82 * d) ≤ 1042 + 82 * d by omega⟩ hl.1 (Nat.le_of_ble_eq_true rfl) ⟨Nat.le_refl _, Nat.le_refl _⟩ dX1_readPower_1 (fun r1 S2 H locs h hw => ?_)
  refine lv_if_ne (pc := 4) (tgt := 9) hx hb dX1_readPower_4 rfl (fun c3 => ?_) (fun c3 => ?_)
  · have h := h.2 c3
    refine lv_aload_n (pc := 9) hx hb dX1_readPower_9 rfl (lv_at hl 0 rfl) ?_
    refine lv_bipush (pc := 10) (v := (94 : Int32)) hx hb dX1_readPower_10 (by decide) ?_
    refine uX1_isSign (pc := 12) X hml hw h ⟨show 0 + 1 ≤ 22 + 4 * d by omega, show 8 + (2 + 11) + (0) ≤ 1042 + 82 * d by omega⟩ hl.1 (Nat.le_of_ble_eq_true rfl) ⟨Nat.le_refl _, Nat.le_refl _⟩ dX1_readPower_12 (fun r4 S5 H locs h hw => ?_)
    refine lv_if_ne (pc := 15) (tgt := 20) hx hb dX1_readPower_15 rfl (fun c6 => ?_) (fun c6 => ?_)
    · have h := h.2 c6
      refine lv_aload_n (pc := 20) hx hb dX1_readPower_20 rfl (lv_at hl 0 rfl) ?_
      refine uX1_next (pc := 21) X hml hw h ⟨show 1 + 1 ≤ 22 + 4 * d by omega, show 8 + (2 + 11) + (25) ≤ 1042 + 82 * d by omega⟩ hl.1 (Nat.le_of_ble_eq_true rfl) ⟨Nat.le_refl _, Nat.le_refl _⟩ dX1_readPower_21 (fun _ S8 H locs h hw => ?_)
      refine lv_aload_n (pc := 24) hx hb dX1_readPower_24 rfl (lv_at hl 0 rfl) ?_
      refine uX1_isNumber (pc := 25) X hml hw h ⟨show 0 + 1 ≤ 22 + 4 * d by omega, show 8 + (1 + 11) + (0) ≤ 1042 + 82 * d by omega⟩ hl.1 (Nat.le_of_ble_eq_true rfl) ⟨Nat.le_refl _, Nat.le_refl _⟩ dX1_readPower_25 (fun r9 S10 H locs h hw => ?_)
      refine lv_if_ne (pc := 28) (tgt := 37) hx hb dX1_readPower_28 rfl (fun c11 => ?_) (fun c11 => ?_)
      · have h := h.2 c11
        refine lv_aload_n (pc := 37) hx hb dX1_readPower_37 rfl (lv_at hl 0 rfl) ?_
        refine mg16 (pc := 38) X hw dX1_readPower_38 ?_
        refine lv_bipush (pc := 41) (v := (6 : Int32)) hx hb dX1_readPower_41 (by decide) ?_
        refine lv_icmp_le (pc := 43) (tgt := 53) hx hb dX1_readPower_43 rfl (fun c12 => ?_) (fun c12 => ?_)
        · have h := h.1 c12
          refine lv_aload_n (pc := 53) hx hb dX1_readPower_53 rfl (lv_at hl 0 rfl) ?_
          refine lv_bipush (pc := 54) (v := (94 : Int32)) hx hb dX1_readPower_54 (by decide) ?_
          refine lv_aload_n (pc := 56) hx hb dX1_readPower_56 rfl (lv_at hl 0 rfl) ?_
          refine mg16 (pc := 57) X hw dX1_readPower_57 ?_
          refine uX1_puts (pc := 60) X hml hw h ⟨show 0 + 1 ≤ 22 + 4 * d by omega, show 8 + (3 + 11) + (0) ≤ 1042 + 82 * d by omega⟩ hl.1 (Nat.le_of_ble_eq_true rfl) ⟨Nat.le_refl _, Nat.le_refl _⟩ dX1_readPower_60 (fun _ S14 H locs h hw => ?_)
          refine lv_aload_n (pc := 63) hx hb dX1_readPower_63 rfl (lv_at hl 0 rfl) ?_
          refine uX1_next (pc := 64) X hml hw h ⟨show 1 + 1 ≤ 22 + 4 * d by omega, show 8 + (2 + 11) + (25) ≤ 1042 + 82 * d by omega⟩ hl.1 (Nat.le_of_ble_eq_true rfl) ⟨Nat.le_refl _, Nat.le_refl _⟩ dX1_readPower_64 (fun _ S16 H locs h hw => ?_)
          refine lv_iconst (pc := 67) (v := (1 : Int32)) hx hb dX1_readPower_67 (by decide) ?_
          exact W.zret (pc := 68) hx hb hr rfl (fun t ht hW => m_ret (val := vI) hw h ht) hw.2.2.2 dX1_readPower_68 hlk
        · have h := h.2 c12
          refine lv_aload_n (pc := 46) hx hb dX1_readPower_46 rfl (lv_at hl 0 rfl) ?_
          refine lv_bipush (pc := 47) (v := (10 : Int32)) hx hb dX1_readPower_47 (by decide) ?_
          refine uX1_fails (pc := 49) X hml hw h ⟨show 0 + 1 ≤ 22 + 4 * d by omega, show 8 + (2 + 11) + (0) ≤ 1042 + 82 * d by omega⟩ hl.1 (Nat.le_of_ble_eq_true rfl) ⟨Nat.le_refl _, Nat.le_refl _⟩ dX1_readPower_49 (fun r17 S18 H locs h hw => ?_)
          obtain ⟨hB, h⟩ := h
          exact W.zret (pc := 52) hx hb hr (isB_n hB) (fun t ht hW => m_ret (val := vI) hw h ht) hw.2.2.2 dX1_readPower_52 hlk
      · have h := h.1 c11
        refine lv_aload_n (pc := 31) hx hb dX1_readPower_31 rfl (lv_at hl 0 rfl) ?_
        refine lv_iconst (pc := 32) (v := (1 : Int32)) hx hb dX1_readPower_32 (by decide) ?_
        refine uX1_fails (pc := 33) X hml hw h ⟨show 0 + 1 ≤ 22 + 4 * d by omega, show 8 + (2 + 11) + (0) ≤ 1042 + 82 * d by omega⟩ hl.1 (Nat.le_of_ble_eq_true rfl) ⟨Nat.le_refl _, Nat.le_refl _⟩ dX1_readPower_33 (fun r19 S20 H locs h hw => ?_)
        obtain ⟨hB, h⟩ := h
        exact W.zret (pc := 36) hx hb hr (isB_n hB) (fun t ht hW => m_ret (val := vI) hw h ht) hw.2.2.2 dX1_readPower_36 hlk
    · have h := h.1 c6
      refine lv_iconst (pc := 18) (v := (1 : Int32)) hx hb dX1_readPower_18 (by decide) ?_
      exact W.zret (pc := 19) hx hb hr rfl (fun t ht hW => m_ret (val := vI) hw h ht) hw.2.2.2 dX1_readPower_19 hlk
  · have h := h.1 c3
    refine lv_iconst (pc := 7) (v := (0 : Int32)) hx hb dX1_readPower_7 (by decide) ?_
    exact W.zret (pc := 8) hx hb hr rfl (fun t ht hW => m_ret (val := vI) hw h ht) hw.2.2.2 dX1_readPower_8 hlk
theorem uX1_readPower {p : Program} {l : Launch} {e : Env} {R : Room} {s : State} {m : MethodId} {args : Array Value} {below : List Frame} {meth : Method} {c : Code} {H : Heap} {locs : List Loc} {cells slots : Nat} {Q : Jvm.State → Prop} {cc : ByteArray} {pc : Nat} {ls : Array Slot} {rest : List Value} {G : gG} {h0 : Nat} {ad : Nat → Nat} {d : Nat} {rc : (Int32 → MS → Prop) → MS → Prop} {post : Int32 → MS → Prop} {S : MS} {nL : Nat} (X : mX G h0 ad p s m args c cc) (hml : c.maxLocals = nL) (hw : mH G h0 ad s S H locs) (hI : ∀ {post : Int32 → MS → Prop} {S : MS}, rc post S → Met l yX1_readSum (ws_ yX1_readSum cX1_readSum 2 (some .boolean)) ⟨20 + 4 * d, 0, 0, 1000 + 82 * d⟩ (va_Pc (.ref h0 :: []) (fun U => mBw G h0 ad S U.heap ∧ gK G U)) (gQ vI post (mBw G h0 ad) (mAd h0 ad)) 0 0 (mAd h0 ad)) (h : wX1_readPower rc post S) (hR : 22 + 4 * d + 1 ≤ R.frames ∧ 8 + (1 + 11) + (1042 + 82 * d) ≤ R.locals) (hsz : ls.size = nL) (hr : (rest.map fun v => v.category).sum ≤ 8) (hc : cells ≤ R.cells ∧ slots ≤ R.slots) (dd : decode cc pc = .ok (.invokevirtual 347, 3)) (kk : ∀ (r : Int32) (S1 : MS) (H1 : Heap) (locs1 : List Loc), post r S1 → mH G h0 ad s S1 H1 locs1 → W p l e R s m args below meth c H1 locs1 cells slots Q (F0 m (pc + 3) ls (.int r :: rest))) : W p l e R s m args below meth c H locs cells slots Q (F0 m pc ls (.ref h0 :: rest)) :=
  m_call (val := vI) (post := post) (As := []) X hml hw (tX1_readPower X.2.2.2.2.2.1 hI h) (lw_V q2344 q2346 qs84 q105 q2347) ⟨rfl, by decide, by decide, (by decide +kernel : (parseMethodDescriptor yX1_readPower.desc).map (fun d => d.parameters.length) = some 0)⟩ hR hsz hr hc dd rfl kk

def wX1_sideTells_206 (K17 : Int32 → Int32 → Int32 → MS → Prop) (post : Int64 → MS → Prop) (x1 : Int32) (x2 : Int32) (x3 : Int32) (S : MS) : Prop :=
  K17 x1 x2 (x3 + (1 : Int32)) S
def wX1_sideTells_78 (K17 : Int32 → Int32 → Int32 → MS → Prop) (post : Int64 → MS → Prop) (x1 : Int32) (x2 : Int32) (x3 : Int32) (v0 : Int64) (v1 : Int32) (S : MS) : Prop :=
  vp_in v1 130 ∧ (wX1_sideTells_206 K17 post x1 (x2 + (1 : Int32)) x3 (mB S 43 (vp_updL (S.2.2.2 43) v1.toNatClampNeg v0)))
def wX1_sideTells_46 (K17 : Int32 → Int32 → Int32 → MS → Prop) (post : Int64 → MS → Prop) (x1 : Int32) (x2 : Int32) (x3 : Int32) (x4 : Int32) (S : MS) : Prop :=
  ((x4 = (0 : Int32)) → (vp_in x3 1800 ∧ (wX1_sideTells_78 K17 post x1 x2 x3 ((S.2.2.1 33 x3.toNatClampNeg).toInt64) x2 S))) ∧ (¬ (x4 = (0 : Int32)) → (vp_in x3 1800 ∧ (vp_in (S.2.2.1 33 x3.toNatClampNeg) 6 ∧ (wX1_sideTells_78 K17 post x1 x2 x3 ((S.2.2.1 42 (S.2.2.1 33 x3.toNatClampNeg).toNatClampNeg).toInt64) x2 S))))
def wX1_sideTells_205 (K17 : Int32 → Int32 → Int32 → MS → Prop) (post : Int64 → MS → Prop) (x1 : Int32) (x2 : Int32) (x3 : Int32) (v0 : Int64) (v1 : Int32) (S : MS) : Prop :=
  vp_in v1 130 ∧ (wX1_sideTells_206 K17 post x1 x2 x3 (mB S 43 (vp_updL (S.2.2.2 43) v1.toNatClampNeg v0)))
def wX1_sideTells_17 (post : Int64 → MS → Prop) : Nat → Int32 → Int32 → Int32 → MS → Prop
  | 0, _, _, _, _ => False
  | n + 1, x1, x2, x3, S => vp_in x1 4 ∧ ((((S.2.2.1 35 x1.toNatClampNeg) ≤ x3) → (vp_in (0 : Int32) 130 ∧ (post (S.2.2.2 43 (0 : Int32).toNatClampNeg) S))) ∧ (¬ ((S.2.2.1 35 x1.toNatClampNeg) ≤ x3) → (vp_in x3 1800 ∧ ((((S.2.2.1 34 x3.toNatClampNeg) = (0 : Int32)) → (wX1_sideTells_46 (fun x1 x2 x3 S => wX1_sideTells_17 post n x1 x2 x3 S) post x1 x2 x3 (S.2.2.1 34 x3.toNatClampNeg) S)) ∧ (¬ ((S.2.2.1 34 x3.toNatClampNeg) = (0 : Int32)) → ((((S.2.2.1 34 x3.toNatClampNeg) = (1 : Int32)) → (wX1_sideTells_46 (fun x1 x2 x3 S => wX1_sideTells_17 post n x1 x2 x3 S) post x1 x2 x3 (S.2.2.1 34 x3.toNatClampNeg) S)) ∧ (¬ ((S.2.2.1 34 x3.toNatClampNeg) = (1 : Int32)) → ((((S.2.2.1 34 x3.toNatClampNeg) = (94 : Int32)) → (vp_in (x2 - (1 : Int32)) 130 ∧ (vp_in x3 1800 ∧ (wX1_raised (fun r15 S16 => vp_in (x2 - (1 : Int32)) 130 ∧ (wX1_sideTells_206 (fun x1 x2 x3 S => wX1_sideTells_17 post n x1 x2 x3 S) post x1 x2 x3 (mB S16 43 (vp_updL (S16.2.2.2 43) (x2 - (1 : Int32)).toNatClampNeg r15)))) S (S.2.2.2 43 (x2 - (1 : Int32)).toNatClampNeg) (S.2.2.1 33 x3.toNatClampNeg))))) ∧ (¬ ((S.2.2.1 34 x3.toNatClampNeg) = (94 : Int32)) → ((((S.2.2.1 34 x3.toNatClampNeg) = (43 : Int32)) → (vp_in ((x2 + (-1 : Int32)) - (1 : Int32)) 130 ∧ (vp_in (x2 + (-1 : Int32)) 130 ∧ (wX1_plus (fun r13 S14 => wX1_sideTells_205 (fun x1 x2 x3 S => wX1_sideTells_17 post n x1 x2 x3 S) post x1 (x2 + (-1 : Int32)) x3 r13 ((x2 + (-1 : Int32)) - (1 : Int32)) S14) S (S.2.2.2 43 ((x2 + (-1 : Int32)) - (1 : Int32)).toNatClampNeg) (S.2.2.2 43 (x2 + (-1 : Int32)).toNatClampNeg))))) ∧ (¬ ((S.2.2.1 34 x3.toNatClampNeg) = (43 : Int32)) → ((((S.2.2.1 34 x3.toNatClampNeg) = (45 : Int32)) → (vp_in ((x2 + (-1 : Int32)) - (1 : Int32)) 130 ∧ (vp_in (x2 + (-1 : Int32)) 130 ∧ (wX1_minus (fun r11 S12 => wX1_sideTells_205 (fun x1 x2 x3 S => wX1_sideTells_17 post n x1 x2 x3 S) post x1 (x2 + (-1 : Int32)) x3 r11 ((x2 + (-1 : Int32)) - (1 : Int32)) S12) S (S.2.2.2 43 ((x2 + (-1 : Int32)) - (1 : Int32)).toNatClampNeg) (S.2.2.2 43 (x2 + (-1 : Int32)).toNatClampNeg))))) ∧ (¬ ((S.2.2.1 34 x3.toNatClampNeg) = (45 : Int32)) → (vp_in ((x2 + (-1 : Int32)) - (1 : Int32)) 130 ∧ (vp_in (x2 + (-1 : Int32)) 130 ∧ (wX1_times (fun r9 S10 => wX1_sideTells_205 (fun x1 x2 x3 S => wX1_sideTells_17 post n x1 x2 x3 S) post x1 (x2 + (-1 : Int32)) x3 r9 ((x2 + (-1 : Int32)) - (1 : Int32)) S10) S (S.2.2.2 43 ((x2 + (-1 : Int32)) - (1 : Int32)).toNatClampNeg) (S.2.2.2 43 (x2 + (-1 : Int32)).toNatClampNeg)))))))))))))))))
def wX1_sideTells_16 (post : Int64 → MS → Prop) (x1 : Int32) (x2 : Int32) (v0 : Int32) (S : MS) : Prop :=
  (∃ k, wX1_sideTells_17 post k x1 x2 v0 S)
def wX1_sideTells (post : Int64 → MS → Prop) (S : MS) (x1 : Int32) : Prop :=
  ((x1 = (0 : Int32)) → (wX1_sideTells_16 post x1 (0 : Int32) (0 : Int32) S)) ∧ (¬ (x1 = (0 : Int32)) → (vp_in (0 : Int32) 4 ∧ (wX1_sideTells_16 post x1 (0 : Int32) (S.2.2.1 35 (0 : Int32).toNatClampNeg) S)))
theorem kX1_sideTells_206 {p : Program} {l : Launch} {e : Env} {s : State} {m : MethodId} {args : Array Value} {below : List Frame} {meth : Method} {c : Code} {G : gG} {h0 : Nat} {ad : Nat → Nat} {K17 : Int32 → Int32 → Int32 → MS → Prop} {post : Int64 → MS → Prop} (X : mX G h0 ad p s m args c cX1_sideTells) (hml : c.maxLocals = 5) (hr : meth.sig.returnType = (some .long)) (hlk : meth.locks = false) (hK17 : ∀ (x1 : Int32) (x2 : Int32) (x3 : Int32) (S : MS) (H : Heap) (locs : List Loc) (ls : Array Slot), K17 x1 x2 x3 S → mH G h0 ad s S H locs → lv_has ls 5 [(0, .ref h0), (1, .int x1), (2, .int x2), (3, .int x3)] → W p l e ⟨2, 0, 0, 52⟩ s m args below meth c H locs 0 0 (MQ below (gQ vL post (mBw G h0 ad) (mAd h0 ad)) args s 0 0 (mAd h0 ad)) (F0 m 17 ls [])) : ∀ (x1 : Int32) (x2 : Int32) (x3 : Int32) (S : MS) (H : Heap) (locs : List Loc) (ls : Array Slot), wX1_sideTells_206 K17 post x1 x2 x3 S → mH G h0 ad s S H locs → lv_has ls 5 [(0, .ref h0), (1, .int x1), (2, .int x2), (3, .int x3)] → W p l e ⟨2, 0, 0, 52⟩ s m args below meth c H locs 0 0 (MQ below (gQ vL post (mBw G h0 ad) (mAd h0 ad)) args s 0 0 (mAd h0 ad)) (F0 m 206 ls []) := by
  have hx := X.1
  have hb := X.2.1
  have hown := X.2.2.1
  have hts := X.2.2.2.1
  intro x1 x2 x3 S H locs ls h hw hl
  unfold wX1_sideTells_206 at h
  refine lv_iinc (pc := 206) (v := x3 + (1 : Int32)) (lv' := [(3, .int (x3 + (1 : Int32))), (0, .ref h0), (1, .int x1), (2, .int x2)]) hx hb dX1_sideTells_206 hl (k := 3) rfl rfl (by decide) rfl (fun ls hl => ?_)
  refine lv_goto (pc := 209) (tgt := 17) hx hb dX1_sideTells_209 rfl ?_
  exact hK17 _ _ _ _ _ _ _ h hw (lv_sub hl [1, 2, 3, 0] rfl)
theorem kX1_sideTells_78 {p : Program} {l : Launch} {e : Env} {s : State} {m : MethodId} {args : Array Value} {below : List Frame} {meth : Method} {c : Code} {G : gG} {h0 : Nat} {ad : Nat → Nat} {K17 : Int32 → Int32 → Int32 → MS → Prop} {post : Int64 → MS → Prop} (X : mX G h0 ad p s m args c cX1_sideTells) (hml : c.maxLocals = 5) (hr : meth.sig.returnType = (some .long)) (hlk : meth.locks = false) (hK17 : ∀ (x1 : Int32) (x2 : Int32) (x3 : Int32) (S : MS) (H : Heap) (locs : List Loc) (ls : Array Slot), K17 x1 x2 x3 S → mH G h0 ad s S H locs → lv_has ls 5 [(0, .ref h0), (1, .int x1), (2, .int x2), (3, .int x3)] → W p l e ⟨2, 0, 0, 52⟩ s m args below meth c H locs 0 0 (MQ below (gQ vL post (mBw G h0 ad) (mAd h0 ad)) args s 0 0 (mAd h0 ad)) (F0 m 17 ls [])) : ∀ (x1 : Int32) (x2 : Int32) (x3 : Int32) (v0 : Int64) (v1 : Int32) (S : MS) (H : Heap) (locs : List Loc) (ls : Array Slot), wX1_sideTells_78 K17 post x1 x2 x3 v0 v1 S → mH G h0 ad s S H locs → lv_has ls 5 [(0, .ref h0), (1, .int x1), (2, .int x2), (3, .int x3)] → W p l e ⟨2, 0, 0, 52⟩ s m args below meth c H locs 0 0 (MQ below (gQ vL post (mBw G h0 ad) (mAd h0 ad)) args s 0 0 (mAd h0 ad)) (F0 m 78 ls [.long v0, .int v1, .ref (ad 43)]) := by
  have hx := X.1
  have hb := X.2.1
  have hown := X.2.2.1
  have hts := X.2.2.2.1
  intro x1 x2 x3 v0 v1 S H locs ls h hw hl
  unfold wX1_sideTells_78 at h
  obtain ⟨hi, h⟩ := h
  refine ms43 (pc := 78) X hw hi dX1_sideTells_78 (fun H locs hw => ?_)
  refine lv_iinc (pc := 79) (v := x2 + (1 : Int32)) (lv' := [(2, .int (x2 + (1 : Int32))), (0, .ref h0), (1, .int x1), (3, .int x3)]) hx hb dX1_sideTells_79 hl (k := 2) rfl rfl (by decide) rfl (fun ls hl => ?_)
  refine lv_goto (pc := 82) (tgt := 206) hx hb dX1_sideTells_82 rfl ?_
  exact kX1_sideTells_206 X hml hr hlk hK17 _ _ _ _ _ _ _ h hw (lv_sub hl [1, 2, 0, 3] rfl)
theorem kX1_sideTells_46 {p : Program} {l : Launch} {e : Env} {s : State} {m : MethodId} {args : Array Value} {below : List Frame} {meth : Method} {c : Code} {G : gG} {h0 : Nat} {ad : Nat → Nat} {K17 : Int32 → Int32 → Int32 → MS → Prop} {post : Int64 → MS → Prop} (X : mX G h0 ad p s m args c cX1_sideTells) (hml : c.maxLocals = 5) (hr : meth.sig.returnType = (some .long)) (hlk : meth.locks = false) (hK17 : ∀ (x1 : Int32) (x2 : Int32) (x3 : Int32) (S : MS) (H : Heap) (locs : List Loc) (ls : Array Slot), K17 x1 x2 x3 S → mH G h0 ad s S H locs → lv_has ls 5 [(0, .ref h0), (1, .int x1), (2, .int x2), (3, .int x3)] → W p l e ⟨2, 0, 0, 52⟩ s m args below meth c H locs 0 0 (MQ below (gQ vL post (mBw G h0 ad) (mAd h0 ad)) args s 0 0 (mAd h0 ad)) (F0 m 17 ls [])) : ∀ (x1 : Int32) (x2 : Int32) (x3 : Int32) (x4 : Int32) (S : MS) (H : Heap) (locs : List Loc) (ls : Array Slot), wX1_sideTells_46 K17 post x1 x2 x3 x4 S → mH G h0 ad s S H locs → lv_has ls 5 [(0, .ref h0), (1, .int x1), (2, .int x2), (3, .int x3), (4, .int x4)] → W p l e ⟨2, 0, 0, 52⟩ s m args below meth c H locs 0 0 (MQ below (gQ vL post (mBw G h0 ad) (mAd h0 ad)) args s 0 0 (mAd h0 ad)) (F0 m 46 ls []) := by
  have hx := X.1
  have hb := X.2.1
  have hown := X.2.2.1
  have hts := X.2.2.2.1
  intro x1 x2 x3 x4 S H locs ls h hw hl
  unfold wX1_sideTells_46 at h
  refine lv_aload_n (pc := 46) hx hb dX1_sideTells_46 rfl (lv_at hl 0 rfl) ?_
  refine mg43 (pc := 47) X hw dX1_sideTells_47 ?_
  refine lv_iload_n (pc := 50) hx hb dX1_sideTells_50 rfl (lv_at hl 2 rfl) ?_
  refine lv_iload (pc := 51) hx hb dX1_sideTells_51 (lv_at hl 4 rfl) ?_
  refine lv_if_ne (pc := 53) (tgt := 66) hx hb dX1_sideTells_53 rfl (fun c4 => ?_) (fun c4 => ?_)
  · have h := h.2 c4
    refine lv_aload_n (pc := 66) hx hb dX1_sideTells_66 rfl (lv_at hl 0 rfl) ?_
    refine mg42 (pc := 67) X hw dX1_sideTells_67 ?_
    refine lv_aload_n (pc := 70) hx hb dX1_sideTells_70 rfl (lv_at hl 0 rfl) ?_
    refine mg33 (pc := 71) X hw dX1_sideTells_71 ?_
    refine lv_iload_n (pc := 74) hx hb dX1_sideTells_74 rfl (lv_at hl 3 rfl) ?_
    obtain ⟨hi, h⟩ := h
    refine ma33 (pc := 75) X hw hi dX1_sideTells_75 ?_
    obtain ⟨hi, h⟩ := h
    refine ma42 (pc := 76) X hw hi dX1_sideTells_76 ?_
    refine lv_i2l (pc := 77) hx hb dX1_sideTells_77 rfl ?_
    exact kX1_sideTells_78 X hml hr hlk hK17 _ _ _ _ _ _ _ _ _ h hw (lv_sub hl [0, 1, 2, 3] rfl)
  · have h := h.1 c4
    refine lv_aload_n (pc := 56) hx hb dX1_sideTells_56 rfl (lv_at hl 0 rfl) ?_
    refine mg33 (pc := 57) X hw dX1_sideTells_57 ?_
    refine lv_iload_n (pc := 60) hx hb dX1_sideTells_60 rfl (lv_at hl 3 rfl) ?_
    obtain ⟨hi, h⟩ := h
    refine ma33 (pc := 61) X hw hi dX1_sideTells_61 ?_
    refine lv_i2l (pc := 62) hx hb dX1_sideTells_62 rfl ?_
    refine lv_goto (pc := 63) (tgt := 78) hx hb dX1_sideTells_63 rfl ?_
    exact kX1_sideTells_78 X hml hr hlk hK17 _ _ _ _ _ _ _ _ _ h hw (lv_sub hl [0, 1, 2, 3] rfl)
theorem kX1_sideTells_205 {p : Program} {l : Launch} {e : Env} {s : State} {m : MethodId} {args : Array Value} {below : List Frame} {meth : Method} {c : Code} {G : gG} {h0 : Nat} {ad : Nat → Nat} {K17 : Int32 → Int32 → Int32 → MS → Prop} {post : Int64 → MS → Prop} (X : mX G h0 ad p s m args c cX1_sideTells) (hml : c.maxLocals = 5) (hr : meth.sig.returnType = (some .long)) (hlk : meth.locks = false) (hK17 : ∀ (x1 : Int32) (x2 : Int32) (x3 : Int32) (S : MS) (H : Heap) (locs : List Loc) (ls : Array Slot), K17 x1 x2 x3 S → mH G h0 ad s S H locs → lv_has ls 5 [(0, .ref h0), (1, .int x1), (2, .int x2), (3, .int x3)] → W p l e ⟨2, 0, 0, 52⟩ s m args below meth c H locs 0 0 (MQ below (gQ vL post (mBw G h0 ad) (mAd h0 ad)) args s 0 0 (mAd h0 ad)) (F0 m 17 ls [])) : ∀ (x1 : Int32) (x2 : Int32) (x3 : Int32) (v0 : Int64) (v1 : Int32) (S : MS) (H : Heap) (locs : List Loc) (ls : Array Slot), wX1_sideTells_205 K17 post x1 x2 x3 v0 v1 S → mH G h0 ad s S H locs → lv_has ls 5 [(0, .ref h0), (1, .int x1), (2, .int x2), (3, .int x3)] → W p l e ⟨2, 0, 0, 52⟩ s m args below meth c H locs 0 0 (MQ below (gQ vL post (mBw G h0 ad) (mAd h0 ad)) args s 0 0 (mAd h0 ad)) (F0 m 205 ls [.long v0, .int v1, .ref (ad 43)]) := by
  have hx := X.1
  have hb := X.2.1
  have hown := X.2.2.1
  have hts := X.2.2.2.1
  intro x1 x2 x3 v0 v1 S H locs ls h hw hl
  unfold wX1_sideTells_205 at h
  obtain ⟨hi, h⟩ := h
  refine ms43 (pc := 205) X hw hi dX1_sideTells_205 (fun H locs hw => ?_)
  exact kX1_sideTells_206 X hml hr hlk hK17 _ _ _ _ _ _ _ h hw (lv_sub hl [0, 1, 2, 3] rfl)
theorem kX1_sideTells_17 {p : Program} {l : Launch} {e : Env} {s : State} {m : MethodId} {args : Array Value} {below : List Frame} {meth : Method} {c : Code} {G : gG} {h0 : Nat} {ad : Nat → Nat} {post : Int64 → MS → Prop} (X : mX G h0 ad p s m args c cX1_sideTells) (hml : c.maxLocals = 5) (hr : meth.sig.returnType = (some .long)) (hlk : meth.locks = false) : ∀ (n : Nat) (x1 : Int32) (x2 : Int32) (x3 : Int32) (S : MS) (H : Heap) (locs : List Loc) (ls : Array Slot), wX1_sideTells_17 post n x1 x2 x3 S → mH G h0 ad s S H locs → lv_has ls 5 [(0, .ref h0), (1, .int x1), (2, .int x2), (3, .int x3)] → W p l e ⟨2, 0, 0, 52⟩ s m args below meth c H locs 0 0 (MQ below (gQ vL post (mBw G h0 ad) (mAd h0 ad)) args s 0 0 (mAd h0 ad)) (F0 m 17 ls []) := by
  have hx := X.1
  have hb := X.2.1
  have hown := X.2.2.1
  have hts := X.2.2.2.1
  intro n
  induction n with
  | zero =>
    intro x1 x2 x3 S H locs ls h
    exact False.elim h
  | succ n ih =>
    intro x1 x2 x3 S H locs ls h hw hl
    unfold wX1_sideTells_17 at h
    refine lv_iload_n (pc := 17) hx hb dX1_sideTells_17 rfl (lv_at hl 3 rfl) ?_
    refine lv_aload_n (pc := 18) hx hb dX1_sideTells_18 rfl (lv_at hl 0 rfl) ?_
    refine mg35 (pc := 19) X hw dX1_sideTells_19 ?_
    refine lv_iload_n (pc := 22) hx hb dX1_sideTells_22 rfl (lv_at hl 1 rfl) ?_
    obtain ⟨hi, h⟩ := h
    refine ma35 (pc := 23) X hw hi dX1_sideTells_23 ?_
    refine lv_icmp_ge (pc := 24) (tgt := 212) hx hb dX1_sideTells_24 rfl (fun c2 => ?_) (fun c2 => ?_)
    · have h := h.1 c2
      refine lv_aload_n (pc := 212) hx hb dX1_sideTells_212 rfl (lv_at hl 0 rfl) ?_
      refine mg43 (pc := 213) X hw dX1_sideTells_213 ?_
      refine lv_iconst (pc := 216) (v := (0 : Int32)) hx hb dX1_sideTells_216 (by decide) ?_
      obtain ⟨hi, h⟩ := h
      refine ma43 (pc := 217) X hw hi dX1_sideTells_217 ?_
      exact W.lret (pc := 218) hx hb hr (fun t ht hW => m_ret (val := vL) hw h ht) hw.2.2.2 dX1_sideTells_218 hlk
    · have h := h.2 c2
      refine lv_aload_n (pc := 27) hx hb dX1_sideTells_27 rfl (lv_at hl 0 rfl) ?_
      refine mg34 (pc := 28) X hw dX1_sideTells_28 ?_
      refine lv_iload_n (pc := 31) hx hb dX1_sideTells_31 rfl (lv_at hl 3 rfl) ?_
      obtain ⟨hi, h⟩ := h
      refine ma34 (pc := 32) X hw hi dX1_sideTells_32 ?_
      refine lv_istore (pc := 33) (lv' := [(4, .int (S.2.2.1 34 x3.toNatClampNeg)), (0, .ref h0), (1, .int x1), (2, .int x2), (3, .int x3)]) hx hb dX1_sideTells_33 hl (by decide) rfl (fun ls hl => ?_)
      refine lv_iload (pc := 35) hx hb dX1_sideTells_35 (lv_at hl 0 rfl) ?_
      refine lv_if_eq (pc := 37) (tgt := 46) hx hb dX1_sideTells_37 rfl (fun c3 => ?_) (fun c3 => ?_)
      · have h := h.1 c3
        exact kX1_sideTells_46 X hml hr hlk ih _ _ _ _ _ _ _ _ h hw (lv_sub hl [1, 2, 3, 4, 0] rfl)
      · have h := h.2 c3
        refine lv_iload (pc := 40) hx hb dX1_sideTells_40 (lv_at hl 0 rfl) ?_
        refine lv_iconst (pc := 42) (v := (1 : Int32)) hx hb dX1_sideTells_42 (by decide) ?_
        refine lv_icmp_ne (pc := 43) (tgt := 85) hx hb dX1_sideTells_43 rfl (fun c5 => ?_) (fun c5 => ?_)
        · have h := h.2 c5
          refine lv_iload (pc := 85) hx hb dX1_sideTells_85 (lv_at hl 0 rfl) ?_
          refine lv_bipush (pc := 87) (v := (94 : Int32)) hx hb dX1_sideTells_87 (by decide) ?_
          refine lv_icmp_ne (pc := 89) (tgt := 121) hx hb dX1_sideTells_89 rfl (fun c6 => ?_) (fun c6 => ?_)
          · have h := h.2 c6
            refine lv_iinc (pc := 121) (v := x2 + (-1 : Int32)) (lv' := [(2, .int (x2 + (-1 : Int32))), (4, .int (S.2.2.1 34 x3.toNatClampNeg)), (0, .ref h0), (1, .int x1), (3, .int x3)]) hx hb dX1_sideTells_121 hl (k := 3) rfl rfl (by decide) rfl (fun ls hl => ?_)
            refine lv_aload_n (pc := 124) hx hb dX1_sideTells_124 rfl (lv_at hl 2 rfl) ?_
            refine mg43 (pc := 125) X hw dX1_sideTells_125 ?_
            refine lv_iload_n (pc := 128) hx hb dX1_sideTells_128 rfl (lv_at hl 0 rfl) ?_
            refine lv_iconst (pc := 129) (v := (1 : Int32)) hx hb dX1_sideTells_129 (by decide) ?_
            refine lv_isub (pc := 130) hx hb dX1_sideTells_130 ?_
            refine lv_iload (pc := 131) hx hb dX1_sideTells_131 (lv_at hl 1 rfl) ?_
            refine lv_bipush (pc := 133) (v := (43 : Int32)) hx hb dX1_sideTells_133 (by decide) ?_
            refine lv_icmp_ne (pc := 135) (tgt := 159) hx hb dX1_sideTells_135 rfl (fun c7 => ?_) (fun c7 => ?_)
            · have h := h.2 c7
              refine lv_iload (pc := 159) hx hb dX1_sideTells_159 (lv_at hl 1 rfl) ?_
              refine lv_bipush (pc := 161) (v := (45 : Int32)) hx hb dX1_sideTells_161 (by decide) ?_
              refine lv_icmp_ne (pc := 163) (tgt := 187) hx hb dX1_sideTells_163 rfl (fun c8 => ?_) (fun c8 => ?_)
              · have h := h.2 c8
                refine lv_aload_n (pc := 187) hx hb dX1_sideTells_187 rfl (lv_at hl 2 rfl) ?_
                refine lv_aload_n (pc := 188) hx hb dX1_sideTells_188 rfl (lv_at hl 2 rfl) ?_
                refine mg43 (pc := 189) X hw dX1_sideTells_189 ?_
                refine lv_iload_n (pc := 192) hx hb dX1_sideTells_192 rfl (lv_at hl 0 rfl) ?_
                refine lv_iconst (pc := 193) (v := (1 : Int32)) hx hb dX1_sideTells_193 (by decide) ?_
                refine lv_isub (pc := 194) hx hb dX1_sideTells_194 ?_
                obtain ⟨hi, h⟩ := h
                refine ma43 (pc := 195) X hw hi dX1_sideTells_195 ?_
                refine lv_aload_n (pc := 196) hx hb dX1_sideTells_196 rfl (lv_at hl 2 rfl) ?_
                refine mg43 (pc := 197) X hw dX1_sideTells_197 ?_
                refine lv_iload_n (pc := 200) hx hb dX1_sideTells_200 rfl (lv_at hl 0 rfl) ?_
                obtain ⟨hi, h⟩ := h
                refine ma43 (pc := 201) X hw hi dX1_sideTells_201 ?_
                refine uX1_times (pc := 202) X hml hw h ⟨Nat.le_of_ble_eq_true rfl, Nat.le_of_ble_eq_true rfl⟩ hl.1 (Nat.le_of_ble_eq_true rfl) ⟨Nat.le_refl _, Nat.le_refl _⟩ dX1_sideTells_202 (fun r9 S10 H locs h hw => ?_)
                exact kX1_sideTells_205 X hml hr hlk ih _ _ _ _ _ _ _ _ _ h hw (lv_sub hl [2, 3, 0, 4] rfl)
              · have h := h.1 c8
                refine lv_aload_n (pc := 166) hx hb dX1_sideTells_166 rfl (lv_at hl 2 rfl) ?_
                refine lv_aload_n (pc := 167) hx hb dX1_sideTells_167 rfl (lv_at hl 2 rfl) ?_
                refine mg43 (pc := 168) X hw dX1_sideTells_168 ?_
                refine lv_iload_n (pc := 171) hx hb dX1_sideTells_171 rfl (lv_at hl 0 rfl) ?_
                refine lv_iconst (pc := 172) (v := (1 : Int32)) hx hb dX1_sideTells_172 (by decide) ?_
                refine lv_isub (pc := 173) hx hb dX1_sideTells_173 ?_
                obtain ⟨hi, h⟩ := h
                refine ma43 (pc := 174) X hw hi dX1_sideTells_174 ?_
                refine lv_aload_n (pc := 175) hx hb dX1_sideTells_175 rfl (lv_at hl 2 rfl) ?_
                refine mg43 (pc := 176) X hw dX1_sideTells_176 ?_
                refine lv_iload_n (pc := 179) hx hb dX1_sideTells_179 rfl (lv_at hl 0 rfl) ?_
                obtain ⟨hi, h⟩ := h
                refine ma43 (pc := 180) X hw hi dX1_sideTells_180 ?_
                refine uX1_minus (pc := 181) X hml hw h ⟨Nat.le_of_ble_eq_true rfl, Nat.le_of_ble_eq_true rfl⟩ hl.1 (Nat.le_of_ble_eq_true rfl) ⟨Nat.le_refl _, Nat.le_refl _⟩ dX1_sideTells_181 (fun r11 S12 H locs h hw => ?_)
                refine lv_goto (pc := 184) (tgt := 205) hx hb dX1_sideTells_184 rfl ?_
                exact kX1_sideTells_205 X hml hr hlk ih _ _ _ _ _ _ _ _ _ h hw (lv_sub hl [2, 3, 0, 4] rfl)
            · have h := h.1 c7
              refine lv_aload_n (pc := 138) hx hb dX1_sideTells_138 rfl (lv_at hl 2 rfl) ?_
              refine lv_aload_n (pc := 139) hx hb dX1_sideTells_139 rfl (lv_at hl 2 rfl) ?_
              refine mg43 (pc := 140) X hw dX1_sideTells_140 ?_
              refine lv_iload_n (pc := 143) hx hb dX1_sideTells_143 rfl (lv_at hl 0 rfl) ?_
              refine lv_iconst (pc := 144) (v := (1 : Int32)) hx hb dX1_sideTells_144 (by decide) ?_
              refine lv_isub (pc := 145) hx hb dX1_sideTells_145 ?_
              obtain ⟨hi, h⟩ := h
              refine ma43 (pc := 146) X hw hi dX1_sideTells_146 ?_
              refine lv_aload_n (pc := 147) hx hb dX1_sideTells_147 rfl (lv_at hl 2 rfl) ?_
              refine mg43 (pc := 148) X hw dX1_sideTells_148 ?_
              refine lv_iload_n (pc := 151) hx hb dX1_sideTells_151 rfl (lv_at hl 0 rfl) ?_
              obtain ⟨hi, h⟩ := h
              refine ma43 (pc := 152) X hw hi dX1_sideTells_152 ?_
              refine uX1_plus (pc := 153) X hml hw h ⟨Nat.le_of_ble_eq_true rfl, Nat.le_of_ble_eq_true rfl⟩ hl.1 (Nat.le_of_ble_eq_true rfl) ⟨Nat.le_refl _, Nat.le_refl _⟩ dX1_sideTells_153 (fun r13 S14 H locs h hw => ?_)
              refine lv_goto (pc := 156) (tgt := 205) hx hb dX1_sideTells_156 rfl ?_
              exact kX1_sideTells_205 X hml hr hlk ih _ _ _ _ _ _ _ _ _ h hw (lv_sub hl [2, 3, 0, 4] rfl)
          · have h := h.1 c6
            refine lv_aload_n (pc := 92) hx hb dX1_sideTells_92 rfl (lv_at hl 1 rfl) ?_
            refine mg43 (pc := 93) X hw dX1_sideTells_93 ?_
            refine lv_iload_n (pc := 96) hx hb dX1_sideTells_96 rfl (lv_at hl 3 rfl) ?_
            refine lv_iconst (pc := 97) (v := (1 : Int32)) hx hb dX1_sideTells_97 (by decide) ?_
            refine lv_isub (pc := 98) hx hb dX1_sideTells_98 ?_
            refine lv_aload_n (pc := 99) hx hb dX1_sideTells_99 rfl (lv_at hl 1 rfl) ?_
            refine lv_aload_n (pc := 100) hx hb dX1_sideTells_100 rfl (lv_at hl 1 rfl) ?_
            refine mg43 (pc := 101) X hw dX1_sideTells_101 ?_
            refine lv_iload_n (pc := 104) hx hb dX1_sideTells_104 rfl (lv_at hl 3 rfl) ?_
            refine lv_iconst (pc := 105) (v := (1 : Int32)) hx hb dX1_sideTells_105 (by decide) ?_
            refine lv_isub (pc := 106) hx hb dX1_sideTells_106 ?_
            obtain ⟨hi, h⟩ := h
            refine ma43 (pc := 107) X hw hi dX1_sideTells_107 ?_
            refine lv_aload_n (pc := 108) hx hb dX1_sideTells_108 rfl (lv_at hl 1 rfl) ?_
            refine mg33 (pc := 109) X hw dX1_sideTells_109 ?_
            refine lv_iload_n (pc := 112) hx hb dX1_sideTells_112 rfl (lv_at hl 4 rfl) ?_
            obtain ⟨hi, h⟩ := h
            refine ma33 (pc := 113) X hw hi dX1_sideTells_113 ?_
            refine uX1_raised (pc := 114) X hml hw h ⟨Nat.le_of_ble_eq_true rfl, Nat.le_of_ble_eq_true rfl⟩ hl.1 (Nat.le_of_ble_eq_true rfl) ⟨Nat.le_refl _, Nat.le_refl _⟩ dX1_sideTells_114 (fun r15 S16 H locs h hw => ?_)
            obtain ⟨hi, h⟩ := h
            refine ms43 (pc := 117) X hw hi dX1_sideTells_117 (fun H locs hw => ?_)
            refine lv_goto (pc := 118) (tgt := 206) hx hb dX1_sideTells_118 rfl ?_
            exact kX1_sideTells_206 X hml hr hlk ih _ _ _ _ _ _ _ h hw (lv_sub hl [1, 2, 3, 4] rfl)
        · have h := h.1 c5
          exact kX1_sideTells_46 X hml hr hlk ih _ _ _ _ _ _ _ _ h hw (lv_sub hl [1, 2, 3, 4, 0] rfl)
theorem kX1_sideTells_16 {p : Program} {l : Launch} {e : Env} {s : State} {m : MethodId} {args : Array Value} {below : List Frame} {meth : Method} {c : Code} {G : gG} {h0 : Nat} {ad : Nat → Nat} {post : Int64 → MS → Prop} (X : mX G h0 ad p s m args c cX1_sideTells) (hml : c.maxLocals = 5) (hr : meth.sig.returnType = (some .long)) (hlk : meth.locks = false) : ∀ (x1 : Int32) (x2 : Int32) (v0 : Int32) (S : MS) (H : Heap) (locs : List Loc) (ls : Array Slot), wX1_sideTells_16 post x1 x2 v0 S → mH G h0 ad s S H locs → lv_has ls 5 [(0, .ref h0), (1, .int x1), (2, .int x2)] → W p l e ⟨2, 0, 0, 52⟩ s m args below meth c H locs 0 0 (MQ below (gQ vL post (mBw G h0 ad) (mAd h0 ad)) args s 0 0 (mAd h0 ad)) (F0 m 16 ls [.int v0]) := by
  have hx := X.1
  have hb := X.2.1
  have hown := X.2.2.1
  have hts := X.2.2.2.1
  intro x1 x2 v0 S H locs ls h hw hl
  unfold wX1_sideTells_16 at h
  refine lv_istore_n (pc := 16) (lv' := [(3, .int v0), (0, .ref h0), (1, .int x1), (2, .int x2)]) hx hb dX1_sideTells_16 rfl hl (by decide) rfl (fun ls hl => ?_)
  obtain ⟨k, h⟩ := h
  exact kX1_sideTells_17 X hml hr hlk  k _ _ _ _ _ _ _ h hw (lv_sub hl [1, 2, 3, 0] rfl)
theorem tX1_sideTells {l : Launch} {G : gG} {h0 : Nat} {ad : Nat → Nat} (hd : mOk G h0 ad) {post : Int64 → MS → Prop} {S : MS} {x1 : Int32} (h : wX1_sideTells post S x1) : Met l yX1_sideTells (ws_ yX1_sideTells cX1_sideTells 5 (some .long)) ⟨2, 0, 0, 52⟩ (va_Pc (.ref h0 :: [.int x1]) (fun U => mBw G h0 ad S U.heap ∧ gK G U)) (gQ vL post (mBw G h0 ad) (mAd h0 ad)) 0 0 (mAd h0 ad) := by
  refine m_ofW (by decide) rfl hd (Nat.le_of_ble_eq_true rfl) (fun p e s m below meth c ls X hml hr hlk hw hl => ?_)
  have hl : lv_has ls 5 [(0, .ref h0), (1, .int x1)] := hl
  have hx := X.1
  have hb := X.2.1
  have hown := X.2.2.1
  have hts := X.2.2.2.1
  unfold wX1_sideTells at h
  refine lv_iconst (pc := 0) (v := (0 : Int32)) hx hb dX1_sideTells_0 (by decide) ?_
  refine lv_istore_n (pc := 1) (lv' := [(2, .int (0 : Int32)), (0, .ref h0), (1, .int x1)]) hx hb dX1_sideTells_1 rfl hl (by decide) rfl (fun ls hl => ?_)
  refine lv_iload_n (pc := 2) hx hb dX1_sideTells_2 rfl (lv_at hl 2 rfl) ?_
  refine lv_if_ne (pc := 3) (tgt := 10) hx hb dX1_sideTells_3 rfl (fun c1 => ?_) (fun c1 => ?_)
  · have h := h.2 c1
    refine lv_aload_n (pc := 10) hx hb dX1_sideTells_10 rfl (lv_at hl 1 rfl) ?_
    refine mg35 (pc := 11) X hw dX1_sideTells_11 ?_
    refine lv_iconst (pc := 14) (v := (0 : Int32)) hx hb dX1_sideTells_14 (by decide) ?_
    obtain ⟨hi, h⟩ := h
    refine ma35 (pc := 15) X hw hi dX1_sideTells_15 ?_
    exact kX1_sideTells_16 X hml hr hlk  _ _ _ _ _ _ _ h hw (lv_sub hl [1, 2, 0] rfl)
  · have h := h.1 c1
    refine lv_iconst (pc := 6) (v := (0 : Int32)) hx hb dX1_sideTells_6 (by decide) ?_
    refine lv_goto (pc := 7) (tgt := 16) hx hb dX1_sideTells_7 rfl ?_
    exact kX1_sideTells_16 X hml hr hlk  _ _ _ _ _ _ _ h hw (lv_sub hl [1, 2, 0] rfl)
theorem uX1_sideTells {p : Program} {l : Launch} {e : Env} {R : Room} {s : State} {m : MethodId} {args : Array Value} {below : List Frame} {meth : Method} {c : Code} {H : Heap} {locs : List Loc} {cells slots : Nat} {Q : Jvm.State → Prop} {cc : ByteArray} {pc : Nat} {ls : Array Slot} {rest : List Value} {G : gG} {h0 : Nat} {ad : Nat → Nat} {post : Int64 → MS → Prop} {S : MS} {x1 : Int32} {nL : Nat} (X : mX G h0 ad p s m args c cc) (hml : c.maxLocals = nL) (hw : mH G h0 ad s S H locs) (h : wX1_sideTells post S x1) (hR : 2 + 1 ≤ R.frames ∧ 8 + (5 + 11) + 52 ≤ R.locals) (hsz : ls.size = nL) (hr : (rest.map fun v => v.category).sum ≤ 8) (hc : cells ≤ R.cells ∧ slots ≤ R.slots) (d : decode cc pc = .ok (.invokevirtual 398, 3)) (kk : ∀ (r : Int64) (S1 : MS) (H1 : Heap) (locs1 : List Loc), post r S1 → mH G h0 ad s S1 H1 locs1 → W p l e R s m args below meth c H1 locs1 cells slots Q (F0 m (pc + 3) ls (.long r :: rest))) : W p l e R s m args below meth c H locs cells slots Q (F0 m pc ls (.int x1 :: .ref h0 :: rest)) :=
  m_call (val := vL) (post := post) (As := [.int x1]) X hml hw (tX1_sideTells X.2.2.2.2.2.1 h) (lw_V q2369 q2371 qs88 q105 q2372) ⟨rfl, by decide, by decide, (by decide +kernel : (parseMethodDescriptor yX1_sideTells.desc).map (fun d => d.parameters.length) = some 1)⟩ hR hsz hr hc d rfl kk

def wX1_side (post : Int64 → MS → Prop) (S : MS) (x1 : Int32) (x2 : Int32) (x3 : Int32) (x4 : Int32) (x5 : Int32) (x6 : Int32) (x7 : Int32) : Prop :=
  (((S.1 41) = (0 : Int32)) → (post (-9223372036854775808 : Int64) S)) ∧ (¬ ((S.1 41) = (0 : Int32)) → (wX1_isIn (fun r2 => ((r2 = (0 : Int32)) → (post (-9223372036854775808 : Int64) S)) ∧ (¬ (r2 = (0 : Int32)) → (wX1_isIn (fun r4 => ((r4 = (0 : Int32)) → (post (-9223372036854775808 : Int64) S)) ∧ (¬ (r4 = (0 : Int32)) → (wX1_isIn (fun r6 => ((r6 = (0 : Int32)) → (post (-9223372036854775808 : Int64) S)) ∧ (¬ (r6 = (0 : Int32)) → (wX1_isIn (fun r8 => ((r8 = (0 : Int32)) → (post (-9223372036854775808 : Int64) S)) ∧ (¬ (r8 = (0 : Int32)) → (wX1_isIn (fun r10 => ((r10 = (0 : Int32)) → (post (-9223372036854775808 : Int64) S)) ∧ (¬ (r10 = (0 : Int32)) → (wX1_isIn (fun r12 => ((r12 = (0 : Int32)) → (post (-9223372036854775808 : Int64) S)) ∧ (¬ (r12 = (0 : Int32)) → (wX1_isIn (fun r14 => ((r14 = (0 : Int32)) → (post (-9223372036854775808 : Int64) S)) ∧ (¬ (r14 = (0 : Int32)) → (vp_in (0 : Int32) 6 ∧ (vp_in (1 : Int32) 6 ∧ (vp_in (2 : Int32) 6 ∧ (vp_in (3 : Int32) 6 ∧ (vp_in (4 : Int32) 6 ∧ (vp_in (5 : Int32) 6 ∧ (wX1_sideTells (fun r16 S17 => (((S17.1 44) = (0 : Int32)) → (post r16 S17)) ∧ (¬ ((S17.1 44) = (0 : Int32)) → (post (-9223372036854775808 : Int64) S17))) (mI (mA (mA (mA (mA (mA (mA S 42 (upd (S.2.2.1 42) (0 : Int32).toNatClampNeg x2)) 42 (upd (upd (S.2.2.1 42) (0 : Int32).toNatClampNeg x2) (1 : Int32).toNatClampNeg x3)) 42 (upd (upd (upd (S.2.2.1 42) (0 : Int32).toNatClampNeg x2) (1 : Int32).toNatClampNeg x3) (2 : Int32).toNatClampNeg x4)) 42 (upd (upd (upd (upd (S.2.2.1 42) (0 : Int32).toNatClampNeg x2) (1 : Int32).toNatClampNeg x3) (2 : Int32).toNatClampNeg x4) (3 : Int32).toNatClampNeg x5)) 42 (upd (upd (upd (upd (upd (S.2.2.1 42) (0 : Int32).toNatClampNeg x2) (1 : Int32).toNatClampNeg x3) (2 : Int32).toNatClampNeg x4) (3 : Int32).toNatClampNeg x5) (4 : Int32).toNatClampNeg x6)) 42 (upd (upd (upd (upd (upd (upd (S.2.2.1 42) (0 : Int32).toNatClampNeg x2) (1 : Int32).toNatClampNeg x3) (2 : Int32).toNatClampNeg x4) (3 : Int32).toNatClampNeg x5) (4 : Int32).toNatClampNeg x6) (5 : Int32).toNatClampNeg x7)) 44 (0 : Int32)) x1))))))))) x7.toInt64 (-9 : Int64) (9 : Int64)))) x6.toInt64 (-9 : Int64) (9 : Int64)))) x5.toInt64 (-9 : Int64) (9 : Int64)))) x4.toInt64 (-9 : Int64) (9 : Int64)))) x3.toInt64 (-9 : Int64) (9 : Int64)))) x2.toInt64 (-9 : Int64) (9 : Int64)))) x1.toInt64 (0 : Int64) (1 : Int64)))
theorem tX1_side {l : Launch} {G : gG} {h0 : Nat} {ad : Nat → Nat} (hd : mOk G h0 ad) {post : Int64 → MS → Prop} {S : MS} {x1 : Int32} {x2 : Int32} {x3 : Int32} {x4 : Int32} {x5 : Int32} {x6 : Int32} {x7 : Int32} (h : wX1_side post S x1 x2 x3 x4 x5 x6 x7) : Met l yX1_side (ws_ yX1_side cX1_side 10 (some .long)) ⟨3, 0, 0, 76⟩ (va_Pc (.ref h0 :: [.int x1, .int x2, .int x3, .int x4, .int x5, .int x6, .int x7]) (fun U => mBw G h0 ad S U.heap ∧ gK G U)) (gQ vL post (mBw G h0 ad) (mAd h0 ad)) 0 0 (mAd h0 ad) := by
  refine m_ofW (by decide) rfl hd (Nat.le_of_ble_eq_true rfl) (fun p e s m below meth c ls X hml hr hlk hw hl => ?_)
  have hl : lv_has ls 10 [(0, .ref h0), (1, .int x1), (2, .int x2), (3, .int x3), (4, .int x4), (5, .int x5), (6, .int x6), (7, .int x7)] := hl
  have hx := X.1
  have hb := X.2.1
  have hown := X.2.2.1
  have hts := X.2.2.2.1
  unfold wX1_side at h
  refine lv_aload_n (pc := 0) hx hb dX1_side_0 rfl (lv_at hl 0 rfl) ?_
  refine mg41 (pc := 1) X hw dX1_side_1 ?_
  refine lv_if_eq (pc := 4) (tgt := 105) hx hb dX1_side_4 rfl (fun c1 => ?_) (fun c1 => ?_)
  · have h := h.1 c1
    refine lv_ldc2 (pc := 105) hx hb hown (hts _ q2381) dX1_side_105 ?_
    exact W.lret (pc := 108) hx hb hr (fun t ht hW => m_ret (val := vL) hw h ht) hw.2.2.2 dX1_side_108 hlk
  · have h := h.2 c1
    refine lv_iload_n (pc := 7) hx hb dX1_side_7 rfl (lv_at hl 1 rfl) ?_
    refine lv_i2l (pc := 8) hx hb dX1_side_8 rfl ?_
    refine lv_lconst (pc := 9) (v := (0 : Int64)) hx hb dX1_side_9 (by decide) ?_
    refine lv_lconst (pc := 10) (v := (1 : Int64)) hx hb dX1_side_10 (by decide) ?_
    refine uX1_isIn (pc := 11) ⟨hx, hb, hml, hown, hts⟩ h ⟨Nat.le_of_ble_eq_true rfl, Nat.le_of_ble_eq_true rfl⟩ hl.1 (Nat.le_of_ble_eq_true rfl) ⟨Nat.le_refl _, Nat.le_refl _⟩ dX1_side_11 (fun r2 h => ?_)
    refine lv_if_eq (pc := 14) (tgt := 105) hx hb dX1_side_14 rfl (fun c3 => ?_) (fun c3 => ?_)
    · have h := h.1 c3
      refine lv_ldc2 (pc := 105) hx hb hown (hts _ q2381) dX1_side_105 ?_
      exact W.lret (pc := 108) hx hb hr (fun t ht hW => m_ret (val := vL) hw h ht) hw.2.2.2 dX1_side_108 hlk
    · have h := h.2 c3
      refine lv_iload_n (pc := 17) hx hb dX1_side_17 rfl (lv_at hl 2 rfl) ?_
      refine lv_i2l (pc := 18) hx hb dX1_side_18 rfl ?_
      refine lv_ldc2 (pc := 19) hx hb hown (hts _ q2401) dX1_side_19 ?_
      refine lv_ldc2 (pc := 22) hx hb hown (hts _ q2402) dX1_side_22 ?_
      refine uX1_isIn (pc := 25) ⟨hx, hb, hml, hown, hts⟩ h ⟨Nat.le_of_ble_eq_true rfl, Nat.le_of_ble_eq_true rfl⟩ hl.1 (Nat.le_of_ble_eq_true rfl) ⟨Nat.le_refl _, Nat.le_refl _⟩ dX1_side_25 (fun r4 h => ?_)
      refine lv_if_eq (pc := 28) (tgt := 105) hx hb dX1_side_28 rfl (fun c5 => ?_) (fun c5 => ?_)
      · have h := h.1 c5
        refine lv_ldc2 (pc := 105) hx hb hown (hts _ q2381) dX1_side_105 ?_
        exact W.lret (pc := 108) hx hb hr (fun t ht hW => m_ret (val := vL) hw h ht) hw.2.2.2 dX1_side_108 hlk
      · have h := h.2 c5
        refine lv_iload_n (pc := 31) hx hb dX1_side_31 rfl (lv_at hl 3 rfl) ?_
        refine lv_i2l (pc := 32) hx hb dX1_side_32 rfl ?_
        refine lv_ldc2 (pc := 33) hx hb hown (hts _ q2401) dX1_side_33 ?_
        refine lv_ldc2 (pc := 36) hx hb hown (hts _ q2402) dX1_side_36 ?_
        refine uX1_isIn (pc := 39) ⟨hx, hb, hml, hown, hts⟩ h ⟨Nat.le_of_ble_eq_true rfl, Nat.le_of_ble_eq_true rfl⟩ hl.1 (Nat.le_of_ble_eq_true rfl) ⟨Nat.le_refl _, Nat.le_refl _⟩ dX1_side_39 (fun r6 h => ?_)
        refine lv_if_eq (pc := 42) (tgt := 105) hx hb dX1_side_42 rfl (fun c7 => ?_) (fun c7 => ?_)
        · have h := h.1 c7
          refine lv_ldc2 (pc := 105) hx hb hown (hts _ q2381) dX1_side_105 ?_
          exact W.lret (pc := 108) hx hb hr (fun t ht hW => m_ret (val := vL) hw h ht) hw.2.2.2 dX1_side_108 hlk
        · have h := h.2 c7
          refine lv_iload (pc := 45) hx hb dX1_side_45 (lv_at hl 4 rfl) ?_
          refine lv_i2l (pc := 47) hx hb dX1_side_47 rfl ?_
          refine lv_ldc2 (pc := 48) hx hb hown (hts _ q2401) dX1_side_48 ?_
          refine lv_ldc2 (pc := 51) hx hb hown (hts _ q2402) dX1_side_51 ?_
          refine uX1_isIn (pc := 54) ⟨hx, hb, hml, hown, hts⟩ h ⟨Nat.le_of_ble_eq_true rfl, Nat.le_of_ble_eq_true rfl⟩ hl.1 (Nat.le_of_ble_eq_true rfl) ⟨Nat.le_refl _, Nat.le_refl _⟩ dX1_side_54 (fun r8 h => ?_)
          refine lv_if_eq (pc := 57) (tgt := 105) hx hb dX1_side_57 rfl (fun c9 => ?_) (fun c9 => ?_)
          · have h := h.1 c9
            refine lv_ldc2 (pc := 105) hx hb hown (hts _ q2381) dX1_side_105 ?_
            exact W.lret (pc := 108) hx hb hr (fun t ht hW => m_ret (val := vL) hw h ht) hw.2.2.2 dX1_side_108 hlk
          · have h := h.2 c9
            refine lv_iload (pc := 60) hx hb dX1_side_60 (lv_at hl 5 rfl) ?_
            refine lv_i2l (pc := 62) hx hb dX1_side_62 rfl ?_
            refine lv_ldc2 (pc := 63) hx hb hown (hts _ q2401) dX1_side_63 ?_
            refine lv_ldc2 (pc := 66) hx hb hown (hts _ q2402) dX1_side_66 ?_
            refine uX1_isIn (pc := 69) ⟨hx, hb, hml, hown, hts⟩ h ⟨Nat.le_of_ble_eq_true rfl, Nat.le_of_ble_eq_true rfl⟩ hl.1 (Nat.le_of_ble_eq_true rfl) ⟨Nat.le_refl _, Nat.le_refl _⟩ dX1_side_69 (fun r10 h => ?_)
            refine lv_if_eq (pc := 72) (tgt := 105) hx hb dX1_side_72 rfl (fun c11 => ?_) (fun c11 => ?_)
            · have h := h.1 c11
              refine lv_ldc2 (pc := 105) hx hb hown (hts _ q2381) dX1_side_105 ?_
              exact W.lret (pc := 108) hx hb hr (fun t ht hW => m_ret (val := vL) hw h ht) hw.2.2.2 dX1_side_108 hlk
            · have h := h.2 c11
              refine lv_iload (pc := 75) hx hb dX1_side_75 (lv_at hl 6 rfl) ?_
              refine lv_i2l (pc := 77) hx hb dX1_side_77 rfl ?_
              refine lv_ldc2 (pc := 78) hx hb hown (hts _ q2401) dX1_side_78 ?_
              refine lv_ldc2 (pc := 81) hx hb hown (hts _ q2402) dX1_side_81 ?_
              refine uX1_isIn (pc := 84) ⟨hx, hb, hml, hown, hts⟩ h ⟨Nat.le_of_ble_eq_true rfl, Nat.le_of_ble_eq_true rfl⟩ hl.1 (Nat.le_of_ble_eq_true rfl) ⟨Nat.le_refl _, Nat.le_refl _⟩ dX1_side_84 (fun r12 h => ?_)
              refine lv_if_eq (pc := 87) (tgt := 105) hx hb dX1_side_87 rfl (fun c13 => ?_) (fun c13 => ?_)
              · have h := h.1 c13
                refine lv_ldc2 (pc := 105) hx hb hown (hts _ q2381) dX1_side_105 ?_
                exact W.lret (pc := 108) hx hb hr (fun t ht hW => m_ret (val := vL) hw h ht) hw.2.2.2 dX1_side_108 hlk
              · have h := h.2 c13
                refine lv_iload (pc := 90) hx hb dX1_side_90 (lv_at hl 7 rfl) ?_
                refine lv_i2l (pc := 92) hx hb dX1_side_92 rfl ?_
                refine lv_ldc2 (pc := 93) hx hb hown (hts _ q2401) dX1_side_93 ?_
                refine lv_ldc2 (pc := 96) hx hb hown (hts _ q2402) dX1_side_96 ?_
                refine uX1_isIn (pc := 99) ⟨hx, hb, hml, hown, hts⟩ h ⟨Nat.le_of_ble_eq_true rfl, Nat.le_of_ble_eq_true rfl⟩ hl.1 (Nat.le_of_ble_eq_true rfl) ⟨Nat.le_refl _, Nat.le_refl _⟩ dX1_side_99 (fun r14 h => ?_)
                refine lv_if_ne (pc := 102) (tgt := 109) hx hb dX1_side_102 rfl (fun c15 => ?_) (fun c15 => ?_)
                · have h := h.2 c15
                  refine lv_aload_n (pc := 109) hx hb dX1_side_109 rfl (lv_at hl 0 rfl) ?_
                  refine mg42 (pc := 110) X hw dX1_side_110 ?_
                  refine lv_iconst (pc := 113) (v := (0 : Int32)) hx hb dX1_side_113 (by decide) ?_
                  refine lv_iload_n (pc := 114) hx hb dX1_side_114 rfl (lv_at hl 2 rfl) ?_
                  obtain ⟨hi, h⟩ := h
                  refine ms42 (pc := 115) X hw hi dX1_side_115 (fun H locs hw => ?_)
                  refine lv_aload_n (pc := 116) hx hb dX1_side_116 rfl (lv_at hl 0 rfl) ?_
                  refine mg42 (pc := 117) X hw dX1_side_117 ?_
                  refine lv_iconst (pc := 120) (v := (1 : Int32)) hx hb dX1_side_120 (by decide) ?_
                  refine lv_iload_n (pc := 121) hx hb dX1_side_121 rfl (lv_at hl 3 rfl) ?_
                  obtain ⟨hi, h⟩ := h
                  refine ms42 (pc := 122) X hw hi dX1_side_122 (fun H locs hw => ?_)
                  refine lv_aload_n (pc := 123) hx hb dX1_side_123 rfl (lv_at hl 0 rfl) ?_
                  refine mg42 (pc := 124) X hw dX1_side_124 ?_
                  refine lv_iconst (pc := 127) (v := (2 : Int32)) hx hb dX1_side_127 (by decide) ?_
                  refine lv_iload (pc := 128) hx hb dX1_side_128 (lv_at hl 4 rfl) ?_
                  obtain ⟨hi, h⟩ := h
                  refine ms42 (pc := 130) X hw hi dX1_side_130 (fun H locs hw => ?_)
                  refine lv_aload_n (pc := 131) hx hb dX1_side_131 rfl (lv_at hl 0 rfl) ?_
                  refine mg42 (pc := 132) X hw dX1_side_132 ?_
                  refine lv_iconst (pc := 135) (v := (3 : Int32)) hx hb dX1_side_135 (by decide) ?_
                  refine lv_iload (pc := 136) hx hb dX1_side_136 (lv_at hl 5 rfl) ?_
                  obtain ⟨hi, h⟩ := h
                  refine ms42 (pc := 138) X hw hi dX1_side_138 (fun H locs hw => ?_)
                  refine lv_aload_n (pc := 139) hx hb dX1_side_139 rfl (lv_at hl 0 rfl) ?_
                  refine mg42 (pc := 140) X hw dX1_side_140 ?_
                  refine lv_iconst (pc := 143) (v := (4 : Int32)) hx hb dX1_side_143 (by decide) ?_
                  refine lv_iload (pc := 144) hx hb dX1_side_144 (lv_at hl 6 rfl) ?_
                  obtain ⟨hi, h⟩ := h
                  refine ms42 (pc := 146) X hw hi dX1_side_146 (fun H locs hw => ?_)
                  refine lv_aload_n (pc := 147) hx hb dX1_side_147 rfl (lv_at hl 0 rfl) ?_
                  refine mg42 (pc := 148) X hw dX1_side_148 ?_
                  refine lv_iconst (pc := 151) (v := (5 : Int32)) hx hb dX1_side_151 (by decide) ?_
                  refine lv_iload (pc := 152) hx hb dX1_side_152 (lv_at hl 7 rfl) ?_
                  obtain ⟨hi, h⟩ := h
                  refine ms42 (pc := 154) X hw hi dX1_side_154 (fun H locs hw => ?_)
                  refine lv_aload_n (pc := 155) hx hb dX1_side_155 rfl (lv_at hl 0 rfl) ?_
                  refine lv_iconst (pc := 156) (v := (0 : Int32)) hx hb dX1_side_156 (by decide) ?_
                  refine mp44 (pc := 157) X hw isB_0 dX1_side_157 (fun H locs hw => ?_)
                  refine lv_aload_n (pc := 160) hx hb dX1_side_160 rfl (lv_at hl 0 rfl) ?_
                  refine lv_iload_n (pc := 161) hx hb dX1_side_161 rfl (lv_at hl 1 rfl) ?_
                  refine uX1_sideTells (pc := 162) X hml hw h ⟨Nat.le_of_ble_eq_true rfl, Nat.le_of_ble_eq_true rfl⟩ hl.1 (Nat.le_of_ble_eq_true rfl) ⟨Nat.le_refl _, Nat.le_refl _⟩ dX1_side_162 (fun r16 S17 H locs h hw => ?_)
                  refine lv_lstore (pc := 165) (lv' := [(8, .long r16), (0, .ref h0), (1, .int x1), (2, .int x2), (3, .int x3), (4, .int x4), (5, .int x5), (6, .int x6), (7, .int x7)]) hx hb dX1_side_165 hl (by decide) rfl (fun ls hl => ?_)
                  refine lv_aload_n (pc := 167) hx hb dX1_side_167 rfl (lv_at hl 1 rfl) ?_
                  refine mg44 (pc := 168) X hw dX1_side_168 ?_
                  refine lv_if_eq (pc := 171) (tgt := 180) hx hb dX1_side_171 rfl (fun c18 => ?_) (fun c18 => ?_)
                  · have h := h.1 c18
                    refine lv_lload (pc := 180) hx hb dX1_side_180 (lv_at hl 0 rfl) ?_
                    exact W.lret (pc := 182) hx hb hr (fun t ht hW => m_ret (val := vL) hw h ht) hw.2.2.2 dX1_side_182 hlk
                  · have h := h.2 c18
                    refine lv_ldc2 (pc := 174) hx hb hown (hts _ q2381) dX1_side_174 ?_
                    refine lv_goto (pc := 177) (tgt := 182) hx hb dX1_side_177 rfl ?_
                    exact W.lret (pc := 182) hx hb hr (fun t ht hW => m_ret (val := vL) hw h ht) hw.2.2.2 dX1_side_182 hlk
                · have h := h.1 c15
                  refine lv_ldc2 (pc := 105) hx hb hown (hts _ q2381) dX1_side_105 ?_
                  exact W.lret (pc := 108) hx hb hr (fun t ht hW => m_ret (val := vL) hw h ht) hw.2.2.2 dX1_side_108 hlk

def wX1_missed_64 (K31 : Int32 → Int32 → Int32 → Int32 → MS → Prop) (post : Int32 → MS → Prop) (x3 : Int32) (x4 : Int32) (x5 : Int32) (x6 : Int32) (S : MS) : Prop :=
  K31 x3 x4 x5 (x6 + (1 : Int32)) S
def wX1_missed_31 (post : Int32 → MS → Prop) : Nat → Int32 → Int32 → Int32 → Int32 → MS → Prop
  | 0, _, _, _, _, _ => False
  | n + 1, x3, x4, x5, x6, S => ((x3 < x6) → (((x4 = (-1 : Int32)) → (post x5 S)) ∧ (¬ (x4 = (-1 : Int32)) → (post (-100000 : Int32) S)))) ∧ (¬ (x3 < x6) → (wX1_waysOf (fun r10 S11 => ((r10 ≤ (0 : Int64)) → (((x5 = x4) → (post x6 S11)) ∧ (¬ (x5 = x4) → (wX1_missed_64 (fun x3 x4 x5 x6 S => wX1_missed_31 post n x3 x4 x5 x6 S) post x3 x4 (x5 + (1 : Int32)) x6 S11)))) ∧ (¬ (r10 ≤ (0 : Int64)) → (wX1_missed_64 (fun x3 x4 x5 x6 S => wX1_missed_31 post n x3 x4 x5 x6 S) post x3 x4 x5 x6 S11))) S x6))
def wX1_missed (post : Int32 → MS → Prop) (S : MS) (x1 : Int32) (x2 : Int32) (x3 : Int32) (x4 : Int32) : Prop :=
  wX1_isForm (fun r1 S2 => ((r1 = (0 : Int32)) → (post (-100000 : Int32) S2)) ∧ (¬ (r1 = (0 : Int32)) → (wX1_isSpan (fun r4 => ((r4 = (0 : Int32)) → (post (-100000 : Int32) S2)) ∧ (¬ (r4 = (0 : Int32)) → (wX1_lays (fun _ S7 => (∃ k, wX1_missed_31 post k x3 x4 (0 : Int32) x2 S7)) S2 x1))) x2 x3))) S x1
theorem kX1_missed_64 {p : Program} {l : Launch} {e : Env} {s : State} {m : MethodId} {args : Array Value} {below : List Frame} {meth : Method} {c : Code} {G : gG} {h0 : Nat} {ad : Nat → Nat} {K31 : Int32 → Int32 → Int32 → Int32 → MS → Prop} {post : Int32 → MS → Prop} (X : mX G h0 ad p s m args c cX1_missed) (hml : c.maxLocals = 7) (hr : meth.sig.returnType = (some .int)) (hlk : meth.locks = false) (hK31 : ∀ (x3 : Int32) (x4 : Int32) (x5 : Int32) (x6 : Int32) (S : MS) (H : Heap) (locs : List Loc) (ls : Array Slot), K31 x3 x4 x5 x6 S → mH G h0 ad s S H locs → lv_has ls 7 [(0, .ref h0), (3, .int x3), (4, .int x4), (5, .int x5), (6, .int x6)] → W p l e ⟨4, 0, 0, 101⟩ s m args below meth c H locs 0 0 (MQ below (gQ vI post (mBw G h0 ad) (mAd h0 ad)) args s 0 0 (mAd h0 ad)) (F0 m 31 ls [])) : ∀ (x3 : Int32) (x4 : Int32) (x5 : Int32) (x6 : Int32) (S : MS) (H : Heap) (locs : List Loc) (ls : Array Slot), wX1_missed_64 K31 post x3 x4 x5 x6 S → mH G h0 ad s S H locs → lv_has ls 7 [(0, .ref h0), (3, .int x3), (4, .int x4), (5, .int x5), (6, .int x6)] → W p l e ⟨4, 0, 0, 101⟩ s m args below meth c H locs 0 0 (MQ below (gQ vI post (mBw G h0 ad) (mAd h0 ad)) args s 0 0 (mAd h0 ad)) (F0 m 64 ls []) := by
  have hx := X.1
  have hb := X.2.1
  have hown := X.2.2.1
  have hts := X.2.2.2.1
  intro x3 x4 x5 x6 S H locs ls h hw hl
  unfold wX1_missed_64 at h
  refine lv_iinc (pc := 64) (v := x6 + (1 : Int32)) (lv' := [(6, .int (x6 + (1 : Int32))), (0, .ref h0), (3, .int x3), (4, .int x4), (5, .int x5)]) hx hb dX1_missed_64 hl (k := 4) rfl rfl (by decide) rfl (fun ls hl => ?_)
  refine lv_goto (pc := 67) (tgt := 31) hx hb dX1_missed_67 rfl ?_
  exact hK31 _ _ _ _ _ _ _ _ h hw (lv_sub hl [1, 2, 3, 4, 0] rfl)
theorem kX1_missed_31 {p : Program} {l : Launch} {e : Env} {s : State} {m : MethodId} {args : Array Value} {below : List Frame} {meth : Method} {c : Code} {G : gG} {h0 : Nat} {ad : Nat → Nat} {post : Int32 → MS → Prop} (X : mX G h0 ad p s m args c cX1_missed) (hml : c.maxLocals = 7) (hr : meth.sig.returnType = (some .int)) (hlk : meth.locks = false) : ∀ (n : Nat) (x3 : Int32) (x4 : Int32) (x5 : Int32) (x6 : Int32) (S : MS) (H : Heap) (locs : List Loc) (ls : Array Slot), wX1_missed_31 post n x3 x4 x5 x6 S → mH G h0 ad s S H locs → lv_has ls 7 [(0, .ref h0), (3, .int x3), (4, .int x4), (5, .int x5), (6, .int x6)] → W p l e ⟨4, 0, 0, 101⟩ s m args below meth c H locs 0 0 (MQ below (gQ vI post (mBw G h0 ad) (mAd h0 ad)) args s 0 0 (mAd h0 ad)) (F0 m 31 ls []) := by
  have hx := X.1
  have hb := X.2.1
  have hown := X.2.2.1
  have hts := X.2.2.2.1
  intro n
  induction n with
  | zero =>
    intro x3 x4 x5 x6 S H locs ls h
    exact False.elim h
  | succ n ih =>
    intro x3 x4 x5 x6 S H locs ls h hw hl
    unfold wX1_missed_31 at h
    refine lv_iload (pc := 31) hx hb dX1_missed_31 (lv_at hl 4 rfl) ?_
    refine lv_iload_n (pc := 33) hx hb dX1_missed_33 rfl (lv_at hl 1 rfl) ?_
    refine lv_icmp_gt (pc := 34) (tgt := 70) hx hb dX1_missed_34 rfl (fun c8 => ?_) (fun c8 => ?_)
    · have h := h.1 c8
      refine lv_iload (pc := 70) hx hb dX1_missed_70 (lv_at hl 2 rfl) ?_
      refine lv_iconst (pc := 72) (v := (-1 : Int32)) hx hb dX1_missed_72 (by decide) ?_
      refine lv_icmp_ne (pc := 73) (tgt := 81) hx hb dX1_missed_73 rfl (fun c9 => ?_) (fun c9 => ?_)
      · have h := h.2 c9
        refine lv_ldcw (pc := 81) hx hb hown (hts _ q2305) dX1_missed_81 ?_
        exact W.iret (pc := 84) hx hb hr (fun t ht hW => m_ret (val := vI) hw h ht) hw.2.2.2 dX1_missed_84 hlk
      · have h := h.1 c9
        refine lv_iload (pc := 76) hx hb dX1_missed_76 (lv_at hl 3 rfl) ?_
        refine lv_goto (pc := 78) (tgt := 84) hx hb dX1_missed_78 rfl ?_
        exact W.iret (pc := 84) hx hb hr (fun t ht hW => m_ret (val := vI) hw h ht) hw.2.2.2 dX1_missed_84 hlk
    · have h := h.2 c8
      refine lv_aload_n (pc := 37) hx hb dX1_missed_37 rfl (lv_at hl 0 rfl) ?_
      refine lv_iload (pc := 38) hx hb dX1_missed_38 (lv_at hl 4 rfl) ?_
      refine uX1_waysOf (pc := 40) X hml hw h ⟨Nat.le_of_ble_eq_true rfl, Nat.le_of_ble_eq_true rfl⟩ hl.1 (Nat.le_of_ble_eq_true rfl) ⟨Nat.le_refl _, Nat.le_refl _⟩ dX1_missed_40 (fun r10 S11 H locs h hw => ?_)
      refine lv_lconst (pc := 43) (v := (0 : Int64)) hx hb dX1_missed_43 (by decide) ?_
      refine W.lcmp (pc := 44) hx hb dX1_missed_44 ?_
      refine lv_if_le (pc := 45) (tgt := 51) hx hb dX1_missed_45 rfl (fun c12 => ?_) (fun c12 => ?_)
      · have h := h.1 ((lg_cmp_le _ _).mp c12)
        refine lv_iload (pc := 51) hx hb dX1_missed_51 (lv_at hl 3 rfl) ?_
        refine lv_iload (pc := 53) hx hb dX1_missed_53 (lv_at hl 2 rfl) ?_
        refine lv_icmp_ne (pc := 55) (tgt := 61) hx hb dX1_missed_55 rfl (fun c13 => ?_) (fun c13 => ?_)
        · have h := h.2 c13
          refine lv_iinc (pc := 61) (v := x5 + (1 : Int32)) (lv' := [(5, .int (x5 + (1 : Int32))), (0, .ref h0), (3, .int x3), (4, .int x4), (6, .int x6)]) hx hb dX1_missed_61 hl (k := 3) rfl rfl (by decide) rfl (fun ls hl => ?_)
          exact kX1_missed_64 X hml hr hlk ih _ _ _ _ _ _ _ _ h hw (lv_sub hl [1, 2, 3, 0, 4] rfl)
        · have h := h.1 c13
          refine lv_iload (pc := 58) hx hb dX1_missed_58 (lv_at hl 4 rfl) ?_
          exact W.iret (pc := 60) hx hb hr (fun t ht hW => m_ret (val := vI) hw h ht) hw.2.2.2 dX1_missed_60 hlk
      · have h := h.2 (fun z => c12 ((lg_cmp_le _ _).mpr z))
        refine lv_goto (pc := 48) (tgt := 64) hx hb dX1_missed_48 rfl ?_
        exact kX1_missed_64 X hml hr hlk ih _ _ _ _ _ _ _ _ h hw (lv_sub hl [0, 1, 2, 3, 4] rfl)
theorem tX1_missed {l : Launch} {G : gG} {h0 : Nat} {ad : Nat → Nat} (hd : mOk G h0 ad) {post : Int32 → MS → Prop} {S : MS} {x1 : Int32} {x2 : Int32} {x3 : Int32} {x4 : Int32} (h : wX1_missed post S x1 x2 x3 x4) : Met l yX1_missed (ws_ yX1_missed cX1_missed 7 (some .int)) ⟨4, 0, 0, 101⟩ (va_Pc (.ref h0 :: [.int x1, .int x2, .int x3, .int x4]) (fun U => mBw G h0 ad S U.heap ∧ gK G U)) (gQ vI post (mBw G h0 ad) (mAd h0 ad)) 0 0 (mAd h0 ad) := by
  refine m_ofW (by decide) rfl hd (Nat.le_of_ble_eq_true rfl) (fun p e s m below meth c ls X hml hr hlk hw hl => ?_)
  have hl : lv_has ls 7 [(0, .ref h0), (1, .int x1), (2, .int x2), (3, .int x3), (4, .int x4)] := hl
  have hx := X.1
  have hb := X.2.1
  have hown := X.2.2.1
  have hts := X.2.2.2.1
  unfold wX1_missed at h
  refine lv_aload_n (pc := 0) hx hb dX1_missed_0 rfl (lv_at hl 0 rfl) ?_
  refine lv_iload_n (pc := 1) hx hb dX1_missed_1 rfl (lv_at hl 1 rfl) ?_
  refine uX1_isForm (pc := 2) X hml hw h ⟨Nat.le_of_ble_eq_true rfl, Nat.le_of_ble_eq_true rfl⟩ hl.1 (Nat.le_of_ble_eq_true rfl) ⟨Nat.le_refl _, Nat.le_refl _⟩ dX1_missed_2 (fun r1 S2 H locs h hw => ?_)
  refine lv_if_eq (pc := 5) (tgt := 16) hx hb dX1_missed_5 rfl (fun c3 => ?_) (fun c3 => ?_)
  · have h := h.1 c3
    refine lv_ldcw (pc := 16) hx hb hown (hts _ q2305) dX1_missed_16 ?_
    exact W.iret (pc := 19) hx hb hr (fun t ht hW => m_ret (val := vI) hw h ht) hw.2.2.2 dX1_missed_19 hlk
  · have h := h.2 c3
    refine lv_iload_n (pc := 8) hx hb dX1_missed_8 rfl (lv_at hl 2 rfl) ?_
    refine lv_iload_n (pc := 9) hx hb dX1_missed_9 rfl (lv_at hl 3 rfl) ?_
    refine uX1_isSpan (pc := 10) ⟨hx, hb, hml, hown, hts⟩ h ⟨Nat.le_of_ble_eq_true rfl, Nat.le_of_ble_eq_true rfl⟩ hl.1 (Nat.le_of_ble_eq_true rfl) ⟨Nat.le_refl _, Nat.le_refl _⟩ dX1_missed_10 (fun r4 h => ?_)
    refine lv_if_ne (pc := 13) (tgt := 20) hx hb dX1_missed_13 rfl (fun c5 => ?_) (fun c5 => ?_)
    · have h := h.2 c5
      refine lv_aload_n (pc := 20) hx hb dX1_missed_20 rfl (lv_at hl 0 rfl) ?_
      refine lv_iload_n (pc := 21) hx hb dX1_missed_21 rfl (lv_at hl 1 rfl) ?_
      refine uX1_lays (pc := 22) X hml hw h ⟨Nat.le_of_ble_eq_true rfl, Nat.le_of_ble_eq_true rfl⟩ hl.1 (Nat.le_of_ble_eq_true rfl) ⟨Nat.le_refl _, Nat.le_refl _⟩ dX1_missed_22 (fun _ S7 H locs h hw => ?_)
      refine lv_iconst (pc := 25) (v := (0 : Int32)) hx hb dX1_missed_25 (by decide) ?_
      refine lv_istore (pc := 26) (lv' := [(5, .int (0 : Int32)), (0, .ref h0), (1, .int x1), (2, .int x2), (3, .int x3), (4, .int x4)]) hx hb dX1_missed_26 hl (by decide) rfl (fun ls hl => ?_)
      refine lv_iload_n (pc := 28) hx hb dX1_missed_28 rfl (lv_at hl 3 rfl) ?_
      refine lv_istore (pc := 29) (lv' := [(6, .int x2), (5, .int (0 : Int32)), (0, .ref h0), (1, .int x1), (2, .int x2), (3, .int x3), (4, .int x4)]) hx hb dX1_missed_29 hl (by decide) rfl (fun ls hl => ?_)
      obtain ⟨k, h⟩ := h
      exact kX1_missed_31 X hml hr hlk  k _ _ _ _ _ _ _ _ h hw (lv_sub hl [2, 5, 6, 1, 0] rfl)
    · have h := h.1 c5
      refine lv_ldcw (pc := 16) hx hb hown (hts _ q2305) dX1_missed_16 ?_
      exact W.iret (pc := 19) hx hb hr (fun t ht hW => m_ret (val := vI) hw h ht) hw.2.2.2 dX1_missed_19 hlk

def wX1_laysClasses_73 (K53 : Int32 → Int32 → Int32 → MS → Prop) (K61 : Int32 → Int32 → Int32 → Int32 → MS → Prop) (post : Unit → MS → Prop) : Nat → Int32 → Int32 → Int32 → Int32 → Int64 → Int32 → MS → Prop
  | 0, _, _, _, _, _, _, _ => False
  | n + 1, x1, x2, x4, x5, x6, x8, S => wX1_of (fun r4 S5 => wX1_xs (fun r6 => ((r6 ≤ x8) → (vp_in (((60 : Int32) * x4) + x5) 360 ∧ (K61 x1 x2 x4 (x5 + (1 : Int32)) (mB S5 46 (vp_updL (S5.2.2.2 46) (((60 : Int32) * x4) + x5).toNatClampNeg x6))))) ∧ (¬ (r6 ≤ x8) → (wX1_classOf (fun r8 S9 => ¬ x2 = 0 ∧ (vp_in (((60 : Int32) * (x4 + (1 : Int32))) + (((x5 - r8) + x2) - ((x5 - r8) + x2) / x2 * x2)) 360 ∧ (wX1_laysClasses_73 K53 K61 post n x1 x2 x4 x5 (x6 + (S9.2.2.2 46 (((60 : Int32) * (x4 + (1 : Int32))) + (((x5 - r8) + x2) - ((x5 - r8) + x2) / x2 * x2)).toNatClampNeg)) (x8 + (1 : Int32)) S9))) S5 x1 x4 x8 x2))) r4 x2) S x1 x4 (1 : Int32)
def wX1_laysClasses_61 (K53 : Int32 → Int32 → Int32 → MS → Prop) (post : Unit → MS → Prop) : Nat → Int32 → Int32 → Int32 → Int32 → MS → Prop
  | 0, _, _, _, _, _ => False
  | n + 1, x1, x2, x4, x5, S => ((x2 ≤ x5) → (K53 x1 x2 (x4 + (-1 : Int32)) S)) ∧ (¬ (x2 ≤ x5) → ((∃ k, wX1_laysClasses_73 K53 (fun x1 x2 x4 x5 S => wX1_laysClasses_61 K53 post n x1 x2 x4 x5 S) post k x1 x2 x4 x5 (0 : Int64) (0 : Int32) S)))
def wX1_laysClasses_53 (post : Unit → MS → Prop) : Nat → Int32 → Int32 → Int32 → MS → Prop
  | 0, _, _, _, _ => False
  | n + 1, x1, x2, x4, S => ((x4 < (0 : Int32)) → (post () S)) ∧ (¬ (x4 < (0 : Int32)) → ((∃ k, wX1_laysClasses_61 (fun x1 x2 x4 S => wX1_laysClasses_53 post n x1 x2 x4 S) post k x1 x2 x4 (0 : Int32) S)))
def wX1_laysClasses_37 (K10 : Int32 → Int32 → Int32 → Int32 → MS → Prop) (post : Unit → MS → Prop) (x1 : Int32) (x2 : Int32) (x3 : Int32) (x4 : Int32) (v0 : Int32) (v1 : Int32) (S : MS) : Prop :=
  wX1_one (fun r11 => vp_in v1 360 ∧ (K10 x1 x2 x3 (x4 + (1 : Int32)) (mB S 46 (vp_updL (S.2.2.2 46) v1.toNatClampNeg r11.toInt64)))) v0
def wX1_laysClasses_10 (post : Unit → MS → Prop) : Nat → Int32 → Int32 → Int32 → Int32 → MS → Prop
  | 0, _, _, _, _, _ => False
  | n + 1, x1, x2, x3, x4, S => ((x2 ≤ x4) → ((∃ k, wX1_laysClasses_53 post k x1 x2 (x3 - (1 : Int32)) S))) ∧ (¬ (x2 ≤ x4) → (((x4 = (0 : Int32)) → (wX1_laysClasses_37 (fun x1 x2 x3 x4 S => wX1_laysClasses_10 post n x1 x2 x3 x4 S) post x1 x2 x3 x4 (1 : Int32) (((60 : Int32) * x3) + x4) S)) ∧ (¬ (x4 = (0 : Int32)) → (wX1_laysClasses_37 (fun x1 x2 x3 x4 S => wX1_laysClasses_10 post n x1 x2 x3 x4 S) post x1 x2 x3 x4 (0 : Int32) (((60 : Int32) * x3) + x4) S))))
def wX1_laysClasses (post : Unit → MS → Prop) (S : MS) (x1 : Int32) (x2 : Int32) : Prop :=
  vp_in x1 5 ∧ ((∃ k, wX1_laysClasses_10 post k x1 x2 (S.2.2.1 0 x1.toNatClampNeg) (0 : Int32) S))
theorem kX1_laysClasses_73 {p : Program} {l : Launch} {e : Env} {s : State} {m : MethodId} {args : Array Value} {below : List Frame} {meth : Method} {c : Code} {G : gG} {h0 : Nat} {ad : Nat → Nat} {K53 : Int32 → Int32 → Int32 → MS → Prop} {K61 : Int32 → Int32 → Int32 → Int32 → MS → Prop} {post : Unit → MS → Prop} (X : mX G h0 ad p s m args c cX1_laysClasses) (hml : c.maxLocals = 9) (hr : meth.sig.returnType = none) (hlk : meth.locks = false) (hK53 : ∀ (x1 : Int32) (x2 : Int32) (x4 : Int32) (S : MS) (H : Heap) (locs : List Loc) (ls : Array Slot), K53 x1 x2 x4 S → mH G h0 ad s S H locs → lv_has ls 9 [(0, .ref h0), (1, .int x1), (2, .int x2), (4, .int x4)] → W p l e ⟨3, 0, 0, 71⟩ s m args below meth c H locs 0 0 (MQ below (gQ vV post (mBw G h0 ad) (mAd h0 ad)) args s 0 0 (mAd h0 ad)) (F0 m 53 ls [])) (hK61 : ∀ (x1 : Int32) (x2 : Int32) (x4 : Int32) (x5 : Int32) (S : MS) (H : Heap) (locs : List Loc) (ls : Array Slot), K61 x1 x2 x4 x5 S → mH G h0 ad s S H locs → lv_has ls 9 [(0, .ref h0), (1, .int x1), (2, .int x2), (4, .int x4), (5, .int x5)] → W p l e ⟨3, 0, 0, 71⟩ s m args below meth c H locs 0 0 (MQ below (gQ vV post (mBw G h0 ad) (mAd h0 ad)) args s 0 0 (mAd h0 ad)) (F0 m 61 ls [])) : ∀ (n : Nat) (x1 : Int32) (x2 : Int32) (x4 : Int32) (x5 : Int32) (x6 : Int64) (x8 : Int32) (S : MS) (H : Heap) (locs : List Loc) (ls : Array Slot), wX1_laysClasses_73 K53 K61 post n x1 x2 x4 x5 x6 x8 S → mH G h0 ad s S H locs → lv_has ls 9 [(0, .ref h0), (1, .int x1), (2, .int x2), (4, .int x4), (5, .int x5), (6, .long x6), (8, .int x8)] → W p l e ⟨3, 0, 0, 71⟩ s m args below meth c H locs 0 0 (MQ below (gQ vV post (mBw G h0 ad) (mAd h0 ad)) args s 0 0 (mAd h0 ad)) (F0 m 73 ls []) := by
  have hx := X.1
  have hb := X.2.1
  have hown := X.2.2.1
  have hts := X.2.2.2.1
  intro n
  induction n with
  | zero =>
    intro x1 x2 x4 x5 x6 x8 S H locs ls h
    exact False.elim h
  | succ n ih =>
    intro x1 x2 x4 x5 x6 x8 S H locs ls h hw hl
    unfold wX1_laysClasses_73 at h
    refine lv_iload (pc := 73) hx hb dX1_laysClasses_73 (lv_at hl 6 rfl) ?_
    refine lv_aload_n (pc := 75) hx hb dX1_laysClasses_75 rfl (lv_at hl 0 rfl) ?_
    refine lv_iload_n (pc := 76) hx hb dX1_laysClasses_76 rfl (lv_at hl 1 rfl) ?_
    refine lv_iload (pc := 77) hx hb dX1_laysClasses_77 (lv_at hl 3 rfl) ?_
    refine lv_iconst (pc := 79) (v := (1 : Int32)) hx hb dX1_laysClasses_79 (by decide) ?_
    refine uX1_of (pc := 80) X hml hw h ⟨Nat.le_of_ble_eq_true rfl, Nat.le_of_ble_eq_true rfl⟩ hl.1 (Nat.le_of_ble_eq_true rfl) ⟨Nat.le_refl _, Nat.le_refl _⟩ dX1_laysClasses_80 (fun r4 S5 H locs h hw => ?_)
    refine lv_iload_n (pc := 83) hx hb dX1_laysClasses_83 rfl (lv_at hl 2 rfl) ?_
    refine uX1_xs (pc := 84) ⟨hx, hb, hml, hown, hts⟩ h ⟨Nat.le_of_ble_eq_true rfl, Nat.le_of_ble_eq_true rfl⟩ hl.1 (Nat.le_of_ble_eq_true rfl) ⟨Nat.le_refl _, Nat.le_refl _⟩ dX1_laysClasses_84 (fun r6 h => ?_)
    refine lv_icmp_ge (pc := 87) (tgt := 131) hx hb dX1_laysClasses_87 rfl (fun c7 => ?_) (fun c7 => ?_)
    · have h := h.1 c7
      refine lv_aload_n (pc := 131) hx hb dX1_laysClasses_131 rfl (lv_at hl 0 rfl) ?_
      refine mg46 (pc := 132) X hw dX1_laysClasses_132 ?_
      refine lv_bipush (pc := 135) (v := (60 : Int32)) hx hb dX1_laysClasses_135 (by decide) ?_
      refine lv_iload (pc := 137) hx hb dX1_laysClasses_137 (lv_at hl 3 rfl) ?_
      refine lv_imul (pc := 139) hx hb dX1_laysClasses_139 ?_
      refine lv_iload (pc := 140) hx hb dX1_laysClasses_140 (lv_at hl 4 rfl) ?_
      refine lv_iadd (pc := 142) hx hb dX1_laysClasses_142 ?_
      refine lv_lload (pc := 143) hx hb dX1_laysClasses_143 (lv_at hl 5 rfl) ?_
      obtain ⟨hi, h⟩ := h
      refine ms46 (pc := 145) X hw hi dX1_laysClasses_145 (fun H locs hw => ?_)
      refine lv_iinc (pc := 146) (v := x5 + (1 : Int32)) (lv' := [(5, .int (x5 + (1 : Int32))), (0, .ref h0), (1, .int x1), (2, .int x2), (4, .int x4), (6, .long x6), (8, .int x8)]) hx hb dX1_laysClasses_146 hl (k := 4) rfl rfl (by decide) rfl (fun ls hl => ?_)
      refine lv_goto (pc := 149) (tgt := 61) hx hb dX1_laysClasses_149 rfl ?_
      exact hK61 _ _ _ _ _ _ _ _ h hw (lv_sub hl [1, 2, 3, 4, 0] rfl)
    · have h := h.2 c7
      refine lv_lload (pc := 90) hx hb dX1_laysClasses_90 (lv_at hl 5 rfl) ?_
      refine lv_aload_n (pc := 92) hx hb dX1_laysClasses_92 rfl (lv_at hl 0 rfl) ?_
      refine mg46 (pc := 93) X hw dX1_laysClasses_93 ?_
      refine lv_bipush (pc := 96) (v := (60 : Int32)) hx hb dX1_laysClasses_96 (by decide) ?_
      refine lv_iload (pc := 98) hx hb dX1_laysClasses_98 (lv_at hl 3 rfl) ?_
      refine lv_iconst (pc := 100) (v := (1 : Int32)) hx hb dX1_laysClasses_100 (by decide) ?_
      refine lv_iadd (pc := 101) hx hb dX1_laysClasses_101 ?_
      refine lv_imul (pc := 102) hx hb dX1_laysClasses_102 ?_
      refine lv_iload (pc := 103) hx hb dX1_laysClasses_103 (lv_at hl 4 rfl) ?_
      refine lv_aload_n (pc := 105) hx hb dX1_laysClasses_105 rfl (lv_at hl 0 rfl) ?_
      refine lv_iload_n (pc := 106) hx hb dX1_laysClasses_106 rfl (lv_at hl 1 rfl) ?_
      refine lv_iload (pc := 107) hx hb dX1_laysClasses_107 (lv_at hl 3 rfl) ?_
      refine lv_iload (pc := 109) hx hb dX1_laysClasses_109 (lv_at hl 6 rfl) ?_
      refine lv_iload_n (pc := 111) hx hb dX1_laysClasses_111 rfl (lv_at hl 2 rfl) ?_
      refine uX1_classOf (pc := 112) X hml hw h ⟨Nat.le_of_ble_eq_true rfl, Nat.le_of_ble_eq_true rfl⟩ hl.1 (Nat.le_of_ble_eq_true rfl) ⟨Nat.le_refl _, Nat.le_refl _⟩ dX1_laysClasses_112 (fun r8 S9 H locs h hw => ?_)
      refine lv_isub (pc := 115) hx hb dX1_laysClasses_115 ?_
      refine lv_iload_n (pc := 116) hx hb dX1_laysClasses_116 rfl (lv_at hl 2 rfl) ?_
      refine lv_iadd (pc := 117) hx hb dX1_laysClasses_117 ?_
      refine lv_iload_n (pc := 118) hx hb dX1_laysClasses_118 rfl (lv_at hl 2 rfl) ?_
      obtain ⟨hne, h⟩ := h
      refine lv_irem (pc := 119) hx hb dX1_laysClasses_119 hne ?_
      refine lv_iadd (pc := 120) hx hb dX1_laysClasses_120 ?_
      obtain ⟨hi, h⟩ := h
      refine ma46 (pc := 121) X hw hi dX1_laysClasses_121 ?_
      refine lv_ladd (pc := 122) hx hb dX1_laysClasses_122 ?_
      refine lv_lstore (pc := 123) (lv' := [(6, .long (x6 + (S9.2.2.2 46 (((60 : Int32) * (x4 + (1 : Int32))) + (((x5 - r8) + x2) - ((x5 - r8) + x2) / x2 * x2)).toNatClampNeg))), (0, .ref h0), (1, .int x1), (2, .int x2), (4, .int x4), (5, .int x5), (8, .int x8)]) hx hb dX1_laysClasses_123 hl (by decide) rfl (fun ls hl => ?_)
      refine lv_iinc (pc := 125) (v := x8 + (1 : Int32)) (lv' := [(8, .int (x8 + (1 : Int32))), (6, .long (x6 + (S9.2.2.2 46 (((60 : Int32) * (x4 + (1 : Int32))) + (((x5 - r8) + x2) - ((x5 - r8) + x2) / x2 * x2)).toNatClampNeg))), (0, .ref h0), (1, .int x1), (2, .int x2), (4, .int x4), (5, .int x5)]) hx hb dX1_laysClasses_125 hl (k := 6) rfl rfl (by decide) rfl (fun ls hl => ?_)
      refine lv_goto (pc := 128) (tgt := 73) hx hb dX1_laysClasses_128 rfl ?_
      exact ih _ _ _ _ _ _ _ _ _ _ h hw (lv_sub hl [2, 3, 4, 5, 6, 1, 0] rfl)
theorem kX1_laysClasses_61 {p : Program} {l : Launch} {e : Env} {s : State} {m : MethodId} {args : Array Value} {below : List Frame} {meth : Method} {c : Code} {G : gG} {h0 : Nat} {ad : Nat → Nat} {K53 : Int32 → Int32 → Int32 → MS → Prop} {post : Unit → MS → Prop} (X : mX G h0 ad p s m args c cX1_laysClasses) (hml : c.maxLocals = 9) (hr : meth.sig.returnType = none) (hlk : meth.locks = false) (hK53 : ∀ (x1 : Int32) (x2 : Int32) (x4 : Int32) (S : MS) (H : Heap) (locs : List Loc) (ls : Array Slot), K53 x1 x2 x4 S → mH G h0 ad s S H locs → lv_has ls 9 [(0, .ref h0), (1, .int x1), (2, .int x2), (4, .int x4)] → W p l e ⟨3, 0, 0, 71⟩ s m args below meth c H locs 0 0 (MQ below (gQ vV post (mBw G h0 ad) (mAd h0 ad)) args s 0 0 (mAd h0 ad)) (F0 m 53 ls [])) : ∀ (n : Nat) (x1 : Int32) (x2 : Int32) (x4 : Int32) (x5 : Int32) (S : MS) (H : Heap) (locs : List Loc) (ls : Array Slot), wX1_laysClasses_61 K53 post n x1 x2 x4 x5 S → mH G h0 ad s S H locs → lv_has ls 9 [(0, .ref h0), (1, .int x1), (2, .int x2), (4, .int x4), (5, .int x5)] → W p l e ⟨3, 0, 0, 71⟩ s m args below meth c H locs 0 0 (MQ below (gQ vV post (mBw G h0 ad) (mAd h0 ad)) args s 0 0 (mAd h0 ad)) (F0 m 61 ls []) := by
  have hx := X.1
  have hb := X.2.1
  have hown := X.2.2.1
  have hts := X.2.2.2.1
  intro n
  induction n with
  | zero =>
    intro x1 x2 x4 x5 S H locs ls h
    exact False.elim h
  | succ n ih =>
    intro x1 x2 x4 x5 S H locs ls h hw hl
    unfold wX1_laysClasses_61 at h
    refine lv_iload (pc := 61) hx hb dX1_laysClasses_61 (lv_at hl 4 rfl) ?_
    refine lv_iload_n (pc := 63) hx hb dX1_laysClasses_63 rfl (lv_at hl 2 rfl) ?_
    refine lv_icmp_ge (pc := 64) (tgt := 152) hx hb dX1_laysClasses_64 rfl (fun c3 => ?_) (fun c3 => ?_)
    · have h := h.1 c3
      refine lv_iinc (pc := 152) (v := x4 + (-1 : Int32)) (lv' := [(4, .int (x4 + (-1 : Int32))), (0, .ref h0), (1, .int x1), (2, .int x2), (5, .int x5)]) hx hb dX1_laysClasses_152 hl (k := 3) rfl rfl (by decide) rfl (fun ls hl => ?_)
      refine lv_goto (pc := 155) (tgt := 53) hx hb dX1_laysClasses_155 rfl ?_
      exact hK53 _ _ _ _ _ _ _ h hw (lv_sub hl [1, 2, 3, 0] rfl)
    · have h := h.2 c3
      refine lv_lconst (pc := 67) (v := (0 : Int64)) hx hb dX1_laysClasses_67 (by decide) ?_
      refine lv_lstore (pc := 68) (lv' := [(6, .long (0 : Int64)), (0, .ref h0), (1, .int x1), (2, .int x2), (4, .int x4), (5, .int x5)]) hx hb dX1_laysClasses_68 hl (by decide) rfl (fun ls hl => ?_)
      refine lv_iconst (pc := 70) (v := (0 : Int32)) hx hb dX1_laysClasses_70 (by decide) ?_
      refine lv_istore (pc := 71) (lv' := [(8, .int (0 : Int32)), (6, .long (0 : Int64)), (0, .ref h0), (1, .int x1), (2, .int x2), (4, .int x4), (5, .int x5)]) hx hb dX1_laysClasses_71 hl (by decide) rfl (fun ls hl => ?_)
      obtain ⟨k, h⟩ := h
      exact kX1_laysClasses_73 X hml hr hlk hK53 ih k _ _ _ _ _ _ _ _ _ _ h hw (lv_sub hl [2, 3, 4, 5, 6, 1, 0] rfl)
theorem kX1_laysClasses_53 {p : Program} {l : Launch} {e : Env} {s : State} {m : MethodId} {args : Array Value} {below : List Frame} {meth : Method} {c : Code} {G : gG} {h0 : Nat} {ad : Nat → Nat} {post : Unit → MS → Prop} (X : mX G h0 ad p s m args c cX1_laysClasses) (hml : c.maxLocals = 9) (hr : meth.sig.returnType = none) (hlk : meth.locks = false) : ∀ (n : Nat) (x1 : Int32) (x2 : Int32) (x4 : Int32) (S : MS) (H : Heap) (locs : List Loc) (ls : Array Slot), wX1_laysClasses_53 post n x1 x2 x4 S → mH G h0 ad s S H locs → lv_has ls 9 [(0, .ref h0), (1, .int x1), (2, .int x2), (4, .int x4)] → W p l e ⟨3, 0, 0, 71⟩ s m args below meth c H locs 0 0 (MQ below (gQ vV post (mBw G h0 ad) (mAd h0 ad)) args s 0 0 (mAd h0 ad)) (F0 m 53 ls []) := by
  have hx := X.1
  have hb := X.2.1
  have hown := X.2.2.1
  have hts := X.2.2.2.1
  intro n
  induction n with
  | zero =>
    intro x1 x2 x4 S H locs ls h
    exact False.elim h
  | succ n ih =>
    intro x1 x2 x4 S H locs ls h hw hl
    unfold wX1_laysClasses_53 at h
    refine lv_iload (pc := 53) hx hb dX1_laysClasses_53 (lv_at hl 3 rfl) ?_
    refine lv_if_lt (pc := 55) (tgt := 158) hx hb dX1_laysClasses_55 rfl (fun c2 => ?_) (fun c2 => ?_)
    · have h := h.1 c2
      exact W.vret (pc := 158) hx hb hr (fun t ht hW => m_ret (val := vV) (v := ()) hw h ht) hw.2.2.2 dX1_laysClasses_158 hlk
    · have h := h.2 c2
      refine lv_iconst (pc := 58) (v := (0 : Int32)) hx hb dX1_laysClasses_58 (by decide) ?_
      refine lv_istore (pc := 59) (lv' := [(5, .int (0 : Int32)), (0, .ref h0), (1, .int x1), (2, .int x2), (4, .int x4)]) hx hb dX1_laysClasses_59 hl (by decide) rfl (fun ls hl => ?_)
      obtain ⟨k, h⟩ := h
      exact kX1_laysClasses_61 X hml hr hlk ih k _ _ _ _ _ _ _ _ h hw (lv_sub hl [1, 2, 3, 4, 0] rfl)
theorem kX1_laysClasses_37 {p : Program} {l : Launch} {e : Env} {s : State} {m : MethodId} {args : Array Value} {below : List Frame} {meth : Method} {c : Code} {G : gG} {h0 : Nat} {ad : Nat → Nat} {K10 : Int32 → Int32 → Int32 → Int32 → MS → Prop} {post : Unit → MS → Prop} (X : mX G h0 ad p s m args c cX1_laysClasses) (hml : c.maxLocals = 9) (hr : meth.sig.returnType = none) (hlk : meth.locks = false) (hK10 : ∀ (x1 : Int32) (x2 : Int32) (x3 : Int32) (x4 : Int32) (S : MS) (H : Heap) (locs : List Loc) (ls : Array Slot), K10 x1 x2 x3 x4 S → mH G h0 ad s S H locs → lv_has ls 9 [(0, .ref h0), (1, .int x1), (2, .int x2), (3, .int x3), (4, .int x4)] → W p l e ⟨3, 0, 0, 71⟩ s m args below meth c H locs 0 0 (MQ below (gQ vV post (mBw G h0 ad) (mAd h0 ad)) args s 0 0 (mAd h0 ad)) (F0 m 10 ls [])) : ∀ (x1 : Int32) (x2 : Int32) (x3 : Int32) (x4 : Int32) (v0 : Int32) (v1 : Int32) (S : MS) (H : Heap) (locs : List Loc) (ls : Array Slot), wX1_laysClasses_37 K10 post x1 x2 x3 x4 v0 v1 S → mH G h0 ad s S H locs → lv_has ls 9 [(0, .ref h0), (1, .int x1), (2, .int x2), (3, .int x3), (4, .int x4)] → W p l e ⟨3, 0, 0, 71⟩ s m args below meth c H locs 0 0 (MQ below (gQ vV post (mBw G h0 ad) (mAd h0 ad)) args s 0 0 (mAd h0 ad)) (F0 m 37 ls [.int v0, .int v1, .ref (ad 46)]) := by
  have hx := X.1
  have hb := X.2.1
  have hown := X.2.2.1
  have hts := X.2.2.2.1
  intro x1 x2 x3 x4 v0 v1 S H locs ls h hw hl
  unfold wX1_laysClasses_37 at h
  refine uX1_one (pc := 37) ⟨hx, hb, hml, hown, hts⟩ h ⟨Nat.le_of_ble_eq_true rfl, Nat.le_of_ble_eq_true rfl⟩ hl.1 (Nat.le_of_ble_eq_true rfl) ⟨Nat.le_refl _, Nat.le_refl _⟩ dX1_laysClasses_37 (fun r11 h => ?_)
  refine lv_i2l (pc := 40) hx hb dX1_laysClasses_40 rfl ?_
  obtain ⟨hi, h⟩ := h
  refine ms46 (pc := 41) X hw hi dX1_laysClasses_41 (fun H locs hw => ?_)
  refine lv_iinc (pc := 42) (v := x4 + (1 : Int32)) (lv' := [(4, .int (x4 + (1 : Int32))), (0, .ref h0), (1, .int x1), (2, .int x2), (3, .int x3)]) hx hb dX1_laysClasses_42 hl (k := 4) rfl rfl (by decide) rfl (fun ls hl => ?_)
  refine lv_goto (pc := 45) (tgt := 10) hx hb dX1_laysClasses_45 rfl ?_
  exact hK10 _ _ _ _ _ _ _ _ h hw (lv_sub hl [1, 2, 3, 4, 0] rfl)
theorem kX1_laysClasses_10 {p : Program} {l : Launch} {e : Env} {s : State} {m : MethodId} {args : Array Value} {below : List Frame} {meth : Method} {c : Code} {G : gG} {h0 : Nat} {ad : Nat → Nat} {post : Unit → MS → Prop} (X : mX G h0 ad p s m args c cX1_laysClasses) (hml : c.maxLocals = 9) (hr : meth.sig.returnType = none) (hlk : meth.locks = false) : ∀ (n : Nat) (x1 : Int32) (x2 : Int32) (x3 : Int32) (x4 : Int32) (S : MS) (H : Heap) (locs : List Loc) (ls : Array Slot), wX1_laysClasses_10 post n x1 x2 x3 x4 S → mH G h0 ad s S H locs → lv_has ls 9 [(0, .ref h0), (1, .int x1), (2, .int x2), (3, .int x3), (4, .int x4)] → W p l e ⟨3, 0, 0, 71⟩ s m args below meth c H locs 0 0 (MQ below (gQ vV post (mBw G h0 ad) (mAd h0 ad)) args s 0 0 (mAd h0 ad)) (F0 m 10 ls []) := by
  have hx := X.1
  have hb := X.2.1
  have hown := X.2.2.1
  have hts := X.2.2.2.1
  intro n
  induction n with
  | zero =>
    intro x1 x2 x3 x4 S H locs ls h
    exact False.elim h
  | succ n ih =>
    intro x1 x2 x3 x4 S H locs ls h hw hl
    unfold wX1_laysClasses_10 at h
    refine lv_iload (pc := 10) hx hb dX1_laysClasses_10 (lv_at hl 4 rfl) ?_
    refine lv_iload_n (pc := 12) hx hb dX1_laysClasses_12 rfl (lv_at hl 2 rfl) ?_
    refine lv_icmp_ge (pc := 13) (tgt := 48) hx hb dX1_laysClasses_13 rfl (fun c1 => ?_) (fun c1 => ?_)
    · have h := h.1 c1
      refine lv_iload_n (pc := 48) hx hb dX1_laysClasses_48 rfl (lv_at hl 3 rfl) ?_
      refine lv_iconst (pc := 49) (v := (1 : Int32)) hx hb dX1_laysClasses_49 (by decide) ?_
      refine lv_isub (pc := 50) hx hb dX1_laysClasses_50 ?_
      refine lv_istore (pc := 51) (lv' := [(4, .int (x3 - (1 : Int32))), (0, .ref h0), (1, .int x1), (2, .int x2), (3, .int x3)]) hx hb dX1_laysClasses_51 hl (by decide) rfl (fun ls hl => ?_)
      obtain ⟨k, h⟩ := h
      exact kX1_laysClasses_53 X hml hr hlk  k _ _ _ _ _ _ _ h hw (lv_sub hl [1, 2, 3, 0] rfl)
    · have h := h.2 c1
      refine lv_aload_n (pc := 16) hx hb dX1_laysClasses_16 rfl (lv_at hl 0 rfl) ?_
      refine mg46 (pc := 17) X hw dX1_laysClasses_17 ?_
      refine lv_bipush (pc := 20) (v := (60 : Int32)) hx hb dX1_laysClasses_20 (by decide) ?_
      refine lv_iload_n (pc := 22) hx hb dX1_laysClasses_22 rfl (lv_at hl 3 rfl) ?_
      refine lv_imul (pc := 23) hx hb dX1_laysClasses_23 ?_
      refine lv_iload (pc := 24) hx hb dX1_laysClasses_24 (lv_at hl 4 rfl) ?_
      refine lv_iadd (pc := 26) hx hb dX1_laysClasses_26 ?_
      refine lv_iload (pc := 27) hx hb dX1_laysClasses_27 (lv_at hl 4 rfl) ?_
      refine lv_if_ne (pc := 29) (tgt := 36) hx hb dX1_laysClasses_29 rfl (fun c10 => ?_) (fun c10 => ?_)
      · have h := h.2 c10
        refine lv_iconst (pc := 36) (v := (0 : Int32)) hx hb dX1_laysClasses_36 (by decide) ?_
        exact kX1_laysClasses_37 X hml hr hlk ih _ _ _ _ _ _ _ _ _ _ h hw (lv_sub hl [0, 1, 2, 3, 4] rfl)
      · have h := h.1 c10
        refine lv_iconst (pc := 32) (v := (1 : Int32)) hx hb dX1_laysClasses_32 (by decide) ?_
        refine lv_goto (pc := 33) (tgt := 37) hx hb dX1_laysClasses_33 rfl ?_
        exact kX1_laysClasses_37 X hml hr hlk ih _ _ _ _ _ _ _ _ _ _ h hw (lv_sub hl [0, 1, 2, 3, 4] rfl)
theorem tX1_laysClasses {l : Launch} {G : gG} {h0 : Nat} {ad : Nat → Nat} (hd : mOk G h0 ad) {post : Unit → MS → Prop} {S : MS} {x1 : Int32} {x2 : Int32} (h : wX1_laysClasses post S x1 x2) : Met l yX1_laysClasses (ws_ yX1_laysClasses cX1_laysClasses 9 none) ⟨3, 0, 0, 71⟩ (va_Pc (.ref h0 :: [.int x1, .int x2]) (fun U => mBw G h0 ad S U.heap ∧ gK G U)) (gQ vV post (mBw G h0 ad) (mAd h0 ad)) 0 0 (mAd h0 ad) := by
  refine m_ofW (by decide) rfl hd (Nat.le_of_ble_eq_true rfl) (fun p e s m below meth c ls X hml hr hlk hw hl => ?_)
  have hl : lv_has ls 9 [(0, .ref h0), (1, .int x1), (2, .int x2)] := hl
  have hx := X.1
  have hb := X.2.1
  have hown := X.2.2.1
  have hts := X.2.2.2.1
  unfold wX1_laysClasses at h
  refine lv_aload_n (pc := 0) hx hb dX1_laysClasses_0 rfl (lv_at hl 0 rfl) ?_
  refine mg0 (pc := 1) X hw dX1_laysClasses_1 ?_
  refine lv_iload_n (pc := 4) hx hb dX1_laysClasses_4 rfl (lv_at hl 1 rfl) ?_
  obtain ⟨hi, h⟩ := h
  refine ma0 (pc := 5) X hw hi dX1_laysClasses_5 ?_
  refine lv_istore_n (pc := 6) (lv' := [(3, .int (S.2.2.1 0 x1.toNatClampNeg)), (0, .ref h0), (1, .int x1), (2, .int x2)]) hx hb dX1_laysClasses_6 rfl hl (by decide) rfl (fun ls hl => ?_)
  refine lv_iconst (pc := 7) (v := (0 : Int32)) hx hb dX1_laysClasses_7 (by decide) ?_
  refine lv_istore (pc := 8) (lv' := [(4, .int (0 : Int32)), (3, .int (S.2.2.1 0 x1.toNatClampNeg)), (0, .ref h0), (1, .int x1), (2, .int x2)]) hx hb dX1_laysClasses_8 hl (by decide) rfl (fun ls hl => ?_)
  obtain ⟨k, h⟩ := h
  exact kX1_laysClasses_10 X hml hr hlk  k _ _ _ _ _ _ _ _ h hw (lv_sub hl [2, 3, 4, 1, 0] rfl)
theorem uX1_laysClasses {p : Program} {l : Launch} {e : Env} {R : Room} {s : State} {m : MethodId} {args : Array Value} {below : List Frame} {meth : Method} {c : Code} {H : Heap} {locs : List Loc} {cells slots : Nat} {Q : Jvm.State → Prop} {cc : ByteArray} {pc : Nat} {ls : Array Slot} {rest : List Value} {G : gG} {h0 : Nat} {ad : Nat → Nat} {post : Unit → MS → Prop} {S : MS} {x1 : Int32} {x2 : Int32} {nL : Nat} (X : mX G h0 ad p s m args c cc) (hml : c.maxLocals = nL) (hw : mH G h0 ad s S H locs) (h : wX1_laysClasses post S x1 x2) (hR : 3 + 1 ≤ R.frames ∧ 8 + (9 + 11) + 71 ≤ R.locals) (hsz : ls.size = nL) (hr : (rest.map fun v => v.category).sum ≤ 8) (hc : cells ≤ R.cells ∧ slots ≤ R.slots) (d : decode cc pc = .ok (.invokevirtual 422, 3)) (kk : ∀ (r : Unit) (S1 : MS) (H1 : Heap) (locs1 : List Loc), post r S1 → mH G h0 ad s S1 H1 locs1 → W p l e R s m args below meth c H1 locs1 cells slots Q (F0 m (pc + 3) ls (rest))) : W p l e R s m args below meth c H locs cells slots Q (F0 m pc ls (.int x2 :: .int x1 :: .ref h0 :: rest)) :=
  m_call (val := vV) (post := post) (As := [.int x1, .int x2]) X hml hw (tX1_laysClasses X.2.2.2.2.2.1 h) (lw_V q2419 q2421 qs94 q105 q2422) ⟨rfl, by decide, by decide, (by decide +kernel : (parseMethodDescriptor yX1_laysClasses.desc).map (fun d => d.parameters.length) = some 2)⟩ hR hsz hr hc d rfl kk

def wX1_full_33 (post : Int32 → MS → Prop) : Nat → Int32 → MS → Prop
  | 0, _, _ => False
  | n + 1, x2, S => ((x2 ≤ (0 : Int32)) → (post x2 S)) ∧ (¬ (x2 ≤ (0 : Int32)) → (wX1_waysOf (fun r10 S11 => ((r10 ≤ (0 : Int64)) → (post x2 S11)) ∧ (¬ (r10 ≤ (0 : Int64)) → (wX1_full_33 post n (x2 + (-1 : Int32)) S11))) S (x2 - (1 : Int32))))
def wX1_full (post : Int32 → MS → Prop) (S : MS) (x1 : Int32) : Prop :=
  wX1_isForm (fun r1 S2 => ((r1 = (0 : Int32)) → (post (-1 : Int32) S2)) ∧ (¬ (r1 = (0 : Int32)) → (wX1_lays (fun _ S5 => wX1_waysOf (fun r6 S7 => ((r6 = (0 : Int64)) → (post (-1 : Int32) S7)) ∧ (¬ (r6 = (0 : Int64)) → ((∃ k, wX1_full_33 post k (3000 : Int32) S7)))) S5 (3000 : Int32)) S2 x1))) S x1
theorem kX1_full_33 {p : Program} {l : Launch} {e : Env} {s : State} {m : MethodId} {args : Array Value} {below : List Frame} {meth : Method} {c : Code} {G : gG} {h0 : Nat} {ad : Nat → Nat} {post : Int32 → MS → Prop} (X : mX G h0 ad p s m args c cX1_full) (hml : c.maxLocals = 3) (hr : meth.sig.returnType = (some .int)) (hlk : meth.locks = false) : ∀ (n : Nat) (x2 : Int32) (S : MS) (H : Heap) (locs : List Loc) (ls : Array Slot), wX1_full_33 post n x2 S → mH G h0 ad s S H locs → lv_has ls 3 [(0, .ref h0), (2, .int x2)] → W p l e ⟨4, 0, 0, 101⟩ s m args below meth c H locs 0 0 (MQ below (gQ vI post (mBw G h0 ad) (mAd h0 ad)) args s 0 0 (mAd h0 ad)) (F0 m 33 ls []) := by
  have hx := X.1
  have hb := X.2.1
  have hown := X.2.2.1
  have hts := X.2.2.2.1
  intro n
  induction n with
  | zero =>
    intro x2 S H locs ls h
    exact False.elim h
  | succ n ih =>
    intro x2 S H locs ls h hw hl
    unfold wX1_full_33 at h
    refine lv_iload_n (pc := 33) hx hb dX1_full_33 rfl (lv_at hl 1 rfl) ?_
    refine lv_if_le (pc := 34) (tgt := 55) hx hb dX1_full_34 rfl (fun c9 => ?_) (fun c9 => ?_)
    · have h := h.1 c9
      refine lv_iload_n (pc := 55) hx hb dX1_full_55 rfl (lv_at hl 1 rfl) ?_
      exact W.iret (pc := 56) hx hb hr (fun t ht hW => m_ret (val := vI) hw h ht) hw.2.2.2 dX1_full_56 hlk
    · have h := h.2 c9
      refine lv_aload_n (pc := 37) hx hb dX1_full_37 rfl (lv_at hl 0 rfl) ?_
      refine lv_iload_n (pc := 38) hx hb dX1_full_38 rfl (lv_at hl 1 rfl) ?_
      refine lv_iconst (pc := 39) (v := (1 : Int32)) hx hb dX1_full_39 (by decide) ?_
      refine lv_isub (pc := 40) hx hb dX1_full_40 ?_
      refine uX1_waysOf (pc := 41) X hml hw h ⟨Nat.le_of_ble_eq_true rfl, Nat.le_of_ble_eq_true rfl⟩ hl.1 (Nat.le_of_ble_eq_true rfl) ⟨Nat.le_refl _, Nat.le_refl _⟩ dX1_full_41 (fun r10 S11 H locs h hw => ?_)
      refine lv_lconst (pc := 44) (v := (0 : Int64)) hx hb dX1_full_44 (by decide) ?_
      refine W.lcmp (pc := 45) hx hb dX1_full_45 ?_
      refine lv_if_le (pc := 46) (tgt := 55) hx hb dX1_full_46 rfl (fun c12 => ?_) (fun c12 => ?_)
      · have h := h.1 ((lg_cmp_le _ _).mp c12)
        refine lv_iload_n (pc := 55) hx hb dX1_full_55 rfl (lv_at hl 1 rfl) ?_
        exact W.iret (pc := 56) hx hb hr (fun t ht hW => m_ret (val := vI) hw h ht) hw.2.2.2 dX1_full_56 hlk
      · have h := h.2 (fun z => c12 ((lg_cmp_le _ _).mpr z))
        refine lv_iinc (pc := 49) (v := x2 + (-1 : Int32)) (lv' := [(2, .int (x2 + (-1 : Int32))), (0, .ref h0)]) hx hb dX1_full_49 hl (k := 1) rfl rfl (by decide) rfl (fun ls hl => ?_)
        refine lv_goto (pc := 52) (tgt := 33) hx hb dX1_full_52 rfl ?_
        exact ih _ _ _ _ _ h hw (lv_sub hl [1, 0] rfl)
theorem tX1_full {l : Launch} {G : gG} {h0 : Nat} {ad : Nat → Nat} (hd : mOk G h0 ad) {post : Int32 → MS → Prop} {S : MS} {x1 : Int32} (h : wX1_full post S x1) : Met l yX1_full (ws_ yX1_full cX1_full 3 (some .int)) ⟨4, 0, 0, 101⟩ (va_Pc (.ref h0 :: [.int x1]) (fun U => mBw G h0 ad S U.heap ∧ gK G U)) (gQ vI post (mBw G h0 ad) (mAd h0 ad)) 0 0 (mAd h0 ad) := by
  refine m_ofW (by decide) rfl hd (Nat.le_of_ble_eq_true rfl) (fun p e s m below meth c ls X hml hr hlk hw hl => ?_)
  have hl : lv_has ls 3 [(0, .ref h0), (1, .int x1)] := hl
  have hx := X.1
  have hb := X.2.1
  have hown := X.2.2.1
  have hts := X.2.2.2.1
  unfold wX1_full at h
  refine lv_aload_n (pc := 0) hx hb dX1_full_0 rfl (lv_at hl 0 rfl) ?_
  refine lv_iload_n (pc := 1) hx hb dX1_full_1 rfl (lv_at hl 1 rfl) ?_
  refine uX1_isForm (pc := 2) X hml hw h ⟨Nat.le_of_ble_eq_true rfl, Nat.le_of_ble_eq_true rfl⟩ hl.1 (Nat.le_of_ble_eq_true rfl) ⟨Nat.le_refl _, Nat.le_refl _⟩ dX1_full_2 (fun r1 S2 H locs h hw => ?_)
  refine lv_if_ne (pc := 5) (tgt := 10) hx hb dX1_full_5 rfl (fun c3 => ?_) (fun c3 => ?_)
  · have h := h.2 c3
    refine lv_aload_n (pc := 10) hx hb dX1_full_10 rfl (lv_at hl 0 rfl) ?_
    refine lv_iload_n (pc := 11) hx hb dX1_full_11 rfl (lv_at hl 1 rfl) ?_
    refine uX1_lays (pc := 12) X hml hw h ⟨Nat.le_of_ble_eq_true rfl, Nat.le_of_ble_eq_true rfl⟩ hl.1 (Nat.le_of_ble_eq_true rfl) ⟨Nat.le_refl _, Nat.le_refl _⟩ dX1_full_12 (fun _ S5 H locs h hw => ?_)
    refine lv_aload_n (pc := 15) hx hb dX1_full_15 rfl (lv_at hl 0 rfl) ?_
    refine lv_sipush (pc := 16) (v := (3000 : Int32)) hx hb dX1_full_16 (by decide) ?_
    refine uX1_waysOf (pc := 19) X hml hw h ⟨Nat.le_of_ble_eq_true rfl, Nat.le_of_ble_eq_true rfl⟩ hl.1 (Nat.le_of_ble_eq_true rfl) ⟨Nat.le_refl _, Nat.le_refl _⟩ dX1_full_19 (fun r6 S7 H locs h hw => ?_)
    refine lv_lconst (pc := 22) (v := (0 : Int64)) hx hb dX1_full_22 (by decide) ?_
    refine W.lcmp (pc := 23) hx hb dX1_full_23 ?_
    refine lv_if_ne (pc := 24) (tgt := 29) hx hb dX1_full_24 rfl (fun c8 => ?_) (fun c8 => ?_)
    · have h := h.2 (fun z => c8 ((lg_cmp_eq _ _).mpr z))
      refine lv_sipush (pc := 29) (v := (3000 : Int32)) hx hb dX1_full_29 (by decide) ?_
      refine lv_istore_n (pc := 32) (lv' := [(2, .int (3000 : Int32)), (0, .ref h0), (1, .int x1)]) hx hb dX1_full_32 rfl hl (by decide) rfl (fun ls hl => ?_)
      obtain ⟨k, h⟩ := h
      exact kX1_full_33 X hml hr hlk  k _ _ _ _ _ h hw (lv_sub hl [1, 0] rfl)
    · have h := h.1 ((lg_cmp_eq _ _).mp c8)
      refine lv_iconst (pc := 27) (v := (-1 : Int32)) hx hb dX1_full_27 (by decide) ?_
      exact W.iret (pc := 28) hx hb hr (fun t ht hW => m_ret (val := vI) hw h ht) hw.2.2.2 dX1_full_28 hlk
  · have h := h.1 c3
    refine lv_iconst (pc := 8) (v := (-1 : Int32)) hx hb dX1_full_8 (by decide) ?_
    exact W.iret (pc := 9) hx hb hr (fun t ht hW => m_ret (val := vI) hw h ht) hw.2.2.2 dX1_full_9 hlk

def wX1_met (post : Int64 → MS → Prop) (S : MS) (x1 : Int32) (x2 : Int32) (x3 : Int32) : Prop :=
  wX1_isClass (fun r1 S2 => ((r1 = (0 : Int32)) → (post (-1 : Int64) S2)) ∧ (¬ (r1 = (0 : Int32)) → (wX1_laysClasses (fun _ S5 => vp_in x3 360 ∧ (post (S5.2.2.2 46 x3.toNatClampNeg) S5)) S2 x1 x2))) S x1 x2 x3
theorem tX1_met {l : Launch} {G : gG} {h0 : Nat} {ad : Nat → Nat} (hd : mOk G h0 ad) {post : Int64 → MS → Prop} {S : MS} {x1 : Int32} {x2 : Int32} {x3 : Int32} (h : wX1_met post S x1 x2 x3) : Met l yX1_met (ws_ yX1_met cX1_met 4 (some .long)) ⟨4, 0, 0, 99⟩ (va_Pc (.ref h0 :: [.int x1, .int x2, .int x3]) (fun U => mBw G h0 ad S U.heap ∧ gK G U)) (gQ vL post (mBw G h0 ad) (mAd h0 ad)) 0 0 (mAd h0 ad) := by
  refine m_ofW (by decide) rfl hd (Nat.le_of_ble_eq_true rfl) (fun p e s m below meth c ls X hml hr hlk hw hl => ?_)
  have hl : lv_has ls 4 [(0, .ref h0), (1, .int x1), (2, .int x2), (3, .int x3)] := hl
  have hx := X.1
  have hb := X.2.1
  have hown := X.2.2.1
  have hts := X.2.2.2.1
  unfold wX1_met at h
  refine lv_aload_n (pc := 0) hx hb dX1_met_0 rfl (lv_at hl 0 rfl) ?_
  refine lv_iload_n (pc := 1) hx hb dX1_met_1 rfl (lv_at hl 1 rfl) ?_
  refine lv_iload_n (pc := 2) hx hb dX1_met_2 rfl (lv_at hl 2 rfl) ?_
  refine lv_iload_n (pc := 3) hx hb dX1_met_3 rfl (lv_at hl 3 rfl) ?_
  refine uX1_isClass (pc := 4) X hml hw h ⟨Nat.le_of_ble_eq_true rfl, Nat.le_of_ble_eq_true rfl⟩ hl.1 (Nat.le_of_ble_eq_true rfl) ⟨Nat.le_refl _, Nat.le_refl _⟩ dX1_met_4 (fun r1 S2 H locs h hw => ?_)
  refine lv_if_ne (pc := 7) (tgt := 14) hx hb dX1_met_7 rfl (fun c3 => ?_) (fun c3 => ?_)
  · have h := h.2 c3
    refine lv_aload_n (pc := 14) hx hb dX1_met_14 rfl (lv_at hl 0 rfl) ?_
    refine lv_iload_n (pc := 15) hx hb dX1_met_15 rfl (lv_at hl 1 rfl) ?_
    refine lv_iload_n (pc := 16) hx hb dX1_met_16 rfl (lv_at hl 2 rfl) ?_
    refine uX1_laysClasses (pc := 17) X hml hw h ⟨Nat.le_of_ble_eq_true rfl, Nat.le_of_ble_eq_true rfl⟩ hl.1 (Nat.le_of_ble_eq_true rfl) ⟨Nat.le_refl _, Nat.le_refl _⟩ dX1_met_17 (fun _ S5 H locs h hw => ?_)
    refine lv_aload_n (pc := 20) hx hb dX1_met_20 rfl (lv_at hl 0 rfl) ?_
    refine mg46 (pc := 21) X hw dX1_met_21 ?_
    refine lv_iload_n (pc := 24) hx hb dX1_met_24 rfl (lv_at hl 3 rfl) ?_
    obtain ⟨hi, h⟩ := h
    refine ma46 (pc := 25) X hw hi dX1_met_25 ?_
    exact W.lret (pc := 26) hx hb hr (fun t ht hW => m_ret (val := vL) hw h ht) hw.2.2.2 dX1_met_26 hlk
  · have h := h.1 c3
    refine lv_ldc2 (pc := 10) hx hb hown (hts _ q2243) dX1_met_10 ?_
    exact W.lret (pc := 13) hx hb hr (fun t ht hW => m_ret (val := vL) hw h ht) hw.2.2.2 dX1_met_13 hlk

def wX1_meets_60 (K50 : Int32 → Int32 → Int32 → Int32 → Int32 → Int32 → MS → Prop) (post : Int32 → MS → Prop) : Nat → Int32 → Int32 → Int32 → Int32 → Int32 → Int32 → MS → Prop
  | 0, _, _, _, _, _, _, _ => False
  | n + 1, x1, x2, x4, x5, x6, x7, S => wX1_classOf (fun r11 S12 => ¬ x2 = 0 ∧ (vp_in (((60 : Int32) * (x7 + (1 : Int32))) + (((x5 - r11) + x2) - ((x5 - r11) + x2) / x2 * x2)) 360 ∧ ((((S12.2.2.2 46 (((60 : Int32) * (x7 + (1 : Int32))) + (((x5 - r11) + x2) - ((x5 - r11) + x2) / x2 * x2)).toNatClampNeg) = (0 : Int64)) → (wX1_meets_60 K50 post n x1 x2 x4 x5 (x6 + (1 : Int32)) x7 S12)) ∧ (¬ ((S12.2.2.2 46 (((60 : Int32) * (x7 + (1 : Int32))) + (((x5 - r11) + x2) - ((x5 - r11) + x2) / x2 * x2)).toNatClampNeg) = (0 : Int64)) → (wX1_classOf (fun r14 S15 => ¬ x2 = 0 ∧ (K50 x1 x2 x4 (((x5 - r14) + x2) - ((x5 - r14) + x2) / x2 * x2) x6 (x7 + (1 : Int32)) S15)) S12 x1 x7 x6 x2))))) S x1 x7 x6 x2
def wX1_meets_50 (post : Int32 → MS → Prop) : Nat → Int32 → Int32 → Int32 → Int32 → Int32 → Int32 → MS → Prop
  | 0, _, _, _, _, _, _, _ => False
  | n + 1, x1, x2, x4, x5, x6, x7, S => ((x4 < x7) → (post x6 S)) ∧ (¬ (x4 < x7) → ((∃ k, wX1_meets_60 (fun x1 x2 x4 x5 x6 x7 S => wX1_meets_50 post n x1 x2 x4 x5 x6 x7 S) post k x1 x2 x4 x5 (0 : Int32) x7 S)))
def wX1_meets (post : Int32 → MS → Prop) (S : MS) (x1 : Int32) (x2 : Int32) (x3 : Int32) (x4 : Int32) : Prop :=
  wX1_isClass (fun r1 S2 => ((r1 = (0 : Int32)) → (post (-1 : Int32) S2)) ∧ (¬ (r1 = (0 : Int32)) → (wX1_isTerm (fun r4 S5 => ((r4 = (0 : Int32)) → (post (-1 : Int32) S5)) ∧ (¬ (r4 = (0 : Int32)) → (wX1_laysClasses (fun _ S8 => vp_in x3 360 ∧ ((((S8.2.2.2 46 x3.toNatClampNeg) = (0 : Int64)) → (post (-1 : Int32) S8)) ∧ (¬ ((S8.2.2.2 46 x3.toNatClampNeg) = (0 : Int64)) → ((∃ k, wX1_meets_50 post k x1 x2 x4 x3 (0 : Int32) (0 : Int32) S8))))) S5 x1 x2))) S2 x1 x4))) S x1 x2 x3
theorem kX1_meets_60 {p : Program} {l : Launch} {e : Env} {s : State} {m : MethodId} {args : Array Value} {below : List Frame} {meth : Method} {c : Code} {G : gG} {h0 : Nat} {ad : Nat → Nat} {K50 : Int32 → Int32 → Int32 → Int32 → Int32 → Int32 → MS → Prop} {post : Int32 → MS → Prop} (X : mX G h0 ad p s m args c cX1_meets) (hml : c.maxLocals = 8) (hr : meth.sig.returnType = (some .int)) (hlk : meth.locks = false) (hK50 : ∀ (x1 : Int32) (x2 : Int32) (x4 : Int32) (x5 : Int32) (x6 : Int32) (x7 : Int32) (S : MS) (H : Heap) (locs : List Loc) (ls : Array Slot), K50 x1 x2 x4 x5 x6 x7 S → mH G h0 ad s S H locs → lv_has ls 8 [(0, .ref h0), (1, .int x1), (2, .int x2), (4, .int x4), (5, .int x5), (6, .int x6), (7, .int x7)] → W p l e ⟨4, 0, 0, 99⟩ s m args below meth c H locs 0 0 (MQ below (gQ vI post (mBw G h0 ad) (mAd h0 ad)) args s 0 0 (mAd h0 ad)) (F0 m 50 ls [])) : ∀ (n : Nat) (x1 : Int32) (x2 : Int32) (x4 : Int32) (x5 : Int32) (x6 : Int32) (x7 : Int32) (S : MS) (H : Heap) (locs : List Loc) (ls : Array Slot), wX1_meets_60 K50 post n x1 x2 x4 x5 x6 x7 S → mH G h0 ad s S H locs → lv_has ls 8 [(0, .ref h0), (1, .int x1), (2, .int x2), (4, .int x4), (5, .int x5), (6, .int x6), (7, .int x7)] → W p l e ⟨4, 0, 0, 99⟩ s m args below meth c H locs 0 0 (MQ below (gQ vI post (mBw G h0 ad) (mAd h0 ad)) args s 0 0 (mAd h0 ad)) (F0 m 60 ls []) := by
  have hx := X.1
  have hb := X.2.1
  have hown := X.2.2.1
  have hts := X.2.2.2.1
  intro n
  induction n with
  | zero =>
    intro x1 x2 x4 x5 x6 x7 S H locs ls h
    exact False.elim h
  | succ n ih =>
    intro x1 x2 x4 x5 x6 x7 S H locs ls h hw hl
    unfold wX1_meets_60 at h
    refine lv_aload_n (pc := 60) hx hb dX1_meets_60 rfl (lv_at hl 0 rfl) ?_
    refine mg46 (pc := 61) X hw dX1_meets_61 ?_
    refine lv_bipush (pc := 64) (v := (60 : Int32)) hx hb dX1_meets_64 (by decide) ?_
    refine lv_iload (pc := 66) hx hb dX1_meets_66 (lv_at hl 6 rfl) ?_
    refine lv_iconst (pc := 68) (v := (1 : Int32)) hx hb dX1_meets_68 (by decide) ?_
    refine lv_iadd (pc := 69) hx hb dX1_meets_69 ?_
    refine lv_imul (pc := 70) hx hb dX1_meets_70 ?_
    refine lv_iload (pc := 71) hx hb dX1_meets_71 (lv_at hl 4 rfl) ?_
    refine lv_aload_n (pc := 73) hx hb dX1_meets_73 rfl (lv_at hl 0 rfl) ?_
    refine lv_iload_n (pc := 74) hx hb dX1_meets_74 rfl (lv_at hl 1 rfl) ?_
    refine lv_iload (pc := 75) hx hb dX1_meets_75 (lv_at hl 6 rfl) ?_
    refine lv_iload (pc := 77) hx hb dX1_meets_77 (lv_at hl 5 rfl) ?_
    refine lv_iload_n (pc := 79) hx hb dX1_meets_79 rfl (lv_at hl 2 rfl) ?_
    refine uX1_classOf (pc := 80) X hml hw h ⟨Nat.le_of_ble_eq_true rfl, Nat.le_of_ble_eq_true rfl⟩ hl.1 (Nat.le_of_ble_eq_true rfl) ⟨Nat.le_refl _, Nat.le_refl _⟩ dX1_meets_80 (fun r11 S12 H locs h hw => ?_)
    refine lv_isub (pc := 83) hx hb dX1_meets_83 ?_
    refine lv_iload_n (pc := 84) hx hb dX1_meets_84 rfl (lv_at hl 2 rfl) ?_
    refine lv_iadd (pc := 85) hx hb dX1_meets_85 ?_
    refine lv_iload_n (pc := 86) hx hb dX1_meets_86 rfl (lv_at hl 2 rfl) ?_
    obtain ⟨hne, h⟩ := h
    refine lv_irem (pc := 87) hx hb dX1_meets_87 hne ?_
    refine lv_iadd (pc := 88) hx hb dX1_meets_88 ?_
    obtain ⟨hi, h⟩ := h
    refine ma46 (pc := 89) X hw hi dX1_meets_89 ?_
    refine lv_lconst (pc := 90) (v := (0 : Int64)) hx hb dX1_meets_90 (by decide) ?_
    refine W.lcmp (pc := 91) hx hb dX1_meets_91 ?_
    refine lv_if_ne (pc := 92) (tgt := 101) hx hb dX1_meets_92 rfl (fun c13 => ?_) (fun c13 => ?_)
    · have h := h.2 (fun z => c13 ((lg_cmp_eq _ _).mpr z))
      refine lv_iload (pc := 101) hx hb dX1_meets_101 (lv_at hl 4 rfl) ?_
      refine lv_aload_n (pc := 103) hx hb dX1_meets_103 rfl (lv_at hl 0 rfl) ?_
      refine lv_iload_n (pc := 104) hx hb dX1_meets_104 rfl (lv_at hl 1 rfl) ?_
      refine lv_iload (pc := 105) hx hb dX1_meets_105 (lv_at hl 6 rfl) ?_
      refine lv_iload (pc := 107) hx hb dX1_meets_107 (lv_at hl 5 rfl) ?_
      refine lv_iload_n (pc := 109) hx hb dX1_meets_109 rfl (lv_at hl 2 rfl) ?_
      refine uX1_classOf (pc := 110) X hml hw h ⟨Nat.le_of_ble_eq_true rfl, Nat.le_of_ble_eq_true rfl⟩ hl.1 (Nat.le_of_ble_eq_true rfl) ⟨Nat.le_refl _, Nat.le_refl _⟩ dX1_meets_110 (fun r14 S15 H locs h hw => ?_)
      refine lv_isub (pc := 113) hx hb dX1_meets_113 ?_
      refine lv_iload_n (pc := 114) hx hb dX1_meets_114 rfl (lv_at hl 2 rfl) ?_
      refine lv_iadd (pc := 115) hx hb dX1_meets_115 ?_
      refine lv_iload_n (pc := 116) hx hb dX1_meets_116 rfl (lv_at hl 2 rfl) ?_
      obtain ⟨hne, h⟩ := h
      refine lv_irem (pc := 117) hx hb dX1_meets_117 hne ?_
      refine lv_istore (pc := 118) (lv' := [(5, .int (((x5 - r14) + x2) - ((x5 - r14) + x2) / x2 * x2)), (0, .ref h0), (1, .int x1), (2, .int x2), (4, .int x4), (6, .int x6), (7, .int x7)]) hx hb dX1_meets_118 hl (by decide) rfl (fun ls hl => ?_)
      refine lv_iinc (pc := 120) (v := x7 + (1 : Int32)) (lv' := [(7, .int (x7 + (1 : Int32))), (5, .int (((x5 - r14) + x2) - ((x5 - r14) + x2) / x2 * x2)), (0, .ref h0), (1, .int x1), (2, .int x2), (4, .int x4), (6, .int x6)]) hx hb dX1_meets_120 hl (k := 6) rfl rfl (by decide) rfl (fun ls hl => ?_)
      refine lv_goto (pc := 123) (tgt := 50) hx hb dX1_meets_123 rfl ?_
      exact hK50 _ _ _ _ _ _ _ _ _ _ h hw (lv_sub hl [2, 3, 4, 5, 1, 6, 0] rfl)
    · have h := h.1 ((lg_cmp_eq _ _).mp c13)
      refine lv_iinc (pc := 95) (v := x6 + (1 : Int32)) (lv' := [(6, .int (x6 + (1 : Int32))), (0, .ref h0), (1, .int x1), (2, .int x2), (4, .int x4), (5, .int x5), (7, .int x7)]) hx hb dX1_meets_95 hl (k := 5) rfl rfl (by decide) rfl (fun ls hl => ?_)
      refine lv_goto (pc := 98) (tgt := 60) hx hb dX1_meets_98 rfl ?_
      exact ih _ _ _ _ _ _ _ _ _ _ h hw (lv_sub hl [1, 2, 3, 4, 5, 0, 6] rfl)
theorem kX1_meets_50 {p : Program} {l : Launch} {e : Env} {s : State} {m : MethodId} {args : Array Value} {below : List Frame} {meth : Method} {c : Code} {G : gG} {h0 : Nat} {ad : Nat → Nat} {post : Int32 → MS → Prop} (X : mX G h0 ad p s m args c cX1_meets) (hml : c.maxLocals = 8) (hr : meth.sig.returnType = (some .int)) (hlk : meth.locks = false) : ∀ (n : Nat) (x1 : Int32) (x2 : Int32) (x4 : Int32) (x5 : Int32) (x6 : Int32) (x7 : Int32) (S : MS) (H : Heap) (locs : List Loc) (ls : Array Slot), wX1_meets_50 post n x1 x2 x4 x5 x6 x7 S → mH G h0 ad s S H locs → lv_has ls 8 [(0, .ref h0), (1, .int x1), (2, .int x2), (4, .int x4), (5, .int x5), (6, .int x6), (7, .int x7)] → W p l e ⟨4, 0, 0, 99⟩ s m args below meth c H locs 0 0 (MQ below (gQ vI post (mBw G h0 ad) (mAd h0 ad)) args s 0 0 (mAd h0 ad)) (F0 m 50 ls []) := by
  have hx := X.1
  have hb := X.2.1
  have hown := X.2.2.1
  have hts := X.2.2.2.1
  intro n
  induction n with
  | zero =>
    intro x1 x2 x4 x5 x6 x7 S H locs ls h
    exact False.elim h
  | succ n ih =>
    intro x1 x2 x4 x5 x6 x7 S H locs ls h hw hl
    unfold wX1_meets_50 at h
    refine lv_iload (pc := 50) hx hb dX1_meets_50 (lv_at hl 6 rfl) ?_
    refine lv_iload (pc := 52) hx hb dX1_meets_52 (lv_at hl 3 rfl) ?_
    refine lv_icmp_gt (pc := 54) (tgt := 126) hx hb dX1_meets_54 rfl (fun c10 => ?_) (fun c10 => ?_)
    · have h := h.1 c10
      refine lv_iload (pc := 126) hx hb dX1_meets_126 (lv_at hl 5 rfl) ?_
      exact W.iret (pc := 128) hx hb hr (fun t ht hW => m_ret (val := vI) hw h ht) hw.2.2.2 dX1_meets_128 hlk
    · have h := h.2 c10
      refine lv_iconst (pc := 57) (v := (0 : Int32)) hx hb dX1_meets_57 (by decide) ?_
      refine lv_istore (pc := 58) (lv' := [(6, .int (0 : Int32)), (0, .ref h0), (1, .int x1), (2, .int x2), (4, .int x4), (5, .int x5), (7, .int x7)]) hx hb dX1_meets_58 hl (by decide) rfl (fun ls hl => ?_)
      obtain ⟨k, h⟩ := h
      exact kX1_meets_60 X hml hr hlk ih k _ _ _ _ _ _ _ _ _ _ h hw (lv_sub hl [1, 2, 3, 4, 5, 0, 6] rfl)
theorem tX1_meets {l : Launch} {G : gG} {h0 : Nat} {ad : Nat → Nat} (hd : mOk G h0 ad) {post : Int32 → MS → Prop} {S : MS} {x1 : Int32} {x2 : Int32} {x3 : Int32} {x4 : Int32} (h : wX1_meets post S x1 x2 x3 x4) : Met l yX1_meets (ws_ yX1_meets cX1_meets 8 (some .int)) ⟨4, 0, 0, 99⟩ (va_Pc (.ref h0 :: [.int x1, .int x2, .int x3, .int x4]) (fun U => mBw G h0 ad S U.heap ∧ gK G U)) (gQ vI post (mBw G h0 ad) (mAd h0 ad)) 0 0 (mAd h0 ad) := by
  refine m_ofW (by decide) rfl hd (Nat.le_of_ble_eq_true rfl) (fun p e s m below meth c ls X hml hr hlk hw hl => ?_)
  have hl : lv_has ls 8 [(0, .ref h0), (1, .int x1), (2, .int x2), (3, .int x3), (4, .int x4)] := hl
  have hx := X.1
  have hb := X.2.1
  have hown := X.2.2.1
  have hts := X.2.2.2.1
  unfold wX1_meets at h
  refine lv_aload_n (pc := 0) hx hb dX1_meets_0 rfl (lv_at hl 0 rfl) ?_
  refine lv_iload_n (pc := 1) hx hb dX1_meets_1 rfl (lv_at hl 1 rfl) ?_
  refine lv_iload_n (pc := 2) hx hb dX1_meets_2 rfl (lv_at hl 2 rfl) ?_
  refine lv_iload_n (pc := 3) hx hb dX1_meets_3 rfl (lv_at hl 3 rfl) ?_
  refine uX1_isClass (pc := 4) X hml hw h ⟨Nat.le_of_ble_eq_true rfl, Nat.le_of_ble_eq_true rfl⟩ hl.1 (Nat.le_of_ble_eq_true rfl) ⟨Nat.le_refl _, Nat.le_refl _⟩ dX1_meets_4 (fun r1 S2 H locs h hw => ?_)
  refine lv_if_eq (pc := 7) (tgt := 20) hx hb dX1_meets_7 rfl (fun c3 => ?_) (fun c3 => ?_)
  · have h := h.1 c3
    refine lv_iconst (pc := 20) (v := (-1 : Int32)) hx hb dX1_meets_20 (by decide) ?_
    exact W.iret (pc := 21) hx hb hr (fun t ht hW => m_ret (val := vI) hw h ht) hw.2.2.2 dX1_meets_21 hlk
  · have h := h.2 c3
    refine lv_aload_n (pc := 10) hx hb dX1_meets_10 rfl (lv_at hl 0 rfl) ?_
    refine lv_iload_n (pc := 11) hx hb dX1_meets_11 rfl (lv_at hl 1 rfl) ?_
    refine lv_iload (pc := 12) hx hb dX1_meets_12 (lv_at hl 4 rfl) ?_
    refine uX1_isTerm (pc := 14) X hml hw h ⟨Nat.le_of_ble_eq_true rfl, Nat.le_of_ble_eq_true rfl⟩ hl.1 (Nat.le_of_ble_eq_true rfl) ⟨Nat.le_refl _, Nat.le_refl _⟩ dX1_meets_14 (fun r4 S5 H locs h hw => ?_)
    refine lv_if_ne (pc := 17) (tgt := 22) hx hb dX1_meets_17 rfl (fun c6 => ?_) (fun c6 => ?_)
    · have h := h.2 c6
      refine lv_aload_n (pc := 22) hx hb dX1_meets_22 rfl (lv_at hl 0 rfl) ?_
      refine lv_iload_n (pc := 23) hx hb dX1_meets_23 rfl (lv_at hl 1 rfl) ?_
      refine lv_iload_n (pc := 24) hx hb dX1_meets_24 rfl (lv_at hl 2 rfl) ?_
      refine uX1_laysClasses (pc := 25) X hml hw h ⟨Nat.le_of_ble_eq_true rfl, Nat.le_of_ble_eq_true rfl⟩ hl.1 (Nat.le_of_ble_eq_true rfl) ⟨Nat.le_refl _, Nat.le_refl _⟩ dX1_meets_25 (fun _ S8 H locs h hw => ?_)
      refine lv_aload_n (pc := 28) hx hb dX1_meets_28 rfl (lv_at hl 0 rfl) ?_
      refine mg46 (pc := 29) X hw dX1_meets_29 ?_
      refine lv_iload_n (pc := 32) hx hb dX1_meets_32 rfl (lv_at hl 3 rfl) ?_
      obtain ⟨hi, h⟩ := h
      refine ma46 (pc := 33) X hw hi dX1_meets_33 ?_
      refine lv_lconst (pc := 34) (v := (0 : Int64)) hx hb dX1_meets_34 (by decide) ?_
      refine W.lcmp (pc := 35) hx hb dX1_meets_35 ?_
      refine lv_if_ne (pc := 36) (tgt := 41) hx hb dX1_meets_36 rfl (fun c9 => ?_) (fun c9 => ?_)
      · have h := h.2 (fun z => c9 ((lg_cmp_eq _ _).mpr z))
        refine lv_iload_n (pc := 41) hx hb dX1_meets_41 rfl (lv_at hl 3 rfl) ?_
        refine lv_istore (pc := 42) (lv' := [(5, .int x3), (0, .ref h0), (1, .int x1), (2, .int x2), (3, .int x3), (4, .int x4)]) hx hb dX1_meets_42 hl (by decide) rfl (fun ls hl => ?_)
        refine lv_iconst (pc := 44) (v := (0 : Int32)) hx hb dX1_meets_44 (by decide) ?_
        refine lv_istore (pc := 45) (lv' := [(6, .int (0 : Int32)), (5, .int x3), (0, .ref h0), (1, .int x1), (2, .int x2), (3, .int x3), (4, .int x4)]) hx hb dX1_meets_45 hl (by decide) rfl (fun ls hl => ?_)
        refine lv_iconst (pc := 47) (v := (0 : Int32)) hx hb dX1_meets_47 (by decide) ?_
        refine lv_istore (pc := 48) (lv' := [(7, .int (0 : Int32)), (6, .int (0 : Int32)), (5, .int x3), (0, .ref h0), (1, .int x1), (2, .int x2), (3, .int x3), (4, .int x4)]) hx hb dX1_meets_48 hl (by decide) rfl (fun ls hl => ?_)
        obtain ⟨k, h⟩ := h
        exact kX1_meets_50 X hml hr hlk  k _ _ _ _ _ _ _ _ _ _ h hw (lv_sub hl [3, 4, 5, 7, 2, 1, 0] rfl)
      · have h := h.1 ((lg_cmp_eq _ _).mp c9)
        refine lv_iconst (pc := 39) (v := (-1 : Int32)) hx hb dX1_meets_39 (by decide) ?_
        exact W.iret (pc := 40) hx hb hr (fun t ht hW => m_ret (val := vI) hw h ht) hw.2.2.2 dX1_meets_40 hlk
    · have h := h.1 c6
      refine lv_iconst (pc := 20) (v := (-1 : Int32)) hx hb dX1_meets_20 (by decide) ?_
      exact W.iret (pc := 21) hx hb hr (fun t ht hW => m_ret (val := vI) hw h ht) hw.2.2.2 dX1_meets_21 hlk

def wX1_never_57 (K24 : Int32 → Int32 → Int32 → Int32 → MS → Prop) (post : Int32 → MS → Prop) (x2 : Int32) (x3 : Int32) (x4 : Int32) (x5 : Int32) (S : MS) : Prop :=
  K24 x2 x3 x4 (x5 + (1 : Int32)) S
def wX1_never_24 (post : Int32 → MS → Prop) : Nat → Int32 → Int32 → Int32 → Int32 → MS → Prop
  | 0, _, _, _, _, _ => False
  | n + 1, x2, x3, x4, x5, S => ((x2 ≤ x5) → (((x3 = (-1 : Int32)) → (post x4 S)) ∧ (¬ (x3 = (-1 : Int32)) → (post (-1 : Int32) S)))) ∧ (¬ (x2 ≤ x5) → (vp_in x5 360 ∧ ((((S.2.2.2 46 x5.toNatClampNeg) ≤ (0 : Int64)) → (((x4 = x3) → (post x5 S)) ∧ (¬ (x4 = x3) → (wX1_never_57 (fun x2 x3 x4 x5 S => wX1_never_24 post n x2 x3 x4 x5 S) post x2 x3 (x4 + (1 : Int32)) x5 S)))) ∧ (¬ ((S.2.2.2 46 x5.toNatClampNeg) ≤ (0 : Int64)) → (wX1_never_57 (fun x2 x3 x4 x5 S => wX1_never_24 post n x2 x3 x4 x5 S) post x2 x3 x4 x5 S)))))
def wX1_never (post : Int32 → MS → Prop) (S : MS) (x1 : Int32) (x2 : Int32) (x3 : Int32) : Prop :=
  wX1_isClass (fun r1 S2 => ((r1 = (0 : Int32)) → (post (-1 : Int32) S2)) ∧ (¬ (r1 = (0 : Int32)) → (wX1_laysClasses (fun _ S5 => (∃ k, wX1_never_24 post k x2 x3 (0 : Int32) (0 : Int32) S5)) S2 x1 x2))) S x1 x2 (0 : Int32)
theorem kX1_never_57 {p : Program} {l : Launch} {e : Env} {s : State} {m : MethodId} {args : Array Value} {below : List Frame} {meth : Method} {c : Code} {G : gG} {h0 : Nat} {ad : Nat → Nat} {K24 : Int32 → Int32 → Int32 → Int32 → MS → Prop} {post : Int32 → MS → Prop} (X : mX G h0 ad p s m args c cX1_never) (hml : c.maxLocals = 6) (hr : meth.sig.returnType = (some .int)) (hlk : meth.locks = false) (hK24 : ∀ (x2 : Int32) (x3 : Int32) (x4 : Int32) (x5 : Int32) (S : MS) (H : Heap) (locs : List Loc) (ls : Array Slot), K24 x2 x3 x4 x5 S → mH G h0 ad s S H locs → lv_has ls 6 [(0, .ref h0), (2, .int x2), (3, .int x3), (4, .int x4), (5, .int x5)] → W p l e ⟨4, 0, 0, 99⟩ s m args below meth c H locs 0 0 (MQ below (gQ vI post (mBw G h0 ad) (mAd h0 ad)) args s 0 0 (mAd h0 ad)) (F0 m 24 ls [])) : ∀ (x2 : Int32) (x3 : Int32) (x4 : Int32) (x5 : Int32) (S : MS) (H : Heap) (locs : List Loc) (ls : Array Slot), wX1_never_57 K24 post x2 x3 x4 x5 S → mH G h0 ad s S H locs → lv_has ls 6 [(0, .ref h0), (2, .int x2), (3, .int x3), (4, .int x4), (5, .int x5)] → W p l e ⟨4, 0, 0, 99⟩ s m args below meth c H locs 0 0 (MQ below (gQ vI post (mBw G h0 ad) (mAd h0 ad)) args s 0 0 (mAd h0 ad)) (F0 m 57 ls []) := by
  have hx := X.1
  have hb := X.2.1
  have hown := X.2.2.1
  have hts := X.2.2.2.1
  intro x2 x3 x4 x5 S H locs ls h hw hl
  unfold wX1_never_57 at h
  refine lv_iinc (pc := 57) (v := x5 + (1 : Int32)) (lv' := [(5, .int (x5 + (1 : Int32))), (0, .ref h0), (2, .int x2), (3, .int x3), (4, .int x4)]) hx hb dX1_never_57 hl (k := 4) rfl rfl (by decide) rfl (fun ls hl => ?_)
  refine lv_goto (pc := 60) (tgt := 24) hx hb dX1_never_60 rfl ?_
  exact hK24 _ _ _ _ _ _ _ _ h hw (lv_sub hl [1, 2, 3, 4, 0] rfl)
theorem kX1_never_24 {p : Program} {l : Launch} {e : Env} {s : State} {m : MethodId} {args : Array Value} {below : List Frame} {meth : Method} {c : Code} {G : gG} {h0 : Nat} {ad : Nat → Nat} {post : Int32 → MS → Prop} (X : mX G h0 ad p s m args c cX1_never) (hml : c.maxLocals = 6) (hr : meth.sig.returnType = (some .int)) (hlk : meth.locks = false) : ∀ (n : Nat) (x2 : Int32) (x3 : Int32) (x4 : Int32) (x5 : Int32) (S : MS) (H : Heap) (locs : List Loc) (ls : Array Slot), wX1_never_24 post n x2 x3 x4 x5 S → mH G h0 ad s S H locs → lv_has ls 6 [(0, .ref h0), (2, .int x2), (3, .int x3), (4, .int x4), (5, .int x5)] → W p l e ⟨4, 0, 0, 99⟩ s m args below meth c H locs 0 0 (MQ below (gQ vI post (mBw G h0 ad) (mAd h0 ad)) args s 0 0 (mAd h0 ad)) (F0 m 24 ls []) := by
  have hx := X.1
  have hb := X.2.1
  have hown := X.2.2.1
  have hts := X.2.2.2.1
  intro n
  induction n with
  | zero =>
    intro x2 x3 x4 x5 S H locs ls h
    exact False.elim h
  | succ n ih =>
    intro x2 x3 x4 x5 S H locs ls h hw hl
    unfold wX1_never_24 at h
    refine lv_iload (pc := 24) hx hb dX1_never_24 (lv_at hl 4 rfl) ?_
    refine lv_iload_n (pc := 26) hx hb dX1_never_26 rfl (lv_at hl 1 rfl) ?_
    refine lv_icmp_ge (pc := 27) (tgt := 63) hx hb dX1_never_27 rfl (fun c6 => ?_) (fun c6 => ?_)
    · have h := h.1 c6
      refine lv_iload_n (pc := 63) hx hb dX1_never_63 rfl (lv_at hl 2 rfl) ?_
      refine lv_iconst (pc := 64) (v := (-1 : Int32)) hx hb dX1_never_64 (by decide) ?_
      refine lv_icmp_ne (pc := 65) (tgt := 73) hx hb dX1_never_65 rfl (fun c7 => ?_) (fun c7 => ?_)
      · have h := h.2 c7
        refine lv_iconst (pc := 73) (v := (-1 : Int32)) hx hb dX1_never_73 (by decide) ?_
        exact W.iret (pc := 74) hx hb hr (fun t ht hW => m_ret (val := vI) hw h ht) hw.2.2.2 dX1_never_74 hlk
      · have h := h.1 c7
        refine lv_iload (pc := 68) hx hb dX1_never_68 (lv_at hl 3 rfl) ?_
        refine lv_goto (pc := 70) (tgt := 74) hx hb dX1_never_70 rfl ?_
        exact W.iret (pc := 74) hx hb hr (fun t ht hW => m_ret (val := vI) hw h ht) hw.2.2.2 dX1_never_74 hlk
    · have h := h.2 c6
      refine lv_aload_n (pc := 30) hx hb dX1_never_30 rfl (lv_at hl 0 rfl) ?_
      refine mg46 (pc := 31) X hw dX1_never_31 ?_
      refine lv_iload (pc := 34) hx hb dX1_never_34 (lv_at hl 4 rfl) ?_
      obtain ⟨hi, h⟩ := h
      refine ma46 (pc := 36) X hw hi dX1_never_36 ?_
      refine lv_lconst (pc := 37) (v := (0 : Int64)) hx hb dX1_never_37 (by decide) ?_
      refine W.lcmp (pc := 38) hx hb dX1_never_38 ?_
      refine lv_if_le (pc := 39) (tgt := 45) hx hb dX1_never_39 rfl (fun c8 => ?_) (fun c8 => ?_)
      · have h := h.1 ((lg_cmp_le _ _).mp c8)
        refine lv_iload (pc := 45) hx hb dX1_never_45 (lv_at hl 3 rfl) ?_
        refine lv_iload_n (pc := 47) hx hb dX1_never_47 rfl (lv_at hl 2 rfl) ?_
        refine lv_icmp_ne (pc := 48) (tgt := 54) hx hb dX1_never_48 rfl (fun c9 => ?_) (fun c9 => ?_)
        · have h := h.2 c9
          refine lv_iinc (pc := 54) (v := x4 + (1 : Int32)) (lv' := [(4, .int (x4 + (1 : Int32))), (0, .ref h0), (2, .int x2), (3, .int x3), (5, .int x5)]) hx hb dX1_never_54 hl (k := 3) rfl rfl (by decide) rfl (fun ls hl => ?_)
          exact kX1_never_57 X hml hr hlk ih _ _ _ _ _ _ _ _ h hw (lv_sub hl [1, 2, 3, 0, 4] rfl)
        · have h := h.1 c9
          refine lv_iload (pc := 51) hx hb dX1_never_51 (lv_at hl 4 rfl) ?_
          exact W.iret (pc := 53) hx hb hr (fun t ht hW => m_ret (val := vI) hw h ht) hw.2.2.2 dX1_never_53 hlk
      · have h := h.2 (fun z => c8 ((lg_cmp_le _ _).mpr z))
        refine lv_goto (pc := 42) (tgt := 57) hx hb dX1_never_42 rfl ?_
        exact kX1_never_57 X hml hr hlk ih _ _ _ _ _ _ _ _ h hw (lv_sub hl [0, 1, 2, 3, 4] rfl)
theorem tX1_never {l : Launch} {G : gG} {h0 : Nat} {ad : Nat → Nat} (hd : mOk G h0 ad) {post : Int32 → MS → Prop} {S : MS} {x1 : Int32} {x2 : Int32} {x3 : Int32} (h : wX1_never post S x1 x2 x3) : Met l yX1_never (ws_ yX1_never cX1_never 6 (some .int)) ⟨4, 0, 0, 99⟩ (va_Pc (.ref h0 :: [.int x1, .int x2, .int x3]) (fun U => mBw G h0 ad S U.heap ∧ gK G U)) (gQ vI post (mBw G h0 ad) (mAd h0 ad)) 0 0 (mAd h0 ad) := by
  refine m_ofW (by decide) rfl hd (Nat.le_of_ble_eq_true rfl) (fun p e s m below meth c ls X hml hr hlk hw hl => ?_)
  have hl : lv_has ls 6 [(0, .ref h0), (1, .int x1), (2, .int x2), (3, .int x3)] := hl
  have hx := X.1
  have hb := X.2.1
  have hown := X.2.2.1
  have hts := X.2.2.2.1
  unfold wX1_never at h
  refine lv_aload_n (pc := 0) hx hb dX1_never_0 rfl (lv_at hl 0 rfl) ?_
  refine lv_iload_n (pc := 1) hx hb dX1_never_1 rfl (lv_at hl 1 rfl) ?_
  refine lv_iload_n (pc := 2) hx hb dX1_never_2 rfl (lv_at hl 2 rfl) ?_
  refine lv_iconst (pc := 3) (v := (0 : Int32)) hx hb dX1_never_3 (by decide) ?_
  refine uX1_isClass (pc := 4) X hml hw h ⟨Nat.le_of_ble_eq_true rfl, Nat.le_of_ble_eq_true rfl⟩ hl.1 (Nat.le_of_ble_eq_true rfl) ⟨Nat.le_refl _, Nat.le_refl _⟩ dX1_never_4 (fun r1 S2 H locs h hw => ?_)
  refine lv_if_ne (pc := 7) (tgt := 12) hx hb dX1_never_7 rfl (fun c3 => ?_) (fun c3 => ?_)
  · have h := h.2 c3
    refine lv_aload_n (pc := 12) hx hb dX1_never_12 rfl (lv_at hl 0 rfl) ?_
    refine lv_iload_n (pc := 13) hx hb dX1_never_13 rfl (lv_at hl 1 rfl) ?_
    refine lv_iload_n (pc := 14) hx hb dX1_never_14 rfl (lv_at hl 2 rfl) ?_
    refine uX1_laysClasses (pc := 15) X hml hw h ⟨Nat.le_of_ble_eq_true rfl, Nat.le_of_ble_eq_true rfl⟩ hl.1 (Nat.le_of_ble_eq_true rfl) ⟨Nat.le_refl _, Nat.le_refl _⟩ dX1_never_15 (fun _ S5 H locs h hw => ?_)
    refine lv_iconst (pc := 18) (v := (0 : Int32)) hx hb dX1_never_18 (by decide) ?_
    refine lv_istore (pc := 19) (lv' := [(4, .int (0 : Int32)), (0, .ref h0), (1, .int x1), (2, .int x2), (3, .int x3)]) hx hb dX1_never_19 hl (by decide) rfl (fun ls hl => ?_)
    refine lv_iconst (pc := 21) (v := (0 : Int32)) hx hb dX1_never_21 (by decide) ?_
    refine lv_istore (pc := 22) (lv' := [(5, .int (0 : Int32)), (4, .int (0 : Int32)), (0, .ref h0), (1, .int x1), (2, .int x2), (3, .int x3)]) hx hb dX1_never_22 hl (by decide) rfl (fun ls hl => ?_)
    obtain ⟨k, h⟩ := h
    exact kX1_never_24 X hml hr hlk  k _ _ _ _ _ _ _ _ h hw (lv_sub hl [2, 4, 5, 1, 0] rfl)
  · have h := h.1 c3
    refine lv_iconst (pc := 10) (v := (-1 : Int32)) hx hb dX1_never_10 (by decide) ?_
    exact W.iret (pc := 11) hx hb hr (fun t ht hW => m_ret (val := vI) hw h ht) hw.2.2.2 dX1_never_11 hlk
theorem uX1_never {p : Program} {l : Launch} {e : Env} {R : Room} {s : State} {m : MethodId} {args : Array Value} {below : List Frame} {meth : Method} {c : Code} {H : Heap} {locs : List Loc} {cells slots : Nat} {Q : Jvm.State → Prop} {cc : ByteArray} {pc : Nat} {ls : Array Slot} {rest : List Value} {G : gG} {h0 : Nat} {ad : Nat → Nat} {post : Int32 → MS → Prop} {S : MS} {x1 : Int32} {x2 : Int32} {x3 : Int32} {nL : Nat} (X : mX G h0 ad p s m args c cc) (hml : c.maxLocals = nL) (hw : mH G h0 ad s S H locs) (h : wX1_never post S x1 x2 x3) (hR : 4 + 1 ≤ R.frames ∧ 8 + (6 + 11) + 99 ≤ R.locals) (hsz : ls.size = nL) (hr : (rest.map fun v => v.category).sum ≤ 8) (hc : cells ≤ R.cells ∧ slots ≤ R.slots) (d : decode cc pc = .ok (.invokevirtual 435, 3)) (kk : ∀ (r : Int32) (S1 : MS) (H1 : Heap) (locs1 : List Loc), post r S1 → mH G h0 ad s S1 H1 locs1 → W p l e R s m args below meth c H1 locs1 cells slots Q (F0 m (pc + 3) ls (.int r :: rest))) : W p l e R s m args below meth c H locs cells slots Q (F0 m pc ls (.int x3 :: .int x2 :: .int x1 :: .ref h0 :: rest)) :=
  m_call (val := vI) (post := post) (As := [.int x1, .int x2, .int x3]) X hml hw (tX1_never X.2.2.2.2.2.1 h) (lw_V q2454 q2447 q2448 q105 q2449) ⟨rfl, by decide, by decide, (by decide +kernel : (parseMethodDescriptor yX1_never.desc).map (fun d => d.parameters.length) = some 3)⟩ hR hsz hr hc d rfl kk

def wX1_bars_12 (post : Int32 → MS → Prop) : Nat → Int32 → Int32 → MS → Prop
  | 0, _, _, _ => False
  | n + 1, x1, x2, S => (((60 : Int32) < x2) → (post (-1 : Int32) S)) ∧ (¬ ((60 : Int32) < x2) → (wX1_never (fun r5 S6 => ((r5 ≤ (0 : Int32)) → (wX1_bars_12 post n x1 (x2 + (1 : Int32)) S6)) ∧ (¬ (r5 ≤ (0 : Int32)) → (post x2 S6))) S x1 x2 (-1 : Int32)))
def wX1_bars (post : Int32 → MS → Prop) (S : MS) (x1 : Int32) : Prop :=
  wX1_isForm (fun r1 S2 => ((r1 = (0 : Int32)) → (post (-1 : Int32) S2)) ∧ (¬ (r1 = (0 : Int32)) → ((∃ k, wX1_bars_12 post k x1 (1 : Int32) S2)))) S x1
theorem kX1_bars_12 {p : Program} {l : Launch} {e : Env} {s : State} {m : MethodId} {args : Array Value} {below : List Frame} {meth : Method} {c : Code} {G : gG} {h0 : Nat} {ad : Nat → Nat} {post : Int32 → MS → Prop} (X : mX G h0 ad p s m args c cX1_bars) (hml : c.maxLocals = 3) (hr : meth.sig.returnType = (some .int)) (hlk : meth.locks = false) : ∀ (n : Nat) (x1 : Int32) (x2 : Int32) (S : MS) (H : Heap) (locs : List Loc) (ls : Array Slot), wX1_bars_12 post n x1 x2 S → mH G h0 ad s S H locs → lv_has ls 3 [(0, .ref h0), (1, .int x1), (2, .int x2)] → W p l e ⟨5, 0, 0, 124⟩ s m args below meth c H locs 0 0 (MQ below (gQ vI post (mBw G h0 ad) (mAd h0 ad)) args s 0 0 (mAd h0 ad)) (F0 m 12 ls []) := by
  have hx := X.1
  have hb := X.2.1
  have hown := X.2.2.1
  have hts := X.2.2.2.1
  intro n
  induction n with
  | zero =>
    intro x1 x2 S H locs ls h
    exact False.elim h
  | succ n ih =>
    intro x1 x2 S H locs ls h hw hl
    unfold wX1_bars_12 at h
    refine lv_iload_n (pc := 12) hx hb dX1_bars_12 rfl (lv_at hl 2 rfl) ?_
    refine lv_bipush (pc := 13) (v := (60 : Int32)) hx hb dX1_bars_13 (by decide) ?_
    refine lv_icmp_gt (pc := 15) (tgt := 36) hx hb dX1_bars_15 rfl (fun c4 => ?_) (fun c4 => ?_)
    · have h := h.1 c4
      refine lv_iconst (pc := 36) (v := (-1 : Int32)) hx hb dX1_bars_36 (by decide) ?_
      exact W.iret (pc := 37) hx hb hr (fun t ht hW => m_ret (val := vI) hw h ht) hw.2.2.2 dX1_bars_37 hlk
    · have h := h.2 c4
      refine lv_aload_n (pc := 18) hx hb dX1_bars_18 rfl (lv_at hl 0 rfl) ?_
      refine lv_iload_n (pc := 19) hx hb dX1_bars_19 rfl (lv_at hl 1 rfl) ?_
      refine lv_iload_n (pc := 20) hx hb dX1_bars_20 rfl (lv_at hl 2 rfl) ?_
      refine lv_iconst (pc := 21) (v := (-1 : Int32)) hx hb dX1_bars_21 (by decide) ?_
      refine uX1_never (pc := 22) X hml hw h ⟨Nat.le_of_ble_eq_true rfl, Nat.le_of_ble_eq_true rfl⟩ hl.1 (Nat.le_of_ble_eq_true rfl) ⟨Nat.le_refl _, Nat.le_refl _⟩ dX1_bars_22 (fun r5 S6 H locs h hw => ?_)
      refine lv_if_le (pc := 25) (tgt := 30) hx hb dX1_bars_25 rfl (fun c7 => ?_) (fun c7 => ?_)
      · have h := h.1 c7
        refine lv_iinc (pc := 30) (v := x2 + (1 : Int32)) (lv' := [(2, .int (x2 + (1 : Int32))), (0, .ref h0), (1, .int x1)]) hx hb dX1_bars_30 hl (k := 2) rfl rfl (by decide) rfl (fun ls hl => ?_)
        refine lv_goto (pc := 33) (tgt := 12) hx hb dX1_bars_33 rfl ?_
        exact ih _ _ _ _ _ _ h hw (lv_sub hl [1, 2, 0] rfl)
      · have h := h.2 c7
        refine lv_iload_n (pc := 28) hx hb dX1_bars_28 rfl (lv_at hl 2 rfl) ?_
        exact W.iret (pc := 29) hx hb hr (fun t ht hW => m_ret (val := vI) hw h ht) hw.2.2.2 dX1_bars_29 hlk
theorem tX1_bars {l : Launch} {G : gG} {h0 : Nat} {ad : Nat → Nat} (hd : mOk G h0 ad) {post : Int32 → MS → Prop} {S : MS} {x1 : Int32} (h : wX1_bars post S x1) : Met l yX1_bars (ws_ yX1_bars cX1_bars 3 (some .int)) ⟨5, 0, 0, 124⟩ (va_Pc (.ref h0 :: [.int x1]) (fun U => mBw G h0 ad S U.heap ∧ gK G U)) (gQ vI post (mBw G h0 ad) (mAd h0 ad)) 0 0 (mAd h0 ad) := by
  refine m_ofW (by decide) rfl hd (Nat.le_of_ble_eq_true rfl) (fun p e s m below meth c ls X hml hr hlk hw hl => ?_)
  have hl : lv_has ls 3 [(0, .ref h0), (1, .int x1)] := hl
  have hx := X.1
  have hb := X.2.1
  have hown := X.2.2.1
  have hts := X.2.2.2.1
  unfold wX1_bars at h
  refine lv_aload_n (pc := 0) hx hb dX1_bars_0 rfl (lv_at hl 0 rfl) ?_
  refine lv_iload_n (pc := 1) hx hb dX1_bars_1 rfl (lv_at hl 1 rfl) ?_
  refine uX1_isForm (pc := 2) X hml hw h ⟨Nat.le_of_ble_eq_true rfl, Nat.le_of_ble_eq_true rfl⟩ hl.1 (Nat.le_of_ble_eq_true rfl) ⟨Nat.le_refl _, Nat.le_refl _⟩ dX1_bars_2 (fun r1 S2 H locs h hw => ?_)
  refine lv_if_ne (pc := 5) (tgt := 10) hx hb dX1_bars_5 rfl (fun c3 => ?_) (fun c3 => ?_)
  · have h := h.2 c3
    refine lv_iconst (pc := 10) (v := (1 : Int32)) hx hb dX1_bars_10 (by decide) ?_
    refine lv_istore_n (pc := 11) (lv' := [(2, .int (1 : Int32)), (0, .ref h0), (1, .int x1)]) hx hb dX1_bars_11 rfl hl (by decide) rfl (fun ls hl => ?_)
    obtain ⟨k, h⟩ := h
    exact kX1_bars_12 X hml hr hlk  k _ _ _ _ _ _ h hw (lv_sub hl [1, 2, 0] rfl)
  · have h := h.1 c3
    refine lv_iconst (pc := 8) (v := (-1 : Int32)) hx hb dX1_bars_8 (by decide) ?_
    exact W.iret (pc := 9) hx hb hr (fun t ht hW => m_ret (val := vI) hw h ht) hw.2.2.2 dX1_bars_9 hlk

def wX1_many_92 (K39 : Int32 → Int32 → Int32 → MS → Prop) (post : Int32 → MS → Prop) (x3 : Int32) (x4 : Int32) (x5 : Int32) (S : MS) : Prop :=
  K39 x3 x4 (x5 + (1 : Int32)) S
def wX1_many_39 (post : Int32 → MS → Prop) : Nat → Int32 → Int32 → Int32 → MS → Prop
  | 0, _, _, _, _ => False
  | n + 1, x3, x4, x5, S => (((3000 : Int32) < x5) → (post (-100000 : Int32) S)) ∧ (¬ ((3000 : Int32) < x5) → (((x4 = (0 : Int32)) → (vp_in (x5 + (3000 : Int32)) 6001 ∧ ((((S.2.2.2 24 (x5 + (3000 : Int32)).toNatClampNeg) < x3.toInt64) → (wX1_many_92 (fun x3 x4 x5 S => wX1_many_39 post n x3 x4 x5 S) post x3 x4 x5 S)) ∧ (¬ ((S.2.2.2 24 (x5 + (3000 : Int32)).toNatClampNeg) < x3.toInt64) → (post x5 S))))) ∧ (¬ (x4 = (0 : Int32)) → (vp_in (x5 + (3000 : Int32)) 6001 ∧ ((((S.2.2.2 24 (x5 + (3000 : Int32)).toNatClampNeg) = x3.toInt64) → (post x5 S)) ∧ (¬ ((S.2.2.2 24 (x5 + (3000 : Int32)).toNatClampNeg) = x3.toInt64) → (wX1_many_92 (fun x3 x4 x5 S => wX1_many_39 post n x3 x4 x5 S) post x3 x4 x5 S)))))))
def wX1_many (post : Int32 → MS → Prop) (S : MS) (x1 : Int32) (x2 : Int32) (x3 : Int32) (x4 : Int32) : Prop :=
  wX1_isForm (fun r1 S2 => ((r1 = (0 : Int32)) → (post (-100000 : Int32) S2)) ∧ (¬ (r1 = (0 : Int32)) → (wX1_isN (fun r4 => ((r4 = (0 : Int32)) → (post (-100000 : Int32) S2)) ∧ (¬ (r4 = (0 : Int32)) → (wX1_isIn (fun r6 => ((r6 = (0 : Int32)) → (post (-100000 : Int32) S2)) ∧ (¬ (r6 = (0 : Int32)) → (wX1_laysUnlike (fun _ S9 => (∃ k, wX1_many_39 post k x3 x4 x2 S9)) S2 x1))) x3.toInt64 (1 : Int64) (1000000 : Int64)))) x2))) S x1
theorem kX1_many_92 {p : Program} {l : Launch} {e : Env} {s : State} {m : MethodId} {args : Array Value} {below : List Frame} {meth : Method} {c : Code} {G : gG} {h0 : Nat} {ad : Nat → Nat} {K39 : Int32 → Int32 → Int32 → MS → Prop} {post : Int32 → MS → Prop} (X : mX G h0 ad p s m args c cX1_many) (hml : c.maxLocals = 6) (hr : meth.sig.returnType = (some .int)) (hlk : meth.locks = false) (hK39 : ∀ (x3 : Int32) (x4 : Int32) (x5 : Int32) (S : MS) (H : Heap) (locs : List Loc) (ls : Array Slot), K39 x3 x4 x5 S → mH G h0 ad s S H locs → lv_has ls 6 [(0, .ref h0), (3, .int x3), (4, .int x4), (5, .int x5)] → W p l e ⟨28, 0, 0, 1214⟩ s m args below meth c H locs 0 0 (MQ below (gQ vI post (mBw G h0 ad) (mAd h0 ad)) args s 0 0 (mAd h0 ad)) (F0 m 39 ls [])) : ∀ (x3 : Int32) (x4 : Int32) (x5 : Int32) (S : MS) (H : Heap) (locs : List Loc) (ls : Array Slot), wX1_many_92 K39 post x3 x4 x5 S → mH G h0 ad s S H locs → lv_has ls 6 [(0, .ref h0), (3, .int x3), (4, .int x4), (5, .int x5)] → W p l e ⟨28, 0, 0, 1214⟩ s m args below meth c H locs 0 0 (MQ below (gQ vI post (mBw G h0 ad) (mAd h0 ad)) args s 0 0 (mAd h0 ad)) (F0 m 92 ls []) := by
  have hx := X.1
  have hb := X.2.1
  have hown := X.2.2.1
  have hts := X.2.2.2.1
  intro x3 x4 x5 S H locs ls h hw hl
  unfold wX1_many_92 at h
  refine lv_iinc (pc := 92) (v := x5 + (1 : Int32)) (lv' := [(5, .int (x5 + (1 : Int32))), (0, .ref h0), (3, .int x3), (4, .int x4)]) hx hb dX1_many_92 hl (k := 3) rfl rfl (by decide) rfl (fun ls hl => ?_)
  refine lv_goto (pc := 95) (tgt := 39) hx hb dX1_many_95 rfl ?_
  exact hK39 _ _ _ _ _ _ _ h hw (lv_sub hl [1, 2, 3, 0] rfl)
theorem kX1_many_39 {p : Program} {l : Launch} {e : Env} {s : State} {m : MethodId} {args : Array Value} {below : List Frame} {meth : Method} {c : Code} {G : gG} {h0 : Nat} {ad : Nat → Nat} {post : Int32 → MS → Prop} (X : mX G h0 ad p s m args c cX1_many) (hml : c.maxLocals = 6) (hr : meth.sig.returnType = (some .int)) (hlk : meth.locks = false) : ∀ (n : Nat) (x3 : Int32) (x4 : Int32) (x5 : Int32) (S : MS) (H : Heap) (locs : List Loc) (ls : Array Slot), wX1_many_39 post n x3 x4 x5 S → mH G h0 ad s S H locs → lv_has ls 6 [(0, .ref h0), (3, .int x3), (4, .int x4), (5, .int x5)] → W p l e ⟨28, 0, 0, 1214⟩ s m args below meth c H locs 0 0 (MQ below (gQ vI post (mBw G h0 ad) (mAd h0 ad)) args s 0 0 (mAd h0 ad)) (F0 m 39 ls []) := by
  have hx := X.1
  have hb := X.2.1
  have hown := X.2.2.1
  have hts := X.2.2.2.1
  intro n
  induction n with
  | zero =>
    intro x3 x4 x5 S H locs ls h
    exact False.elim h
  | succ n ih =>
    intro x3 x4 x5 S H locs ls h hw hl
    unfold wX1_many_39 at h
    refine lv_iload (pc := 39) hx hb dX1_many_39 (lv_at hl 3 rfl) ?_
    refine lv_sipush (pc := 41) (v := (3000 : Int32)) hx hb dX1_many_41 (by decide) ?_
    refine lv_icmp_gt (pc := 44) (tgt := 98) hx hb dX1_many_44 rfl (fun c10 => ?_) (fun c10 => ?_)
    · have h := h.1 c10
      refine lv_ldcw (pc := 98) hx hb hown (hts _ q2305) dX1_many_98 ?_
      exact W.iret (pc := 101) hx hb hr (fun t ht hW => m_ret (val := vI) hw h ht) hw.2.2.2 dX1_many_101 hlk
    · have h := h.2 c10
      refine lv_iload (pc := 47) hx hb dX1_many_47 (lv_at hl 2 rfl) ?_
      refine lv_if_eq (pc := 49) (tgt := 72) hx hb dX1_many_49 rfl (fun c11 => ?_) (fun c11 => ?_)
      · have h := h.1 c11
        refine lv_aload_n (pc := 72) hx hb dX1_many_72 rfl (lv_at hl 0 rfl) ?_
        refine mg24 (pc := 73) X hw dX1_many_73 ?_
        refine lv_iload (pc := 76) hx hb dX1_many_76 (lv_at hl 3 rfl) ?_
        refine lv_sipush (pc := 78) (v := (3000 : Int32)) hx hb dX1_many_78 (by decide) ?_
        refine lv_iadd (pc := 81) hx hb dX1_many_81 ?_
        obtain ⟨hi, h⟩ := h
        refine ma24 (pc := 82) X hw hi dX1_many_82 ?_
        refine lv_iload_n (pc := 83) hx hb dX1_many_83 rfl (lv_at hl 1 rfl) ?_
        refine lv_i2l (pc := 84) hx hb dX1_many_84 rfl ?_
        refine W.lcmp (pc := 85) hx hb dX1_many_85 ?_
        refine lv_if_lt (pc := 86) (tgt := 92) hx hb dX1_many_86 rfl (fun c12 => ?_) (fun c12 => ?_)
        · have h := h.1 ((lg_cmp_lt _ _).mp c12)
          exact kX1_many_92 X hml hr hlk ih _ _ _ _ _ _ _ h hw (lv_sub hl [0, 1, 2, 3] rfl)
        · have h := h.2 (fun z => c12 ((lg_cmp_lt _ _).mpr z))
          refine lv_iload (pc := 89) hx hb dX1_many_89 (lv_at hl 3 rfl) ?_
          exact W.iret (pc := 91) hx hb hr (fun t ht hW => m_ret (val := vI) hw h ht) hw.2.2.2 dX1_many_91 hlk
      · have h := h.2 c11
        refine lv_aload_n (pc := 52) hx hb dX1_many_52 rfl (lv_at hl 0 rfl) ?_
        refine mg24 (pc := 53) X hw dX1_many_53 ?_
        refine lv_iload (pc := 56) hx hb dX1_many_56 (lv_at hl 3 rfl) ?_
        refine lv_sipush (pc := 58) (v := (3000 : Int32)) hx hb dX1_many_58 (by decide) ?_
        refine lv_iadd (pc := 61) hx hb dX1_many_61 ?_
        obtain ⟨hi, h⟩ := h
        refine ma24 (pc := 62) X hw hi dX1_many_62 ?_
        refine lv_iload_n (pc := 63) hx hb dX1_many_63 rfl (lv_at hl 1 rfl) ?_
        refine lv_i2l (pc := 64) hx hb dX1_many_64 rfl ?_
        refine W.lcmp (pc := 65) hx hb dX1_many_65 ?_
        refine lv_if_ne (pc := 66) (tgt := 92) hx hb dX1_many_66 rfl (fun c13 => ?_) (fun c13 => ?_)
        · have h := h.2 (fun z => c13 ((lg_cmp_eq _ _).mpr z))
          exact kX1_many_92 X hml hr hlk ih _ _ _ _ _ _ _ h hw (lv_sub hl [0, 1, 2, 3] rfl)
        · have h := h.1 ((lg_cmp_eq _ _).mp c13)
          refine lv_goto (pc := 69) (tgt := 89) hx hb dX1_many_69 rfl ?_
          refine lv_iload (pc := 89) hx hb dX1_many_89 (lv_at hl 3 rfl) ?_
          exact W.iret (pc := 91) hx hb hr (fun t ht hW => m_ret (val := vI) hw h ht) hw.2.2.2 dX1_many_91 hlk
theorem tX1_many {l : Launch} {G : gG} {h0 : Nat} {ad : Nat → Nat} (hd : mOk G h0 ad) {post : Int32 → MS → Prop} {S : MS} {x1 : Int32} {x2 : Int32} {x3 : Int32} {x4 : Int32} (h : wX1_many post S x1 x2 x3 x4) : Met l yX1_many (ws_ yX1_many cX1_many 6 (some .int)) ⟨28, 0, 0, 1214⟩ (va_Pc (.ref h0 :: [.int x1, .int x2, .int x3, .int x4]) (fun U => mBw G h0 ad S U.heap ∧ gK G U)) (gQ vI post (mBw G h0 ad) (mAd h0 ad)) 0 0 (mAd h0 ad) := by
  refine m_ofW (by decide) rfl hd (Nat.le_of_ble_eq_true rfl) (fun p e s m below meth c ls X hml hr hlk hw hl => ?_)
  have hl : lv_has ls 6 [(0, .ref h0), (1, .int x1), (2, .int x2), (3, .int x3), (4, .int x4)] := hl
  have hx := X.1
  have hb := X.2.1
  have hown := X.2.2.1
  have hts := X.2.2.2.1
  unfold wX1_many at h
  refine lv_aload_n (pc := 0) hx hb dX1_many_0 rfl (lv_at hl 0 rfl) ?_
  refine lv_iload_n (pc := 1) hx hb dX1_many_1 rfl (lv_at hl 1 rfl) ?_
  refine uX1_isForm (pc := 2) X hml hw h ⟨Nat.le_of_ble_eq_true rfl, Nat.le_of_ble_eq_true rfl⟩ hl.1 (Nat.le_of_ble_eq_true rfl) ⟨Nat.le_refl _, Nat.le_refl _⟩ dX1_many_2 (fun r1 S2 H locs h hw => ?_)
  refine lv_if_eq (pc := 5) (tgt := 27) hx hb dX1_many_5 rfl (fun c3 => ?_) (fun c3 => ?_)
  · have h := h.1 c3
    refine lv_ldcw (pc := 27) hx hb hown (hts _ q2305) dX1_many_27 ?_
    exact W.iret (pc := 30) hx hb hr (fun t ht hW => m_ret (val := vI) hw h ht) hw.2.2.2 dX1_many_30 hlk
  · have h := h.2 c3
    refine lv_iload_n (pc := 8) hx hb dX1_many_8 rfl (lv_at hl 2 rfl) ?_
    refine uX1_isN (pc := 9) ⟨hx, hb, hml, hown, hts⟩ h ⟨Nat.le_of_ble_eq_true rfl, Nat.le_of_ble_eq_true rfl⟩ hl.1 (Nat.le_of_ble_eq_true rfl) ⟨Nat.le_refl _, Nat.le_refl _⟩ dX1_many_9 (fun r4 h => ?_)
    refine lv_if_eq (pc := 12) (tgt := 27) hx hb dX1_many_12 rfl (fun c5 => ?_) (fun c5 => ?_)
    · have h := h.1 c5
      refine lv_ldcw (pc := 27) hx hb hown (hts _ q2305) dX1_many_27 ?_
      exact W.iret (pc := 30) hx hb hr (fun t ht hW => m_ret (val := vI) hw h ht) hw.2.2.2 dX1_many_30 hlk
    · have h := h.2 c5
      refine lv_iload_n (pc := 15) hx hb dX1_many_15 rfl (lv_at hl 3 rfl) ?_
      refine lv_i2l (pc := 16) hx hb dX1_many_16 rfl ?_
      refine lv_lconst (pc := 17) (v := (1 : Int64)) hx hb dX1_many_17 (by decide) ?_
      refine lv_ldc2 (pc := 18) hx hb hown (hts _ q2459) dX1_many_18 ?_
      refine uX1_isIn (pc := 21) ⟨hx, hb, hml, hown, hts⟩ h ⟨Nat.le_of_ble_eq_true rfl, Nat.le_of_ble_eq_true rfl⟩ hl.1 (Nat.le_of_ble_eq_true rfl) ⟨Nat.le_refl _, Nat.le_refl _⟩ dX1_many_21 (fun r6 h => ?_)
      refine lv_if_ne (pc := 24) (tgt := 31) hx hb dX1_many_24 rfl (fun c7 => ?_) (fun c7 => ?_)
      · have h := h.2 c7
        refine lv_aload_n (pc := 31) hx hb dX1_many_31 rfl (lv_at hl 0 rfl) ?_
        refine lv_iload_n (pc := 32) hx hb dX1_many_32 rfl (lv_at hl 1 rfl) ?_
        refine uX1_laysUnlike (pc := 33) X hml hw h ⟨Nat.le_of_ble_eq_true rfl, Nat.le_of_ble_eq_true rfl⟩ hl.1 (Nat.le_of_ble_eq_true rfl) ⟨Nat.le_refl _, Nat.le_refl _⟩ dX1_many_33 (fun _ S9 H locs h hw => ?_)
        refine lv_iload_n (pc := 36) hx hb dX1_many_36 rfl (lv_at hl 2 rfl) ?_
        refine lv_istore (pc := 37) (lv' := [(5, .int x2), (0, .ref h0), (1, .int x1), (2, .int x2), (3, .int x3), (4, .int x4)]) hx hb dX1_many_37 hl (by decide) rfl (fun ls hl => ?_)
        obtain ⟨k, h⟩ := h
        exact kX1_many_39 X hml hr hlk  k _ _ _ _ _ _ _ h hw (lv_sub hl [1, 4, 5, 0] rfl)
      · have h := h.1 c7
        refine lv_ldcw (pc := 27) hx hb hown (hts _ q2305) dX1_many_27 ?_
        exact W.iret (pc := 30) hx hb hr (fun t ht hW => m_ret (val := vI) hw h ht) hw.2.2.2 dX1_many_30 hlk

def wX1_nearest_68 (post : Int32 → MS → Prop) (x2 : Int32) (x3 : Int32) (S : MS) : Prop :=
  wX1_at (fun r11 S12 => ((r11 ≤ (0 : Int64)) → (post (x2 + x3) S12)) ∧ (¬ (r11 ≤ (0 : Int64)) → (post (x2 - x3) S12))) S (0 : Int32) (((x2 - x3) + (15000 : Int32)).toInt64)
def wX1_nearest_26 (post : Int32 → MS → Prop) : Nat → Int32 → Int32 → MS → Prop
  | 0, _, _, _ => False
  | n + 1, x2, x3, S => wX1_at (fun r8 S9 => ((r8 = (0 : Int64)) → (wX1_at (fun r14 S15 => ((r14 = (0 : Int64)) → (wX1_nearest_26 post n x2 (x3 + (1 : Int32)) S15)) ∧ (¬ (r14 = (0 : Int64)) → (wX1_nearest_68 post x2 x3 S15))) S9 (0 : Int32) (((x2 + x3) + (15000 : Int32)).toInt64))) ∧ (¬ (r8 = (0 : Int64)) → (wX1_nearest_68 post x2 x3 S9))) S (0 : Int32) (((x2 - x3) + (15000 : Int32)).toInt64)
def wX1_nearest (post : Int32 → MS → Prop) (S : MS) (x1 : Int32) (x2 : Int32) : Prop :=
  wX1_isForm (fun r1 S2 => ((r1 = (0 : Int32)) → (post (-100000 : Int32) S2)) ∧ (¬ (r1 = (0 : Int32)) → (wX1_isN (fun r4 => ((r4 = (0 : Int32)) → (post (-100000 : Int32) S2)) ∧ (¬ (r4 = (0 : Int32)) → (wX1_lays (fun _ S7 => (∃ k, wX1_nearest_26 post k x2 (0 : Int32) S7)) S2 x1))) x2))) S x1
theorem kX1_nearest_68 {p : Program} {l : Launch} {e : Env} {s : State} {m : MethodId} {args : Array Value} {below : List Frame} {meth : Method} {c : Code} {G : gG} {h0 : Nat} {ad : Nat → Nat} {post : Int32 → MS → Prop} (X : mX G h0 ad p s m args c cX1_nearest) (hml : c.maxLocals = 4) (hr : meth.sig.returnType = (some .int)) (hlk : meth.locks = false) : ∀ (x2 : Int32) (x3 : Int32) (S : MS) (H : Heap) (locs : List Loc) (ls : Array Slot), wX1_nearest_68 post x2 x3 S → mH G h0 ad s S H locs → lv_has ls 4 [(0, .ref h0), (2, .int x2), (3, .int x3)] → W p l e ⟨4, 0, 0, 101⟩ s m args below meth c H locs 0 0 (MQ below (gQ vI post (mBw G h0 ad) (mAd h0 ad)) args s 0 0 (mAd h0 ad)) (F0 m 68 ls []) := by
  have hx := X.1
  have hb := X.2.1
  have hown := X.2.2.1
  have hts := X.2.2.2.1
  intro x2 x3 S H locs ls h hw hl
  unfold wX1_nearest_68 at h
  refine lv_aload_n (pc := 68) hx hb dX1_nearest_68 rfl (lv_at hl 0 rfl) ?_
  refine lv_iconst (pc := 69) (v := (0 : Int32)) hx hb dX1_nearest_69 (by decide) ?_
  refine lv_iload_n (pc := 70) hx hb dX1_nearest_70 rfl (lv_at hl 1 rfl) ?_
  refine lv_iload_n (pc := 71) hx hb dX1_nearest_71 rfl (lv_at hl 2 rfl) ?_
  refine lv_isub (pc := 72) hx hb dX1_nearest_72 ?_
  refine lv_sipush (pc := 73) (v := (15000 : Int32)) hx hb dX1_nearest_73 (by decide) ?_
  refine lv_iadd (pc := 76) hx hb dX1_nearest_76 ?_
  refine lv_i2l (pc := 77) hx hb dX1_nearest_77 rfl ?_
  refine uX1_at (pc := 78) X hml hw h ⟨Nat.le_of_ble_eq_true rfl, Nat.le_of_ble_eq_true rfl⟩ hl.1 (Nat.le_of_ble_eq_true rfl) ⟨Nat.le_refl _, Nat.le_refl _⟩ dX1_nearest_78 (fun r11 S12 H locs h hw => ?_)
  refine lv_lconst (pc := 81) (v := (0 : Int64)) hx hb dX1_nearest_81 (by decide) ?_
  refine W.lcmp (pc := 82) hx hb dX1_nearest_82 ?_
  refine lv_if_le (pc := 83) (tgt := 92) hx hb dX1_nearest_83 rfl (fun c13 => ?_) (fun c13 => ?_)
  · have h := h.1 ((lg_cmp_le _ _).mp c13)
    refine lv_iload_n (pc := 92) hx hb dX1_nearest_92 rfl (lv_at hl 1 rfl) ?_
    refine lv_iload_n (pc := 93) hx hb dX1_nearest_93 rfl (lv_at hl 2 rfl) ?_
    refine lv_iadd (pc := 94) hx hb dX1_nearest_94 ?_
    exact W.iret (pc := 95) hx hb hr (fun t ht hW => m_ret (val := vI) hw h ht) hw.2.2.2 dX1_nearest_95 hlk
  · have h := h.2 (fun z => c13 ((lg_cmp_le _ _).mpr z))
    refine lv_iload_n (pc := 86) hx hb dX1_nearest_86 rfl (lv_at hl 1 rfl) ?_
    refine lv_iload_n (pc := 87) hx hb dX1_nearest_87 rfl (lv_at hl 2 rfl) ?_
    refine lv_isub (pc := 88) hx hb dX1_nearest_88 ?_
    refine lv_goto (pc := 89) (tgt := 95) hx hb dX1_nearest_89 rfl ?_
    exact W.iret (pc := 95) hx hb hr (fun t ht hW => m_ret (val := vI) hw h ht) hw.2.2.2 dX1_nearest_95 hlk
theorem kX1_nearest_26 {p : Program} {l : Launch} {e : Env} {s : State} {m : MethodId} {args : Array Value} {below : List Frame} {meth : Method} {c : Code} {G : gG} {h0 : Nat} {ad : Nat → Nat} {post : Int32 → MS → Prop} (X : mX G h0 ad p s m args c cX1_nearest) (hml : c.maxLocals = 4) (hr : meth.sig.returnType = (some .int)) (hlk : meth.locks = false) : ∀ (n : Nat) (x2 : Int32) (x3 : Int32) (S : MS) (H : Heap) (locs : List Loc) (ls : Array Slot), wX1_nearest_26 post n x2 x3 S → mH G h0 ad s S H locs → lv_has ls 4 [(0, .ref h0), (2, .int x2), (3, .int x3)] → W p l e ⟨4, 0, 0, 101⟩ s m args below meth c H locs 0 0 (MQ below (gQ vI post (mBw G h0 ad) (mAd h0 ad)) args s 0 0 (mAd h0 ad)) (F0 m 26 ls []) := by
  have hx := X.1
  have hb := X.2.1
  have hown := X.2.2.1
  have hts := X.2.2.2.1
  intro n
  induction n with
  | zero =>
    intro x2 x3 S H locs ls h
    exact False.elim h
  | succ n ih =>
    intro x2 x3 S H locs ls h hw hl
    unfold wX1_nearest_26 at h
    refine lv_aload_n (pc := 26) hx hb dX1_nearest_26 rfl (lv_at hl 0 rfl) ?_
    refine lv_iconst (pc := 27) (v := (0 : Int32)) hx hb dX1_nearest_27 (by decide) ?_
    refine lv_iload_n (pc := 28) hx hb dX1_nearest_28 rfl (lv_at hl 1 rfl) ?_
    refine lv_iload_n (pc := 29) hx hb dX1_nearest_29 rfl (lv_at hl 2 rfl) ?_
    refine lv_isub (pc := 30) hx hb dX1_nearest_30 ?_
    refine lv_sipush (pc := 31) (v := (15000 : Int32)) hx hb dX1_nearest_31 (by decide) ?_
    refine lv_iadd (pc := 34) hx hb dX1_nearest_34 ?_
    refine lv_i2l (pc := 35) hx hb dX1_nearest_35 rfl ?_
    refine uX1_at (pc := 36) X hml hw h ⟨Nat.le_of_ble_eq_true rfl, Nat.le_of_ble_eq_true rfl⟩ hl.1 (Nat.le_of_ble_eq_true rfl) ⟨Nat.le_refl _, Nat.le_refl _⟩ dX1_nearest_36 (fun r8 S9 H locs h hw => ?_)
    refine lv_lconst (pc := 39) (v := (0 : Int64)) hx hb dX1_nearest_39 (by decide) ?_
    refine W.lcmp (pc := 40) hx hb dX1_nearest_40 ?_
    refine lv_if_ne (pc := 41) (tgt := 68) hx hb dX1_nearest_41 rfl (fun c10 => ?_) (fun c10 => ?_)
    · have h := h.2 (fun z => c10 ((lg_cmp_eq _ _).mpr z))
      exact kX1_nearest_68 X hml hr hlk  _ _ _ _ _ _ h hw (lv_sub hl [0, 1, 2] rfl)
    · have h := h.1 ((lg_cmp_eq _ _).mp c10)
      refine lv_aload_n (pc := 44) hx hb dX1_nearest_44 rfl (lv_at hl 0 rfl) ?_
      refine lv_iconst (pc := 45) (v := (0 : Int32)) hx hb dX1_nearest_45 (by decide) ?_
      refine lv_iload_n (pc := 46) hx hb dX1_nearest_46 rfl (lv_at hl 1 rfl) ?_
      refine lv_iload_n (pc := 47) hx hb dX1_nearest_47 rfl (lv_at hl 2 rfl) ?_
      refine lv_iadd (pc := 48) hx hb dX1_nearest_48 ?_
      refine lv_sipush (pc := 49) (v := (15000 : Int32)) hx hb dX1_nearest_49 (by decide) ?_
      refine lv_iadd (pc := 52) hx hb dX1_nearest_52 ?_
      refine lv_i2l (pc := 53) hx hb dX1_nearest_53 rfl ?_
      refine uX1_at (pc := 54) X hml hw h ⟨Nat.le_of_ble_eq_true rfl, Nat.le_of_ble_eq_true rfl⟩ hl.1 (Nat.le_of_ble_eq_true rfl) ⟨Nat.le_refl _, Nat.le_refl _⟩ dX1_nearest_54 (fun r14 S15 H locs h hw => ?_)
      refine lv_lconst (pc := 57) (v := (0 : Int64)) hx hb dX1_nearest_57 (by decide) ?_
      refine W.lcmp (pc := 58) hx hb dX1_nearest_58 ?_
      refine lv_if_ne (pc := 59) (tgt := 68) hx hb dX1_nearest_59 rfl (fun c16 => ?_) (fun c16 => ?_)
      · have h := h.2 (fun z => c16 ((lg_cmp_eq _ _).mpr z))
        exact kX1_nearest_68 X hml hr hlk  _ _ _ _ _ _ h hw (lv_sub hl [0, 1, 2] rfl)
      · have h := h.1 ((lg_cmp_eq _ _).mp c16)
        refine lv_iinc (pc := 62) (v := x3 + (1 : Int32)) (lv' := [(3, .int (x3 + (1 : Int32))), (0, .ref h0), (2, .int x2)]) hx hb dX1_nearest_62 hl (k := 2) rfl rfl (by decide) rfl (fun ls hl => ?_)
        refine lv_goto (pc := 65) (tgt := 26) hx hb dX1_nearest_65 rfl ?_
        exact ih _ _ _ _ _ _ h hw (lv_sub hl [1, 2, 0] rfl)
theorem tX1_nearest {l : Launch} {G : gG} {h0 : Nat} {ad : Nat → Nat} (hd : mOk G h0 ad) {post : Int32 → MS → Prop} {S : MS} {x1 : Int32} {x2 : Int32} (h : wX1_nearest post S x1 x2) : Met l yX1_nearest (ws_ yX1_nearest cX1_nearest 4 (some .int)) ⟨4, 0, 0, 101⟩ (va_Pc (.ref h0 :: [.int x1, .int x2]) (fun U => mBw G h0 ad S U.heap ∧ gK G U)) (gQ vI post (mBw G h0 ad) (mAd h0 ad)) 0 0 (mAd h0 ad) := by
  refine m_ofW (by decide) rfl hd (Nat.le_of_ble_eq_true rfl) (fun p e s m below meth c ls X hml hr hlk hw hl => ?_)
  have hl : lv_has ls 4 [(0, .ref h0), (1, .int x1), (2, .int x2)] := hl
  have hx := X.1
  have hb := X.2.1
  have hown := X.2.2.1
  have hts := X.2.2.2.1
  unfold wX1_nearest at h
  refine lv_aload_n (pc := 0) hx hb dX1_nearest_0 rfl (lv_at hl 0 rfl) ?_
  refine lv_iload_n (pc := 1) hx hb dX1_nearest_1 rfl (lv_at hl 1 rfl) ?_
  refine uX1_isForm (pc := 2) X hml hw h ⟨Nat.le_of_ble_eq_true rfl, Nat.le_of_ble_eq_true rfl⟩ hl.1 (Nat.le_of_ble_eq_true rfl) ⟨Nat.le_refl _, Nat.le_refl _⟩ dX1_nearest_2 (fun r1 S2 H locs h hw => ?_)
  refine lv_if_eq (pc := 5) (tgt := 15) hx hb dX1_nearest_5 rfl (fun c3 => ?_) (fun c3 => ?_)
  · have h := h.1 c3
    refine lv_ldcw (pc := 15) hx hb hown (hts _ q2305) dX1_nearest_15 ?_
    exact W.iret (pc := 18) hx hb hr (fun t ht hW => m_ret (val := vI) hw h ht) hw.2.2.2 dX1_nearest_18 hlk
  · have h := h.2 c3
    refine lv_iload_n (pc := 8) hx hb dX1_nearest_8 rfl (lv_at hl 2 rfl) ?_
    refine uX1_isN (pc := 9) ⟨hx, hb, hml, hown, hts⟩ h ⟨Nat.le_of_ble_eq_true rfl, Nat.le_of_ble_eq_true rfl⟩ hl.1 (Nat.le_of_ble_eq_true rfl) ⟨Nat.le_refl _, Nat.le_refl _⟩ dX1_nearest_9 (fun r4 h => ?_)
    refine lv_if_ne (pc := 12) (tgt := 19) hx hb dX1_nearest_12 rfl (fun c5 => ?_) (fun c5 => ?_)
    · have h := h.2 c5
      refine lv_aload_n (pc := 19) hx hb dX1_nearest_19 rfl (lv_at hl 0 rfl) ?_
      refine lv_iload_n (pc := 20) hx hb dX1_nearest_20 rfl (lv_at hl 1 rfl) ?_
      refine uX1_lays (pc := 21) X hml hw h ⟨Nat.le_of_ble_eq_true rfl, Nat.le_of_ble_eq_true rfl⟩ hl.1 (Nat.le_of_ble_eq_true rfl) ⟨Nat.le_refl _, Nat.le_refl _⟩ dX1_nearest_21 (fun _ S7 H locs h hw => ?_)
      refine lv_iconst (pc := 24) (v := (0 : Int32)) hx hb dX1_nearest_24 (by decide) ?_
      refine lv_istore_n (pc := 25) (lv' := [(3, .int (0 : Int32)), (0, .ref h0), (1, .int x1), (2, .int x2)]) hx hb dX1_nearest_25 rfl hl (by decide) rfl (fun ls hl => ?_)
      obtain ⟨k, h⟩ := h
      exact kX1_nearest_26 X hml hr hlk  k _ _ _ _ _ _ h hw (lv_sub hl [1, 3, 0] rfl)
    · have h := h.1 c5
      refine lv_ldcw (pc := 15) hx hb hown (hts _ q2305) dX1_nearest_15 ?_
      exact W.iret (pc := 18) hx hb hr (fun t ht hW => m_ret (val := vI) hw h ht) hw.2.2.2 dX1_nearest_18 hlk

def wX1_common_136 (K88 : Int32 → Int32 → Int32 → Int32 → MS → Prop) (post : Int32 → MS → Prop) (x4 : Int32) (x5 : Int32) (x6 : Int32) (x7 : Int32) (S : MS) : Prop :=
  K88 x4 x5 x6 (x7 + (1 : Int32)) S
def wX1_common_88 (post : Int32 → MS → Prop) : Nat → Int32 → Int32 → Int32 → Int32 → MS → Prop
  | 0, _, _, _, _, _ => False
  | n + 1, x4, x5, x6, x7, S => ((x4 < x7) → (((x5 = (-1 : Int32)) → (post x6 S)) ∧ (¬ (x5 = (-1 : Int32)) → (post (-100000 : Int32) S)))) ∧ (¬ (x4 < x7) → (vp_in (x7 + (3000 : Int32)) 6001 ∧ ((((S.2.2.1 47 (x7 + (3000 : Int32)).toNatClampNeg) = (0 : Int32)) → (wX1_common_136 (fun x4 x5 x6 x7 S => wX1_common_88 post n x4 x5 x6 x7 S) post x4 x5 x6 x7 S)) ∧ (¬ ((S.2.2.1 47 (x7 + (3000 : Int32)).toNatClampNeg) = (0 : Int32)) → (wX1_waysOf (fun r17 S18 => ((r17 = (0 : Int64)) → (wX1_common_136 (fun x4 x5 x6 x7 S => wX1_common_88 post n x4 x5 x6 x7 S) post x4 x5 x6 x7 S18)) ∧ (¬ (r17 = (0 : Int64)) → (((x6 = x5) → (post x7 S18)) ∧ (¬ (x6 = x5) → (wX1_common_136 (fun x4 x5 x6 x7 S => wX1_common_88 post n x4 x5 x6 x7 S) post x4 x5 (x6 + (1 : Int32)) x7 S18))))) S x7)))))
def wX1_common_70 (K37 : Int32 → Int32 → Int32 → Int32 → Int32 → MS → Prop) (post : Int32 → MS → Prop) (x2 : Int32) (x3 : Int32) (x4 : Int32) (x5 : Int32) (x6 : Int32) (v0 : Int32) (v1 : Int32) (S : MS) : Prop :=
  vp_in v1 6001 ∧ (K37 x2 x3 x4 x5 (x6 + (1 : Int32)) (mA S 47 (upd (S.2.2.1 47) v1.toNatClampNeg (vp_nar .boolean v0))))
def wX1_common_37 (post : Int32 → MS → Prop) : Nat → Int32 → Int32 → Int32 → Int32 → Int32 → MS → Prop
  | 0, _, _, _, _, _, _ => False
  | n + 1, x2, x3, x4, x5, x6, S => ((x4 < x6) → (wX1_lays (fun _ S13 => (∃ k, wX1_common_88 post k x4 x5 (0 : Int32) x3 S13)) S x2)) ∧ (¬ (x4 < x6) → (wX1_waysOf (fun r21 S22 => ((r21 ≤ (0 : Int64)) → (wX1_common_70 (fun x2 x3 x4 x5 x6 S => wX1_common_37 post n x2 x3 x4 x5 x6 S) post x2 x3 x4 x5 x6 (0 : Int32) (x6 + (3000 : Int32)) S22)) ∧ (¬ (r21 ≤ (0 : Int64)) → (wX1_common_70 (fun x2 x3 x4 x5 x6 S => wX1_common_37 post n x2 x3 x4 x5 x6 S) post x2 x3 x4 x5 x6 (1 : Int32) (x6 + (3000 : Int32)) S22))) S x6))
def wX1_common (post : Int32 → MS → Prop) (S : MS) (x1 : Int32) (x2 : Int32) (x3 : Int32) (x4 : Int32) (x5 : Int32) : Prop :=
  wX1_isForm (fun r1 S2 => ((r1 = (0 : Int32)) → (post (-100000 : Int32) S2)) ∧ (¬ (r1 = (0 : Int32)) → (wX1_isForm (fun r4 S5 => ((r4 = (0 : Int32)) → (post (-100000 : Int32) S5)) ∧ (¬ (r4 = (0 : Int32)) → (wX1_isSpan (fun r7 => ((r7 = (0 : Int32)) → (post (-100000 : Int32) S5)) ∧ (¬ (r7 = (0 : Int32)) → (wX1_lays (fun _ S10 => (∃ k, wX1_common_37 post k x2 x3 x4 x5 x3 S10)) S5 x1))) x3 x4))) S2 x2))) S x1
theorem kX1_common_136 {p : Program} {l : Launch} {e : Env} {s : State} {m : MethodId} {args : Array Value} {below : List Frame} {meth : Method} {c : Code} {G : gG} {h0 : Nat} {ad : Nat → Nat} {K88 : Int32 → Int32 → Int32 → Int32 → MS → Prop} {post : Int32 → MS → Prop} (X : mX G h0 ad p s m args c cX1_common) (hml : c.maxLocals = 8) (hr : meth.sig.returnType = (some .int)) (hlk : meth.locks = false) (hK88 : ∀ (x4 : Int32) (x5 : Int32) (x6 : Int32) (x7 : Int32) (S : MS) (H : Heap) (locs : List Loc) (ls : Array Slot), K88 x4 x5 x6 x7 S → mH G h0 ad s S H locs → lv_has ls 8 [(0, .ref h0), (4, .int x4), (5, .int x5), (6, .int x6), (7, .int x7)] → W p l e ⟨4, 0, 0, 101⟩ s m args below meth c H locs 0 0 (MQ below (gQ vI post (mBw G h0 ad) (mAd h0 ad)) args s 0 0 (mAd h0 ad)) (F0 m 88 ls [])) : ∀ (x4 : Int32) (x5 : Int32) (x6 : Int32) (x7 : Int32) (S : MS) (H : Heap) (locs : List Loc) (ls : Array Slot), wX1_common_136 K88 post x4 x5 x6 x7 S → mH G h0 ad s S H locs → lv_has ls 8 [(0, .ref h0), (4, .int x4), (5, .int x5), (6, .int x6), (7, .int x7)] → W p l e ⟨4, 0, 0, 101⟩ s m args below meth c H locs 0 0 (MQ below (gQ vI post (mBw G h0 ad) (mAd h0 ad)) args s 0 0 (mAd h0 ad)) (F0 m 136 ls []) := by
  have hx := X.1
  have hb := X.2.1
  have hown := X.2.2.1
  have hts := X.2.2.2.1
  intro x4 x5 x6 x7 S H locs ls h hw hl
  unfold wX1_common_136 at h
  refine lv_iinc (pc := 136) (v := x7 + (1 : Int32)) (lv' := [(7, .int (x7 + (1 : Int32))), (0, .ref h0), (4, .int x4), (5, .int x5), (6, .int x6)]) hx hb dX1_common_136 hl (k := 4) rfl rfl (by decide) rfl (fun ls hl => ?_)
  refine lv_goto (pc := 139) (tgt := 88) hx hb dX1_common_139 rfl ?_
  exact hK88 _ _ _ _ _ _ _ _ h hw (lv_sub hl [1, 2, 3, 4, 0] rfl)
theorem kX1_common_88 {p : Program} {l : Launch} {e : Env} {s : State} {m : MethodId} {args : Array Value} {below : List Frame} {meth : Method} {c : Code} {G : gG} {h0 : Nat} {ad : Nat → Nat} {post : Int32 → MS → Prop} (X : mX G h0 ad p s m args c cX1_common) (hml : c.maxLocals = 8) (hr : meth.sig.returnType = (some .int)) (hlk : meth.locks = false) : ∀ (n : Nat) (x4 : Int32) (x5 : Int32) (x6 : Int32) (x7 : Int32) (S : MS) (H : Heap) (locs : List Loc) (ls : Array Slot), wX1_common_88 post n x4 x5 x6 x7 S → mH G h0 ad s S H locs → lv_has ls 8 [(0, .ref h0), (4, .int x4), (5, .int x5), (6, .int x6), (7, .int x7)] → W p l e ⟨4, 0, 0, 101⟩ s m args below meth c H locs 0 0 (MQ below (gQ vI post (mBw G h0 ad) (mAd h0 ad)) args s 0 0 (mAd h0 ad)) (F0 m 88 ls []) := by
  have hx := X.1
  have hb := X.2.1
  have hown := X.2.2.1
  have hts := X.2.2.2.1
  intro n
  induction n with
  | zero =>
    intro x4 x5 x6 x7 S H locs ls h
    exact False.elim h
  | succ n ih =>
    intro x4 x5 x6 x7 S H locs ls h hw hl
    unfold wX1_common_88 at h
    refine lv_iload (pc := 88) hx hb dX1_common_88 (lv_at hl 4 rfl) ?_
    refine lv_iload (pc := 90) hx hb dX1_common_90 (lv_at hl 1 rfl) ?_
    refine lv_icmp_gt (pc := 92) (tgt := 142) hx hb dX1_common_92 rfl (fun c14 => ?_) (fun c14 => ?_)
    · have h := h.1 c14
      refine lv_iload (pc := 142) hx hb dX1_common_142 (lv_at hl 2 rfl) ?_
      refine lv_iconst (pc := 144) (v := (-1 : Int32)) hx hb dX1_common_144 (by decide) ?_
      refine lv_icmp_ne (pc := 145) (tgt := 153) hx hb dX1_common_145 rfl (fun c15 => ?_) (fun c15 => ?_)
      · have h := h.2 c15
        refine lv_ldcw (pc := 153) hx hb hown (hts _ q2305) dX1_common_153 ?_
        exact W.iret (pc := 156) hx hb hr (fun t ht hW => m_ret (val := vI) hw h ht) hw.2.2.2 dX1_common_156 hlk
      · have h := h.1 c15
        refine lv_iload (pc := 148) hx hb dX1_common_148 (lv_at hl 3 rfl) ?_
        refine lv_goto (pc := 150) (tgt := 156) hx hb dX1_common_150 rfl ?_
        exact W.iret (pc := 156) hx hb hr (fun t ht hW => m_ret (val := vI) hw h ht) hw.2.2.2 dX1_common_156 hlk
    · have h := h.2 c14
      refine lv_aload_n (pc := 95) hx hb dX1_common_95 rfl (lv_at hl 0 rfl) ?_
      refine mg47 (pc := 96) X hw dX1_common_96 ?_
      refine lv_iload (pc := 99) hx hb dX1_common_99 (lv_at hl 4 rfl) ?_
      refine lv_sipush (pc := 101) (v := (3000 : Int32)) hx hb dX1_common_101 (by decide) ?_
      refine lv_iadd (pc := 104) hx hb dX1_common_104 ?_
      obtain ⟨hi, h⟩ := h
      refine ma47 (pc := 105) X hw hi dX1_common_105 ?_
      refine lv_if_eq (pc := 106) (tgt := 136) hx hb dX1_common_106 rfl (fun c16 => ?_) (fun c16 => ?_)
      · have h := h.1 c16
        exact kX1_common_136 X hml hr hlk ih _ _ _ _ _ _ _ _ h hw (lv_sub hl [0, 1, 2, 3, 4] rfl)
      · have h := h.2 c16
        refine lv_aload_n (pc := 109) hx hb dX1_common_109 rfl (lv_at hl 0 rfl) ?_
        refine lv_iload (pc := 110) hx hb dX1_common_110 (lv_at hl 4 rfl) ?_
        refine uX1_waysOf (pc := 112) X hml hw h ⟨Nat.le_of_ble_eq_true rfl, Nat.le_of_ble_eq_true rfl⟩ hl.1 (Nat.le_of_ble_eq_true rfl) ⟨Nat.le_refl _, Nat.le_refl _⟩ dX1_common_112 (fun r17 S18 H locs h hw => ?_)
        refine lv_lconst (pc := 115) (v := (0 : Int64)) hx hb dX1_common_115 (by decide) ?_
        refine W.lcmp (pc := 116) hx hb dX1_common_116 ?_
        refine lv_if_ne (pc := 117) (tgt := 123) hx hb dX1_common_117 rfl (fun c19 => ?_) (fun c19 => ?_)
        · have h := h.2 (fun z => c19 ((lg_cmp_eq _ _).mpr z))
          refine lv_iload (pc := 123) hx hb dX1_common_123 (lv_at hl 3 rfl) ?_
          refine lv_iload (pc := 125) hx hb dX1_common_125 (lv_at hl 2 rfl) ?_
          refine lv_icmp_ne (pc := 127) (tgt := 133) hx hb dX1_common_127 rfl (fun c20 => ?_) (fun c20 => ?_)
          · have h := h.2 c20
            refine lv_iinc (pc := 133) (v := x6 + (1 : Int32)) (lv' := [(6, .int (x6 + (1 : Int32))), (0, .ref h0), (4, .int x4), (5, .int x5), (7, .int x7)]) hx hb dX1_common_133 hl (k := 3) rfl rfl (by decide) rfl (fun ls hl => ?_)
            exact kX1_common_136 X hml hr hlk ih _ _ _ _ _ _ _ _ h hw (lv_sub hl [1, 2, 3, 0, 4] rfl)
          · have h := h.1 c20
            refine lv_iload (pc := 130) hx hb dX1_common_130 (lv_at hl 4 rfl) ?_
            exact W.iret (pc := 132) hx hb hr (fun t ht hW => m_ret (val := vI) hw h ht) hw.2.2.2 dX1_common_132 hlk
        · have h := h.1 ((lg_cmp_eq _ _).mp c19)
          refine lv_goto (pc := 120) (tgt := 136) hx hb dX1_common_120 rfl ?_
          exact kX1_common_136 X hml hr hlk ih _ _ _ _ _ _ _ _ h hw (lv_sub hl [0, 1, 2, 3, 4] rfl)
theorem kX1_common_70 {p : Program} {l : Launch} {e : Env} {s : State} {m : MethodId} {args : Array Value} {below : List Frame} {meth : Method} {c : Code} {G : gG} {h0 : Nat} {ad : Nat → Nat} {K37 : Int32 → Int32 → Int32 → Int32 → Int32 → MS → Prop} {post : Int32 → MS → Prop} (X : mX G h0 ad p s m args c cX1_common) (hml : c.maxLocals = 8) (hr : meth.sig.returnType = (some .int)) (hlk : meth.locks = false) (hK37 : ∀ (x2 : Int32) (x3 : Int32) (x4 : Int32) (x5 : Int32) (x6 : Int32) (S : MS) (H : Heap) (locs : List Loc) (ls : Array Slot), K37 x2 x3 x4 x5 x6 S → mH G h0 ad s S H locs → lv_has ls 8 [(0, .ref h0), (2, .int x2), (3, .int x3), (4, .int x4), (5, .int x5), (6, .int x6)] → W p l e ⟨4, 0, 0, 101⟩ s m args below meth c H locs 0 0 (MQ below (gQ vI post (mBw G h0 ad) (mAd h0 ad)) args s 0 0 (mAd h0 ad)) (F0 m 37 ls [])) : ∀ (x2 : Int32) (x3 : Int32) (x4 : Int32) (x5 : Int32) (x6 : Int32) (v0 : Int32) (v1 : Int32) (S : MS) (H : Heap) (locs : List Loc) (ls : Array Slot), wX1_common_70 K37 post x2 x3 x4 x5 x6 v0 v1 S → mH G h0 ad s S H locs → lv_has ls 8 [(0, .ref h0), (2, .int x2), (3, .int x3), (4, .int x4), (5, .int x5), (6, .int x6)] → W p l e ⟨4, 0, 0, 101⟩ s m args below meth c H locs 0 0 (MQ below (gQ vI post (mBw G h0 ad) (mAd h0 ad)) args s 0 0 (mAd h0 ad)) (F0 m 70 ls [.int v0, .int v1, .ref (ad 47)]) := by
  have hx := X.1
  have hb := X.2.1
  have hown := X.2.2.1
  have hts := X.2.2.2.1
  intro x2 x3 x4 x5 x6 v0 v1 S H locs ls h hw hl
  unfold wX1_common_70 at h
  obtain ⟨hi, h⟩ := h
  refine ms47 (pc := 70) X hw hi dX1_common_70 (fun H locs hw => ?_)
  refine lv_iinc (pc := 71) (v := x6 + (1 : Int32)) (lv' := [(6, .int (x6 + (1 : Int32))), (0, .ref h0), (2, .int x2), (3, .int x3), (4, .int x4), (5, .int x5)]) hx hb dX1_common_71 hl (k := 5) rfl rfl (by decide) rfl (fun ls hl => ?_)
  refine lv_goto (pc := 74) (tgt := 37) hx hb dX1_common_74 rfl ?_
  exact hK37 _ _ _ _ _ _ _ _ _ h hw (lv_sub hl [1, 2, 3, 4, 5, 0] rfl)
theorem kX1_common_37 {p : Program} {l : Launch} {e : Env} {s : State} {m : MethodId} {args : Array Value} {below : List Frame} {meth : Method} {c : Code} {G : gG} {h0 : Nat} {ad : Nat → Nat} {post : Int32 → MS → Prop} (X : mX G h0 ad p s m args c cX1_common) (hml : c.maxLocals = 8) (hr : meth.sig.returnType = (some .int)) (hlk : meth.locks = false) : ∀ (n : Nat) (x2 : Int32) (x3 : Int32) (x4 : Int32) (x5 : Int32) (x6 : Int32) (S : MS) (H : Heap) (locs : List Loc) (ls : Array Slot), wX1_common_37 post n x2 x3 x4 x5 x6 S → mH G h0 ad s S H locs → lv_has ls 8 [(0, .ref h0), (2, .int x2), (3, .int x3), (4, .int x4), (5, .int x5), (6, .int x6)] → W p l e ⟨4, 0, 0, 101⟩ s m args below meth c H locs 0 0 (MQ below (gQ vI post (mBw G h0 ad) (mAd h0 ad)) args s 0 0 (mAd h0 ad)) (F0 m 37 ls []) := by
  have hx := X.1
  have hb := X.2.1
  have hown := X.2.2.1
  have hts := X.2.2.2.1
  intro n
  induction n with
  | zero =>
    intro x2 x3 x4 x5 x6 S H locs ls h
    exact False.elim h
  | succ n ih =>
    intro x2 x3 x4 x5 x6 S H locs ls h hw hl
    unfold wX1_common_37 at h
    refine lv_iload (pc := 37) hx hb dX1_common_37 (lv_at hl 5 rfl) ?_
    refine lv_iload (pc := 39) hx hb dX1_common_39 (lv_at hl 3 rfl) ?_
    refine lv_icmp_gt (pc := 41) (tgt := 77) hx hb dX1_common_41 rfl (fun c11 => ?_) (fun c11 => ?_)
    · have h := h.1 c11
      refine lv_aload_n (pc := 77) hx hb dX1_common_77 rfl (lv_at hl 0 rfl) ?_
      refine lv_iload_n (pc := 78) hx hb dX1_common_78 rfl (lv_at hl 1 rfl) ?_
      refine uX1_lays (pc := 79) X hml hw h ⟨Nat.le_of_ble_eq_true rfl, Nat.le_of_ble_eq_true rfl⟩ hl.1 (Nat.le_of_ble_eq_true rfl) ⟨Nat.le_refl _, Nat.le_refl _⟩ dX1_common_79 (fun _ S13 H locs h hw => ?_)
      refine lv_iconst (pc := 82) (v := (0 : Int32)) hx hb dX1_common_82 (by decide) ?_
      refine lv_istore (pc := 83) (lv' := [(6, .int (0 : Int32)), (0, .ref h0), (2, .int x2), (3, .int x3), (4, .int x4), (5, .int x5)]) hx hb dX1_common_83 hl (by decide) rfl (fun ls hl => ?_)
      refine lv_iload_n (pc := 85) hx hb dX1_common_85 rfl (lv_at hl 3 rfl) ?_
      refine lv_istore (pc := 86) (lv' := [(7, .int x3), (6, .int (0 : Int32)), (0, .ref h0), (2, .int x2), (3, .int x3), (4, .int x4), (5, .int x5)]) hx hb dX1_common_86 hl (by decide) rfl (fun ls hl => ?_)
      obtain ⟨k, h⟩ := h
      exact kX1_common_88 X hml hr hlk  k _ _ _ _ _ _ _ _ h hw (lv_sub hl [2, 5, 6, 1, 0] rfl)
    · have h := h.2 c11
      refine lv_aload_n (pc := 44) hx hb dX1_common_44 rfl (lv_at hl 0 rfl) ?_
      refine mg47 (pc := 45) X hw dX1_common_45 ?_
      refine lv_iload (pc := 48) hx hb dX1_common_48 (lv_at hl 5 rfl) ?_
      refine lv_sipush (pc := 50) (v := (3000 : Int32)) hx hb dX1_common_50 (by decide) ?_
      refine lv_iadd (pc := 53) hx hb dX1_common_53 ?_
      refine lv_aload_n (pc := 54) hx hb dX1_common_54 rfl (lv_at hl 0 rfl) ?_
      refine lv_iload (pc := 55) hx hb dX1_common_55 (lv_at hl 5 rfl) ?_
      refine uX1_waysOf (pc := 57) X hml hw h ⟨Nat.le_of_ble_eq_true rfl, Nat.le_of_ble_eq_true rfl⟩ hl.1 (Nat.le_of_ble_eq_true rfl) ⟨Nat.le_refl _, Nat.le_refl _⟩ dX1_common_57 (fun r21 S22 H locs h hw => ?_)
      refine lv_lconst (pc := 60) (v := (0 : Int64)) hx hb dX1_common_60 (by decide) ?_
      refine W.lcmp (pc := 61) hx hb dX1_common_61 ?_
      refine lv_if_le (pc := 62) (tgt := 69) hx hb dX1_common_62 rfl (fun c23 => ?_) (fun c23 => ?_)
      · have h := h.1 ((lg_cmp_le _ _).mp c23)
        refine lv_iconst (pc := 69) (v := (0 : Int32)) hx hb dX1_common_69 (by decide) ?_
        exact kX1_common_70 X hml hr hlk ih _ _ _ _ _ _ _ _ _ _ _ h hw (lv_sub hl [0, 1, 2, 3, 4, 5] rfl)
      · have h := h.2 (fun z => c23 ((lg_cmp_le _ _).mpr z))
        refine lv_iconst (pc := 65) (v := (1 : Int32)) hx hb dX1_common_65 (by decide) ?_
        refine lv_goto (pc := 66) (tgt := 70) hx hb dX1_common_66 rfl ?_
        exact kX1_common_70 X hml hr hlk ih _ _ _ _ _ _ _ _ _ _ _ h hw (lv_sub hl [0, 1, 2, 3, 4, 5] rfl)
theorem tX1_common {l : Launch} {G : gG} {h0 : Nat} {ad : Nat → Nat} (hd : mOk G h0 ad) {post : Int32 → MS → Prop} {S : MS} {x1 : Int32} {x2 : Int32} {x3 : Int32} {x4 : Int32} {x5 : Int32} (h : wX1_common post S x1 x2 x3 x4 x5) : Met l yX1_common (ws_ yX1_common cX1_common 8 (some .int)) ⟨4, 0, 0, 101⟩ (va_Pc (.ref h0 :: [.int x1, .int x2, .int x3, .int x4, .int x5]) (fun U => mBw G h0 ad S U.heap ∧ gK G U)) (gQ vI post (mBw G h0 ad) (mAd h0 ad)) 0 0 (mAd h0 ad) := by
  refine m_ofW (by decide) rfl hd (Nat.le_of_ble_eq_true rfl) (fun p e s m below meth c ls X hml hr hlk hw hl => ?_)
  have hl : lv_has ls 8 [(0, .ref h0), (1, .int x1), (2, .int x2), (3, .int x3), (4, .int x4), (5, .int x5)] := hl
  have hx := X.1
  have hb := X.2.1
  have hown := X.2.2.1
  have hts := X.2.2.2.1
  unfold wX1_common at h
  refine lv_aload_n (pc := 0) hx hb dX1_common_0 rfl (lv_at hl 0 rfl) ?_
  refine lv_iload_n (pc := 1) hx hb dX1_common_1 rfl (lv_at hl 1 rfl) ?_
  refine uX1_isForm (pc := 2) X hml hw h ⟨Nat.le_of_ble_eq_true rfl, Nat.le_of_ble_eq_true rfl⟩ hl.1 (Nat.le_of_ble_eq_true rfl) ⟨Nat.le_refl _, Nat.le_refl _⟩ dX1_common_2 (fun r1 S2 H locs h hw => ?_)
  refine lv_if_eq (pc := 5) (tgt := 25) hx hb dX1_common_5 rfl (fun c3 => ?_) (fun c3 => ?_)
  · have h := h.1 c3
    refine lv_ldcw (pc := 25) hx hb hown (hts _ q2305) dX1_common_25 ?_
    exact W.iret (pc := 28) hx hb hr (fun t ht hW => m_ret (val := vI) hw h ht) hw.2.2.2 dX1_common_28 hlk
  · have h := h.2 c3
    refine lv_aload_n (pc := 8) hx hb dX1_common_8 rfl (lv_at hl 0 rfl) ?_
    refine lv_iload_n (pc := 9) hx hb dX1_common_9 rfl (lv_at hl 2 rfl) ?_
    refine uX1_isForm (pc := 10) X hml hw h ⟨Nat.le_of_ble_eq_true rfl, Nat.le_of_ble_eq_true rfl⟩ hl.1 (Nat.le_of_ble_eq_true rfl) ⟨Nat.le_refl _, Nat.le_refl _⟩ dX1_common_10 (fun r4 S5 H locs h hw => ?_)
    refine lv_if_eq (pc := 13) (tgt := 25) hx hb dX1_common_13 rfl (fun c6 => ?_) (fun c6 => ?_)
    · have h := h.1 c6
      refine lv_ldcw (pc := 25) hx hb hown (hts _ q2305) dX1_common_25 ?_
      exact W.iret (pc := 28) hx hb hr (fun t ht hW => m_ret (val := vI) hw h ht) hw.2.2.2 dX1_common_28 hlk
    · have h := h.2 c6
      refine lv_iload_n (pc := 16) hx hb dX1_common_16 rfl (lv_at hl 3 rfl) ?_
      refine lv_iload (pc := 17) hx hb dX1_common_17 (lv_at hl 4 rfl) ?_
      refine uX1_isSpan (pc := 19) ⟨hx, hb, hml, hown, hts⟩ h ⟨Nat.le_of_ble_eq_true rfl, Nat.le_of_ble_eq_true rfl⟩ hl.1 (Nat.le_of_ble_eq_true rfl) ⟨Nat.le_refl _, Nat.le_refl _⟩ dX1_common_19 (fun r7 h => ?_)
      refine lv_if_ne (pc := 22) (tgt := 29) hx hb dX1_common_22 rfl (fun c8 => ?_) (fun c8 => ?_)
      · have h := h.2 c8
        refine lv_aload_n (pc := 29) hx hb dX1_common_29 rfl (lv_at hl 0 rfl) ?_
        refine lv_iload_n (pc := 30) hx hb dX1_common_30 rfl (lv_at hl 1 rfl) ?_
        refine uX1_lays (pc := 31) X hml hw h ⟨Nat.le_of_ble_eq_true rfl, Nat.le_of_ble_eq_true rfl⟩ hl.1 (Nat.le_of_ble_eq_true rfl) ⟨Nat.le_refl _, Nat.le_refl _⟩ dX1_common_31 (fun _ S10 H locs h hw => ?_)
        refine lv_iload_n (pc := 34) hx hb dX1_common_34 rfl (lv_at hl 3 rfl) ?_
        refine lv_istore (pc := 35) (lv' := [(6, .int x3), (0, .ref h0), (1, .int x1), (2, .int x2), (3, .int x3), (4, .int x4), (5, .int x5)]) hx hb dX1_common_35 hl (by decide) rfl (fun ls hl => ?_)
        obtain ⟨k, h⟩ := h
        exact kX1_common_37 X hml hr hlk  k _ _ _ _ _ _ _ _ _ h hw (lv_sub hl [1, 3, 4, 5, 6, 0] rfl)
      · have h := h.1 c8
        refine lv_ldcw (pc := 25) hx hb hown (hts _ q2305) dX1_common_25 ?_
        exact W.iret (pc := 28) hx hb hr (fun t ht hW => m_ret (val := vI) hw h ht) hw.2.2.2 dX1_common_28 hlk

def wX1_gap_100 (K50 : Int32 → Int32 → Int32 → Int32 → Int32 → Int32 → MS → Prop) (post : Int32 → MS → Prop) (x3 : Int32) (x4 : Int32) (x5 : Int32) (x6 : Int32) (x7 : Int32) (x8 : Int32) (S : MS) : Prop :=
  K50 x3 x4 x5 x6 x7 (x8 + (1 : Int32)) S
def wX1_gap_75 (K50 : Int32 → Int32 → Int32 → Int32 → Int32 → Int32 → MS → Prop) (post : Int32 → MS → Prop) (x3 : Int32) (x4 : Int32) (x5 : Int32) (x6 : Int32) (x8 : Int32) (v0 : Int32) (S : MS) : Prop :=
  ((x5 < v0) → (wX1_gap_100 K50 post x3 x4 v0 ((x8 - v0) + (1 : Int32)) v0 x8 S)) ∧ (¬ (x5 < v0) → (wX1_gap_100 K50 post x3 x4 x5 x6 v0 x8 S))
def wX1_gap_50 (post : Int32 → MS → Prop) : Nat → Int32 → Int32 → Int32 → Int32 → Int32 → Int32 → MS → Prop
  | 0, _, _, _, _, _, _, _ => False
  | n + 1, x3, x4, x5, x6, x7, x8, S => ((x3 < x8) → (((x4 = (0 : Int32)) → (post x5 S)) ∧ (¬ (x4 = (0 : Int32)) → (post x6 S)))) ∧ (¬ (x3 < x8) → (wX1_waysOf (fun r12 S13 => ((r12 ≤ (0 : Int64)) → (wX1_gap_75 (fun x3 x4 x5 x6 x7 x8 S => wX1_gap_50 post n x3 x4 x5 x6 x7 x8 S) post x3 x4 x5 x6 x8 (x7 + (1 : Int32)) S13)) ∧ (¬ (r12 ≤ (0 : Int64)) → (wX1_gap_75 (fun x3 x4 x5 x6 x7 x8 S => wX1_gap_50 post n x3 x4 x5 x6 x7 x8 S) post x3 x4 x5 x6 x8 (0 : Int32) S13))) S x8))
def wX1_gap (post : Int32 → MS → Prop) (S : MS) (x1 : Int32) (x2 : Int32) (x3 : Int32) (x4 : Int32) : Prop :=
  wX1_isForm (fun r1 S2 => ((r1 = (0 : Int32)) → (post (-100000 : Int32) S2)) ∧ (¬ (r1 = (0 : Int32)) → (wX1_isSpan (fun r4 => ((r4 = (0 : Int32)) → (post (-100000 : Int32) S2)) ∧ (¬ (r4 = (0 : Int32)) → (wX1_isIn (fun r6 => ((r6 = (0 : Int32)) → (post (-100000 : Int32) S2)) ∧ (¬ (r6 = (0 : Int32)) → (wX1_lays (fun _ S9 => (∃ k, wX1_gap_50 post k x3 x4 (0 : Int32) (-100000 : Int32) (0 : Int32) x2 S9)) S2 x1))) x4.toInt64 (0 : Int64) (1 : Int64)))) x2 x3))) S x1
theorem kX1_gap_100 {p : Program} {l : Launch} {e : Env} {s : State} {m : MethodId} {args : Array Value} {below : List Frame} {meth : Method} {c : Code} {G : gG} {h0 : Nat} {ad : Nat → Nat} {K50 : Int32 → Int32 → Int32 → Int32 → Int32 → Int32 → MS → Prop} {post : Int32 → MS → Prop} (X : mX G h0 ad p s m args c cX1_gap) (hml : c.maxLocals = 9) (hr : meth.sig.returnType = (some .int)) (hlk : meth.locks = false) (hK50 : ∀ (x3 : Int32) (x4 : Int32) (x5 : Int32) (x6 : Int32) (x7 : Int32) (x8 : Int32) (S : MS) (H : Heap) (locs : List Loc) (ls : Array Slot), K50 x3 x4 x5 x6 x7 x8 S → mH G h0 ad s S H locs → lv_has ls 9 [(0, .ref h0), (3, .int x3), (4, .int x4), (5, .int x5), (6, .int x6), (7, .int x7), (8, .int x8)] → W p l e ⟨4, 0, 0, 101⟩ s m args below meth c H locs 0 0 (MQ below (gQ vI post (mBw G h0 ad) (mAd h0 ad)) args s 0 0 (mAd h0 ad)) (F0 m 50 ls [])) : ∀ (x3 : Int32) (x4 : Int32) (x5 : Int32) (x6 : Int32) (x7 : Int32) (x8 : Int32) (S : MS) (H : Heap) (locs : List Loc) (ls : Array Slot), wX1_gap_100 K50 post x3 x4 x5 x6 x7 x8 S → mH G h0 ad s S H locs → lv_has ls 9 [(0, .ref h0), (3, .int x3), (4, .int x4), (5, .int x5), (6, .int x6), (7, .int x7), (8, .int x8)] → W p l e ⟨4, 0, 0, 101⟩ s m args below meth c H locs 0 0 (MQ below (gQ vI post (mBw G h0 ad) (mAd h0 ad)) args s 0 0 (mAd h0 ad)) (F0 m 100 ls []) := by
  have hx := X.1
  have hb := X.2.1
  have hown := X.2.2.1
  have hts := X.2.2.2.1
  intro x3 x4 x5 x6 x7 x8 S H locs ls h hw hl
  unfold wX1_gap_100 at h
  refine lv_iinc (pc := 100) (v := x8 + (1 : Int32)) (lv' := [(8, .int (x8 + (1 : Int32))), (0, .ref h0), (3, .int x3), (4, .int x4), (5, .int x5), (6, .int x6), (7, .int x7)]) hx hb dX1_gap_100 hl (k := 6) rfl rfl (by decide) rfl (fun ls hl => ?_)
  refine lv_goto (pc := 103) (tgt := 50) hx hb dX1_gap_103 rfl ?_
  exact hK50 _ _ _ _ _ _ _ _ _ _ h hw (lv_sub hl [1, 2, 3, 4, 5, 6, 0] rfl)
theorem kX1_gap_75 {p : Program} {l : Launch} {e : Env} {s : State} {m : MethodId} {args : Array Value} {below : List Frame} {meth : Method} {c : Code} {G : gG} {h0 : Nat} {ad : Nat → Nat} {K50 : Int32 → Int32 → Int32 → Int32 → Int32 → Int32 → MS → Prop} {post : Int32 → MS → Prop} (X : mX G h0 ad p s m args c cX1_gap) (hml : c.maxLocals = 9) (hr : meth.sig.returnType = (some .int)) (hlk : meth.locks = false) (hK50 : ∀ (x3 : Int32) (x4 : Int32) (x5 : Int32) (x6 : Int32) (x7 : Int32) (x8 : Int32) (S : MS) (H : Heap) (locs : List Loc) (ls : Array Slot), K50 x3 x4 x5 x6 x7 x8 S → mH G h0 ad s S H locs → lv_has ls 9 [(0, .ref h0), (3, .int x3), (4, .int x4), (5, .int x5), (6, .int x6), (7, .int x7), (8, .int x8)] → W p l e ⟨4, 0, 0, 101⟩ s m args below meth c H locs 0 0 (MQ below (gQ vI post (mBw G h0 ad) (mAd h0 ad)) args s 0 0 (mAd h0 ad)) (F0 m 50 ls [])) : ∀ (x3 : Int32) (x4 : Int32) (x5 : Int32) (x6 : Int32) (x8 : Int32) (v0 : Int32) (S : MS) (H : Heap) (locs : List Loc) (ls : Array Slot), wX1_gap_75 K50 post x3 x4 x5 x6 x8 v0 S → mH G h0 ad s S H locs → lv_has ls 9 [(0, .ref h0), (3, .int x3), (4, .int x4), (5, .int x5), (6, .int x6), (8, .int x8)] → W p l e ⟨4, 0, 0, 101⟩ s m args below meth c H locs 0 0 (MQ below (gQ vI post (mBw G h0 ad) (mAd h0 ad)) args s 0 0 (mAd h0 ad)) (F0 m 75 ls [.int v0]) := by
  have hx := X.1
  have hb := X.2.1
  have hown := X.2.2.1
  have hts := X.2.2.2.1
  intro x3 x4 x5 x6 x8 v0 S H locs ls h hw hl
  unfold wX1_gap_75 at h
  refine lv_istore (pc := 75) (lv' := [(7, .int v0), (0, .ref h0), (3, .int x3), (4, .int x4), (5, .int x5), (6, .int x6), (8, .int x8)]) hx hb dX1_gap_75 hl (by decide) rfl (fun ls hl => ?_)
  refine lv_iload (pc := 77) hx hb dX1_gap_77 (lv_at hl 0 rfl) ?_
  refine lv_iload (pc := 79) hx hb dX1_gap_79 (lv_at hl 4 rfl) ?_
  refine lv_icmp_gt (pc := 81) (tgt := 87) hx hb dX1_gap_81 rfl (fun c15 => ?_) (fun c15 => ?_)
  · have h := h.1 c15
    refine lv_iload (pc := 87) hx hb dX1_gap_87 (lv_at hl 0 rfl) ?_
    refine lv_istore (pc := 89) (lv' := [(5, .int v0), (7, .int v0), (0, .ref h0), (3, .int x3), (4, .int x4), (6, .int x6), (8, .int x8)]) hx hb dX1_gap_89 hl (by decide) rfl (fun ls hl => ?_)
    refine lv_iload (pc := 91) hx hb dX1_gap_91 (lv_at hl 6 rfl) ?_
    refine lv_iload (pc := 93) hx hb dX1_gap_93 (lv_at hl 1 rfl) ?_
    refine lv_isub (pc := 95) hx hb dX1_gap_95 ?_
    refine lv_iconst (pc := 96) (v := (1 : Int32)) hx hb dX1_gap_96 (by decide) ?_
    refine lv_iadd (pc := 97) hx hb dX1_gap_97 ?_
    refine lv_istore (pc := 98) (lv' := [(6, .int ((x8 - v0) + (1 : Int32))), (5, .int v0), (7, .int v0), (0, .ref h0), (3, .int x3), (4, .int x4), (8, .int x8)]) hx hb dX1_gap_98 hl (by decide) rfl (fun ls hl => ?_)
    exact kX1_gap_100 X hml hr hlk hK50 _ _ _ _ _ _ _ _ _ _ h hw (lv_sub hl [3, 4, 5, 1, 0, 2, 6] rfl)
  · have h := h.2 c15
    refine lv_goto (pc := 84) (tgt := 100) hx hb dX1_gap_84 rfl ?_
    exact kX1_gap_100 X hml hr hlk hK50 _ _ _ _ _ _ _ _ _ _ h hw (lv_sub hl [1, 2, 3, 4, 5, 0, 6] rfl)
theorem kX1_gap_50 {p : Program} {l : Launch} {e : Env} {s : State} {m : MethodId} {args : Array Value} {below : List Frame} {meth : Method} {c : Code} {G : gG} {h0 : Nat} {ad : Nat → Nat} {post : Int32 → MS → Prop} (X : mX G h0 ad p s m args c cX1_gap) (hml : c.maxLocals = 9) (hr : meth.sig.returnType = (some .int)) (hlk : meth.locks = false) : ∀ (n : Nat) (x3 : Int32) (x4 : Int32) (x5 : Int32) (x6 : Int32) (x7 : Int32) (x8 : Int32) (S : MS) (H : Heap) (locs : List Loc) (ls : Array Slot), wX1_gap_50 post n x3 x4 x5 x6 x7 x8 S → mH G h0 ad s S H locs → lv_has ls 9 [(0, .ref h0), (3, .int x3), (4, .int x4), (5, .int x5), (6, .int x6), (7, .int x7), (8, .int x8)] → W p l e ⟨4, 0, 0, 101⟩ s m args below meth c H locs 0 0 (MQ below (gQ vI post (mBw G h0 ad) (mAd h0 ad)) args s 0 0 (mAd h0 ad)) (F0 m 50 ls []) := by
  have hx := X.1
  have hb := X.2.1
  have hown := X.2.2.1
  have hts := X.2.2.2.1
  intro n
  induction n with
  | zero =>
    intro x3 x4 x5 x6 x7 x8 S H locs ls h
    exact False.elim h
  | succ n ih =>
    intro x3 x4 x5 x6 x7 x8 S H locs ls h hw hl
    unfold wX1_gap_50 at h
    refine lv_iload (pc := 50) hx hb dX1_gap_50 (lv_at hl 6 rfl) ?_
    refine lv_iload_n (pc := 52) hx hb dX1_gap_52 rfl (lv_at hl 1 rfl) ?_
    refine lv_icmp_gt (pc := 53) (tgt := 106) hx hb dX1_gap_53 rfl (fun c10 => ?_) (fun c10 => ?_)
    · have h := h.1 c10
      refine lv_iload (pc := 106) hx hb dX1_gap_106 (lv_at hl 2 rfl) ?_
      refine lv_if_ne (pc := 108) (tgt := 116) hx hb dX1_gap_108 rfl (fun c11 => ?_) (fun c11 => ?_)
      · have h := h.2 c11
        refine lv_iload (pc := 116) hx hb dX1_gap_116 (lv_at hl 4 rfl) ?_
        exact W.iret (pc := 118) hx hb hr (fun t ht hW => m_ret (val := vI) hw h ht) hw.2.2.2 dX1_gap_118 hlk
      · have h := h.1 c11
        refine lv_iload (pc := 111) hx hb dX1_gap_111 (lv_at hl 3 rfl) ?_
        refine lv_goto (pc := 113) (tgt := 118) hx hb dX1_gap_113 rfl ?_
        exact W.iret (pc := 118) hx hb hr (fun t ht hW => m_ret (val := vI) hw h ht) hw.2.2.2 dX1_gap_118 hlk
    · have h := h.2 c10
      refine lv_aload_n (pc := 56) hx hb dX1_gap_56 rfl (lv_at hl 0 rfl) ?_
      refine lv_iload (pc := 57) hx hb dX1_gap_57 (lv_at hl 6 rfl) ?_
      refine uX1_waysOf (pc := 59) X hml hw h ⟨Nat.le_of_ble_eq_true rfl, Nat.le_of_ble_eq_true rfl⟩ hl.1 (Nat.le_of_ble_eq_true rfl) ⟨Nat.le_refl _, Nat.le_refl _⟩ dX1_gap_59 (fun r12 S13 H locs h hw => ?_)
      refine lv_lconst (pc := 62) (v := (0 : Int64)) hx hb dX1_gap_62 (by decide) ?_
      refine W.lcmp (pc := 63) hx hb dX1_gap_63 ?_
      refine lv_if_le (pc := 64) (tgt := 71) hx hb dX1_gap_64 rfl (fun c14 => ?_) (fun c14 => ?_)
      · have h := h.1 ((lg_cmp_le _ _).mp c14)
        refine lv_iload (pc := 71) hx hb dX1_gap_71 (lv_at hl 5 rfl) ?_
        refine lv_iconst (pc := 73) (v := (1 : Int32)) hx hb dX1_gap_73 (by decide) ?_
        refine lv_iadd (pc := 74) hx hb dX1_gap_74 ?_
        exact kX1_gap_75 X hml hr hlk ih _ _ _ _ _ _ _ _ _ _ h hw (lv_sub hl [0, 1, 2, 3, 4, 6] rfl)
      · have h := h.2 (fun z => c14 ((lg_cmp_le _ _).mpr z))
        refine lv_iconst (pc := 67) (v := (0 : Int32)) hx hb dX1_gap_67 (by decide) ?_
        refine lv_goto (pc := 68) (tgt := 75) hx hb dX1_gap_68 rfl ?_
        exact kX1_gap_75 X hml hr hlk ih _ _ _ _ _ _ _ _ _ _ h hw (lv_sub hl [0, 1, 2, 3, 4, 6] rfl)
theorem tX1_gap {l : Launch} {G : gG} {h0 : Nat} {ad : Nat → Nat} (hd : mOk G h0 ad) {post : Int32 → MS → Prop} {S : MS} {x1 : Int32} {x2 : Int32} {x3 : Int32} {x4 : Int32} (h : wX1_gap post S x1 x2 x3 x4) : Met l yX1_gap (ws_ yX1_gap cX1_gap 9 (some .int)) ⟨4, 0, 0, 101⟩ (va_Pc (.ref h0 :: [.int x1, .int x2, .int x3, .int x4]) (fun U => mBw G h0 ad S U.heap ∧ gK G U)) (gQ vI post (mBw G h0 ad) (mAd h0 ad)) 0 0 (mAd h0 ad) := by
  refine m_ofW (by decide) rfl hd (Nat.le_of_ble_eq_true rfl) (fun p e s m below meth c ls X hml hr hlk hw hl => ?_)
  have hl : lv_has ls 9 [(0, .ref h0), (1, .int x1), (2, .int x2), (3, .int x3), (4, .int x4)] := hl
  have hx := X.1
  have hb := X.2.1
  have hown := X.2.2.1
  have hts := X.2.2.2.1
  unfold wX1_gap at h
  refine lv_aload_n (pc := 0) hx hb dX1_gap_0 rfl (lv_at hl 0 rfl) ?_
  refine lv_iload_n (pc := 1) hx hb dX1_gap_1 rfl (lv_at hl 1 rfl) ?_
  refine uX1_isForm (pc := 2) X hml hw h ⟨Nat.le_of_ble_eq_true rfl, Nat.le_of_ble_eq_true rfl⟩ hl.1 (Nat.le_of_ble_eq_true rfl) ⟨Nat.le_refl _, Nat.le_refl _⟩ dX1_gap_2 (fun r1 S2 H locs h hw => ?_)
  refine lv_if_eq (pc := 5) (tgt := 27) hx hb dX1_gap_5 rfl (fun c3 => ?_) (fun c3 => ?_)
  · have h := h.1 c3
    refine lv_ldcw (pc := 27) hx hb hown (hts _ q2305) dX1_gap_27 ?_
    exact W.iret (pc := 30) hx hb hr (fun t ht hW => m_ret (val := vI) hw h ht) hw.2.2.2 dX1_gap_30 hlk
  · have h := h.2 c3
    refine lv_iload_n (pc := 8) hx hb dX1_gap_8 rfl (lv_at hl 2 rfl) ?_
    refine lv_iload_n (pc := 9) hx hb dX1_gap_9 rfl (lv_at hl 3 rfl) ?_
    refine uX1_isSpan (pc := 10) ⟨hx, hb, hml, hown, hts⟩ h ⟨Nat.le_of_ble_eq_true rfl, Nat.le_of_ble_eq_true rfl⟩ hl.1 (Nat.le_of_ble_eq_true rfl) ⟨Nat.le_refl _, Nat.le_refl _⟩ dX1_gap_10 (fun r4 h => ?_)
    refine lv_if_eq (pc := 13) (tgt := 27) hx hb dX1_gap_13 rfl (fun c5 => ?_) (fun c5 => ?_)
    · have h := h.1 c5
      refine lv_ldcw (pc := 27) hx hb hown (hts _ q2305) dX1_gap_27 ?_
      exact W.iret (pc := 30) hx hb hr (fun t ht hW => m_ret (val := vI) hw h ht) hw.2.2.2 dX1_gap_30 hlk
    · have h := h.2 c5
      refine lv_iload (pc := 16) hx hb dX1_gap_16 (lv_at hl 4 rfl) ?_
      refine lv_i2l (pc := 18) hx hb dX1_gap_18 rfl ?_
      refine lv_lconst (pc := 19) (v := (0 : Int64)) hx hb dX1_gap_19 (by decide) ?_
      refine lv_lconst (pc := 20) (v := (1 : Int64)) hx hb dX1_gap_20 (by decide) ?_
      refine uX1_isIn (pc := 21) ⟨hx, hb, hml, hown, hts⟩ h ⟨Nat.le_of_ble_eq_true rfl, Nat.le_of_ble_eq_true rfl⟩ hl.1 (Nat.le_of_ble_eq_true rfl) ⟨Nat.le_refl _, Nat.le_refl _⟩ dX1_gap_21 (fun r6 h => ?_)
      refine lv_if_ne (pc := 24) (tgt := 31) hx hb dX1_gap_24 rfl (fun c7 => ?_) (fun c7 => ?_)
      · have h := h.2 c7
        refine lv_aload_n (pc := 31) hx hb dX1_gap_31 rfl (lv_at hl 0 rfl) ?_
        refine lv_iload_n (pc := 32) hx hb dX1_gap_32 rfl (lv_at hl 1 rfl) ?_
        refine uX1_lays (pc := 33) X hml hw h ⟨Nat.le_of_ble_eq_true rfl, Nat.le_of_ble_eq_true rfl⟩ hl.1 (Nat.le_of_ble_eq_true rfl) ⟨Nat.le_refl _, Nat.le_refl _⟩ dX1_gap_33 (fun _ S9 H locs h hw => ?_)
        refine lv_iconst (pc := 36) (v := (0 : Int32)) hx hb dX1_gap_36 (by decide) ?_
        refine lv_istore (pc := 37) (lv' := [(5, .int (0 : Int32)), (0, .ref h0), (1, .int x1), (2, .int x2), (3, .int x3), (4, .int x4)]) hx hb dX1_gap_37 hl (by decide) rfl (fun ls hl => ?_)
        refine lv_ldcw (pc := 39) hx hb hown (hts _ q2305) dX1_gap_39 ?_
        refine lv_istore (pc := 42) (lv' := [(6, .int (-100000 : Int32)), (5, .int (0 : Int32)), (0, .ref h0), (1, .int x1), (2, .int x2), (3, .int x3), (4, .int x4)]) hx hb dX1_gap_42 hl (by decide) rfl (fun ls hl => ?_)
        refine lv_iconst (pc := 44) (v := (0 : Int32)) hx hb dX1_gap_44 (by decide) ?_
        refine lv_istore (pc := 45) (lv' := [(7, .int (0 : Int32)), (6, .int (-100000 : Int32)), (5, .int (0 : Int32)), (0, .ref h0), (1, .int x1), (2, .int x2), (3, .int x3), (4, .int x4)]) hx hb dX1_gap_45 hl (by decide) rfl (fun ls hl => ?_)
        refine lv_iload_n (pc := 47) hx hb dX1_gap_47 rfl (lv_at hl 5 rfl) ?_
        refine lv_istore (pc := 48) (lv' := [(8, .int x2), (7, .int (0 : Int32)), (6, .int (-100000 : Int32)), (5, .int (0 : Int32)), (0, .ref h0), (1, .int x1), (2, .int x2), (3, .int x3), (4, .int x4)]) hx hb dX1_gap_48 hl (by decide) rfl (fun ls hl => ?_)
        obtain ⟨k, h⟩ := h
        exact kX1_gap_50 X hml hr hlk  k _ _ _ _ _ _ _ _ _ _ h hw (lv_sub hl [4, 7, 8, 3, 2, 1, 0] rfl)
      · have h := h.1 c7
        refine lv_ldcw (pc := 27) hx hb hown (hts _ q2305) dX1_gap_27 ?_
        exact W.iret (pc := 30) hx hb hr (fun t ht hW => m_ret (val := vI) hw h ht) hw.2.2.2 dX1_gap_30 hlk

def wX1_rank_115 (K51 : Int32 → Int32 → Int32 → Int32 → MS → Prop) (K63 : Int32 → Int32 → Int32 → Int32 → Int32 → Int32 → MS → Prop) (post : Int32 → MS → Prop) (x2 : Int32) (x3 : Int32) (x4 : Int32) (x5 : Int32) (x7 : Int32) (v0 : Int32) (v1 : Int32) (S : MS) : Prop :=
  wX1_one (fun r19 => K63 x2 x3 x4 x5 (v1 + r19) (x7 + (1 : Int32)) S) v0
def wX1_rank_110 (K51 : Int32 → Int32 → Int32 → Int32 → MS → Prop) (K63 : Int32 → Int32 → Int32 → Int32 → Int32 → Int32 → MS → Prop) (post : Int32 → MS → Prop) (x2 : Int32) (x3 : Int32) (x4 : Int32) (x5 : Int32) (x7 : Int32) (v0 : Int32) (S : MS) : Prop :=
  wX1_rank_115 K51 K63 post x2 x3 x4 x5 x7 (1 : Int32) v0 S
def wX1_rank_114 (K51 : Int32 → Int32 → Int32 → Int32 → MS → Prop) (K63 : Int32 → Int32 → Int32 → Int32 → Int32 → Int32 → MS → Prop) (post : Int32 → MS → Prop) (x2 : Int32) (x3 : Int32) (x4 : Int32) (x5 : Int32) (x7 : Int32) (v0 : Int32) (S : MS) : Prop :=
  wX1_rank_115 K51 K63 post x2 x3 x4 x5 x7 (0 : Int32) v0 S
def wX1_rank_63 (K51 : Int32 → Int32 → Int32 → Int32 → MS → Prop) (post : Int32 → MS → Prop) : Nat → Int32 → Int32 → Int32 → Int32 → Int32 → Int32 → MS → Prop
  | 0, _, _, _, _, _, _, _ => False
  | n + 1, x2, x3, x4, x5, x6, x7, S => ((x3 < x7) → (((x6 = x4) → (post x5 S)) ∧ (¬ (x6 = x4) → (K51 x2 x3 x4 (x5 + (1 : Int32)) S)))) ∧ (¬ (x3 < x7) → (wX1_waysOf (fun r14 S15 => wX1_waysOf (fun r16 S17 => ((r16 < r14) → (wX1_rank_110 K51 (fun x2 x3 x4 x5 x6 x7 S => wX1_rank_63 K51 post n x2 x3 x4 x5 x6 x7 S) post x2 x3 x4 x5 x7 x6 S17)) ∧ (¬ (r16 < r14) → (wX1_waysOf (fun r20 S21 => wX1_waysOf (fun r22 S23 => ((r20 = r22) → (((x5 ≤ x7) → (wX1_rank_114 K51 (fun x2 x3 x4 x5 x6 x7 S => wX1_rank_63 K51 post n x2 x3 x4 x5 x6 x7 S) post x2 x3 x4 x5 x7 x6 S23)) ∧ (¬ (x5 ≤ x7) → (wX1_rank_110 K51 (fun x2 x3 x4 x5 x6 x7 S => wX1_rank_63 K51 post n x2 x3 x4 x5 x6 x7 S) post x2 x3 x4 x5 x7 x6 S23)))) ∧ (¬ (r20 = r22) → (wX1_rank_114 K51 (fun x2 x3 x4 x5 x6 x7 S => wX1_rank_63 K51 post n x2 x3 x4 x5 x6 x7 S) post x2 x3 x4 x5 x7 x6 S23))) S21 x5) S17 x7))) S15 x5) S x7))
def wX1_rank_51 (post : Int32 → MS → Prop) : Nat → Int32 → Int32 → Int32 → Int32 → MS → Prop
  | 0, _, _, _, _, _ => False
  | n + 1, x2, x3, x4, x5, S => ((x3 < x5) → (post (-100000 : Int32) S)) ∧ (¬ (x3 < x5) → ((∃ k, wX1_rank_63 (fun x2 x3 x4 x5 S => wX1_rank_51 post n x2 x3 x4 x5 S) post k x2 x3 x4 x5 (0 : Int32) x2 S)))
def wX1_rank (post : Int32 → MS → Prop) (S : MS) (x1 : Int32) (x2 : Int32) (x3 : Int32) (x4 : Int32) : Prop :=
  wX1_isForm (fun r1 S2 => ((r1 = (0 : Int32)) → (post (-100000 : Int32) S2)) ∧ (¬ (r1 = (0 : Int32)) → (wX1_isSpan (fun r4 => ((r4 = (0 : Int32)) → (post (-100000 : Int32) S2)) ∧ (¬ (r4 = (0 : Int32)) → ((((200 : Int32) ≤ (x3 - x2)) → (post (-100000 : Int32) S2)) ∧ (¬ ((200 : Int32) ≤ (x3 - x2)) → (wX1_isIn (fun r7 => ((r7 = (0 : Int32)) → (post (-100000 : Int32) S2)) ∧ (¬ (r7 = (0 : Int32)) → (wX1_lays (fun _ S10 => (∃ k, wX1_rank_51 post k x2 x3 x4 x2 S10)) S2 x1))) x4.toInt64 (0 : Int64) ((x3 - x2).toInt64)))))) x2 x3))) S x1
theorem kX1_rank_115 {p : Program} {l : Launch} {e : Env} {s : State} {m : MethodId} {args : Array Value} {below : List Frame} {meth : Method} {c : Code} {G : gG} {h0 : Nat} {ad : Nat → Nat} {K51 : Int32 → Int32 → Int32 → Int32 → MS → Prop} {K63 : Int32 → Int32 → Int32 → Int32 → Int32 → Int32 → MS → Prop} {post : Int32 → MS → Prop} (X : mX G h0 ad p s m args c cX1_rank) (hml : c.maxLocals = 8) (hr : meth.sig.returnType = (some .int)) (hlk : meth.locks = false) (hK51 : ∀ (x2 : Int32) (x3 : Int32) (x4 : Int32) (x5 : Int32) (S : MS) (H : Heap) (locs : List Loc) (ls : Array Slot), K51 x2 x3 x4 x5 S → mH G h0 ad s S H locs → lv_has ls 8 [(0, .ref h0), (2, .int x2), (3, .int x3), (4, .int x4), (5, .int x5)] → W p l e ⟨4, 0, 0, 101⟩ s m args below meth c H locs 0 0 (MQ below (gQ vI post (mBw G h0 ad) (mAd h0 ad)) args s 0 0 (mAd h0 ad)) (F0 m 51 ls [])) (hK63 : ∀ (x2 : Int32) (x3 : Int32) (x4 : Int32) (x5 : Int32) (x6 : Int32) (x7 : Int32) (S : MS) (H : Heap) (locs : List Loc) (ls : Array Slot), K63 x2 x3 x4 x5 x6 x7 S → mH G h0 ad s S H locs → lv_has ls 8 [(0, .ref h0), (2, .int x2), (3, .int x3), (4, .int x4), (5, .int x5), (6, .int x6), (7, .int x7)] → W p l e ⟨4, 0, 0, 101⟩ s m args below meth c H locs 0 0 (MQ below (gQ vI post (mBw G h0 ad) (mAd h0 ad)) args s 0 0 (mAd h0 ad)) (F0 m 63 ls [])) : ∀ (x2 : Int32) (x3 : Int32) (x4 : Int32) (x5 : Int32) (x7 : Int32) (v0 : Int32) (v1 : Int32) (S : MS) (H : Heap) (locs : List Loc) (ls : Array Slot), wX1_rank_115 K51 K63 post x2 x3 x4 x5 x7 v0 v1 S → mH G h0 ad s S H locs → lv_has ls 8 [(0, .ref h0), (2, .int x2), (3, .int x3), (4, .int x4), (5, .int x5), (7, .int x7)] → W p l e ⟨4, 0, 0, 101⟩ s m args below meth c H locs 0 0 (MQ below (gQ vI post (mBw G h0 ad) (mAd h0 ad)) args s 0 0 (mAd h0 ad)) (F0 m 115 ls [.int v0, .int v1]) := by
  have hx := X.1
  have hb := X.2.1
  have hown := X.2.2.1
  have hts := X.2.2.2.1
  intro x2 x3 x4 x5 x7 v0 v1 S H locs ls h hw hl
  unfold wX1_rank_115 at h
  refine uX1_one (pc := 115) ⟨hx, hb, hml, hown, hts⟩ h ⟨Nat.le_of_ble_eq_true rfl, Nat.le_of_ble_eq_true rfl⟩ hl.1 (Nat.le_of_ble_eq_true rfl) ⟨Nat.le_refl _, Nat.le_refl _⟩ dX1_rank_115 (fun r19 h => ?_)
  refine lv_iadd (pc := 118) hx hb dX1_rank_118 ?_
  refine lv_istore (pc := 119) (lv' := [(6, .int (v1 + r19)), (0, .ref h0), (2, .int x2), (3, .int x3), (4, .int x4), (5, .int x5), (7, .int x7)]) hx hb dX1_rank_119 hl (by decide) rfl (fun ls hl => ?_)
  refine lv_iinc (pc := 121) (v := x7 + (1 : Int32)) (lv' := [(7, .int (x7 + (1 : Int32))), (6, .int (v1 + r19)), (0, .ref h0), (2, .int x2), (3, .int x3), (4, .int x4), (5, .int x5)]) hx hb dX1_rank_121 hl (k := 6) rfl rfl (by decide) rfl (fun ls hl => ?_)
  refine lv_goto (pc := 124) (tgt := 63) hx hb dX1_rank_124 rfl ?_
  exact hK63 _ _ _ _ _ _ _ _ _ _ h hw (lv_sub hl [2, 3, 4, 5, 6, 1, 0] rfl)
theorem kX1_rank_110 {p : Program} {l : Launch} {e : Env} {s : State} {m : MethodId} {args : Array Value} {below : List Frame} {meth : Method} {c : Code} {G : gG} {h0 : Nat} {ad : Nat → Nat} {K51 : Int32 → Int32 → Int32 → Int32 → MS → Prop} {K63 : Int32 → Int32 → Int32 → Int32 → Int32 → Int32 → MS → Prop} {post : Int32 → MS → Prop} (X : mX G h0 ad p s m args c cX1_rank) (hml : c.maxLocals = 8) (hr : meth.sig.returnType = (some .int)) (hlk : meth.locks = false) (hK51 : ∀ (x2 : Int32) (x3 : Int32) (x4 : Int32) (x5 : Int32) (S : MS) (H : Heap) (locs : List Loc) (ls : Array Slot), K51 x2 x3 x4 x5 S → mH G h0 ad s S H locs → lv_has ls 8 [(0, .ref h0), (2, .int x2), (3, .int x3), (4, .int x4), (5, .int x5)] → W p l e ⟨4, 0, 0, 101⟩ s m args below meth c H locs 0 0 (MQ below (gQ vI post (mBw G h0 ad) (mAd h0 ad)) args s 0 0 (mAd h0 ad)) (F0 m 51 ls [])) (hK63 : ∀ (x2 : Int32) (x3 : Int32) (x4 : Int32) (x5 : Int32) (x6 : Int32) (x7 : Int32) (S : MS) (H : Heap) (locs : List Loc) (ls : Array Slot), K63 x2 x3 x4 x5 x6 x7 S → mH G h0 ad s S H locs → lv_has ls 8 [(0, .ref h0), (2, .int x2), (3, .int x3), (4, .int x4), (5, .int x5), (6, .int x6), (7, .int x7)] → W p l e ⟨4, 0, 0, 101⟩ s m args below meth c H locs 0 0 (MQ below (gQ vI post (mBw G h0 ad) (mAd h0 ad)) args s 0 0 (mAd h0 ad)) (F0 m 63 ls [])) : ∀ (x2 : Int32) (x3 : Int32) (x4 : Int32) (x5 : Int32) (x7 : Int32) (v0 : Int32) (S : MS) (H : Heap) (locs : List Loc) (ls : Array Slot), wX1_rank_110 K51 K63 post x2 x3 x4 x5 x7 v0 S → mH G h0 ad s S H locs → lv_has ls 8 [(0, .ref h0), (2, .int x2), (3, .int x3), (4, .int x4), (5, .int x5), (7, .int x7)] → W p l e ⟨4, 0, 0, 101⟩ s m args below meth c H locs 0 0 (MQ below (gQ vI post (mBw G h0 ad) (mAd h0 ad)) args s 0 0 (mAd h0 ad)) (F0 m 110 ls [.int v0]) := by
  have hx := X.1
  have hb := X.2.1
  have hown := X.2.2.1
  have hts := X.2.2.2.1
  intro x2 x3 x4 x5 x7 v0 S H locs ls h hw hl
  unfold wX1_rank_110 at h
  refine lv_iconst (pc := 110) (v := (1 : Int32)) hx hb dX1_rank_110 (by decide) ?_
  refine lv_goto (pc := 111) (tgt := 115) hx hb dX1_rank_111 rfl ?_
  exact kX1_rank_115 X hml hr hlk hK51 hK63 _ _ _ _ _ _ _ _ _ _ _ h hw (lv_sub hl [0, 1, 2, 3, 4, 5] rfl)
theorem kX1_rank_114 {p : Program} {l : Launch} {e : Env} {s : State} {m : MethodId} {args : Array Value} {below : List Frame} {meth : Method} {c : Code} {G : gG} {h0 : Nat} {ad : Nat → Nat} {K51 : Int32 → Int32 → Int32 → Int32 → MS → Prop} {K63 : Int32 → Int32 → Int32 → Int32 → Int32 → Int32 → MS → Prop} {post : Int32 → MS → Prop} (X : mX G h0 ad p s m args c cX1_rank) (hml : c.maxLocals = 8) (hr : meth.sig.returnType = (some .int)) (hlk : meth.locks = false) (hK51 : ∀ (x2 : Int32) (x3 : Int32) (x4 : Int32) (x5 : Int32) (S : MS) (H : Heap) (locs : List Loc) (ls : Array Slot), K51 x2 x3 x4 x5 S → mH G h0 ad s S H locs → lv_has ls 8 [(0, .ref h0), (2, .int x2), (3, .int x3), (4, .int x4), (5, .int x5)] → W p l e ⟨4, 0, 0, 101⟩ s m args below meth c H locs 0 0 (MQ below (gQ vI post (mBw G h0 ad) (mAd h0 ad)) args s 0 0 (mAd h0 ad)) (F0 m 51 ls [])) (hK63 : ∀ (x2 : Int32) (x3 : Int32) (x4 : Int32) (x5 : Int32) (x6 : Int32) (x7 : Int32) (S : MS) (H : Heap) (locs : List Loc) (ls : Array Slot), K63 x2 x3 x4 x5 x6 x7 S → mH G h0 ad s S H locs → lv_has ls 8 [(0, .ref h0), (2, .int x2), (3, .int x3), (4, .int x4), (5, .int x5), (6, .int x6), (7, .int x7)] → W p l e ⟨4, 0, 0, 101⟩ s m args below meth c H locs 0 0 (MQ below (gQ vI post (mBw G h0 ad) (mAd h0 ad)) args s 0 0 (mAd h0 ad)) (F0 m 63 ls [])) : ∀ (x2 : Int32) (x3 : Int32) (x4 : Int32) (x5 : Int32) (x7 : Int32) (v0 : Int32) (S : MS) (H : Heap) (locs : List Loc) (ls : Array Slot), wX1_rank_114 K51 K63 post x2 x3 x4 x5 x7 v0 S → mH G h0 ad s S H locs → lv_has ls 8 [(0, .ref h0), (2, .int x2), (3, .int x3), (4, .int x4), (5, .int x5), (7, .int x7)] → W p l e ⟨4, 0, 0, 101⟩ s m args below meth c H locs 0 0 (MQ below (gQ vI post (mBw G h0 ad) (mAd h0 ad)) args s 0 0 (mAd h0 ad)) (F0 m 114 ls [.int v0]) := by
  have hx := X.1
  have hb := X.2.1
  have hown := X.2.2.1
  have hts := X.2.2.2.1
  intro x2 x3 x4 x5 x7 v0 S H locs ls h hw hl
  unfold wX1_rank_114 at h
  refine lv_iconst (pc := 114) (v := (0 : Int32)) hx hb dX1_rank_114 (by decide) ?_
  exact kX1_rank_115 X hml hr hlk hK51 hK63 _ _ _ _ _ _ _ _ _ _ _ h hw (lv_sub hl [0, 1, 2, 3, 4, 5] rfl)
theorem kX1_rank_63 {p : Program} {l : Launch} {e : Env} {s : State} {m : MethodId} {args : Array Value} {below : List Frame} {meth : Method} {c : Code} {G : gG} {h0 : Nat} {ad : Nat → Nat} {K51 : Int32 → Int32 → Int32 → Int32 → MS → Prop} {post : Int32 → MS → Prop} (X : mX G h0 ad p s m args c cX1_rank) (hml : c.maxLocals = 8) (hr : meth.sig.returnType = (some .int)) (hlk : meth.locks = false) (hK51 : ∀ (x2 : Int32) (x3 : Int32) (x4 : Int32) (x5 : Int32) (S : MS) (H : Heap) (locs : List Loc) (ls : Array Slot), K51 x2 x3 x4 x5 S → mH G h0 ad s S H locs → lv_has ls 8 [(0, .ref h0), (2, .int x2), (3, .int x3), (4, .int x4), (5, .int x5)] → W p l e ⟨4, 0, 0, 101⟩ s m args below meth c H locs 0 0 (MQ below (gQ vI post (mBw G h0 ad) (mAd h0 ad)) args s 0 0 (mAd h0 ad)) (F0 m 51 ls [])) : ∀ (n : Nat) (x2 : Int32) (x3 : Int32) (x4 : Int32) (x5 : Int32) (x6 : Int32) (x7 : Int32) (S : MS) (H : Heap) (locs : List Loc) (ls : Array Slot), wX1_rank_63 K51 post n x2 x3 x4 x5 x6 x7 S → mH G h0 ad s S H locs → lv_has ls 8 [(0, .ref h0), (2, .int x2), (3, .int x3), (4, .int x4), (5, .int x5), (6, .int x6), (7, .int x7)] → W p l e ⟨4, 0, 0, 101⟩ s m args below meth c H locs 0 0 (MQ below (gQ vI post (mBw G h0 ad) (mAd h0 ad)) args s 0 0 (mAd h0 ad)) (F0 m 63 ls []) := by
  have hx := X.1
  have hb := X.2.1
  have hown := X.2.2.1
  have hts := X.2.2.2.1
  intro n
  induction n with
  | zero =>
    intro x2 x3 x4 x5 x6 x7 S H locs ls h
    exact False.elim h
  | succ n ih =>
    intro x2 x3 x4 x5 x6 x7 S H locs ls h hw hl
    unfold wX1_rank_63 at h
    refine lv_iload (pc := 63) hx hb dX1_rank_63 (lv_at hl 6 rfl) ?_
    refine lv_iload_n (pc := 65) hx hb dX1_rank_65 rfl (lv_at hl 2 rfl) ?_
    refine lv_icmp_gt (pc := 66) (tgt := 127) hx hb dX1_rank_66 rfl (fun c12 => ?_) (fun c12 => ?_)
    · have h := h.1 c12
      refine lv_iload (pc := 127) hx hb dX1_rank_127 (lv_at hl 5 rfl) ?_
      refine lv_iload (pc := 129) hx hb dX1_rank_129 (lv_at hl 3 rfl) ?_
      refine lv_icmp_ne (pc := 131) (tgt := 137) hx hb dX1_rank_131 rfl (fun c13 => ?_) (fun c13 => ?_)
      · have h := h.2 c13
        refine lv_iinc (pc := 137) (v := x5 + (1 : Int32)) (lv' := [(5, .int (x5 + (1 : Int32))), (0, .ref h0), (2, .int x2), (3, .int x3), (4, .int x4), (6, .int x6), (7, .int x7)]) hx hb dX1_rank_137 hl (k := 4) rfl rfl (by decide) rfl (fun ls hl => ?_)
        refine lv_goto (pc := 140) (tgt := 51) hx hb dX1_rank_140 rfl ?_
        exact hK51 _ _ _ _ _ _ _ _ h hw (lv_sub hl [1, 2, 3, 4, 0] rfl)
      · have h := h.1 c13
        refine lv_iload (pc := 134) hx hb dX1_rank_134 (lv_at hl 4 rfl) ?_
        exact W.iret (pc := 136) hx hb hr (fun t ht hW => m_ret (val := vI) hw h ht) hw.2.2.2 dX1_rank_136 hlk
    · have h := h.2 c12
      refine lv_iload (pc := 69) hx hb dX1_rank_69 (lv_at hl 5 rfl) ?_
      refine lv_aload_n (pc := 71) hx hb dX1_rank_71 rfl (lv_at hl 0 rfl) ?_
      refine lv_iload (pc := 72) hx hb dX1_rank_72 (lv_at hl 6 rfl) ?_
      refine uX1_waysOf (pc := 74) X hml hw h ⟨Nat.le_of_ble_eq_true rfl, Nat.le_of_ble_eq_true rfl⟩ hl.1 (Nat.le_of_ble_eq_true rfl) ⟨Nat.le_refl _, Nat.le_refl _⟩ dX1_rank_74 (fun r14 S15 H locs h hw => ?_)
      refine lv_aload_n (pc := 77) hx hb dX1_rank_77 rfl (lv_at hl 0 rfl) ?_
      refine lv_iload (pc := 78) hx hb dX1_rank_78 (lv_at hl 4 rfl) ?_
      refine uX1_waysOf (pc := 80) X hml hw h ⟨Nat.le_of_ble_eq_true rfl, Nat.le_of_ble_eq_true rfl⟩ hl.1 (Nat.le_of_ble_eq_true rfl) ⟨Nat.le_refl _, Nat.le_refl _⟩ dX1_rank_80 (fun r16 S17 H locs h hw => ?_)
      refine W.lcmp (pc := 83) hx hb dX1_rank_83 ?_
      refine lv_if_gt (pc := 84) (tgt := 110) hx hb dX1_rank_84 rfl (fun c18 => ?_) (fun c18 => ?_)
      · have h := h.1 ((lg_cmp_gt _ _).mp c18)
        exact kX1_rank_110 X hml hr hlk hK51 ih _ _ _ _ _ _ _ _ _ _ h hw (lv_sub hl [0, 1, 2, 3, 4, 6] rfl)
      · have h := h.2 (fun z => c18 ((lg_cmp_gt _ _).mpr z))
        refine lv_aload_n (pc := 87) hx hb dX1_rank_87 rfl (lv_at hl 0 rfl) ?_
        refine lv_iload (pc := 88) hx hb dX1_rank_88 (lv_at hl 6 rfl) ?_
        refine uX1_waysOf (pc := 90) X hml hw h ⟨Nat.le_of_ble_eq_true rfl, Nat.le_of_ble_eq_true rfl⟩ hl.1 (Nat.le_of_ble_eq_true rfl) ⟨Nat.le_refl _, Nat.le_refl _⟩ dX1_rank_90 (fun r20 S21 H locs h hw => ?_)
        refine lv_aload_n (pc := 93) hx hb dX1_rank_93 rfl (lv_at hl 0 rfl) ?_
        refine lv_iload (pc := 94) hx hb dX1_rank_94 (lv_at hl 4 rfl) ?_
        refine uX1_waysOf (pc := 96) X hml hw h ⟨Nat.le_of_ble_eq_true rfl, Nat.le_of_ble_eq_true rfl⟩ hl.1 (Nat.le_of_ble_eq_true rfl) ⟨Nat.le_refl _, Nat.le_refl _⟩ dX1_rank_96 (fun r22 S23 H locs h hw => ?_)
        refine W.lcmp (pc := 99) hx hb dX1_rank_99 ?_
        refine lv_if_ne (pc := 100) (tgt := 114) hx hb dX1_rank_100 rfl (fun c24 => ?_) (fun c24 => ?_)
        · have h := h.2 (fun z => c24 ((lg_cmp_eq _ _).mpr z))
          exact kX1_rank_114 X hml hr hlk hK51 ih _ _ _ _ _ _ _ _ _ _ h hw (lv_sub hl [0, 1, 2, 3, 4, 6] rfl)
        · have h := h.1 ((lg_cmp_eq _ _).mp c24)
          refine lv_iload (pc := 103) hx hb dX1_rank_103 (lv_at hl 6 rfl) ?_
          refine lv_iload (pc := 105) hx hb dX1_rank_105 (lv_at hl 4 rfl) ?_
          refine lv_icmp_ge (pc := 107) (tgt := 114) hx hb dX1_rank_107 rfl (fun c25 => ?_) (fun c25 => ?_)
          · have h := h.1 c25
            exact kX1_rank_114 X hml hr hlk hK51 ih _ _ _ _ _ _ _ _ _ _ h hw (lv_sub hl [0, 1, 2, 3, 4, 6] rfl)
          · have h := h.2 c25
            exact kX1_rank_110 X hml hr hlk hK51 ih _ _ _ _ _ _ _ _ _ _ h hw (lv_sub hl [0, 1, 2, 3, 4, 6] rfl)
theorem kX1_rank_51 {p : Program} {l : Launch} {e : Env} {s : State} {m : MethodId} {args : Array Value} {below : List Frame} {meth : Method} {c : Code} {G : gG} {h0 : Nat} {ad : Nat → Nat} {post : Int32 → MS → Prop} (X : mX G h0 ad p s m args c cX1_rank) (hml : c.maxLocals = 8) (hr : meth.sig.returnType = (some .int)) (hlk : meth.locks = false) : ∀ (n : Nat) (x2 : Int32) (x3 : Int32) (x4 : Int32) (x5 : Int32) (S : MS) (H : Heap) (locs : List Loc) (ls : Array Slot), wX1_rank_51 post n x2 x3 x4 x5 S → mH G h0 ad s S H locs → lv_has ls 8 [(0, .ref h0), (2, .int x2), (3, .int x3), (4, .int x4), (5, .int x5)] → W p l e ⟨4, 0, 0, 101⟩ s m args below meth c H locs 0 0 (MQ below (gQ vI post (mBw G h0 ad) (mAd h0 ad)) args s 0 0 (mAd h0 ad)) (F0 m 51 ls []) := by
  have hx := X.1
  have hb := X.2.1
  have hown := X.2.2.1
  have hts := X.2.2.2.1
  intro n
  induction n with
  | zero =>
    intro x2 x3 x4 x5 S H locs ls h
    exact False.elim h
  | succ n ih =>
    intro x2 x3 x4 x5 S H locs ls h hw hl
    unfold wX1_rank_51 at h
    refine lv_iload (pc := 51) hx hb dX1_rank_51 (lv_at hl 4 rfl) ?_
    refine lv_iload_n (pc := 53) hx hb dX1_rank_53 rfl (lv_at hl 2 rfl) ?_
    refine lv_icmp_gt (pc := 54) (tgt := 143) hx hb dX1_rank_54 rfl (fun c11 => ?_) (fun c11 => ?_)
    · have h := h.1 c11
      refine lv_ldcw (pc := 143) hx hb hown (hts _ q2305) dX1_rank_143 ?_
      exact W.iret (pc := 146) hx hb hr (fun t ht hW => m_ret (val := vI) hw h ht) hw.2.2.2 dX1_rank_146 hlk
    · have h := h.2 c11
      refine lv_iconst (pc := 57) (v := (0 : Int32)) hx hb dX1_rank_57 (by decide) ?_
      refine lv_istore (pc := 58) (lv' := [(6, .int (0 : Int32)), (0, .ref h0), (2, .int x2), (3, .int x3), (4, .int x4), (5, .int x5)]) hx hb dX1_rank_58 hl (by decide) rfl (fun ls hl => ?_)
      refine lv_iload_n (pc := 60) hx hb dX1_rank_60 rfl (lv_at hl 2 rfl) ?_
      refine lv_istore (pc := 61) (lv' := [(7, .int x2), (6, .int (0 : Int32)), (0, .ref h0), (2, .int x2), (3, .int x3), (4, .int x4), (5, .int x5)]) hx hb dX1_rank_61 hl (by decide) rfl (fun ls hl => ?_)
      obtain ⟨k, h⟩ := h
      exact kX1_rank_63 X hml hr hlk ih k _ _ _ _ _ _ _ _ _ _ h hw (lv_sub hl [2, 3, 4, 5, 6, 1, 0] rfl)
theorem tX1_rank {l : Launch} {G : gG} {h0 : Nat} {ad : Nat → Nat} (hd : mOk G h0 ad) {post : Int32 → MS → Prop} {S : MS} {x1 : Int32} {x2 : Int32} {x3 : Int32} {x4 : Int32} (h : wX1_rank post S x1 x2 x3 x4) : Met l yX1_rank (ws_ yX1_rank cX1_rank 8 (some .int)) ⟨4, 0, 0, 101⟩ (va_Pc (.ref h0 :: [.int x1, .int x2, .int x3, .int x4]) (fun U => mBw G h0 ad S U.heap ∧ gK G U)) (gQ vI post (mBw G h0 ad) (mAd h0 ad)) 0 0 (mAd h0 ad) := by
  refine m_ofW (by decide) rfl hd (Nat.le_of_ble_eq_true rfl) (fun p e s m below meth c ls X hml hr hlk hw hl => ?_)
  have hl : lv_has ls 8 [(0, .ref h0), (1, .int x1), (2, .int x2), (3, .int x3), (4, .int x4)] := hl
  have hx := X.1
  have hb := X.2.1
  have hown := X.2.2.1
  have hts := X.2.2.2.1
  unfold wX1_rank at h
  refine lv_aload_n (pc := 0) hx hb dX1_rank_0 rfl (lv_at hl 0 rfl) ?_
  refine lv_iload_n (pc := 1) hx hb dX1_rank_1 rfl (lv_at hl 1 rfl) ?_
  refine uX1_isForm (pc := 2) X hml hw h ⟨Nat.le_of_ble_eq_true rfl, Nat.le_of_ble_eq_true rfl⟩ hl.1 (Nat.le_of_ble_eq_true rfl) ⟨Nat.le_refl _, Nat.le_refl _⟩ dX1_rank_2 (fun r1 S2 H locs h hw => ?_)
  refine lv_if_eq (pc := 5) (tgt := 39) hx hb dX1_rank_5 rfl (fun c3 => ?_) (fun c3 => ?_)
  · have h := h.1 c3
    refine lv_ldcw (pc := 39) hx hb hown (hts _ q2305) dX1_rank_39 ?_
    exact W.iret (pc := 42) hx hb hr (fun t ht hW => m_ret (val := vI) hw h ht) hw.2.2.2 dX1_rank_42 hlk
  · have h := h.2 c3
    refine lv_iload_n (pc := 8) hx hb dX1_rank_8 rfl (lv_at hl 2 rfl) ?_
    refine lv_iload_n (pc := 9) hx hb dX1_rank_9 rfl (lv_at hl 3 rfl) ?_
    refine uX1_isSpan (pc := 10) ⟨hx, hb, hml, hown, hts⟩ h ⟨Nat.le_of_ble_eq_true rfl, Nat.le_of_ble_eq_true rfl⟩ hl.1 (Nat.le_of_ble_eq_true rfl) ⟨Nat.le_refl _, Nat.le_refl _⟩ dX1_rank_10 (fun r4 h => ?_)
    refine lv_if_eq (pc := 13) (tgt := 39) hx hb dX1_rank_13 rfl (fun c5 => ?_) (fun c5 => ?_)
    · have h := h.1 c5
      refine lv_ldcw (pc := 39) hx hb hown (hts _ q2305) dX1_rank_39 ?_
      exact W.iret (pc := 42) hx hb hr (fun t ht hW => m_ret (val := vI) hw h ht) hw.2.2.2 dX1_rank_42 hlk
    · have h := h.2 c5
      refine lv_iload_n (pc := 16) hx hb dX1_rank_16 rfl (lv_at hl 3 rfl) ?_
      refine lv_iload_n (pc := 17) hx hb dX1_rank_17 rfl (lv_at hl 2 rfl) ?_
      refine lv_isub (pc := 18) hx hb dX1_rank_18 ?_
      refine lv_sipush (pc := 19) (v := (200 : Int32)) hx hb dX1_rank_19 (by decide) ?_
      refine lv_icmp_ge (pc := 22) (tgt := 39) hx hb dX1_rank_22 rfl (fun c6 => ?_) (fun c6 => ?_)
      · have h := h.1 c6
        refine lv_ldcw (pc := 39) hx hb hown (hts _ q2305) dX1_rank_39 ?_
        exact W.iret (pc := 42) hx hb hr (fun t ht hW => m_ret (val := vI) hw h ht) hw.2.2.2 dX1_rank_42 hlk
      · have h := h.2 c6
        refine lv_iload (pc := 25) hx hb dX1_rank_25 (lv_at hl 4 rfl) ?_
        refine lv_i2l (pc := 27) hx hb dX1_rank_27 rfl ?_
        refine lv_lconst (pc := 28) (v := (0 : Int64)) hx hb dX1_rank_28 (by decide) ?_
        refine lv_iload_n (pc := 29) hx hb dX1_rank_29 rfl (lv_at hl 3 rfl) ?_
        refine lv_iload_n (pc := 30) hx hb dX1_rank_30 rfl (lv_at hl 2 rfl) ?_
        refine lv_isub (pc := 31) hx hb dX1_rank_31 ?_
        refine lv_i2l (pc := 32) hx hb dX1_rank_32 rfl ?_
        refine uX1_isIn (pc := 33) ⟨hx, hb, hml, hown, hts⟩ h ⟨Nat.le_of_ble_eq_true rfl, Nat.le_of_ble_eq_true rfl⟩ hl.1 (Nat.le_of_ble_eq_true rfl) ⟨Nat.le_refl _, Nat.le_refl _⟩ dX1_rank_33 (fun r7 h => ?_)
        refine lv_if_ne (pc := 36) (tgt := 43) hx hb dX1_rank_36 rfl (fun c8 => ?_) (fun c8 => ?_)
        · have h := h.2 c8
          refine lv_aload_n (pc := 43) hx hb dX1_rank_43 rfl (lv_at hl 0 rfl) ?_
          refine lv_iload_n (pc := 44) hx hb dX1_rank_44 rfl (lv_at hl 1 rfl) ?_
          refine uX1_lays (pc := 45) X hml hw h ⟨Nat.le_of_ble_eq_true rfl, Nat.le_of_ble_eq_true rfl⟩ hl.1 (Nat.le_of_ble_eq_true rfl) ⟨Nat.le_refl _, Nat.le_refl _⟩ dX1_rank_45 (fun _ S10 H locs h hw => ?_)
          refine lv_iload_n (pc := 48) hx hb dX1_rank_48 rfl (lv_at hl 2 rfl) ?_
          refine lv_istore (pc := 49) (lv' := [(5, .int x2), (0, .ref h0), (1, .int x1), (2, .int x2), (3, .int x3), (4, .int x4)]) hx hb dX1_rank_49 hl (by decide) rfl (fun ls hl => ?_)
          obtain ⟨k, h⟩ := h
          exact kX1_rank_51 X hml hr hlk  k _ _ _ _ _ _ _ _ h hw (lv_sub hl [1, 3, 4, 5, 0] rfl)
        · have h := h.1 c8
          refine lv_ldcw (pc := 39) hx hb hown (hts _ q2305) dX1_rank_39 ?_
          exact W.iret (pc := 42) hx hb hr (fun t ht hW => m_ret (val := vI) hw h ht) hw.2.2.2 dX1_rank_42 hlk

def wX1_spell_136 (K17 : Int32 → Int32 → MS → Prop) (post : Int32 → MS → Prop) (x1 : Int32) (x2 : Int32) (S : MS) : Prop :=
  K17 x1 (x2 + (1 : Int32)) S
def wX1_spell_100 (K17 : Int32 → Int32 → MS → Prop) (post : Int32 → MS → Prop) (x1 : Int32) (x2 : Int32) (S : MS) : Prop :=
  wX1_saysWord (fun _ S17 => wX1_of (fun r18 S19 => wX1_saysNumber (fun _ S21 => wX1_saysWord (fun _ S23 => wX1_of (fun r24 S25 => wX1_saysNumber (fun _ S27 => wX1_spell_136 K17 post x1 x2 S27) S25 r24) S23 x1 x2 (3 : Int32)) S21 7) S19 r18) S17 x1 x2 (2 : Int32)) S 6
def wX1_spell_55 (K17 : Int32 → Int32 → MS → Prop) (post : Int32 → MS → Prop) (x1 : Int32) (x2 : Int32) (x3 : Int32) (S : MS) : Prop :=
  wX1_of (fun r9 S10 => wX1_saysKind (fun _ S12 => wX1_of (fun r13 S14 => ((r13 = (0 : Int32)) → (wX1_of (fun r28 S29 => wX1_of (fun r30 S31 => wX1_greatest (fun r32 => ((r28 = r32) → (wX1_spell_136 K17 post x1 x2 S31)) ∧ (¬ (r28 = r32) → (wX1_spell_100 K17 post x1 x2 S31))) x3 r30) S29 x1 x2 (1 : Int32)) S14 x1 x2 (3 : Int32))) ∧ (¬ (r13 = (0 : Int32)) → (wX1_spell_100 K17 post x1 x2 S14))) S12 x1 x2 (2 : Int32)) S10 r9) S x1 x2 (1 : Int32)
def wX1_spell_37 (K17 : Int32 → Int32 → MS → Prop) (post : Int32 → MS → Prop) (x1 : Int32) (x2 : Int32) (S : MS) : Prop :=
  wX1_of (fun r6 S7 => ((r6 = (1 : Int32)) → (wX1_spell_55 K17 post x1 x2 r6 S7)) ∧ (¬ (r6 = (1 : Int32)) → (wX1_saysNumber (fun _ S35 => wX1_spell_55 K17 post x1 x2 r6 S35) S7 r6))) S x1 x2 (0 : Int32)
def wX1_spell_17 (post : Int32 → MS → Prop) : Nat → Int32 → Int32 → MS → Prop
  | 0, _, _, _ => False
  | n + 1, x1, x2, S => vp_in x1 5 ∧ ((((S.2.2.1 0 x1.toNatClampNeg) ≤ x2) → (post (S.1 49) S)) ∧ (¬ ((S.2.2.1 0 x1.toNatClampNeg) ≤ x2) → (((x2 ≤ (0 : Int32)) → (wX1_spell_37 (fun x1 x2 S => wX1_spell_17 post n x1 x2 S) post x1 x2 S)) ∧ (¬ (x2 ≤ (0 : Int32)) → (wX1_says (fun _ S37 => wX1_spell_37 (fun x1 x2 S => wX1_spell_17 post n x1 x2 S) post x1 x2 S37) S (43 : Int32))))))
def wX1_spell (post : Int32 → MS → Prop) (S : MS) (x1 : Int32) : Prop :=
  wX1_isForm (fun r1 S2 => ((r1 = (0 : Int32)) → (post (-1 : Int32) S2)) ∧ (¬ (r1 = (0 : Int32)) → ((∃ k, wX1_spell_17 post k x1 (0 : Int32) (mI S2 49 (0 : Int32)))))) S x1
theorem kX1_spell_136 {p : Program} {l : Launch} {e : Env} {s : State} {m : MethodId} {args : Array Value} {below : List Frame} {meth : Method} {c : Code} {G : gG} {h0 : Nat} {ad : Nat → Nat} {K17 : Int32 → Int32 → MS → Prop} {post : Int32 → MS → Prop} (X : mX G h0 ad p s m args c cX1_spell) (hml : c.maxLocals = 4) (hr : meth.sig.returnType = (some .int)) (hlk : meth.locks = false) (hK17 : ∀ (x1 : Int32) (x2 : Int32) (S : MS) (H : Heap) (locs : List Loc) (ls : Array Slot), K17 x1 x2 S → mH G h0 ad s S H locs → lv_has ls 4 [(0, .ref h0), (1, .int x1), (2, .int x2)] → W p l e ⟨6, 0, 0, 128⟩ s m args below meth c H locs 0 0 (MQ below (gQ vI post (mBw G h0 ad) (mAd h0 ad)) args s 0 0 (mAd h0 ad)) (F0 m 17 ls [])) : ∀ (x1 : Int32) (x2 : Int32) (S : MS) (H : Heap) (locs : List Loc) (ls : Array Slot), wX1_spell_136 K17 post x1 x2 S → mH G h0 ad s S H locs → lv_has ls 4 [(0, .ref h0), (1, .int x1), (2, .int x2)] → W p l e ⟨6, 0, 0, 128⟩ s m args below meth c H locs 0 0 (MQ below (gQ vI post (mBw G h0 ad) (mAd h0 ad)) args s 0 0 (mAd h0 ad)) (F0 m 136 ls []) := by
  have hx := X.1
  have hb := X.2.1
  have hown := X.2.2.1
  have hts := X.2.2.2.1
  intro x1 x2 S H locs ls h hw hl
  unfold wX1_spell_136 at h
  refine lv_iinc (pc := 136) (v := x2 + (1 : Int32)) (lv' := [(2, .int (x2 + (1 : Int32))), (0, .ref h0), (1, .int x1)]) hx hb dX1_spell_136 hl (k := 2) rfl rfl (by decide) rfl (fun ls hl => ?_)
  refine lv_goto (pc := 139) (tgt := 17) hx hb dX1_spell_139 rfl ?_
  exact hK17 _ _ _ _ _ _ h hw (lv_sub hl [1, 2, 0] rfl)
theorem kX1_spell_100 {p : Program} {l : Launch} {e : Env} {s : State} {m : MethodId} {args : Array Value} {below : List Frame} {meth : Method} {c : Code} {G : gG} {h0 : Nat} {ad : Nat → Nat} {K17 : Int32 → Int32 → MS → Prop} {post : Int32 → MS → Prop} (X : mX G h0 ad p s m args c cX1_spell) (hml : c.maxLocals = 4) (hr : meth.sig.returnType = (some .int)) (hlk : meth.locks = false) (hK17 : ∀ (x1 : Int32) (x2 : Int32) (S : MS) (H : Heap) (locs : List Loc) (ls : Array Slot), K17 x1 x2 S → mH G h0 ad s S H locs → lv_has ls 4 [(0, .ref h0), (1, .int x1), (2, .int x2)] → W p l e ⟨6, 0, 0, 128⟩ s m args below meth c H locs 0 0 (MQ below (gQ vI post (mBw G h0 ad) (mAd h0 ad)) args s 0 0 (mAd h0 ad)) (F0 m 17 ls [])) : ∀ (x1 : Int32) (x2 : Int32) (S : MS) (H : Heap) (locs : List Loc) (ls : Array Slot), wX1_spell_100 K17 post x1 x2 S → mH G h0 ad s S H locs → lv_has ls 4 [(0, .ref h0), (1, .int x1), (2, .int x2)] → W p l e ⟨6, 0, 0, 128⟩ s m args below meth c H locs 0 0 (MQ below (gQ vI post (mBw G h0 ad) (mAd h0 ad)) args s 0 0 (mAd h0 ad)) (F0 m 100 ls []) := by
  have hx := X.1
  have hb := X.2.1
  have hown := X.2.2.1
  have hts := X.2.2.2.1
  intro x1 x2 S H locs ls h hw hl
  unfold wX1_spell_100 at h
  refine lv_aload_n (pc := 100) hx hb dX1_spell_100 rfl (lv_at hl 0 rfl) ?_
  refine va_ldcSw (pc := 101) hx hb hown (X.str (r := ("ToldPowersModel", 458, " from ", 6)) (List.mem_of_getElem? (i := 20) rfl)) dX1_spell_101 ?_
  refine uX1_saysWord (pc := 104) X hml hw h ⟨Nat.le_of_ble_eq_true rfl, Nat.le_of_ble_eq_true rfl⟩ hl.1 (Nat.le_of_ble_eq_true rfl) ⟨Nat.le_refl _, Nat.le_refl _⟩ dX1_spell_104 (fun _ S17 H locs h hw => ?_)
  refine lv_aload_n (pc := 107) hx hb dX1_spell_107 rfl (lv_at hl 0 rfl) ?_
  refine lv_aload_n (pc := 108) hx hb dX1_spell_108 rfl (lv_at hl 0 rfl) ?_
  refine lv_iload_n (pc := 109) hx hb dX1_spell_109 rfl (lv_at hl 1 rfl) ?_
  refine lv_iload_n (pc := 110) hx hb dX1_spell_110 rfl (lv_at hl 2 rfl) ?_
  refine lv_iconst (pc := 111) (v := (2 : Int32)) hx hb dX1_spell_111 (by decide) ?_
  refine uX1_of (pc := 112) X hml hw h ⟨Nat.le_of_ble_eq_true rfl, Nat.le_of_ble_eq_true rfl⟩ hl.1 (Nat.le_of_ble_eq_true rfl) ⟨Nat.le_refl _, Nat.le_refl _⟩ dX1_spell_112 (fun r18 S19 H locs h hw => ?_)
  refine uX1_saysNumber (pc := 115) X hml hw h ⟨Nat.le_of_ble_eq_true rfl, Nat.le_of_ble_eq_true rfl⟩ hl.1 (Nat.le_of_ble_eq_true rfl) ⟨Nat.le_refl _, Nat.le_refl _⟩ dX1_spell_115 (fun _ S21 H locs h hw => ?_)
  refine lv_aload_n (pc := 118) hx hb dX1_spell_118 rfl (lv_at hl 0 rfl) ?_
  refine va_ldcSw (pc := 119) hx hb hown (X.str (r := ("ToldPowersModel", 460, " to ", 7)) (List.mem_of_getElem? (i := 21) rfl)) dX1_spell_119 ?_
  refine uX1_saysWord (pc := 122) X hml hw h ⟨Nat.le_of_ble_eq_true rfl, Nat.le_of_ble_eq_true rfl⟩ hl.1 (Nat.le_of_ble_eq_true rfl) ⟨Nat.le_refl _, Nat.le_refl _⟩ dX1_spell_122 (fun _ S23 H locs h hw => ?_)
  refine lv_aload_n (pc := 125) hx hb dX1_spell_125 rfl (lv_at hl 0 rfl) ?_
  refine lv_aload_n (pc := 126) hx hb dX1_spell_126 rfl (lv_at hl 0 rfl) ?_
  refine lv_iload_n (pc := 127) hx hb dX1_spell_127 rfl (lv_at hl 1 rfl) ?_
  refine lv_iload_n (pc := 128) hx hb dX1_spell_128 rfl (lv_at hl 2 rfl) ?_
  refine lv_iconst (pc := 129) (v := (3 : Int32)) hx hb dX1_spell_129 (by decide) ?_
  refine uX1_of (pc := 130) X hml hw h ⟨Nat.le_of_ble_eq_true rfl, Nat.le_of_ble_eq_true rfl⟩ hl.1 (Nat.le_of_ble_eq_true rfl) ⟨Nat.le_refl _, Nat.le_refl _⟩ dX1_spell_130 (fun r24 S25 H locs h hw => ?_)
  refine uX1_saysNumber (pc := 133) X hml hw h ⟨Nat.le_of_ble_eq_true rfl, Nat.le_of_ble_eq_true rfl⟩ hl.1 (Nat.le_of_ble_eq_true rfl) ⟨Nat.le_refl _, Nat.le_refl _⟩ dX1_spell_133 (fun _ S27 H locs h hw => ?_)
  exact kX1_spell_136 X hml hr hlk hK17 _ _ _ _ _ _ h hw (lv_sub hl [0, 1, 2] rfl)
theorem kX1_spell_55 {p : Program} {l : Launch} {e : Env} {s : State} {m : MethodId} {args : Array Value} {below : List Frame} {meth : Method} {c : Code} {G : gG} {h0 : Nat} {ad : Nat → Nat} {K17 : Int32 → Int32 → MS → Prop} {post : Int32 → MS → Prop} (X : mX G h0 ad p s m args c cX1_spell) (hml : c.maxLocals = 4) (hr : meth.sig.returnType = (some .int)) (hlk : meth.locks = false) (hK17 : ∀ (x1 : Int32) (x2 : Int32) (S : MS) (H : Heap) (locs : List Loc) (ls : Array Slot), K17 x1 x2 S → mH G h0 ad s S H locs → lv_has ls 4 [(0, .ref h0), (1, .int x1), (2, .int x2)] → W p l e ⟨6, 0, 0, 128⟩ s m args below meth c H locs 0 0 (MQ below (gQ vI post (mBw G h0 ad) (mAd h0 ad)) args s 0 0 (mAd h0 ad)) (F0 m 17 ls [])) : ∀ (x1 : Int32) (x2 : Int32) (x3 : Int32) (S : MS) (H : Heap) (locs : List Loc) (ls : Array Slot), wX1_spell_55 K17 post x1 x2 x3 S → mH G h0 ad s S H locs → lv_has ls 4 [(0, .ref h0), (1, .int x1), (2, .int x2), (3, .int x3)] → W p l e ⟨6, 0, 0, 128⟩ s m args below meth c H locs 0 0 (MQ below (gQ vI post (mBw G h0 ad) (mAd h0 ad)) args s 0 0 (mAd h0 ad)) (F0 m 55 ls []) := by
  have hx := X.1
  have hb := X.2.1
  have hown := X.2.2.1
  have hts := X.2.2.2.1
  intro x1 x2 x3 S H locs ls h hw hl
  unfold wX1_spell_55 at h
  refine lv_aload_n (pc := 55) hx hb dX1_spell_55 rfl (lv_at hl 0 rfl) ?_
  refine lv_aload_n (pc := 56) hx hb dX1_spell_56 rfl (lv_at hl 0 rfl) ?_
  refine lv_iload_n (pc := 57) hx hb dX1_spell_57 rfl (lv_at hl 1 rfl) ?_
  refine lv_iload_n (pc := 58) hx hb dX1_spell_58 rfl (lv_at hl 2 rfl) ?_
  refine lv_iconst (pc := 59) (v := (1 : Int32)) hx hb dX1_spell_59 (by decide) ?_
  refine uX1_of (pc := 60) X hml hw h ⟨Nat.le_of_ble_eq_true rfl, Nat.le_of_ble_eq_true rfl⟩ hl.1 (Nat.le_of_ble_eq_true rfl) ⟨Nat.le_refl _, Nat.le_refl _⟩ dX1_spell_60 (fun r9 S10 H locs h hw => ?_)
  refine uX1_saysKind (pc := 63) X hml hw h ⟨Nat.le_of_ble_eq_true rfl, Nat.le_of_ble_eq_true rfl⟩ hl.1 (Nat.le_of_ble_eq_true rfl) ⟨Nat.le_refl _, Nat.le_refl _⟩ dX1_spell_63 (fun _ S12 H locs h hw => ?_)
  refine lv_aload_n (pc := 66) hx hb dX1_spell_66 rfl (lv_at hl 0 rfl) ?_
  refine lv_iload_n (pc := 67) hx hb dX1_spell_67 rfl (lv_at hl 1 rfl) ?_
  refine lv_iload_n (pc := 68) hx hb dX1_spell_68 rfl (lv_at hl 2 rfl) ?_
  refine lv_iconst (pc := 69) (v := (2 : Int32)) hx hb dX1_spell_69 (by decide) ?_
  refine uX1_of (pc := 70) X hml hw h ⟨Nat.le_of_ble_eq_true rfl, Nat.le_of_ble_eq_true rfl⟩ hl.1 (Nat.le_of_ble_eq_true rfl) ⟨Nat.le_refl _, Nat.le_refl _⟩ dX1_spell_70 (fun r13 S14 H locs h hw => ?_)
  refine lv_if_ne (pc := 73) (tgt := 100) hx hb dX1_spell_73 rfl (fun c15 => ?_) (fun c15 => ?_)
  · have h := h.2 c15
    exact kX1_spell_100 X hml hr hlk hK17 _ _ _ _ _ _ h hw (lv_sub hl [0, 1, 2] rfl)
  · have h := h.1 c15
    refine lv_aload_n (pc := 76) hx hb dX1_spell_76 rfl (lv_at hl 0 rfl) ?_
    refine lv_iload_n (pc := 77) hx hb dX1_spell_77 rfl (lv_at hl 1 rfl) ?_
    refine lv_iload_n (pc := 78) hx hb dX1_spell_78 rfl (lv_at hl 2 rfl) ?_
    refine lv_iconst (pc := 79) (v := (3 : Int32)) hx hb dX1_spell_79 (by decide) ?_
    refine uX1_of (pc := 80) X hml hw h ⟨Nat.le_of_ble_eq_true rfl, Nat.le_of_ble_eq_true rfl⟩ hl.1 (Nat.le_of_ble_eq_true rfl) ⟨Nat.le_refl _, Nat.le_refl _⟩ dX1_spell_80 (fun r28 S29 H locs h hw => ?_)
    refine lv_iload_n (pc := 83) hx hb dX1_spell_83 rfl (lv_at hl 3 rfl) ?_
    refine lv_aload_n (pc := 84) hx hb dX1_spell_84 rfl (lv_at hl 0 rfl) ?_
    refine lv_iload_n (pc := 85) hx hb dX1_spell_85 rfl (lv_at hl 1 rfl) ?_
    refine lv_iload_n (pc := 86) hx hb dX1_spell_86 rfl (lv_at hl 2 rfl) ?_
    refine lv_iconst (pc := 87) (v := (1 : Int32)) hx hb dX1_spell_87 (by decide) ?_
    refine uX1_of (pc := 88) X hml hw h ⟨Nat.le_of_ble_eq_true rfl, Nat.le_of_ble_eq_true rfl⟩ hl.1 (Nat.le_of_ble_eq_true rfl) ⟨Nat.le_refl _, Nat.le_refl _⟩ dX1_spell_88 (fun r30 S31 H locs h hw => ?_)
    refine uX1_greatest (pc := 91) ⟨hx, hb, hml, hown, hts⟩ h ⟨Nat.le_of_ble_eq_true rfl, Nat.le_of_ble_eq_true rfl⟩ hl.1 (Nat.le_of_ble_eq_true rfl) ⟨Nat.le_refl _, Nat.le_refl _⟩ dX1_spell_91 (fun r32 h => ?_)
    refine lv_icmp_ne (pc := 94) (tgt := 100) hx hb dX1_spell_94 rfl (fun c33 => ?_) (fun c33 => ?_)
    · have h := h.2 c33
      exact kX1_spell_100 X hml hr hlk hK17 _ _ _ _ _ _ h hw (lv_sub hl [0, 1, 2] rfl)
    · have h := h.1 c33
      refine lv_goto (pc := 97) (tgt := 136) hx hb dX1_spell_97 rfl ?_
      exact kX1_spell_136 X hml hr hlk hK17 _ _ _ _ _ _ h hw (lv_sub hl [0, 1, 2] rfl)
theorem kX1_spell_37 {p : Program} {l : Launch} {e : Env} {s : State} {m : MethodId} {args : Array Value} {below : List Frame} {meth : Method} {c : Code} {G : gG} {h0 : Nat} {ad : Nat → Nat} {K17 : Int32 → Int32 → MS → Prop} {post : Int32 → MS → Prop} (X : mX G h0 ad p s m args c cX1_spell) (hml : c.maxLocals = 4) (hr : meth.sig.returnType = (some .int)) (hlk : meth.locks = false) (hK17 : ∀ (x1 : Int32) (x2 : Int32) (S : MS) (H : Heap) (locs : List Loc) (ls : Array Slot), K17 x1 x2 S → mH G h0 ad s S H locs → lv_has ls 4 [(0, .ref h0), (1, .int x1), (2, .int x2)] → W p l e ⟨6, 0, 0, 128⟩ s m args below meth c H locs 0 0 (MQ below (gQ vI post (mBw G h0 ad) (mAd h0 ad)) args s 0 0 (mAd h0 ad)) (F0 m 17 ls [])) : ∀ (x1 : Int32) (x2 : Int32) (S : MS) (H : Heap) (locs : List Loc) (ls : Array Slot), wX1_spell_37 K17 post x1 x2 S → mH G h0 ad s S H locs → lv_has ls 4 [(0, .ref h0), (1, .int x1), (2, .int x2)] → W p l e ⟨6, 0, 0, 128⟩ s m args below meth c H locs 0 0 (MQ below (gQ vI post (mBw G h0 ad) (mAd h0 ad)) args s 0 0 (mAd h0 ad)) (F0 m 37 ls []) := by
  have hx := X.1
  have hb := X.2.1
  have hown := X.2.2.1
  have hts := X.2.2.2.1
  intro x1 x2 S H locs ls h hw hl
  unfold wX1_spell_37 at h
  refine lv_aload_n (pc := 37) hx hb dX1_spell_37 rfl (lv_at hl 0 rfl) ?_
  refine lv_iload_n (pc := 38) hx hb dX1_spell_38 rfl (lv_at hl 1 rfl) ?_
  refine lv_iload_n (pc := 39) hx hb dX1_spell_39 rfl (lv_at hl 2 rfl) ?_
  refine lv_iconst (pc := 40) (v := (0 : Int32)) hx hb dX1_spell_40 (by decide) ?_
  refine uX1_of (pc := 41) X hml hw h ⟨Nat.le_of_ble_eq_true rfl, Nat.le_of_ble_eq_true rfl⟩ hl.1 (Nat.le_of_ble_eq_true rfl) ⟨Nat.le_refl _, Nat.le_refl _⟩ dX1_spell_41 (fun r6 S7 H locs h hw => ?_)
  refine lv_istore_n (pc := 44) (lv' := [(3, .int r6), (0, .ref h0), (1, .int x1), (2, .int x2)]) hx hb dX1_spell_44 rfl hl (by decide) rfl (fun ls hl => ?_)
  refine lv_iload_n (pc := 45) hx hb dX1_spell_45 rfl (lv_at hl 0 rfl) ?_
  refine lv_iconst (pc := 46) (v := (1 : Int32)) hx hb dX1_spell_46 (by decide) ?_
  refine lv_icmp_eq (pc := 47) (tgt := 55) hx hb dX1_spell_47 rfl (fun c8 => ?_) (fun c8 => ?_)
  · have h := h.1 c8
    exact kX1_spell_55 X hml hr hlk hK17 _ _ _ _ _ _ _ h hw (lv_sub hl [1, 2, 3, 0] rfl)
  · have h := h.2 c8
    refine lv_aload_n (pc := 50) hx hb dX1_spell_50 rfl (lv_at hl 1 rfl) ?_
    refine lv_iload_n (pc := 51) hx hb dX1_spell_51 rfl (lv_at hl 0 rfl) ?_
    refine uX1_saysNumber (pc := 52) X hml hw h ⟨Nat.le_of_ble_eq_true rfl, Nat.le_of_ble_eq_true rfl⟩ hl.1 (Nat.le_of_ble_eq_true rfl) ⟨Nat.le_refl _, Nat.le_refl _⟩ dX1_spell_52 (fun _ S35 H locs h hw => ?_)
    exact kX1_spell_55 X hml hr hlk hK17 _ _ _ _ _ _ _ h hw (lv_sub hl [1, 2, 3, 0] rfl)
theorem kX1_spell_17 {p : Program} {l : Launch} {e : Env} {s : State} {m : MethodId} {args : Array Value} {below : List Frame} {meth : Method} {c : Code} {G : gG} {h0 : Nat} {ad : Nat → Nat} {post : Int32 → MS → Prop} (X : mX G h0 ad p s m args c cX1_spell) (hml : c.maxLocals = 4) (hr : meth.sig.returnType = (some .int)) (hlk : meth.locks = false) : ∀ (n : Nat) (x1 : Int32) (x2 : Int32) (S : MS) (H : Heap) (locs : List Loc) (ls : Array Slot), wX1_spell_17 post n x1 x2 S → mH G h0 ad s S H locs → lv_has ls 4 [(0, .ref h0), (1, .int x1), (2, .int x2)] → W p l e ⟨6, 0, 0, 128⟩ s m args below meth c H locs 0 0 (MQ below (gQ vI post (mBw G h0 ad) (mAd h0 ad)) args s 0 0 (mAd h0 ad)) (F0 m 17 ls []) := by
  have hx := X.1
  have hb := X.2.1
  have hown := X.2.2.1
  have hts := X.2.2.2.1
  intro n
  induction n with
  | zero =>
    intro x1 x2 S H locs ls h
    exact False.elim h
  | succ n ih =>
    intro x1 x2 S H locs ls h hw hl
    unfold wX1_spell_17 at h
    refine lv_iload_n (pc := 17) hx hb dX1_spell_17 rfl (lv_at hl 2 rfl) ?_
    refine lv_aload_n (pc := 18) hx hb dX1_spell_18 rfl (lv_at hl 0 rfl) ?_
    refine mg0 (pc := 19) X hw dX1_spell_19 ?_
    refine lv_iload_n (pc := 22) hx hb dX1_spell_22 rfl (lv_at hl 1 rfl) ?_
    obtain ⟨hi, h⟩ := h
    refine ma0 (pc := 23) X hw hi dX1_spell_23 ?_
    refine lv_icmp_ge (pc := 24) (tgt := 142) hx hb dX1_spell_24 rfl (fun c4 => ?_) (fun c4 => ?_)
    · have h := h.1 c4
      refine lv_aload_n (pc := 142) hx hb dX1_spell_142 rfl (lv_at hl 0 rfl) ?_
      refine mg49 (pc := 143) X hw dX1_spell_143 ?_
      exact W.iret (pc := 146) hx hb hr (fun t ht hW => m_ret (val := vI) hw h ht) hw.2.2.2 dX1_spell_146 hlk
    · have h := h.2 c4
      refine lv_iload_n (pc := 27) hx hb dX1_spell_27 rfl (lv_at hl 2 rfl) ?_
      refine lv_if_le (pc := 28) (tgt := 37) hx hb dX1_spell_28 rfl (fun c5 => ?_) (fun c5 => ?_)
      · have h := h.1 c5
        exact kX1_spell_37 X hml hr hlk ih _ _ _ _ _ _ h hw (lv_sub hl [0, 1, 2] rfl)
      · have h := h.2 c5
        refine lv_aload_n (pc := 31) hx hb dX1_spell_31 rfl (lv_at hl 0 rfl) ?_
        refine lv_bipush (pc := 32) (v := (43 : Int32)) hx hb dX1_spell_32 (by decide) ?_
        refine uX1_says (pc := 34) X hml hw h ⟨Nat.le_of_ble_eq_true rfl, Nat.le_of_ble_eq_true rfl⟩ hl.1 (Nat.le_of_ble_eq_true rfl) ⟨Nat.le_refl _, Nat.le_refl _⟩ dX1_spell_34 (fun _ S37 H locs h hw => ?_)
        exact kX1_spell_37 X hml hr hlk ih _ _ _ _ _ _ h hw (lv_sub hl [0, 1, 2] rfl)
theorem tX1_spell {l : Launch} {G : gG} {h0 : Nat} {ad : Nat → Nat} (hd : mOk G h0 ad) {post : Int32 → MS → Prop} {S : MS} {x1 : Int32} (h : wX1_spell post S x1) : Met l yX1_spell (ws_ yX1_spell cX1_spell 4 (some .int)) ⟨6, 0, 0, 128⟩ (va_Pc (.ref h0 :: [.int x1]) (fun U => mBw G h0 ad S U.heap ∧ gK G U)) (gQ vI post (mBw G h0 ad) (mAd h0 ad)) 0 0 (mAd h0 ad) := by
  refine m_ofW (by decide) rfl hd (Nat.le_of_ble_eq_true rfl) (fun p e s m below meth c ls X hml hr hlk hw hl => ?_)
  have hl : lv_has ls 4 [(0, .ref h0), (1, .int x1)] := hl
  have hx := X.1
  have hb := X.2.1
  have hown := X.2.2.1
  have hts := X.2.2.2.1
  unfold wX1_spell at h
  refine lv_aload_n (pc := 0) hx hb dX1_spell_0 rfl (lv_at hl 0 rfl) ?_
  refine lv_iload_n (pc := 1) hx hb dX1_spell_1 rfl (lv_at hl 1 rfl) ?_
  refine uX1_isForm (pc := 2) X hml hw h ⟨Nat.le_of_ble_eq_true rfl, Nat.le_of_ble_eq_true rfl⟩ hl.1 (Nat.le_of_ble_eq_true rfl) ⟨Nat.le_refl _, Nat.le_refl _⟩ dX1_spell_2 (fun r1 S2 H locs h hw => ?_)
  refine lv_if_ne (pc := 5) (tgt := 10) hx hb dX1_spell_5 rfl (fun c3 => ?_) (fun c3 => ?_)
  · have h := h.2 c3
    refine lv_aload_n (pc := 10) hx hb dX1_spell_10 rfl (lv_at hl 0 rfl) ?_
    refine lv_iconst (pc := 11) (v := (0 : Int32)) hx hb dX1_spell_11 (by decide) ?_
    refine mp49 (pc := 12) X hw dX1_spell_12 (fun H locs hw => ?_)
    refine lv_iconst (pc := 15) (v := (0 : Int32)) hx hb dX1_spell_15 (by decide) ?_
    refine lv_istore_n (pc := 16) (lv' := [(2, .int (0 : Int32)), (0, .ref h0), (1, .int x1)]) hx hb dX1_spell_16 rfl hl (by decide) rfl (fun ls hl => ?_)
    obtain ⟨k, h⟩ := h
    exact kX1_spell_17 X hml hr hlk  k _ _ _ _ _ _ h hw (lv_sub hl [1, 2, 0] rfl)
  · have h := h.1 c3
    refine lv_iconst (pc := 8) (v := (-1 : Int32)) hx hb dX1_spell_8 (by decide) ?_
    exact W.iret (pc := 9) hx hb hr (fun t ht hW => m_ret (val := vI) hw h ht) hw.2.2.2 dX1_spell_9 hlk

def wX1_write_114 (K34 : Int32 → Int32 → Int32 → MS → Prop) (post : Int32 → MS → Prop) (x1 : Int32) (x3 : Int32) (x4 : Int32) (S : MS) : Prop :=
  wX1_says (fun _ S16 => K34 x1 x3 (x4 + (1 : Int32)) S16) S (59 : Int32)
def wX1_write_84 (K34 : Int32 → Int32 → Int32 → MS → Prop) (K60 : Int32 → Int32 → Int32 → Int32 → MS → Prop) (post : Int32 → MS → Prop) (x1 : Int32) (x3 : Int32) (x4 : Int32) (x5 : Int32) (v0 : Int32) (S : MS) : Prop :=
  wX1_says (fun _ S20 => vp_in x5 5 ∧ (wX1_saysNumber (fun _ S22 => K60 x1 x3 x4 (x5 + (1 : Int32)) S22) S20 (S20.2.2.1 30 x5.toNatClampNeg))) S v0
def wX1_write_60 (K34 : Int32 → Int32 → Int32 → MS → Prop) (post : Int32 → MS → Prop) : Nat → Int32 → Int32 → Int32 → Int32 → MS → Prop
  | 0, _, _, _, _, _ => False
  | n + 1, x1, x3, x4, x5, S => vp_in x1 5 ∧ ((((S.2.2.1 0 x1.toNatClampNeg) ≤ x5) → (wX1_write_114 K34 post x1 x3 x4 S)) ∧ (¬ ((S.2.2.1 0 x1.toNatClampNeg) ≤ x5) → (((x5 = (0 : Int32)) → (wX1_write_84 K34 (fun x1 x3 x4 x5 S => wX1_write_60 K34 post n x1 x3 x4 x5 S) post x1 x3 x4 x5 (61 : Int32) S)) ∧ (¬ (x5 = (0 : Int32)) → (wX1_write_84 K34 (fun x1 x3 x4 x5 S => wX1_write_60 K34 post n x1 x3 x4 x5 S) post x1 x3 x4 x5 (44 : Int32) S)))))
def wX1_write_34 (post : Int32 → MS → Prop) : Nat → Int32 → Int32 → Int32 → MS → Prop
  | 0, _, _, _, _ => False
  | n + 1, x1, x3, x4, S => ((x3 < x4) → (post (S.1 49) S)) ∧ (¬ (x3 < x4) → (wX1_saysNumber (fun _ S9 => wX1_finds (fun r10 S11 => ((r10 = (0 : Int32)) → (wX1_saysWord (fun _ S14 => wX1_write_114 (fun x1 x3 x4 S => wX1_write_34 post n x1 x3 x4 S) post x1 x3 x4 S14) S11 8)) ∧ (¬ (r10 = (0 : Int32)) → ((∃ k, wX1_write_60 (fun x1 x3 x4 S => wX1_write_34 post n x1 x3 x4 S) post k x1 x3 x4 (0 : Int32) S11)))) S9 x1 x4 (0 : Int64)) S x4))
def wX1_write (post : Int32 → MS → Prop) (S : MS) (x1 : Int32) (x2 : Int32) (x3 : Int32) : Prop :=
  wX1_isForm (fun r1 S2 => ((r1 = (0 : Int32)) → (post (-1 : Int32) S2)) ∧ (¬ (r1 = (0 : Int32)) → (wX1_isSpan (fun r4 => ((r4 = (0 : Int32)) → (post (-1 : Int32) S2)) ∧ (¬ (r4 = (0 : Int32)) → ((((x3 - x2) < (60 : Int32)) → ((∃ k, wX1_write_34 post k x1 x3 x2 (mI S2 49 (0 : Int32))))) ∧ (¬ ((x3 - x2) < (60 : Int32)) → (post (-1 : Int32) S2))))) x2 x3))) S x1
theorem kX1_write_114 {p : Program} {l : Launch} {e : Env} {s : State} {m : MethodId} {args : Array Value} {below : List Frame} {meth : Method} {c : Code} {G : gG} {h0 : Nat} {ad : Nat → Nat} {K34 : Int32 → Int32 → Int32 → MS → Prop} {post : Int32 → MS → Prop} (X : mX G h0 ad p s m args c cX1_write) (hml : c.maxLocals = 6) (hr : meth.sig.returnType = (some .int)) (hlk : meth.locks = false) (hK34 : ∀ (x1 : Int32) (x3 : Int32) (x4 : Int32) (S : MS) (H : Heap) (locs : List Loc) (ls : Array Slot), K34 x1 x3 x4 S → mH G h0 ad s S H locs → lv_has ls 6 [(0, .ref h0), (1, .int x1), (3, .int x3), (4, .int x4)] → W p l e ⟨5, 0, 0, 131⟩ s m args below meth c H locs 0 0 (MQ below (gQ vI post (mBw G h0 ad) (mAd h0 ad)) args s 0 0 (mAd h0 ad)) (F0 m 34 ls [])) : ∀ (x1 : Int32) (x3 : Int32) (x4 : Int32) (S : MS) (H : Heap) (locs : List Loc) (ls : Array Slot), wX1_write_114 K34 post x1 x3 x4 S → mH G h0 ad s S H locs → lv_has ls 6 [(0, .ref h0), (1, .int x1), (3, .int x3), (4, .int x4)] → W p l e ⟨5, 0, 0, 131⟩ s m args below meth c H locs 0 0 (MQ below (gQ vI post (mBw G h0 ad) (mAd h0 ad)) args s 0 0 (mAd h0 ad)) (F0 m 114 ls []) := by
  have hx := X.1
  have hb := X.2.1
  have hown := X.2.2.1
  have hts := X.2.2.2.1
  intro x1 x3 x4 S H locs ls h hw hl
  unfold wX1_write_114 at h
  refine lv_aload_n (pc := 114) hx hb dX1_write_114 rfl (lv_at hl 0 rfl) ?_
  refine lv_bipush (pc := 115) (v := (59 : Int32)) hx hb dX1_write_115 (by decide) ?_
  refine uX1_says (pc := 117) X hml hw h ⟨Nat.le_of_ble_eq_true rfl, Nat.le_of_ble_eq_true rfl⟩ hl.1 (Nat.le_of_ble_eq_true rfl) ⟨Nat.le_refl _, Nat.le_refl _⟩ dX1_write_117 (fun _ S16 H locs h hw => ?_)
  refine lv_iinc (pc := 120) (v := x4 + (1 : Int32)) (lv' := [(4, .int (x4 + (1 : Int32))), (0, .ref h0), (1, .int x1), (3, .int x3)]) hx hb dX1_write_120 hl (k := 3) rfl rfl (by decide) rfl (fun ls hl => ?_)
  refine lv_goto (pc := 123) (tgt := 34) hx hb dX1_write_123 rfl ?_
  exact hK34 _ _ _ _ _ _ _ h hw (lv_sub hl [1, 2, 3, 0] rfl)
theorem kX1_write_84 {p : Program} {l : Launch} {e : Env} {s : State} {m : MethodId} {args : Array Value} {below : List Frame} {meth : Method} {c : Code} {G : gG} {h0 : Nat} {ad : Nat → Nat} {K34 : Int32 → Int32 → Int32 → MS → Prop} {K60 : Int32 → Int32 → Int32 → Int32 → MS → Prop} {post : Int32 → MS → Prop} (X : mX G h0 ad p s m args c cX1_write) (hml : c.maxLocals = 6) (hr : meth.sig.returnType = (some .int)) (hlk : meth.locks = false) (hK34 : ∀ (x1 : Int32) (x3 : Int32) (x4 : Int32) (S : MS) (H : Heap) (locs : List Loc) (ls : Array Slot), K34 x1 x3 x4 S → mH G h0 ad s S H locs → lv_has ls 6 [(0, .ref h0), (1, .int x1), (3, .int x3), (4, .int x4)] → W p l e ⟨5, 0, 0, 131⟩ s m args below meth c H locs 0 0 (MQ below (gQ vI post (mBw G h0 ad) (mAd h0 ad)) args s 0 0 (mAd h0 ad)) (F0 m 34 ls [])) (hK60 : ∀ (x1 : Int32) (x3 : Int32) (x4 : Int32) (x5 : Int32) (S : MS) (H : Heap) (locs : List Loc) (ls : Array Slot), K60 x1 x3 x4 x5 S → mH G h0 ad s S H locs → lv_has ls 6 [(0, .ref h0), (1, .int x1), (3, .int x3), (4, .int x4), (5, .int x5)] → W p l e ⟨5, 0, 0, 131⟩ s m args below meth c H locs 0 0 (MQ below (gQ vI post (mBw G h0 ad) (mAd h0 ad)) args s 0 0 (mAd h0 ad)) (F0 m 60 ls [])) : ∀ (x1 : Int32) (x3 : Int32) (x4 : Int32) (x5 : Int32) (v0 : Int32) (S : MS) (H : Heap) (locs : List Loc) (ls : Array Slot), wX1_write_84 K34 K60 post x1 x3 x4 x5 v0 S → mH G h0 ad s S H locs → lv_has ls 6 [(0, .ref h0), (1, .int x1), (3, .int x3), (4, .int x4), (5, .int x5)] → W p l e ⟨5, 0, 0, 131⟩ s m args below meth c H locs 0 0 (MQ below (gQ vI post (mBw G h0 ad) (mAd h0 ad)) args s 0 0 (mAd h0 ad)) (F0 m 84 ls [.int v0, .ref h0]) := by
  have hx := X.1
  have hb := X.2.1
  have hown := X.2.2.1
  have hts := X.2.2.2.1
  intro x1 x3 x4 x5 v0 S H locs ls h hw hl
  unfold wX1_write_84 at h
  refine uX1_says (pc := 84) X hml hw h ⟨Nat.le_of_ble_eq_true rfl, Nat.le_of_ble_eq_true rfl⟩ hl.1 (Nat.le_of_ble_eq_true rfl) ⟨Nat.le_refl _, Nat.le_refl _⟩ dX1_write_84 (fun _ S20 H locs h hw => ?_)
  refine lv_aload_n (pc := 87) hx hb dX1_write_87 rfl (lv_at hl 0 rfl) ?_
  refine lv_aload_n (pc := 88) hx hb dX1_write_88 rfl (lv_at hl 0 rfl) ?_
  refine mg30 (pc := 89) X hw dX1_write_89 ?_
  refine lv_iload (pc := 92) hx hb dX1_write_92 (lv_at hl 4 rfl) ?_
  obtain ⟨hi, h⟩ := h
  refine ma30 (pc := 94) X hw hi dX1_write_94 ?_
  refine uX1_saysNumber (pc := 95) X hml hw h ⟨Nat.le_of_ble_eq_true rfl, Nat.le_of_ble_eq_true rfl⟩ hl.1 (Nat.le_of_ble_eq_true rfl) ⟨Nat.le_refl _, Nat.le_refl _⟩ dX1_write_95 (fun _ S22 H locs h hw => ?_)
  refine lv_iinc (pc := 98) (v := x5 + (1 : Int32)) (lv' := [(5, .int (x5 + (1 : Int32))), (0, .ref h0), (1, .int x1), (3, .int x3), (4, .int x4)]) hx hb dX1_write_98 hl (k := 4) rfl rfl (by decide) rfl (fun ls hl => ?_)
  refine lv_goto (pc := 101) (tgt := 60) hx hb dX1_write_101 rfl ?_
  exact hK60 _ _ _ _ _ _ _ _ h hw (lv_sub hl [1, 2, 3, 4, 0] rfl)
theorem kX1_write_60 {p : Program} {l : Launch} {e : Env} {s : State} {m : MethodId} {args : Array Value} {below : List Frame} {meth : Method} {c : Code} {G : gG} {h0 : Nat} {ad : Nat → Nat} {K34 : Int32 → Int32 → Int32 → MS → Prop} {post : Int32 → MS → Prop} (X : mX G h0 ad p s m args c cX1_write) (hml : c.maxLocals = 6) (hr : meth.sig.returnType = (some .int)) (hlk : meth.locks = false) (hK34 : ∀ (x1 : Int32) (x3 : Int32) (x4 : Int32) (S : MS) (H : Heap) (locs : List Loc) (ls : Array Slot), K34 x1 x3 x4 S → mH G h0 ad s S H locs → lv_has ls 6 [(0, .ref h0), (1, .int x1), (3, .int x3), (4, .int x4)] → W p l e ⟨5, 0, 0, 131⟩ s m args below meth c H locs 0 0 (MQ below (gQ vI post (mBw G h0 ad) (mAd h0 ad)) args s 0 0 (mAd h0 ad)) (F0 m 34 ls [])) : ∀ (n : Nat) (x1 : Int32) (x3 : Int32) (x4 : Int32) (x5 : Int32) (S : MS) (H : Heap) (locs : List Loc) (ls : Array Slot), wX1_write_60 K34 post n x1 x3 x4 x5 S → mH G h0 ad s S H locs → lv_has ls 6 [(0, .ref h0), (1, .int x1), (3, .int x3), (4, .int x4), (5, .int x5)] → W p l e ⟨5, 0, 0, 131⟩ s m args below meth c H locs 0 0 (MQ below (gQ vI post (mBw G h0 ad) (mAd h0 ad)) args s 0 0 (mAd h0 ad)) (F0 m 60 ls []) := by
  have hx := X.1
  have hb := X.2.1
  have hown := X.2.2.1
  have hts := X.2.2.2.1
  intro n
  induction n with
  | zero =>
    intro x1 x3 x4 x5 S H locs ls h
    exact False.elim h
  | succ n ih =>
    intro x1 x3 x4 x5 S H locs ls h hw hl
    unfold wX1_write_60 at h
    refine lv_iload (pc := 60) hx hb dX1_write_60 (lv_at hl 4 rfl) ?_
    refine lv_aload_n (pc := 62) hx hb dX1_write_62 rfl (lv_at hl 0 rfl) ?_
    refine mg0 (pc := 63) X hw dX1_write_63 ?_
    refine lv_iload_n (pc := 66) hx hb dX1_write_66 rfl (lv_at hl 1 rfl) ?_
    obtain ⟨hi, h⟩ := h
    refine ma0 (pc := 67) X hw hi dX1_write_67 ?_
    refine lv_icmp_ge (pc := 68) (tgt := 104) hx hb dX1_write_68 rfl (fun c17 => ?_) (fun c17 => ?_)
    · have h := h.1 c17
      refine lv_goto (pc := 104) (tgt := 114) hx hb dX1_write_104 rfl ?_
      exact kX1_write_114 X hml hr hlk hK34 _ _ _ _ _ _ _ h hw (lv_sub hl [0, 1, 2, 3] rfl)
    · have h := h.2 c17
      refine lv_aload_n (pc := 71) hx hb dX1_write_71 rfl (lv_at hl 0 rfl) ?_
      refine lv_iload (pc := 72) hx hb dX1_write_72 (lv_at hl 4 rfl) ?_
      refine lv_if_ne (pc := 74) (tgt := 82) hx hb dX1_write_74 rfl (fun c18 => ?_) (fun c18 => ?_)
      · have h := h.2 c18
        refine lv_bipush (pc := 82) (v := (44 : Int32)) hx hb dX1_write_82 (by decide) ?_
        exact kX1_write_84 X hml hr hlk hK34 ih _ _ _ _ _ _ _ _ _ h hw (lv_sub hl [0, 1, 2, 3, 4] rfl)
      · have h := h.1 c18
        refine lv_bipush (pc := 77) (v := (61 : Int32)) hx hb dX1_write_77 (by decide) ?_
        refine lv_goto (pc := 79) (tgt := 84) hx hb dX1_write_79 rfl ?_
        exact kX1_write_84 X hml hr hlk hK34 ih _ _ _ _ _ _ _ _ _ h hw (lv_sub hl [0, 1, 2, 3, 4] rfl)
theorem kX1_write_34 {p : Program} {l : Launch} {e : Env} {s : State} {m : MethodId} {args : Array Value} {below : List Frame} {meth : Method} {c : Code} {G : gG} {h0 : Nat} {ad : Nat → Nat} {post : Int32 → MS → Prop} (X : mX G h0 ad p s m args c cX1_write) (hml : c.maxLocals = 6) (hr : meth.sig.returnType = (some .int)) (hlk : meth.locks = false) : ∀ (n : Nat) (x1 : Int32) (x3 : Int32) (x4 : Int32) (S : MS) (H : Heap) (locs : List Loc) (ls : Array Slot), wX1_write_34 post n x1 x3 x4 S → mH G h0 ad s S H locs → lv_has ls 6 [(0, .ref h0), (1, .int x1), (3, .int x3), (4, .int x4)] → W p l e ⟨5, 0, 0, 131⟩ s m args below meth c H locs 0 0 (MQ below (gQ vI post (mBw G h0 ad) (mAd h0 ad)) args s 0 0 (mAd h0 ad)) (F0 m 34 ls []) := by
  have hx := X.1
  have hb := X.2.1
  have hown := X.2.2.1
  have hts := X.2.2.2.1
  intro n
  induction n with
  | zero =>
    intro x1 x3 x4 S H locs ls h
    exact False.elim h
  | succ n ih =>
    intro x1 x3 x4 S H locs ls h hw hl
    unfold wX1_write_34 at h
    refine lv_iload (pc := 34) hx hb dX1_write_34 (lv_at hl 3 rfl) ?_
    refine lv_iload_n (pc := 36) hx hb dX1_write_36 rfl (lv_at hl 2 rfl) ?_
    refine lv_icmp_gt (pc := 37) (tgt := 126) hx hb dX1_write_37 rfl (fun c7 => ?_) (fun c7 => ?_)
    · have h := h.1 c7
      refine lv_aload_n (pc := 126) hx hb dX1_write_126 rfl (lv_at hl 0 rfl) ?_
      refine mg49 (pc := 127) X hw dX1_write_127 ?_
      exact W.iret (pc := 130) hx hb hr (fun t ht hW => m_ret (val := vI) hw h ht) hw.2.2.2 dX1_write_130 hlk
    · have h := h.2 c7
      refine lv_aload_n (pc := 40) hx hb dX1_write_40 rfl (lv_at hl 0 rfl) ?_
      refine lv_iload (pc := 41) hx hb dX1_write_41 (lv_at hl 3 rfl) ?_
      refine uX1_saysNumber (pc := 43) X hml hw h ⟨Nat.le_of_ble_eq_true rfl, Nat.le_of_ble_eq_true rfl⟩ hl.1 (Nat.le_of_ble_eq_true rfl) ⟨Nat.le_refl _, Nat.le_refl _⟩ dX1_write_43 (fun _ S9 H locs h hw => ?_)
      refine lv_aload_n (pc := 46) hx hb dX1_write_46 rfl (lv_at hl 0 rfl) ?_
      refine lv_iload_n (pc := 47) hx hb dX1_write_47 rfl (lv_at hl 1 rfl) ?_
      refine lv_iload (pc := 48) hx hb dX1_write_48 (lv_at hl 3 rfl) ?_
      refine lv_lconst (pc := 50) (v := (0 : Int64)) hx hb dX1_write_50 (by decide) ?_
      refine uX1_finds (pc := 51) X hml hw h ⟨Nat.le_of_ble_eq_true rfl, Nat.le_of_ble_eq_true rfl⟩ hl.1 (Nat.le_of_ble_eq_true rfl) ⟨Nat.le_refl _, Nat.le_refl _⟩ dX1_write_51 (fun r10 S11 H locs h hw => ?_)
      refine lv_if_eq (pc := 54) (tgt := 107) hx hb dX1_write_54 rfl (fun c12 => ?_) (fun c12 => ?_)
      · have h := h.1 c12
        refine lv_aload_n (pc := 107) hx hb dX1_write_107 rfl (lv_at hl 0 rfl) ?_
        refine va_ldcSw (pc := 108) hx hb hown (X.str (r := ("ToldPowersModel", 462, " not", 8)) (List.mem_of_getElem? (i := 22) rfl)) dX1_write_108 ?_
        refine uX1_saysWord (pc := 111) X hml hw h ⟨Nat.le_of_ble_eq_true rfl, Nat.le_of_ble_eq_true rfl⟩ hl.1 (Nat.le_of_ble_eq_true rfl) ⟨Nat.le_refl _, Nat.le_refl _⟩ dX1_write_111 (fun _ S14 H locs h hw => ?_)
        exact kX1_write_114 X hml hr hlk ih _ _ _ _ _ _ _ h hw (lv_sub hl [0, 1, 2, 3] rfl)
      · have h := h.2 c12
        refine lv_iconst (pc := 57) (v := (0 : Int32)) hx hb dX1_write_57 (by decide) ?_
        refine lv_istore (pc := 58) (lv' := [(5, .int (0 : Int32)), (0, .ref h0), (1, .int x1), (3, .int x3), (4, .int x4)]) hx hb dX1_write_58 hl (by decide) rfl (fun ls hl => ?_)
        obtain ⟨k, h⟩ := h
        exact kX1_write_60 X hml hr hlk ih k _ _ _ _ _ _ _ _ h hw (lv_sub hl [1, 2, 3, 4, 0] rfl)
theorem tX1_write {l : Launch} {G : gG} {h0 : Nat} {ad : Nat → Nat} (hd : mOk G h0 ad) {post : Int32 → MS → Prop} {S : MS} {x1 : Int32} {x2 : Int32} {x3 : Int32} (h : wX1_write post S x1 x2 x3) : Met l yX1_write (ws_ yX1_write cX1_write 6 (some .int)) ⟨5, 0, 0, 131⟩ (va_Pc (.ref h0 :: [.int x1, .int x2, .int x3]) (fun U => mBw G h0 ad S U.heap ∧ gK G U)) (gQ vI post (mBw G h0 ad) (mAd h0 ad)) 0 0 (mAd h0 ad) := by
  refine m_ofW (by decide) rfl hd (Nat.le_of_ble_eq_true rfl) (fun p e s m below meth c ls X hml hr hlk hw hl => ?_)
  have hl : lv_has ls 6 [(0, .ref h0), (1, .int x1), (2, .int x2), (3, .int x3)] := hl
  have hx := X.1
  have hb := X.2.1
  have hown := X.2.2.1
  have hts := X.2.2.2.1
  unfold wX1_write at h
  refine lv_aload_n (pc := 0) hx hb dX1_write_0 rfl (lv_at hl 0 rfl) ?_
  refine lv_iload_n (pc := 1) hx hb dX1_write_1 rfl (lv_at hl 1 rfl) ?_
  refine uX1_isForm (pc := 2) X hml hw h ⟨Nat.le_of_ble_eq_true rfl, Nat.le_of_ble_eq_true rfl⟩ hl.1 (Nat.le_of_ble_eq_true rfl) ⟨Nat.le_refl _, Nat.le_refl _⟩ dX1_write_2 (fun r1 S2 H locs h hw => ?_)
  refine lv_if_eq (pc := 5) (tgt := 24) hx hb dX1_write_5 rfl (fun c3 => ?_) (fun c3 => ?_)
  · have h := h.1 c3
    refine lv_iconst (pc := 24) (v := (-1 : Int32)) hx hb dX1_write_24 (by decide) ?_
    exact W.iret (pc := 25) hx hb hr (fun t ht hW => m_ret (val := vI) hw h ht) hw.2.2.2 dX1_write_25 hlk
  · have h := h.2 c3
    refine lv_iload_n (pc := 8) hx hb dX1_write_8 rfl (lv_at hl 2 rfl) ?_
    refine lv_iload_n (pc := 9) hx hb dX1_write_9 rfl (lv_at hl 3 rfl) ?_
    refine uX1_isSpan (pc := 10) ⟨hx, hb, hml, hown, hts⟩ h ⟨Nat.le_of_ble_eq_true rfl, Nat.le_of_ble_eq_true rfl⟩ hl.1 (Nat.le_of_ble_eq_true rfl) ⟨Nat.le_refl _, Nat.le_refl _⟩ dX1_write_10 (fun r4 h => ?_)
    refine lv_if_eq (pc := 13) (tgt := 24) hx hb dX1_write_13 rfl (fun c5 => ?_) (fun c5 => ?_)
    · have h := h.1 c5
      refine lv_iconst (pc := 24) (v := (-1 : Int32)) hx hb dX1_write_24 (by decide) ?_
      exact W.iret (pc := 25) hx hb hr (fun t ht hW => m_ret (val := vI) hw h ht) hw.2.2.2 dX1_write_25 hlk
    · have h := h.2 c5
      refine lv_iload_n (pc := 16) hx hb dX1_write_16 rfl (lv_at hl 3 rfl) ?_
      refine lv_iload_n (pc := 17) hx hb dX1_write_17 rfl (lv_at hl 2 rfl) ?_
      refine lv_isub (pc := 18) hx hb dX1_write_18 ?_
      refine lv_bipush (pc := 19) (v := (60 : Int32)) hx hb dX1_write_19 (by decide) ?_
      refine lv_icmp_lt (pc := 21) (tgt := 26) hx hb dX1_write_21 rfl (fun c6 => ?_) (fun c6 => ?_)
      · have h := h.1 c6
        refine lv_aload_n (pc := 26) hx hb dX1_write_26 rfl (lv_at hl 0 rfl) ?_
        refine lv_iconst (pc := 27) (v := (0 : Int32)) hx hb dX1_write_27 (by decide) ?_
        refine mp49 (pc := 28) X hw dX1_write_28 (fun H locs hw => ?_)
        refine lv_iload_n (pc := 31) hx hb dX1_write_31 rfl (lv_at hl 2 rfl) ?_
        refine lv_istore (pc := 32) (lv' := [(4, .int x2), (0, .ref h0), (1, .int x1), (2, .int x2), (3, .int x3)]) hx hb dX1_write_32 hl (by decide) rfl (fun ls hl => ?_)
        obtain ⟨k, h⟩ := h
        exact kX1_write_34 X hml hr hlk  k _ _ _ _ _ _ _ h hw (lv_sub hl [1, 2, 4, 0] rfl)
      · have h := h.2 c6
        refine lv_iconst (pc := 24) (v := (-1 : Int32)) hx hb dX1_write_24 (by decide) ?_
        exact W.iret (pc := 25) hx hb hr (fun t ht hW => m_ret (val := vI) hw h ht) hw.2.2.2 dX1_write_25 hlk

def wX1_readTerm_322 (post : Int32 → MS → Prop) (S : MS) : Prop :=
  vp_in (4 : Int32) 5 ∧ (vp_in (4 : Int32) 5 ∧ (post (1 : Int32) (mA S 0 (upd (S.2.2.1 0) (4 : Int32).toNatClampNeg ((S.2.2.1 0 (4 : Int32).toNatClampNeg) + (1 : Int32))))))
def wX1_readTerm_300 (post : Int32 → MS → Prop) (S : MS) : Prop :=
  wX1_fails (fun r45 S46 => isB r45 ∧ post r45 S46) S (3 : Int32)
def wX1_readTerm_117 (post : Int32 → MS → Prop) (x1 : Int32) (x3 : Int32) (S : MS) : Prop :=
  wX1_kindHere (fun r10 S11 => ((r10 = (-1 : Int32)) → (wX1_fails (fun r61 S62 => isB r61 ∧ post r61 S62) S11 (1 : Int32))) ∧ (¬ (r10 = (-1 : Int32)) → (vp_in (x3 + (1 : Int32)) 100 ∧ (vp_in (x3 + (2 : Int32)) 100 ∧ (vp_in (x3 + (0 : Int32)) 100 ∧ (wX1_greatest (fun r13 => vp_in (x3 + (3 : Int32)) 100 ∧ (wX1_next (fun _ S15 => wX1_isWord (fun r16 S17 => ((r16 = (0 : Int32)) → (wX1_readTerm_322 post S17)) ∧ (¬ (r16 = (0 : Int32)) → (wX1_next (fun _ S20 => wX1_comesToWhole (fun r21 S22 => ((r21 = (0 : Int32)) → (post (0 : Int32) S22)) ∧ (¬ (r21 = (0 : Int32)) → (wX1_whole (fun r24 S25 => wX1_valueOf (fun r26 S27 => wX1_isSmall (fun r28 => ((r28 = (0 : Int32)) → (wX1_fails (fun r59 S60 => isB r59 ∧ post r59 S60) S27 (3 : Int32))) ∧ (¬ (r28 = (0 : Int32)) → (wX1_whole (fun r30 S31 => vp_in (x3 + (2 : Int32)) 100 ∧ (wX1_next (fun _ S33 => wX1_isWord (fun r34 S35 => ((r34 = (0 : Int32)) → (wX1_fails (fun r57 S58 => isB r57 ∧ post r57 S58) S35 (1 : Int32))) ∧ (¬ (r34 = (0 : Int32)) → (wX1_next (fun _ S38 => wX1_comesToWhole (fun r39 S40 => ((r39 = (0 : Int32)) → (post (0 : Int32) S40)) ∧ (¬ (r39 = (0 : Int32)) → (wX1_whole (fun r42 S43 => vp_in (x3 + (2 : Int32)) 100 ∧ (((r42 < (S43.2.2.1 1 (x3 + (2 : Int32)).toNatClampNeg)) → (wX1_readTerm_300 post S43)) ∧ (¬ (r42 < (S43.2.2.1 1 (x3 + (2 : Int32)).toNatClampNeg)) → (wX1_whole (fun r47 S48 => wX1_valueOf (fun r49 S50 => wX1_isSmall (fun r51 => ((r51 = (0 : Int32)) → (wX1_readTerm_300 post S50)) ∧ (¬ (r51 = (0 : Int32)) → (wX1_whole (fun r53 S54 => vp_in (x3 + (3 : Int32)) 100 ∧ (wX1_next (fun _ S56 => wX1_readTerm_322 post S56) (mA S54 1 (upd (S54.2.2.1 1) (x3 + (3 : Int32)).toNatClampNeg r53)))) S50))) r49) S48 (4 : Int32) x1 r47.toInt64) S43)))) S40))) S38) S35))) S33 10) (mA S31 1 (upd (S31.2.2.1 1) (x3 + (2 : Int32)).toNatClampNeg r30)))) S27))) r26) S25 (4 : Int32) x1 r24.toInt64) S22))) S20) S17))) S15 9) (mA (mA (mA S11 1 (upd (S11.2.2.1 1) (x3 + (1 : Int32)).toNatClampNeg r10)) 1 (upd (upd (S11.2.2.1 1) (x3 + (1 : Int32)).toNatClampNeg r10) (x3 + (2 : Int32)).toNatClampNeg (0 : Int32))) 1 (upd (upd (upd (S11.2.2.1 1) (x3 + (1 : Int32)).toNatClampNeg r10) (x3 + (2 : Int32)).toNatClampNeg (0 : Int32)) (x3 + (3 : Int32)).toNatClampNeg r13)))) ((upd (upd (S11.2.2.1 1) (x3 + (1 : Int32)).toNatClampNeg r10) (x3 + (2 : Int32)).toNatClampNeg (0 : Int32)) (x3 + (0 : Int32)).toNatClampNeg) r10)))))) S
def wX1_readTerm_66 (post : Int32 → MS → Prop) (x1 : Int32) (S : MS) : Prop :=
  ((x1 = (5 : Int32)) → (wX1_fails (fun r65 S66 => isB r65 ∧ post r65 S66) S (4 : Int32))) ∧ (¬ (x1 = (5 : Int32)) → (vp_in (((4 : Int32) * ((20 : Int32) + x1)) + (0 : Int32)) 100 ∧ ((((S.1 12) = (2 : Int32)) → (vp_in (((4 : Int32) * ((20 : Int32) + x1)) + (0 : Int32)) 100 ∧ (wX1_next (fun _ S64 => wX1_readTerm_117 post x1 ((4 : Int32) * ((20 : Int32) + x1)) S64) (mA (mA S 1 (upd (S.2.2.1 1) (((4 : Int32) * ((20 : Int32) + x1)) + (0 : Int32)).toNatClampNeg (1 : Int32))) 1 (upd (upd (S.2.2.1 1) (((4 : Int32) * ((20 : Int32) + x1)) + (0 : Int32)).toNatClampNeg (1 : Int32)) (((4 : Int32) * ((20 : Int32) + x1)) + (0 : Int32)).toNatClampNeg (S.1 16)))))) ∧ (¬ ((S.1 12) = (2 : Int32)) → (wX1_readTerm_117 post x1 ((4 : Int32) * ((20 : Int32) + x1)) (mA S 1 (upd (S.2.2.1 1) (((4 : Int32) * ((20 : Int32) + x1)) + (0 : Int32)).toNatClampNeg (1 : Int32))))))))
def wX1_readTerm_27 (post : Int32 → MS → Prop) (x1 : Int32) (v0 : Int32) (S : MS) : Prop :=
  ((v0 = (0 : Int32)) → (wX1_fails (fun r71 S72 => isB r71 ∧ post r71 S72) S (1 : Int32))) ∧ (¬ (v0 = (0 : Int32)) → (wX1_isNumber (fun r5 S6 => ((r5 = (0 : Int32)) → (wX1_readTerm_66 post x1 S6)) ∧ (¬ (r5 = (0 : Int32)) → (wX1_isIn (fun r67 => ((r67 = (0 : Int32)) → (wX1_fails (fun r69 S70 => isB r69 ∧ post r69 S70) S6 (2 : Int32))) ∧ (¬ (r67 = (0 : Int32)) → (wX1_readTerm_66 post x1 S6))) ((S6.1 16).toInt64) (1 : Int64) (99 : Int64)))) S))
def wX1_readTerm_22 (post : Int32 → MS → Prop) (x1 : Int32) (S : MS) : Prop :=
  wX1_readTerm_27 post x1 (1 : Int32) S
def wX1_readTerm (post : Int32 → MS → Prop) (S : MS) : Prop :=
  vp_in (4 : Int32) 5 ∧ (wX1_isNumber (fun r1 S2 => ((r1 = (0 : Int32)) → (wX1_kindHere (fun r73 S74 => ((r73 = (-1 : Int32)) → (wX1_readTerm_27 post (S.2.2.1 0 (4 : Int32).toNatClampNeg) (0 : Int32) S74)) ∧ (¬ (r73 = (-1 : Int32)) → (wX1_readTerm_22 post (S.2.2.1 0 (4 : Int32).toNatClampNeg) S74))) S2)) ∧ (¬ (r1 = (0 : Int32)) → (wX1_readTerm_22 post (S.2.2.1 0 (4 : Int32).toNatClampNeg) S2))) S)
theorem kX1_readTerm_322 {p : Program} {l : Launch} {e : Env} {s : State} {m : MethodId} {args : Array Value} {below : List Frame} {meth : Method} {c : Code} {G : gG} {h0 : Nat} {ad : Nat → Nat} {post : Int32 → MS → Prop} (X : mX G h0 ad p s m args c cX1_readTerm) (hml : c.maxLocals = 5) (hr : meth.sig.returnType = (some .boolean)) (hlk : meth.locks = false) : ∀ (S : MS) (H : Heap) (locs : List Loc) (ls : Array Slot), wX1_readTerm_322 post S → mH G h0 ad s S H locs → lv_has ls 5 [(0, .ref h0)] → W p l e ⟨7, 0, 0, 149⟩ s m args below meth c H locs 0 0 (MQ below (gQ vI post (mBw G h0 ad) (mAd h0 ad)) args s 0 0 (mAd h0 ad)) (F0 m 322 ls []) := by
  have hx := X.1
  have hb := X.2.1
  have hown := X.2.2.1
  have hts := X.2.2.2.1
  intro S H locs ls h hw hl
  unfold wX1_readTerm_322 at h
  refine lv_aload_n (pc := 322) hx hb dX1_readTerm_322 rfl (lv_at hl 0 rfl) ?_
  refine mg0 (pc := 323) X hw dX1_readTerm_323 ?_
  refine lv_iconst (pc := 326) (v := (4 : Int32)) hx hb dX1_readTerm_326 (by decide) ?_
  refine lv_dup2_11 (pc := 327) hx hb dX1_readTerm_327 rfl rfl ?_
  obtain ⟨hi, h⟩ := h
  refine ma0 (pc := 328) X hw hi dX1_readTerm_328 ?_
  refine lv_iconst (pc := 329) (v := (1 : Int32)) hx hb dX1_readTerm_329 (by decide) ?_
  refine lv_iadd (pc := 330) hx hb dX1_readTerm_330 ?_
  obtain ⟨hi, h⟩ := h
  refine ms0 (pc := 331) X hw hi dX1_readTerm_331 (fun H locs hw => ?_)
  refine lv_iconst (pc := 332) (v := (1 : Int32)) hx hb dX1_readTerm_332 (by decide) ?_
  exact W.zret (pc := 333) hx hb hr rfl (fun t ht hW => m_ret (val := vI) hw h ht) hw.2.2.2 dX1_readTerm_333 hlk
theorem kX1_readTerm_300 {p : Program} {l : Launch} {e : Env} {s : State} {m : MethodId} {args : Array Value} {below : List Frame} {meth : Method} {c : Code} {G : gG} {h0 : Nat} {ad : Nat → Nat} {post : Int32 → MS → Prop} (X : mX G h0 ad p s m args c cX1_readTerm) (hml : c.maxLocals = 5) (hr : meth.sig.returnType = (some .boolean)) (hlk : meth.locks = false) : ∀ (S : MS) (H : Heap) (locs : List Loc) (ls : Array Slot), wX1_readTerm_300 post S → mH G h0 ad s S H locs → lv_has ls 5 [(0, .ref h0)] → W p l e ⟨7, 0, 0, 149⟩ s m args below meth c H locs 0 0 (MQ below (gQ vI post (mBw G h0 ad) (mAd h0 ad)) args s 0 0 (mAd h0 ad)) (F0 m 300 ls []) := by
  have hx := X.1
  have hb := X.2.1
  have hown := X.2.2.1
  have hts := X.2.2.2.1
  intro S H locs ls h hw hl
  unfold wX1_readTerm_300 at h
  refine lv_aload_n (pc := 300) hx hb dX1_readTerm_300 rfl (lv_at hl 0 rfl) ?_
  refine lv_iconst (pc := 301) (v := (3 : Int32)) hx hb dX1_readTerm_301 (by decide) ?_
  refine uX1_fails (pc := 302) X hml hw h ⟨Nat.le_of_ble_eq_true rfl, Nat.le_of_ble_eq_true rfl⟩ hl.1 (Nat.le_of_ble_eq_true rfl) ⟨Nat.le_refl _, Nat.le_refl _⟩ dX1_readTerm_302 (fun r45 S46 H locs h hw => ?_)
  obtain ⟨hB, h⟩ := h
  exact W.zret (pc := 305) hx hb hr (isB_n hB) (fun t ht hW => m_ret (val := vI) hw h ht) hw.2.2.2 dX1_readTerm_305 hlk
theorem kX1_readTerm_117 {p : Program} {l : Launch} {e : Env} {s : State} {m : MethodId} {args : Array Value} {below : List Frame} {meth : Method} {c : Code} {G : gG} {h0 : Nat} {ad : Nat → Nat} {post : Int32 → MS → Prop} (X : mX G h0 ad p s m args c cX1_readTerm) (hml : c.maxLocals = 5) (hr : meth.sig.returnType = (some .boolean)) (hlk : meth.locks = false) : ∀ (x1 : Int32) (x3 : Int32) (S : MS) (H : Heap) (locs : List Loc) (ls : Array Slot), wX1_readTerm_117 post x1 x3 S → mH G h0 ad s S H locs → lv_has ls 5 [(0, .ref h0), (1, .int x1), (3, .int x3)] → W p l e ⟨7, 0, 0, 149⟩ s m args below meth c H locs 0 0 (MQ below (gQ vI post (mBw G h0 ad) (mAd h0 ad)) args s 0 0 (mAd h0 ad)) (F0 m 117 ls []) := by
  have hx := X.1
  have hb := X.2.1
  have hown := X.2.2.1
  have hts := X.2.2.2.1
  intro x1 x3 S H locs ls h hw hl
  unfold wX1_readTerm_117 at h
  refine lv_aload_n (pc := 117) hx hb dX1_readTerm_117 rfl (lv_at hl 0 rfl) ?_
  refine uX1_kindHere (pc := 118) X hml hw h ⟨Nat.le_of_ble_eq_true rfl, Nat.le_of_ble_eq_true rfl⟩ hl.1 (Nat.le_of_ble_eq_true rfl) ⟨Nat.le_refl _, Nat.le_refl _⟩ dX1_readTerm_118 (fun r10 S11 H locs h hw => ?_)
  refine lv_istore (pc := 121) (lv' := [(4, .int r10), (0, .ref h0), (1, .int x1), (3, .int x3)]) hx hb dX1_readTerm_121 hl (by decide) rfl (fun ls hl => ?_)
  refine lv_iload (pc := 123) hx hb dX1_readTerm_123 (lv_at hl 0 rfl) ?_
  refine lv_iconst (pc := 125) (v := (-1 : Int32)) hx hb dX1_readTerm_125 (by decide) ?_
  refine lv_icmp_ne (pc := 126) (tgt := 135) hx hb dX1_readTerm_126 rfl (fun c12 => ?_) (fun c12 => ?_)
  · have h := h.2 c12
    refine lv_aload_n (pc := 135) hx hb dX1_readTerm_135 rfl (lv_at hl 1 rfl) ?_
    refine mg1 (pc := 136) X hw dX1_readTerm_136 ?_
    refine lv_iload_n (pc := 139) hx hb dX1_readTerm_139 rfl (lv_at hl 3 rfl) ?_
    refine lv_iconst (pc := 140) (v := (1 : Int32)) hx hb dX1_readTerm_140 (by decide) ?_
    refine lv_iadd (pc := 141) hx hb dX1_readTerm_141 ?_
    refine lv_iload (pc := 142) hx hb dX1_readTerm_142 (lv_at hl 0 rfl) ?_
    obtain ⟨hi, h⟩ := h
    refine ms1 (pc := 144) X hw hi dX1_readTerm_144 (fun H locs hw => ?_)
    refine lv_aload_n (pc := 145) hx hb dX1_readTerm_145 rfl (lv_at hl 1 rfl) ?_
    refine mg1 (pc := 146) X hw dX1_readTerm_146 ?_
    refine lv_iload_n (pc := 149) hx hb dX1_readTerm_149 rfl (lv_at hl 3 rfl) ?_
    refine lv_iconst (pc := 150) (v := (2 : Int32)) hx hb dX1_readTerm_150 (by decide) ?_
    refine lv_iadd (pc := 151) hx hb dX1_readTerm_151 ?_
    refine lv_iconst (pc := 152) (v := (0 : Int32)) hx hb dX1_readTerm_152 (by decide) ?_
    obtain ⟨hi, h⟩ := h
    refine ms1 (pc := 153) X hw hi dX1_readTerm_153 (fun H locs hw => ?_)
    refine lv_aload_n (pc := 154) hx hb dX1_readTerm_154 rfl (lv_at hl 1 rfl) ?_
    refine mg1 (pc := 155) X hw dX1_readTerm_155 ?_
    refine lv_iload_n (pc := 158) hx hb dX1_readTerm_158 rfl (lv_at hl 3 rfl) ?_
    refine lv_iconst (pc := 159) (v := (3 : Int32)) hx hb dX1_readTerm_159 (by decide) ?_
    refine lv_iadd (pc := 160) hx hb dX1_readTerm_160 ?_
    refine lv_aload_n (pc := 161) hx hb dX1_readTerm_161 rfl (lv_at hl 1 rfl) ?_
    refine mg1 (pc := 162) X hw dX1_readTerm_162 ?_
    refine lv_iload_n (pc := 165) hx hb dX1_readTerm_165 rfl (lv_at hl 3 rfl) ?_
    refine lv_iconst (pc := 166) (v := (0 : Int32)) hx hb dX1_readTerm_166 (by decide) ?_
    refine lv_iadd (pc := 167) hx hb dX1_readTerm_167 ?_
    obtain ⟨hi, h⟩ := h
    refine ma1 (pc := 168) X hw hi dX1_readTerm_168 ?_
    refine lv_iload (pc := 169) hx hb dX1_readTerm_169 (lv_at hl 0 rfl) ?_
    refine uX1_greatest (pc := 171) ⟨hx, hb, hml, hown, hts⟩ h ⟨Nat.le_of_ble_eq_true rfl, Nat.le_of_ble_eq_true rfl⟩ hl.1 (Nat.le_of_ble_eq_true rfl) ⟨Nat.le_refl _, Nat.le_refl _⟩ dX1_readTerm_171 (fun r13 h => ?_)
    obtain ⟨hi, h⟩ := h
    refine ms1 (pc := 174) X hw hi dX1_readTerm_174 (fun H locs hw => ?_)
    refine lv_aload_n (pc := 175) hx hb dX1_readTerm_175 rfl (lv_at hl 1 rfl) ?_
    refine uX1_next (pc := 176) X hml hw h ⟨Nat.le_of_ble_eq_true rfl, Nat.le_of_ble_eq_true rfl⟩ hl.1 (Nat.le_of_ble_eq_true rfl) ⟨Nat.le_refl _, Nat.le_refl _⟩ dX1_readTerm_176 (fun _ S15 H locs h hw => ?_)
    refine lv_aload_n (pc := 179) hx hb dX1_readTerm_179 rfl (lv_at hl 1 rfl) ?_
    refine va_ldcS (pc := 180) hx hb hown (X.str (r := ("ToldPowersModel", 227, "from", 9)) (List.mem_of_getElem? (i := 17) rfl)) dX1_readTerm_180 ?_
    refine uX1_isWord (pc := 182) X hml hw h ⟨Nat.le_of_ble_eq_true rfl, Nat.le_of_ble_eq_true rfl⟩ hl.1 (Nat.le_of_ble_eq_true rfl) ⟨Nat.le_refl _, Nat.le_refl _⟩ dX1_readTerm_182 (fun r16 S17 H locs h hw => ?_)
    refine lv_if_eq (pc := 185) (tgt := 322) hx hb dX1_readTerm_185 rfl (fun c18 => ?_) (fun c18 => ?_)
    · have h := h.1 c18
      exact kX1_readTerm_322 X hml hr hlk   _ _ _ _ h hw (lv_sub hl [1] rfl)
    · have h := h.2 c18
      refine lv_aload_n (pc := 188) hx hb dX1_readTerm_188 rfl (lv_at hl 1 rfl) ?_
      refine uX1_next (pc := 189) X hml hw h ⟨Nat.le_of_ble_eq_true rfl, Nat.le_of_ble_eq_true rfl⟩ hl.1 (Nat.le_of_ble_eq_true rfl) ⟨Nat.le_refl _, Nat.le_refl _⟩ dX1_readTerm_189 (fun _ S20 H locs h hw => ?_)
      refine lv_aload_n (pc := 192) hx hb dX1_readTerm_192 rfl (lv_at hl 1 rfl) ?_
      refine uX1_comesToWhole (pc := 193) X hml hw h ⟨Nat.le_of_ble_eq_true rfl, Nat.le_of_ble_eq_true rfl⟩ hl.1 (Nat.le_of_ble_eq_true rfl) ⟨Nat.le_refl _, Nat.le_refl _⟩ dX1_readTerm_193 (fun r21 S22 H locs h hw => ?_)
      refine lv_if_ne (pc := 196) (tgt := 201) hx hb dX1_readTerm_196 rfl (fun c23 => ?_) (fun c23 => ?_)
      · have h := h.2 c23
        refine lv_aload_n (pc := 201) hx hb dX1_readTerm_201 rfl (lv_at hl 1 rfl) ?_
        refine lv_iconst (pc := 202) (v := (4 : Int32)) hx hb dX1_readTerm_202 (by decide) ?_
        refine lv_iload_n (pc := 203) hx hb dX1_readTerm_203 rfl (lv_at hl 2 rfl) ?_
        refine lv_aload_n (pc := 204) hx hb dX1_readTerm_204 rfl (lv_at hl 1 rfl) ?_
        refine uX1_whole (pc := 205) X hml hw h ⟨Nat.le_of_ble_eq_true rfl, Nat.le_of_ble_eq_true rfl⟩ hl.1 (Nat.le_of_ble_eq_true rfl) ⟨Nat.le_refl _, Nat.le_refl _⟩ dX1_readTerm_205 (fun r24 S25 H locs h hw => ?_)
        refine lv_i2l (pc := 208) hx hb dX1_readTerm_208 rfl ?_
        refine uX1_valueOf (pc := 209) X hml hw h ⟨Nat.le_of_ble_eq_true rfl, Nat.le_of_ble_eq_true rfl⟩ hl.1 (Nat.le_of_ble_eq_true rfl) ⟨Nat.le_refl _, Nat.le_refl _⟩ dX1_readTerm_209 (fun r26 S27 H locs h hw => ?_)
        refine uX1_isSmall (pc := 212) ⟨hx, hb, hml, hown, hts⟩ h ⟨Nat.le_of_ble_eq_true rfl, Nat.le_of_ble_eq_true rfl⟩ hl.1 (Nat.le_of_ble_eq_true rfl) ⟨Nat.le_refl _, Nat.le_refl _⟩ dX1_readTerm_212 (fun r28 h => ?_)
        refine lv_if_ne (pc := 215) (tgt := 224) hx hb dX1_readTerm_215 rfl (fun c29 => ?_) (fun c29 => ?_)
        · have h := h.2 c29
          refine lv_aload_n (pc := 224) hx hb dX1_readTerm_224 rfl (lv_at hl 1 rfl) ?_
          refine mg1 (pc := 225) X hw dX1_readTerm_225 ?_
          refine lv_iload_n (pc := 228) hx hb dX1_readTerm_228 rfl (lv_at hl 3 rfl) ?_
          refine lv_iconst (pc := 229) (v := (2 : Int32)) hx hb dX1_readTerm_229 (by decide) ?_
          refine lv_iadd (pc := 230) hx hb dX1_readTerm_230 ?_
          refine lv_aload_n (pc := 231) hx hb dX1_readTerm_231 rfl (lv_at hl 1 rfl) ?_
          refine uX1_whole (pc := 232) X hml hw h ⟨Nat.le_of_ble_eq_true rfl, Nat.le_of_ble_eq_true rfl⟩ hl.1 (Nat.le_of_ble_eq_true rfl) ⟨Nat.le_refl _, Nat.le_refl _⟩ dX1_readTerm_232 (fun r30 S31 H locs h hw => ?_)
          obtain ⟨hi, h⟩ := h
          refine ms1 (pc := 235) X hw hi dX1_readTerm_235 (fun H locs hw => ?_)
          refine lv_aload_n (pc := 236) hx hb dX1_readTerm_236 rfl (lv_at hl 1 rfl) ?_
          refine uX1_next (pc := 237) X hml hw h ⟨Nat.le_of_ble_eq_true rfl, Nat.le_of_ble_eq_true rfl⟩ hl.1 (Nat.le_of_ble_eq_true rfl) ⟨Nat.le_refl _, Nat.le_refl _⟩ dX1_readTerm_237 (fun _ S33 H locs h hw => ?_)
          refine lv_aload_n (pc := 240) hx hb dX1_readTerm_240 rfl (lv_at hl 1 rfl) ?_
          refine va_ldcS (pc := 241) hx hb hown (X.str (r := ("ToldPowersModel", 242, "to", 10)) (List.mem_of_getElem? (i := 18) rfl)) dX1_readTerm_241 ?_
          refine uX1_isWord (pc := 243) X hml hw h ⟨Nat.le_of_ble_eq_true rfl, Nat.le_of_ble_eq_true rfl⟩ hl.1 (Nat.le_of_ble_eq_true rfl) ⟨Nat.le_refl _, Nat.le_refl _⟩ dX1_readTerm_243 (fun r34 S35 H locs h hw => ?_)
          refine lv_if_ne (pc := 246) (tgt := 255) hx hb dX1_readTerm_246 rfl (fun c36 => ?_) (fun c36 => ?_)
          · have h := h.2 c36
            refine lv_aload_n (pc := 255) hx hb dX1_readTerm_255 rfl (lv_at hl 1 rfl) ?_
            refine uX1_next (pc := 256) X hml hw h ⟨Nat.le_of_ble_eq_true rfl, Nat.le_of_ble_eq_true rfl⟩ hl.1 (Nat.le_of_ble_eq_true rfl) ⟨Nat.le_refl _, Nat.le_refl _⟩ dX1_readTerm_256 (fun _ S38 H locs h hw => ?_)
            refine lv_aload_n (pc := 259) hx hb dX1_readTerm_259 rfl (lv_at hl 1 rfl) ?_
            refine uX1_comesToWhole (pc := 260) X hml hw h ⟨Nat.le_of_ble_eq_true rfl, Nat.le_of_ble_eq_true rfl⟩ hl.1 (Nat.le_of_ble_eq_true rfl) ⟨Nat.le_refl _, Nat.le_refl _⟩ dX1_readTerm_260 (fun r39 S40 H locs h hw => ?_)
            refine lv_if_ne (pc := 263) (tgt := 268) hx hb dX1_readTerm_263 rfl (fun c41 => ?_) (fun c41 => ?_)
            · have h := h.2 c41
              refine lv_aload_n (pc := 268) hx hb dX1_readTerm_268 rfl (lv_at hl 1 rfl) ?_
              refine uX1_whole (pc := 269) X hml hw h ⟨Nat.le_of_ble_eq_true rfl, Nat.le_of_ble_eq_true rfl⟩ hl.1 (Nat.le_of_ble_eq_true rfl) ⟨Nat.le_refl _, Nat.le_refl _⟩ dX1_readTerm_269 (fun r42 S43 H locs h hw => ?_)
              refine lv_aload_n (pc := 272) hx hb dX1_readTerm_272 rfl (lv_at hl 1 rfl) ?_
              refine mg1 (pc := 273) X hw dX1_readTerm_273 ?_
              refine lv_iload_n (pc := 276) hx hb dX1_readTerm_276 rfl (lv_at hl 3 rfl) ?_
              refine lv_iconst (pc := 277) (v := (2 : Int32)) hx hb dX1_readTerm_277 (by decide) ?_
              refine lv_iadd (pc := 278) hx hb dX1_readTerm_278 ?_
              obtain ⟨hi, h⟩ := h
              refine ma1 (pc := 279) X hw hi dX1_readTerm_279 ?_
              refine lv_icmp_lt (pc := 280) (tgt := 300) hx hb dX1_readTerm_280 rfl (fun c44 => ?_) (fun c44 => ?_)
              · have h := h.1 c44
                exact kX1_readTerm_300 X hml hr hlk   _ _ _ _ h hw (lv_sub hl [1] rfl)
              · have h := h.2 c44
                refine lv_aload_n (pc := 283) hx hb dX1_readTerm_283 rfl (lv_at hl 1 rfl) ?_
                refine lv_iconst (pc := 284) (v := (4 : Int32)) hx hb dX1_readTerm_284 (by decide) ?_
                refine lv_iload_n (pc := 285) hx hb dX1_readTerm_285 rfl (lv_at hl 2 rfl) ?_
                refine lv_aload_n (pc := 286) hx hb dX1_readTerm_286 rfl (lv_at hl 1 rfl) ?_
                refine uX1_whole (pc := 287) X hml hw h ⟨Nat.le_of_ble_eq_true rfl, Nat.le_of_ble_eq_true rfl⟩ hl.1 (Nat.le_of_ble_eq_true rfl) ⟨Nat.le_refl _, Nat.le_refl _⟩ dX1_readTerm_287 (fun r47 S48 H locs h hw => ?_)
                refine lv_i2l (pc := 290) hx hb dX1_readTerm_290 rfl ?_
                refine uX1_valueOf (pc := 291) X hml hw h ⟨Nat.le_of_ble_eq_true rfl, Nat.le_of_ble_eq_true rfl⟩ hl.1 (Nat.le_of_ble_eq_true rfl) ⟨Nat.le_refl _, Nat.le_refl _⟩ dX1_readTerm_291 (fun r49 S50 H locs h hw => ?_)
                refine uX1_isSmall (pc := 294) ⟨hx, hb, hml, hown, hts⟩ h ⟨Nat.le_of_ble_eq_true rfl, Nat.le_of_ble_eq_true rfl⟩ hl.1 (Nat.le_of_ble_eq_true rfl) ⟨Nat.le_refl _, Nat.le_refl _⟩ dX1_readTerm_294 (fun r51 h => ?_)
                refine lv_if_ne (pc := 297) (tgt := 306) hx hb dX1_readTerm_297 rfl (fun c52 => ?_) (fun c52 => ?_)
                · have h := h.2 c52
                  refine lv_aload_n (pc := 306) hx hb dX1_readTerm_306 rfl (lv_at hl 1 rfl) ?_
                  refine mg1 (pc := 307) X hw dX1_readTerm_307 ?_
                  refine lv_iload_n (pc := 310) hx hb dX1_readTerm_310 rfl (lv_at hl 3 rfl) ?_
                  refine lv_iconst (pc := 311) (v := (3 : Int32)) hx hb dX1_readTerm_311 (by decide) ?_
                  refine lv_iadd (pc := 312) hx hb dX1_readTerm_312 ?_
                  refine lv_aload_n (pc := 313) hx hb dX1_readTerm_313 rfl (lv_at hl 1 rfl) ?_
                  refine uX1_whole (pc := 314) X hml hw h ⟨Nat.le_of_ble_eq_true rfl, Nat.le_of_ble_eq_true rfl⟩ hl.1 (Nat.le_of_ble_eq_true rfl) ⟨Nat.le_refl _, Nat.le_refl _⟩ dX1_readTerm_314 (fun r53 S54 H locs h hw => ?_)
                  obtain ⟨hi, h⟩ := h
                  refine ms1 (pc := 317) X hw hi dX1_readTerm_317 (fun H locs hw => ?_)
                  refine lv_aload_n (pc := 318) hx hb dX1_readTerm_318 rfl (lv_at hl 1 rfl) ?_
                  refine uX1_next (pc := 319) X hml hw h ⟨Nat.le_of_ble_eq_true rfl, Nat.le_of_ble_eq_true rfl⟩ hl.1 (Nat.le_of_ble_eq_true rfl) ⟨Nat.le_refl _, Nat.le_refl _⟩ dX1_readTerm_319 (fun _ S56 H locs h hw => ?_)
                  exact kX1_readTerm_322 X hml hr hlk   _ _ _ _ h hw (lv_sub hl [1] rfl)
                · have h := h.1 c52
                  exact kX1_readTerm_300 X hml hr hlk   _ _ _ _ h hw (lv_sub hl [1] rfl)
            · have h := h.1 c41
              refine lv_iconst (pc := 266) (v := (0 : Int32)) hx hb dX1_readTerm_266 (by decide) ?_
              exact W.zret (pc := 267) hx hb hr rfl (fun t ht hW => m_ret (val := vI) hw h ht) hw.2.2.2 dX1_readTerm_267 hlk
          · have h := h.1 c36
            refine lv_aload_n (pc := 249) hx hb dX1_readTerm_249 rfl (lv_at hl 1 rfl) ?_
            refine lv_iconst (pc := 250) (v := (1 : Int32)) hx hb dX1_readTerm_250 (by decide) ?_
            refine uX1_fails (pc := 251) X hml hw h ⟨Nat.le_of_ble_eq_true rfl, Nat.le_of_ble_eq_true rfl⟩ hl.1 (Nat.le_of_ble_eq_true rfl) ⟨Nat.le_refl _, Nat.le_refl _⟩ dX1_readTerm_251 (fun r57 S58 H locs h hw => ?_)
            obtain ⟨hB, h⟩ := h
            exact W.zret (pc := 254) hx hb hr (isB_n hB) (fun t ht hW => m_ret (val := vI) hw h ht) hw.2.2.2 dX1_readTerm_254 hlk
        · have h := h.1 c29
          refine lv_aload_n (pc := 218) hx hb dX1_readTerm_218 rfl (lv_at hl 1 rfl) ?_
          refine lv_iconst (pc := 219) (v := (3 : Int32)) hx hb dX1_readTerm_219 (by decide) ?_
          refine uX1_fails (pc := 220) X hml hw h ⟨Nat.le_of_ble_eq_true rfl, Nat.le_of_ble_eq_true rfl⟩ hl.1 (Nat.le_of_ble_eq_true rfl) ⟨Nat.le_refl _, Nat.le_refl _⟩ dX1_readTerm_220 (fun r59 S60 H locs h hw => ?_)
          obtain ⟨hB, h⟩ := h
          exact W.zret (pc := 223) hx hb hr (isB_n hB) (fun t ht hW => m_ret (val := vI) hw h ht) hw.2.2.2 dX1_readTerm_223 hlk
      · have h := h.1 c23
        refine lv_iconst (pc := 199) (v := (0 : Int32)) hx hb dX1_readTerm_199 (by decide) ?_
        exact W.zret (pc := 200) hx hb hr rfl (fun t ht hW => m_ret (val := vI) hw h ht) hw.2.2.2 dX1_readTerm_200 hlk
  · have h := h.1 c12
    refine lv_aload_n (pc := 129) hx hb dX1_readTerm_129 rfl (lv_at hl 1 rfl) ?_
    refine lv_iconst (pc := 130) (v := (1 : Int32)) hx hb dX1_readTerm_130 (by decide) ?_
    refine uX1_fails (pc := 131) X hml hw h ⟨Nat.le_of_ble_eq_true rfl, Nat.le_of_ble_eq_true rfl⟩ hl.1 (Nat.le_of_ble_eq_true rfl) ⟨Nat.le_refl _, Nat.le_refl _⟩ dX1_readTerm_131 (fun r61 S62 H locs h hw => ?_)
    obtain ⟨hB, h⟩ := h
    exact W.zret (pc := 134) hx hb hr (isB_n hB) (fun t ht hW => m_ret (val := vI) hw h ht) hw.2.2.2 dX1_readTerm_134 hlk
theorem kX1_readTerm_66 {p : Program} {l : Launch} {e : Env} {s : State} {m : MethodId} {args : Array Value} {below : List Frame} {meth : Method} {c : Code} {G : gG} {h0 : Nat} {ad : Nat → Nat} {post : Int32 → MS → Prop} (X : mX G h0 ad p s m args c cX1_readTerm) (hml : c.maxLocals = 5) (hr : meth.sig.returnType = (some .boolean)) (hlk : meth.locks = false) : ∀ (x1 : Int32) (S : MS) (H : Heap) (locs : List Loc) (ls : Array Slot), wX1_readTerm_66 post x1 S → mH G h0 ad s S H locs → lv_has ls 5 [(0, .ref h0), (1, .int x1)] → W p l e ⟨7, 0, 0, 149⟩ s m args below meth c H locs 0 0 (MQ below (gQ vI post (mBw G h0 ad) (mAd h0 ad)) args s 0 0 (mAd h0 ad)) (F0 m 66 ls []) := by
  have hx := X.1
  have hb := X.2.1
  have hown := X.2.2.1
  have hts := X.2.2.2.1
  intro x1 S H locs ls h hw hl
  unfold wX1_readTerm_66 at h
  refine lv_iload_n (pc := 66) hx hb dX1_readTerm_66 rfl (lv_at hl 1 rfl) ?_
  refine lv_iconst (pc := 67) (v := (5 : Int32)) hx hb dX1_readTerm_67 (by decide) ?_
  refine lv_icmp_ne (pc := 68) (tgt := 77) hx hb dX1_readTerm_68 rfl (fun c8 => ?_) (fun c8 => ?_)
  · have h := h.2 c8
    refine lv_iconst (pc := 77) (v := (4 : Int32)) hx hb dX1_readTerm_77 (by decide) ?_
    refine lv_bipush (pc := 78) (v := (20 : Int32)) hx hb dX1_readTerm_78 (by decide) ?_
    refine lv_iload_n (pc := 80) hx hb dX1_readTerm_80 rfl (lv_at hl 1 rfl) ?_
    refine lv_iadd (pc := 81) hx hb dX1_readTerm_81 ?_
    refine lv_imul (pc := 82) hx hb dX1_readTerm_82 ?_
    refine lv_istore_n (pc := 83) (lv' := [(3, .int ((4 : Int32) * ((20 : Int32) + x1))), (0, .ref h0), (1, .int x1)]) hx hb dX1_readTerm_83 rfl hl (by decide) rfl (fun ls hl => ?_)
    refine lv_aload_n (pc := 84) hx hb dX1_readTerm_84 rfl (lv_at hl 1 rfl) ?_
    refine mg1 (pc := 85) X hw dX1_readTerm_85 ?_
    refine lv_iload_n (pc := 88) hx hb dX1_readTerm_88 rfl (lv_at hl 0 rfl) ?_
    refine lv_iconst (pc := 89) (v := (0 : Int32)) hx hb dX1_readTerm_89 (by decide) ?_
    refine lv_iadd (pc := 90) hx hb dX1_readTerm_90 ?_
    refine lv_iconst (pc := 91) (v := (1 : Int32)) hx hb dX1_readTerm_91 (by decide) ?_
    obtain ⟨hi, h⟩ := h
    refine ms1 (pc := 92) X hw hi dX1_readTerm_92 (fun H locs hw => ?_)
    refine lv_aload_n (pc := 93) hx hb dX1_readTerm_93 rfl (lv_at hl 1 rfl) ?_
    refine mg12 (pc := 94) X hw dX1_readTerm_94 ?_
    refine lv_iconst (pc := 97) (v := (2 : Int32)) hx hb dX1_readTerm_97 (by decide) ?_
    refine lv_icmp_ne (pc := 98) (tgt := 117) hx hb dX1_readTerm_98 rfl (fun c9 => ?_) (fun c9 => ?_)
    · have h := h.2 c9
      exact kX1_readTerm_117 X hml hr hlk  _ _ _ _ _ _ h hw (lv_sub hl [1, 2, 0] rfl)
    · have h := h.1 c9
      refine lv_aload_n (pc := 101) hx hb dX1_readTerm_101 rfl (lv_at hl 1 rfl) ?_
      refine mg1 (pc := 102) X hw dX1_readTerm_102 ?_
      refine lv_iload_n (pc := 105) hx hb dX1_readTerm_105 rfl (lv_at hl 0 rfl) ?_
      refine lv_iconst (pc := 106) (v := (0 : Int32)) hx hb dX1_readTerm_106 (by decide) ?_
      refine lv_iadd (pc := 107) hx hb dX1_readTerm_107 ?_
      refine lv_aload_n (pc := 108) hx hb dX1_readTerm_108 rfl (lv_at hl 1 rfl) ?_
      refine mg16 (pc := 109) X hw dX1_readTerm_109 ?_
      obtain ⟨hi, h⟩ := h
      refine ms1 (pc := 112) X hw hi dX1_readTerm_112 (fun H locs hw => ?_)
      refine lv_aload_n (pc := 113) hx hb dX1_readTerm_113 rfl (lv_at hl 1 rfl) ?_
      refine uX1_next (pc := 114) X hml hw h ⟨Nat.le_of_ble_eq_true rfl, Nat.le_of_ble_eq_true rfl⟩ hl.1 (Nat.le_of_ble_eq_true rfl) ⟨Nat.le_refl _, Nat.le_refl _⟩ dX1_readTerm_114 (fun _ S64 H locs h hw => ?_)
      exact kX1_readTerm_117 X hml hr hlk  _ _ _ _ _ _ h hw (lv_sub hl [1, 2, 0] rfl)
  · have h := h.1 c8
    refine lv_aload_n (pc := 71) hx hb dX1_readTerm_71 rfl (lv_at hl 0 rfl) ?_
    refine lv_iconst (pc := 72) (v := (4 : Int32)) hx hb dX1_readTerm_72 (by decide) ?_
    refine uX1_fails (pc := 73) X hml hw h ⟨Nat.le_of_ble_eq_true rfl, Nat.le_of_ble_eq_true rfl⟩ hl.1 (Nat.le_of_ble_eq_true rfl) ⟨Nat.le_refl _, Nat.le_refl _⟩ dX1_readTerm_73 (fun r65 S66 H locs h hw => ?_)
    obtain ⟨hB, h⟩ := h
    exact W.zret (pc := 76) hx hb hr (isB_n hB) (fun t ht hW => m_ret (val := vI) hw h ht) hw.2.2.2 dX1_readTerm_76 hlk
theorem kX1_readTerm_27 {p : Program} {l : Launch} {e : Env} {s : State} {m : MethodId} {args : Array Value} {below : List Frame} {meth : Method} {c : Code} {G : gG} {h0 : Nat} {ad : Nat → Nat} {post : Int32 → MS → Prop} (X : mX G h0 ad p s m args c cX1_readTerm) (hml : c.maxLocals = 5) (hr : meth.sig.returnType = (some .boolean)) (hlk : meth.locks = false) : ∀ (x1 : Int32) (v0 : Int32) (S : MS) (H : Heap) (locs : List Loc) (ls : Array Slot), wX1_readTerm_27 post x1 v0 S → mH G h0 ad s S H locs → lv_has ls 5 [(0, .ref h0), (1, .int x1)] → W p l e ⟨7, 0, 0, 149⟩ s m args below meth c H locs 0 0 (MQ below (gQ vI post (mBw G h0 ad) (mAd h0 ad)) args s 0 0 (mAd h0 ad)) (F0 m 27 ls [.int v0]) := by
  have hx := X.1
  have hb := X.2.1
  have hown := X.2.2.1
  have hts := X.2.2.2.1
  intro x1 v0 S H locs ls h hw hl
  unfold wX1_readTerm_27 at h
  refine lv_istore_n (pc := 27) (lv' := [(2, .int v0), (0, .ref h0), (1, .int x1)]) hx hb dX1_readTerm_27 rfl hl (by decide) rfl (fun ls hl => ?_)
  refine lv_iload_n (pc := 28) hx hb dX1_readTerm_28 rfl (lv_at hl 0 rfl) ?_
  refine lv_if_ne (pc := 29) (tgt := 38) hx hb dX1_readTerm_29 rfl (fun c4 => ?_) (fun c4 => ?_)
  · have h := h.2 c4
    refine lv_aload_n (pc := 38) hx hb dX1_readTerm_38 rfl (lv_at hl 1 rfl) ?_
    refine uX1_isNumber (pc := 39) X hml hw h ⟨Nat.le_of_ble_eq_true rfl, Nat.le_of_ble_eq_true rfl⟩ hl.1 (Nat.le_of_ble_eq_true rfl) ⟨Nat.le_refl _, Nat.le_refl _⟩ dX1_readTerm_39 (fun r5 S6 H locs h hw => ?_)
    refine lv_if_eq (pc := 42) (tgt := 66) hx hb dX1_readTerm_42 rfl (fun c7 => ?_) (fun c7 => ?_)
    · have h := h.1 c7
      exact kX1_readTerm_66 X hml hr hlk  _ _ _ _ _ h hw (lv_sub hl [1, 2] rfl)
    · have h := h.2 c7
      refine lv_aload_n (pc := 45) hx hb dX1_readTerm_45 rfl (lv_at hl 1 rfl) ?_
      refine mg16 (pc := 46) X hw dX1_readTerm_46 ?_
      refine lv_i2l (pc := 49) hx hb dX1_readTerm_49 rfl ?_
      refine lv_lconst (pc := 50) (v := (1 : Int64)) hx hb dX1_readTerm_50 (by decide) ?_
      refine lv_ldc2 (pc := 51) hx hb hown (hts _ q2181) dX1_readTerm_51 ?_
      refine uX1_isIn (pc := 54) ⟨hx, hb, hml, hown, hts⟩ h ⟨Nat.le_of_ble_eq_true rfl, Nat.le_of_ble_eq_true rfl⟩ hl.1 (Nat.le_of_ble_eq_true rfl) ⟨Nat.le_refl _, Nat.le_refl _⟩ dX1_readTerm_54 (fun r67 h => ?_)
      refine lv_if_ne (pc := 57) (tgt := 66) hx hb dX1_readTerm_57 rfl (fun c68 => ?_) (fun c68 => ?_)
      · have h := h.2 c68
        exact kX1_readTerm_66 X hml hr hlk  _ _ _ _ _ h hw (lv_sub hl [1, 2] rfl)
      · have h := h.1 c68
        refine lv_aload_n (pc := 60) hx hb dX1_readTerm_60 rfl (lv_at hl 1 rfl) ?_
        refine lv_iconst (pc := 61) (v := (2 : Int32)) hx hb dX1_readTerm_61 (by decide) ?_
        refine uX1_fails (pc := 62) X hml hw h ⟨Nat.le_of_ble_eq_true rfl, Nat.le_of_ble_eq_true rfl⟩ hl.1 (Nat.le_of_ble_eq_true rfl) ⟨Nat.le_refl _, Nat.le_refl _⟩ dX1_readTerm_62 (fun r69 S70 H locs h hw => ?_)
        obtain ⟨hB, h⟩ := h
        exact W.zret (pc := 65) hx hb hr (isB_n hB) (fun t ht hW => m_ret (val := vI) hw h ht) hw.2.2.2 dX1_readTerm_65 hlk
  · have h := h.1 c4
    refine lv_aload_n (pc := 32) hx hb dX1_readTerm_32 rfl (lv_at hl 1 rfl) ?_
    refine lv_iconst (pc := 33) (v := (1 : Int32)) hx hb dX1_readTerm_33 (by decide) ?_
    refine uX1_fails (pc := 34) X hml hw h ⟨Nat.le_of_ble_eq_true rfl, Nat.le_of_ble_eq_true rfl⟩ hl.1 (Nat.le_of_ble_eq_true rfl) ⟨Nat.le_refl _, Nat.le_refl _⟩ dX1_readTerm_34 (fun r71 S72 H locs h hw => ?_)
    obtain ⟨hB, h⟩ := h
    exact W.zret (pc := 37) hx hb hr (isB_n hB) (fun t ht hW => m_ret (val := vI) hw h ht) hw.2.2.2 dX1_readTerm_37 hlk
theorem kX1_readTerm_22 {p : Program} {l : Launch} {e : Env} {s : State} {m : MethodId} {args : Array Value} {below : List Frame} {meth : Method} {c : Code} {G : gG} {h0 : Nat} {ad : Nat → Nat} {post : Int32 → MS → Prop} (X : mX G h0 ad p s m args c cX1_readTerm) (hml : c.maxLocals = 5) (hr : meth.sig.returnType = (some .boolean)) (hlk : meth.locks = false) : ∀ (x1 : Int32) (S : MS) (H : Heap) (locs : List Loc) (ls : Array Slot), wX1_readTerm_22 post x1 S → mH G h0 ad s S H locs → lv_has ls 5 [(0, .ref h0), (1, .int x1)] → W p l e ⟨7, 0, 0, 149⟩ s m args below meth c H locs 0 0 (MQ below (gQ vI post (mBw G h0 ad) (mAd h0 ad)) args s 0 0 (mAd h0 ad)) (F0 m 22 ls []) := by
  have hx := X.1
  have hb := X.2.1
  have hown := X.2.2.1
  have hts := X.2.2.2.1
  intro x1 S H locs ls h hw hl
  unfold wX1_readTerm_22 at h
  refine lv_iconst (pc := 22) (v := (1 : Int32)) hx hb dX1_readTerm_22 (by decide) ?_
  refine lv_goto (pc := 23) (tgt := 27) hx hb dX1_readTerm_23 rfl ?_
  exact kX1_readTerm_27 X hml hr hlk  _ _ _ _ _ _ h hw (lv_sub hl [0, 1] rfl)
theorem tX1_readTerm {l : Launch} {G : gG} {h0 : Nat} {ad : Nat → Nat} (hd : mOk G h0 ad) {post : Int32 → MS → Prop} {S : MS} (h : wX1_readTerm post S) : Met l yX1_readTerm (ws_ yX1_readTerm cX1_readTerm 5 (some .boolean)) ⟨7, 0, 0, 149⟩ (va_Pc (.ref h0 :: []) (fun U => mBw G h0 ad S U.heap ∧ gK G U)) (gQ vI post (mBw G h0 ad) (mAd h0 ad)) 0 0 (mAd h0 ad) := by
  refine m_ofW (by decide) rfl hd (Nat.le_of_ble_eq_true rfl) (fun p e s m below meth c ls X hml hr hlk hw hl => ?_)
  have hl : lv_has ls 5 [(0, .ref h0)] := hl
  have hx := X.1
  have hb := X.2.1
  have hown := X.2.2.1
  have hts := X.2.2.2.1
  unfold wX1_readTerm at h
  refine lv_aload_n (pc := 0) hx hb dX1_readTerm_0 rfl (lv_at hl 0 rfl) ?_
  refine mg0 (pc := 1) X hw dX1_readTerm_1 ?_
  refine lv_iconst (pc := 4) (v := (4 : Int32)) hx hb dX1_readTerm_4 (by decide) ?_
  obtain ⟨hi, h⟩ := h
  refine ma0 (pc := 5) X hw hi dX1_readTerm_5 ?_
  refine lv_istore_n (pc := 6) (lv' := [(1, .int (S.2.2.1 0 (4 : Int32).toNatClampNeg)), (0, .ref h0)]) hx hb dX1_readTerm_6 rfl hl (by decide) rfl (fun ls hl => ?_)
  refine lv_aload_n (pc := 7) hx hb dX1_readTerm_7 rfl (lv_at hl 1 rfl) ?_
  refine uX1_isNumber (pc := 8) X hml hw h ⟨Nat.le_of_ble_eq_true rfl, Nat.le_of_ble_eq_true rfl⟩ hl.1 (Nat.le_of_ble_eq_true rfl) ⟨Nat.le_refl _, Nat.le_refl _⟩ dX1_readTerm_8 (fun r1 S2 H locs h hw => ?_)
  refine lv_if_ne (pc := 11) (tgt := 22) hx hb dX1_readTerm_11 rfl (fun c3 => ?_) (fun c3 => ?_)
  · have h := h.2 c3
    exact kX1_readTerm_22 X hml hr hlk  _ _ _ _ _ h hw (lv_sub hl [1, 0] rfl)
  · have h := h.1 c3
    refine lv_aload_n (pc := 14) hx hb dX1_readTerm_14 rfl (lv_at hl 1 rfl) ?_
    refine uX1_kindHere (pc := 15) X hml hw h ⟨Nat.le_of_ble_eq_true rfl, Nat.le_of_ble_eq_true rfl⟩ hl.1 (Nat.le_of_ble_eq_true rfl) ⟨Nat.le_refl _, Nat.le_refl _⟩ dX1_readTerm_15 (fun r73 S74 H locs h hw => ?_)
    refine lv_iconst (pc := 18) (v := (-1 : Int32)) hx hb dX1_readTerm_18 (by decide) ?_
    refine lv_icmp_eq (pc := 19) (tgt := 26) hx hb dX1_readTerm_19 rfl (fun c75 => ?_) (fun c75 => ?_)
    · have h := h.1 c75
      refine lv_iconst (pc := 26) (v := (0 : Int32)) hx hb dX1_readTerm_26 (by decide) ?_
      exact kX1_readTerm_27 X hml hr hlk  _ _ _ _ _ _ h hw (lv_sub hl [1, 0] rfl)
    · have h := h.2 c75
      exact kX1_readTerm_22 X hml hr hlk  _ _ _ _ _ h hw (lv_sub hl [1, 0] rfl)
theorem uX1_readTerm {p : Program} {l : Launch} {e : Env} {R : Room} {s : State} {m : MethodId} {args : Array Value} {below : List Frame} {meth : Method} {c : Code} {H : Heap} {locs : List Loc} {cells slots : Nat} {Q : Jvm.State → Prop} {cc : ByteArray} {pc : Nat} {ls : Array Slot} {rest : List Value} {G : gG} {h0 : Nat} {ad : Nat → Nat} {post : Int32 → MS → Prop} {S : MS} {nL : Nat} (X : mX G h0 ad p s m args c cc) (hml : c.maxLocals = nL) (hw : mH G h0 ad s S H locs) (h : wX1_readTerm post S) (hR : 7 + 1 ≤ R.frames ∧ 8 + (5 + 11) + 149 ≤ R.locals) (hsz : ls.size = nL) (hr : (rest.map fun v => v.category).sum ≤ 8) (hc : cells ≤ R.cells ∧ slots ≤ R.slots) (d : decode cc pc = .ok (.invokevirtual 250, 3)) (kk : ∀ (r : Int32) (S1 : MS) (H1 : Heap) (locs1 : List Loc), post r S1 → mH G h0 ad s S1 H1 locs1 → W p l e R s m args below meth c H1 locs1 cells slots Q (F0 m (pc + 3) ls (.int r :: rest))) : W p l e R s m args below meth c H locs cells slots Q (F0 m pc ls (.ref h0 :: rest)) :=
  m_call (val := vI) (post := post) (As := []) X hml hw (tX1_readTerm X.2.2.2.2.2.1 h) (lw_V q2151 q2153 qs50 q105 q2154) ⟨rfl, by decide, by decide, (by decide +kernel : (parseMethodDescriptor yX1_readTerm.desc).map (fun d => d.parameters.length) = some 0)⟩ hR hsz hr hc d rfl kk

def wX1_ways (post : Int64 → MS → Prop) (S : MS) (x1 : Int32) (x2 : Int32) : Prop :=
  wX1_isForm (fun r1 S2 => ((r1 = (0 : Int32)) → (post (-1 : Int64) S2)) ∧ (¬ (r1 = (0 : Int32)) → (wX1_isN (fun r4 => ((r4 = (0 : Int32)) → (post (-1 : Int64) S2)) ∧ (¬ (r4 = (0 : Int32)) → (wX1_lays (fun _ S7 => wX1_waysOf (fun r8 S9 => post r8 S9) S7 x2) S2 x1))) x2))) S x1
theorem tX1_ways {l : Launch} {G : gG} {h0 : Nat} {ad : Nat → Nat} (hd : mOk G h0 ad) {post : Int64 → MS → Prop} {S : MS} {x1 : Int32} {x2 : Int32} (h : wX1_ways post S x1 x2) : Met l yX1_ways (ws_ yX1_ways cX1_ways 3 (some .long)) ⟨4, 0, 0, 101⟩ (va_Pc (.ref h0 :: [.int x1, .int x2]) (fun U => mBw G h0 ad S U.heap ∧ gK G U)) (gQ vL post (mBw G h0 ad) (mAd h0 ad)) 0 0 (mAd h0 ad) := by
  refine m_ofW (by decide) rfl hd (Nat.le_of_ble_eq_true rfl) (fun p e s m below meth c ls X hml hr hlk hw hl => ?_)
  have hl : lv_has ls 3 [(0, .ref h0), (1, .int x1), (2, .int x2)] := hl
  have hx := X.1
  have hb := X.2.1
  have hown := X.2.2.1
  have hts := X.2.2.2.1
  unfold wX1_ways at h
  refine lv_aload_n (pc := 0) hx hb dX1_ways_0 rfl (lv_at hl 0 rfl) ?_
  refine lv_iload_n (pc := 1) hx hb dX1_ways_1 rfl (lv_at hl 1 rfl) ?_
  refine uX1_isForm (pc := 2) X hml hw h ⟨Nat.le_of_ble_eq_true rfl, Nat.le_of_ble_eq_true rfl⟩ hl.1 (Nat.le_of_ble_eq_true rfl) ⟨Nat.le_refl _, Nat.le_refl _⟩ dX1_ways_2 (fun r1 S2 H locs h hw => ?_)
  refine lv_if_eq (pc := 5) (tgt := 15) hx hb dX1_ways_5 rfl (fun c3 => ?_) (fun c3 => ?_)
  · have h := h.1 c3
    refine lv_ldc2 (pc := 15) hx hb hown (hts _ q2243) dX1_ways_15 ?_
    exact W.lret (pc := 18) hx hb hr (fun t ht hW => m_ret (val := vL) hw h ht) hw.2.2.2 dX1_ways_18 hlk
  · have h := h.2 c3
    refine lv_iload_n (pc := 8) hx hb dX1_ways_8 rfl (lv_at hl 2 rfl) ?_
    refine uX1_isN (pc := 9) ⟨hx, hb, hml, hown, hts⟩ h ⟨Nat.le_of_ble_eq_true rfl, Nat.le_of_ble_eq_true rfl⟩ hl.1 (Nat.le_of_ble_eq_true rfl) ⟨Nat.le_refl _, Nat.le_refl _⟩ dX1_ways_9 (fun r4 h => ?_)
    refine lv_if_ne (pc := 12) (tgt := 19) hx hb dX1_ways_12 rfl (fun c5 => ?_) (fun c5 => ?_)
    · have h := h.2 c5
      refine lv_aload_n (pc := 19) hx hb dX1_ways_19 rfl (lv_at hl 0 rfl) ?_
      refine lv_iload_n (pc := 20) hx hb dX1_ways_20 rfl (lv_at hl 1 rfl) ?_
      refine uX1_lays (pc := 21) X hml hw h ⟨Nat.le_of_ble_eq_true rfl, Nat.le_of_ble_eq_true rfl⟩ hl.1 (Nat.le_of_ble_eq_true rfl) ⟨Nat.le_refl _, Nat.le_refl _⟩ dX1_ways_21 (fun _ S7 H locs h hw => ?_)
      refine lv_aload_n (pc := 24) hx hb dX1_ways_24 rfl (lv_at hl 0 rfl) ?_
      refine lv_iload_n (pc := 25) hx hb dX1_ways_25 rfl (lv_at hl 2 rfl) ?_
      refine uX1_waysOf (pc := 26) X hml hw h ⟨Nat.le_of_ble_eq_true rfl, Nat.le_of_ble_eq_true rfl⟩ hl.1 (Nat.le_of_ble_eq_true rfl) ⟨Nat.le_refl _, Nat.le_refl _⟩ dX1_ways_26 (fun r8 S9 H locs h hw => ?_)
      exact W.lret (pc := 29) hx hb hr (fun t ht hW => m_ret (val := vL) hw h ht) hw.2.2.2 dX1_ways_29 hlk
    · have h := h.1 c5
      refine lv_ldc2 (pc := 15) hx hb hown (hts _ q2243) dX1_ways_15 ?_
      exact W.lret (pc := 18) hx hb hr (fun t ht hW => m_ret (val := vL) hw h ht) hw.2.2.2 dX1_ways_18 hlk

def wX1_unlike (post : Int64 → MS → Prop) (S : MS) (x1 : Int32) (x2 : Int32) : Prop :=
  wX1_isForm (fun r1 S2 => ((r1 = (0 : Int32)) → (post (-1 : Int64) S2)) ∧ (¬ (r1 = (0 : Int32)) → (wX1_isN (fun r4 => ((r4 = (0 : Int32)) → (post (-1 : Int64) S2)) ∧ (¬ (r4 = (0 : Int32)) → (wX1_laysUnlike (fun _ S7 => vp_in (x2 + (3000 : Int32)) 6001 ∧ (post (S7.2.2.2 24 (x2 + (3000 : Int32)).toNatClampNeg) S7)) S2 x1))) x2))) S x1
theorem tX1_unlike {l : Launch} {G : gG} {h0 : Nat} {ad : Nat → Nat} (hd : mOk G h0 ad) {post : Int64 → MS → Prop} {S : MS} {x1 : Int32} {x2 : Int32} (h : wX1_unlike post S x1 x2) : Met l yX1_unlike (ws_ yX1_unlike cX1_unlike 3 (some .long)) ⟨28, 0, 0, 1214⟩ (va_Pc (.ref h0 :: [.int x1, .int x2]) (fun U => mBw G h0 ad S U.heap ∧ gK G U)) (gQ vL post (mBw G h0 ad) (mAd h0 ad)) 0 0 (mAd h0 ad) := by
  refine m_ofW (by decide) rfl hd (Nat.le_of_ble_eq_true rfl) (fun p e s m below meth c ls X hml hr hlk hw hl => ?_)
  have hl : lv_has ls 3 [(0, .ref h0), (1, .int x1), (2, .int x2)] := hl
  have hx := X.1
  have hb := X.2.1
  have hown := X.2.2.1
  have hts := X.2.2.2.1
  unfold wX1_unlike at h
  refine lv_aload_n (pc := 0) hx hb dX1_unlike_0 rfl (lv_at hl 0 rfl) ?_
  refine lv_iload_n (pc := 1) hx hb dX1_unlike_1 rfl (lv_at hl 1 rfl) ?_
  refine uX1_isForm (pc := 2) X hml hw h ⟨Nat.le_of_ble_eq_true rfl, Nat.le_of_ble_eq_true rfl⟩ hl.1 (Nat.le_of_ble_eq_true rfl) ⟨Nat.le_refl _, Nat.le_refl _⟩ dX1_unlike_2 (fun r1 S2 H locs h hw => ?_)
  refine lv_if_eq (pc := 5) (tgt := 15) hx hb dX1_unlike_5 rfl (fun c3 => ?_) (fun c3 => ?_)
  · have h := h.1 c3
    refine lv_ldc2 (pc := 15) hx hb hown (hts _ q2243) dX1_unlike_15 ?_
    exact W.lret (pc := 18) hx hb hr (fun t ht hW => m_ret (val := vL) hw h ht) hw.2.2.2 dX1_unlike_18 hlk
  · have h := h.2 c3
    refine lv_iload_n (pc := 8) hx hb dX1_unlike_8 rfl (lv_at hl 2 rfl) ?_
    refine uX1_isN (pc := 9) ⟨hx, hb, hml, hown, hts⟩ h ⟨Nat.le_of_ble_eq_true rfl, Nat.le_of_ble_eq_true rfl⟩ hl.1 (Nat.le_of_ble_eq_true rfl) ⟨Nat.le_refl _, Nat.le_refl _⟩ dX1_unlike_9 (fun r4 h => ?_)
    refine lv_if_ne (pc := 12) (tgt := 19) hx hb dX1_unlike_12 rfl (fun c5 => ?_) (fun c5 => ?_)
    · have h := h.2 c5
      refine lv_aload_n (pc := 19) hx hb dX1_unlike_19 rfl (lv_at hl 0 rfl) ?_
      refine lv_iload_n (pc := 20) hx hb dX1_unlike_20 rfl (lv_at hl 1 rfl) ?_
      refine uX1_laysUnlike (pc := 21) X hml hw h ⟨Nat.le_of_ble_eq_true rfl, Nat.le_of_ble_eq_true rfl⟩ hl.1 (Nat.le_of_ble_eq_true rfl) ⟨Nat.le_refl _, Nat.le_refl _⟩ dX1_unlike_21 (fun _ S7 H locs h hw => ?_)
      refine lv_aload_n (pc := 24) hx hb dX1_unlike_24 rfl (lv_at hl 0 rfl) ?_
      refine mg24 (pc := 25) X hw dX1_unlike_25 ?_
      refine lv_iload_n (pc := 28) hx hb dX1_unlike_28 rfl (lv_at hl 2 rfl) ?_
      refine lv_sipush (pc := 29) (v := (3000 : Int32)) hx hb dX1_unlike_29 (by decide) ?_
      refine lv_iadd (pc := 32) hx hb dX1_unlike_32 ?_
      obtain ⟨hi, h⟩ := h
      refine ma24 (pc := 33) X hw hi dX1_unlike_33 ?_
      exact W.lret (pc := 34) hx hb hr (fun t ht hW => m_ret (val := vL) hw h ht) hw.2.2.2 dX1_unlike_34 hlk
    · have h := h.1 c5
      refine lv_ldc2 (pc := 15) hx hb hown (hts _ q2243) dX1_unlike_15 ?_
      exact W.lret (pc := 18) hx hb hr (fun t ht hW => m_ret (val := vL) hw h ht) hw.2.2.2 dX1_unlike_18 hlk

def wX1_way (post : Int32 → MS → Prop) (S : MS) (x1 : Int32) (x2 : Int32) (x3 : Int64) (x5 : Int32) : Prop :=
  wX1_isForm (fun r1 S2 => ((r1 = (0 : Int32)) → (post (-100000 : Int32) S2)) ∧ (¬ (r1 = (0 : Int32)) → (wX1_isN (fun r4 => ((r4 = (0 : Int32)) → (post (-100000 : Int32) S2)) ∧ (¬ (r4 = (0 : Int32)) → (wX1_isTerm (fun r6 S7 => ((r6 = (0 : Int32)) → (post (-100000 : Int32) S7)) ∧ (¬ (r6 = (0 : Int32)) → (wX1_finds (fun r9 S10 => ((r9 = (0 : Int32)) → (post (-100000 : Int32) S10)) ∧ (¬ (r9 = (0 : Int32)) → (vp_in x5 5 ∧ (post (S10.2.2.1 30 x5.toNatClampNeg) S10)))) S7 x1 x2 x3))) S2 x1 x5))) x2))) S x1
theorem tX1_way {l : Launch} {G : gG} {h0 : Nat} {ad : Nat → Nat} (hd : mOk G h0 ad) {post : Int32 → MS → Prop} {S : MS} {x1 : Int32} {x2 : Int32} {x3 : Int64} {x5 : Int32} (h : wX1_way post S x1 x2 x3 x5) : Met l yX1_way (ws_ yX1_way cX1_way 6 (some .int)) ⟨5, 0, 0, 131⟩ (va_Pc (.ref h0 :: [.int x1, .int x2, .long x3, .int x5]) (fun U => mBw G h0 ad S U.heap ∧ gK G U)) (gQ vI post (mBw G h0 ad) (mAd h0 ad)) 0 0 (mAd h0 ad) := by
  refine m_ofW (by decide) rfl hd (Nat.le_of_ble_eq_true rfl) (fun p e s m below meth c ls X hml hr hlk hw hl => ?_)
  have hl : lv_has ls 6 [(0, .ref h0), (1, .int x1), (2, .int x2), (3, .long x3), (5, .int x5)] := hl
  have hx := X.1
  have hb := X.2.1
  have hown := X.2.2.1
  have hts := X.2.2.2.1
  unfold wX1_way at h
  refine lv_aload_n (pc := 0) hx hb dX1_way_0 rfl (lv_at hl 0 rfl) ?_
  refine lv_iload_n (pc := 1) hx hb dX1_way_1 rfl (lv_at hl 1 rfl) ?_
  refine uX1_isForm (pc := 2) X hml hw h ⟨Nat.le_of_ble_eq_true rfl, Nat.le_of_ble_eq_true rfl⟩ hl.1 (Nat.le_of_ble_eq_true rfl) ⟨Nat.le_refl _, Nat.le_refl _⟩ dX1_way_2 (fun r1 S2 H locs h hw => ?_)
  refine lv_if_eq (pc := 5) (tgt := 45) hx hb dX1_way_5 rfl (fun c3 => ?_) (fun c3 => ?_)
  · have h := h.1 c3
    refine lv_ldcw (pc := 45) hx hb hown (hts _ q2305) dX1_way_45 ?_
    exact W.iret (pc := 48) hx hb hr (fun t ht hW => m_ret (val := vI) hw h ht) hw.2.2.2 dX1_way_48 hlk
  · have h := h.2 c3
    refine lv_iload_n (pc := 8) hx hb dX1_way_8 rfl (lv_at hl 2 rfl) ?_
    refine uX1_isN (pc := 9) ⟨hx, hb, hml, hown, hts⟩ h ⟨Nat.le_of_ble_eq_true rfl, Nat.le_of_ble_eq_true rfl⟩ hl.1 (Nat.le_of_ble_eq_true rfl) ⟨Nat.le_refl _, Nat.le_refl _⟩ dX1_way_9 (fun r4 h => ?_)
    refine lv_if_eq (pc := 12) (tgt := 45) hx hb dX1_way_12 rfl (fun c5 => ?_) (fun c5 => ?_)
    · have h := h.1 c5
      refine lv_ldcw (pc := 45) hx hb hown (hts _ q2305) dX1_way_45 ?_
      exact W.iret (pc := 48) hx hb hr (fun t ht hW => m_ret (val := vI) hw h ht) hw.2.2.2 dX1_way_48 hlk
    · have h := h.2 c5
      refine lv_aload_n (pc := 15) hx hb dX1_way_15 rfl (lv_at hl 0 rfl) ?_
      refine lv_iload_n (pc := 16) hx hb dX1_way_16 rfl (lv_at hl 1 rfl) ?_
      refine lv_iload (pc := 17) hx hb dX1_way_17 (lv_at hl 4 rfl) ?_
      refine uX1_isTerm (pc := 19) X hml hw h ⟨Nat.le_of_ble_eq_true rfl, Nat.le_of_ble_eq_true rfl⟩ hl.1 (Nat.le_of_ble_eq_true rfl) ⟨Nat.le_refl _, Nat.le_refl _⟩ dX1_way_19 (fun r6 S7 H locs h hw => ?_)
      refine lv_if_eq (pc := 22) (tgt := 45) hx hb dX1_way_22 rfl (fun c8 => ?_) (fun c8 => ?_)
      · have h := h.1 c8
        refine lv_ldcw (pc := 45) hx hb hown (hts _ q2305) dX1_way_45 ?_
        exact W.iret (pc := 48) hx hb hr (fun t ht hW => m_ret (val := vI) hw h ht) hw.2.2.2 dX1_way_48 hlk
      · have h := h.2 c8
        refine lv_aload_n (pc := 25) hx hb dX1_way_25 rfl (lv_at hl 0 rfl) ?_
        refine lv_iload_n (pc := 26) hx hb dX1_way_26 rfl (lv_at hl 1 rfl) ?_
        refine lv_iload_n (pc := 27) hx hb dX1_way_27 rfl (lv_at hl 2 rfl) ?_
        refine lv_lload_n (pc := 28) hx hb dX1_way_28 rfl (lv_at hl 3 rfl) ?_
        refine uX1_finds (pc := 29) X hml hw h ⟨Nat.le_of_ble_eq_true rfl, Nat.le_of_ble_eq_true rfl⟩ hl.1 (Nat.le_of_ble_eq_true rfl) ⟨Nat.le_refl _, Nat.le_refl _⟩ dX1_way_29 (fun r9 S10 H locs h hw => ?_)
        refine lv_if_eq (pc := 32) (tgt := 45) hx hb dX1_way_32 rfl (fun c11 => ?_) (fun c11 => ?_)
        · have h := h.1 c11
          refine lv_ldcw (pc := 45) hx hb hown (hts _ q2305) dX1_way_45 ?_
          exact W.iret (pc := 48) hx hb hr (fun t ht hW => m_ret (val := vI) hw h ht) hw.2.2.2 dX1_way_48 hlk
        · have h := h.2 c11
          refine lv_aload_n (pc := 35) hx hb dX1_way_35 rfl (lv_at hl 0 rfl) ?_
          refine mg30 (pc := 36) X hw dX1_way_36 ?_
          refine lv_iload (pc := 39) hx hb dX1_way_39 (lv_at hl 4 rfl) ?_
          obtain ⟨hi, h⟩ := h
          refine ma30 (pc := 41) X hw hi dX1_way_41 ?_
          refine lv_goto (pc := 42) (tgt := 48) hx hb dX1_way_42 rfl ?_
          exact W.iret (pc := 48) hx hb hr (fun t ht hW => m_ret (val := vI) hw h ht) hw.2.2.2 dX1_way_48 hlk

def wX1_prove_69 (K32 : Int32 → Int32 → Int32 → MS → Prop) (post : Int32 → MS → Prop) (x1 : Int32) (x2 : Int32) (v0 : Int32) (S : MS) : Prop :=
  K32 x1 x2 v0 S
def wX1_prove_68 (K32 : Int32 → Int32 → Int32 → MS → Prop) (post : Int32 → MS → Prop) (x1 : Int32) (x2 : Int32) (S : MS) : Prop :=
  wX1_prove_69 K32 post x1 x2 (0 : Int32) S
def wX1_prove_32 (post : Int32 → MS → Prop) : Nat → Int32 → Int32 → Int32 → MS → Prop
  | 0, _, _, _, _ => False
  | n + 1, x1, x2, x3, S => ((x3 = (0 : Int32)) → (wX1_isRead (fun r7 S8 => ((x2 = (0 : Int32)) → (post (-2 : Int32) S8)) ∧ (¬ (x2 = (0 : Int32)) → ((((S8.1 8) = (0 : Int32)) → (post (S8.1 32) S8)) ∧ (¬ ((S8.1 8) = (0 : Int32)) → (post (-1 : Int32) S8))))) S)) ∧ (¬ (x3 = (0 : Int32)) → (wX1_readLine (fun r11 S12 => ((r11 = (0 : Int32)) → (wX1_prove_68 (fun x1 x2 x3 S => wX1_prove_32 post n x1 x2 x3 S) post x1 x2 S12)) ∧ (¬ (r11 = (0 : Int32)) → ((((S12.1 12) = (0 : Int32)) → (wX1_prove_68 (fun x1 x2 x3 S => wX1_prove_32 post n x1 x2 x3 S) post x1 x2 S12)) ∧ (¬ ((S12.1 12) = (0 : Int32)) → (wX1_prove_69 (fun x1 x2 x3 S => wX1_prove_32 post n x1 x2 x3 S) post x1 x2 (1 : Int32) S12))))) (mI (mI S 18 (S.1 32)) 19 (-1 : Int32)) x1))
def wX1_prove_31 (post : Int32 → MS → Prop) (x1 : Int32) (x2 : Int32) (v0 : Int32) (S : MS) : Prop :=
  (∃ k, wX1_prove_32 post k x1 x2 v0 S)
def wX1_prove_30 (post : Int32 → MS → Prop) (x1 : Int32) (x2 : Int32) (S : MS) : Prop :=
  wX1_prove_31 post x1 x2 (0 : Int32) S
def wX1_prove (post : Int32 → MS → Prop) (S : MS) (x1 : Int32) : Prop :=
  wX1_begins (fun _ S2 => wX1_isForm (fun r3 S4 => ((r3 = (0 : Int32)) → (wX1_prove_30 post x1 r3 S4)) ∧ (¬ (r3 = (0 : Int32)) → ((((S4.1 12) = (0 : Int32)) → (wX1_prove_30 post x1 r3 S4)) ∧ (¬ ((S4.1 12) = (0 : Int32)) → (wX1_prove_31 post x1 r3 (1 : Int32) S4))))) (mI S2 32 (0 : Int32)) x1) S
theorem kX1_prove_69 {p : Program} {l : Launch} {e : Env} {s : State} {m : MethodId} {args : Array Value} {below : List Frame} {meth : Method} {c : Code} {G : gG} {h0 : Nat} {ad : Nat → Nat} {K32 : Int32 → Int32 → Int32 → MS → Prop} {post : Int32 → MS → Prop} (X : mX G h0 ad p s m args c cX1_prove) (hml : c.maxLocals = 4) (hr : meth.sig.returnType = (some .int)) (hlk : meth.locks = false) (hK32 : ∀ (x1 : Int32) (x2 : Int32) (x3 : Int32) (S : MS) (H : Heap) (locs : List Loc) (ls : Array Slot), K32 x1 x2 x3 S → mH G h0 ad s S H locs → lv_has ls 4 [(0, .ref h0), (1, .int x1), (2, .int x2), (3, .int x3)] → W p l e ⟨7, 0, 0, 152⟩ s m args below meth c H locs 0 0 (MQ below (gQ vI post (mBw G h0 ad) (mAd h0 ad)) args s 0 0 (mAd h0 ad)) (F0 m 32 ls [])) : ∀ (x1 : Int32) (x2 : Int32) (v0 : Int32) (S : MS) (H : Heap) (locs : List Loc) (ls : Array Slot), wX1_prove_69 K32 post x1 x2 v0 S → mH G h0 ad s S H locs → lv_has ls 4 [(0, .ref h0), (1, .int x1), (2, .int x2)] → W p l e ⟨7, 0, 0, 152⟩ s m args below meth c H locs 0 0 (MQ below (gQ vI post (mBw G h0 ad) (mAd h0 ad)) args s 0 0 (mAd h0 ad)) (F0 m 69 ls [.int v0]) := by
  have hx := X.1
  have hb := X.2.1
  have hown := X.2.2.1
  have hts := X.2.2.2.1
  intro x1 x2 v0 S H locs ls h hw hl
  unfold wX1_prove_69 at h
  refine lv_istore_n (pc := 69) (lv' := [(3, .int v0), (0, .ref h0), (1, .int x1), (2, .int x2)]) hx hb dX1_prove_69 rfl hl (by decide) rfl (fun ls hl => ?_)
  refine lv_goto (pc := 70) (tgt := 32) hx hb dX1_prove_70 rfl ?_
  exact hK32 _ _ _ _ _ _ _ h hw (lv_sub hl [1, 2, 3, 0] rfl)
theorem kX1_prove_68 {p : Program} {l : Launch} {e : Env} {s : State} {m : MethodId} {args : Array Value} {below : List Frame} {meth : Method} {c : Code} {G : gG} {h0 : Nat} {ad : Nat → Nat} {K32 : Int32 → Int32 → Int32 → MS → Prop} {post : Int32 → MS → Prop} (X : mX G h0 ad p s m args c cX1_prove) (hml : c.maxLocals = 4) (hr : meth.sig.returnType = (some .int)) (hlk : meth.locks = false) (hK32 : ∀ (x1 : Int32) (x2 : Int32) (x3 : Int32) (S : MS) (H : Heap) (locs : List Loc) (ls : Array Slot), K32 x1 x2 x3 S → mH G h0 ad s S H locs → lv_has ls 4 [(0, .ref h0), (1, .int x1), (2, .int x2), (3, .int x3)] → W p l e ⟨7, 0, 0, 152⟩ s m args below meth c H locs 0 0 (MQ below (gQ vI post (mBw G h0 ad) (mAd h0 ad)) args s 0 0 (mAd h0 ad)) (F0 m 32 ls [])) : ∀ (x1 : Int32) (x2 : Int32) (S : MS) (H : Heap) (locs : List Loc) (ls : Array Slot), wX1_prove_68 K32 post x1 x2 S → mH G h0 ad s S H locs → lv_has ls 4 [(0, .ref h0), (1, .int x1), (2, .int x2)] → W p l e ⟨7, 0, 0, 152⟩ s m args below meth c H locs 0 0 (MQ below (gQ vI post (mBw G h0 ad) (mAd h0 ad)) args s 0 0 (mAd h0 ad)) (F0 m 68 ls []) := by
  have hx := X.1
  have hb := X.2.1
  have hown := X.2.2.1
  have hts := X.2.2.2.1
  intro x1 x2 S H locs ls h hw hl
  unfold wX1_prove_68 at h
  refine lv_iconst (pc := 68) (v := (0 : Int32)) hx hb dX1_prove_68 (by decide) ?_
  exact kX1_prove_69 X hml hr hlk hK32 _ _ _ _ _ _ _ h hw (lv_sub hl [0, 1, 2] rfl)
theorem kX1_prove_32 {p : Program} {l : Launch} {e : Env} {s : State} {m : MethodId} {args : Array Value} {below : List Frame} {meth : Method} {c : Code} {G : gG} {h0 : Nat} {ad : Nat → Nat} {post : Int32 → MS → Prop} (X : mX G h0 ad p s m args c cX1_prove) (hml : c.maxLocals = 4) (hr : meth.sig.returnType = (some .int)) (hlk : meth.locks = false) : ∀ (n : Nat) (x1 : Int32) (x2 : Int32) (x3 : Int32) (S : MS) (H : Heap) (locs : List Loc) (ls : Array Slot), wX1_prove_32 post n x1 x2 x3 S → mH G h0 ad s S H locs → lv_has ls 4 [(0, .ref h0), (1, .int x1), (2, .int x2), (3, .int x3)] → W p l e ⟨7, 0, 0, 152⟩ s m args below meth c H locs 0 0 (MQ below (gQ vI post (mBw G h0 ad) (mAd h0 ad)) args s 0 0 (mAd h0 ad)) (F0 m 32 ls []) := by
  have hx := X.1
  have hb := X.2.1
  have hown := X.2.2.1
  have hts := X.2.2.2.1
  intro n
  induction n with
  | zero =>
    intro x1 x2 x3 S H locs ls h
    exact False.elim h
  | succ n ih =>
    intro x1 x2 x3 S H locs ls h hw hl
    unfold wX1_prove_32 at h
    refine lv_iload_n (pc := 32) hx hb dX1_prove_32 rfl (lv_at hl 3 rfl) ?_
    refine lv_if_eq (pc := 33) (tgt := 73) hx hb dX1_prove_33 rfl (fun c6 => ?_) (fun c6 => ?_)
    · have h := h.1 c6
      refine lv_aload_n (pc := 73) hx hb dX1_prove_73 rfl (lv_at hl 0 rfl) ?_
      refine uX1_isRead (pc := 74) X hml hw h ⟨Nat.le_of_ble_eq_true rfl, Nat.le_of_ble_eq_true rfl⟩ hl.1 (Nat.le_of_ble_eq_true rfl) ⟨Nat.le_refl _, Nat.le_refl _⟩ dX1_prove_74 (fun r7 S8 H locs h hw => ?_)
      refine lv_pop (pc := 77) hx hb dX1_prove_77 rfl ?_
      refine lv_iload_n (pc := 78) hx hb dX1_prove_78 rfl (lv_at hl 2 rfl) ?_
      refine lv_if_ne (pc := 79) (tgt := 87) hx hb dX1_prove_79 rfl (fun c9 => ?_) (fun c9 => ?_)
      · have h := h.2 c9
        refine lv_aload_n (pc := 87) hx hb dX1_prove_87 rfl (lv_at hl 0 rfl) ?_
        refine mg8 (pc := 88) X hw dX1_prove_88 ?_
        refine lv_if_eq (pc := 91) (tgt := 98) hx hb dX1_prove_91 rfl (fun c10 => ?_) (fun c10 => ?_)
        · have h := h.1 c10
          refine lv_aload_n (pc := 98) hx hb dX1_prove_98 rfl (lv_at hl 0 rfl) ?_
          refine mg32 (pc := 99) X hw dX1_prove_99 ?_
          exact W.iret (pc := 102) hx hb hr (fun t ht hW => m_ret (val := vI) hw h ht) hw.2.2.2 dX1_prove_102 hlk
        · have h := h.2 c10
          refine lv_iconst (pc := 94) (v := (-1 : Int32)) hx hb dX1_prove_94 (by decide) ?_
          refine lv_goto (pc := 95) (tgt := 102) hx hb dX1_prove_95 rfl ?_
          exact W.iret (pc := 102) hx hb hr (fun t ht hW => m_ret (val := vI) hw h ht) hw.2.2.2 dX1_prove_102 hlk
      · have h := h.1 c9
        refine lv_bipush (pc := 82) (v := (-2 : Int32)) hx hb dX1_prove_82 (by decide) ?_
        refine lv_goto (pc := 84) (tgt := 102) hx hb dX1_prove_84 rfl ?_
        exact W.iret (pc := 102) hx hb hr (fun t ht hW => m_ret (val := vI) hw h ht) hw.2.2.2 dX1_prove_102 hlk
    · have h := h.2 c6
      refine lv_aload_n (pc := 36) hx hb dX1_prove_36 rfl (lv_at hl 0 rfl) ?_
      refine lv_aload_n (pc := 37) hx hb dX1_prove_37 rfl (lv_at hl 0 rfl) ?_
      refine mg32 (pc := 38) X hw dX1_prove_38 ?_
      refine mp18 (pc := 41) X hw dX1_prove_41 (fun H locs hw => ?_)
      refine lv_aload_n (pc := 44) hx hb dX1_prove_44 rfl (lv_at hl 0 rfl) ?_
      refine lv_iconst (pc := 45) (v := (-1 : Int32)) hx hb dX1_prove_45 (by decide) ?_
      refine mp19 (pc := 46) X hw dX1_prove_46 (fun H locs hw => ?_)
      refine lv_aload_n (pc := 49) hx hb dX1_prove_49 rfl (lv_at hl 0 rfl) ?_
      refine lv_iload_n (pc := 50) hx hb dX1_prove_50 rfl (lv_at hl 1 rfl) ?_
      refine uX1_readLine (pc := 51) X hml hw h ⟨Nat.le_of_ble_eq_true rfl, Nat.le_of_ble_eq_true rfl⟩ hl.1 (Nat.le_of_ble_eq_true rfl) ⟨Nat.le_refl _, Nat.le_refl _⟩ dX1_prove_51 (fun r11 S12 H locs h hw => ?_)
      refine lv_if_eq (pc := 54) (tgt := 68) hx hb dX1_prove_54 rfl (fun c13 => ?_) (fun c13 => ?_)
      · have h := h.1 c13
        exact kX1_prove_68 X hml hr hlk ih _ _ _ _ _ _ h hw (lv_sub hl [0, 1, 2] rfl)
      · have h := h.2 c13
        refine lv_aload_n (pc := 57) hx hb dX1_prove_57 rfl (lv_at hl 0 rfl) ?_
        refine mg12 (pc := 58) X hw dX1_prove_58 ?_
        refine lv_if_eq (pc := 61) (tgt := 68) hx hb dX1_prove_61 rfl (fun c14 => ?_) (fun c14 => ?_)
        · have h := h.1 c14
          exact kX1_prove_68 X hml hr hlk ih _ _ _ _ _ _ h hw (lv_sub hl [0, 1, 2] rfl)
        · have h := h.2 c14
          refine lv_iconst (pc := 64) (v := (1 : Int32)) hx hb dX1_prove_64 (by decide) ?_
          refine lv_goto (pc := 65) (tgt := 69) hx hb dX1_prove_65 rfl ?_
          exact kX1_prove_69 X hml hr hlk ih _ _ _ _ _ _ _ h hw (lv_sub hl [0, 1, 2] rfl)
theorem kX1_prove_31 {p : Program} {l : Launch} {e : Env} {s : State} {m : MethodId} {args : Array Value} {below : List Frame} {meth : Method} {c : Code} {G : gG} {h0 : Nat} {ad : Nat → Nat} {post : Int32 → MS → Prop} (X : mX G h0 ad p s m args c cX1_prove) (hml : c.maxLocals = 4) (hr : meth.sig.returnType = (some .int)) (hlk : meth.locks = false) : ∀ (x1 : Int32) (x2 : Int32) (v0 : Int32) (S : MS) (H : Heap) (locs : List Loc) (ls : Array Slot), wX1_prove_31 post x1 x2 v0 S → mH G h0 ad s S H locs → lv_has ls 4 [(0, .ref h0), (1, .int x1), (2, .int x2)] → W p l e ⟨7, 0, 0, 152⟩ s m args below meth c H locs 0 0 (MQ below (gQ vI post (mBw G h0 ad) (mAd h0 ad)) args s 0 0 (mAd h0 ad)) (F0 m 31 ls [.int v0]) := by
  have hx := X.1
  have hb := X.2.1
  have hown := X.2.2.1
  have hts := X.2.2.2.1
  intro x1 x2 v0 S H locs ls h hw hl
  unfold wX1_prove_31 at h
  refine lv_istore_n (pc := 31) (lv' := [(3, .int v0), (0, .ref h0), (1, .int x1), (2, .int x2)]) hx hb dX1_prove_31 rfl hl (by decide) rfl (fun ls hl => ?_)
  obtain ⟨k, h⟩ := h
  exact kX1_prove_32 X hml hr hlk  k _ _ _ _ _ _ _ h hw (lv_sub hl [1, 2, 3, 0] rfl)
theorem kX1_prove_30 {p : Program} {l : Launch} {e : Env} {s : State} {m : MethodId} {args : Array Value} {below : List Frame} {meth : Method} {c : Code} {G : gG} {h0 : Nat} {ad : Nat → Nat} {post : Int32 → MS → Prop} (X : mX G h0 ad p s m args c cX1_prove) (hml : c.maxLocals = 4) (hr : meth.sig.returnType = (some .int)) (hlk : meth.locks = false) : ∀ (x1 : Int32) (x2 : Int32) (S : MS) (H : Heap) (locs : List Loc) (ls : Array Slot), wX1_prove_30 post x1 x2 S → mH G h0 ad s S H locs → lv_has ls 4 [(0, .ref h0), (1, .int x1), (2, .int x2)] → W p l e ⟨7, 0, 0, 152⟩ s m args below meth c H locs 0 0 (MQ below (gQ vI post (mBw G h0 ad) (mAd h0 ad)) args s 0 0 (mAd h0 ad)) (F0 m 30 ls []) := by
  have hx := X.1
  have hb := X.2.1
  have hown := X.2.2.1
  have hts := X.2.2.2.1
  intro x1 x2 S H locs ls h hw hl
  unfold wX1_prove_30 at h
  refine lv_iconst (pc := 30) (v := (0 : Int32)) hx hb dX1_prove_30 (by decide) ?_
  exact kX1_prove_31 X hml hr hlk  _ _ _ _ _ _ _ h hw (lv_sub hl [0, 1, 2] rfl)
theorem tX1_prove {l : Launch} {G : gG} {h0 : Nat} {ad : Nat → Nat} (hd : mOk G h0 ad) {post : Int32 → MS → Prop} {S : MS} {x1 : Int32} (h : wX1_prove post S x1) : Met l yX1_prove (ws_ yX1_prove cX1_prove 4 (some .int)) ⟨7, 0, 0, 152⟩ (va_Pc (.ref h0 :: [.int x1]) (fun U => mBw G h0 ad S U.heap ∧ gK G U)) (gQ vI post (mBw G h0 ad) (mAd h0 ad)) 0 0 (mAd h0 ad) := by
  refine m_ofW (by decide) rfl hd (Nat.le_of_ble_eq_true rfl) (fun p e s m below meth c ls X hml hr hlk hw hl => ?_)
  have hl : lv_has ls 4 [(0, .ref h0), (1, .int x1)] := hl
  have hx := X.1
  have hb := X.2.1
  have hown := X.2.2.1
  have hts := X.2.2.2.1
  unfold wX1_prove at h
  refine lv_aload_n (pc := 0) hx hb dX1_prove_0 rfl (lv_at hl 0 rfl) ?_
  refine uX1_begins (pc := 1) X hml hw h ⟨Nat.le_of_ble_eq_true rfl, Nat.le_of_ble_eq_true rfl⟩ hl.1 (Nat.le_of_ble_eq_true rfl) ⟨Nat.le_refl _, Nat.le_refl _⟩ dX1_prove_1 (fun _ S2 H locs h hw => ?_)
  refine lv_aload_n (pc := 4) hx hb dX1_prove_4 rfl (lv_at hl 0 rfl) ?_
  refine lv_iconst (pc := 5) (v := (0 : Int32)) hx hb dX1_prove_5 (by decide) ?_
  refine mp32 (pc := 6) X hw dX1_prove_6 (fun H locs hw => ?_)
  refine lv_aload_n (pc := 9) hx hb dX1_prove_9 rfl (lv_at hl 0 rfl) ?_
  refine lv_iload_n (pc := 10) hx hb dX1_prove_10 rfl (lv_at hl 1 rfl) ?_
  refine uX1_isForm (pc := 11) X hml hw h ⟨Nat.le_of_ble_eq_true rfl, Nat.le_of_ble_eq_true rfl⟩ hl.1 (Nat.le_of_ble_eq_true rfl) ⟨Nat.le_refl _, Nat.le_refl _⟩ dX1_prove_11 (fun r3 S4 H locs h hw => ?_)
  refine lv_istore_n (pc := 14) (lv' := [(2, .int r3), (0, .ref h0), (1, .int x1)]) hx hb dX1_prove_14 rfl hl (by decide) rfl (fun ls hl => ?_)
  refine lv_iload_n (pc := 15) hx hb dX1_prove_15 rfl (lv_at hl 0 rfl) ?_
  refine lv_if_eq (pc := 16) (tgt := 30) hx hb dX1_prove_16 rfl (fun c5 => ?_) (fun c5 => ?_)
  · have h := h.1 c5
    exact kX1_prove_30 X hml hr hlk  _ _ _ _ _ _ h hw (lv_sub hl [1, 2, 0] rfl)
  · have h := h.2 c5
    refine lv_aload_n (pc := 19) hx hb dX1_prove_19 rfl (lv_at hl 1 rfl) ?_
    refine mg12 (pc := 20) X hw dX1_prove_20 ?_
    refine lv_if_eq (pc := 23) (tgt := 30) hx hb dX1_prove_23 rfl (fun c15 => ?_) (fun c15 => ?_)
    · have h := h.1 c15
      exact kX1_prove_30 X hml hr hlk  _ _ _ _ _ _ h hw (lv_sub hl [1, 2, 0] rfl)
    · have h := h.2 c15
      refine lv_iconst (pc := 26) (v := (1 : Int32)) hx hb dX1_prove_26 (by decide) ?_
      refine lv_goto (pc := 27) (tgt := 31) hx hb dX1_prove_27 rfl ?_
      exact kX1_prove_31 X hml hr hlk  _ _ _ _ _ _ _ h hw (lv_sub hl [1, 2, 0] rfl)

def wX1_readProduct_9 (rc : (Int32 → MS → Prop) → MS → Prop) (post : Int32 → MS → Prop) : Nat → MS → Prop
  | 0, _ => False
  | n + 1, S => wX1_isSign (fun r4 S5 => ((r4 = (0 : Int32)) → (post (1 : Int32) S5)) ∧ (¬ (r4 = (0 : Int32)) → (wX1_next (fun _ S8 => wX1_readPower rc (fun r9 S10 => ((r9 = (0 : Int32)) → (post (0 : Int32) S10)) ∧ (¬ (r9 = (0 : Int32)) → (wX1_puts (fun _ S13 => wX1_readProduct_9 rc post n S13) S10 (42 : Int32) (0 : Int32)))) S8) S5))) S (42 : Int32)
def wX1_readProduct (rc : (Int32 → MS → Prop) → MS → Prop) (post : Int32 → MS → Prop) (S : MS) : Prop :=
  wX1_readPower rc (fun r1 S2 => ((r1 = (0 : Int32)) → (post (0 : Int32) S2)) ∧ (¬ (r1 = (0 : Int32)) → ((∃ k, wX1_readProduct_9 rc post k S2)))) S
theorem kX1_readProduct_9 {p : Program} {l : Launch} {e : Env} {s : State} {m : MethodId} {args : Array Value} {below : List Frame} {meth : Method} {c : Code} {G : gG} {h0 : Nat} {ad : Nat → Nat} {d : Nat} {rc : (Int32 → MS → Prop) → MS → Prop} {post : Int32 → MS → Prop} (X : mX G h0 ad p s m args c cX1_readProduct) (hml : c.maxLocals = 1) (hr : meth.sig.returnType = (some .boolean)) (hlk : meth.locks = false) (hI : ∀ {post : Int32 → MS → Prop} {S : MS}, rc post S → Met l yX1_readSum (ws_ yX1_readSum cX1_readSum 2 (some .boolean)) ⟨20 + 4 * d, 0, 0, 1000 + 82 * d⟩ (va_Pc (.ref h0 :: []) (fun U => mBw G h0 ad S U.heap ∧ gK G U)) (gQ vI post (mBw G h0 ad) (mAd h0 ad)) 0 0 (mAd h0 ad)) : ∀ (n : Nat) (S : MS) (H : Heap) (locs : List Loc) (ls : Array Slot), wX1_readProduct_9 rc post n S → mH G h0 ad s S H locs → lv_has ls 1 [(0, .ref h0)] → W p l e ⟨23 + 4 * d, 0, 0, 1062 + 82 * d⟩ s m args below meth c H locs 0 0 (MQ below (gQ vI post (mBw G h0 ad) (mAd h0 ad)) args s 0 0 (mAd h0 ad)) (F0 m 9 ls []) := by
  have hx := X.1
  have hb := X.2.1
  have hown := X.2.2.1
  have hts := X.2.2.2.1
  intro n
  induction n with
  | zero =>
    intro S H locs ls h
    exact False.elim h
  | succ n ih =>
    intro S H locs ls h hw hl
    unfold wX1_readProduct_9 at h
    refine lv_aload_n (pc := 9) hx hb dX1_readProduct_9 rfl (lv_at hl 0 rfl) ?_
    refine lv_bipush (pc := 10) (v := (42 : Int32)) hx hb dX1_readProduct_10 (by decide) ?_
    refine uX1_isSign (pc := 12) X hml hw h ⟨show 0 + 1 ≤ 23 + 4 * d by omega, show 8 + (2 + 11) + (0) ≤ 1062 + 82 * d by omega⟩ hl.1 (Nat.le_of_ble_eq_true rfl) ⟨Nat.le_refl _, Nat.le_refl _⟩ dX1_readProduct_12 (fun r4 S5 H locs h hw => ?_)
    refine lv_if_eq (pc := 15) (tgt := 41) hx hb dX1_readProduct_15 rfl (fun c6 => ?_) (fun c6 => ?_)
    · have h := h.1 c6
      refine lv_iconst (pc := 41) (v := (1 : Int32)) hx hb dX1_readProduct_41 (by decide) ?_
      exact W.zret (pc := 42) hx hb hr rfl (fun t ht hW => m_ret (val := vI) hw h ht) hw.2.2.2 dX1_readProduct_42 hlk
    · have h := h.2 c6
      refine lv_aload_n (pc := 18) hx hb dX1_readProduct_18 rfl (lv_at hl 0 rfl) ?_
      refine uX1_next (pc := 19) X hml hw h ⟨show 1 + 1 ≤ 23 + 4 * d by omega, show 8 + (2 + 11) + (25) ≤ 1062 + 82 * d by omega⟩ hl.1 (Nat.le_of_ble_eq_true rfl) ⟨Nat.le_refl _, Nat.le_refl _⟩ dX1_readProduct_19 (fun _ S8 H locs h hw => ?_)
      refine lv_aload_n (pc := 22) hx hb dX1_readProduct_22 rfl (lv_at hl 0 rfl) ?_
      refine uX1_readPower (pc := 23) X hml hw hI h ⟨show 22 + 4 * d + 1 ≤ 23 + 4 * d by omega, show 8 + (1 + 11) + (1042 + 82 * d) ≤ 1062 + 82 * d by omega⟩ hl.1 (Nat.le_of_ble_eq_true rfl) ⟨Nat.le_refl _, Nat.le_refl _⟩ dX1_readProduct_23 (fun r9 S10 H locs h hw => ?_)
      refine lv_if_ne (pc := 26) (tgt := 31) hx hb dX1_readProduct_26 rfl (fun c11 => ?_) (fun c11 => ?_)
      · have h := h.2 c11
        refine lv_aload_n (pc := 31) hx hb dX1_readProduct_31 rfl (lv_at hl 0 rfl) ?_
        refine lv_bipush (pc := 32) (v := (42 : Int32)) hx hb dX1_readProduct_32 (by decide) ?_
        refine lv_iconst (pc := 34) (v := (0 : Int32)) hx hb dX1_readProduct_34 (by decide) ?_
        refine uX1_puts (pc := 35) X hml hw h ⟨show 0 + 1 ≤ 23 + 4 * d by omega, show 8 + (3 + 11) + (0) ≤ 1062 + 82 * d by omega⟩ hl.1 (Nat.le_of_ble_eq_true rfl) ⟨Nat.le_refl _, Nat.le_refl _⟩ dX1_readProduct_35 (fun _ S13 H locs h hw => ?_)
        refine lv_goto (pc := 38) (tgt := 9) hx hb dX1_readProduct_38 rfl ?_
        exact ih  _ _ _ _ h hw (lv_sub hl [0] rfl)
      · have h := h.1 c11
        refine lv_iconst (pc := 29) (v := (0 : Int32)) hx hb dX1_readProduct_29 (by decide) ?_
        exact W.zret (pc := 30) hx hb hr rfl (fun t ht hW => m_ret (val := vI) hw h ht) hw.2.2.2 dX1_readProduct_30 hlk
theorem tX1_readProduct {l : Launch} {G : gG} {h0 : Nat} {ad : Nat → Nat} {d : Nat} {rc : (Int32 → MS → Prop) → MS → Prop} (hd : mOk G h0 ad) (hI : ∀ {post : Int32 → MS → Prop} {S : MS}, rc post S → Met l yX1_readSum (ws_ yX1_readSum cX1_readSum 2 (some .boolean)) ⟨20 + 4 * d, 0, 0, 1000 + 82 * d⟩ (va_Pc (.ref h0 :: []) (fun U => mBw G h0 ad S U.heap ∧ gK G U)) (gQ vI post (mBw G h0 ad) (mAd h0 ad)) 0 0 (mAd h0 ad)) {post : Int32 → MS → Prop} {S : MS} (h : wX1_readProduct rc post S) : Met l yX1_readProduct (ws_ yX1_readProduct cX1_readProduct 1 (some .boolean)) ⟨23 + 4 * d, 0, 0, 1062 + 82 * d⟩ (va_Pc (.ref h0 :: []) (fun U => mBw G h0 ad S U.heap ∧ gK G U)) (gQ vI post (mBw G h0 ad) (mAd h0 ad)) 0 0 (mAd h0 ad) := by
  refine m_ofW (by decide) rfl hd (Nat.le_of_ble_eq_true rfl) (fun p e s m below meth c ls X hml hr hlk hw hl => ?_)
  have hl : lv_has ls 1 [(0, .ref h0)] := hl
  have hx := X.1
  have hb := X.2.1
  have hown := X.2.2.1
  have hts := X.2.2.2.1
  unfold wX1_readProduct at h
  refine lv_aload_n (pc := 0) hx hb dX1_readProduct_0 rfl (lv_at hl 0 rfl) ?_
  refine uX1_readPower (pc := 1) X hml hw hI h ⟨show 22 + 4 * d + 1 ≤ 23 + 4 * d by omega, show 8 + (1 + 11) + (1042 + 82 * d) ≤ 1062 + 82 * d by omega⟩ hl.1 (Nat.le_of_ble_eq_true rfl) ⟨Nat.le_refl _, Nat.le_refl _⟩ dX1_readProduct_1 (fun r1 S2 H locs h hw => ?_)
  refine lv_if_ne (pc := 4) (tgt := 9) hx hb dX1_readProduct_4 rfl (fun c3 => ?_) (fun c3 => ?_)
  · have h := h.2 c3
    obtain ⟨k, h⟩ := h
    exact kX1_readProduct_9 X hml hr hlk hI  k  _ _ _ _ h hw (lv_sub hl [0] rfl)
  · have h := h.1 c3
    refine lv_iconst (pc := 7) (v := (0 : Int32)) hx hb dX1_readProduct_7 (by decide) ?_
    exact W.zret (pc := 8) hx hb hr rfl (fun t ht hW => m_ret (val := vI) hw h ht) hw.2.2.2 dX1_readProduct_8 hlk
theorem uX1_readProduct {p : Program} {l : Launch} {e : Env} {R : Room} {s : State} {m : MethodId} {args : Array Value} {below : List Frame} {meth : Method} {c : Code} {H : Heap} {locs : List Loc} {cells slots : Nat} {Q : Jvm.State → Prop} {cc : ByteArray} {pc : Nat} {ls : Array Slot} {rest : List Value} {G : gG} {h0 : Nat} {ad : Nat → Nat} {d : Nat} {rc : (Int32 → MS → Prop) → MS → Prop} {post : Int32 → MS → Prop} {S : MS} {nL : Nat} (X : mX G h0 ad p s m args c cc) (hml : c.maxLocals = nL) (hw : mH G h0 ad s S H locs) (hI : ∀ {post : Int32 → MS → Prop} {S : MS}, rc post S → Met l yX1_readSum (ws_ yX1_readSum cX1_readSum 2 (some .boolean)) ⟨20 + 4 * d, 0, 0, 1000 + 82 * d⟩ (va_Pc (.ref h0 :: []) (fun U => mBw G h0 ad S U.heap ∧ gK G U)) (gQ vI post (mBw G h0 ad) (mAd h0 ad)) 0 0 (mAd h0 ad)) (h : wX1_readProduct rc post S) (hR : 23 + 4 * d + 1 ≤ R.frames ∧ 8 + (1 + 11) + (1062 + 82 * d) ≤ R.locals) (hsz : ls.size = nL) (hr : (rest.map fun v => v.category).sum ≤ 8) (hc : cells ≤ R.cells ∧ slots ≤ R.slots) (dd : decode cc pc = .ok (.invokevirtual 341, 3)) (kk : ∀ (r : Int32) (S1 : MS) (H1 : Heap) (locs1 : List Loc), post r S1 → mH G h0 ad s S1 H1 locs1 → W p l e R s m args below meth c H1 locs1 cells slots Q (F0 m (pc + 3) ls (.int r :: rest))) : W p l e R s m args below meth c H locs cells slots Q (F0 m pc ls (.ref h0 :: rest)) :=
  m_call (val := vI) (post := post) (As := []) X hml hw (tX1_readProduct X.2.2.2.2.2.1 hI h) (lw_V q2340 q2342 qs83 q105 q2343) ⟨rfl, by decide, by decide, (by decide +kernel : (parseMethodDescriptor yX1_readProduct.desc).map (fun d => d.parameters.length) = some 0)⟩ hR hsz hr hc dd rfl kk

def wX1_isBroken_30 (post : Int32 → MS → Prop) (S : MS) : Prop :=
  post (1 : Int32) S
def wX1_isBroken (post : Int32 → MS → Prop) (S : MS) : Prop :=
  wX1_sideTells (fun r1 S2 => wX1_sideTells (fun r3 S4 => (((S4.1 44) = (0 : Int32)) → (((r1 = r3) → (post (0 : Int32) S4)) ∧ (¬ (r1 = r3) → (wX1_isBroken_30 post S4)))) ∧ (¬ ((S4.1 44) = (0 : Int32)) → (wX1_isBroken_30 post S4))) S2 (1 : Int32)) (mI S 44 (0 : Int32)) (0 : Int32)
theorem kX1_isBroken_30 {p : Program} {l : Launch} {e : Env} {s : State} {m : MethodId} {args : Array Value} {below : List Frame} {meth : Method} {c : Code} {G : gG} {h0 : Nat} {ad : Nat → Nat} {post : Int32 → MS → Prop} (X : mX G h0 ad p s m args c cX1_isBroken) (hml : c.maxLocals = 5) (hr : meth.sig.returnType = (some .boolean)) (hlk : meth.locks = false) : ∀ (S : MS) (H : Heap) (locs : List Loc) (ls : Array Slot), wX1_isBroken_30 post S → mH G h0 ad s S H locs → lv_has ls 5 [] → W p l e ⟨3, 0, 0, 76⟩ s m args below meth c H locs 0 0 (MQ below (gQ vI post (mBw G h0 ad) (mAd h0 ad)) args s 0 0 (mAd h0 ad)) (F0 m 30 ls []) := by
  have hx := X.1
  have hb := X.2.1
  have hown := X.2.2.1
  have hts := X.2.2.2.1
  intro S H locs ls h hw hl
  unfold wX1_isBroken_30 at h
  refine lv_iconst (pc := 30) (v := (1 : Int32)) hx hb dX1_isBroken_30 (by decide) ?_
  refine lv_goto (pc := 31) (tgt := 35) hx hb dX1_isBroken_31 rfl ?_
  exact W.zret (pc := 35) hx hb hr rfl (fun t ht hW => m_ret (val := vI) hw h ht) hw.2.2.2 dX1_isBroken_35 hlk
theorem tX1_isBroken {l : Launch} {G : gG} {h0 : Nat} {ad : Nat → Nat} (hd : mOk G h0 ad) {post : Int32 → MS → Prop} {S : MS} (h : wX1_isBroken post S) : Met l yX1_isBroken (ws_ yX1_isBroken cX1_isBroken 5 (some .boolean)) ⟨3, 0, 0, 76⟩ (va_Pc (.ref h0 :: []) (fun U => mBw G h0 ad S U.heap ∧ gK G U)) (gQ vI post (mBw G h0 ad) (mAd h0 ad)) 0 0 (mAd h0 ad) := by
  refine m_ofW (by decide) rfl hd (Nat.le_of_ble_eq_true rfl) (fun p e s m below meth c ls X hml hr hlk hw hl => ?_)
  have hl : lv_has ls 5 [(0, .ref h0)] := hl
  have hx := X.1
  have hb := X.2.1
  have hown := X.2.2.1
  have hts := X.2.2.2.1
  unfold wX1_isBroken at h
  refine lv_aload_n (pc := 0) hx hb dX1_isBroken_0 rfl (lv_at hl 0 rfl) ?_
  refine lv_iconst (pc := 1) (v := (0 : Int32)) hx hb dX1_isBroken_1 (by decide) ?_
  refine mp44 (pc := 2) X hw isB_0 dX1_isBroken_2 (fun H locs hw => ?_)
  refine lv_aload_n (pc := 5) hx hb dX1_isBroken_5 rfl (lv_at hl 0 rfl) ?_
  refine lv_iconst (pc := 6) (v := (0 : Int32)) hx hb dX1_isBroken_6 (by decide) ?_
  refine uX1_sideTells (pc := 7) X hml hw h ⟨Nat.le_of_ble_eq_true rfl, Nat.le_of_ble_eq_true rfl⟩ hl.1 (Nat.le_of_ble_eq_true rfl) ⟨Nat.le_refl _, Nat.le_refl _⟩ dX1_isBroken_7 (fun r1 S2 H locs h hw => ?_)
  refine lv_lstore_n (pc := 10) (lv' := [(1, .long r1), (0, .ref h0)]) hx hb dX1_isBroken_10 rfl hl (by decide) rfl (fun ls hl => ?_)
  refine lv_aload_n (pc := 11) hx hb dX1_isBroken_11 rfl (lv_at hl 1 rfl) ?_
  refine lv_iconst (pc := 12) (v := (1 : Int32)) hx hb dX1_isBroken_12 (by decide) ?_
  refine uX1_sideTells (pc := 13) X hml hw h ⟨Nat.le_of_ble_eq_true rfl, Nat.le_of_ble_eq_true rfl⟩ hl.1 (Nat.le_of_ble_eq_true rfl) ⟨Nat.le_refl _, Nat.le_refl _⟩ dX1_isBroken_13 (fun r3 S4 H locs h hw => ?_)
  refine lv_lstore_n (pc := 16) (lv' := [(3, .long r3), (1, .long r1), (0, .ref h0)]) hx hb dX1_isBroken_16 rfl hl (by decide) rfl (fun ls hl => ?_)
  refine lv_aload_n (pc := 17) hx hb dX1_isBroken_17 rfl (lv_at hl 2 rfl) ?_
  refine mg44 (pc := 18) X hw dX1_isBroken_18 ?_
  refine lv_if_ne (pc := 21) (tgt := 30) hx hb dX1_isBroken_21 rfl (fun c5 => ?_) (fun c5 => ?_)
  · have h := h.2 c5
    exact kX1_isBroken_30 X hml hr hlk   _ _ _ _ h hw (lv_sub hl [] rfl)
  · have h := h.1 c5
    refine lv_lload_n (pc := 24) hx hb dX1_isBroken_24 rfl (lv_at hl 1 rfl) ?_
    refine lv_lload_n (pc := 25) hx hb dX1_isBroken_25 rfl (lv_at hl 0 rfl) ?_
    refine W.lcmp (pc := 26) hx hb dX1_isBroken_26 ?_
    refine lv_if_eq (pc := 27) (tgt := 34) hx hb dX1_isBroken_27 rfl (fun c6 => ?_) (fun c6 => ?_)
    · have h := h.1 ((lg_cmp_eq _ _).mp c6)
      refine lv_iconst (pc := 34) (v := (0 : Int32)) hx hb dX1_isBroken_34 (by decide) ?_
      exact W.zret (pc := 35) hx hb hr rfl (fun t ht hW => m_ret (val := vI) hw h ht) hw.2.2.2 dX1_isBroken_35 hlk
    · have h := h.2 (fun z => c6 ((lg_cmp_eq _ _).mpr z))
      exact kX1_isBroken_30 X hml hr hlk   _ _ _ _ h hw (lv_sub hl [] rfl)
theorem uX1_isBroken {p : Program} {l : Launch} {e : Env} {R : Room} {s : State} {m : MethodId} {args : Array Value} {below : List Frame} {meth : Method} {c : Code} {H : Heap} {locs : List Loc} {cells slots : Nat} {Q : Jvm.State → Prop} {cc : ByteArray} {pc : Nat} {ls : Array Slot} {rest : List Value} {G : gG} {h0 : Nat} {ad : Nat → Nat} {post : Int32 → MS → Prop} {S : MS} {nL : Nat} (X : mX G h0 ad p s m args c cc) (hml : c.maxLocals = nL) (hw : mH G h0 ad s S H locs) (h : wX1_isBroken post S) (hR : 3 + 1 ≤ R.frames ∧ 8 + (5 + 11) + 76 ≤ R.locals) (hsz : ls.size = nL) (hr : (rest.map fun v => v.category).sum ≤ 8) (hc : cells ≤ R.cells ∧ slots ≤ R.slots) (d : decode cc pc = .ok (.invokevirtual 403, 3)) (kk : ∀ (r : Int32) (S1 : MS) (H1 : Heap) (locs1 : List Loc), post r S1 → mH G h0 ad s S1 H1 locs1 → W p l e R s m args below meth c H1 locs1 cells slots Q (F0 m (pc + 3) ls (.int r :: rest))) : W p l e R s m args below meth c H locs cells slots Q (F0 m pc ls (.ref h0 :: rest)) :=
  m_call (val := vI) (post := post) (As := []) X hml hw (tX1_isBroken X.2.2.2.2.2.1 h) (lw_V q2365 q2367 qs87 q105 q2368) ⟨rfl, by decide, by decide, (by decide +kernel : (parseMethodDescriptor yX1_isBroken.desc).map (fun d => d.parameters.length) = some 0)⟩ hR hsz hr hc d rfl kk

def wX1_explained_94 (K49 : Int32 → Int32 → Int32 → Int32 → MS → Prop) (post : Int32 → MS → Prop) (x3 : Int32) (x4 : Int32) (x6 : Int32) (v0 : Int32) (v1 : Int32) (S : MS) : Prop :=
  wX1_one (fun r16 => K49 x3 x4 (v1 + r16) (x6 + (1 : Int32)) S) v0
def wX1_explained_93 (K49 : Int32 → Int32 → Int32 → Int32 → MS → Prop) (post : Int32 → MS → Prop) (x3 : Int32) (x4 : Int32) (x6 : Int32) (v0 : Int32) (S : MS) : Prop :=
  wX1_explained_94 K49 post x3 x4 x6 (0 : Int32) v0 S
def wX1_explained_49 (post : Int32 → MS → Prop) : Nat → Int32 → Int32 → Int32 → Int32 → MS → Prop
  | 0, _, _, _, _, _ => False
  | n + 1, x3, x4, x5, x6, S => ((x3 < x6) → (post x5 S)) ∧ (¬ (x3 < x6) → (wX1_waysOf (fun r13 S14 => ((r13 = (0 : Int64)) → (¬ x4 = 0 ∧ (¬ x4 = 0 ∧ (vp_in (((x6 - x6 / x4 * x4) + x4) - ((x6 - x6 / x4 * x4) + x4) / x4 * x4) 360 ∧ ((((S14.2.2.2 46 (((x6 - x6 / x4 * x4) + x4) - ((x6 - x6 / x4 * x4) + x4) / x4 * x4).toNatClampNeg) = (0 : Int64)) → (wX1_explained_94 (fun x3 x4 x5 x6 S => wX1_explained_49 post n x3 x4 x5 x6 S) post x3 x4 x6 (1 : Int32) x5 S14)) ∧ (¬ ((S14.2.2.2 46 (((x6 - x6 / x4 * x4) + x4) - ((x6 - x6 / x4 * x4) + x4) / x4 * x4).toNatClampNeg) = (0 : Int64)) → (wX1_explained_93 (fun x3 x4 x5 x6 S => wX1_explained_49 post n x3 x4 x5 x6 S) post x3 x4 x6 x5 S14))))))) ∧ (¬ (r13 = (0 : Int64)) → (wX1_explained_93 (fun x3 x4 x5 x6 S => wX1_explained_49 post n x3 x4 x5 x6 S) post x3 x4 x6 x5 S14))) S x6))
def wX1_explained (post : Int32 → MS → Prop) (S : MS) (x1 : Int32) (x2 : Int32) (x3 : Int32) (x4 : Int32) : Prop :=
  wX1_isForm (fun r1 S2 => ((r1 = (0 : Int32)) → (post (-1 : Int32) S2)) ∧ (¬ (r1 = (0 : Int32)) → (wX1_isSpan (fun r4 => ((r4 = (0 : Int32)) → (post (-1 : Int32) S2)) ∧ (¬ (r4 = (0 : Int32)) → (wX1_isIn (fun r6 => ((r6 = (0 : Int32)) → (post (-1 : Int32) S2)) ∧ (¬ (r6 = (0 : Int32)) → (wX1_lays (fun _ S9 => wX1_laysClasses (fun _ S11 => (∃ k, wX1_explained_49 post k x3 x4 (0 : Int32) x2 S11)) S9 x1 x4) S2 x1))) x4.toInt64 (1 : Int64) (60 : Int64)))) x2 x3))) S x1
theorem kX1_explained_94 {p : Program} {l : Launch} {e : Env} {s : State} {m : MethodId} {args : Array Value} {below : List Frame} {meth : Method} {c : Code} {G : gG} {h0 : Nat} {ad : Nat → Nat} {K49 : Int32 → Int32 → Int32 → Int32 → MS → Prop} {post : Int32 → MS → Prop} (X : mX G h0 ad p s m args c cX1_explained) (hml : c.maxLocals = 7) (hr : meth.sig.returnType = (some .int)) (hlk : meth.locks = false) (hK49 : ∀ (x3 : Int32) (x4 : Int32) (x5 : Int32) (x6 : Int32) (S : MS) (H : Heap) (locs : List Loc) (ls : Array Slot), K49 x3 x4 x5 x6 S → mH G h0 ad s S H locs → lv_has ls 7 [(0, .ref h0), (3, .int x3), (4, .int x4), (5, .int x5), (6, .int x6)] → W p l e ⟨4, 0, 0, 101⟩ s m args below meth c H locs 0 0 (MQ below (gQ vI post (mBw G h0 ad) (mAd h0 ad)) args s 0 0 (mAd h0 ad)) (F0 m 49 ls [])) : ∀ (x3 : Int32) (x4 : Int32) (x6 : Int32) (v0 : Int32) (v1 : Int32) (S : MS) (H : Heap) (locs : List Loc) (ls : Array Slot), wX1_explained_94 K49 post x3 x4 x6 v0 v1 S → mH G h0 ad s S H locs → lv_has ls 7 [(0, .ref h0), (3, .int x3), (4, .int x4), (6, .int x6)] → W p l e ⟨4, 0, 0, 101⟩ s m args below meth c H locs 0 0 (MQ below (gQ vI post (mBw G h0 ad) (mAd h0 ad)) args s 0 0 (mAd h0 ad)) (F0 m 94 ls [.int v0, .int v1]) := by
  have hx := X.1
  have hb := X.2.1
  have hown := X.2.2.1
  have hts := X.2.2.2.1
  intro x3 x4 x6 v0 v1 S H locs ls h hw hl
  unfold wX1_explained_94 at h
  refine uX1_one (pc := 94) ⟨hx, hb, hml, hown, hts⟩ h ⟨Nat.le_of_ble_eq_true rfl, Nat.le_of_ble_eq_true rfl⟩ hl.1 (Nat.le_of_ble_eq_true rfl) ⟨Nat.le_refl _, Nat.le_refl _⟩ dX1_explained_94 (fun r16 h => ?_)
  refine lv_iadd (pc := 97) hx hb dX1_explained_97 ?_
  refine lv_istore (pc := 98) (lv' := [(5, .int (v1 + r16)), (0, .ref h0), (3, .int x3), (4, .int x4), (6, .int x6)]) hx hb dX1_explained_98 hl (by decide) rfl (fun ls hl => ?_)
  refine lv_iinc (pc := 100) (v := x6 + (1 : Int32)) (lv' := [(6, .int (x6 + (1 : Int32))), (5, .int (v1 + r16)), (0, .ref h0), (3, .int x3), (4, .int x4)]) hx hb dX1_explained_100 hl (k := 4) rfl rfl (by decide) rfl (fun ls hl => ?_)
  refine lv_goto (pc := 103) (tgt := 49) hx hb dX1_explained_103 rfl ?_
  exact hK49 _ _ _ _ _ _ _ _ h hw (lv_sub hl [2, 3, 4, 1, 0] rfl)
theorem kX1_explained_93 {p : Program} {l : Launch} {e : Env} {s : State} {m : MethodId} {args : Array Value} {below : List Frame} {meth : Method} {c : Code} {G : gG} {h0 : Nat} {ad : Nat → Nat} {K49 : Int32 → Int32 → Int32 → Int32 → MS → Prop} {post : Int32 → MS → Prop} (X : mX G h0 ad p s m args c cX1_explained) (hml : c.maxLocals = 7) (hr : meth.sig.returnType = (some .int)) (hlk : meth.locks = false) (hK49 : ∀ (x3 : Int32) (x4 : Int32) (x5 : Int32) (x6 : Int32) (S : MS) (H : Heap) (locs : List Loc) (ls : Array Slot), K49 x3 x4 x5 x6 S → mH G h0 ad s S H locs → lv_has ls 7 [(0, .ref h0), (3, .int x3), (4, .int x4), (5, .int x5), (6, .int x6)] → W p l e ⟨4, 0, 0, 101⟩ s m args below meth c H locs 0 0 (MQ below (gQ vI post (mBw G h0 ad) (mAd h0 ad)) args s 0 0 (mAd h0 ad)) (F0 m 49 ls [])) : ∀ (x3 : Int32) (x4 : Int32) (x6 : Int32) (v0 : Int32) (S : MS) (H : Heap) (locs : List Loc) (ls : Array Slot), wX1_explained_93 K49 post x3 x4 x6 v0 S → mH G h0 ad s S H locs → lv_has ls 7 [(0, .ref h0), (3, .int x3), (4, .int x4), (6, .int x6)] → W p l e ⟨4, 0, 0, 101⟩ s m args below meth c H locs 0 0 (MQ below (gQ vI post (mBw G h0 ad) (mAd h0 ad)) args s 0 0 (mAd h0 ad)) (F0 m 93 ls [.int v0]) := by
  have hx := X.1
  have hb := X.2.1
  have hown := X.2.2.1
  have hts := X.2.2.2.1
  intro x3 x4 x6 v0 S H locs ls h hw hl
  unfold wX1_explained_93 at h
  refine lv_iconst (pc := 93) (v := (0 : Int32)) hx hb dX1_explained_93 (by decide) ?_
  exact kX1_explained_94 X hml hr hlk hK49 _ _ _ _ _ _ _ _ _ h hw (lv_sub hl [0, 1, 2, 3] rfl)
theorem kX1_explained_49 {p : Program} {l : Launch} {e : Env} {s : State} {m : MethodId} {args : Array Value} {below : List Frame} {meth : Method} {c : Code} {G : gG} {h0 : Nat} {ad : Nat → Nat} {post : Int32 → MS → Prop} (X : mX G h0 ad p s m args c cX1_explained) (hml : c.maxLocals = 7) (hr : meth.sig.returnType = (some .int)) (hlk : meth.locks = false) : ∀ (n : Nat) (x3 : Int32) (x4 : Int32) (x5 : Int32) (x6 : Int32) (S : MS) (H : Heap) (locs : List Loc) (ls : Array Slot), wX1_explained_49 post n x3 x4 x5 x6 S → mH G h0 ad s S H locs → lv_has ls 7 [(0, .ref h0), (3, .int x3), (4, .int x4), (5, .int x5), (6, .int x6)] → W p l e ⟨4, 0, 0, 101⟩ s m args below meth c H locs 0 0 (MQ below (gQ vI post (mBw G h0 ad) (mAd h0 ad)) args s 0 0 (mAd h0 ad)) (F0 m 49 ls []) := by
  have hx := X.1
  have hb := X.2.1
  have hown := X.2.2.1
  have hts := X.2.2.2.1
  intro n
  induction n with
  | zero =>
    intro x3 x4 x5 x6 S H locs ls h
    exact False.elim h
  | succ n ih =>
    intro x3 x4 x5 x6 S H locs ls h hw hl
    unfold wX1_explained_49 at h
    refine lv_iload (pc := 49) hx hb dX1_explained_49 (lv_at hl 4 rfl) ?_
    refine lv_iload_n (pc := 51) hx hb dX1_explained_51 rfl (lv_at hl 1 rfl) ?_
    refine lv_icmp_gt (pc := 52) (tgt := 106) hx hb dX1_explained_52 rfl (fun c12 => ?_) (fun c12 => ?_)
    · have h := h.1 c12
      refine lv_iload (pc := 106) hx hb dX1_explained_106 (lv_at hl 3 rfl) ?_
      exact W.iret (pc := 108) hx hb hr (fun t ht hW => m_ret (val := vI) hw h ht) hw.2.2.2 dX1_explained_108 hlk
    · have h := h.2 c12
      refine lv_iload (pc := 55) hx hb dX1_explained_55 (lv_at hl 3 rfl) ?_
      refine lv_aload_n (pc := 57) hx hb dX1_explained_57 rfl (lv_at hl 0 rfl) ?_
      refine lv_iload (pc := 58) hx hb dX1_explained_58 (lv_at hl 4 rfl) ?_
      refine uX1_waysOf (pc := 60) X hml hw h ⟨Nat.le_of_ble_eq_true rfl, Nat.le_of_ble_eq_true rfl⟩ hl.1 (Nat.le_of_ble_eq_true rfl) ⟨Nat.le_refl _, Nat.le_refl _⟩ dX1_explained_60 (fun r13 S14 H locs h hw => ?_)
      refine lv_lconst (pc := 63) (v := (0 : Int64)) hx hb dX1_explained_63 (by decide) ?_
      refine W.lcmp (pc := 64) hx hb dX1_explained_64 ?_
      refine lv_if_ne (pc := 65) (tgt := 93) hx hb dX1_explained_65 rfl (fun c15 => ?_) (fun c15 => ?_)
      · have h := h.2 (fun z => c15 ((lg_cmp_eq _ _).mpr z))
        exact kX1_explained_93 X hml hr hlk ih _ _ _ _ _ _ _ _ h hw (lv_sub hl [0, 1, 2, 4] rfl)
      · have h := h.1 ((lg_cmp_eq _ _).mp c15)
        refine lv_aload_n (pc := 68) hx hb dX1_explained_68 rfl (lv_at hl 0 rfl) ?_
        refine mg46 (pc := 69) X hw dX1_explained_69 ?_
        refine lv_iload (pc := 72) hx hb dX1_explained_72 (lv_at hl 4 rfl) ?_
        refine lv_iload (pc := 74) hx hb dX1_explained_74 (lv_at hl 2 rfl) ?_
        obtain ⟨hne, h⟩ := h
        refine lv_irem (pc := 76) hx hb dX1_explained_76 hne ?_
        refine lv_iload (pc := 77) hx hb dX1_explained_77 (lv_at hl 2 rfl) ?_
        refine lv_iadd (pc := 79) hx hb dX1_explained_79 ?_
        refine lv_iload (pc := 80) hx hb dX1_explained_80 (lv_at hl 2 rfl) ?_
        obtain ⟨hne, h⟩ := h
        refine lv_irem (pc := 82) hx hb dX1_explained_82 hne ?_
        obtain ⟨hi, h⟩ := h
        refine ma46 (pc := 83) X hw hi dX1_explained_83 ?_
        refine lv_lconst (pc := 84) (v := (0 : Int64)) hx hb dX1_explained_84 (by decide) ?_
        refine W.lcmp (pc := 85) hx hb dX1_explained_85 ?_
        refine lv_if_ne (pc := 86) (tgt := 93) hx hb dX1_explained_86 rfl (fun c17 => ?_) (fun c17 => ?_)
        · have h := h.2 (fun z => c17 ((lg_cmp_eq _ _).mpr z))
          exact kX1_explained_93 X hml hr hlk ih _ _ _ _ _ _ _ _ h hw (lv_sub hl [0, 1, 2, 4] rfl)
        · have h := h.1 ((lg_cmp_eq _ _).mp c17)
          refine lv_iconst (pc := 89) (v := (1 : Int32)) hx hb dX1_explained_89 (by decide) ?_
          refine lv_goto (pc := 90) (tgt := 94) hx hb dX1_explained_90 rfl ?_
          exact kX1_explained_94 X hml hr hlk ih _ _ _ _ _ _ _ _ _ h hw (lv_sub hl [0, 1, 2, 4] rfl)
theorem tX1_explained {l : Launch} {G : gG} {h0 : Nat} {ad : Nat → Nat} (hd : mOk G h0 ad) {post : Int32 → MS → Prop} {S : MS} {x1 : Int32} {x2 : Int32} {x3 : Int32} {x4 : Int32} (h : wX1_explained post S x1 x2 x3 x4) : Met l yX1_explained (ws_ yX1_explained cX1_explained 7 (some .int)) ⟨4, 0, 0, 101⟩ (va_Pc (.ref h0 :: [.int x1, .int x2, .int x3, .int x4]) (fun U => mBw G h0 ad S U.heap ∧ gK G U)) (gQ vI post (mBw G h0 ad) (mAd h0 ad)) 0 0 (mAd h0 ad) := by
  refine m_ofW (by decide) rfl hd (Nat.le_of_ble_eq_true rfl) (fun p e s m below meth c ls X hml hr hlk hw hl => ?_)
  have hl : lv_has ls 7 [(0, .ref h0), (1, .int x1), (2, .int x2), (3, .int x3), (4, .int x4)] := hl
  have hx := X.1
  have hb := X.2.1
  have hown := X.2.2.1
  have hts := X.2.2.2.1
  unfold wX1_explained at h
  refine lv_aload_n (pc := 0) hx hb dX1_explained_0 rfl (lv_at hl 0 rfl) ?_
  refine lv_iload_n (pc := 1) hx hb dX1_explained_1 rfl (lv_at hl 1 rfl) ?_
  refine uX1_isForm (pc := 2) X hml hw h ⟨Nat.le_of_ble_eq_true rfl, Nat.le_of_ble_eq_true rfl⟩ hl.1 (Nat.le_of_ble_eq_true rfl) ⟨Nat.le_refl _, Nat.le_refl _⟩ dX1_explained_2 (fun r1 S2 H locs h hw => ?_)
  refine lv_if_eq (pc := 5) (tgt := 29) hx hb dX1_explained_5 rfl (fun c3 => ?_) (fun c3 => ?_)
  · have h := h.1 c3
    refine lv_iconst (pc := 29) (v := (-1 : Int32)) hx hb dX1_explained_29 (by decide) ?_
    exact W.iret (pc := 30) hx hb hr (fun t ht hW => m_ret (val := vI) hw h ht) hw.2.2.2 dX1_explained_30 hlk
  · have h := h.2 c3
    refine lv_iload_n (pc := 8) hx hb dX1_explained_8 rfl (lv_at hl 2 rfl) ?_
    refine lv_iload_n (pc := 9) hx hb dX1_explained_9 rfl (lv_at hl 3 rfl) ?_
    refine uX1_isSpan (pc := 10) ⟨hx, hb, hml, hown, hts⟩ h ⟨Nat.le_of_ble_eq_true rfl, Nat.le_of_ble_eq_true rfl⟩ hl.1 (Nat.le_of_ble_eq_true rfl) ⟨Nat.le_refl _, Nat.le_refl _⟩ dX1_explained_10 (fun r4 h => ?_)
    refine lv_if_eq (pc := 13) (tgt := 29) hx hb dX1_explained_13 rfl (fun c5 => ?_) (fun c5 => ?_)
    · have h := h.1 c5
      refine lv_iconst (pc := 29) (v := (-1 : Int32)) hx hb dX1_explained_29 (by decide) ?_
      exact W.iret (pc := 30) hx hb hr (fun t ht hW => m_ret (val := vI) hw h ht) hw.2.2.2 dX1_explained_30 hlk
    · have h := h.2 c5
      refine lv_iload (pc := 16) hx hb dX1_explained_16 (lv_at hl 4 rfl) ?_
      refine lv_i2l (pc := 18) hx hb dX1_explained_18 rfl ?_
      refine lv_lconst (pc := 19) (v := (1 : Int64)) hx hb dX1_explained_19 (by decide) ?_
      refine lv_ldc2 (pc := 20) hx hb hown (hts _ q2418) dX1_explained_20 ?_
      refine uX1_isIn (pc := 23) ⟨hx, hb, hml, hown, hts⟩ h ⟨Nat.le_of_ble_eq_true rfl, Nat.le_of_ble_eq_true rfl⟩ hl.1 (Nat.le_of_ble_eq_true rfl) ⟨Nat.le_refl _, Nat.le_refl _⟩ dX1_explained_23 (fun r6 h => ?_)
      refine lv_if_ne (pc := 26) (tgt := 31) hx hb dX1_explained_26 rfl (fun c7 => ?_) (fun c7 => ?_)
      · have h := h.2 c7
        refine lv_aload_n (pc := 31) hx hb dX1_explained_31 rfl (lv_at hl 0 rfl) ?_
        refine lv_iload_n (pc := 32) hx hb dX1_explained_32 rfl (lv_at hl 1 rfl) ?_
        refine uX1_lays (pc := 33) X hml hw h ⟨Nat.le_of_ble_eq_true rfl, Nat.le_of_ble_eq_true rfl⟩ hl.1 (Nat.le_of_ble_eq_true rfl) ⟨Nat.le_refl _, Nat.le_refl _⟩ dX1_explained_33 (fun _ S9 H locs h hw => ?_)
        refine lv_aload_n (pc := 36) hx hb dX1_explained_36 rfl (lv_at hl 0 rfl) ?_
        refine lv_iload_n (pc := 37) hx hb dX1_explained_37 rfl (lv_at hl 1 rfl) ?_
        refine lv_iload (pc := 38) hx hb dX1_explained_38 (lv_at hl 4 rfl) ?_
        refine uX1_laysClasses (pc := 40) X hml hw h ⟨Nat.le_of_ble_eq_true rfl, Nat.le_of_ble_eq_true rfl⟩ hl.1 (Nat.le_of_ble_eq_true rfl) ⟨Nat.le_refl _, Nat.le_refl _⟩ dX1_explained_40 (fun _ S11 H locs h hw => ?_)
        refine lv_iconst (pc := 43) (v := (0 : Int32)) hx hb dX1_explained_43 (by decide) ?_
        refine lv_istore (pc := 44) (lv' := [(5, .int (0 : Int32)), (0, .ref h0), (1, .int x1), (2, .int x2), (3, .int x3), (4, .int x4)]) hx hb dX1_explained_44 hl (by decide) rfl (fun ls hl => ?_)
        refine lv_iload_n (pc := 46) hx hb dX1_explained_46 rfl (lv_at hl 3 rfl) ?_
        refine lv_istore (pc := 47) (lv' := [(6, .int x2), (5, .int (0 : Int32)), (0, .ref h0), (1, .int x1), (2, .int x2), (3, .int x3), (4, .int x4)]) hx hb dX1_explained_47 hl (by decide) rfl (fun ls hl => ?_)
        obtain ⟨k, h⟩ := h
        exact kX1_explained_49 X hml hr hlk  k _ _ _ _ _ _ _ _ h hw (lv_sub hl [2, 5, 6, 1, 0] rfl)
      · have h := h.1 c7
        refine lv_iconst (pc := 29) (v := (-1 : Int32)) hx hb dX1_explained_29 (by decide) ?_
        exact W.iret (pc := 30) hx hb hr (fun t ht hW => m_ret (val := vI) hw h ht) hw.2.2.2 dX1_explained_30 hlk

def wX1_form_51 (K18 : Int32 → Int32 → Int32 → MS → Prop) (post : Int32 → MS → Prop) (x1 : Int32) (x2 : Int32) (v0 : Int32) (S : MS) : Prop :=
  ((v0 = (0 : Int32)) → (K18 x1 x2 v0 S)) ∧ (¬ (v0 = (0 : Int32)) → (wX1_takesSign (fun r15 S16 => K18 x1 x2 r15 S16) S (43 : Int32)))
def wX1_form_50 (K18 : Int32 → Int32 → Int32 → MS → Prop) (post : Int32 → MS → Prop) (x1 : Int32) (x2 : Int32) (S : MS) : Prop :=
  wX1_form_51 K18 post x1 x2 (0 : Int32) S
def wX1_form_18 (post : Int32 → MS → Prop) : Nat → Int32 → Int32 → Int32 → MS → Prop
  | 0, _, _, _, _ => False
  | n + 1, x1, x2, x3, S => ((x3 = (0 : Int32)) → (wX1_isRead (fun r5 S6 => ((x2 = (0 : Int32)) → (post (-2 : Int32) S6)) ∧ (¬ (x2 = (0 : Int32)) → ((((S6.1 8) = (0 : Int32)) → (wX1_takesOver (fun _ S10 => vp_in x1 5 ∧ (post (S10.2.2.1 0 x1.toNatClampNeg) S10)) S6 x1)) ∧ (¬ ((S6.1 8) = (0 : Int32)) → (post (-1 : Int32) S6))))) S)) ∧ (¬ (x3 = (0 : Int32)) → (vp_in (4 : Int32) 5 ∧ (wX1_readTerm (fun r11 S12 => ((r11 = (0 : Int32)) → (wX1_form_50 (fun x1 x2 x3 S => wX1_form_18 post n x1 x2 x3 S) post x1 x2 S12)) ∧ (¬ (r11 = (0 : Int32)) → ((((S12.1 12) = (0 : Int32)) → (wX1_form_50 (fun x1 x2 x3 S => wX1_form_18 post n x1 x2 x3 S) post x1 x2 S12)) ∧ (¬ ((S12.1 12) = (0 : Int32)) → (wX1_form_51 (fun x1 x2 x3 S => wX1_form_18 post n x1 x2 x3 S) post x1 x2 (1 : Int32) S12))))) (mI S 18 (S.2.2.1 0 (4 : Int32).toNatClampNeg)))))
def wX1_form (post : Int32 → MS → Prop) (S : MS) (x1 : Int32) : Prop :=
  wX1_begins (fun _ S2 => vp_in (4 : Int32) 5 ∧ (wX1_isSlot (fun r3 => (∃ k, wX1_form_18 post k x1 r3 r3 (mA S2 0 (upd (S2.2.2.1 0) (4 : Int32).toNatClampNeg (0 : Int32))))) x1)) S
theorem kX1_form_51 {p : Program} {l : Launch} {e : Env} {s : State} {m : MethodId} {args : Array Value} {below : List Frame} {meth : Method} {c : Code} {G : gG} {h0 : Nat} {ad : Nat → Nat} {K18 : Int32 → Int32 → Int32 → MS → Prop} {post : Int32 → MS → Prop} (X : mX G h0 ad p s m args c cX1_form) (hml : c.maxLocals = 4) (hr : meth.sig.returnType = (some .int)) (hlk : meth.locks = false) (hK18 : ∀ (x1 : Int32) (x2 : Int32) (x3 : Int32) (S : MS) (H : Heap) (locs : List Loc) (ls : Array Slot), K18 x1 x2 x3 S → mH G h0 ad s S H locs → lv_has ls 4 [(0, .ref h0), (1, .int x1), (2, .int x2), (3, .int x3)] → W p l e ⟨8, 0, 0, 173⟩ s m args below meth c H locs 0 0 (MQ below (gQ vI post (mBw G h0 ad) (mAd h0 ad)) args s 0 0 (mAd h0 ad)) (F0 m 18 ls [])) : ∀ (x1 : Int32) (x2 : Int32) (v0 : Int32) (S : MS) (H : Heap) (locs : List Loc) (ls : Array Slot), wX1_form_51 K18 post x1 x2 v0 S → mH G h0 ad s S H locs → lv_has ls 4 [(0, .ref h0), (1, .int x1), (2, .int x2)] → W p l e ⟨8, 0, 0, 173⟩ s m args below meth c H locs 0 0 (MQ below (gQ vI post (mBw G h0 ad) (mAd h0 ad)) args s 0 0 (mAd h0 ad)) (F0 m 51 ls [.int v0]) := by
  have hx := X.1
  have hb := X.2.1
  have hown := X.2.2.1
  have hts := X.2.2.2.1
  intro x1 x2 v0 S H locs ls h hw hl
  unfold wX1_form_51 at h
  refine lv_istore_n (pc := 51) (lv' := [(3, .int v0), (0, .ref h0), (1, .int x1), (2, .int x2)]) hx hb dX1_form_51 rfl hl (by decide) rfl (fun ls hl => ?_)
  refine lv_iload_n (pc := 52) hx hb dX1_form_52 rfl (lv_at hl 0 rfl) ?_
  refine lv_if_eq (pc := 53) (tgt := 18) hx hb dX1_form_53 rfl (fun c14 => ?_) (fun c14 => ?_)
  · have h := h.1 c14
    exact hK18 _ _ _ _ _ _ _ h hw (lv_sub hl [1, 2, 3, 0] rfl)
  · have h := h.2 c14
    refine lv_aload_n (pc := 56) hx hb dX1_form_56 rfl (lv_at hl 1 rfl) ?_
    refine lv_bipush (pc := 57) (v := (43 : Int32)) hx hb dX1_form_57 (by decide) ?_
    refine uX1_takesSign (pc := 59) X hml hw h ⟨Nat.le_of_ble_eq_true rfl, Nat.le_of_ble_eq_true rfl⟩ hl.1 (Nat.le_of_ble_eq_true rfl) ⟨Nat.le_refl _, Nat.le_refl _⟩ dX1_form_59 (fun r15 S16 H locs h hw => ?_)
    refine lv_istore_n (pc := 62) (lv' := [(3, .int r15), (0, .ref h0), (1, .int x1), (2, .int x2)]) hx hb dX1_form_62 rfl hl (by decide) rfl (fun ls hl => ?_)
    refine lv_goto (pc := 63) (tgt := 18) hx hb dX1_form_63 rfl ?_
    exact hK18 _ _ _ _ _ _ _ h hw (lv_sub hl [1, 2, 3, 0] rfl)
theorem kX1_form_50 {p : Program} {l : Launch} {e : Env} {s : State} {m : MethodId} {args : Array Value} {below : List Frame} {meth : Method} {c : Code} {G : gG} {h0 : Nat} {ad : Nat → Nat} {K18 : Int32 → Int32 → Int32 → MS → Prop} {post : Int32 → MS → Prop} (X : mX G h0 ad p s m args c cX1_form) (hml : c.maxLocals = 4) (hr : meth.sig.returnType = (some .int)) (hlk : meth.locks = false) (hK18 : ∀ (x1 : Int32) (x2 : Int32) (x3 : Int32) (S : MS) (H : Heap) (locs : List Loc) (ls : Array Slot), K18 x1 x2 x3 S → mH G h0 ad s S H locs → lv_has ls 4 [(0, .ref h0), (1, .int x1), (2, .int x2), (3, .int x3)] → W p l e ⟨8, 0, 0, 173⟩ s m args below meth c H locs 0 0 (MQ below (gQ vI post (mBw G h0 ad) (mAd h0 ad)) args s 0 0 (mAd h0 ad)) (F0 m 18 ls [])) : ∀ (x1 : Int32) (x2 : Int32) (S : MS) (H : Heap) (locs : List Loc) (ls : Array Slot), wX1_form_50 K18 post x1 x2 S → mH G h0 ad s S H locs → lv_has ls 4 [(0, .ref h0), (1, .int x1), (2, .int x2)] → W p l e ⟨8, 0, 0, 173⟩ s m args below meth c H locs 0 0 (MQ below (gQ vI post (mBw G h0 ad) (mAd h0 ad)) args s 0 0 (mAd h0 ad)) (F0 m 50 ls []) := by
  have hx := X.1
  have hb := X.2.1
  have hown := X.2.2.1
  have hts := X.2.2.2.1
  intro x1 x2 S H locs ls h hw hl
  unfold wX1_form_50 at h
  refine lv_iconst (pc := 50) (v := (0 : Int32)) hx hb dX1_form_50 (by decide) ?_
  exact kX1_form_51 X hml hr hlk hK18 _ _ _ _ _ _ _ h hw (lv_sub hl [0, 1, 2] rfl)
theorem kX1_form_18 {p : Program} {l : Launch} {e : Env} {s : State} {m : MethodId} {args : Array Value} {below : List Frame} {meth : Method} {c : Code} {G : gG} {h0 : Nat} {ad : Nat → Nat} {post : Int32 → MS → Prop} (X : mX G h0 ad p s m args c cX1_form) (hml : c.maxLocals = 4) (hr : meth.sig.returnType = (some .int)) (hlk : meth.locks = false) : ∀ (n : Nat) (x1 : Int32) (x2 : Int32) (x3 : Int32) (S : MS) (H : Heap) (locs : List Loc) (ls : Array Slot), wX1_form_18 post n x1 x2 x3 S → mH G h0 ad s S H locs → lv_has ls 4 [(0, .ref h0), (1, .int x1), (2, .int x2), (3, .int x3)] → W p l e ⟨8, 0, 0, 173⟩ s m args below meth c H locs 0 0 (MQ below (gQ vI post (mBw G h0 ad) (mAd h0 ad)) args s 0 0 (mAd h0 ad)) (F0 m 18 ls []) := by
  have hx := X.1
  have hb := X.2.1
  have hown := X.2.2.1
  have hts := X.2.2.2.1
  intro n
  induction n with
  | zero =>
    intro x1 x2 x3 S H locs ls h
    exact False.elim h
  | succ n ih =>
    intro x1 x2 x3 S H locs ls h hw hl
    unfold wX1_form_18 at h
    refine lv_iload_n (pc := 18) hx hb dX1_form_18 rfl (lv_at hl 3 rfl) ?_
    refine lv_if_eq (pc := 19) (tgt := 66) hx hb dX1_form_19 rfl (fun c4 => ?_) (fun c4 => ?_)
    · have h := h.1 c4
      refine lv_aload_n (pc := 66) hx hb dX1_form_66 rfl (lv_at hl 0 rfl) ?_
      refine uX1_isRead (pc := 67) X hml hw h ⟨Nat.le_of_ble_eq_true rfl, Nat.le_of_ble_eq_true rfl⟩ hl.1 (Nat.le_of_ble_eq_true rfl) ⟨Nat.le_refl _, Nat.le_refl _⟩ dX1_form_67 (fun r5 S6 H locs h hw => ?_)
      refine lv_pop (pc := 70) hx hb dX1_form_70 rfl ?_
      refine lv_iload_n (pc := 71) hx hb dX1_form_71 rfl (lv_at hl 2 rfl) ?_
      refine lv_if_ne (pc := 72) (tgt := 78) hx hb dX1_form_72 rfl (fun c7 => ?_) (fun c7 => ?_)
      · have h := h.2 c7
        refine lv_aload_n (pc := 78) hx hb dX1_form_78 rfl (lv_at hl 0 rfl) ?_
        refine mg8 (pc := 79) X hw dX1_form_79 ?_
        refine lv_if_eq (pc := 82) (tgt := 87) hx hb dX1_form_82 rfl (fun c8 => ?_) (fun c8 => ?_)
        · have h := h.1 c8
          refine lv_aload_n (pc := 87) hx hb dX1_form_87 rfl (lv_at hl 0 rfl) ?_
          refine lv_iload_n (pc := 88) hx hb dX1_form_88 rfl (lv_at hl 1 rfl) ?_
          refine uX1_takesOver (pc := 89) X hml hw h ⟨Nat.le_of_ble_eq_true rfl, Nat.le_of_ble_eq_true rfl⟩ hl.1 (Nat.le_of_ble_eq_true rfl) ⟨Nat.le_refl _, Nat.le_refl _⟩ dX1_form_89 (fun _ S10 H locs h hw => ?_)
          refine lv_aload_n (pc := 92) hx hb dX1_form_92 rfl (lv_at hl 0 rfl) ?_
          refine mg0 (pc := 93) X hw dX1_form_93 ?_
          refine lv_iload_n (pc := 96) hx hb dX1_form_96 rfl (lv_at hl 1 rfl) ?_
          obtain ⟨hi, h⟩ := h
          refine ma0 (pc := 97) X hw hi dX1_form_97 ?_
          exact W.iret (pc := 98) hx hb hr (fun t ht hW => m_ret (val := vI) hw h ht) hw.2.2.2 dX1_form_98 hlk
        · have h := h.2 c8
          refine lv_iconst (pc := 85) (v := (-1 : Int32)) hx hb dX1_form_85 (by decide) ?_
          exact W.iret (pc := 86) hx hb hr (fun t ht hW => m_ret (val := vI) hw h ht) hw.2.2.2 dX1_form_86 hlk
      · have h := h.1 c7
        refine lv_bipush (pc := 75) (v := (-2 : Int32)) hx hb dX1_form_75 (by decide) ?_
        exact W.iret (pc := 77) hx hb hr (fun t ht hW => m_ret (val := vI) hw h ht) hw.2.2.2 dX1_form_77 hlk
    · have h := h.2 c4
      refine lv_aload_n (pc := 22) hx hb dX1_form_22 rfl (lv_at hl 0 rfl) ?_
      refine lv_aload_n (pc := 23) hx hb dX1_form_23 rfl (lv_at hl 0 rfl) ?_
      refine mg0 (pc := 24) X hw dX1_form_24 ?_
      refine lv_iconst (pc := 27) (v := (4 : Int32)) hx hb dX1_form_27 (by decide) ?_
      obtain ⟨hi, h⟩ := h
      refine ma0 (pc := 28) X hw hi dX1_form_28 ?_
      refine mp18 (pc := 29) X hw dX1_form_29 (fun H locs hw => ?_)
      refine lv_aload_n (pc := 32) hx hb dX1_form_32 rfl (lv_at hl 0 rfl) ?_
      refine uX1_readTerm (pc := 33) X hml hw h ⟨Nat.le_of_ble_eq_true rfl, Nat.le_of_ble_eq_true rfl⟩ hl.1 (Nat.le_of_ble_eq_true rfl) ⟨Nat.le_refl _, Nat.le_refl _⟩ dX1_form_33 (fun r11 S12 H locs h hw => ?_)
      refine lv_if_eq (pc := 36) (tgt := 50) hx hb dX1_form_36 rfl (fun c13 => ?_) (fun c13 => ?_)
      · have h := h.1 c13
        exact kX1_form_50 X hml hr hlk ih _ _ _ _ _ _ h hw (lv_sub hl [0, 1, 2] rfl)
      · have h := h.2 c13
        refine lv_aload_n (pc := 39) hx hb dX1_form_39 rfl (lv_at hl 0 rfl) ?_
        refine mg12 (pc := 40) X hw dX1_form_40 ?_
        refine lv_if_eq (pc := 43) (tgt := 50) hx hb dX1_form_43 rfl (fun c17 => ?_) (fun c17 => ?_)
        · have h := h.1 c17
          exact kX1_form_50 X hml hr hlk ih _ _ _ _ _ _ h hw (lv_sub hl [0, 1, 2] rfl)
        · have h := h.2 c17
          refine lv_iconst (pc := 46) (v := (1 : Int32)) hx hb dX1_form_46 (by decide) ?_
          refine lv_goto (pc := 47) (tgt := 51) hx hb dX1_form_47 rfl ?_
          exact kX1_form_51 X hml hr hlk ih _ _ _ _ _ _ _ h hw (lv_sub hl [0, 1, 2] rfl)
theorem tX1_form {l : Launch} {G : gG} {h0 : Nat} {ad : Nat → Nat} (hd : mOk G h0 ad) {post : Int32 → MS → Prop} {S : MS} {x1 : Int32} (h : wX1_form post S x1) : Met l yX1_form (ws_ yX1_form cX1_form 4 (some .int)) ⟨8, 0, 0, 173⟩ (va_Pc (.ref h0 :: [.int x1]) (fun U => mBw G h0 ad S U.heap ∧ gK G U)) (gQ vI post (mBw G h0 ad) (mAd h0 ad)) 0 0 (mAd h0 ad) := by
  refine m_ofW (by decide) rfl hd (Nat.le_of_ble_eq_true rfl) (fun p e s m below meth c ls X hml hr hlk hw hl => ?_)
  have hl : lv_has ls 4 [(0, .ref h0), (1, .int x1)] := hl
  have hx := X.1
  have hb := X.2.1
  have hown := X.2.2.1
  have hts := X.2.2.2.1
  unfold wX1_form at h
  refine lv_aload_n (pc := 0) hx hb dX1_form_0 rfl (lv_at hl 0 rfl) ?_
  refine uX1_begins (pc := 1) X hml hw h ⟨Nat.le_of_ble_eq_true rfl, Nat.le_of_ble_eq_true rfl⟩ hl.1 (Nat.le_of_ble_eq_true rfl) ⟨Nat.le_refl _, Nat.le_refl _⟩ dX1_form_1 (fun _ S2 H locs h hw => ?_)
  refine lv_aload_n (pc := 4) hx hb dX1_form_4 rfl (lv_at hl 0 rfl) ?_
  refine mg0 (pc := 5) X hw dX1_form_5 ?_
  refine lv_iconst (pc := 8) (v := (4 : Int32)) hx hb dX1_form_8 (by decide) ?_
  refine lv_iconst (pc := 9) (v := (0 : Int32)) hx hb dX1_form_9 (by decide) ?_
  obtain ⟨hi, h⟩ := h
  refine ms0 (pc := 10) X hw hi dX1_form_10 (fun H locs hw => ?_)
  refine lv_iload_n (pc := 11) hx hb dX1_form_11 rfl (lv_at hl 1 rfl) ?_
  refine uX1_isSlot (pc := 12) ⟨hx, hb, hml, hown, hts⟩ h ⟨Nat.le_of_ble_eq_true rfl, Nat.le_of_ble_eq_true rfl⟩ hl.1 (Nat.le_of_ble_eq_true rfl) ⟨Nat.le_refl _, Nat.le_refl _⟩ dX1_form_12 (fun r3 h => ?_)
  refine lv_istore_n (pc := 15) (lv' := [(2, .int r3), (0, .ref h0), (1, .int x1)]) hx hb dX1_form_15 rfl hl (by decide) rfl (fun ls hl => ?_)
  refine lv_iload_n (pc := 16) hx hb dX1_form_16 rfl (lv_at hl 0 rfl) ?_
  refine lv_istore_n (pc := 17) (lv' := [(3, .int r3), (2, .int r3), (0, .ref h0), (1, .int x1)]) hx hb dX1_form_17 rfl hl (by decide) rfl (fun ls hl => ?_)
  obtain ⟨k, h⟩ := h
  exact kX1_form_18 X hml hr hlk  k _ _ _ _ _ _ _ h hw (lv_sub hl [2, 3, 1, 0] rfl)

def wX1_readSum_27 (rc : (Int32 → MS → Prop) → MS → Prop) (K9 : MS → Prop) (post : Int32 → MS → Prop) (S : MS) : Prop :=
  wX1_next (fun _ S8 => wX1_readProduct rc (fun r9 S10 => ((r9 = (0 : Int32)) → (post (0 : Int32) S10)) ∧ (¬ (r9 = (0 : Int32)) → (wX1_puts (fun _ S13 => K9 S13) S10 (S.1 17) (0 : Int32)))) S8) S
def wX1_readSum_9 (rc : (Int32 → MS → Prop) → MS → Prop) (post : Int32 → MS → Prop) : Nat → MS → Prop
  | 0, _ => False
  | n + 1, S => wX1_isSign (fun r4 S5 => ((r4 = (0 : Int32)) → (wX1_isSign (fun r14 S15 => ((r14 = (0 : Int32)) → (post (1 : Int32) S15)) ∧ (¬ (r14 = (0 : Int32)) → (wX1_readSum_27 rc (fun S => wX1_readSum_9 rc post n S) post S15))) S5 (45 : Int32))) ∧ (¬ (r4 = (0 : Int32)) → (wX1_readSum_27 rc (fun S => wX1_readSum_9 rc post n S) post S5))) S (43 : Int32)
def wX1_readSumB (rc : (Int32 → MS → Prop) → MS → Prop) (post : Int32 → MS → Prop) (S : MS) : Prop :=
  wX1_readProduct rc (fun r1 S2 => ((r1 = (0 : Int32)) → (post (0 : Int32) S2)) ∧ (¬ (r1 = (0 : Int32)) → ((∃ k, wX1_readSum_9 rc post k S2)))) S
def wX1_readSum : Nat → (Int32 → MS → Prop) → MS → Prop
  | 0, _, _ => False
  | d + 1, post, S => wX1_readSumB (fun post S => wX1_readSum d post S) post S
theorem kX1_readSum_27 {p : Program} {l : Launch} {e : Env} {s : State} {m : MethodId} {args : Array Value} {below : List Frame} {meth : Method} {c : Code} {G : gG} {h0 : Nat} {ad : Nat → Nat} {d : Nat} {rc : (Int32 → MS → Prop) → MS → Prop} {K9 : MS → Prop} {post : Int32 → MS → Prop} (X : mX G h0 ad p s m args c cX1_readSum) (hml : c.maxLocals = 2) (hr : meth.sig.returnType = (some .boolean)) (hlk : meth.locks = false) (hI : ∀ {post : Int32 → MS → Prop} {S : MS}, rc post S → Met l yX1_readSum (ws_ yX1_readSum cX1_readSum 2 (some .boolean)) ⟨20 + 4 * d, 0, 0, 1000 + 82 * d⟩ (va_Pc (.ref h0 :: []) (fun U => mBw G h0 ad S U.heap ∧ gK G U)) (gQ vI post (mBw G h0 ad) (mAd h0 ad)) 0 0 (mAd h0 ad)) (hK9 : ∀ (S : MS) (H : Heap) (locs : List Loc) (ls : Array Slot), K9 S → mH G h0 ad s S H locs → lv_has ls 2 [(0, .ref h0)] → W p l e ⟨24 + 4 * d, 0, 0, 1082 + 82 * d⟩ s m args below meth c H locs 0 0 (MQ below (gQ vI post (mBw G h0 ad) (mAd h0 ad)) args s 0 0 (mAd h0 ad)) (F0 m 9 ls [])) : ∀ (S : MS) (H : Heap) (locs : List Loc) (ls : Array Slot), wX1_readSum_27 rc K9 post S → mH G h0 ad s S H locs → lv_has ls 2 [(0, .ref h0)] → W p l e ⟨24 + 4 * d, 0, 0, 1082 + 82 * d⟩ s m args below meth c H locs 0 0 (MQ below (gQ vI post (mBw G h0 ad) (mAd h0 ad)) args s 0 0 (mAd h0 ad)) (F0 m 27 ls []) := by
  have hx := X.1
  have hb := X.2.1
  have hown := X.2.2.1
  have hts := X.2.2.2.1
  intro S H locs ls h hw hl
  unfold wX1_readSum_27 at h
  refine lv_aload_n (pc := 27) hx hb dX1_readSum_27 rfl (lv_at hl 0 rfl) ?_
  refine mg17 (pc := 28) X hw dX1_readSum_28 ?_
  refine lv_istore_n (pc := 31) (lv' := [(1, .int (S.1 17)), (0, .ref h0)]) hx hb dX1_readSum_31 rfl hl (by decide) rfl (fun ls hl => ?_)
  refine lv_aload_n (pc := 32) hx hb dX1_readSum_32 rfl (lv_at hl 1 rfl) ?_
  refine uX1_next (pc := 33) X hml hw h ⟨show 1 + 1 ≤ 24 + 4 * d by omega, show 8 + (2 + 11) + (25) ≤ 1082 + 82 * d by omega⟩ hl.1 (Nat.le_of_ble_eq_true rfl) ⟨Nat.le_refl _, Nat.le_refl _⟩ dX1_readSum_33 (fun _ S8 H locs h hw => ?_)
  refine lv_aload_n (pc := 36) hx hb dX1_readSum_36 rfl (lv_at hl 1 rfl) ?_
  refine uX1_readProduct (pc := 37) X hml hw hI h ⟨show 23 + 4 * d + 1 ≤ 24 + 4 * d by omega, show 8 + (1 + 11) + (1062 + 82 * d) ≤ 1082 + 82 * d by omega⟩ hl.1 (Nat.le_of_ble_eq_true rfl) ⟨Nat.le_refl _, Nat.le_refl _⟩ dX1_readSum_37 (fun r9 S10 H locs h hw => ?_)
  refine lv_if_ne (pc := 40) (tgt := 45) hx hb dX1_readSum_40 rfl (fun c11 => ?_) (fun c11 => ?_)
  · have h := h.2 c11
    refine lv_aload_n (pc := 45) hx hb dX1_readSum_45 rfl (lv_at hl 1 rfl) ?_
    refine lv_iload_n (pc := 46) hx hb dX1_readSum_46 rfl (lv_at hl 0 rfl) ?_
    refine lv_iconst (pc := 47) (v := (0 : Int32)) hx hb dX1_readSum_47 (by decide) ?_
    refine uX1_puts (pc := 48) X hml hw h ⟨show 0 + 1 ≤ 24 + 4 * d by omega, show 8 + (3 + 11) + (0) ≤ 1082 + 82 * d by omega⟩ hl.1 (Nat.le_of_ble_eq_true rfl) ⟨Nat.le_refl _, Nat.le_refl _⟩ dX1_readSum_48 (fun _ S13 H locs h hw => ?_)
    refine lv_goto (pc := 51) (tgt := 9) hx hb dX1_readSum_51 rfl ?_
    exact hK9  _ _ _ _ h hw (lv_sub hl [1] rfl)
  · have h := h.1 c11
    refine lv_iconst (pc := 43) (v := (0 : Int32)) hx hb dX1_readSum_43 (by decide) ?_
    exact W.zret (pc := 44) hx hb hr rfl (fun t ht hW => m_ret (val := vI) hw h ht) hw.2.2.2 dX1_readSum_44 hlk
theorem kX1_readSum_9 {p : Program} {l : Launch} {e : Env} {s : State} {m : MethodId} {args : Array Value} {below : List Frame} {meth : Method} {c : Code} {G : gG} {h0 : Nat} {ad : Nat → Nat} {d : Nat} {rc : (Int32 → MS → Prop) → MS → Prop} {post : Int32 → MS → Prop} (X : mX G h0 ad p s m args c cX1_readSum) (hml : c.maxLocals = 2) (hr : meth.sig.returnType = (some .boolean)) (hlk : meth.locks = false) (hI : ∀ {post : Int32 → MS → Prop} {S : MS}, rc post S → Met l yX1_readSum (ws_ yX1_readSum cX1_readSum 2 (some .boolean)) ⟨20 + 4 * d, 0, 0, 1000 + 82 * d⟩ (va_Pc (.ref h0 :: []) (fun U => mBw G h0 ad S U.heap ∧ gK G U)) (gQ vI post (mBw G h0 ad) (mAd h0 ad)) 0 0 (mAd h0 ad)) : ∀ (n : Nat) (S : MS) (H : Heap) (locs : List Loc) (ls : Array Slot), wX1_readSum_9 rc post n S → mH G h0 ad s S H locs → lv_has ls 2 [(0, .ref h0)] → W p l e ⟨24 + 4 * d, 0, 0, 1082 + 82 * d⟩ s m args below meth c H locs 0 0 (MQ below (gQ vI post (mBw G h0 ad) (mAd h0 ad)) args s 0 0 (mAd h0 ad)) (F0 m 9 ls []) := by
  have hx := X.1
  have hb := X.2.1
  have hown := X.2.2.1
  have hts := X.2.2.2.1
  intro n
  induction n with
  | zero =>
    intro S H locs ls h
    exact False.elim h
  | succ n ih =>
    intro S H locs ls h hw hl
    unfold wX1_readSum_9 at h
    refine lv_aload_n (pc := 9) hx hb dX1_readSum_9 rfl (lv_at hl 0 rfl) ?_
    refine lv_bipush (pc := 10) (v := (43 : Int32)) hx hb dX1_readSum_10 (by decide) ?_
    refine uX1_isSign (pc := 12) X hml hw h ⟨show 0 + 1 ≤ 24 + 4 * d by omega, show 8 + (2 + 11) + (0) ≤ 1082 + 82 * d by omega⟩ hl.1 (Nat.le_of_ble_eq_true rfl) ⟨Nat.le_refl _, Nat.le_refl _⟩ dX1_readSum_12 (fun r4 S5 H locs h hw => ?_)
    refine lv_if_ne (pc := 15) (tgt := 27) hx hb dX1_readSum_15 rfl (fun c6 => ?_) (fun c6 => ?_)
    · have h := h.2 c6
      exact kX1_readSum_27 X hml hr hlk hI ih  _ _ _ _ h hw (lv_sub hl [0] rfl)
    · have h := h.1 c6
      refine lv_aload_n (pc := 18) hx hb dX1_readSum_18 rfl (lv_at hl 0 rfl) ?_
      refine lv_bipush (pc := 19) (v := (45 : Int32)) hx hb dX1_readSum_19 (by decide) ?_
      refine uX1_isSign (pc := 21) X hml hw h ⟨show 0 + 1 ≤ 24 + 4 * d by omega, show 8 + (2 + 11) + (0) ≤ 1082 + 82 * d by omega⟩ hl.1 (Nat.le_of_ble_eq_true rfl) ⟨Nat.le_refl _, Nat.le_refl _⟩ dX1_readSum_21 (fun r14 S15 H locs h hw => ?_)
      refine lv_if_eq (pc := 24) (tgt := 54) hx hb dX1_readSum_24 rfl (fun c16 => ?_) (fun c16 => ?_)
      · have h := h.1 c16
        refine lv_iconst (pc := 54) (v := (1 : Int32)) hx hb dX1_readSum_54 (by decide) ?_
        exact W.zret (pc := 55) hx hb hr rfl (fun t ht hW => m_ret (val := vI) hw h ht) hw.2.2.2 dX1_readSum_55 hlk
      · have h := h.2 c16
        exact kX1_readSum_27 X hml hr hlk hI ih  _ _ _ _ h hw (lv_sub hl [0] rfl)
theorem tX1_readSumB {l : Launch} {G : gG} {h0 : Nat} {ad : Nat → Nat} {d : Nat} {rc : (Int32 → MS → Prop) → MS → Prop} (hd : mOk G h0 ad) (hI : ∀ {post : Int32 → MS → Prop} {S : MS}, rc post S → Met l yX1_readSum (ws_ yX1_readSum cX1_readSum 2 (some .boolean)) ⟨20 + 4 * d, 0, 0, 1000 + 82 * d⟩ (va_Pc (.ref h0 :: []) (fun U => mBw G h0 ad S U.heap ∧ gK G U)) (gQ vI post (mBw G h0 ad) (mAd h0 ad)) 0 0 (mAd h0 ad)) {post : Int32 → MS → Prop} {S : MS} (h : wX1_readSumB rc post S) : Met l yX1_readSum (ws_ yX1_readSum cX1_readSum 2 (some .boolean)) ⟨24 + 4 * d, 0, 0, 1082 + 82 * d⟩ (va_Pc (.ref h0 :: []) (fun U => mBw G h0 ad S U.heap ∧ gK G U)) (gQ vI post (mBw G h0 ad) (mAd h0 ad)) 0 0 (mAd h0 ad) := by
  refine m_ofW (by decide) rfl hd (Nat.le_of_ble_eq_true rfl) (fun p e s m below meth c ls X hml hr hlk hw hl => ?_)
  have hl : lv_has ls 2 [(0, .ref h0)] := hl
  have hx := X.1
  have hb := X.2.1
  have hown := X.2.2.1
  have hts := X.2.2.2.1
  unfold wX1_readSumB at h
  refine lv_aload_n (pc := 0) hx hb dX1_readSum_0 rfl (lv_at hl 0 rfl) ?_
  refine uX1_readProduct (pc := 1) X hml hw hI h ⟨show 23 + 4 * d + 1 ≤ 24 + 4 * d by omega, show 8 + (1 + 11) + (1062 + 82 * d) ≤ 1082 + 82 * d by omega⟩ hl.1 (Nat.le_of_ble_eq_true rfl) ⟨Nat.le_refl _, Nat.le_refl _⟩ dX1_readSum_1 (fun r1 S2 H locs h hw => ?_)
  refine lv_if_ne (pc := 4) (tgt := 9) hx hb dX1_readSum_4 rfl (fun c3 => ?_) (fun c3 => ?_)
  · have h := h.2 c3
    obtain ⟨k, h⟩ := h
    exact kX1_readSum_9 X hml hr hlk hI  k  _ _ _ _ h hw (lv_sub hl [0] rfl)
  · have h := h.1 c3
    refine lv_iconst (pc := 7) (v := (0 : Int32)) hx hb dX1_readSum_7 (by decide) ?_
    exact W.zret (pc := 8) hx hb hr rfl (fun t ht hW => m_ret (val := vI) hw h ht) hw.2.2.2 dX1_readSum_8 hlk
theorem tX1_readSum {l : Launch} {G : gG} {h0 : Nat} {ad : Nat → Nat} (hd : mOk G h0 ad) : ∀ (d : Nat) {post : Int32 → MS → Prop} {S : MS}, wX1_readSum d post S → Met l yX1_readSum (ws_ yX1_readSum cX1_readSum 2 (some .boolean)) ⟨20 + 4 * d, 0, 0, 1000 + 82 * d⟩ (va_Pc (.ref h0 :: []) (fun U => mBw G h0 ad S U.heap ∧ gK G U)) (gQ vI post (mBw G h0 ad) (mAd h0 ad)) 0 0 (mAd h0 ad) := by
  intro d
  induction d with
  | zero =>
    intro post S  h
    exact False.elim h
  | succ d ih =>
    intro post S  h
    have h2 := tX1_readSumB (l := l) (d := d) hd (fun h => ih h) (show wX1_readSumB _ post S from h)
    rw [show 20 + 4 * (d + 1) = 24 + 4 * d by omega, show 1000 + 82 * (d + 1) = 1082 + 82 * d by omega]
    exact h2
theorem uX1_readSum {p : Program} {l : Launch} {e : Env} {R : Room} {s : State} {m : MethodId} {args : Array Value} {below : List Frame} {meth : Method} {c : Code} {H : Heap} {locs : List Loc} {cells slots : Nat} {Q : Jvm.State → Prop} {cc : ByteArray} {pc : Nat} {ls : Array Slot} {rest : List Value} {G : gG} {h0 : Nat} {ad : Nat → Nat} {post : Int32 → MS → Prop} {S : MS} {nL : Nat} (X : mX G h0 ad p s m args c cc) (hml : c.maxLocals = nL) (hw : mH G h0 ad s S H locs) (h : wX1_readSum 8 post S) (hR : 52 + 1 ≤ R.frames ∧ 8 + (2 + 11) + 1656 ≤ R.locals) (hsz : ls.size = nL) (hr : (rest.map fun v => v.category).sum ≤ 8) (hc : cells ≤ R.cells ∧ slots ≤ R.slots) (d : decode cc pc = .ok (.invokevirtual 358, 3)) (kk : ∀ (r : Int32) (S1 : MS) (H1 : Heap) (locs1 : List Loc), post r S1 → mH G h0 ad s S1 H1 locs1 → W p l e R s m args below meth c H1 locs1 cells slots Q (F0 m (pc + 3) ls (.int r :: rest))) : W p l e R s m args below meth c H locs cells slots Q (F0 m pc ls (.ref h0 :: rest)) :=
  m_call (fr := 52) (lo := 1656) (val := vI) (post := post) (As := []) X hml hw (tX1_readSum X.2.2.2.2.2.1 8 h) (lw_V q2336 q2338 qs82 q105 q2339) ⟨rfl, by decide, by decide, (by decide +kernel : (parseMethodDescriptor yX1_readSum.desc).map (fun d => d.parameters.length) = some 0)⟩ hR hsz hr hc d rfl kk

def wX1_tried_141 (K78 : Int32 → Int32 → Int32 → Int32 → MS → Prop) (post : Int32 → MS → Prop) (x1 : Int32) (x2 : Int32) (x3 : Int32) (S : MS) : Prop :=
  wX1_goesOn (fun r13 S14 => K78 x1 x2 x3 r13 S14) S x1
def wX1_tried_138 (K78 : Int32 → Int32 → Int32 → Int32 → MS → Prop) (post : Int32 → MS → Prop) (x1 : Int32) (x2 : Int32) (x3 : Int32) (S : MS) : Prop :=
  wX1_tried_141 K78 post x1 x2 (x3 + (1 : Int32)) S
def wX1_tried_97 (K78 : Int32 → Int32 → Int32 → Int32 → MS → Prop) (post : Int32 → MS → Prop) : Nat → Int32 → Int32 → Int32 → Int32 → MS → Prop
  | 0, _, _, _, _, _ => False
  | n + 1, x1, x2, x3, x5, S => (((6 : Int32) ≤ x5) → (wX1_one (fun r17 => vp_in (6 : Int32) 7 ∧ (wX1_tried_138 K78 post x1 x2 x3 (mA S 45 (upd (S.2.2.1 45) (6 : Int32).toNatClampNeg r17)))) (S.1 44))) ∧ (¬ ((6 : Int32) ≤ x5) → (vp_in x5 6 ∧ (vp_in x5 7 ∧ (wX1_tried_97 K78 post n x1 x2 x3 (x5 + (1 : Int32)) (mA S 45 (upd (S.2.2.1 45) x5.toNatClampNeg (S.2.2.1 42 x5.toNatClampNeg)))))))
def wX1_tried_78 (post : Int32 → MS → Prop) : Nat → Int32 → Int32 → Int32 → Int32 → MS → Prop
  | 0, _, _, _, _, _ => False
  | n + 1, x1, x2, x3, x4, S => ((x4 = (0 : Int32)) → (((x2 = (0 : Int32)) → (post x3 S)) ∧ (¬ (x2 = (0 : Int32)) → (((x3 = (0 : Int32)) → (post (-100000 : Int32) S)) ∧ (¬ (x3 = (0 : Int32)) → (vp_in (x2 - (1 : Int32)) 7 ∧ (post (S.2.2.1 45 (x2 - (1 : Int32)).toNatClampNeg) S))))))) ∧ (¬ (x4 = (0 : Int32)) → (wX1_isBroken (fun r10 S11 => ((r10 = (0 : Int32)) → (wX1_tried_141 (fun x1 x2 x3 x4 S => wX1_tried_78 post n x1 x2 x3 x4 S) post x1 x2 x3 S11)) ∧ (¬ (r10 = (0 : Int32)) → (((x3 = (0 : Int32)) → ((∃ k, wX1_tried_97 (fun x1 x2 x3 x4 S => wX1_tried_78 post n x1 x2 x3 x4 S) post k x1 x2 x3 (0 : Int32) S11))) ∧ (¬ (x3 = (0 : Int32)) → (wX1_tried_138 (fun x1 x2 x3 x4 S => wX1_tried_78 post n x1 x2 x3 x4 S) post x1 x2 x3 S11))))) S))
def wX1_tried_66 (K37 : Int32 → Int32 → Int32 → MS → Prop) (post : Int32 → MS → Prop) (x1 : Int32) (x2 : Int32) (x3 : Int32) (v0 : Int32) (v1 : Int32) (S : MS) : Prop :=
  vp_in v1 6 ∧ (K37 x1 x2 (x3 + (1 : Int32)) (mA S 42 (upd (S.2.2.1 42) v1.toNatClampNeg v0)))
def wX1_tried_37 (post : Int32 → MS → Prop) : Nat → Int32 → Int32 → Int32 → MS → Prop
  | 0, _, _, _, _ => False
  | n + 1, x1, x2, x3, S => (((6 : Int32) ≤ x3) → ((∃ k, wX1_tried_78 post k x1 x2 (0 : Int32) (1 : Int32) S))) ∧ (¬ ((6 : Int32) ≤ x3) → ((((((S.1 39) >>> (x3 &&& 31)) &&& (1 : Int32)) = (1 : Int32)) → (wX1_tried_66 (fun x1 x2 x3 S => wX1_tried_37 post n x1 x2 x3 S) post x1 x2 x3 (-x1) x3 S)) ∧ (¬ ((((S.1 39) >>> (x3 &&& 31)) &&& (1 : Int32)) = (1 : Int32)) → (wX1_tried_66 (fun x1 x2 x3 S => wX1_tried_37 post n x1 x2 x3 S) post x1 x2 x3 (0 : Int32) x3 S))))
def wX1_tried (post : Int32 → MS → Prop) (S : MS) (x1 : Int32) (x2 : Int32) : Prop :=
  (((S.1 41) = (0 : Int32)) → (post (-100000 : Int32) S)) ∧ (¬ ((S.1 41) = (0 : Int32)) → (wX1_isIn (fun r2 => ((r2 = (0 : Int32)) → (post (-100000 : Int32) S)) ∧ (¬ (r2 = (0 : Int32)) → (wX1_isIn (fun r4 => ((r4 = (0 : Int32)) → (post (-100000 : Int32) S)) ∧ (¬ (r4 = (0 : Int32)) → ((∃ k, wX1_tried_37 post k x1 x2 (0 : Int32) S)))) x2.toInt64 (0 : Int64) (7 : Int64)))) x1.toInt64 (0 : Int64) (3 : Int64)))
theorem kX1_tried_141 {p : Program} {l : Launch} {e : Env} {s : State} {m : MethodId} {args : Array Value} {below : List Frame} {meth : Method} {c : Code} {G : gG} {h0 : Nat} {ad : Nat → Nat} {K78 : Int32 → Int32 → Int32 → Int32 → MS → Prop} {post : Int32 → MS → Prop} (X : mX G h0 ad p s m args c cX1_tried) (hml : c.maxLocals = 6) (hr : meth.sig.returnType = (some .int)) (hlk : meth.locks = false) (hK78 : ∀ (x1 : Int32) (x2 : Int32) (x3 : Int32) (x4 : Int32) (S : MS) (H : Heap) (locs : List Loc) (ls : Array Slot), K78 x1 x2 x3 x4 S → mH G h0 ad s S H locs → lv_has ls 6 [(0, .ref h0), (1, .int x1), (2, .int x2), (3, .int x3), (4, .int x4)] → W p l e ⟨4, 0, 0, 100⟩ s m args below meth c H locs 0 0 (MQ below (gQ vI post (mBw G h0 ad) (mAd h0 ad)) args s 0 0 (mAd h0 ad)) (F0 m 78 ls [])) : ∀ (x1 : Int32) (x2 : Int32) (x3 : Int32) (S : MS) (H : Heap) (locs : List Loc) (ls : Array Slot), wX1_tried_141 K78 post x1 x2 x3 S → mH G h0 ad s S H locs → lv_has ls 6 [(0, .ref h0), (1, .int x1), (2, .int x2), (3, .int x3)] → W p l e ⟨4, 0, 0, 100⟩ s m args below meth c H locs 0 0 (MQ below (gQ vI post (mBw G h0 ad) (mAd h0 ad)) args s 0 0 (mAd h0 ad)) (F0 m 141 ls []) := by
  have hx := X.1
  have hb := X.2.1
  have hown := X.2.2.1
  have hts := X.2.2.2.1
  intro x1 x2 x3 S H locs ls h hw hl
  unfold wX1_tried_141 at h
  refine lv_aload_n (pc := 141) hx hb dX1_tried_141 rfl (lv_at hl 0 rfl) ?_
  refine lv_iload_n (pc := 142) hx hb dX1_tried_142 rfl (lv_at hl 1 rfl) ?_
  refine uX1_goesOn (pc := 143) X hml hw h ⟨Nat.le_of_ble_eq_true rfl, Nat.le_of_ble_eq_true rfl⟩ hl.1 (Nat.le_of_ble_eq_true rfl) ⟨Nat.le_refl _, Nat.le_refl _⟩ dX1_tried_143 (fun r13 S14 H locs h hw => ?_)
  refine lv_istore (pc := 146) (lv' := [(4, .int r13), (0, .ref h0), (1, .int x1), (2, .int x2), (3, .int x3)]) hx hb dX1_tried_146 hl (by decide) rfl (fun ls hl => ?_)
  refine lv_goto (pc := 148) (tgt := 78) hx hb dX1_tried_148 rfl ?_
  exact hK78 _ _ _ _ _ _ _ _ h hw (lv_sub hl [1, 2, 3, 4, 0] rfl)
theorem kX1_tried_138 {p : Program} {l : Launch} {e : Env} {s : State} {m : MethodId} {args : Array Value} {below : List Frame} {meth : Method} {c : Code} {G : gG} {h0 : Nat} {ad : Nat → Nat} {K78 : Int32 → Int32 → Int32 → Int32 → MS → Prop} {post : Int32 → MS → Prop} (X : mX G h0 ad p s m args c cX1_tried) (hml : c.maxLocals = 6) (hr : meth.sig.returnType = (some .int)) (hlk : meth.locks = false) (hK78 : ∀ (x1 : Int32) (x2 : Int32) (x3 : Int32) (x4 : Int32) (S : MS) (H : Heap) (locs : List Loc) (ls : Array Slot), K78 x1 x2 x3 x4 S → mH G h0 ad s S H locs → lv_has ls 6 [(0, .ref h0), (1, .int x1), (2, .int x2), (3, .int x3), (4, .int x4)] → W p l e ⟨4, 0, 0, 100⟩ s m args below meth c H locs 0 0 (MQ below (gQ vI post (mBw G h0 ad) (mAd h0 ad)) args s 0 0 (mAd h0 ad)) (F0 m 78 ls [])) : ∀ (x1 : Int32) (x2 : Int32) (x3 : Int32) (S : MS) (H : Heap) (locs : List Loc) (ls : Array Slot), wX1_tried_138 K78 post x1 x2 x3 S → mH G h0 ad s S H locs → lv_has ls 6 [(0, .ref h0), (1, .int x1), (2, .int x2), (3, .int x3)] → W p l e ⟨4, 0, 0, 100⟩ s m args below meth c H locs 0 0 (MQ below (gQ vI post (mBw G h0 ad) (mAd h0 ad)) args s 0 0 (mAd h0 ad)) (F0 m 138 ls []) := by
  have hx := X.1
  have hb := X.2.1
  have hown := X.2.2.1
  have hts := X.2.2.2.1
  intro x1 x2 x3 S H locs ls h hw hl
  unfold wX1_tried_138 at h
  refine lv_iinc (pc := 138) (v := x3 + (1 : Int32)) (lv' := [(3, .int (x3 + (1 : Int32))), (0, .ref h0), (1, .int x1), (2, .int x2)]) hx hb dX1_tried_138 hl (k := 3) rfl rfl (by decide) rfl (fun ls hl => ?_)
  exact kX1_tried_141 X hml hr hlk hK78 _ _ _ _ _ _ _ h hw (lv_sub hl [1, 2, 3, 0] rfl)
theorem kX1_tried_97 {p : Program} {l : Launch} {e : Env} {s : State} {m : MethodId} {args : Array Value} {below : List Frame} {meth : Method} {c : Code} {G : gG} {h0 : Nat} {ad : Nat → Nat} {K78 : Int32 → Int32 → Int32 → Int32 → MS → Prop} {post : Int32 → MS → Prop} (X : mX G h0 ad p s m args c cX1_tried) (hml : c.maxLocals = 6) (hr : meth.sig.returnType = (some .int)) (hlk : meth.locks = false) (hK78 : ∀ (x1 : Int32) (x2 : Int32) (x3 : Int32) (x4 : Int32) (S : MS) (H : Heap) (locs : List Loc) (ls : Array Slot), K78 x1 x2 x3 x4 S → mH G h0 ad s S H locs → lv_has ls 6 [(0, .ref h0), (1, .int x1), (2, .int x2), (3, .int x3), (4, .int x4)] → W p l e ⟨4, 0, 0, 100⟩ s m args below meth c H locs 0 0 (MQ below (gQ vI post (mBw G h0 ad) (mAd h0 ad)) args s 0 0 (mAd h0 ad)) (F0 m 78 ls [])) : ∀ (n : Nat) (x1 : Int32) (x2 : Int32) (x3 : Int32) (x5 : Int32) (S : MS) (H : Heap) (locs : List Loc) (ls : Array Slot), wX1_tried_97 K78 post n x1 x2 x3 x5 S → mH G h0 ad s S H locs → lv_has ls 6 [(0, .ref h0), (1, .int x1), (2, .int x2), (3, .int x3), (5, .int x5)] → W p l e ⟨4, 0, 0, 100⟩ s m args below meth c H locs 0 0 (MQ below (gQ vI post (mBw G h0 ad) (mAd h0 ad)) args s 0 0 (mAd h0 ad)) (F0 m 97 ls []) := by
  have hx := X.1
  have hb := X.2.1
  have hown := X.2.2.1
  have hts := X.2.2.2.1
  intro n
  induction n with
  | zero =>
    intro x1 x2 x3 x5 S H locs ls h
    exact False.elim h
  | succ n ih =>
    intro x1 x2 x3 x5 S H locs ls h hw hl
    unfold wX1_tried_97 at h
    refine lv_iload (pc := 97) hx hb dX1_tried_97 (lv_at hl 4 rfl) ?_
    refine lv_bipush (pc := 99) (v := (6 : Int32)) hx hb dX1_tried_99 (by decide) ?_
    refine lv_icmp_ge (pc := 101) (tgt := 124) hx hb dX1_tried_101 rfl (fun c16 => ?_) (fun c16 => ?_)
    · have h := h.1 c16
      refine lv_aload_n (pc := 124) hx hb dX1_tried_124 rfl (lv_at hl 0 rfl) ?_
      refine mg45 (pc := 125) X hw dX1_tried_125 ?_
      refine lv_bipush (pc := 128) (v := (6 : Int32)) hx hb dX1_tried_128 (by decide) ?_
      refine lv_aload_n (pc := 130) hx hb dX1_tried_130 rfl (lv_at hl 0 rfl) ?_
      refine mg44 (pc := 131) X hw dX1_tried_131 ?_
      refine uX1_one (pc := 134) ⟨hx, hb, hml, hown, hts⟩ h ⟨Nat.le_of_ble_eq_true rfl, Nat.le_of_ble_eq_true rfl⟩ hl.1 (Nat.le_of_ble_eq_true rfl) ⟨Nat.le_refl _, Nat.le_refl _⟩ dX1_tried_134 (fun r17 h => ?_)
      obtain ⟨hi, h⟩ := h
      refine ms45 (pc := 137) X hw hi dX1_tried_137 (fun H locs hw => ?_)
      exact kX1_tried_138 X hml hr hlk hK78 _ _ _ _ _ _ _ h hw (lv_sub hl [0, 1, 2, 3] rfl)
    · have h := h.2 c16
      refine lv_aload_n (pc := 104) hx hb dX1_tried_104 rfl (lv_at hl 0 rfl) ?_
      refine mg45 (pc := 105) X hw dX1_tried_105 ?_
      refine lv_iload (pc := 108) hx hb dX1_tried_108 (lv_at hl 4 rfl) ?_
      refine lv_aload_n (pc := 110) hx hb dX1_tried_110 rfl (lv_at hl 0 rfl) ?_
      refine mg42 (pc := 111) X hw dX1_tried_111 ?_
      refine lv_iload (pc := 114) hx hb dX1_tried_114 (lv_at hl 4 rfl) ?_
      obtain ⟨hi, h⟩ := h
      refine ma42 (pc := 116) X hw hi dX1_tried_116 ?_
      obtain ⟨hi, h⟩ := h
      refine ms45 (pc := 117) X hw hi dX1_tried_117 (fun H locs hw => ?_)
      refine lv_iinc (pc := 118) (v := x5 + (1 : Int32)) (lv' := [(5, .int (x5 + (1 : Int32))), (0, .ref h0), (1, .int x1), (2, .int x2), (3, .int x3)]) hx hb dX1_tried_118 hl (k := 4) rfl rfl (by decide) rfl (fun ls hl => ?_)
      refine lv_goto (pc := 121) (tgt := 97) hx hb dX1_tried_121 rfl ?_
      exact ih _ _ _ _ _ _ _ _ h hw (lv_sub hl [1, 2, 3, 4, 0] rfl)
theorem kX1_tried_78 {p : Program} {l : Launch} {e : Env} {s : State} {m : MethodId} {args : Array Value} {below : List Frame} {meth : Method} {c : Code} {G : gG} {h0 : Nat} {ad : Nat → Nat} {post : Int32 → MS → Prop} (X : mX G h0 ad p s m args c cX1_tried) (hml : c.maxLocals = 6) (hr : meth.sig.returnType = (some .int)) (hlk : meth.locks = false) : ∀ (n : Nat) (x1 : Int32) (x2 : Int32) (x3 : Int32) (x4 : Int32) (S : MS) (H : Heap) (locs : List Loc) (ls : Array Slot), wX1_tried_78 post n x1 x2 x3 x4 S → mH G h0 ad s S H locs → lv_has ls 6 [(0, .ref h0), (1, .int x1), (2, .int x2), (3, .int x3), (4, .int x4)] → W p l e ⟨4, 0, 0, 100⟩ s m args below meth c H locs 0 0 (MQ below (gQ vI post (mBw G h0 ad) (mAd h0 ad)) args s 0 0 (mAd h0 ad)) (F0 m 78 ls []) := by
  have hx := X.1
  have hb := X.2.1
  have hown := X.2.2.1
  have hts := X.2.2.2.1
  intro n
  induction n with
  | zero =>
    intro x1 x2 x3 x4 S H locs ls h
    exact False.elim h
  | succ n ih =>
    intro x1 x2 x3 x4 S H locs ls h hw hl
    unfold wX1_tried_78 at h
    refine lv_iload (pc := 78) hx hb dX1_tried_78 (lv_at hl 4 rfl) ?_
    refine lv_if_eq (pc := 80) (tgt := 151) hx hb dX1_tried_80 rfl (fun c7 => ?_) (fun c7 => ?_)
    · have h := h.1 c7
      refine lv_iload_n (pc := 151) hx hb dX1_tried_151 rfl (lv_at hl 2 rfl) ?_
      refine lv_if_ne (pc := 152) (tgt := 159) hx hb dX1_tried_152 rfl (fun c8 => ?_) (fun c8 => ?_)
      · have h := h.2 c8
        refine lv_iload_n (pc := 159) hx hb dX1_tried_159 rfl (lv_at hl 3 rfl) ?_
        refine lv_if_ne (pc := 160) (tgt := 169) hx hb dX1_tried_160 rfl (fun c9 => ?_) (fun c9 => ?_)
        · have h := h.2 c9
          refine lv_aload_n (pc := 169) hx hb dX1_tried_169 rfl (lv_at hl 0 rfl) ?_
          refine mg45 (pc := 170) X hw dX1_tried_170 ?_
          refine lv_iload_n (pc := 173) hx hb dX1_tried_173 rfl (lv_at hl 2 rfl) ?_
          refine lv_iconst (pc := 174) (v := (1 : Int32)) hx hb dX1_tried_174 (by decide) ?_
          refine lv_isub (pc := 175) hx hb dX1_tried_175 ?_
          obtain ⟨hi, h⟩ := h
          refine ma45 (pc := 176) X hw hi dX1_tried_176 ?_
          exact W.iret (pc := 177) hx hb hr (fun t ht hW => m_ret (val := vI) hw h ht) hw.2.2.2 dX1_tried_177 hlk
        · have h := h.1 c9
          refine lv_ldcw (pc := 163) hx hb hown (hts _ q2305) dX1_tried_163 ?_
          refine lv_goto (pc := 166) (tgt := 177) hx hb dX1_tried_166 rfl ?_
          exact W.iret (pc := 177) hx hb hr (fun t ht hW => m_ret (val := vI) hw h ht) hw.2.2.2 dX1_tried_177 hlk
      · have h := h.1 c8
        refine lv_iload_n (pc := 155) hx hb dX1_tried_155 rfl (lv_at hl 3 rfl) ?_
        refine lv_goto (pc := 156) (tgt := 177) hx hb dX1_tried_156 rfl ?_
        exact W.iret (pc := 177) hx hb hr (fun t ht hW => m_ret (val := vI) hw h ht) hw.2.2.2 dX1_tried_177 hlk
    · have h := h.2 c7
      refine lv_aload_n (pc := 83) hx hb dX1_tried_83 rfl (lv_at hl 0 rfl) ?_
      refine uX1_isBroken (pc := 84) X hml hw h ⟨Nat.le_of_ble_eq_true rfl, Nat.le_of_ble_eq_true rfl⟩ hl.1 (Nat.le_of_ble_eq_true rfl) ⟨Nat.le_refl _, Nat.le_refl _⟩ dX1_tried_84 (fun r10 S11 H locs h hw => ?_)
      refine lv_if_eq (pc := 87) (tgt := 141) hx hb dX1_tried_87 rfl (fun c12 => ?_) (fun c12 => ?_)
      · have h := h.1 c12
        exact kX1_tried_141 X hml hr hlk ih _ _ _ _ _ _ _ h hw (lv_sub hl [0, 1, 2, 3] rfl)
      · have h := h.2 c12
        refine lv_iload_n (pc := 90) hx hb dX1_tried_90 rfl (lv_at hl 3 rfl) ?_
        refine lv_if_ne (pc := 91) (tgt := 138) hx hb dX1_tried_91 rfl (fun c15 => ?_) (fun c15 => ?_)
        · have h := h.2 c15
          exact kX1_tried_138 X hml hr hlk ih _ _ _ _ _ _ _ h hw (lv_sub hl [0, 1, 2, 3] rfl)
        · have h := h.1 c15
          refine lv_iconst (pc := 94) (v := (0 : Int32)) hx hb dX1_tried_94 (by decide) ?_
          refine lv_istore (pc := 95) (lv' := [(5, .int (0 : Int32)), (0, .ref h0), (1, .int x1), (2, .int x2), (3, .int x3), (4, .int x4)]) hx hb dX1_tried_95 hl (by decide) rfl (fun ls hl => ?_)
          obtain ⟨k, h⟩ := h
          exact kX1_tried_97 X hml hr hlk ih k _ _ _ _ _ _ _ _ h hw (lv_sub hl [1, 2, 3, 4, 0] rfl)
theorem kX1_tried_66 {p : Program} {l : Launch} {e : Env} {s : State} {m : MethodId} {args : Array Value} {below : List Frame} {meth : Method} {c : Code} {G : gG} {h0 : Nat} {ad : Nat → Nat} {K37 : Int32 → Int32 → Int32 → MS → Prop} {post : Int32 → MS → Prop} (X : mX G h0 ad p s m args c cX1_tried) (hml : c.maxLocals = 6) (hr : meth.sig.returnType = (some .int)) (hlk : meth.locks = false) (hK37 : ∀ (x1 : Int32) (x2 : Int32) (x3 : Int32) (S : MS) (H : Heap) (locs : List Loc) (ls : Array Slot), K37 x1 x2 x3 S → mH G h0 ad s S H locs → lv_has ls 6 [(0, .ref h0), (1, .int x1), (2, .int x2), (3, .int x3)] → W p l e ⟨4, 0, 0, 100⟩ s m args below meth c H locs 0 0 (MQ below (gQ vI post (mBw G h0 ad) (mAd h0 ad)) args s 0 0 (mAd h0 ad)) (F0 m 37 ls [])) : ∀ (x1 : Int32) (x2 : Int32) (x3 : Int32) (v0 : Int32) (v1 : Int32) (S : MS) (H : Heap) (locs : List Loc) (ls : Array Slot), wX1_tried_66 K37 post x1 x2 x3 v0 v1 S → mH G h0 ad s S H locs → lv_has ls 6 [(0, .ref h0), (1, .int x1), (2, .int x2), (3, .int x3)] → W p l e ⟨4, 0, 0, 100⟩ s m args below meth c H locs 0 0 (MQ below (gQ vI post (mBw G h0 ad) (mAd h0 ad)) args s 0 0 (mAd h0 ad)) (F0 m 66 ls [.int v0, .int v1, .ref (ad 42)]) := by
  have hx := X.1
  have hb := X.2.1
  have hown := X.2.2.1
  have hts := X.2.2.2.1
  intro x1 x2 x3 v0 v1 S H locs ls h hw hl
  unfold wX1_tried_66 at h
  obtain ⟨hi, h⟩ := h
  refine ms42 (pc := 66) X hw hi dX1_tried_66 (fun H locs hw => ?_)
  refine lv_iinc (pc := 67) (v := x3 + (1 : Int32)) (lv' := [(3, .int (x3 + (1 : Int32))), (0, .ref h0), (1, .int x1), (2, .int x2)]) hx hb dX1_tried_67 hl (k := 3) rfl rfl (by decide) rfl (fun ls hl => ?_)
  refine lv_goto (pc := 70) (tgt := 37) hx hb dX1_tried_70 rfl ?_
  exact hK37 _ _ _ _ _ _ _ h hw (lv_sub hl [1, 2, 3, 0] rfl)
theorem kX1_tried_37 {p : Program} {l : Launch} {e : Env} {s : State} {m : MethodId} {args : Array Value} {below : List Frame} {meth : Method} {c : Code} {G : gG} {h0 : Nat} {ad : Nat → Nat} {post : Int32 → MS → Prop} (X : mX G h0 ad p s m args c cX1_tried) (hml : c.maxLocals = 6) (hr : meth.sig.returnType = (some .int)) (hlk : meth.locks = false) : ∀ (n : Nat) (x1 : Int32) (x2 : Int32) (x3 : Int32) (S : MS) (H : Heap) (locs : List Loc) (ls : Array Slot), wX1_tried_37 post n x1 x2 x3 S → mH G h0 ad s S H locs → lv_has ls 6 [(0, .ref h0), (1, .int x1), (2, .int x2), (3, .int x3)] → W p l e ⟨4, 0, 0, 100⟩ s m args below meth c H locs 0 0 (MQ below (gQ vI post (mBw G h0 ad) (mAd h0 ad)) args s 0 0 (mAd h0 ad)) (F0 m 37 ls []) := by
  have hx := X.1
  have hb := X.2.1
  have hown := X.2.2.1
  have hts := X.2.2.2.1
  intro n
  induction n with
  | zero =>
    intro x1 x2 x3 S H locs ls h
    exact False.elim h
  | succ n ih =>
    intro x1 x2 x3 S H locs ls h hw hl
    unfold wX1_tried_37 at h
    refine lv_iload_n (pc := 37) hx hb dX1_tried_37 rfl (lv_at hl 3 rfl) ?_
    refine lv_bipush (pc := 38) (v := (6 : Int32)) hx hb dX1_tried_38 (by decide) ?_
    refine lv_icmp_ge (pc := 40) (tgt := 73) hx hb dX1_tried_40 rfl (fun c6 => ?_) (fun c6 => ?_)
    · have h := h.1 c6
      refine lv_iconst (pc := 73) (v := (0 : Int32)) hx hb dX1_tried_73 (by decide) ?_
      refine lv_istore_n (pc := 74) (lv' := [(3, .int (0 : Int32)), (0, .ref h0), (1, .int x1), (2, .int x2)]) hx hb dX1_tried_74 rfl hl (by decide) rfl (fun ls hl => ?_)
      refine lv_iconst (pc := 75) (v := (1 : Int32)) hx hb dX1_tried_75 (by decide) ?_
      refine lv_istore (pc := 76) (lv' := [(4, .int (1 : Int32)), (3, .int (0 : Int32)), (0, .ref h0), (1, .int x1), (2, .int x2)]) hx hb dX1_tried_76 hl (by decide) rfl (fun ls hl => ?_)
      obtain ⟨k, h⟩ := h
      exact kX1_tried_78 X hml hr hlk  k _ _ _ _ _ _ _ _ h hw (lv_sub hl [2, 3, 4, 1, 0] rfl)
    · have h := h.2 c6
      refine lv_aload_n (pc := 43) hx hb dX1_tried_43 rfl (lv_at hl 0 rfl) ?_
      refine mg42 (pc := 44) X hw dX1_tried_44 ?_
      refine lv_iload_n (pc := 47) hx hb dX1_tried_47 rfl (lv_at hl 3 rfl) ?_
      refine lv_aload_n (pc := 48) hx hb dX1_tried_48 rfl (lv_at hl 0 rfl) ?_
      refine mg39 (pc := 49) X hw dX1_tried_49 ?_
      refine lv_iload_n (pc := 52) hx hb dX1_tried_52 rfl (lv_at hl 3 rfl) ?_
      refine lv_ishr (pc := 53) hx hb dX1_tried_53 ?_
      refine lv_iconst (pc := 54) (v := (1 : Int32)) hx hb dX1_tried_54 (by decide) ?_
      refine lv_iand (pc := 55) hx hb dX1_tried_55 ?_
      refine lv_iconst (pc := 56) (v := (1 : Int32)) hx hb dX1_tried_56 (by decide) ?_
      refine lv_icmp_ne (pc := 57) (tgt := 65) hx hb dX1_tried_57 rfl (fun c18 => ?_) (fun c18 => ?_)
      · have h := h.2 c18
        refine lv_iconst (pc := 65) (v := (0 : Int32)) hx hb dX1_tried_65 (by decide) ?_
        exact kX1_tried_66 X hml hr hlk ih _ _ _ _ _ _ _ _ _ h hw (lv_sub hl [0, 1, 2, 3] rfl)
      · have h := h.1 c18
        refine lv_iload_n (pc := 60) hx hb dX1_tried_60 rfl (lv_at hl 1 rfl) ?_
        refine lv_ineg (pc := 61) hx hb dX1_tried_61 ?_
        refine lv_goto (pc := 62) (tgt := 66) hx hb dX1_tried_62 rfl ?_
        exact kX1_tried_66 X hml hr hlk ih _ _ _ _ _ _ _ _ _ h hw (lv_sub hl [0, 1, 2, 3] rfl)
theorem tX1_tried {l : Launch} {G : gG} {h0 : Nat} {ad : Nat → Nat} (hd : mOk G h0 ad) {post : Int32 → MS → Prop} {S : MS} {x1 : Int32} {x2 : Int32} (h : wX1_tried post S x1 x2) : Met l yX1_tried (ws_ yX1_tried cX1_tried 6 (some .int)) ⟨4, 0, 0, 100⟩ (va_Pc (.ref h0 :: [.int x1, .int x2]) (fun U => mBw G h0 ad S U.heap ∧ gK G U)) (gQ vI post (mBw G h0 ad) (mAd h0 ad)) 0 0 (mAd h0 ad) := by
  refine m_ofW (by decide) rfl hd (Nat.le_of_ble_eq_true rfl) (fun p e s m below meth c ls X hml hr hlk hw hl => ?_)
  have hl : lv_has ls 6 [(0, .ref h0), (1, .int x1), (2, .int x2)] := hl
  have hx := X.1
  have hb := X.2.1
  have hown := X.2.2.1
  have hts := X.2.2.2.1
  unfold wX1_tried at h
  refine lv_aload_n (pc := 0) hx hb dX1_tried_0 rfl (lv_at hl 0 rfl) ?_
  refine mg41 (pc := 1) X hw dX1_tried_1 ?_
  refine lv_if_eq (pc := 4) (tgt := 31) hx hb dX1_tried_4 rfl (fun c1 => ?_) (fun c1 => ?_)
  · have h := h.1 c1
    refine lv_ldcw (pc := 31) hx hb hown (hts _ q2305) dX1_tried_31 ?_
    exact W.iret (pc := 34) hx hb hr (fun t ht hW => m_ret (val := vI) hw h ht) hw.2.2.2 dX1_tried_34 hlk
  · have h := h.2 c1
    refine lv_iload_n (pc := 7) hx hb dX1_tried_7 rfl (lv_at hl 1 rfl) ?_
    refine lv_i2l (pc := 8) hx hb dX1_tried_8 rfl ?_
    refine lv_lconst (pc := 9) (v := (0 : Int64)) hx hb dX1_tried_9 (by decide) ?_
    refine lv_ldc2 (pc := 10) hx hb hown (hts _ q2150) dX1_tried_10 ?_
    refine uX1_isIn (pc := 13) ⟨hx, hb, hml, hown, hts⟩ h ⟨Nat.le_of_ble_eq_true rfl, Nat.le_of_ble_eq_true rfl⟩ hl.1 (Nat.le_of_ble_eq_true rfl) ⟨Nat.le_refl _, Nat.le_refl _⟩ dX1_tried_13 (fun r2 h => ?_)
    refine lv_if_eq (pc := 16) (tgt := 31) hx hb dX1_tried_16 rfl (fun c3 => ?_) (fun c3 => ?_)
    · have h := h.1 c3
      refine lv_ldcw (pc := 31) hx hb hown (hts _ q2305) dX1_tried_31 ?_
      exact W.iret (pc := 34) hx hb hr (fun t ht hW => m_ret (val := vI) hw h ht) hw.2.2.2 dX1_tried_34 hlk
    · have h := h.2 c3
      refine lv_iload_n (pc := 19) hx hb dX1_tried_19 rfl (lv_at hl 2 rfl) ?_
      refine lv_i2l (pc := 20) hx hb dX1_tried_20 rfl ?_
      refine lv_lconst (pc := 21) (v := (0 : Int64)) hx hb dX1_tried_21 (by decide) ?_
      refine lv_ldc2 (pc := 22) hx hb hown (hts _ q2364) dX1_tried_22 ?_
      refine uX1_isIn (pc := 25) ⟨hx, hb, hml, hown, hts⟩ h ⟨Nat.le_of_ble_eq_true rfl, Nat.le_of_ble_eq_true rfl⟩ hl.1 (Nat.le_of_ble_eq_true rfl) ⟨Nat.le_refl _, Nat.le_refl _⟩ dX1_tried_25 (fun r4 h => ?_)
      refine lv_if_ne (pc := 28) (tgt := 35) hx hb dX1_tried_28 rfl (fun c5 => ?_) (fun c5 => ?_)
      · have h := h.2 c5
        refine lv_iconst (pc := 35) (v := (0 : Int32)) hx hb dX1_tried_35 (by decide) ?_
        refine lv_istore_n (pc := 36) (lv' := [(3, .int (0 : Int32)), (0, .ref h0), (1, .int x1), (2, .int x2)]) hx hb dX1_tried_36 rfl hl (by decide) rfl (fun ls hl => ?_)
        obtain ⟨k, h⟩ := h
        exact kX1_tried_37 X hml hr hlk  k _ _ _ _ _ _ _ h hw (lv_sub hl [1, 2, 3, 0] rfl)
      · have h := h.1 c5
        refine lv_ldcw (pc := 31) hx hb hown (hts _ q2305) dX1_tried_31 ?_
        exact W.iret (pc := 34) hx hb hr (fun t ht hW => m_ret (val := vI) hw h ht) hw.2.2.2 dX1_tried_34 hlk

def wX1_readIdentity_69 (post : Int32 → MS → Prop) (S : MS) : Prop :=
  post (1 : Int32) S
def wX1_readIdentity (post : Int32 → MS → Prop) (S : MS) : Prop :=
  wX1_readSum 8 (fun r1 S2 => ((r1 = (0 : Int32)) → (post (0 : Int32) S2)) ∧ (¬ (r1 = (0 : Int32)) → (vp_in (2 : Int32) 4 ∧ (wX1_takesSign (fun r4 S5 => ((r4 = (0 : Int32)) → (post (0 : Int32) S5)) ∧ (¬ (r4 = (0 : Int32)) → (wX1_readSum 8 (fun r7 S8 => ((r7 = (0 : Int32)) → (post (0 : Int32) S8)) ∧ (¬ (r7 = (0 : Int32)) → (vp_in (3 : Int32) 4 ∧ ((((S8.1 12) = (0 : Int32)) → (wX1_readIdentity_69 post (mA S8 35 (upd (S8.2.2.1 35) (3 : Int32).toNatClampNeg (S8.1 36))))) ∧ (¬ ((S8.1 12) = (0 : Int32)) → (wX1_fails (fun r11 S12 => ((r11 = (0 : Int32)) → (post (0 : Int32) S12)) ∧ (¬ (r11 = (0 : Int32)) → (wX1_readIdentity_69 post S12))) (mA S8 35 (upd (S8.2.2.1 35) (3 : Int32).toNatClampNeg (S8.1 36))) (1 : Int32))))))) (mI S5 18 (1 : Int32))))) (mA S2 35 (upd (S2.2.2.1 35) (2 : Int32).toNatClampNeg (S2.1 36))) (61 : Int32))))) S
theorem kX1_readIdentity_69 {p : Program} {l : Launch} {e : Env} {s : State} {m : MethodId} {args : Array Value} {below : List Frame} {meth : Method} {c : Code} {G : gG} {h0 : Nat} {ad : Nat → Nat} {post : Int32 → MS → Prop} (X : mX G h0 ad p s m args c cX1_readIdentity) (hml : c.maxLocals = 1) (hr : meth.sig.returnType = (some .boolean)) (hlk : meth.locks = false) : ∀ (S : MS) (H : Heap) (locs : List Loc) (ls : Array Slot), wX1_readIdentity_69 post S → mH G h0 ad s S H locs → lv_has ls 1 [] → W p l e ⟨53, 0, 0, 1677⟩ s m args below meth c H locs 0 0 (MQ below (gQ vI post (mBw G h0 ad) (mAd h0 ad)) args s 0 0 (mAd h0 ad)) (F0 m 69 ls []) := by
  have hx := X.1
  have hb := X.2.1
  have hown := X.2.2.1
  have hts := X.2.2.2.1
  intro S H locs ls h hw hl
  unfold wX1_readIdentity_69 at h
  refine lv_iconst (pc := 69) (v := (1 : Int32)) hx hb dX1_readIdentity_69 (by decide) ?_
  refine lv_goto (pc := 70) (tgt := 74) hx hb dX1_readIdentity_70 rfl ?_
  exact W.zret (pc := 74) hx hb hr rfl (fun t ht hW => m_ret (val := vI) hw h ht) hw.2.2.2 dX1_readIdentity_74 hlk
theorem tX1_readIdentity {l : Launch} {G : gG} {h0 : Nat} {ad : Nat → Nat} (hd : mOk G h0 ad) {post : Int32 → MS → Prop} {S : MS} (h : wX1_readIdentity post S) : Met l yX1_readIdentity (ws_ yX1_readIdentity cX1_readIdentity 1 (some .boolean)) ⟨53, 0, 0, 1677⟩ (va_Pc (.ref h0 :: []) (fun U => mBw G h0 ad S U.heap ∧ gK G U)) (gQ vI post (mBw G h0 ad) (mAd h0 ad)) 0 0 (mAd h0 ad) := by
  refine m_ofW (by decide) rfl hd (Nat.le_of_ble_eq_true rfl) (fun p e s m below meth c ls X hml hr hlk hw hl => ?_)
  have hl : lv_has ls 1 [(0, .ref h0)] := hl
  have hx := X.1
  have hb := X.2.1
  have hown := X.2.2.1
  have hts := X.2.2.2.1
  unfold wX1_readIdentity at h
  refine lv_aload_n (pc := 0) hx hb dX1_readIdentity_0 rfl (lv_at hl 0 rfl) ?_
  refine uX1_readSum (pc := 1) X hml hw h ⟨Nat.le_of_ble_eq_true rfl, Nat.le_of_ble_eq_true rfl⟩ hl.1 (Nat.le_of_ble_eq_true rfl) ⟨Nat.le_refl _, Nat.le_refl _⟩ dX1_readIdentity_1 (fun r1 S2 H locs h hw => ?_)
  refine lv_if_ne (pc := 4) (tgt := 9) hx hb dX1_readIdentity_4 rfl (fun c3 => ?_) (fun c3 => ?_)
  · have h := h.2 c3
    refine lv_aload_n (pc := 9) hx hb dX1_readIdentity_9 rfl (lv_at hl 0 rfl) ?_
    refine mg35 (pc := 10) X hw dX1_readIdentity_10 ?_
    refine lv_iconst (pc := 13) (v := (2 : Int32)) hx hb dX1_readIdentity_13 (by decide) ?_
    refine lv_aload_n (pc := 14) hx hb dX1_readIdentity_14 rfl (lv_at hl 0 rfl) ?_
    refine mg36 (pc := 15) X hw dX1_readIdentity_15 ?_
    obtain ⟨hi, h⟩ := h
    refine ms35 (pc := 18) X hw hi dX1_readIdentity_18 (fun H locs hw => ?_)
    refine lv_aload_n (pc := 19) hx hb dX1_readIdentity_19 rfl (lv_at hl 0 rfl) ?_
    refine lv_bipush (pc := 20) (v := (61 : Int32)) hx hb dX1_readIdentity_20 (by decide) ?_
    refine uX1_takesSign (pc := 22) X hml hw h ⟨Nat.le_of_ble_eq_true rfl, Nat.le_of_ble_eq_true rfl⟩ hl.1 (Nat.le_of_ble_eq_true rfl) ⟨Nat.le_refl _, Nat.le_refl _⟩ dX1_readIdentity_22 (fun r4 S5 H locs h hw => ?_)
    refine lv_if_ne (pc := 25) (tgt := 30) hx hb dX1_readIdentity_25 rfl (fun c6 => ?_) (fun c6 => ?_)
    · have h := h.2 c6
      refine lv_aload_n (pc := 30) hx hb dX1_readIdentity_30 rfl (lv_at hl 0 rfl) ?_
      refine lv_iconst (pc := 31) (v := (1 : Int32)) hx hb dX1_readIdentity_31 (by decide) ?_
      refine mp18 (pc := 32) X hw dX1_readIdentity_32 (fun H locs hw => ?_)
      refine lv_aload_n (pc := 35) hx hb dX1_readIdentity_35 rfl (lv_at hl 0 rfl) ?_
      refine uX1_readSum (pc := 36) X hml hw h ⟨Nat.le_of_ble_eq_true rfl, Nat.le_of_ble_eq_true rfl⟩ hl.1 (Nat.le_of_ble_eq_true rfl) ⟨Nat.le_refl _, Nat.le_refl _⟩ dX1_readIdentity_36 (fun r7 S8 H locs h hw => ?_)
      refine lv_if_ne (pc := 39) (tgt := 44) hx hb dX1_readIdentity_39 rfl (fun c9 => ?_) (fun c9 => ?_)
      · have h := h.2 c9
        refine lv_aload_n (pc := 44) hx hb dX1_readIdentity_44 rfl (lv_at hl 0 rfl) ?_
        refine mg35 (pc := 45) X hw dX1_readIdentity_45 ?_
        refine lv_iconst (pc := 48) (v := (3 : Int32)) hx hb dX1_readIdentity_48 (by decide) ?_
        refine lv_aload_n (pc := 49) hx hb dX1_readIdentity_49 rfl (lv_at hl 0 rfl) ?_
        refine mg36 (pc := 50) X hw dX1_readIdentity_50 ?_
        obtain ⟨hi, h⟩ := h
        refine ms35 (pc := 53) X hw hi dX1_readIdentity_53 (fun H locs hw => ?_)
        refine lv_aload_n (pc := 54) hx hb dX1_readIdentity_54 rfl (lv_at hl 0 rfl) ?_
        refine mg12 (pc := 55) X hw dX1_readIdentity_55 ?_
        refine lv_if_eq (pc := 58) (tgt := 69) hx hb dX1_readIdentity_58 rfl (fun c10 => ?_) (fun c10 => ?_)
        · have h := h.1 c10
          exact kX1_readIdentity_69 X hml hr hlk   _ _ _ _ h hw (lv_sub hl [] rfl)
        · have h := h.2 c10
          refine lv_aload_n (pc := 61) hx hb dX1_readIdentity_61 rfl (lv_at hl 0 rfl) ?_
          refine lv_iconst (pc := 62) (v := (1 : Int32)) hx hb dX1_readIdentity_62 (by decide) ?_
          refine uX1_fails (pc := 63) X hml hw h ⟨Nat.le_of_ble_eq_true rfl, Nat.le_of_ble_eq_true rfl⟩ hl.1 (Nat.le_of_ble_eq_true rfl) ⟨Nat.le_refl _, Nat.le_refl _⟩ dX1_readIdentity_63 (fun r11 S12 H locs h hw => ?_)
          refine lv_if_eq (pc := 66) (tgt := 73) hx hb dX1_readIdentity_66 rfl (fun c13 => ?_) (fun c13 => ?_)
          · have h := h.1 c13
            refine lv_iconst (pc := 73) (v := (0 : Int32)) hx hb dX1_readIdentity_73 (by decide) ?_
            exact W.zret (pc := 74) hx hb hr rfl (fun t ht hW => m_ret (val := vI) hw h ht) hw.2.2.2 dX1_readIdentity_74 hlk
          · have h := h.2 c13
            exact kX1_readIdentity_69 X hml hr hlk   _ _ _ _ h hw (lv_sub hl [] rfl)
      · have h := h.1 c9
        refine lv_iconst (pc := 42) (v := (0 : Int32)) hx hb dX1_readIdentity_42 (by decide) ?_
        exact W.zret (pc := 43) hx hb hr rfl (fun t ht hW => m_ret (val := vI) hw h ht) hw.2.2.2 dX1_readIdentity_43 hlk
    · have h := h.1 c6
      refine lv_iconst (pc := 28) (v := (0 : Int32)) hx hb dX1_readIdentity_28 (by decide) ?_
      exact W.zret (pc := 29) hx hb hr rfl (fun t ht hW => m_ret (val := vI) hw h ht) hw.2.2.2 dX1_readIdentity_29 hlk
  · have h := h.1 c3
    refine lv_iconst (pc := 7) (v := (0 : Int32)) hx hb dX1_readIdentity_7 (by decide) ?_
    exact W.zret (pc := 8) hx hb hr rfl (fun t ht hW => m_ret (val := vI) hw h ht) hw.2.2.2 dX1_readIdentity_8 hlk
theorem uX1_readIdentity {p : Program} {l : Launch} {e : Env} {R : Room} {s : State} {m : MethodId} {args : Array Value} {below : List Frame} {meth : Method} {c : Code} {H : Heap} {locs : List Loc} {cells slots : Nat} {Q : Jvm.State → Prop} {cc : ByteArray} {pc : Nat} {ls : Array Slot} {rest : List Value} {G : gG} {h0 : Nat} {ad : Nat → Nat} {post : Int32 → MS → Prop} {S : MS} {nL : Nat} (X : mX G h0 ad p s m args c cc) (hml : c.maxLocals = nL) (hw : mH G h0 ad s S H locs) (h : wX1_readIdentity post S) (hR : 53 + 1 ≤ R.frames ∧ 8 + (1 + 11) + 1677 ≤ R.locals) (hsz : ls.size = nL) (hr : (rest.map fun v => v.category).sum ≤ 8) (hc : cells ≤ R.cells ∧ slots ≤ R.slots) (d : decode cc pc = .ok (.invokevirtual 364, 3)) (kk : ∀ (r : Int32) (S1 : MS) (H1 : Heap) (locs1 : List Loc), post r S1 → mH G h0 ad s S1 H1 locs1 → W p l e R s m args below meth c H1 locs1 cells slots Q (F0 m (pc + 3) ls (.int r :: rest))) : W p l e R s m args below meth c H locs cells slots Q (F0 m pc ls (.ref h0 :: rest)) :=
  m_call (val := vI) (post := post) (As := []) X hml hw (tX1_readIdentity X.2.2.2.2.2.1 h) (lw_V q2332 q2334 qs81 q105 q2335) ⟨rfl, by decide, by decide, (by decide +kernel : (parseMethodDescriptor yX1_readIdentity.desc).map (fun d => d.parameters.length) = some 0)⟩ hR hsz hr hc d rfl kk

def wX1_identity_87 (post : Int32 → MS → Prop) : Nat → Int32 → MS → Prop
  | 0, _, _ => False
  | n + 1, x2, S => (((S.1 36) ≤ x2) → (wX1_bits (fun r9 => post r9 S) (S.1 39))) ∧ (¬ ((S.1 36) ≤ x2) → (vp_in ((900 : Int32) + x2) 1800 ∧ (vp_in x2 1800 ∧ (vp_in ((900 : Int32) + x2) 1800 ∧ (vp_in x2 1800 ∧ (wX1_identity_87 post n (x2 + (1 : Int32)) (mA (mA S 33 (upd (S.2.2.1 33) x2.toNatClampNeg (S.2.2.1 33 ((900 : Int32) + x2).toNatClampNeg))) 34 (upd (S.2.2.1 34) x2.toNatClampNeg (S.2.2.1 34 ((900 : Int32) + x2).toNatClampNeg)))))))))
def wX1_identity (post : Int32 → MS → Prop) (S : MS) : Prop :=
  wX1_begins (fun _ S2 => wX1_readIdentity (fun r3 S4 => wX1_isRead (fun r5 S6 => ((r3 = (0 : Int32)) → (post (-1 : Int32) S6)) ∧ (¬ (r3 = (0 : Int32)) → (vp_in (2 : Int32) 4 ∧ (vp_in (0 : Int32) 4 ∧ (vp_in (3 : Int32) 4 ∧ (vp_in (1 : Int32) 4 ∧ ((∃ k, wX1_identity_87 post k (0 : Int32) (mA (mA (mI (mI (mI S6 41 (1 : Int32)) 37 (S6.1 38)) 39 (S6.1 40)) 35 (upd (S6.2.2.1 35) (0 : Int32).toNatClampNeg (S6.2.2.1 35 (2 : Int32).toNatClampNeg))) 35 (upd (upd (S6.2.2.1 35) (0 : Int32).toNatClampNeg (S6.2.2.1 35 (2 : Int32).toNatClampNeg)) (1 : Int32).toNatClampNeg ((upd (S6.2.2.1 35) (0 : Int32).toNatClampNeg (S6.2.2.1 35 (2 : Int32).toNatClampNeg)) (3 : Int32).toNatClampNeg))))))))))) S4) (mI (mI (mI (mI S2 19 (0 : Int32)) 36 (0 : Int32)) 38 (0 : Int32)) 40 (0 : Int32))) S
theorem kX1_identity_87 {p : Program} {l : Launch} {e : Env} {s : State} {m : MethodId} {args : Array Value} {below : List Frame} {meth : Method} {c : Code} {G : gG} {h0 : Nat} {ad : Nat → Nat} {post : Int32 → MS → Prop} (X : mX G h0 ad p s m args c cX1_identity) (hml : c.maxLocals = 3) (hr : meth.sig.returnType = (some .int)) (hlk : meth.locks = false) : ∀ (n : Nat) (x2 : Int32) (S : MS) (H : Heap) (locs : List Loc) (ls : Array Slot), wX1_identity_87 post n x2 S → mH G h0 ad s S H locs → lv_has ls 3 [(0, .ref h0), (2, .int x2)] → W p l e ⟨54, 0, 0, 1697⟩ s m args below meth c H locs 0 0 (MQ below (gQ vI post (mBw G h0 ad) (mAd h0 ad)) args s 0 0 (mAd h0 ad)) (F0 m 87 ls []) := by
  have hx := X.1
  have hb := X.2.1
  have hown := X.2.2.1
  have hts := X.2.2.2.1
  intro n
  induction n with
  | zero =>
    intro x2 S H locs ls h
    exact False.elim h
  | succ n ih =>
    intro x2 S H locs ls h hw hl
    unfold wX1_identity_87 at h
    refine lv_iload_n (pc := 87) hx hb dX1_identity_87 rfl (lv_at hl 1 rfl) ?_
    refine lv_aload_n (pc := 88) hx hb dX1_identity_88 rfl (lv_at hl 0 rfl) ?_
    refine mg36 (pc := 89) X hw dX1_identity_89 ?_
    refine lv_icmp_ge (pc := 92) (tgt := 133) hx hb dX1_identity_92 rfl (fun c8 => ?_) (fun c8 => ?_)
    · have h := h.1 c8
      refine lv_aload_n (pc := 133) hx hb dX1_identity_133 rfl (lv_at hl 0 rfl) ?_
      refine mg39 (pc := 134) X hw dX1_identity_134 ?_
      refine uX1_bits (pc := 137) ⟨hx, hb, hml, hown, hts⟩ h ⟨Nat.le_of_ble_eq_true rfl, Nat.le_of_ble_eq_true rfl⟩ hl.1 (Nat.le_of_ble_eq_true rfl) ⟨Nat.le_refl _, Nat.le_refl _⟩ dX1_identity_137 (fun r9 h => ?_)
      exact W.iret (pc := 140) hx hb hr (fun t ht hW => m_ret (val := vI) hw h ht) hw.2.2.2 dX1_identity_140 hlk
    · have h := h.2 c8
      refine lv_aload_n (pc := 95) hx hb dX1_identity_95 rfl (lv_at hl 0 rfl) ?_
      refine mg33 (pc := 96) X hw dX1_identity_96 ?_
      refine lv_iload_n (pc := 99) hx hb dX1_identity_99 rfl (lv_at hl 1 rfl) ?_
      refine lv_aload_n (pc := 100) hx hb dX1_identity_100 rfl (lv_at hl 0 rfl) ?_
      refine mg33 (pc := 101) X hw dX1_identity_101 ?_
      refine lv_sipush (pc := 104) (v := (900 : Int32)) hx hb dX1_identity_104 (by decide) ?_
      refine lv_iload_n (pc := 107) hx hb dX1_identity_107 rfl (lv_at hl 1 rfl) ?_
      refine lv_iadd (pc := 108) hx hb dX1_identity_108 ?_
      obtain ⟨hi, h⟩ := h
      refine ma33 (pc := 109) X hw hi dX1_identity_109 ?_
      obtain ⟨hi, h⟩ := h
      refine ms33 (pc := 110) X hw hi dX1_identity_110 (fun H locs hw => ?_)
      refine lv_aload_n (pc := 111) hx hb dX1_identity_111 rfl (lv_at hl 0 rfl) ?_
      refine mg34 (pc := 112) X hw dX1_identity_112 ?_
      refine lv_iload_n (pc := 115) hx hb dX1_identity_115 rfl (lv_at hl 1 rfl) ?_
      refine lv_aload_n (pc := 116) hx hb dX1_identity_116 rfl (lv_at hl 0 rfl) ?_
      refine mg34 (pc := 117) X hw dX1_identity_117 ?_
      refine lv_sipush (pc := 120) (v := (900 : Int32)) hx hb dX1_identity_120 (by decide) ?_
      refine lv_iload_n (pc := 123) hx hb dX1_identity_123 rfl (lv_at hl 1 rfl) ?_
      refine lv_iadd (pc := 124) hx hb dX1_identity_124 ?_
      obtain ⟨hi, h⟩ := h
      refine ma34 (pc := 125) X hw hi dX1_identity_125 ?_
      obtain ⟨hi, h⟩ := h
      refine ms34 (pc := 126) X hw hi dX1_identity_126 (fun H locs hw => ?_)
      refine lv_iinc (pc := 127) (v := x2 + (1 : Int32)) (lv' := [(2, .int (x2 + (1 : Int32))), (0, .ref h0)]) hx hb dX1_identity_127 hl (k := 1) rfl rfl (by decide) rfl (fun ls hl => ?_)
      refine lv_goto (pc := 130) (tgt := 87) hx hb dX1_identity_130 rfl ?_
      exact ih _ _ _ _ _ h hw (lv_sub hl [1, 0] rfl)
theorem tX1_identity {l : Launch} {G : gG} {h0 : Nat} {ad : Nat → Nat} (hd : mOk G h0 ad) {post : Int32 → MS → Prop} {S : MS} (h : wX1_identity post S) : Met l yX1_identity (ws_ yX1_identity cX1_identity 3 (some .int)) ⟨54, 0, 0, 1697⟩ (va_Pc (.ref h0 :: []) (fun U => mBw G h0 ad S U.heap ∧ gK G U)) (gQ vI post (mBw G h0 ad) (mAd h0 ad)) 0 0 (mAd h0 ad) := by
  refine m_ofW (by decide) rfl hd (Nat.le_of_ble_eq_true rfl) (fun p e s m below meth c ls X hml hr hlk hw hl => ?_)
  have hl : lv_has ls 3 [(0, .ref h0)] := hl
  have hx := X.1
  have hb := X.2.1
  have hown := X.2.2.1
  have hts := X.2.2.2.1
  unfold wX1_identity at h
  refine lv_aload_n (pc := 0) hx hb dX1_identity_0 rfl (lv_at hl 0 rfl) ?_
  refine uX1_begins (pc := 1) X hml hw h ⟨Nat.le_of_ble_eq_true rfl, Nat.le_of_ble_eq_true rfl⟩ hl.1 (Nat.le_of_ble_eq_true rfl) ⟨Nat.le_refl _, Nat.le_refl _⟩ dX1_identity_1 (fun _ S2 H locs h hw => ?_)
  refine lv_aload_n (pc := 4) hx hb dX1_identity_4 rfl (lv_at hl 0 rfl) ?_
  refine lv_iconst (pc := 5) (v := (0 : Int32)) hx hb dX1_identity_5 (by decide) ?_
  refine mp19 (pc := 6) X hw dX1_identity_6 (fun H locs hw => ?_)
  refine lv_aload_n (pc := 9) hx hb dX1_identity_9 rfl (lv_at hl 0 rfl) ?_
  refine lv_iconst (pc := 10) (v := (0 : Int32)) hx hb dX1_identity_10 (by decide) ?_
  refine mp36 (pc := 11) X hw dX1_identity_11 (fun H locs hw => ?_)
  refine lv_aload_n (pc := 14) hx hb dX1_identity_14 rfl (lv_at hl 0 rfl) ?_
  refine lv_iconst (pc := 15) (v := (0 : Int32)) hx hb dX1_identity_15 (by decide) ?_
  refine mp38 (pc := 16) X hw dX1_identity_16 (fun H locs hw => ?_)
  refine lv_aload_n (pc := 19) hx hb dX1_identity_19 rfl (lv_at hl 0 rfl) ?_
  refine lv_iconst (pc := 20) (v := (0 : Int32)) hx hb dX1_identity_20 (by decide) ?_
  refine mp40 (pc := 21) X hw dX1_identity_21 (fun H locs hw => ?_)
  refine lv_aload_n (pc := 24) hx hb dX1_identity_24 rfl (lv_at hl 0 rfl) ?_
  refine uX1_readIdentity (pc := 25) X hml hw h ⟨Nat.le_of_ble_eq_true rfl, Nat.le_of_ble_eq_true rfl⟩ hl.1 (Nat.le_of_ble_eq_true rfl) ⟨Nat.le_refl _, Nat.le_refl _⟩ dX1_identity_25 (fun r3 S4 H locs h hw => ?_)
  refine lv_istore_n (pc := 28) (lv' := [(1, .int r3), (0, .ref h0)]) hx hb dX1_identity_28 rfl hl (by decide) rfl (fun ls hl => ?_)
  refine lv_aload_n (pc := 29) hx hb dX1_identity_29 rfl (lv_at hl 1 rfl) ?_
  refine uX1_isRead (pc := 30) X hml hw h ⟨Nat.le_of_ble_eq_true rfl, Nat.le_of_ble_eq_true rfl⟩ hl.1 (Nat.le_of_ble_eq_true rfl) ⟨Nat.le_refl _, Nat.le_refl _⟩ dX1_identity_30 (fun r5 S6 H locs h hw => ?_)
  refine lv_pop (pc := 33) hx hb dX1_identity_33 rfl ?_
  refine lv_iload_n (pc := 34) hx hb dX1_identity_34 rfl (lv_at hl 0 rfl) ?_
  refine lv_if_ne (pc := 35) (tgt := 40) hx hb dX1_identity_35 rfl (fun c7 => ?_) (fun c7 => ?_)
  · have h := h.2 c7
    refine lv_aload_n (pc := 40) hx hb dX1_identity_40 rfl (lv_at hl 1 rfl) ?_
    refine lv_iconst (pc := 41) (v := (1 : Int32)) hx hb dX1_identity_41 (by decide) ?_
    refine mp41 (pc := 42) X hw isB_1 dX1_identity_42 (fun H locs hw => ?_)
    refine lv_aload_n (pc := 45) hx hb dX1_identity_45 rfl (lv_at hl 1 rfl) ?_
    refine lv_aload_n (pc := 46) hx hb dX1_identity_46 rfl (lv_at hl 1 rfl) ?_
    refine mg38 (pc := 47) X hw dX1_identity_47 ?_
    refine mp37 (pc := 50) X hw dX1_identity_50 (fun H locs hw => ?_)
    refine lv_aload_n (pc := 53) hx hb dX1_identity_53 rfl (lv_at hl 1 rfl) ?_
    refine lv_aload_n (pc := 54) hx hb dX1_identity_54 rfl (lv_at hl 1 rfl) ?_
    refine mg40 (pc := 55) X hw dX1_identity_55 ?_
    refine mp39 (pc := 58) X hw dX1_identity_58 (fun H locs hw => ?_)
    refine lv_aload_n (pc := 61) hx hb dX1_identity_61 rfl (lv_at hl 1 rfl) ?_
    refine mg35 (pc := 62) X hw dX1_identity_62 ?_
    refine lv_iconst (pc := 65) (v := (0 : Int32)) hx hb dX1_identity_65 (by decide) ?_
    refine lv_aload_n (pc := 66) hx hb dX1_identity_66 rfl (lv_at hl 1 rfl) ?_
    refine mg35 (pc := 67) X hw dX1_identity_67 ?_
    refine lv_iconst (pc := 70) (v := (2 : Int32)) hx hb dX1_identity_70 (by decide) ?_
    obtain ⟨hi, h⟩ := h
    refine ma35 (pc := 71) X hw hi dX1_identity_71 ?_
    obtain ⟨hi, h⟩ := h
    refine ms35 (pc := 72) X hw hi dX1_identity_72 (fun H locs hw => ?_)
    refine lv_aload_n (pc := 73) hx hb dX1_identity_73 rfl (lv_at hl 1 rfl) ?_
    refine mg35 (pc := 74) X hw dX1_identity_74 ?_
    refine lv_iconst (pc := 77) (v := (1 : Int32)) hx hb dX1_identity_77 (by decide) ?_
    refine lv_aload_n (pc := 78) hx hb dX1_identity_78 rfl (lv_at hl 1 rfl) ?_
    refine mg35 (pc := 79) X hw dX1_identity_79 ?_
    refine lv_iconst (pc := 82) (v := (3 : Int32)) hx hb dX1_identity_82 (by decide) ?_
    obtain ⟨hi, h⟩ := h
    refine ma35 (pc := 83) X hw hi dX1_identity_83 ?_
    obtain ⟨hi, h⟩ := h
    refine ms35 (pc := 84) X hw hi dX1_identity_84 (fun H locs hw => ?_)
    refine lv_iconst (pc := 85) (v := (0 : Int32)) hx hb dX1_identity_85 (by decide) ?_
    refine lv_istore_n (pc := 86) (lv' := [(2, .int (0 : Int32)), (1, .int r3), (0, .ref h0)]) hx hb dX1_identity_86 rfl hl (by decide) rfl (fun ls hl => ?_)
    obtain ⟨k, h⟩ := h
    exact kX1_identity_87 X hml hr hlk  k _ _ _ _ _ h hw (lv_sub hl [2, 0] rfl)
  · have h := h.1 c7
    refine lv_iconst (pc := 38) (v := (-1 : Int32)) hx hb dX1_identity_38 (by decide) ?_
    exact W.iret (pc := 39) hx hb hr (fun t ht hW => m_ret (val := vI) hw h ht) hw.2.2.2 dX1_identity_39 hlk
