set_option maxRecDepth 100000
set_option maxHeartbeats 4000000
def wX0_common_141 (K : Nat → Nat → Nat) (K93 : Nat → Int32 → Int32 → Option Nat → Nat → Int32 → Int32 → Nat → Nat → NM → Prop) (post : Int32 → NM → Prop) (x0 : Nat) (x4 : Int32) (x5 : Int32) (x7 : Option Nat) (x8 : Nat) (x9 : Int32) (x10 : Int32) (mc ms : Nat) (N : NM) : Prop :=
  K93 x0 x4 x5 x7 x8 x9 (x10 + (1 : Int32)) mc ms N
def wX0_common_93 (K : Nat → Nat → Nat) (post : Int32 → NM → Prop) : Nat → Nat → Int32 → Int32 → Option Nat → Nat → Int32 → Int32 → Nat → Nat → NM → Prop
  | 0, _, _, _, _, _, _, _, _, _, _ => False
  | n + 1, x0, x4, x5, x7, x8, x9, x10, mc, ms, N => ((x4 < x10) → (((x5 = (-1 : Int32)) → (post x9 N)) ∧ (¬ (x5 = (-1 : Int32)) → (post (-100000 : Int32) N)))) ∧ (¬ (x4 < x10) → (∃ n74 f75, N x8 = some (eN 2 n74 f75) ∧ (vp_in ((3000 : Int32) + x10) n74 ∧ ((((f75 ((3000 : Int32) + x10).toNatClampNeg) = (0 : Int32)) → (wX0_common_141 K (fun x0 x4 x5 x7 x8 x9 x10 mc ms N => wX0_common_93 K post n x0 x4 x5 x7 x8 x9 x10 mc ms N) post x0 x4 x5 x7 x8 x9 x10 mc ms N)) ∧ (¬ ((f75 ((3000 : Int32) + x10).toNatClampNeg) = (0 : Int32)) → (∃ f80 f81 f82 f83 f84 f85 f86 f87 f88 f89 f90 f91 f92 f93 f94 f95 f96 f97 f98, N x0 = some (eO 1 [va_rf f80, va_rf f81, va_rf f82, va_rf f83, va_rf f84, va_rf f85, va_rf f86, va_rf f87, va_rf f88, .int f89, .int f90, va_rf f91, va_rf f92, .int f93, va_rf f94, va_rf f95, va_rf f96, va_rf f97, va_rf f98]) ∧ (wX0_waysOf K (fun r77 N78 => ((r77 = (0 : Int64)) → (wX0_common_141 K (fun x0 x4 x5 x7 x8 x9 x10 mc ms N => wX0_common_93 K post n x0 x4 x5 x7 x8 x9 x10 mc ms N) post x0 x4 x5 x7 x8 x9 x10 mc ms N78)) ∧ (¬ (r77 = (0 : Int64)) → (((x9 = x5) → (post x10 N78)) ∧ (¬ (x9 = x5) → (wX0_common_141 K (fun x0 x4 x5 x7 x8 x9 x10 mc ms N => wX0_common_93 K post n x0 x4 x5 x7 x8 x9 x10 mc ms N) post x0 x4 x5 x7 x8 (x9 + (1 : Int32)) x10 mc ms N78))))) N x0 x7 x10)))))))
def wX0_common_80 (K : Nat → Nat → Nat) (K47 : Nat → Int32 → Int32 → Int32 → Option Nat → Option Nat → Nat → Int32 → Nat → Nat → NM → Prop) (post : Int32 → NM → Prop) (x0 : Nat) (x3 : Int32) (x4 : Int32) (x5 : Int32) (x6 : Option Nat) (x7 : Option Nat) (x8 : Nat) (x9 : Int32) (v0 : Int32) (v1 : Int32) (v2 : Nat) (mc ms : Nat) (N : NM) : Prop :=
  ∃ n125 f126, N v2 = some (eN 2 n125 f126) ∧ (vp_in v1 n125 ∧ (∀ N127, N127 = va_up N v2 (some (eN 2 n125 (upd f126 v1.toNatClampNeg (vp_nar .boolean v0)))) → (K47 x0 x3 x4 x5 x6 x7 x8 (x9 + (1 : Int32)) mc ms N127)))
def wX0_common_47 (K : Nat → Nat → Nat) (post : Int32 → NM → Prop) : Nat → Nat → Int32 → Int32 → Int32 → Option Nat → Option Nat → Nat → Int32 → Nat → Nat → NM → Prop
  | 0, _, _, _, _, _, _, _, _, _, _, _ => False
  | n + 1, x0, x3, x4, x5, x6, x7, x8, x9, mc, ms, N => ((x4 < x9) → ((∃ k, wX0_common_93 K post k x0 x4 x5 x7 x8 (0 : Int32) x3 mc ms N))) ∧ (¬ (x4 < x9) → (∃ f104 f105 f106 f107 f108 f109 f110 f111 f112 f113 f114 f115 f116 f117 f118 f119 f120 f121 f122, N x0 = some (eO 1 [va_rf f104, va_rf f105, va_rf f106, va_rf f107, va_rf f108, va_rf f109, va_rf f110, va_rf f111, va_rf f112, .int f113, .int f114, va_rf f115, va_rf f116, .int f117, va_rf f118, va_rf f119, va_rf f120, va_rf f121, va_rf f122]) ∧ (wX0_waysOf K (fun r101 N102 => ((r101 ≤ (0 : Int64)) → (wX0_common_80 K (fun x0 x3 x4 x5 x6 x7 x8 x9 mc ms N => wX0_common_47 K post n x0 x3 x4 x5 x6 x7 x8 x9 mc ms N) post x0 x3 x4 x5 x6 x7 x8 x9 (0 : Int32) ((3000 : Int32) + x9) x8 mc ms N102)) ∧ (¬ (r101 ≤ (0 : Int64)) → (wX0_common_80 K (fun x0 x3 x4 x5 x6 x7 x8 x9 mc ms N => wX0_common_47 K post n x0 x3 x4 x5 x6 x7 x8 x9 mc ms N) post x0 x3 x4 x5 x6 x7 x8 x9 (1 : Int32) ((3000 : Int32) + x9) x8 mc ms N102))) N x0 x6 x9)))
def wX0_common (K : Nat → Nat → Nat) (post : Int32 → NM → Prop) (MC MS : Nat) (N : NM) (x0 : Nat) (x1 : Int32) (x2 : Int32) (x3 : Int32) (x4 : Int32) (x5 : Int32) : Prop :=
  ∃ f8 f9 f10 f11 f12 f13 f14 f15 f16 f17 f18 f19 f20 f21 f22 f23 f24 f25 f26, N x0 = some (eO 1 [va_rf f8, va_rf f9, va_rf f10, va_rf f11, va_rf f12, va_rf f13, va_rf f14, va_rf f15, va_rf f16, .int f17, .int f18, va_rf f19, va_rf f20, .int f21, va_rf f22, va_rf f23, va_rf f24, va_rf f25, va_rf f26]) ∧ (∃ mc3 ms4, mc3 ≤ MC ∧ ms4 ≤ MS ∧ wX0_at K (fun r1 N2 => ∃ f34 f35 f36 f37 f38 f39 f40 f41 f42 f43 f44 f45 f46 f47 f48 f49 f50 f51 f52, N2 x0 = some (eO 1 [va_rf f34, va_rf f35, va_rf f36, va_rf f37, va_rf f38, va_rf f39, va_rf f40, va_rf f41, va_rf f42, .int f43, .int f44, va_rf f45, va_rf f46, .int f47, va_rf f48, va_rf f49, va_rf f50, va_rf f51, va_rf f52]) ∧ (∃ mc29 ms30, mc29 ≤ (MC - mc3) ∧ ms30 ≤ (MS - ms4) ∧ wX0_at K (fun r27 N28 => (r1 = none → (post (-100000 : Int32) N28)) ∧ (∀ a54, r1 = some a54 → ((r27 = none → (post (-100000 : Int32) N28)) ∧ (∀ a57, r27 = some a57 → (wX0_isSpan (fun r59 => ((r59 = (0 : Int32)) → (post (-100000 : Int32) N28)) ∧ (¬ (r59 = (0 : Int32)) → (¬ (6001 : Int32) < 0 ∧ (6001 : Int32).toNatClampNeg ≤ 65536 ∧ 1 ≤ ((MC - mc3) - mc29) ∧ (6001 : Int32).toNatClampNeg ≤ ((MS - ms4) - ms30) ∧ (∀ nq65, N28 nq65 = none → (∀ N67, N67 = va_up N28 nq65 (some (eN 2 ((6001 : Int32).toNatClampNeg) (fun _ => (0 : Int32)))) → ((∃ k, wX0_common_47 K post k x0 x3 x4 x5 r1 r27 nq65 x3 (((MC - mc3) - mc29) - 1) (((MS - ms4) - ms30) - (6001 : Int32).toNatClampNeg) N67))))))) x3 x4))))) mc29 ms30 N2 x0 x2)) mc3 ms4 N x0 x1)
theorem kX0_common_141 {p : Program} {l : Launch} {e : Env} {s : State} {m : MethodId} {args : Array Value} {below : List Frame} {meth : Method} {c : Code} {G : gG} {A : Nat → Prop} {MC MS : Nat} {K93 : Nat → Int32 → Int32 → Option Nat → Nat → Int32 → Int32 → Nat → Nat → NM → Prop} {post : Int32 → NM → Prop} (X : cX G A RX0 p s m args c cX0_common 11) (hr : meth.sig.returnType = (some .int)) (hlk : meth.locks = false) (hL : l.stackTraces = false) (hT : c.exceptionTable.toList = tableOf []) (hK93 : ∀ (x0 : Nat) (x4 : Int32) (x5 : Int32) (x7 : Option Nat) (x8 : Nat) (x9 : Int32) (x10 : Int32) (mc ms : Nat) (N : NM) (H : Heap) (locs : List Loc) (ls : Array Slot) (cells slots : Nat), K93 x0 x4 x5 x7 x8 x9 x10 mc ms N → (cH G A s [] N H locs ∧ cells + mc ≤ MC ∧ slots + ms ≤ MS) → lv_has ls 11 [(0, .ref x0), (4, .int x4), (5, .int x5), (7, va_rf x7), (8, .ref x8), (9, .int x9), (10, .int x10)] → W p l e ⟨10, MC, MS, 10322⟩ s m args below meth c H locs cells slots (cx_MQ below (gQ vI post (fun u H => cBw G A (jW u).1 (jW u).2 H) A) (cXC G A [] (fun _ _ _ => False)) args s MC MS A) (F0 m 93 ls [])) : ∀ (x0 : Nat) (x4 : Int32) (x5 : Int32) (x7 : Option Nat) (x8 : Nat) (x9 : Int32) (x10 : Int32) (mc ms : Nat) (N : NM) (H : Heap) (locs : List Loc) (ls : Array Slot) (cells slots : Nat), wX0_common_141 (gC G) K93 post x0 x4 x5 x7 x8 x9 x10 mc ms N → (cH G A s [] N H locs ∧ cells + mc ≤ MC ∧ slots + ms ≤ MS) → lv_has ls 11 [(0, .ref x0), (4, .int x4), (5, .int x5), (7, va_rf x7), (8, .ref x8), (9, .int x9), (10, .int x10)] → W p l e ⟨10, MC, MS, 10322⟩ s m args below meth c H locs cells slots (cx_MQ below (gQ vI post (fun u H => cBw G A (jW u).1 (jW u).2 H) A) (cXC G A [] (fun _ _ _ => False)) args s MC MS A) (F0 m 141 ls []) := by
  have hx := X.1.1
  have hb := X.1.2.1
  have hml := X.1.2.2.1
  have hown := X.1.2.2.2.1
  have hts := X.1.2.2.2.2
  intro x0 x4 x5 x7 x8 x9 x10 mc ms N H locs ls cells slots h hw0 hl
  obtain ⟨hw, hbud⟩ := hw0
  unfold wX0_common_141 at h
  refine lv_iinc (pc := 141) (v := x10 + (1 : Int32)) (lv' := [(10, .int (x10 + (1 : Int32))), (0, .ref x0), (4, .int x4), (5, .int x5), (7, va_rf x7), (8, .ref x8), (9, .int x9)]) hx hb dX0_common_141 hl (k := 6) rfl rfl (by decide) rfl (fun ls hl => ?_)
  refine lv_goto (pc := 144) (tgt := 93) hx hb dX0_common_144 rfl ?_
  exact hK93 _ _ _ _ _ _ _ _ _ _ _ _ _ _ _ h ⟨hw, by omega⟩ (lv_sub hl [1, 2, 3, 4, 5, 6, 0] rfl)
theorem kX0_common_93 {p : Program} {l : Launch} {e : Env} {s : State} {m : MethodId} {args : Array Value} {below : List Frame} {meth : Method} {c : Code} {G : gG} {A : Nat → Prop} {MC MS : Nat} {post : Int32 → NM → Prop} (X : cX G A RX0 p s m args c cX0_common 11) (hr : meth.sig.returnType = (some .int)) (hlk : meth.locks = false) (hL : l.stackTraces = false) (hT : c.exceptionTable.toList = tableOf []) : ∀ (n : Nat) (x0 : Nat) (x4 : Int32) (x5 : Int32) (x7 : Option Nat) (x8 : Nat) (x9 : Int32) (x10 : Int32) (mc ms : Nat) (N : NM) (H : Heap) (locs : List Loc) (ls : Array Slot) (cells slots : Nat), wX0_common_93 (gC G) post n x0 x4 x5 x7 x8 x9 x10 mc ms N → (cH G A s [] N H locs ∧ cells + mc ≤ MC ∧ slots + ms ≤ MS) → lv_has ls 11 [(0, .ref x0), (4, .int x4), (5, .int x5), (7, va_rf x7), (8, .ref x8), (9, .int x9), (10, .int x10)] → W p l e ⟨10, MC, MS, 10322⟩ s m args below meth c H locs cells slots (cx_MQ below (gQ vI post (fun u H => cBw G A (jW u).1 (jW u).2 H) A) (cXC G A [] (fun _ _ _ => False)) args s MC MS A) (F0 m 93 ls []) := by
  have hx := X.1.1
  have hb := X.1.2.1
  have hml := X.1.2.2.1
  have hown := X.1.2.2.2.1
  have hts := X.1.2.2.2.2
  intro n
  induction n with
  | zero =>
    intro x0 x4 x5 x7 x8 x9 x10 mc ms N H locs ls cells slots h
    exact False.elim h
  | succ n ih =>
    intro x0 x4 x5 x7 x8 x9 x10 mc ms N H locs ls cells slots h hw0 hl
    obtain ⟨hw, hbud⟩ := hw0
    unfold wX0_common_93 at h
    refine lv_iload (pc := 93) hx hb dX0_common_93 (lv_at hl 6 rfl) ?_
    refine lv_iload (pc := 95) hx hb dX0_common_95 (lv_at hl 1 rfl) ?_
    refine lv_icmp_gt (pc := 97) (tgt := 147) hx hb dX0_common_97 rfl (fun c71 => ?_) (fun c71 => ?_)
    · have h := h.1 c71
      refine lv_iload (pc := 147) hx hb dX0_common_147 (lv_at hl 2 rfl) ?_
      refine lv_iconst (pc := 149) (v := (-1 : Int32)) hx hb dX0_common_149 (by decide) ?_
      refine lv_icmp_ne (pc := 150) (tgt := 158) hx hb dX0_common_150 rfl (fun c72 => ?_) (fun c72 => ?_)
      · have h := h.2 c72
        refine lv_ldcw (pc := 158) hx hb hown (hts _ q1540) dX0_common_158 ?_
        refine W.widen (k := MC) (n := MS) (by omega) (by omega) ?_
        refine cx_ret ?_
        exact W.iret (pc := 161) hx hb hr (fun t ht hW => c_ret (val := vI) (lw := jW) (u := N) hw h ht) hw.2.2.2 dX0_common_161 hlk
      · have h := h.1 c72
        refine lv_iload (pc := 153) hx hb dX0_common_153 (lv_at hl 5 rfl) ?_
        refine lv_goto (pc := 155) (tgt := 161) hx hb dX0_common_155 rfl ?_
        refine W.widen (k := MC) (n := MS) (by omega) (by omega) ?_
        refine cx_ret ?_
        exact W.iret (pc := 161) hx hb hr (fun t ht hW => c_ret (val := vI) (lw := jW) (u := N) hw h ht) hw.2.2.2 dX0_common_161 hlk
    · have h := h.2 c71
      refine lv_aload (pc := 100) hx hb dX0_common_100 (lv_at hl 4 rfl) ?_
      refine lv_sipush (pc := 102) (v := (3000 : Int32)) hx hb dX0_common_102 (by decide) ?_
      refine lv_iload (pc := 105) hx hb dX0_common_105 (lv_at hl 6 rfl) ?_
      refine lv_iadd (pc := 107) hx hb dX0_common_107 ?_
      obtain ⟨n74, f75, hN73, h⟩ := h
      obtain ⟨hi, h⟩ := h
      refine c_zald (pc := 108) X hw hN73 hi dX0_common_108 ?_
      refine lv_if_eq (pc := 109) (tgt := 141) hx hb dX0_common_109 rfl (fun c76 => ?_) (fun c76 => ?_)
      · have h := h.1 c76
        exact kX0_common_141 X hr hlk hL hT ih _ _ _ _ _ _ _ _ _ _ _ _ _ _ _ h ⟨hw, by omega⟩ (lv_sub hl [0, 1, 2, 3, 4, 5, 6] rfl)
      · have h := h.2 c76
        refine lv_aload_n (pc := 112) hx hb dX0_common_112 rfl (lv_at hl 0 rfl) ?_
        refine lq_aload (pc := 113) hx hb dX0_common_113 (lv_at hl 3 rfl) ?_
        refine lv_iload (pc := 115) hx hb dX0_common_115 (lv_at hl 6 rfl) ?_
        obtain ⟨f80, f81, f82, f83, f84, f85, f86, f87, f88, f89, f90, f91, f92, f93, f94, f95, f96, f97, f98, hN79, h⟩ := h
        refine c_callJ (pc := 117) (val := vL) X hw (va_runV (C := RX0) (As := [va_rf x7, .int x10]) (rest := []) X.1 (tX0_waysOf X.2.2.1 (sz := H.size) h) (cwV 2 hts (lw_V q1557 q1374 qs28 q102 q1375) rfl rfl rfl ⟨rfl, by decide, by decide, (by decide +kernel : (parseMethodDescriptor yX0_waysOf.desc).map (fun d => d.parameters.length) = some 2)⟩ ⟨Nat.le_of_ble_eq_true rfl, Nat.le_of_ble_eq_true rfl⟩) ⟨cPre_blind, c_recv X hw hN79 rfl, fun U hU hW => ⟨rfl, X.preJ hw hU hW⟩⟩ rfl rfl hl.1 rfl (lv_room (Nat.le_of_ble_eq_true rfl)) dX0_common_117 ⟨show cells + 0 ≤ MC by omega, show slots + 0 ≤ MS by omega⟩) (fun r77 N78 H locs h hw => ?_)
        refine W.eq (g2 := F0 m 120 ls (.long r77 :: [])) rfl ?_
        refine lv_lconst (pc := 120) (v := (0 : Int64)) hx hb dX0_common_120 (by decide) ?_
        refine W.lcmp (pc := 121) hx hb dX0_common_121 ?_
        refine lv_if_ne (pc := 122) (tgt := 128) hx hb dX0_common_122 rfl (fun c99 => ?_) (fun c99 => ?_)
        · have h := h.2 (fun z => c99 ((lg_cmp_eq _ _).mpr z))
          refine lv_iload (pc := 128) hx hb dX0_common_128 (lv_at hl 5 rfl) ?_
          refine lv_iload (pc := 130) hx hb dX0_common_130 (lv_at hl 2 rfl) ?_
          refine lv_icmp_ne (pc := 132) (tgt := 138) hx hb dX0_common_132 rfl (fun c100 => ?_) (fun c100 => ?_)
          · have h := h.2 c100
            refine lv_iinc (pc := 138) (v := x9 + (1 : Int32)) (lv' := [(9, .int (x9 + (1 : Int32))), (0, .ref x0), (4, .int x4), (5, .int x5), (7, va_rf x7), (8, .ref x8), (10, .int x10)]) hx hb dX0_common_138 hl (k := 5) rfl rfl (by decide) rfl (fun ls hl => ?_)
            exact kX0_common_141 X hr hlk hL hT ih _ _ _ _ _ _ _ _ _ _ _ _ _ _ _ h ⟨hw, by omega⟩ (lv_sub hl [1, 2, 3, 4, 5, 0, 6] rfl)
          · have h := h.1 c100
            refine lv_iload (pc := 135) hx hb dX0_common_135 (lv_at hl 6 rfl) ?_
            refine W.widen (k := MC) (n := MS) (by omega) (by omega) ?_
            refine cx_ret ?_
            exact W.iret (pc := 137) hx hb hr (fun t ht hW => c_ret (val := vI) (lw := jW) (u := N78) hw h ht) hw.2.2.2 dX0_common_137 hlk
        · have h := h.1 ((lg_cmp_eq _ _).mp c99)
          refine lv_goto (pc := 125) (tgt := 141) hx hb dX0_common_125 rfl ?_
          exact kX0_common_141 X hr hlk hL hT ih _ _ _ _ _ _ _ _ _ _ _ _ _ _ _ h ⟨hw, by omega⟩ (lv_sub hl [0, 1, 2, 3, 4, 5, 6] rfl)
theorem kX0_common_80 {p : Program} {l : Launch} {e : Env} {s : State} {m : MethodId} {args : Array Value} {below : List Frame} {meth : Method} {c : Code} {G : gG} {A : Nat → Prop} {MC MS : Nat} {K47 : Nat → Int32 → Int32 → Int32 → Option Nat → Option Nat → Nat → Int32 → Nat → Nat → NM → Prop} {post : Int32 → NM → Prop} (X : cX G A RX0 p s m args c cX0_common 11) (hr : meth.sig.returnType = (some .int)) (hlk : meth.locks = false) (hL : l.stackTraces = false) (hT : c.exceptionTable.toList = tableOf []) (hK47 : ∀ (x0 : Nat) (x3 : Int32) (x4 : Int32) (x5 : Int32) (x6 : Option Nat) (x7 : Option Nat) (x8 : Nat) (x9 : Int32) (mc ms : Nat) (N : NM) (H : Heap) (locs : List Loc) (ls : Array Slot) (cells slots : Nat), K47 x0 x3 x4 x5 x6 x7 x8 x9 mc ms N → (cH G A s [] N H locs ∧ cells + mc ≤ MC ∧ slots + ms ≤ MS) → lv_has ls 11 [(0, .ref x0), (3, .int x3), (4, .int x4), (5, .int x5), (6, va_rf x6), (7, va_rf x7), (8, .ref x8), (9, .int x9)] → W p l e ⟨10, MC, MS, 10322⟩ s m args below meth c H locs cells slots (cx_MQ below (gQ vI post (fun u H => cBw G A (jW u).1 (jW u).2 H) A) (cXC G A [] (fun _ _ _ => False)) args s MC MS A) (F0 m 47 ls [])) : ∀ (x0 : Nat) (x3 : Int32) (x4 : Int32) (x5 : Int32) (x6 : Option Nat) (x7 : Option Nat) (x8 : Nat) (x9 : Int32) (v0 : Int32) (v1 : Int32) (v2 : Nat) (mc ms : Nat) (N : NM) (H : Heap) (locs : List Loc) (ls : Array Slot) (cells slots : Nat), wX0_common_80 (gC G) K47 post x0 x3 x4 x5 x6 x7 x8 x9 v0 v1 v2 mc ms N → (cH G A s [] N H locs ∧ cells + mc ≤ MC ∧ slots + ms ≤ MS) → lv_has ls 11 [(0, .ref x0), (3, .int x3), (4, .int x4), (5, .int x5), (6, va_rf x6), (7, va_rf x7), (8, .ref x8), (9, .int x9)] → W p l e ⟨10, MC, MS, 10322⟩ s m args below meth c H locs cells slots (cx_MQ below (gQ vI post (fun u H => cBw G A (jW u).1 (jW u).2 H) A) (cXC G A [] (fun _ _ _ => False)) args s MC MS A) (F0 m 80 ls [.int v0, .int v1, .ref v2]) := by
  have hx := X.1.1
  have hb := X.1.2.1
  have hml := X.1.2.2.1
  have hown := X.1.2.2.2.1
  have hts := X.1.2.2.2.2
  intro x0 x3 x4 x5 x6 x7 x8 x9 v0 v1 v2 mc ms N H locs ls cells slots h hw0 hl
  obtain ⟨hw, hbud⟩ := hw0
  unfold wX0_common_80 at h
  obtain ⟨n125, f126, hN124, h⟩ := h
  obtain ⟨hi, h⟩ := h
  refine c_zast (pc := 80) X hw hN124 hi dX0_common_80 (fun H locs hw => ?_)
  obtain ⟨N127, e128⟩ : ∃ z, z = va_up N v2 (some (eN 2 n125 (upd f126 v1.toNatClampNeg (vp_nar .boolean v0)))) := ⟨_, rfl⟩
  have hw : cH G A s [] N127 H locs := by rw [e128]; exact hw
  have h := h N127 e128
  have hN129 : N127 v2 = some (eN 2 n125 (upd f126 v1.toNatClampNeg (vp_nar .boolean v0))) := by rw [e128]; exact up_s
  refine lv_iinc (pc := 81) (v := x9 + (1 : Int32)) (lv' := [(9, .int (x9 + (1 : Int32))), (0, .ref x0), (3, .int x3), (4, .int x4), (5, .int x5), (6, va_rf x6), (7, va_rf x7), (8, .ref x8)]) hx hb dX0_common_81 hl (k := 7) rfl rfl (by decide) rfl (fun ls hl => ?_)
  refine lv_goto (pc := 84) (tgt := 47) hx hb dX0_common_84 rfl ?_
  exact hK47 _ _ _ _ _ _ _ _ _ _ _ _ _ _ _ _ h ⟨hw, by omega⟩ (lv_sub hl [1, 2, 3, 4, 5, 6, 7, 0] rfl)
theorem kX0_common_47 {p : Program} {l : Launch} {e : Env} {s : State} {m : MethodId} {args : Array Value} {below : List Frame} {meth : Method} {c : Code} {G : gG} {A : Nat → Prop} {MC MS : Nat} {post : Int32 → NM → Prop} (X : cX G A RX0 p s m args c cX0_common 11) (hr : meth.sig.returnType = (some .int)) (hlk : meth.locks = false) (hL : l.stackTraces = false) (hT : c.exceptionTable.toList = tableOf []) : ∀ (n : Nat) (x0 : Nat) (x3 : Int32) (x4 : Int32) (x5 : Int32) (x6 : Option Nat) (x7 : Option Nat) (x8 : Nat) (x9 : Int32) (mc ms : Nat) (N : NM) (H : Heap) (locs : List Loc) (ls : Array Slot) (cells slots : Nat), wX0_common_47 (gC G) post n x0 x3 x4 x5 x6 x7 x8 x9 mc ms N → (cH G A s [] N H locs ∧ cells + mc ≤ MC ∧ slots + ms ≤ MS) → lv_has ls 11 [(0, .ref x0), (3, .int x3), (4, .int x4), (5, .int x5), (6, va_rf x6), (7, va_rf x7), (8, .ref x8), (9, .int x9)] → W p l e ⟨10, MC, MS, 10322⟩ s m args below meth c H locs cells slots (cx_MQ below (gQ vI post (fun u H => cBw G A (jW u).1 (jW u).2 H) A) (cXC G A [] (fun _ _ _ => False)) args s MC MS A) (F0 m 47 ls []) := by
  have hx := X.1.1
  have hb := X.1.2.1
  have hml := X.1.2.2.1
  have hown := X.1.2.2.2.1
  have hts := X.1.2.2.2.2
  intro n
  induction n with
  | zero =>
    intro x0 x3 x4 x5 x6 x7 x8 x9 mc ms N H locs ls cells slots h
    exact False.elim h
  | succ n ih =>
    intro x0 x3 x4 x5 x6 x7 x8 x9 mc ms N H locs ls cells slots h hw0 hl
    obtain ⟨hw, hbud⟩ := hw0
    unfold wX0_common_47 at h
    refine lv_iload (pc := 47) hx hb dX0_common_47 (lv_at hl 7 rfl) ?_
    refine lv_iload (pc := 49) hx hb dX0_common_49 (lv_at hl 2 rfl) ?_
    refine lv_icmp_gt (pc := 51) (tgt := 87) hx hb dX0_common_51 rfl (fun c70 => ?_) (fun c70 => ?_)
    · have h := h.1 c70
      refine lv_iconst (pc := 87) (v := (0 : Int32)) hx hb dX0_common_87 (by decide) ?_
      refine lv_istore (pc := 88) (lv' := [(9, .int (0 : Int32)), (0, .ref x0), (3, .int x3), (4, .int x4), (5, .int x5), (6, va_rf x6), (7, va_rf x7), (8, .ref x8)]) hx hb dX0_common_88 hl (by decide) rfl (fun ls hl => ?_)
      refine lv_iload_n (pc := 90) hx hb dX0_common_90 rfl (lv_at hl 2 rfl) ?_
      refine lv_istore (pc := 91) (lv' := [(10, .int x3), (9, .int (0 : Int32)), (0, .ref x0), (3, .int x3), (4, .int x4), (5, .int x5), (6, va_rf x6), (7, va_rf x7), (8, .ref x8)]) hx hb dX0_common_91 hl (by decide) rfl (fun ls hl => ?_)
      obtain ⟨k, h⟩ := h
      exact kX0_common_93 X hr hlk hL hT  k _ _ _ _ _ _ _ _ _ _ _ _ _ _ _ h ⟨hw, by omega⟩ (lv_sub hl [2, 4, 5, 7, 8, 1, 0] rfl)
    · have h := h.2 c70
      refine lv_aload (pc := 54) hx hb dX0_common_54 (lv_at hl 6 rfl) ?_
      refine lv_sipush (pc := 56) (v := (3000 : Int32)) hx hb dX0_common_56 (by decide) ?_
      refine lv_iload (pc := 59) hx hb dX0_common_59 (lv_at hl 7 rfl) ?_
      refine lv_iadd (pc := 61) hx hb dX0_common_61 ?_
      refine lv_aload_n (pc := 62) hx hb dX0_common_62 rfl (lv_at hl 0 rfl) ?_
      refine lq_aload (pc := 63) hx hb dX0_common_63 (lv_at hl 4 rfl) ?_
      refine lv_iload (pc := 65) hx hb dX0_common_65 (lv_at hl 7 rfl) ?_
      obtain ⟨f104, f105, f106, f107, f108, f109, f110, f111, f112, f113, f114, f115, f116, f117, f118, f119, f120, f121, f122, hN103, h⟩ := h
      refine c_callJ (pc := 67) (val := vL) X hw (va_runV (C := RX0) (As := [va_rf x6, .int x9]) (rest := [.int ((3000 : Int32) + x9), .ref x8]) X.1 (tX0_waysOf X.2.2.1 (sz := H.size) h) (cwV 2 hts (lw_V q1557 q1374 qs28 q102 q1375) rfl rfl rfl ⟨rfl, by decide, by decide, (by decide +kernel : (parseMethodDescriptor yX0_waysOf.desc).map (fun d => d.parameters.length) = some 2)⟩ ⟨Nat.le_of_ble_eq_true rfl, Nat.le_of_ble_eq_true rfl⟩) ⟨cPre_blind, c_recv X hw hN103 rfl, fun U hU hW => ⟨rfl, X.preJ hw hU hW⟩⟩ rfl rfl hl.1 rfl (lv_room (Nat.le_of_ble_eq_true rfl)) dX0_common_67 ⟨show cells + 0 ≤ MC by omega, show slots + 0 ≤ MS by omega⟩) (fun r101 N102 H locs h hw => ?_)
      refine W.eq (g2 := F0 m 70 ls (.long r101 :: [.int ((3000 : Int32) + x9), .ref x8])) rfl ?_
      refine lv_lconst (pc := 70) (v := (0 : Int64)) hx hb dX0_common_70 (by decide) ?_
      refine W.lcmp (pc := 71) hx hb dX0_common_71 ?_
      refine lv_if_le (pc := 72) (tgt := 79) hx hb dX0_common_72 rfl (fun c123 => ?_) (fun c123 => ?_)
      · have h := h.1 ((lg_cmp_le _ _).mp c123)
        refine lv_iconst (pc := 79) (v := (0 : Int32)) hx hb dX0_common_79 (by decide) ?_
        exact kX0_common_80 X hr hlk hL hT ih _ _ _ _ _ _ _ _ _ _ _ _ _ _ _ _ _ _ _ h ⟨hw, by omega⟩ (lv_sub hl [0, 1, 2, 3, 4, 5, 6, 7] rfl)
      · have h := h.2 (fun z => c123 ((lg_cmp_le _ _).mpr z))
        refine lv_iconst (pc := 75) (v := (1 : Int32)) hx hb dX0_common_75 (by decide) ?_
        refine lv_goto (pc := 76) (tgt := 80) hx hb dX0_common_76 rfl ?_
        exact kX0_common_80 X hr hlk hL hT ih _ _ _ _ _ _ _ _ _ _ _ _ _ _ _ _ _ _ _ h ⟨hw, by omega⟩ (lv_sub hl [0, 1, 2, 3, 4, 5, 6, 7] rfl)
theorem txX0_common {l : Launch} (hL : l.stackTraces = false) {G : gG} (hO : gOk G) {post : Int32 → NM → Prop} {MC MS : Nat} {N : NM} {x0 : Nat} {x1 : Int32} {x2 : Int32} {x3 : Int32} {x4 : Int32} {x5 : Int32} {sz : Nat} (h : wX0_common (gC G) post MC MS N x0 x1 x2 x3 x4 x5) : cx_Met l yX0_common (ws_ yX0_common cX0_common 11 (some .int)) ⟨10, MC, MS, 10322⟩ (va_Pc [.ref x0, .int x1, .int x2, .int x3, .int x4, .int x5] (cPre G [] N sz)) (gQ vI post (fun u H => cBw G (cA [] N sz) (jW u).1 (jW u).2 H) (cA [] N sz)) (cXC G (cA [] N sz) [] (fun _ _ _ => False)) MC MS (cA [] N sz) := by
  refine c_ofX (B := fun A u H => cBw G A (jW u).1 (jW u).2 H) (by decide) hO (Nat.le_of_ble_eq_true rfl) (fun p e s m below meth c ls A X hr hlk hT hw hl => ?_)
  have hl : lv_has ls 11 [(0, .ref x0), (1, .int x1), (2, .int x2), (3, .int x3), (4, .int x4), (5, .int x5)] := hl
  have hx := X.1.1
  have hb := X.1.2.1
  have hml := X.1.2.2.1
  have hown := X.1.2.2.2.1
  have hts := X.1.2.2.2.2
  obtain ⟨H, eH⟩ : ∃ z, z = s.heap := ⟨_, rfl⟩
  rw [← eH] at hw ⊢
  obtain ⟨locs, eLo⟩ : ∃ z : List Loc, z = [] := ⟨_, rfl⟩
  rw [← eLo] at hw ⊢
  have hbud : 0 + MC ≤ MC ∧ 0 + MS ≤ MS := by omega
  unfold wX0_common at h
  refine lv_aload_n (pc := 0) hx hb dX0_common_0 rfl (lv_at hl 0 rfl) ?_
  refine lv_iload_n (pc := 1) hx hb dX0_common_1 rfl (lv_at hl 1 rfl) ?_
  obtain ⟨f8, f9, f10, f11, f12, f13, f14, f15, f16, f17, f18, f19, f20, f21, f22, f23, f24, f25, f26, hN7, h⟩ := h
  obtain ⟨mc3, ms4, hm5, hm6, h⟩ := h
  refine c_callJ (pc := 2) (val := vQ) X hw (vx_runVW (C := RX0) (As := [.int x1]) (rest := []) X.1 (tX0_at hL X.2.2.1 (sz := H.size) h) (vx_cwVW 1 hts (lw_VW q898 q900 qs20 q102 q901) rfl rfl rfl ⟨rfl, by decide, by decide, (by decide +kernel : (parseMethodDescriptor yX0_at.desc).map (fun d => d.parameters.length) = some 1)⟩ ⟨Nat.le_of_ble_eq_true rfl, Nat.le_of_ble_eq_true rfl⟩) ⟨cPre_blind, c_recv X hw hN7 rfl, fun U hU hW => ⟨rfl, X.preJ hw hU hW⟩⟩ rfl rfl hl.1 rfl (lv_room (Nat.le_of_ble_eq_true rfl)) dX0_common_2 ⟨show 0 + mc3 ≤ MC by omega, show 0 + ms4 ≤ MS by omega⟩) (fun r1 N2 H locs h hw => ?_)
  refine W.eq (g2 := F0 m 5 ls (va_rf r1 :: [])) rfl ?_
  refine lq_astore (pc := 5) (lv' := [(6, va_rf r1), (0, .ref x0), (1, .int x1), (2, .int x2), (3, .int x3), (4, .int x4), (5, .int x5)]) hx hb dX0_common_5 hl (by decide) rfl (fun ls hl => ?_)
  refine lv_aload_n (pc := 7) hx hb dX0_common_7 rfl (lv_at hl 1 rfl) ?_
  refine lv_iload_n (pc := 8) hx hb dX0_common_8 rfl (lv_at hl 3 rfl) ?_
  obtain ⟨f34, f35, f36, f37, f38, f39, f40, f41, f42, f43, f44, f45, f46, f47, f48, f49, f50, f51, f52, hN33, h⟩ := h
  obtain ⟨mc29, ms30, hm31, hm32, h⟩ := h
  refine c_callJ (pc := 9) (val := vQ) X hw (vx_runVW (C := RX0) (As := [.int x2]) (rest := []) X.1 (tX0_at hL X.2.2.1 (sz := H.size) h) (vx_cwVW 1 hts (lw_VW q898 q900 qs20 q102 q901) rfl rfl rfl ⟨rfl, by decide, by decide, (by decide +kernel : (parseMethodDescriptor yX0_at.desc).map (fun d => d.parameters.length) = some 1)⟩ ⟨Nat.le_of_ble_eq_true rfl, Nat.le_of_ble_eq_true rfl⟩) ⟨cPre_blind, c_recv X hw hN33 rfl, fun U hU hW => ⟨rfl, X.preJ hw hU hW⟩⟩ rfl rfl hl.1 rfl (lv_room (Nat.le_of_ble_eq_true rfl)) dX0_common_9 ⟨show 0 + mc3 + mc29 ≤ MC by omega, show 0 + ms4 + ms30 ≤ MS by omega⟩) (fun r27 N28 H locs h hw => ?_)
  refine W.eq (g2 := F0 m 12 ls (va_rf r27 :: [])) rfl ?_
  refine lq_astore (pc := 12) (i := 7) (lv' := [(7, va_rf r27), (6, va_rf r1), (0, .ref x0), (1, .int x1), (2, .int x2), (3, .int x3), (4, .int x4), (5, .int x5)]) hx hb dX0_common_12 hl (by decide) (by simp [rf_c]) (fun ls hl => ?_)
  refine lq_aload (pc := 14) hx hb dX0_common_14 (lv_at hl 1 rfl) ?_
  refine lq_ifnull (pc := 16) (tgt := 33) hx hb dX0_common_16 rfl (fun hz53 => ?_) (fun a54 hr55 => ?_)
  · have h := h.1 hz53
    refine lv_ldcw (pc := 33) hx hb hown (hts _ q1540) dX0_common_33 ?_
    refine W.widen (k := MC) (n := MS) (by omega) (by omega) ?_
    refine cx_ret ?_
    exact W.iret (pc := 36) hx hb hr (fun t ht hW => c_ret (val := vI) (lw := jW) (u := N28) hw h ht) hw.2.2.2 dX0_common_36 hlk
  · have h := h.2 a54 hr55
    refine lq_aload (pc := 19) hx hb dX0_common_19 (lv_at hl 0 rfl) ?_
    refine lq_ifnull (pc := 21) (tgt := 33) hx hb dX0_common_21 rfl (fun hz56 => ?_) (fun a57 hr58 => ?_)
    · have h := h.1 hz56
      refine lv_ldcw (pc := 33) hx hb hown (hts _ q1540) dX0_common_33 ?_
      refine W.widen (k := MC) (n := MS) (by omega) (by omega) ?_
      refine cx_ret ?_
      exact W.iret (pc := 36) hx hb hr (fun t ht hW => c_ret (val := vI) (lw := jW) (u := N28) hw h ht) hw.2.2.2 dX0_common_36 hlk
    · have h := h.2 a57 hr58
      refine lv_iload_n (pc := 24) hx hb dX0_common_24 rfl (lv_at hl 5 rfl) ?_
      refine lv_iload (pc := 25) hx hb dX0_common_25 (lv_at hl 6 rfl) ?_
      refine s_call (pc := 27) (val := vI) (As := [.int x3, .int x4]) (rest := []) X.1 (tX0_isSpan h) (lw_S q1592 q1593 q102 q1594) ⟨by decide, by decide, (by decide +kernel : (parseMethodDescriptor yX0_isSpan.desc).map (fun d => d.parameters.length) = some 2)⟩ ⟨Nat.le_of_ble_eq_true rfl, Nat.le_of_ble_eq_true rfl⟩ hl.1 (Nat.le_of_ble_eq_true rfl) ⟨show 0 + mc3 + mc29 ≤ MC by omega, show 0 + ms4 + ms30 ≤ MS by omega⟩ dX0_common_27 rfl (fun r59 h => ?_)
      refine W.eq (g2 := F0 m 30 ls (.int r59 :: [])) rfl ?_
      refine lv_if_ne (pc := 30) (tgt := 37) hx hb dX0_common_30 rfl (fun c60 => ?_) (fun c60 => ?_)
      · have h := h.2 c60
        refine lv_sipush (pc := 37) (v := (6001 : Int32)) hx hb dX0_common_37 (by decide) ?_
        obtain ⟨hm61, hm62, hm63, hm64, h⟩ := h
        refine c_newa (pc := 40) (atype := .boolean) (ty := .boolean) (a0 := ((6001 : Int32).toNatClampNeg, .inl (fun _ => (0 : Int32)))) X hw rfl q277 2 rfl (fun _ => rfl) hm61 rfl (Nat.le_trans (Nat.mul_le_mul_right _ hm62) (Nat.le_of_ble_eq_true rfl)) (show 0 + mc3 + mc29 + 1 ≤ MC by omega) (show 0 + ms4 + ms30 + (6001 : Int32).toNatClampNeg ≤ MS by omega) dX0_common_40 (fun nq65 H hq66 _ hw => ?_)
        have h := h nq65 hq66
        obtain ⟨N67, e68⟩ : ∃ z, z = va_up N28 nq65 (some (eN 2 ((6001 : Int32).toNatClampNeg) (fun _ => (0 : Int32)))) := ⟨_, rfl⟩
        have hw : cH G A s [] N67 H locs := by rw [e68]; exact hw
        have h := h N67 e68
        have hN69 : N67 nq65 = some (eN 2 ((6001 : Int32).toNatClampNeg) (fun _ => (0 : Int32))) := by rw [e68]; exact up_s
        refine lv_astore (pc := 42) (i := 8) (lv' := [(8, .ref nq65), (7, va_rf r27), (6, va_rf r1), (0, .ref x0), (1, .int x1), (2, .int x2), (3, .int x3), (4, .int x4), (5, .int x5)]) hx hb dX0_common_42 hl (by decide) (by simp [rf_c]) (fun ls hl => ?_)
        refine lv_iload_n (pc := 44) hx hb dX0_common_44 rfl (lv_at hl 6 rfl) ?_
        refine lv_istore (pc := 45) (lv' := [(9, .int x3), (8, .ref nq65), (7, va_rf r27), (6, va_rf r1), (0, .ref x0), (1, .int x1), (2, .int x2), (3, .int x3), (4, .int x4), (5, .int x5)]) hx hb dX0_common_45 hl (by decide) rfl (fun ls hl => ?_)
        obtain ⟨k, h⟩ := h
        exact kX0_common_47 X hr hlk hL hT  k _ _ _ _ _ _ _ _ _ _ _ _ _ _ _ _ h ⟨hw, by omega⟩ (lv_sub hl [4, 7, 8, 9, 3, 2, 1, 0] rfl)
      · have h := h.1 c60
        refine lv_ldcw (pc := 33) hx hb hown (hts _ q1540) dX0_common_33 ?_
        refine W.widen (k := MC) (n := MS) (by omega) (by omega) ?_
        refine cx_ret ?_
        exact W.iret (pc := 36) hx hb hr (fun t ht hW => c_ret (val := vI) (lw := jW) (u := N28) hw h ht) hw.2.2.2 dX0_common_36 hlk
theorem tX0_common {l : Launch} (hL : l.stackTraces = false) {G : gG} (hO : gOk G) {post : Int32 → NM → Prop} {MC MS : Nat} {N : NM} {x0 : Nat} {x1 : Int32} {x2 : Int32} {x3 : Int32} {x4 : Int32} {x5 : Int32} {sz : Nat} (h : wX0_common (gC G) post MC MS N x0 x1 x2 x3 x4 x5) : Met l yX0_common (ws_ yX0_common cX0_common 11 (some .int)) ⟨10, MC, MS, 10322⟩ (va_Pc [.ref x0, .int x1, .int x2, .int x3, .int x4, .int x5] (cPre G [] N sz)) (gQ vI post (fun u H => cBw G (cA [] N sz) (jW u).1 (jW u).2 H) (cA [] N sz)) MC MS (cA [] N sz) := cx_toMet (txX0_common hL hO h)

def wX0_spell_160 (K : Nat → Nat → Nat) (K23 : Nat → Option Nat → Nat → Int32 → Nat → Nat → NM → Prop) (post : Int32 → NM → Prop) (x0 : Nat) (x2 : Option Nat) (x3 : Nat) (x4 : Int32) (mc ms : Nat) (N : NM) : Prop :=
  K23 x0 x2 x3 (x4 + (1 : Int32)) mc ms N
def wX0_spell_123 (K : Nat → Nat → Nat) (K23 : Nat → Option Nat → Nat → Int32 → Nat → Nat → NM → Prop) (post : Int32 → NM → Prop) (x0 : Nat) (x2 : Option Nat) (x3 : Nat) (x4 : Int32) (x5 : Option Nat) (v0 : Int32) (mc ms : Nat) (N : NM) : Prop :=
  ((v0 = (0 : Int32)) → (∃ f158 f159 f160 f161, N x3 = some (eO 17 [va_rf f158, .int f159, .int f160, .int f161]) ∧ (∃ mc153 ms154, mc153 ≤ mc ∧ ms154 ≤ ms ∧ wJ11_append_3 K (fun r151 N152 => ∃ a162, x5 = some a162 ∧ (∃ f165 f166 f167 f168, N152 a162 = some (eO 6 [.int f165, .int f166, .int f167, va_rf f168]) ∧ (∃ f176 f177 f178 f179, N152 r151 = some (eO 17 [va_rf f176, .int f177, .int f178, .int f179]) ∧ (∃ mc171 ms172, mc171 ≤ (mc - mc153) ∧ ms172 ≤ (ms - ms154) ∧ wJ11_append_2 K (fun r169 N170 => ∃ f187 f188 f189 f190, N170 r169 = some (eO 17 [va_rf f187, .int f188, .int f189, .int f190]) ∧ (∃ mc182 ms183, mc182 ≤ ((mc - mc153) - mc171) ∧ ms183 ≤ ((ms - ms154) - ms172) ∧ wJ11_append_3 K (fun r180 N181 => ∃ f192 f193 f194 f195, N181 a162 = some (eO 6 [.int f192, .int f193, .int f194, va_rf f195]) ∧ (∃ f203 f204 f205 f206, N181 r180 = some (eO 17 [va_rf f203, .int f204, .int f205, .int f206]) ∧ (∃ mc198 ms199, mc198 ≤ (((mc - mc153) - mc171) - mc182) ∧ ms199 ≤ (((ms - ms154) - ms172) - ms183) ∧ wJ11_append_2 K (fun r196 N197 => wX0_spell_160 K K23 post x0 x2 x3 x4 ((((mc - mc153) - mc171) - mc182) - mc198) ((((ms - ms154) - ms172) - ms183) - ms199) N197) mc198 ms199 N181 r180 f194))) mc182 ms183 N170 r169 7)) mc171 ms172 N152 r151 f166)))) mc153 ms154 N x3 6))) ∧ (¬ (v0 = (0 : Int32)) → (wX0_spell_160 K K23 post x0 x2 x3 x4 mc ms N))
def wX0_spell_122 (K : Nat → Nat → Nat) (K23 : Nat → Option Nat → Nat → Int32 → Nat → Nat → NM → Prop) (post : Int32 → NM → Prop) (x0 : Nat) (x2 : Option Nat) (x3 : Nat) (x4 : Int32) (x5 : Option Nat) (mc ms : Nat) (N : NM) : Prop :=
  wX0_spell_123 K K23 post x0 x2 x3 x4 x5 (0 : Int32) mc ms N
def wX0_spell_72 (K : Nat → Nat → Nat) (K23 : Nat → Option Nat → Nat → Int32 → Nat → Nat → NM → Prop) (post : Int32 → NM → Prop) (x0 : Nat) (x2 : Option Nat) (x3 : Nat) (x4 : Int32) (x5 : Option Nat) (mc ms : Nat) (N : NM) : Prop :=
  ∃ f93 f94 f95 f96 f97 f98 f99 f100 f101 f102 f103 f104 f105 f106 f107 f108 f109 f110 f111, N x0 = some (eO 1 [va_rf f93, va_rf f94, va_rf f95, va_rf f96, va_rf f97, va_rf f98, va_rf f99, va_rf f100, va_rf f101, .int f102, .int f103, va_rf f104, va_rf f105, .int f106, va_rf f107, va_rf f108, va_rf f109, va_rf f110, va_rf f111]) ∧ (∃ a112, x5 = some a112 ∧ (∃ f115 f116 f117 f118, N a112 = some (eO 6 [.int f115, .int f116, .int f117, va_rf f118]) ∧ (∃ a119, f118 = some a119 ∧ (∃ kk121, kk121 < 5 ∧ a119 = K 2 kk121 ∧ (∃ a124, f94 = some a124 ∧ (∃ n127 f128, N a124 = some (eR 10 n127 f128) ∧ (vp_in (nI kk121) n127 ∧ (∃ a129, (f128 (nI kk121).toNatClampNeg) = some a129 ∧ (∃ t131, a129 = K 0 t131 ∧ (∃ f140 f141 f142 f143, N x3 = some (eO 17 [va_rf f140, .int f141, .int f142, .int f143]) ∧ (∃ mc135 ms136, mc135 ≤ mc ∧ ms136 ≤ ms ∧ wJ11_append_3 K (fun r133 N134 => ∃ f145 f146 f147 f148, N134 a112 = some (eO 6 [.int f145, .int f146, .int f147, va_rf f148]) ∧ (((f146 = (0 : Int32)) → (wX4_value K (fun r207 N208 => ((r207 ≤ (3000 : Int64)) → (wX0_spell_122 K K23 post x0 x2 x3 x4 x5 (mc - mc135) (ms - ms136) N208)) ∧ (¬ (r207 ≤ (3000 : Int64)) → (wX0_spell_123 K K23 post x0 x2 x3 x4 x5 (1 : Int32) (mc - mc135) (ms - ms136) N208))) N134 a112 ((f147 + (1 : Int32)).toInt64))) ∧ (¬ (f146 = (0 : Int32)) → (wX0_spell_122 K K23 post x0 x2 x3 x4 x5 (mc - mc135) (ms - ms136) N134)))) mc135 ms136 N x3 t131)))))))))))
def wX0_spell_53 (K : Nat → Nat → Nat) (K23 : Nat → Option Nat → Nat → Int32 → Nat → Nat → NM → Prop) (post : Int32 → NM → Prop) (x0 : Nat) (x2 : Option Nat) (x3 : Nat) (x4 : Int32) (x5 : Option Nat) (mc ms : Nat) (N : NM) : Prop :=
  ∃ a84, x5 = some a84 ∧ (∃ f87 f88 f89 f90, N a84 = some (eO 6 [.int f87, .int f88, .int f89, va_rf f90]) ∧ (((f87 ≤ (1 : Int32)) → (wX0_spell_72 K K23 post x0 x2 x3 x4 x5 mc ms N)) ∧ (¬ (f87 ≤ (1 : Int32)) → (∃ f217 f218 f219 f220, N x3 = some (eO 17 [va_rf f217, .int f218, .int f219, .int f220]) ∧ (∃ mc212 ms213, mc212 ≤ mc ∧ ms213 ≤ ms ∧ wJ11_append_2 K (fun r210 N211 => wX0_spell_72 K K23 post x0 x2 x3 x4 x5 (mc - mc212) (ms - ms213) N211) mc212 ms213 N x3 f87)))))
def wX0_spell_23 (K : Nat → Nat → Nat) (post : Int32 → NM → Prop) : Nat → Nat → Option Nat → Nat → Int32 → Nat → Nat → NM → Prop
  | 0, _, _, _, _, _, _, _ => False
  | n + 1, x0, x2, x3, x4, mc, ms, N => ∃ a43, x2 = some a43 ∧ (∃ f48, N a43 = some (eO 7 [va_rf f48]) ∧ (wX6_many K (fun r45 N46 => ((r45 ≤ x4) → (∃ f57 f58 f59 f60 f61 f62 f63 f64 f65 f66 f67 f68 f69 f70 f71 f72 f73 f74 f75, N46 x0 = some (eO 1 [va_rf f57, va_rf f58, va_rf f59, va_rf f60, va_rf f61, va_rf f62, va_rf f63, va_rf f64, va_rf f65, .int f66, .int f67, va_rf f68, va_rf f69, .int f70, va_rf f71, va_rf f72, va_rf f73, va_rf f74, va_rf f75]) ∧ (∃ mc52 ms53, mc52 ≤ mc ∧ ms53 ≤ ms ∧ wX0_shows K (fun r50 N51 => post r50 N51) mc52 ms53 N46 x0 (some x3)))) ∧ (¬ (r45 ≤ x4) → (∃ f77, N46 a43 = some (eO 7 [va_rf f77]) ∧ (∃ a78, f77 = some a78 ∧ (∃ n81 f82, N46 a78 = some (eR 5 n81 f82) ∧ (vp_in x4 n81 ∧ (((x4 ≤ (0 : Int32)) → (wX0_spell_53 K (fun x0 x2 x3 x4 mc ms N => wX0_spell_23 K post n x0 x2 x3 x4 mc ms N) post x0 x2 x3 x4 (f82 x4.toNatClampNeg) mc ms N46)) ∧ (¬ (x4 ≤ (0 : Int32)) → (∃ f228 f229 f230 f231, N46 x3 = some (eO 17 [va_rf f228, .int f229, .int f230, .int f231]) ∧ (∃ mc223 ms224, mc223 ≤ mc ∧ ms224 ≤ ms ∧ wJ11_append K (fun r221 N222 => wX0_spell_53 K (fun x0 x2 x3 x4 mc ms N => wX0_spell_23 K post n x0 x2 x3 x4 mc ms N) post x0 x2 x3 x4 (f82 x4.toNatClampNeg) (mc - mc223) (ms - ms224) N222) mc223 ms224 N46 x3 (43 : Int32))))))))))) N a43))
def wX0_spell (K : Nat → Nat → Nat) (post : Int32 → NM → Prop) (MC MS : Nat) (N : NM) (x0 : Nat) (x1 : Int32) : Prop :=
  ∃ f8 f9 f10 f11 f12 f13 f14 f15 f16 f17 f18 f19 f20 f21 f22 f23 f24 f25 f26, N x0 = some (eO 1 [va_rf f8, va_rf f9, va_rf f10, va_rf f11, va_rf f12, va_rf f13, va_rf f14, va_rf f15, va_rf f16, .int f17, .int f18, va_rf f19, va_rf f20, .int f21, va_rf f22, va_rf f23, va_rf f24, va_rf f25, va_rf f26]) ∧ (∃ mc3 ms4, mc3 ≤ MC ∧ ms4 ≤ MS ∧ wX0_at K (fun r1 N2 => (r1 = none → (post (-1 : Int32) N2)) ∧ (∀ a28, r1 = some a28 → (1 ≤ (MC - mc3) ∧ 4 ≤ (MS - ms4) ∧ (∀ nq32, N2 nq32 = none → (∀ N34, N34 = va_up N2 nq32 (some (eO 17 [va_rf none, .int (0 : Int32), .int (0 : Int32), .int (0 : Int32)])) → (∃ mc39 ms40, mc39 ≤ ((MC - mc3) - 1) ∧ ms40 ≤ ((MS - ms4) - 4) ∧ wJ11_init K (fun _ N38 => (∃ k, wX0_spell_23 K post k x0 r1 nq32 (0 : Int32) (((MC - mc3) - 1) - mc39) (((MS - ms4) - 4) - ms40) N38)) mc39 ms40 N34 nq32)))))) mc3 ms4 N x0 x1)
theorem kX0_spell_160 {p : Program} {l : Launch} {e : Env} {s : State} {m : MethodId} {args : Array Value} {below : List Frame} {meth : Method} {c : Code} {G : gG} {A : Nat → Prop} {MC MS : Nat} {K23 : Nat → Option Nat → Nat → Int32 → Nat → Nat → NM → Prop} {post : Int32 → NM → Prop} (X : cX G A RX0 p s m args c cX0_spell 7) (hr : meth.sig.returnType = (some .int)) (hlk : meth.locks = false) (hL : l.stackTraces = false) (hT : c.exceptionTable.toList = tableOf []) (hK23 : ∀ (x0 : Nat) (x2 : Option Nat) (x3 : Nat) (x4 : Int32) (mc ms : Nat) (N : NM) (H : Heap) (locs : List Loc) (ls : Array Slot) (cells slots : Nat), K23 x0 x2 x3 x4 mc ms N → (cH G A s [] N H locs ∧ cells + mc ≤ MC ∧ slots + ms ≤ MS) → lv_has ls 7 [(0, .ref x0), (2, va_rf x2), (3, .ref x3), (4, .int x4)] → W p l e ⟨10, MC, MS, 10322⟩ s m args below meth c H locs cells slots (cx_MQ below (gQ vI post (fun u H => cBw G A (jW u).1 (jW u).2 H) A) (cXC G A [] (fun _ _ _ => False)) args s MC MS A) (F0 m 23 ls [])) : ∀ (x0 : Nat) (x2 : Option Nat) (x3 : Nat) (x4 : Int32) (mc ms : Nat) (N : NM) (H : Heap) (locs : List Loc) (ls : Array Slot) (cells slots : Nat), wX0_spell_160 (gC G) K23 post x0 x2 x3 x4 mc ms N → (cH G A s [] N H locs ∧ cells + mc ≤ MC ∧ slots + ms ≤ MS) → lv_has ls 7 [(0, .ref x0), (2, va_rf x2), (3, .ref x3), (4, .int x4)] → W p l e ⟨10, MC, MS, 10322⟩ s m args below meth c H locs cells slots (cx_MQ below (gQ vI post (fun u H => cBw G A (jW u).1 (jW u).2 H) A) (cXC G A [] (fun _ _ _ => False)) args s MC MS A) (F0 m 160 ls []) := by
  have hx := X.1.1
  have hb := X.1.2.1
  have hml := X.1.2.2.1
  have hown := X.1.2.2.2.1
  have hts := X.1.2.2.2.2
  intro x0 x2 x3 x4 mc ms N H locs ls cells slots h hw0 hl
  obtain ⟨hw, hbud⟩ := hw0
  unfold wX0_spell_160 at h
  refine lv_iinc (pc := 160) (v := x4 + (1 : Int32)) (lv' := [(4, .int (x4 + (1 : Int32))), (0, .ref x0), (2, va_rf x2), (3, .ref x3)]) hx hb dX0_spell_160 hl (k := 3) rfl rfl (by decide) rfl (fun ls hl => ?_)
  refine lv_goto (pc := 163) (tgt := 23) hx hb dX0_spell_163 rfl ?_
  exact hK23 _ _ _ _ _ _ _ _ _ _ _ _ h ⟨hw, by omega⟩ (lv_sub hl [1, 2, 3, 0] rfl)
theorem kX0_spell_123 {p : Program} {l : Launch} {e : Env} {s : State} {m : MethodId} {args : Array Value} {below : List Frame} {meth : Method} {c : Code} {G : gG} {A : Nat → Prop} {MC MS : Nat} {K23 : Nat → Option Nat → Nat → Int32 → Nat → Nat → NM → Prop} {post : Int32 → NM → Prop} (X : cX G A RX0 p s m args c cX0_spell 7) (hr : meth.sig.returnType = (some .int)) (hlk : meth.locks = false) (hL : l.stackTraces = false) (hT : c.exceptionTable.toList = tableOf []) (hK23 : ∀ (x0 : Nat) (x2 : Option Nat) (x3 : Nat) (x4 : Int32) (mc ms : Nat) (N : NM) (H : Heap) (locs : List Loc) (ls : Array Slot) (cells slots : Nat), K23 x0 x2 x3 x4 mc ms N → (cH G A s [] N H locs ∧ cells + mc ≤ MC ∧ slots + ms ≤ MS) → lv_has ls 7 [(0, .ref x0), (2, va_rf x2), (3, .ref x3), (4, .int x4)] → W p l e ⟨10, MC, MS, 10322⟩ s m args below meth c H locs cells slots (cx_MQ below (gQ vI post (fun u H => cBw G A (jW u).1 (jW u).2 H) A) (cXC G A [] (fun _ _ _ => False)) args s MC MS A) (F0 m 23 ls [])) : ∀ (x0 : Nat) (x2 : Option Nat) (x3 : Nat) (x4 : Int32) (x5 : Option Nat) (v0 : Int32) (mc ms : Nat) (N : NM) (H : Heap) (locs : List Loc) (ls : Array Slot) (cells slots : Nat), wX0_spell_123 (gC G) K23 post x0 x2 x3 x4 x5 v0 mc ms N → (cH G A s [] N H locs ∧ cells + mc ≤ MC ∧ slots + ms ≤ MS) → lv_has ls 7 [(0, .ref x0), (2, va_rf x2), (3, .ref x3), (4, .int x4), (5, va_rf x5)] → W p l e ⟨10, MC, MS, 10322⟩ s m args below meth c H locs cells slots (cx_MQ below (gQ vI post (fun u H => cBw G A (jW u).1 (jW u).2 H) A) (cXC G A [] (fun _ _ _ => False)) args s MC MS A) (F0 m 123 ls [.int v0]) := by
  have hx := X.1.1
  have hb := X.1.2.1
  have hml := X.1.2.2.1
  have hown := X.1.2.2.2.1
  have hts := X.1.2.2.2.2
  intro x0 x2 x3 x4 x5 v0 mc ms N H locs ls cells slots h hw0 hl
  obtain ⟨hw, hbud⟩ := hw0
  unfold wX0_spell_123 at h
  refine lv_istore (pc := 123) (i := 6) (lv' := [(6, .int v0), (0, .ref x0), (2, va_rf x2), (3, .ref x3), (4, .int x4), (5, va_rf x5)]) hx hb dX0_spell_123 hl (by decide) (by simp [rf_c]) (fun ls hl => ?_)
  refine lv_iload (pc := 125) hx hb dX0_spell_125 (lv_at hl 0 rfl) ?_
  refine lv_if_ne (pc := 127) (tgt := 160) hx hb dX0_spell_127 rfl (fun c150 => ?_) (fun c150 => ?_)
  · have h := h.2 c150
    exact kX0_spell_160 X hr hlk hL hT hK23 _ _ _ _ _ _ _ _ _ _ _ _ h ⟨hw, by omega⟩ (lv_sub hl [1, 2, 3, 4] rfl)
  · have h := h.1 c150
    refine lv_aload_n (pc := 130) hx hb dX0_spell_130 rfl (lv_at hl 3 rfl) ?_
    refine va_ldcSw (pc := 131) hx hb hown (X.str (r := ("ToldPowers", 367, " from ", 6)) (List.mem_of_getElem? (i := 6) rfl)) dX0_spell_131 ?_
    obtain ⟨f158, f159, f160, f161, hN157, h⟩ := h
    obtain ⟨mc153, ms154, hm155, hm156, h⟩ := h
    refine c_callJ (pc := 134) (val := vR) X hw (va_runV (C := RJ11) (As := [.ref (gC G 0 6)]) (rest := []) X.1 (tJ11_append_3 X.2.2.1 (sz := H.size) h) (cwV 1 hts (lw_V q1819 q1820 q1821 q118 q1822) rfl rfl rfl ⟨rfl, by decide, by decide, (by decide +kernel : (parseMethodDescriptor yJ11_append_3.desc).map (fun d => d.parameters.length) = some 1)⟩ ⟨Nat.le_of_ble_eq_true rfl, Nat.le_of_ble_eq_true rfl⟩) ⟨cPre_blind, c_recv X hw hN157 rfl, fun U hU hW => ⟨rfl, X.preJ hw hU hW⟩⟩ rfl rfl hl.1 rfl (lv_room (Nat.le_of_ble_eq_true rfl)) dX0_spell_134 ⟨show cells + mc153 ≤ MC by omega, show slots + ms154 ≤ MS by omega⟩) (fun r151 N152 H locs h hw => ?_)
    refine W.eq (g2 := F0 m 137 ls (.ref r151 :: [])) rfl ?_
    refine lq_aload (pc := 137) hx hb dX0_spell_137 (lv_at hl 5 rfl) ?_
    obtain ⟨a162, hr163, h⟩ := h
    refine W.eq (g2 := F0 m 139 ls [.ref a162, .ref r151]) (by rw [hr163]; rfl) ?_
    obtain ⟨f165, f166, f167, f168, hN164, h⟩ := h
    refine c_getN (pc := 139) X hw hN164 in_X4 rfl 1 (by decide) q712 rfl rfl dX0_spell_139 ?_
    obtain ⟨f176, f177, f178, f179, hN175, h⟩ := h
    obtain ⟨mc171, ms172, hm173, hm174, h⟩ := h
    refine c_callJ (pc := 142) (val := vR) X hw (va_runV (C := RJ11) (As := [.int f166]) (rest := []) X.1 (tJ11_append_2 X.2.2.1 (sz := H.size) h) (cwV 1 hts (lw_V q1788 q1789 q1790 q118 q1791) rfl rfl rfl ⟨rfl, by decide, by decide, (by decide +kernel : (parseMethodDescriptor yJ11_append_2.desc).map (fun d => d.parameters.length) = some 1)⟩ ⟨Nat.le_of_ble_eq_true rfl, Nat.le_of_ble_eq_true rfl⟩) ⟨cPre_blind, c_recv X hw hN175 rfl, fun U hU hW => ⟨rfl, X.preJ hw hU hW⟩⟩ rfl rfl hl.1 rfl (lv_room (Nat.le_of_ble_eq_true rfl)) dX0_spell_142 ⟨show cells + mc153 + mc171 ≤ MC by omega, show slots + ms154 + ms172 ≤ MS by omega⟩) (fun r169 N170 H locs h hw => ?_)
    refine W.eq (g2 := F0 m 145 ls (.ref r169 :: [])) rfl ?_
    refine va_ldcSw (pc := 145) hx hb hown (X.str (r := ("ToldPowers", 369, " to ", 7)) (List.mem_of_getElem? (i := 7) rfl)) dX0_spell_145 ?_
    obtain ⟨f187, f188, f189, f190, hN186, h⟩ := h
    obtain ⟨mc182, ms183, hm184, hm185, h⟩ := h
    refine c_callJ (pc := 148) (val := vR) X hw (va_runV (C := RJ11) (As := [.ref (gC G 0 7)]) (rest := []) X.1 (tJ11_append_3 X.2.2.1 (sz := H.size) h) (cwV 1 hts (lw_V q1819 q1820 q1821 q118 q1822) rfl rfl rfl ⟨rfl, by decide, by decide, (by decide +kernel : (parseMethodDescriptor yJ11_append_3.desc).map (fun d => d.parameters.length) = some 1)⟩ ⟨Nat.le_of_ble_eq_true rfl, Nat.le_of_ble_eq_true rfl⟩) ⟨cPre_blind, c_recv X hw hN186 rfl, fun U hU hW => ⟨rfl, X.preJ hw hU hW⟩⟩ rfl rfl hl.1 rfl (lv_room (Nat.le_of_ble_eq_true rfl)) dX0_spell_148 ⟨show cells + mc153 + mc171 + mc182 ≤ MC by omega, show slots + ms154 + ms172 + ms183 ≤ MS by omega⟩) (fun r180 N181 H locs h hw => ?_)
    refine W.eq (g2 := F0 m 151 ls (.ref r180 :: [])) rfl ?_
    refine lq_aload (pc := 151) hx hb dX0_spell_151 (lv_at hl 5 rfl) ?_
    refine W.eq (g2 := F0 m 153 ls [.ref a162, .ref r180]) (by rw [hr163]; rfl) ?_
    obtain ⟨f192, f193, f194, f195, hN191, h⟩ := h
    refine c_getN (pc := 153) X hw hN191 in_X4 rfl 2 (by decide) q715 rfl rfl dX0_spell_153 ?_
    obtain ⟨f203, f204, f205, f206, hN202, h⟩ := h
    obtain ⟨mc198, ms199, hm200, hm201, h⟩ := h
    refine c_callJ (pc := 156) (val := vR) X hw (va_runV (C := RJ11) (As := [.int f194]) (rest := []) X.1 (tJ11_append_2 X.2.2.1 (sz := H.size) h) (cwV 1 hts (lw_V q1788 q1789 q1790 q118 q1791) rfl rfl rfl ⟨rfl, by decide, by decide, (by decide +kernel : (parseMethodDescriptor yJ11_append_2.desc).map (fun d => d.parameters.length) = some 1)⟩ ⟨Nat.le_of_ble_eq_true rfl, Nat.le_of_ble_eq_true rfl⟩) ⟨cPre_blind, c_recv X hw hN202 rfl, fun U hU hW => ⟨rfl, X.preJ hw hU hW⟩⟩ rfl rfl hl.1 rfl (lv_room (Nat.le_of_ble_eq_true rfl)) dX0_spell_156 ⟨show cells + mc153 + mc171 + mc182 + mc198 ≤ MC by omega, show slots + ms154 + ms172 + ms183 + ms199 ≤ MS by omega⟩) (fun r196 N197 H locs h hw => ?_)
    refine W.eq (g2 := F0 m 159 ls (.ref r196 :: [])) rfl ?_
    refine lv_pop (pc := 159) hx hb dX0_spell_159 rfl ?_
    exact kX0_spell_160 X hr hlk hL hT hK23 _ _ _ _ _ _ _ _ _ _ _ _ h ⟨hw, by omega⟩ (lv_sub hl [1, 2, 3, 4] rfl)
theorem kX0_spell_122 {p : Program} {l : Launch} {e : Env} {s : State} {m : MethodId} {args : Array Value} {below : List Frame} {meth : Method} {c : Code} {G : gG} {A : Nat → Prop} {MC MS : Nat} {K23 : Nat → Option Nat → Nat → Int32 → Nat → Nat → NM → Prop} {post : Int32 → NM → Prop} (X : cX G A RX0 p s m args c cX0_spell 7) (hr : meth.sig.returnType = (some .int)) (hlk : meth.locks = false) (hL : l.stackTraces = false) (hT : c.exceptionTable.toList = tableOf []) (hK23 : ∀ (x0 : Nat) (x2 : Option Nat) (x3 : Nat) (x4 : Int32) (mc ms : Nat) (N : NM) (H : Heap) (locs : List Loc) (ls : Array Slot) (cells slots : Nat), K23 x0 x2 x3 x4 mc ms N → (cH G A s [] N H locs ∧ cells + mc ≤ MC ∧ slots + ms ≤ MS) → lv_has ls 7 [(0, .ref x0), (2, va_rf x2), (3, .ref x3), (4, .int x4)] → W p l e ⟨10, MC, MS, 10322⟩ s m args below meth c H locs cells slots (cx_MQ below (gQ vI post (fun u H => cBw G A (jW u).1 (jW u).2 H) A) (cXC G A [] (fun _ _ _ => False)) args s MC MS A) (F0 m 23 ls [])) : ∀ (x0 : Nat) (x2 : Option Nat) (x3 : Nat) (x4 : Int32) (x5 : Option Nat) (mc ms : Nat) (N : NM) (H : Heap) (locs : List Loc) (ls : Array Slot) (cells slots : Nat), wX0_spell_122 (gC G) K23 post x0 x2 x3 x4 x5 mc ms N → (cH G A s [] N H locs ∧ cells + mc ≤ MC ∧ slots + ms ≤ MS) → lv_has ls 7 [(0, .ref x0), (2, va_rf x2), (3, .ref x3), (4, .int x4), (5, va_rf x5)] → W p l e ⟨10, MC, MS, 10322⟩ s m args below meth c H locs cells slots (cx_MQ below (gQ vI post (fun u H => cBw G A (jW u).1 (jW u).2 H) A) (cXC G A [] (fun _ _ _ => False)) args s MC MS A) (F0 m 122 ls []) := by
  have hx := X.1.1
  have hb := X.1.2.1
  have hml := X.1.2.2.1
  have hown := X.1.2.2.2.1
  have hts := X.1.2.2.2.2
  intro x0 x2 x3 x4 x5 mc ms N H locs ls cells slots h hw0 hl
  obtain ⟨hw, hbud⟩ := hw0
  unfold wX0_spell_122 at h
  refine lv_iconst (pc := 122) (v := (0 : Int32)) hx hb dX0_spell_122 (by decide) ?_
  exact kX0_spell_123 X hr hlk hL hT hK23 _ _ _ _ _ _ _ _ _ _ _ _ _ _ h ⟨hw, by omega⟩ (lv_sub hl [0, 1, 2, 3, 4] rfl)
theorem kX0_spell_72 {p : Program} {l : Launch} {e : Env} {s : State} {m : MethodId} {args : Array Value} {below : List Frame} {meth : Method} {c : Code} {G : gG} {A : Nat → Prop} {MC MS : Nat} {K23 : Nat → Option Nat → Nat → Int32 → Nat → Nat → NM → Prop} {post : Int32 → NM → Prop} (X : cX G A RX0 p s m args c cX0_spell 7) (hr : meth.sig.returnType = (some .int)) (hlk : meth.locks = false) (hL : l.stackTraces = false) (hT : c.exceptionTable.toList = tableOf []) (hK23 : ∀ (x0 : Nat) (x2 : Option Nat) (x3 : Nat) (x4 : Int32) (mc ms : Nat) (N : NM) (H : Heap) (locs : List Loc) (ls : Array Slot) (cells slots : Nat), K23 x0 x2 x3 x4 mc ms N → (cH G A s [] N H locs ∧ cells + mc ≤ MC ∧ slots + ms ≤ MS) → lv_has ls 7 [(0, .ref x0), (2, va_rf x2), (3, .ref x3), (4, .int x4)] → W p l e ⟨10, MC, MS, 10322⟩ s m args below meth c H locs cells slots (cx_MQ below (gQ vI post (fun u H => cBw G A (jW u).1 (jW u).2 H) A) (cXC G A [] (fun _ _ _ => False)) args s MC MS A) (F0 m 23 ls [])) : ∀ (x0 : Nat) (x2 : Option Nat) (x3 : Nat) (x4 : Int32) (x5 : Option Nat) (mc ms : Nat) (N : NM) (H : Heap) (locs : List Loc) (ls : Array Slot) (cells slots : Nat), wX0_spell_72 (gC G) K23 post x0 x2 x3 x4 x5 mc ms N → (cH G A s [] N H locs ∧ cells + mc ≤ MC ∧ slots + ms ≤ MS) → lv_has ls 7 [(0, .ref x0), (2, va_rf x2), (3, .ref x3), (4, .int x4), (5, va_rf x5)] → W p l e ⟨10, MC, MS, 10322⟩ s m args below meth c H locs cells slots (cx_MQ below (gQ vI post (fun u H => cBw G A (jW u).1 (jW u).2 H) A) (cXC G A [] (fun _ _ _ => False)) args s MC MS A) (F0 m 72 ls []) := by
  have hx := X.1.1
  have hb := X.1.2.1
  have hml := X.1.2.2.1
  have hown := X.1.2.2.2.1
  have hts := X.1.2.2.2.2
  intro x0 x2 x3 x4 x5 mc ms N H locs ls cells slots h hw0 hl
  obtain ⟨hw, hbud⟩ := hw0
  unfold wX0_spell_72 at h
  refine lv_aload_n (pc := 72) hx hb dX0_spell_72 rfl (lv_at hl 2 rfl) ?_
  refine lv_aload_n (pc := 73) hx hb dX0_spell_73 rfl (lv_at hl 0 rfl) ?_
  obtain ⟨f93, f94, f95, f96, f97, f98, f99, f100, f101, f102, f103, f104, f105, f106, f107, f108, f109, f110, f111, hN92, h⟩ := h
  refine c_get (pc := 74) X hw hN92 in_X0 rfl 1 (by decide) q212 rfl rfl dX0_spell_74 ?_
  refine lq_aload (pc := 77) hx hb dX0_spell_77 (lv_at hl 4 rfl) ?_
  obtain ⟨a112, hr113, h⟩ := h
  refine W.eq (g2 := F0 m 79 ls [.ref a112, va_rf f94, .ref x3]) (by rw [hr113]; rfl) ?_
  obtain ⟨f115, f116, f117, f118, hN114, h⟩ := h
  refine c_getN (pc := 79) X hw hN114 in_X4 rfl 3 (by decide) q718 rfl rfl dX0_spell_79 ?_
  obtain ⟨a119, hr120, h⟩ := h
  refine W.eq (g2 := F0 m 82 ls [.ref a119, va_rf f94, .ref x3]) (by rw [hr120]; rfl) ?_
  obtain ⟨kk121, hk122, ha123, h⟩ := h
  refine W.eq (g2 := F0 m 82 ls [.ref (gC G 2 kk121), va_rf f94, .ref x3]) (by rw [ha123]) ?_
  refine c_ordinal (pc := 82) (rest := [va_rf f94, .ref x3]) X hw hk122 hl.1 ⟨Nat.le_of_ble_eq_true rfl, Nat.le_of_ble_eq_true rfl⟩ (rsum_le (Nat.le_of_ble_eq_true rfl)) ⟨show cells ≤ MC by omega, show slots ≤ MS by omega⟩ dX0_spell_82 (fun H locs hw => ?_)
  obtain ⟨a124, hr125, h⟩ := h
  refine W.eq (g2 := F0 m 85 ls [.int (nI kk121), .ref a124, .ref x3]) (by rw [hr125]; rfl) ?_
  obtain ⟨n127, f128, hN126, h⟩ := h
  obtain ⟨hi, h⟩ := h
  refine c_aald (pc := 85) X hw 10 hN126 rfl hi dX0_spell_85 ?_
  obtain ⟨a129, hr130, h⟩ := h
  refine W.eq (g2 := F0 m 86 ls [.ref a129, .ref x3]) (by rw [hr130]; rfl) ?_
  obtain ⟨t131, ht132, h⟩ := h
  refine W.eq (g2 := F0 m 86 ls [.ref (gC G 0 t131), .ref x3]) (by rw [ht132]) ?_
  obtain ⟨f140, f141, f142, f143, hN139, h⟩ := h
  obtain ⟨mc135, ms136, hm137, hm138, h⟩ := h
  refine c_callJ (pc := 86) (val := vR) X hw (va_runV (C := RJ11) (As := [.ref (gC G 0 t131)]) (rest := []) X.1 (tJ11_append_3 X.2.2.1 (sz := H.size) h) (cwV 1 hts (lw_V q1819 q1820 q1821 q118 q1822) rfl rfl rfl ⟨rfl, by decide, by decide, (by decide +kernel : (parseMethodDescriptor yJ11_append_3.desc).map (fun d => d.parameters.length) = some 1)⟩ ⟨Nat.le_of_ble_eq_true rfl, Nat.le_of_ble_eq_true rfl⟩) ⟨cPre_blind, c_recv X hw hN139 rfl, fun U hU hW => ⟨rfl, X.preJ hw hU hW⟩⟩ rfl rfl hl.1 rfl (lv_room (Nat.le_of_ble_eq_true rfl)) dX0_spell_86 ⟨show cells + mc135 ≤ MC by omega, show slots + ms136 ≤ MS by omega⟩) (fun r133 N134 H locs h hw => ?_)
  refine W.eq (g2 := F0 m 89 ls (.ref r133 :: [])) rfl ?_
  refine lv_pop (pc := 89) hx hb dX0_spell_89 rfl ?_
  refine lq_aload (pc := 90) hx hb dX0_spell_90 (lv_at hl 4 rfl) ?_
  refine W.eq (g2 := F0 m 92 ls [.ref a112]) (by rw [hr113]; rfl) ?_
  obtain ⟨f145, f146, f147, f148, hN144, h⟩ := h
  refine c_getN (pc := 92) X hw hN144 in_X4 rfl 1 (by decide) q712 rfl rfl dX0_spell_92 ?_
  refine lv_if_ne (pc := 95) (tgt := 122) hx hb dX0_spell_95 rfl (fun c149 => ?_) (fun c149 => ?_)
  · have h := h.2 c149
    exact kX0_spell_122 X hr hlk hL hT hK23 _ _ _ _ _ _ _ _ _ _ _ _ _ h ⟨hw, by omega⟩ (lv_sub hl [0, 1, 2, 3, 4] rfl)
  · have h := h.1 c149
    refine lq_aload (pc := 98) hx hb dX0_spell_98 (lv_at hl 4 rfl) ?_
    refine lq_aload (pc := 100) hx hb dX0_spell_100 (lv_at hl 4 rfl) ?_
    refine W.eq (g2 := F0 m 102 ls [.ref a112, va_rf x5]) (by rw [hr113]; rfl) ?_
    refine c_getN (pc := 102) X hw hN144 in_X4 rfl 2 (by decide) q715 rfl rfl dX0_spell_102 ?_
    refine lv_iconst (pc := 105) (v := (1 : Int32)) hx hb dX0_spell_105 (by decide) ?_
    refine lv_iadd (pc := 106) hx hb dX0_spell_106 ?_
    refine lv_i2l (pc := 107) hx hb dX0_spell_107 rfl ?_
    refine W.eq (g2 := F0 m 108 ls [.long ((f147 + (1 : Int32)).toInt64), .ref a112]) (by rw [hr113]; rfl) ?_
    refine c_callJ (pc := 108) (val := vL) X hw (va_runV (C := RX4) (As := [.long ((f147 + (1 : Int32)).toInt64)]) (rest := []) X.1 (tX4_value X.2.2.1 (sz := H.size) h) (cwV 1 hts (lw_V q1383 q738 q739 q126 q740) rfl rfl rfl ⟨rfl, by decide, by decide, (by decide +kernel : (parseMethodDescriptor yX4_value.desc).map (fun d => d.parameters.length) = some 1)⟩ ⟨Nat.le_of_ble_eq_true rfl, Nat.le_of_ble_eq_true rfl⟩) ⟨cPre_blind, c_recv X hw hN144 rfl, fun U hU hW => ⟨rfl, X.preJ hw hU hW⟩⟩ rfl rfl hl.1 rfl (lv_room (Nat.le_of_ble_eq_true rfl)) dX0_spell_108 ⟨show cells + mc135 + 0 ≤ MC by omega, show slots + ms136 + 0 ≤ MS by omega⟩) (fun r207 N208 H locs h hw => ?_)
    refine W.eq (g2 := F0 m 111 ls (.long r207 :: [])) rfl ?_
    refine lv_ldc2 (pc := 111) hx hb hown (hts _ q979) dX0_spell_111 ?_
    refine W.lcmp (pc := 114) hx hb dX0_spell_114 ?_
    refine lv_if_le (pc := 115) (tgt := 122) hx hb dX0_spell_115 rfl (fun c209 => ?_) (fun c209 => ?_)
    · have h := h.1 ((lg_cmp_le _ _).mp c209)
      exact kX0_spell_122 X hr hlk hL hT hK23 _ _ _ _ _ _ _ _ _ _ _ _ _ h ⟨hw, by omega⟩ (lv_sub hl [0, 1, 2, 3, 4] rfl)
    · have h := h.2 (fun z => c209 ((lg_cmp_le _ _).mpr z))
      refine lv_iconst (pc := 118) (v := (1 : Int32)) hx hb dX0_spell_118 (by decide) ?_
      refine lv_goto (pc := 119) (tgt := 123) hx hb dX0_spell_119 rfl ?_
      exact kX0_spell_123 X hr hlk hL hT hK23 _ _ _ _ _ _ _ _ _ _ _ _ _ _ h ⟨hw, by omega⟩ (lv_sub hl [0, 1, 2, 3, 4] rfl)
theorem kX0_spell_53 {p : Program} {l : Launch} {e : Env} {s : State} {m : MethodId} {args : Array Value} {below : List Frame} {meth : Method} {c : Code} {G : gG} {A : Nat → Prop} {MC MS : Nat} {K23 : Nat → Option Nat → Nat → Int32 → Nat → Nat → NM → Prop} {post : Int32 → NM → Prop} (X : cX G A RX0 p s m args c cX0_spell 7) (hr : meth.sig.returnType = (some .int)) (hlk : meth.locks = false) (hL : l.stackTraces = false) (hT : c.exceptionTable.toList = tableOf []) (hK23 : ∀ (x0 : Nat) (x2 : Option Nat) (x3 : Nat) (x4 : Int32) (mc ms : Nat) (N : NM) (H : Heap) (locs : List Loc) (ls : Array Slot) (cells slots : Nat), K23 x0 x2 x3 x4 mc ms N → (cH G A s [] N H locs ∧ cells + mc ≤ MC ∧ slots + ms ≤ MS) → lv_has ls 7 [(0, .ref x0), (2, va_rf x2), (3, .ref x3), (4, .int x4)] → W p l e ⟨10, MC, MS, 10322⟩ s m args below meth c H locs cells slots (cx_MQ below (gQ vI post (fun u H => cBw G A (jW u).1 (jW u).2 H) A) (cXC G A [] (fun _ _ _ => False)) args s MC MS A) (F0 m 23 ls [])) : ∀ (x0 : Nat) (x2 : Option Nat) (x3 : Nat) (x4 : Int32) (x5 : Option Nat) (mc ms : Nat) (N : NM) (H : Heap) (locs : List Loc) (ls : Array Slot) (cells slots : Nat), wX0_spell_53 (gC G) K23 post x0 x2 x3 x4 x5 mc ms N → (cH G A s [] N H locs ∧ cells + mc ≤ MC ∧ slots + ms ≤ MS) → lv_has ls 7 [(0, .ref x0), (2, va_rf x2), (3, .ref x3), (4, .int x4), (5, va_rf x5)] → W p l e ⟨10, MC, MS, 10322⟩ s m args below meth c H locs cells slots (cx_MQ below (gQ vI post (fun u H => cBw G A (jW u).1 (jW u).2 H) A) (cXC G A [] (fun _ _ _ => False)) args s MC MS A) (F0 m 53 ls []) := by
  have hx := X.1.1
  have hb := X.1.2.1
  have hml := X.1.2.2.1
  have hown := X.1.2.2.2.1
  have hts := X.1.2.2.2.2
  intro x0 x2 x3 x4 x5 mc ms N H locs ls cells slots h hw0 hl
  obtain ⟨hw, hbud⟩ := hw0
  unfold wX0_spell_53 at h
  refine lq_aload (pc := 53) hx hb dX0_spell_53 (lv_at hl 4 rfl) ?_
  obtain ⟨a84, hr85, h⟩ := h
  refine W.eq (g2 := F0 m 55 ls [.ref a84]) (by rw [hr85]; rfl) ?_
  obtain ⟨f87, f88, f89, f90, hN86, h⟩ := h
  refine c_getN (pc := 55) X hw hN86 in_X4 rfl 0 (by decide) q710 rfl rfl dX0_spell_55 ?_
  refine lv_iconst (pc := 58) (v := (1 : Int32)) hx hb dX0_spell_58 (by decide) ?_
  refine lv_icmp_le (pc := 59) (tgt := 72) hx hb dX0_spell_59 rfl (fun c91 => ?_) (fun c91 => ?_)
  · have h := h.1 c91
    exact kX0_spell_72 X hr hlk hL hT hK23 _ _ _ _ _ _ _ _ _ _ _ _ _ h ⟨hw, by omega⟩ (lv_sub hl [0, 1, 2, 3, 4] rfl)
  · have h := h.2 c91
    refine lv_aload_n (pc := 62) hx hb dX0_spell_62 rfl (lv_at hl 2 rfl) ?_
    refine lq_aload (pc := 63) hx hb dX0_spell_63 (lv_at hl 4 rfl) ?_
    refine W.eq (g2 := F0 m 65 ls [.ref a84, .ref x3]) (by rw [hr85]; rfl) ?_
    refine c_getN (pc := 65) X hw hN86 in_X4 rfl 0 (by decide) q710 rfl rfl dX0_spell_65 ?_
    obtain ⟨f217, f218, f219, f220, hN216, h⟩ := h
    obtain ⟨mc212, ms213, hm214, hm215, h⟩ := h
    refine c_callJ (pc := 68) (val := vR) X hw (va_runV (C := RJ11) (As := [.int f87]) (rest := []) X.1 (tJ11_append_2 X.2.2.1 (sz := H.size) h) (cwV 1 hts (lw_V q1788 q1789 q1790 q118 q1791) rfl rfl rfl ⟨rfl, by decide, by decide, (by decide +kernel : (parseMethodDescriptor yJ11_append_2.desc).map (fun d => d.parameters.length) = some 1)⟩ ⟨Nat.le_of_ble_eq_true rfl, Nat.le_of_ble_eq_true rfl⟩) ⟨cPre_blind, c_recv X hw hN216 rfl, fun U hU hW => ⟨rfl, X.preJ hw hU hW⟩⟩ rfl rfl hl.1 rfl (lv_room (Nat.le_of_ble_eq_true rfl)) dX0_spell_68 ⟨show cells + mc212 ≤ MC by omega, show slots + ms213 ≤ MS by omega⟩) (fun r210 N211 H locs h hw => ?_)
    refine W.eq (g2 := F0 m 71 ls (.ref r210 :: [])) rfl ?_
    refine lv_pop (pc := 71) hx hb dX0_spell_71 rfl ?_
    exact kX0_spell_72 X hr hlk hL hT hK23 _ _ _ _ _ _ _ _ _ _ _ _ _ h ⟨hw, by omega⟩ (lv_sub hl [0, 1, 2, 3, 4] rfl)
theorem kX0_spell_23 {p : Program} {l : Launch} {e : Env} {s : State} {m : MethodId} {args : Array Value} {below : List Frame} {meth : Method} {c : Code} {G : gG} {A : Nat → Prop} {MC MS : Nat} {post : Int32 → NM → Prop} (X : cX G A RX0 p s m args c cX0_spell 7) (hr : meth.sig.returnType = (some .int)) (hlk : meth.locks = false) (hL : l.stackTraces = false) (hT : c.exceptionTable.toList = tableOf []) : ∀ (n : Nat) (x0 : Nat) (x2 : Option Nat) (x3 : Nat) (x4 : Int32) (mc ms : Nat) (N : NM) (H : Heap) (locs : List Loc) (ls : Array Slot) (cells slots : Nat), wX0_spell_23 (gC G) post n x0 x2 x3 x4 mc ms N → (cH G A s [] N H locs ∧ cells + mc ≤ MC ∧ slots + ms ≤ MS) → lv_has ls 7 [(0, .ref x0), (2, va_rf x2), (3, .ref x3), (4, .int x4)] → W p l e ⟨10, MC, MS, 10322⟩ s m args below meth c H locs cells slots (cx_MQ below (gQ vI post (fun u H => cBw G A (jW u).1 (jW u).2 H) A) (cXC G A [] (fun _ _ _ => False)) args s MC MS A) (F0 m 23 ls []) := by
  have hx := X.1.1
  have hb := X.1.2.1
  have hml := X.1.2.2.1
  have hown := X.1.2.2.2.1
  have hts := X.1.2.2.2.2
  intro n
  induction n with
  | zero =>
    intro x0 x2 x3 x4 mc ms N H locs ls cells slots h
    exact False.elim h
  | succ n ih =>
    intro x0 x2 x3 x4 mc ms N H locs ls cells slots h hw0 hl
    obtain ⟨hw, hbud⟩ := hw0
    unfold wX0_spell_23 at h
    refine lv_iload (pc := 23) hx hb dX0_spell_23 (lv_at hl 3 rfl) ?_
    refine lq_aload_n (pc := 25) hx hb dX0_spell_25 rfl (lv_at hl 1 rfl) ?_
    obtain ⟨a43, hr44, h⟩ := h
    refine W.eq (g2 := F0 m 26 ls [.ref a43, .int x4]) (by rw [hr44]; rfl) ?_
    obtain ⟨f48, hN47, h⟩ := h
    refine c_callJ (pc := 26) (val := vI) X hw (va_runV (C := RX6) (As := []) (rest := [.int x4]) X.1 (tX6_many X.2.2.1 (sz := H.size) h) (cwV 0 hts (lw_V q890 q891 q892 q129 q893) rfl rfl rfl ⟨rfl, by decide, by decide, (by decide +kernel : (parseMethodDescriptor yX6_many.desc).map (fun d => d.parameters.length) = some 0)⟩ ⟨Nat.le_of_ble_eq_true rfl, Nat.le_of_ble_eq_true rfl⟩) ⟨cPre_blind, c_recv X hw hN47 rfl, fun U hU hW => ⟨rfl, X.preJ hw hU hW⟩⟩ rfl rfl hl.1 rfl (lv_room (Nat.le_of_ble_eq_true rfl)) dX0_spell_26 ⟨show cells + 0 ≤ MC by omega, show slots + 0 ≤ MS by omega⟩) (fun r45 N46 H locs h hw => ?_)
    refine W.eq (g2 := F0 m 29 ls (.int r45 :: [.int x4])) rfl ?_
    refine lv_icmp_ge (pc := 29) (tgt := 166) hx hb dX0_spell_29 rfl (fun c49 => ?_) (fun c49 => ?_)
    · have h := h.1 c49
      refine lv_aload_n (pc := 166) hx hb dX0_spell_166 rfl (lv_at hl 0 rfl) ?_
      refine lv_aload_n (pc := 167) hx hb dX0_spell_167 rfl (lv_at hl 2 rfl) ?_
      obtain ⟨f57, f58, f59, f60, f61, f62, f63, f64, f65, f66, f67, f68, f69, f70, f71, f72, f73, f74, f75, hN56, h⟩ := h
      obtain ⟨mc52, ms53, hm54, hm55, h⟩ := h
      refine c_callJ (pc := 168) (val := vI) X hw (va_runV (C := RX0) (As := [va_rf (some x3)]) (rest := []) X.1 (tX0_shows X.2.2.1 (sz := H.size) h) (cwV 1 hts (lw_V q1851 q1853 qs42 q102 q1854) rfl rfl rfl ⟨rfl, by decide, by decide, (by decide +kernel : (parseMethodDescriptor yX0_shows.desc).map (fun d => d.parameters.length) = some 1)⟩ ⟨Nat.le_of_ble_eq_true rfl, Nat.le_of_ble_eq_true rfl⟩) ⟨cPre_blind, c_recv X hw hN56 rfl, fun U hU hW => ⟨rfl, X.preJ hw hU hW⟩⟩ rfl rfl hl.1 rfl (lv_room (Nat.le_of_ble_eq_true rfl)) dX0_spell_168 ⟨show cells + 0 + mc52 ≤ MC by omega, show slots + 0 + ms53 ≤ MS by omega⟩) (fun r50 N51 H locs h hw => ?_)
      refine W.eq (g2 := F0 m 171 ls (.int r50 :: [])) rfl ?_
      refine W.widen (k := MC) (n := MS) (by omega) (by omega) ?_
      refine cx_ret ?_
      exact W.iret (pc := 171) hx hb hr (fun t ht hW => c_ret (val := vI) (lw := jW) (u := N51) hw h ht) hw.2.2.2 dX0_spell_171 hlk
    · have h := h.2 c49
      refine lq_aload_n (pc := 32) hx hb dX0_spell_32 rfl (lv_at hl 1 rfl) ?_
      refine W.eq (g2 := F0 m 33 ls [.ref a43]) (by rw [hr44]; rfl) ?_
      obtain ⟨f77, hN76, h⟩ := h
      refine c_getN (pc := 33) X hw hN76 in_X6 rfl 0 (by decide) q885 rfl rfl dX0_spell_33 ?_
      refine lv_iload (pc := 36) hx hb dX0_spell_36 (lv_at hl 3 rfl) ?_
      obtain ⟨a78, hr79, h⟩ := h
      refine W.eq (g2 := F0 m 38 ls [.int x4, .ref a78]) (by rw [hr79]; rfl) ?_
      obtain ⟨n81, f82, hN80, h⟩ := h
      obtain ⟨hi, h⟩ := h
      refine c_aald (pc := 38) X hw 5 hN80 rfl hi dX0_spell_38 ?_
      refine lq_astore (pc := 39) (lv' := [(5, va_rf (f82 x4.toNatClampNeg)), (0, .ref x0), (2, va_rf x2), (3, .ref x3), (4, .int x4)]) hx hb dX0_spell_39 hl (by decide) rfl (fun ls hl => ?_)
      refine lv_iload (pc := 41) hx hb dX0_spell_41 (lv_at hl 4 rfl) ?_
      refine lv_if_le (pc := 43) (tgt := 53) hx hb dX0_spell_43 rfl (fun c83 => ?_) (fun c83 => ?_)
      · have h := h.1 c83
        exact kX0_spell_53 X hr hlk hL hT ih _ _ _ _ _ _ _ _ _ _ _ _ _ h ⟨hw, by omega⟩ (lv_sub hl [1, 2, 3, 4, 0] rfl)
      · have h := h.2 c83
        refine lv_aload_n (pc := 46) hx hb dX0_spell_46 rfl (lv_at hl 3 rfl) ?_
        refine lv_bipush (pc := 47) (v := (43 : Int32)) hx hb dX0_spell_47 (by decide) ?_
        obtain ⟨f228, f229, f230, f231, hN227, h⟩ := h
        obtain ⟨mc223, ms224, hm225, hm226, h⟩ := h
        refine c_callJ (pc := 49) (val := vR) X hw (va_runV (C := RJ11) (As := [.int (43 : Int32)]) (rest := []) X.1 (tJ11_append X.2.2.1 (sz := H.size) h) (cwV 1 hts (lw_V q1787 q510 q511 q118 q512) rfl rfl rfl ⟨rfl, by decide, by decide, (by decide +kernel : (parseMethodDescriptor yJ11_append.desc).map (fun d => d.parameters.length) = some 1)⟩ ⟨Nat.le_of_ble_eq_true rfl, Nat.le_of_ble_eq_true rfl⟩) ⟨cPre_blind, c_recv X hw hN227 rfl, fun U hU hW => ⟨rfl, X.preJ hw hU hW⟩⟩ rfl rfl hl.1 rfl (lv_room (Nat.le_of_ble_eq_true rfl)) dX0_spell_49 ⟨show cells + 0 + mc223 ≤ MC by omega, show slots + 0 + ms224 ≤ MS by omega⟩) (fun r221 N222 H locs h hw => ?_)
        refine W.eq (g2 := F0 m 52 ls (.ref r221 :: [])) rfl ?_
        refine lv_pop (pc := 52) hx hb dX0_spell_52 rfl ?_
        exact kX0_spell_53 X hr hlk hL hT ih _ _ _ _ _ _ _ _ _ _ _ _ _ h ⟨hw, by omega⟩ (lv_sub hl [1, 2, 3, 4, 0] rfl)
theorem txX0_spell {l : Launch} (hL : l.stackTraces = false) {G : gG} (hO : gOk G) {post : Int32 → NM → Prop} {MC MS : Nat} {N : NM} {x0 : Nat} {x1 : Int32} {sz : Nat} (h : wX0_spell (gC G) post MC MS N x0 x1) : cx_Met l yX0_spell (ws_ yX0_spell cX0_spell 7 (some .int)) ⟨10, MC, MS, 10322⟩ (va_Pc [.ref x0, .int x1] (cPre G [] N sz)) (gQ vI post (fun u H => cBw G (cA [] N sz) (jW u).1 (jW u).2 H) (cA [] N sz)) (cXC G (cA [] N sz) [] (fun _ _ _ => False)) MC MS (cA [] N sz) := by
  refine c_ofX (B := fun A u H => cBw G A (jW u).1 (jW u).2 H) (by decide) hO (Nat.le_of_ble_eq_true rfl) (fun p e s m below meth c ls A X hr hlk hT hw hl => ?_)
  have hl : lv_has ls 7 [(0, .ref x0), (1, .int x1)] := hl
  have hx := X.1.1
  have hb := X.1.2.1
  have hml := X.1.2.2.1
  have hown := X.1.2.2.2.1
  have hts := X.1.2.2.2.2
  obtain ⟨H, eH⟩ : ∃ z, z = s.heap := ⟨_, rfl⟩
  rw [← eH] at hw ⊢
  obtain ⟨locs, eLo⟩ : ∃ z : List Loc, z = [] := ⟨_, rfl⟩
  rw [← eLo] at hw ⊢
  have hbud : 0 + MC ≤ MC ∧ 0 + MS ≤ MS := by omega
  unfold wX0_spell at h
  refine lv_aload_n (pc := 0) hx hb dX0_spell_0 rfl (lv_at hl 0 rfl) ?_
  refine lv_iload_n (pc := 1) hx hb dX0_spell_1 rfl (lv_at hl 1 rfl) ?_
  obtain ⟨f8, f9, f10, f11, f12, f13, f14, f15, f16, f17, f18, f19, f20, f21, f22, f23, f24, f25, f26, hN7, h⟩ := h
  obtain ⟨mc3, ms4, hm5, hm6, h⟩ := h
  refine c_callJ (pc := 2) (val := vQ) X hw (vx_runVW (C := RX0) (As := [.int x1]) (rest := []) X.1 (tX0_at hL X.2.2.1 (sz := H.size) h) (vx_cwVW 1 hts (lw_VW q898 q900 qs20 q102 q901) rfl rfl rfl ⟨rfl, by decide, by decide, (by decide +kernel : (parseMethodDescriptor yX0_at.desc).map (fun d => d.parameters.length) = some 1)⟩ ⟨Nat.le_of_ble_eq_true rfl, Nat.le_of_ble_eq_true rfl⟩) ⟨cPre_blind, c_recv X hw hN7 rfl, fun U hU hW => ⟨rfl, X.preJ hw hU hW⟩⟩ rfl rfl hl.1 rfl (lv_room (Nat.le_of_ble_eq_true rfl)) dX0_spell_2 ⟨show 0 + mc3 ≤ MC by omega, show 0 + ms4 ≤ MS by omega⟩) (fun r1 N2 H locs h hw => ?_)
  refine W.eq (g2 := F0 m 5 ls (va_rf r1 :: [])) rfl ?_
  refine lq_astore_n (pc := 5) (lv' := [(2, va_rf r1), (0, .ref x0), (1, .int x1)]) hx hb dX0_spell_5 rfl hl (by decide) rfl (fun ls hl => ?_)
  refine lq_aload_n (pc := 6) hx hb dX0_spell_6 rfl (lv_at hl 0 rfl) ?_
  refine lq_ifnonnull (pc := 7) (tgt := 12) hx hb dX0_spell_7 rfl (fun hz27 => ?_) (fun a28 hr29 => ?_)
  · have h := h.1 hz27
    refine lv_iconst (pc := 10) (v := (-1 : Int32)) hx hb dX0_spell_10 (by decide) ?_
    refine W.widen (k := MC) (n := MS) (by omega) (by omega) ?_
    refine cx_ret ?_
    exact W.iret (pc := 11) hx hb hr (fun t ht hW => c_ret (val := vI) (lw := jW) (u := N2) hw h ht) hw.2.2.2 dX0_spell_11 hlk
  · have h := h.2 a28 hr29
    obtain ⟨hm30, hm31, h⟩ := h
    refine c_new (pc := 12) (ci := 17) (fs := [va_rf none, .int (0 : Int32), .int (0 : Int32), .int (0 : Int32)]) X hw in_J11 tyJ11 tyJ11_ok q1785 q470 q118 rfl nf_J11 (show 0 + mc3 + 1 ≤ MC by omega) (show 0 + ms4 + 4 ≤ MS by omega) dX0_spell_12 (fun nq32 H hq33 _ hw => ?_)
    have h := h nq32 hq33
    obtain ⟨N34, e35⟩ : ∃ z, z = va_up N2 nq32 (some (eO 17 [va_rf none, .int (0 : Int32), .int (0 : Int32), .int (0 : Int32)])) := ⟨_, rfl⟩
    have hw : cH G A s [] N34 H locs := by rw [e35]; exact hw
    have h := h N34 e35
    have hN36 : N34 nq32 = some (eO 17 [va_rf none, .int (0 : Int32), .int (0 : Int32), .int (0 : Int32)]) := by rw [e35]; exact up_s
    refine lv_dup (pc := 15) hx hb dX0_spell_15 rfl ?_
    obtain ⟨mc39, ms40, hm41, hm42, h⟩ := h
    refine c_callJ (pc := 16) (val := vV) X hw (va_runI (As := []) (rest := [.ref nq32]) X.1 (tJ11_init X.2.2.1 (sz := H.size) h) (cwI 0 hts (lw_meth q473) rfl rfl rfl (hts _ q118) (hts _ q1786) (hts _ q472) rfl ⟨by decide, by decide, (by decide +kernel : (parseMethodDescriptor yJ11_init.desc).map (fun d => d.parameters.length) = some 0)⟩ ⟨Nat.le_of_ble_eq_true rfl, Nat.le_of_ble_eq_true rfl⟩) ⟨cPre_blind, fun U hU hW => ⟨rfl, X.preJ hw hU hW⟩⟩ rfl rfl hl.1 rfl (lv_room (Nat.le_of_ble_eq_true rfl)) dX0_spell_16 ⟨show 0 + mc3 + 1 + mc39 ≤ MC by omega, show 0 + ms4 + 4 + ms40 ≤ MS by omega⟩) (fun _ N38 H locs h hw => ?_)
    refine W.eq (g2 := F0 m 19 ls ([.ref nq32])) rfl ?_
    refine lv_astore_n (pc := 19) (i := 3) (lv' := [(3, .ref nq32), (2, va_rf r1), (0, .ref x0), (1, .int x1)]) hx hb dX0_spell_19 rfl hl (by decide) (by simp [rf_c]) (fun ls hl => ?_)
    refine lv_iconst (pc := 20) (v := (0 : Int32)) hx hb dX0_spell_20 (by decide) ?_
    refine lv_istore (pc := 21) (lv' := [(4, .int (0 : Int32)), (3, .ref nq32), (2, va_rf r1), (0, .ref x0), (1, .int x1)]) hx hb dX0_spell_21 hl (by decide) rfl (fun ls hl => ?_)
    obtain ⟨k, h⟩ := h
    exact kX0_spell_23 X hr hlk hL hT  k _ _ _ _ _ _ _ _ _ _ _ _ h ⟨hw, by omega⟩ (lv_sub hl [3, 2, 1, 0] rfl)
theorem tX0_spell {l : Launch} (hL : l.stackTraces = false) {G : gG} (hO : gOk G) {post : Int32 → NM → Prop} {MC MS : Nat} {N : NM} {x0 : Nat} {x1 : Int32} {sz : Nat} (h : wX0_spell (gC G) post MC MS N x0 x1) : Met l yX0_spell (ws_ yX0_spell cX0_spell 7 (some .int)) ⟨10, MC, MS, 10322⟩ (va_Pc [.ref x0, .int x1] (cPre G [] N sz)) (gQ vI post (fun u H => cBw G (cA [] N sz) (jW u).1 (jW u).2 H) (cA [] N sz)) MC MS (cA [] N sz) := cx_toMet (txX0_spell hL hO h)

def wX0_write_141 (K : Nat → Nat → Nat) (K42 : Nat → Int32 → Int32 → Option Nat → Nat → Int32 → Nat → Nat → NM → Prop) (post : Int32 → NM → Prop) (x0 : Nat) (x1 : Int32) (x3 : Int32) (x4 : Option Nat) (x5 : Nat) (x6 : Int32) (mc ms : Nat) (N : NM) : Prop :=
  ∃ f121 f122 f123 f124, N x5 = some (eO 17 [va_rf f121, .int f122, .int f123, .int f124]) ∧ (∃ mc116 ms117, mc116 ≤ mc ∧ ms117 ≤ ms ∧ wJ11_append K (fun r114 N115 => K42 x0 x1 x3 x4 x5 (x6 + (1 : Int32)) (mc - mc116) (ms - ms117) N115) mc116 ms117 N x5 (59 : Int32))
def wX0_write_118 (K : Nat → Nat → Nat) (K42 : Nat → Int32 → Int32 → Option Nat → Nat → Int32 → Nat → Nat → NM → Prop) (K81 : Nat → Int32 → Int32 → Option Nat → Nat → Int32 → Int32 → Nat → Nat → NM → Prop) (post : Int32 → NM → Prop) (x0 : Nat) (x1 : Int32) (x3 : Int32) (x4 : Option Nat) (x5 : Nat) (x6 : Int32) (x7 : Int32) (v0 : Int32) (v1 : Nat) (mc ms : Nat) (N : NM) : Prop :=
  ∃ f156 f157 f158 f159, N v1 = some (eO 17 [va_rf f156, .int f157, .int f158, .int f159]) ∧ (∃ mc151 ms152, mc151 ≤ mc ∧ ms152 ≤ ms ∧ wJ11_append K (fun r149 N150 => ∃ f167 f168 f169 f170 f171 f172 f173 f174 f175 f176 f177 f178 f179 f180 f181 f182 f183 f184 f185, N150 x0 = some (eO 1 [va_rf f167, va_rf f168, va_rf f169, va_rf f170, va_rf f171, va_rf f172, va_rf f173, va_rf f174, va_rf f175, .int f176, .int f177, va_rf f178, va_rf f179, .int f180, va_rf f181, va_rf f182, va_rf f183, va_rf f184, va_rf f185]) ∧ (∃ mc162 ms163, mc162 ≤ (mc - mc151) ∧ ms163 ≤ (ms - ms152) ∧ wX0_way K (fun r160 N161 => ∃ f193 f194 f195 f196, N161 r149 = some (eO 17 [va_rf f193, .int f194, .int f195, .int f196]) ∧ (∃ mc188 ms189, mc188 ≤ ((mc - mc151) - mc162) ∧ ms189 ≤ ((ms - ms152) - ms163) ∧ wJ11_append_2 K (fun r186 N187 => K81 x0 x1 x3 x4 x5 x6 (x7 + (1 : Int32)) (((mc - mc151) - mc162) - mc188) (((ms - ms152) - ms163) - ms189) N187) mc188 ms189 N161 r149 r160)) mc162 ms163 N150 x0 x1 x6 (0 : Int64) x7)) mc151 ms152 N v1 v0)
def wX0_write_81 (K : Nat → Nat → Nat) (K42 : Nat → Int32 → Int32 → Option Nat → Nat → Int32 → Nat → Nat → NM → Prop) (post : Int32 → NM → Prop) : Nat → Nat → Int32 → Int32 → Option Nat → Nat → Int32 → Int32 → Nat → Nat → NM → Prop
  | 0, _, _, _, _, _, _, _, _, _, _ => False
  | n + 1, x0, x1, x3, x4, x5, x6, x7, mc, ms, N => ∃ a107, x4 = some a107 ∧ (∃ f112, N a107 = some (eO 7 [va_rf f112]) ∧ (wX6_many K (fun r109 N110 => ((r109 ≤ x7) → (wX0_write_141 K K42 post x0 x1 x3 x4 x5 x6 mc ms N110)) ∧ (¬ (r109 ≤ x7) → (∃ f128 f129 f130 f131 f132 f133 f134 f135 f136 f137 f138 f139 f140 f141 f142 f143 f144 f145 f146, N110 x0 = some (eO 1 [va_rf f128, va_rf f129, va_rf f130, va_rf f131, va_rf f132, va_rf f133, va_rf f134, va_rf f135, va_rf f136, .int f137, .int f138, va_rf f139, va_rf f140, .int f141, va_rf f142, va_rf f143, va_rf f144, va_rf f145, va_rf f146]) ∧ (wX0_waysOf K (fun r125 N126 => ((r125 ≤ (0 : Int64)) → (wX0_write_141 K K42 post x0 x1 x3 x4 x5 x6 mc ms N126)) ∧ (¬ (r125 ≤ (0 : Int64)) → (((x7 = (0 : Int32)) → (wX0_write_118 K K42 (fun x0 x1 x3 x4 x5 x6 x7 mc ms N => wX0_write_81 K K42 post n x0 x1 x3 x4 x5 x6 x7 mc ms N) post x0 x1 x3 x4 x5 x6 x7 (61 : Int32) x5 mc ms N126)) ∧ (¬ (x7 = (0 : Int32)) → (wX0_write_118 K K42 (fun x0 x1 x3 x4 x5 x6 x7 mc ms N => wX0_write_81 K K42 post n x0 x1 x3 x4 x5 x6 x7 mc ms N) post x0 x1 x3 x4 x5 x6 x7 (44 : Int32) x5 mc ms N126))))) N110 x0 x4 x6)))) N a107))
def wX0_write_78 (K : Nat → Nat → Nat) (K42 : Nat → Int32 → Int32 → Option Nat → Nat → Int32 → Nat → Nat → NM → Prop) (post : Int32 → NM → Prop) (x0 : Nat) (x1 : Int32) (x3 : Int32) (x4 : Option Nat) (x5 : Nat) (x6 : Int32) (mc ms : Nat) (N : NM) : Prop :=
  (∃ k, wX0_write_81 K K42 post k x0 x1 x3 x4 x5 x6 (0 : Int32) mc ms N)
def wX0_write_42 (K : Nat → Nat → Nat) (post : Int32 → NM → Prop) : Nat → Nat → Int32 → Int32 → Option Nat → Nat → Int32 → Nat → Nat → NM → Prop
  | 0, _, _, _, _, _, _, _, _, _ => False
  | n + 1, x0, x1, x3, x4, x5, x6, mc, ms, N => ((x3 < x6) → (∃ f54 f55 f56 f57 f58 f59 f60 f61 f62 f63 f64 f65 f66 f67 f68 f69 f70 f71 f72, N x0 = some (eO 1 [va_rf f54, va_rf f55, va_rf f56, va_rf f57, va_rf f58, va_rf f59, va_rf f60, va_rf f61, va_rf f62, .int f63, .int f64, va_rf f65, va_rf f66, .int f67, va_rf f68, va_rf f69, va_rf f70, va_rf f71, va_rf f72]) ∧ (∃ mc49 ms50, mc49 ≤ mc ∧ ms50 ≤ ms ∧ wX0_shows K (fun r47 N48 => post r47 N48) mc49 ms50 N x0 (some x5)))) ∧ (¬ (x3 < x6) → (∃ f80 f81 f82 f83, N x5 = some (eO 17 [va_rf f80, .int f81, .int f82, .int f83]) ∧ (∃ mc75 ms76, mc75 ≤ mc ∧ ms76 ≤ ms ∧ wJ11_append_2 K (fun r73 N74 => ∃ f87 f88 f89 f90 f91 f92 f93 f94 f95 f96 f97 f98 f99 f100 f101 f102 f103 f104 f105, N74 x0 = some (eO 1 [va_rf f87, va_rf f88, va_rf f89, va_rf f90, va_rf f91, va_rf f92, va_rf f93, va_rf f94, va_rf f95, .int f96, .int f97, va_rf f98, va_rf f99, .int f100, va_rf f101, va_rf f102, va_rf f103, va_rf f104, va_rf f105]) ∧ (wX0_waysOf K (fun r84 N85 => ((r84 = (0 : Int64)) → (∃ f204 f205 f206 f207, N85 x5 = some (eO 17 [va_rf f204, .int f205, .int f206, .int f207]) ∧ (∃ mc199 ms200, mc199 ≤ (mc - mc75) ∧ ms200 ≤ (ms - ms76) ∧ wJ11_append_3 K (fun r197 N198 => wX0_write_78 K (fun x0 x1 x3 x4 x5 x6 mc ms N => wX0_write_42 K post n x0 x1 x3 x4 x5 x6 mc ms N) post x0 x1 x3 x4 x5 x6 ((mc - mc75) - mc199) ((ms - ms76) - ms200) N198) mc199 ms200 N85 x5 8))) ∧ (¬ (r84 = (0 : Int64)) → (wX0_write_78 K (fun x0 x1 x3 x4 x5 x6 mc ms N => wX0_write_42 K post n x0 x1 x3 x4 x5 x6 mc ms N) post x0 x1 x3 x4 x5 x6 (mc - mc75) (ms - ms76) N85))) N74 x0 x4 x6)) mc75 ms76 N x5 x6)))
def wX0_write (K : Nat → Nat → Nat) (post : Int32 → NM → Prop) (MC MS : Nat) (N : NM) (x0 : Nat) (x1 : Int32) (x2 : Int32) (x3 : Int32) : Prop :=
  ∃ f8 f9 f10 f11 f12 f13 f14 f15 f16 f17 f18 f19 f20 f21 f22 f23 f24 f25 f26, N x0 = some (eO 1 [va_rf f8, va_rf f9, va_rf f10, va_rf f11, va_rf f12, va_rf f13, va_rf f14, va_rf f15, va_rf f16, .int f17, .int f18, va_rf f19, va_rf f20, .int f21, va_rf f22, va_rf f23, va_rf f24, va_rf f25, va_rf f26]) ∧ (∃ mc3 ms4, mc3 ≤ MC ∧ ms4 ≤ MS ∧ wX0_at K (fun r1 N2 => (r1 = none → (post (-1 : Int32) N2)) ∧ (∀ a28, r1 = some a28 → (wX0_isSpan (fun r30 => ((r30 = (0 : Int32)) → (post (-1 : Int32) N2)) ∧ (¬ (r30 = (0 : Int32)) → ((((x3 - x2) < (60 : Int32)) → (1 ≤ (MC - mc3) ∧ 4 ≤ (MS - ms4) ∧ (∀ nq35, N2 nq35 = none → (∀ N37, N37 = va_up N2 nq35 (some (eO 17 [va_rf none, .int (0 : Int32), .int (0 : Int32), .int (0 : Int32)])) → (∃ mc42 ms43, mc42 ≤ ((MC - mc3) - 1) ∧ ms43 ≤ ((MS - ms4) - 4) ∧ wJ11_init K (fun _ N41 => (∃ k, wX0_write_42 K post k x0 x1 x3 r1 nq35 x2 (((MC - mc3) - 1) - mc42) (((MS - ms4) - 4) - ms43) N41)) mc42 ms43 N37 nq35))))) ∧ (¬ ((x3 - x2) < (60 : Int32)) → (post (-1 : Int32) N2))))) x2 x3))) mc3 ms4 N x0 x1)
theorem kX0_write_141 {p : Program} {l : Launch} {e : Env} {s : State} {m : MethodId} {args : Array Value} {below : List Frame} {meth : Method} {c : Code} {G : gG} {A : Nat → Prop} {MC MS : Nat} {K42 : Nat → Int32 → Int32 → Option Nat → Nat → Int32 → Nat → Nat → NM → Prop} {post : Int32 → NM → Prop} (X : cX G A RX0 p s m args c cX0_write 8) (hr : meth.sig.returnType = (some .int)) (hlk : meth.locks = false) (hL : l.stackTraces = false) (hT : c.exceptionTable.toList = tableOf []) (hK42 : ∀ (x0 : Nat) (x1 : Int32) (x3 : Int32) (x4 : Option Nat) (x5 : Nat) (x6 : Int32) (mc ms : Nat) (N : NM) (H : Heap) (locs : List Loc) (ls : Array Slot) (cells slots : Nat), K42 x0 x1 x3 x4 x5 x6 mc ms N → (cH G A s [] N H locs ∧ cells + mc ≤ MC ∧ slots + ms ≤ MS) → lv_has ls 8 [(0, .ref x0), (1, .int x1), (3, .int x3), (4, va_rf x4), (5, .ref x5), (6, .int x6)] → W p l e ⟨11, MC, MS, 10354⟩ s m args below meth c H locs cells slots (cx_MQ below (gQ vI post (fun u H => cBw G A (jW u).1 (jW u).2 H) A) (cXC G A [] (fun _ _ _ => False)) args s MC MS A) (F0 m 42 ls [])) : ∀ (x0 : Nat) (x1 : Int32) (x3 : Int32) (x4 : Option Nat) (x5 : Nat) (x6 : Int32) (mc ms : Nat) (N : NM) (H : Heap) (locs : List Loc) (ls : Array Slot) (cells slots : Nat), wX0_write_141 (gC G) K42 post x0 x1 x3 x4 x5 x6 mc ms N → (cH G A s [] N H locs ∧ cells + mc ≤ MC ∧ slots + ms ≤ MS) → lv_has ls 8 [(0, .ref x0), (1, .int x1), (3, .int x3), (4, va_rf x4), (5, .ref x5), (6, .int x6)] → W p l e ⟨11, MC, MS, 10354⟩ s m args below meth c H locs cells slots (cx_MQ below (gQ vI post (fun u H => cBw G A (jW u).1 (jW u).2 H) A) (cXC G A [] (fun _ _ _ => False)) args s MC MS A) (F0 m 141 ls []) := by
  have hx := X.1.1
  have hb := X.1.2.1
  have hml := X.1.2.2.1
  have hown := X.1.2.2.2.1
  have hts := X.1.2.2.2.2
  intro x0 x1 x3 x4 x5 x6 mc ms N H locs ls cells slots h hw0 hl
  obtain ⟨hw, hbud⟩ := hw0
  unfold wX0_write_141 at h
  refine lv_aload (pc := 141) hx hb dX0_write_141 (lv_at hl 4 rfl) ?_
  refine lv_bipush (pc := 143) (v := (59 : Int32)) hx hb dX0_write_143 (by decide) ?_
  obtain ⟨f121, f122, f123, f124, hN120, h⟩ := h
  obtain ⟨mc116, ms117, hm118, hm119, h⟩ := h
  refine c_callJ (pc := 145) (val := vR) X hw (va_runV (C := RJ11) (As := [.int (59 : Int32)]) (rest := []) X.1 (tJ11_append X.2.2.1 (sz := H.size) h) (cwV 1 hts (lw_V q1787 q510 q511 q118 q512) rfl rfl rfl ⟨rfl, by decide, by decide, (by decide +kernel : (parseMethodDescriptor yJ11_append.desc).map (fun d => d.parameters.length) = some 1)⟩ ⟨Nat.le_of_ble_eq_true rfl, Nat.le_of_ble_eq_true rfl⟩) ⟨cPre_blind, c_recv X hw hN120 rfl, fun U hU hW => ⟨rfl, X.preJ hw hU hW⟩⟩ rfl rfl hl.1 rfl (lv_room (Nat.le_of_ble_eq_true rfl)) dX0_write_145 ⟨show cells + mc116 ≤ MC by omega, show slots + ms117 ≤ MS by omega⟩) (fun r114 N115 H locs h hw => ?_)
  refine W.eq (g2 := F0 m 148 ls (.ref r114 :: [])) rfl ?_
  refine lv_pop (pc := 148) hx hb dX0_write_148 rfl ?_
  refine lv_iinc (pc := 149) (v := x6 + (1 : Int32)) (lv' := [(6, .int (x6 + (1 : Int32))), (0, .ref x0), (1, .int x1), (3, .int x3), (4, va_rf x4), (5, .ref x5)]) hx hb dX0_write_149 hl (k := 5) rfl rfl (by decide) rfl (fun ls hl => ?_)
  refine lv_goto (pc := 152) (tgt := 42) hx hb dX0_write_152 rfl ?_
  exact hK42 _ _ _ _ _ _ _ _ _ _ _ _ _ _ h ⟨hw, by omega⟩ (lv_sub hl [1, 2, 3, 4, 5, 0] rfl)
theorem kX0_write_118 {p : Program} {l : Launch} {e : Env} {s : State} {m : MethodId} {args : Array Value} {below : List Frame} {meth : Method} {c : Code} {G : gG} {A : Nat → Prop} {MC MS : Nat} {K42 : Nat → Int32 → Int32 → Option Nat → Nat → Int32 → Nat → Nat → NM → Prop} {K81 : Nat → Int32 → Int32 → Option Nat → Nat → Int32 → Int32 → Nat → Nat → NM → Prop} {post : Int32 → NM → Prop} (X : cX G A RX0 p s m args c cX0_write 8) (hr : meth.sig.returnType = (some .int)) (hlk : meth.locks = false) (hL : l.stackTraces = false) (hT : c.exceptionTable.toList = tableOf []) (hK42 : ∀ (x0 : Nat) (x1 : Int32) (x3 : Int32) (x4 : Option Nat) (x5 : Nat) (x6 : Int32) (mc ms : Nat) (N : NM) (H : Heap) (locs : List Loc) (ls : Array Slot) (cells slots : Nat), K42 x0 x1 x3 x4 x5 x6 mc ms N → (cH G A s [] N H locs ∧ cells + mc ≤ MC ∧ slots + ms ≤ MS) → lv_has ls 8 [(0, .ref x0), (1, .int x1), (3, .int x3), (4, va_rf x4), (5, .ref x5), (6, .int x6)] → W p l e ⟨11, MC, MS, 10354⟩ s m args below meth c H locs cells slots (cx_MQ below (gQ vI post (fun u H => cBw G A (jW u).1 (jW u).2 H) A) (cXC G A [] (fun _ _ _ => False)) args s MC MS A) (F0 m 42 ls [])) (hK81 : ∀ (x0 : Nat) (x1 : Int32) (x3 : Int32) (x4 : Option Nat) (x5 : Nat) (x6 : Int32) (x7 : Int32) (mc ms : Nat) (N : NM) (H : Heap) (locs : List Loc) (ls : Array Slot) (cells slots : Nat), K81 x0 x1 x3 x4 x5 x6 x7 mc ms N → (cH G A s [] N H locs ∧ cells + mc ≤ MC ∧ slots + ms ≤ MS) → lv_has ls 8 [(0, .ref x0), (1, .int x1), (3, .int x3), (4, va_rf x4), (5, .ref x5), (6, .int x6), (7, .int x7)] → W p l e ⟨11, MC, MS, 10354⟩ s m args below meth c H locs cells slots (cx_MQ below (gQ vI post (fun u H => cBw G A (jW u).1 (jW u).2 H) A) (cXC G A [] (fun _ _ _ => False)) args s MC MS A) (F0 m 81 ls [])) : ∀ (x0 : Nat) (x1 : Int32) (x3 : Int32) (x4 : Option Nat) (x5 : Nat) (x6 : Int32) (x7 : Int32) (v0 : Int32) (v1 : Nat) (mc ms : Nat) (N : NM) (H : Heap) (locs : List Loc) (ls : Array Slot) (cells slots : Nat), wX0_write_118 (gC G) K42 K81 post x0 x1 x3 x4 x5 x6 x7 v0 v1 mc ms N → (cH G A s [] N H locs ∧ cells + mc ≤ MC ∧ slots + ms ≤ MS) → lv_has ls 8 [(0, .ref x0), (1, .int x1), (3, .int x3), (4, va_rf x4), (5, .ref x5), (6, .int x6), (7, .int x7)] → W p l e ⟨11, MC, MS, 10354⟩ s m args below meth c H locs cells slots (cx_MQ below (gQ vI post (fun u H => cBw G A (jW u).1 (jW u).2 H) A) (cXC G A [] (fun _ _ _ => False)) args s MC MS A) (F0 m 118 ls [.int v0, .ref v1]) := by
  have hx := X.1.1
  have hb := X.1.2.1
  have hml := X.1.2.2.1
  have hown := X.1.2.2.2.1
  have hts := X.1.2.2.2.2
  intro x0 x1 x3 x4 x5 x6 x7 v0 v1 mc ms N H locs ls cells slots h hw0 hl
  obtain ⟨hw, hbud⟩ := hw0
  unfold wX0_write_118 at h
  obtain ⟨f156, f157, f158, f159, hN155, h⟩ := h
  obtain ⟨mc151, ms152, hm153, hm154, h⟩ := h
  refine c_callJ (pc := 118) (val := vR) X hw (va_runV (C := RJ11) (As := [.int v0]) (rest := []) X.1 (tJ11_append X.2.2.1 (sz := H.size) h) (cwV 1 hts (lw_V q1787 q510 q511 q118 q512) rfl rfl rfl ⟨rfl, by decide, by decide, (by decide +kernel : (parseMethodDescriptor yJ11_append.desc).map (fun d => d.parameters.length) = some 1)⟩ ⟨Nat.le_of_ble_eq_true rfl, Nat.le_of_ble_eq_true rfl⟩) ⟨cPre_blind, c_recv X hw hN155 rfl, fun U hU hW => ⟨rfl, X.preJ hw hU hW⟩⟩ rfl rfl hl.1 rfl (lv_room (Nat.le_of_ble_eq_true rfl)) dX0_write_118 ⟨show cells + mc151 ≤ MC by omega, show slots + ms152 ≤ MS by omega⟩) (fun r149 N150 H locs h hw => ?_)
  refine W.eq (g2 := F0 m 121 ls (.ref r149 :: [])) rfl ?_
  refine lv_aload_n (pc := 121) hx hb dX0_write_121 rfl (lv_at hl 0 rfl) ?_
  refine lv_iload_n (pc := 122) hx hb dX0_write_122 rfl (lv_at hl 1 rfl) ?_
  refine lv_iload (pc := 123) hx hb dX0_write_123 (lv_at hl 5 rfl) ?_
  refine lv_lconst (pc := 125) (v := (0 : Int64)) hx hb dX0_write_125 (by decide) ?_
  refine lv_iload (pc := 126) hx hb dX0_write_126 (lv_at hl 6 rfl) ?_
  obtain ⟨f167, f168, f169, f170, f171, f172, f173, f174, f175, f176, f177, f178, f179, f180, f181, f182, f183, f184, f185, hN166, h⟩ := h
  obtain ⟨mc162, ms163, hm164, hm165, h⟩ := h
  refine c_callJ (pc := 128) (val := vI) X hw (va_runV (C := RX0) (As := [.int x1, .int x6, .long (0 : Int64), .int x7]) (rest := [.ref r149]) X.1 (tX0_way hL X.2.2.1 (sz := H.size) h) (cwV 4 hts (lw_V q1862 q1575 q1576 q102 q1577) rfl rfl rfl ⟨rfl, by decide, by decide, (by decide +kernel : (parseMethodDescriptor yX0_way.desc).map (fun d => d.parameters.length) = some 4)⟩ ⟨Nat.le_of_ble_eq_true rfl, Nat.le_of_ble_eq_true rfl⟩) ⟨cPre_blind, c_recv X hw hN166 rfl, fun U hU hW => ⟨rfl, X.preJ hw hU hW⟩⟩ rfl rfl hl.1 rfl (lv_room (Nat.le_of_ble_eq_true rfl)) dX0_write_128 ⟨show cells + mc151 + mc162 ≤ MC by omega, show slots + ms152 + ms163 ≤ MS by omega⟩) (fun r160 N161 H locs h hw => ?_)
  refine W.eq (g2 := F0 m 131 ls (.int r160 :: [.ref r149])) rfl ?_
  obtain ⟨f193, f194, f195, f196, hN192, h⟩ := h
  obtain ⟨mc188, ms189, hm190, hm191, h⟩ := h
  refine c_callJ (pc := 131) (val := vR) X hw (va_runV (C := RJ11) (As := [.int r160]) (rest := []) X.1 (tJ11_append_2 X.2.2.1 (sz := H.size) h) (cwV 1 hts (lw_V q1788 q1789 q1790 q118 q1791) rfl rfl rfl ⟨rfl, by decide, by decide, (by decide +kernel : (parseMethodDescriptor yJ11_append_2.desc).map (fun d => d.parameters.length) = some 1)⟩ ⟨Nat.le_of_ble_eq_true rfl, Nat.le_of_ble_eq_true rfl⟩) ⟨cPre_blind, c_recv X hw hN192 rfl, fun U hU hW => ⟨rfl, X.preJ hw hU hW⟩⟩ rfl rfl hl.1 rfl (lv_room (Nat.le_of_ble_eq_true rfl)) dX0_write_131 ⟨show cells + mc151 + mc162 + mc188 ≤ MC by omega, show slots + ms152 + ms163 + ms189 ≤ MS by omega⟩) (fun r186 N187 H locs h hw => ?_)
  refine W.eq (g2 := F0 m 134 ls (.ref r186 :: [])) rfl ?_
  refine lv_pop (pc := 134) hx hb dX0_write_134 rfl ?_
  refine lv_iinc (pc := 135) (v := x7 + (1 : Int32)) (lv' := [(7, .int (x7 + (1 : Int32))), (0, .ref x0), (1, .int x1), (3, .int x3), (4, va_rf x4), (5, .ref x5), (6, .int x6)]) hx hb dX0_write_135 hl (k := 6) rfl rfl (by decide) rfl (fun ls hl => ?_)
  refine lv_goto (pc := 138) (tgt := 81) hx hb dX0_write_138 rfl ?_
  exact hK81 _ _ _ _ _ _ _ _ _ _ _ _ _ _ _ h ⟨hw, by omega⟩ (lv_sub hl [1, 2, 3, 4, 5, 6, 0] rfl)
theorem kX0_write_81 {p : Program} {l : Launch} {e : Env} {s : State} {m : MethodId} {args : Array Value} {below : List Frame} {meth : Method} {c : Code} {G : gG} {A : Nat → Prop} {MC MS : Nat} {K42 : Nat → Int32 → Int32 → Option Nat → Nat → Int32 → Nat → Nat → NM → Prop} {post : Int32 → NM → Prop} (X : cX G A RX0 p s m args c cX0_write 8) (hr : meth.sig.returnType = (some .int)) (hlk : meth.locks = false) (hL : l.stackTraces = false) (hT : c.exceptionTable.toList = tableOf []) (hK42 : ∀ (x0 : Nat) (x1 : Int32) (x3 : Int32) (x4 : Option Nat) (x5 : Nat) (x6 : Int32) (mc ms : Nat) (N : NM) (H : Heap) (locs : List Loc) (ls : Array Slot) (cells slots : Nat), K42 x0 x1 x3 x4 x5 x6 mc ms N → (cH G A s [] N H locs ∧ cells + mc ≤ MC ∧ slots + ms ≤ MS) → lv_has ls 8 [(0, .ref x0), (1, .int x1), (3, .int x3), (4, va_rf x4), (5, .ref x5), (6, .int x6)] → W p l e ⟨11, MC, MS, 10354⟩ s m args below meth c H locs cells slots (cx_MQ below (gQ vI post (fun u H => cBw G A (jW u).1 (jW u).2 H) A) (cXC G A [] (fun _ _ _ => False)) args s MC MS A) (F0 m 42 ls [])) : ∀ (n : Nat) (x0 : Nat) (x1 : Int32) (x3 : Int32) (x4 : Option Nat) (x5 : Nat) (x6 : Int32) (x7 : Int32) (mc ms : Nat) (N : NM) (H : Heap) (locs : List Loc) (ls : Array Slot) (cells slots : Nat), wX0_write_81 (gC G) K42 post n x0 x1 x3 x4 x5 x6 x7 mc ms N → (cH G A s [] N H locs ∧ cells + mc ≤ MC ∧ slots + ms ≤ MS) → lv_has ls 8 [(0, .ref x0), (1, .int x1), (3, .int x3), (4, va_rf x4), (5, .ref x5), (6, .int x6), (7, .int x7)] → W p l e ⟨11, MC, MS, 10354⟩ s m args below meth c H locs cells slots (cx_MQ below (gQ vI post (fun u H => cBw G A (jW u).1 (jW u).2 H) A) (cXC G A [] (fun _ _ _ => False)) args s MC MS A) (F0 m 81 ls []) := by
  have hx := X.1.1
  have hb := X.1.2.1
  have hml := X.1.2.2.1
  have hown := X.1.2.2.2.1
  have hts := X.1.2.2.2.2
  intro n
  induction n with
  | zero =>
    intro x0 x1 x3 x4 x5 x6 x7 mc ms N H locs ls cells slots h
    exact False.elim h
  | succ n ih =>
    intro x0 x1 x3 x4 x5 x6 x7 mc ms N H locs ls cells slots h hw0 hl
    obtain ⟨hw, hbud⟩ := hw0
    unfold wX0_write_81 at h
    refine lv_iload (pc := 81) hx hb dX0_write_81 (lv_at hl 6 rfl) ?_
    refine lq_aload (pc := 83) hx hb dX0_write_83 (lv_at hl 3 rfl) ?_
    obtain ⟨a107, hr108, h⟩ := h
    refine W.eq (g2 := F0 m 85 ls [.ref a107, .int x7]) (by rw [hr108]; rfl) ?_
    obtain ⟨f112, hN111, h⟩ := h
    refine c_callJ (pc := 85) (val := vI) X hw (va_runV (C := RX6) (As := []) (rest := [.int x7]) X.1 (tX6_many X.2.2.1 (sz := H.size) h) (cwV 0 hts (lw_V q890 q891 q892 q129 q893) rfl rfl rfl ⟨rfl, by decide, by decide, (by decide +kernel : (parseMethodDescriptor yX6_many.desc).map (fun d => d.parameters.length) = some 0)⟩ ⟨Nat.le_of_ble_eq_true rfl, Nat.le_of_ble_eq_true rfl⟩) ⟨cPre_blind, c_recv X hw hN111 rfl, fun U hU hW => ⟨rfl, X.preJ hw hU hW⟩⟩ rfl rfl hl.1 rfl (lv_room (Nat.le_of_ble_eq_true rfl)) dX0_write_85 ⟨show cells + 0 ≤ MC by omega, show slots + 0 ≤ MS by omega⟩) (fun r109 N110 H locs h hw => ?_)
    refine W.eq (g2 := F0 m 88 ls (.int r109 :: [.int x7])) rfl ?_
    refine lv_icmp_ge (pc := 88) (tgt := 141) hx hb dX0_write_88 rfl (fun c113 => ?_) (fun c113 => ?_)
    · have h := h.1 c113
      exact kX0_write_141 X hr hlk hL hT hK42 _ _ _ _ _ _ _ _ _ _ _ _ _ _ h ⟨hw, by omega⟩ (lv_sub hl [0, 1, 2, 3, 4, 5] rfl)
    · have h := h.2 c113
      refine lv_aload_n (pc := 91) hx hb dX0_write_91 rfl (lv_at hl 0 rfl) ?_
      refine lq_aload (pc := 92) hx hb dX0_write_92 (lv_at hl 3 rfl) ?_
      refine lv_iload (pc := 94) hx hb dX0_write_94 (lv_at hl 5 rfl) ?_
      obtain ⟨f128, f129, f130, f131, f132, f133, f134, f135, f136, f137, f138, f139, f140, f141, f142, f143, f144, f145, f146, hN127, h⟩ := h
      refine c_callJ (pc := 96) (val := vL) X hw (va_runV (C := RX0) (As := [va_rf x4, .int x6]) (rest := []) X.1 (tX0_waysOf X.2.2.1 (sz := H.size) h) (cwV 2 hts (lw_V q1557 q1374 qs28 q102 q1375) rfl rfl rfl ⟨rfl, by decide, by decide, (by decide +kernel : (parseMethodDescriptor yX0_waysOf.desc).map (fun d => d.parameters.length) = some 2)⟩ ⟨Nat.le_of_ble_eq_true rfl, Nat.le_of_ble_eq_true rfl⟩) ⟨cPre_blind, c_recv X hw hN127 rfl, fun U hU hW => ⟨rfl, X.preJ hw hU hW⟩⟩ rfl rfl hl.1 rfl (lv_room (Nat.le_of_ble_eq_true rfl)) dX0_write_96 ⟨show cells + 0 + 0 ≤ MC by omega, show slots + 0 + 0 ≤ MS by omega⟩) (fun r125 N126 H locs h hw => ?_)
      refine W.eq (g2 := F0 m 99 ls (.long r125 :: [])) rfl ?_
      refine lv_lconst (pc := 99) (v := (0 : Int64)) hx hb dX0_write_99 (by decide) ?_
      refine W.lcmp (pc := 100) hx hb dX0_write_100 ?_
      refine lv_if_le (pc := 101) (tgt := 141) hx hb dX0_write_101 rfl (fun c147 => ?_) (fun c147 => ?_)
      · have h := h.1 ((lg_cmp_le _ _).mp c147)
        exact kX0_write_141 X hr hlk hL hT hK42 _ _ _ _ _ _ _ _ _ _ _ _ _ _ h ⟨hw, by omega⟩ (lv_sub hl [0, 1, 2, 3, 4, 5] rfl)
      · have h := h.2 (fun z => c147 ((lg_cmp_le _ _).mpr z))
        refine lv_aload (pc := 104) hx hb dX0_write_104 (lv_at hl 4 rfl) ?_
        refine lv_iload (pc := 106) hx hb dX0_write_106 (lv_at hl 6 rfl) ?_
        refine lv_if_ne (pc := 108) (tgt := 116) hx hb dX0_write_108 rfl (fun c148 => ?_) (fun c148 => ?_)
        · have h := h.2 c148
          refine lv_bipush (pc := 116) (v := (44 : Int32)) hx hb dX0_write_116 (by decide) ?_
          exact kX0_write_118 X hr hlk hL hT hK42 ih _ _ _ _ _ _ _ _ _ _ _ _ _ _ _ _ _ h ⟨hw, by omega⟩ (lv_sub hl [0, 1, 2, 3, 4, 5, 6] rfl)
        · have h := h.1 c148
          refine lv_bipush (pc := 111) (v := (61 : Int32)) hx hb dX0_write_111 (by decide) ?_
          refine lv_goto (pc := 113) (tgt := 118) hx hb dX0_write_113 rfl ?_
          exact kX0_write_118 X hr hlk hL hT hK42 ih _ _ _ _ _ _ _ _ _ _ _ _ _ _ _ _ _ h ⟨hw, by omega⟩ (lv_sub hl [0, 1, 2, 3, 4, 5, 6] rfl)
theorem kX0_write_78 {p : Program} {l : Launch} {e : Env} {s : State} {m : MethodId} {args : Array Value} {below : List Frame} {meth : Method} {c : Code} {G : gG} {A : Nat → Prop} {MC MS : Nat} {K42 : Nat → Int32 → Int32 → Option Nat → Nat → Int32 → Nat → Nat → NM → Prop} {post : Int32 → NM → Prop} (X : cX G A RX0 p s m args c cX0_write 8) (hr : meth.sig.returnType = (some .int)) (hlk : meth.locks = false) (hL : l.stackTraces = false) (hT : c.exceptionTable.toList = tableOf []) (hK42 : ∀ (x0 : Nat) (x1 : Int32) (x3 : Int32) (x4 : Option Nat) (x5 : Nat) (x6 : Int32) (mc ms : Nat) (N : NM) (H : Heap) (locs : List Loc) (ls : Array Slot) (cells slots : Nat), K42 x0 x1 x3 x4 x5 x6 mc ms N → (cH G A s [] N H locs ∧ cells + mc ≤ MC ∧ slots + ms ≤ MS) → lv_has ls 8 [(0, .ref x0), (1, .int x1), (3, .int x3), (4, va_rf x4), (5, .ref x5), (6, .int x6)] → W p l e ⟨11, MC, MS, 10354⟩ s m args below meth c H locs cells slots (cx_MQ below (gQ vI post (fun u H => cBw G A (jW u).1 (jW u).2 H) A) (cXC G A [] (fun _ _ _ => False)) args s MC MS A) (F0 m 42 ls [])) : ∀ (x0 : Nat) (x1 : Int32) (x3 : Int32) (x4 : Option Nat) (x5 : Nat) (x6 : Int32) (mc ms : Nat) (N : NM) (H : Heap) (locs : List Loc) (ls : Array Slot) (cells slots : Nat), wX0_write_78 (gC G) K42 post x0 x1 x3 x4 x5 x6 mc ms N → (cH G A s [] N H locs ∧ cells + mc ≤ MC ∧ slots + ms ≤ MS) → lv_has ls 8 [(0, .ref x0), (1, .int x1), (3, .int x3), (4, va_rf x4), (5, .ref x5), (6, .int x6)] → W p l e ⟨11, MC, MS, 10354⟩ s m args below meth c H locs cells slots (cx_MQ below (gQ vI post (fun u H => cBw G A (jW u).1 (jW u).2 H) A) (cXC G A [] (fun _ _ _ => False)) args s MC MS A) (F0 m 78 ls []) := by
  have hx := X.1.1
  have hb := X.1.2.1
  have hml := X.1.2.2.1
  have hown := X.1.2.2.2.1
  have hts := X.1.2.2.2.2
  intro x0 x1 x3 x4 x5 x6 mc ms N H locs ls cells slots h hw0 hl
  obtain ⟨hw, hbud⟩ := hw0
  unfold wX0_write_78 at h
  refine lv_iconst (pc := 78) (v := (0 : Int32)) hx hb dX0_write_78 (by decide) ?_
  refine lv_istore (pc := 79) (lv' := [(7, .int (0 : Int32)), (0, .ref x0), (1, .int x1), (3, .int x3), (4, va_rf x4), (5, .ref x5), (6, .int x6)]) hx hb dX0_write_79 hl (by decide) rfl (fun ls hl => ?_)
  obtain ⟨k, h⟩ := h
  exact kX0_write_81 X hr hlk hL hT hK42 k _ _ _ _ _ _ _ _ _ _ _ _ _ _ _ h ⟨hw, by omega⟩ (lv_sub hl [1, 2, 3, 4, 5, 6, 0] rfl)
theorem kX0_write_42 {p : Program} {l : Launch} {e : Env} {s : State} {m : MethodId} {args : Array Value} {below : List Frame} {meth : Method} {c : Code} {G : gG} {A : Nat → Prop} {MC MS : Nat} {post : Int32 → NM → Prop} (X : cX G A RX0 p s m args c cX0_write 8) (hr : meth.sig.returnType = (some .int)) (hlk : meth.locks = false) (hL : l.stackTraces = false) (hT : c.exceptionTable.toList = tableOf []) : ∀ (n : Nat) (x0 : Nat) (x1 : Int32) (x3 : Int32) (x4 : Option Nat) (x5 : Nat) (x6 : Int32) (mc ms : Nat) (N : NM) (H : Heap) (locs : List Loc) (ls : Array Slot) (cells slots : Nat), wX0_write_42 (gC G) post n x0 x1 x3 x4 x5 x6 mc ms N → (cH G A s [] N H locs ∧ cells + mc ≤ MC ∧ slots + ms ≤ MS) → lv_has ls 8 [(0, .ref x0), (1, .int x1), (3, .int x3), (4, va_rf x4), (5, .ref x5), (6, .int x6)] → W p l e ⟨11, MC, MS, 10354⟩ s m args below meth c H locs cells slots (cx_MQ below (gQ vI post (fun u H => cBw G A (jW u).1 (jW u).2 H) A) (cXC G A [] (fun _ _ _ => False)) args s MC MS A) (F0 m 42 ls []) := by
  have hx := X.1.1
  have hb := X.1.2.1
  have hml := X.1.2.2.1
  have hown := X.1.2.2.2.1
  have hts := X.1.2.2.2.2
  intro n
  induction n with
  | zero =>
    intro x0 x1 x3 x4 x5 x6 mc ms N H locs ls cells slots h
    exact False.elim h
  | succ n ih =>
    intro x0 x1 x3 x4 x5 x6 mc ms N H locs ls cells slots h hw0 hl
    obtain ⟨hw, hbud⟩ := hw0
    unfold wX0_write_42 at h
    refine lv_iload (pc := 42) hx hb dX0_write_42 (lv_at hl 5 rfl) ?_
    refine lv_iload_n (pc := 44) hx hb dX0_write_44 rfl (lv_at hl 2 rfl) ?_
    refine lv_icmp_gt (pc := 45) (tgt := 155) hx hb dX0_write_45 rfl (fun c46 => ?_) (fun c46 => ?_)
    · have h := h.1 c46
      refine lv_aload_n (pc := 155) hx hb dX0_write_155 rfl (lv_at hl 0 rfl) ?_
      refine lv_aload (pc := 156) hx hb dX0_write_156 (lv_at hl 4 rfl) ?_
      obtain ⟨f54, f55, f56, f57, f58, f59, f60, f61, f62, f63, f64, f65, f66, f67, f68, f69, f70, f71, f72, hN53, h⟩ := h
      obtain ⟨mc49, ms50, hm51, hm52, h⟩ := h
      refine c_callJ (pc := 158) (val := vI) X hw (va_runV (C := RX0) (As := [va_rf (some x5)]) (rest := []) X.1 (tX0_shows X.2.2.1 (sz := H.size) h) (cwV 1 hts (lw_V q1851 q1853 qs42 q102 q1854) rfl rfl rfl ⟨rfl, by decide, by decide, (by decide +kernel : (parseMethodDescriptor yX0_shows.desc).map (fun d => d.parameters.length) = some 1)⟩ ⟨Nat.le_of_ble_eq_true rfl, Nat.le_of_ble_eq_true rfl⟩) ⟨cPre_blind, c_recv X hw hN53 rfl, fun U hU hW => ⟨rfl, X.preJ hw hU hW⟩⟩ rfl rfl hl.1 rfl (lv_room (Nat.le_of_ble_eq_true rfl)) dX0_write_158 ⟨show cells + mc49 ≤ MC by omega, show slots + ms50 ≤ MS by omega⟩) (fun r47 N48 H locs h hw => ?_)
      refine W.eq (g2 := F0 m 161 ls (.int r47 :: [])) rfl ?_
      refine W.widen (k := MC) (n := MS) (by omega) (by omega) ?_
      refine cx_ret ?_
      exact W.iret (pc := 161) hx hb hr (fun t ht hW => c_ret (val := vI) (lw := jW) (u := N48) hw h ht) hw.2.2.2 dX0_write_161 hlk
    · have h := h.2 c46
      refine lv_aload (pc := 48) hx hb dX0_write_48 (lv_at hl 4 rfl) ?_
      refine lv_iload (pc := 50) hx hb dX0_write_50 (lv_at hl 5 rfl) ?_
      obtain ⟨f80, f81, f82, f83, hN79, h⟩ := h
      obtain ⟨mc75, ms76, hm77, hm78, h⟩ := h
      refine c_callJ (pc := 52) (val := vR) X hw (va_runV (C := RJ11) (As := [.int x6]) (rest := []) X.1 (tJ11_append_2 X.2.2.1 (sz := H.size) h) (cwV 1 hts (lw_V q1788 q1789 q1790 q118 q1791) rfl rfl rfl ⟨rfl, by decide, by decide, (by decide +kernel : (parseMethodDescriptor yJ11_append_2.desc).map (fun d => d.parameters.length) = some 1)⟩ ⟨Nat.le_of_ble_eq_true rfl, Nat.le_of_ble_eq_true rfl⟩) ⟨cPre_blind, c_recv X hw hN79 rfl, fun U hU hW => ⟨rfl, X.preJ hw hU hW⟩⟩ rfl rfl hl.1 rfl (lv_room (Nat.le_of_ble_eq_true rfl)) dX0_write_52 ⟨show cells + mc75 ≤ MC by omega, show slots + ms76 ≤ MS by omega⟩) (fun r73 N74 H locs h hw => ?_)
      refine W.eq (g2 := F0 m 55 ls (.ref r73 :: [])) rfl ?_
      refine lv_pop (pc := 55) hx hb dX0_write_55 rfl ?_
      refine lv_aload_n (pc := 56) hx hb dX0_write_56 rfl (lv_at hl 0 rfl) ?_
      refine lq_aload (pc := 57) hx hb dX0_write_57 (lv_at hl 3 rfl) ?_
      refine lv_iload (pc := 59) hx hb dX0_write_59 (lv_at hl 5 rfl) ?_
      obtain ⟨f87, f88, f89, f90, f91, f92, f93, f94, f95, f96, f97, f98, f99, f100, f101, f102, f103, f104, f105, hN86, h⟩ := h
      refine c_callJ (pc := 61) (val := vL) X hw (va_runV (C := RX0) (As := [va_rf x4, .int x6]) (rest := []) X.1 (tX0_waysOf X.2.2.1 (sz := H.size) h) (cwV 2 hts (lw_V q1557 q1374 qs28 q102 q1375) rfl rfl rfl ⟨rfl, by decide, by decide, (by decide +kernel : (parseMethodDescriptor yX0_waysOf.desc).map (fun d => d.parameters.length) = some 2)⟩ ⟨Nat.le_of_ble_eq_true rfl, Nat.le_of_ble_eq_true rfl⟩) ⟨cPre_blind, c_recv X hw hN86 rfl, fun U hU hW => ⟨rfl, X.preJ hw hU hW⟩⟩ rfl rfl hl.1 rfl (lv_room (Nat.le_of_ble_eq_true rfl)) dX0_write_61 ⟨show cells + mc75 + 0 ≤ MC by omega, show slots + ms76 + 0 ≤ MS by omega⟩) (fun r84 N85 H locs h hw => ?_)
      refine W.eq (g2 := F0 m 64 ls (.long r84 :: [])) rfl ?_
      refine lv_lconst (pc := 64) (v := (0 : Int64)) hx hb dX0_write_64 (by decide) ?_
      refine W.lcmp (pc := 65) hx hb dX0_write_65 ?_
      refine lv_if_ne (pc := 66) (tgt := 78) hx hb dX0_write_66 rfl (fun c106 => ?_) (fun c106 => ?_)
      · have h := h.2 (fun z => c106 ((lg_cmp_eq _ _).mpr z))
        exact kX0_write_78 X hr hlk hL hT ih _ _ _ _ _ _ _ _ _ _ _ _ _ _ h ⟨hw, by omega⟩ (lv_sub hl [0, 1, 2, 3, 4, 5] rfl)
      · have h := h.1 ((lg_cmp_eq _ _).mp c106)
        refine lv_aload (pc := 69) hx hb dX0_write_69 (lv_at hl 4 rfl) ?_
        refine va_ldcSw (pc := 71) hx hb hown (X.str (r := ("ToldPowers", 375, " not", 8)) (List.mem_of_getElem? (i := 8) rfl)) dX0_write_71 ?_
        obtain ⟨f204, f205, f206, f207, hN203, h⟩ := h
        obtain ⟨mc199, ms200, hm201, hm202, h⟩ := h
        refine c_callJ (pc := 74) (val := vR) X hw (va_runV (C := RJ11) (As := [.ref (gC G 0 8)]) (rest := []) X.1 (tJ11_append_3 X.2.2.1 (sz := H.size) h) (cwV 1 hts (lw_V q1819 q1820 q1821 q118 q1822) rfl rfl rfl ⟨rfl, by decide, by decide, (by decide +kernel : (parseMethodDescriptor yJ11_append_3.desc).map (fun d => d.parameters.length) = some 1)⟩ ⟨Nat.le_of_ble_eq_true rfl, Nat.le_of_ble_eq_true rfl⟩) ⟨cPre_blind, c_recv X hw hN203 rfl, fun U hU hW => ⟨rfl, X.preJ hw hU hW⟩⟩ rfl rfl hl.1 rfl (lv_room (Nat.le_of_ble_eq_true rfl)) dX0_write_74 ⟨show cells + mc75 + 0 + mc199 ≤ MC by omega, show slots + ms76 + 0 + ms200 ≤ MS by omega⟩) (fun r197 N198 H locs h hw => ?_)
        refine W.eq (g2 := F0 m 77 ls (.ref r197 :: [])) rfl ?_
        refine lv_pop (pc := 77) hx hb dX0_write_77 rfl ?_
        exact kX0_write_78 X hr hlk hL hT ih _ _ _ _ _ _ _ _ _ _ _ _ _ _ h ⟨hw, by omega⟩ (lv_sub hl [0, 1, 2, 3, 4, 5] rfl)
theorem txX0_write {l : Launch} (hL : l.stackTraces = false) {G : gG} (hO : gOk G) {post : Int32 → NM → Prop} {MC MS : Nat} {N : NM} {x0 : Nat} {x1 : Int32} {x2 : Int32} {x3 : Int32} {sz : Nat} (h : wX0_write (gC G) post MC MS N x0 x1 x2 x3) : cx_Met l yX0_write (ws_ yX0_write cX0_write 8 (some .int)) ⟨11, MC, MS, 10354⟩ (va_Pc [.ref x0, .int x1, .int x2, .int x3] (cPre G [] N sz)) (gQ vI post (fun u H => cBw G (cA [] N sz) (jW u).1 (jW u).2 H) (cA [] N sz)) (cXC G (cA [] N sz) [] (fun _ _ _ => False)) MC MS (cA [] N sz) := by
  refine c_ofX (B := fun A u H => cBw G A (jW u).1 (jW u).2 H) (by decide) hO (Nat.le_of_ble_eq_true rfl) (fun p e s m below meth c ls A X hr hlk hT hw hl => ?_)
  have hl : lv_has ls 8 [(0, .ref x0), (1, .int x1), (2, .int x2), (3, .int x3)] := hl
  have hx := X.1.1
  have hb := X.1.2.1
  have hml := X.1.2.2.1
  have hown := X.1.2.2.2.1
  have hts := X.1.2.2.2.2
  obtain ⟨H, eH⟩ : ∃ z, z = s.heap := ⟨_, rfl⟩
  rw [← eH] at hw ⊢
  obtain ⟨locs, eLo⟩ : ∃ z : List Loc, z = [] := ⟨_, rfl⟩
  rw [← eLo] at hw ⊢
  have hbud : 0 + MC ≤ MC ∧ 0 + MS ≤ MS := by omega
  unfold wX0_write at h
  refine lv_aload_n (pc := 0) hx hb dX0_write_0 rfl (lv_at hl 0 rfl) ?_
  refine lv_iload_n (pc := 1) hx hb dX0_write_1 rfl (lv_at hl 1 rfl) ?_
  obtain ⟨f8, f9, f10, f11, f12, f13, f14, f15, f16, f17, f18, f19, f20, f21, f22, f23, f24, f25, f26, hN7, h⟩ := h
  obtain ⟨mc3, ms4, hm5, hm6, h⟩ := h
  refine c_callJ (pc := 2) (val := vQ) X hw (vx_runVW (C := RX0) (As := [.int x1]) (rest := []) X.1 (tX0_at hL X.2.2.1 (sz := H.size) h) (vx_cwVW 1 hts (lw_VW q898 q900 qs20 q102 q901) rfl rfl rfl ⟨rfl, by decide, by decide, (by decide +kernel : (parseMethodDescriptor yX0_at.desc).map (fun d => d.parameters.length) = some 1)⟩ ⟨Nat.le_of_ble_eq_true rfl, Nat.le_of_ble_eq_true rfl⟩) ⟨cPre_blind, c_recv X hw hN7 rfl, fun U hU hW => ⟨rfl, X.preJ hw hU hW⟩⟩ rfl rfl hl.1 rfl (lv_room (Nat.le_of_ble_eq_true rfl)) dX0_write_2 ⟨show 0 + mc3 ≤ MC by omega, show 0 + ms4 ≤ MS by omega⟩) (fun r1 N2 H locs h hw => ?_)
  refine W.eq (g2 := F0 m 5 ls (va_rf r1 :: [])) rfl ?_
  refine lq_astore (pc := 5) (lv' := [(4, va_rf r1), (0, .ref x0), (1, .int x1), (2, .int x2), (3, .int x3)]) hx hb dX0_write_5 hl (by decide) rfl (fun ls hl => ?_)
  refine lq_aload (pc := 7) hx hb dX0_write_7 (lv_at hl 0 rfl) ?_
  refine lq_ifnull (pc := 9) (tgt := 28) hx hb dX0_write_9 rfl (fun hz27 => ?_) (fun a28 hr29 => ?_)
  · have h := h.1 hz27
    refine lv_iconst (pc := 28) (v := (-1 : Int32)) hx hb dX0_write_28 (by decide) ?_
    refine W.widen (k := MC) (n := MS) (by omega) (by omega) ?_
    refine cx_ret ?_
    exact W.iret (pc := 29) hx hb hr (fun t ht hW => c_ret (val := vI) (lw := jW) (u := N2) hw h ht) hw.2.2.2 dX0_write_29 hlk
  · have h := h.2 a28 hr29
    refine lv_iload_n (pc := 12) hx hb dX0_write_12 rfl (lv_at hl 3 rfl) ?_
    refine lv_iload_n (pc := 13) hx hb dX0_write_13 rfl (lv_at hl 4 rfl) ?_
    refine s_call (pc := 14) (val := vI) (As := [.int x2, .int x3]) (rest := []) X.1 (tX0_isSpan h) (lw_S q1592 q1593 q102 q1594) ⟨by decide, by decide, (by decide +kernel : (parseMethodDescriptor yX0_isSpan.desc).map (fun d => d.parameters.length) = some 2)⟩ ⟨Nat.le_of_ble_eq_true rfl, Nat.le_of_ble_eq_true rfl⟩ hl.1 (Nat.le_of_ble_eq_true rfl) ⟨show 0 + mc3 ≤ MC by omega, show 0 + ms4 ≤ MS by omega⟩ dX0_write_14 rfl (fun r30 h => ?_)
    refine W.eq (g2 := F0 m 17 ls (.int r30 :: [])) rfl ?_
    refine lv_if_eq (pc := 17) (tgt := 28) hx hb dX0_write_17 rfl (fun c31 => ?_) (fun c31 => ?_)
    · have h := h.1 c31
      refine lv_iconst (pc := 28) (v := (-1 : Int32)) hx hb dX0_write_28 (by decide) ?_
      refine W.widen (k := MC) (n := MS) (by omega) (by omega) ?_
      refine cx_ret ?_
      exact W.iret (pc := 29) hx hb hr (fun t ht hW => c_ret (val := vI) (lw := jW) (u := N2) hw h ht) hw.2.2.2 dX0_write_29 hlk
    · have h := h.2 c31
      refine lv_iload_n (pc := 20) hx hb dX0_write_20 rfl (lv_at hl 4 rfl) ?_
      refine lv_iload_n (pc := 21) hx hb dX0_write_21 rfl (lv_at hl 3 rfl) ?_
      refine lv_isub (pc := 22) hx hb dX0_write_22 ?_
      refine lv_bipush (pc := 23) (v := (60 : Int32)) hx hb dX0_write_23 (by decide) ?_
      refine lv_icmp_lt (pc := 25) (tgt := 30) hx hb dX0_write_25 rfl (fun c32 => ?_) (fun c32 => ?_)
      · have h := h.1 c32
        obtain ⟨hm33, hm34, h⟩ := h
        refine c_new (pc := 30) (ci := 17) (fs := [va_rf none, .int (0 : Int32), .int (0 : Int32), .int (0 : Int32)]) X hw in_J11 tyJ11 tyJ11_ok q1785 q470 q118 rfl nf_J11 (show 0 + mc3 + 1 ≤ MC by omega) (show 0 + ms4 + 4 ≤ MS by omega) dX0_write_30 (fun nq35 H hq36 _ hw => ?_)
        have h := h nq35 hq36
        obtain ⟨N37, e38⟩ : ∃ z, z = va_up N2 nq35 (some (eO 17 [va_rf none, .int (0 : Int32), .int (0 : Int32), .int (0 : Int32)])) := ⟨_, rfl⟩
        have hw : cH G A s [] N37 H locs := by rw [e38]; exact hw
        have h := h N37 e38
        have hN39 : N37 nq35 = some (eO 17 [va_rf none, .int (0 : Int32), .int (0 : Int32), .int (0 : Int32)]) := by rw [e38]; exact up_s
        refine lv_dup (pc := 33) hx hb dX0_write_33 rfl ?_
        obtain ⟨mc42, ms43, hm44, hm45, h⟩ := h
        refine c_callJ (pc := 34) (val := vV) X hw (va_runI (As := []) (rest := [.ref nq35]) X.1 (tJ11_init X.2.2.1 (sz := H.size) h) (cwI 0 hts (lw_meth q473) rfl rfl rfl (hts _ q118) (hts _ q1786) (hts _ q472) rfl ⟨by decide, by decide, (by decide +kernel : (parseMethodDescriptor yJ11_init.desc).map (fun d => d.parameters.length) = some 0)⟩ ⟨Nat.le_of_ble_eq_true rfl, Nat.le_of_ble_eq_true rfl⟩) ⟨cPre_blind, fun U hU hW => ⟨rfl, X.preJ hw hU hW⟩⟩ rfl rfl hl.1 rfl (lv_room (Nat.le_of_ble_eq_true rfl)) dX0_write_34 ⟨show 0 + mc3 + 1 + mc42 ≤ MC by omega, show 0 + ms4 + 4 + ms43 ≤ MS by omega⟩) (fun _ N41 H locs h hw => ?_)
        refine W.eq (g2 := F0 m 37 ls ([.ref nq35])) rfl ?_
        refine lv_astore (pc := 37) (i := 5) (lv' := [(5, .ref nq35), (4, va_rf r1), (0, .ref x0), (1, .int x1), (2, .int x2), (3, .int x3)]) hx hb dX0_write_37 hl (by decide) (by simp [rf_c]) (fun ls hl => ?_)
        refine lv_iload_n (pc := 39) hx hb dX0_write_39 rfl (lv_at hl 4 rfl) ?_
        refine lv_istore (pc := 40) (lv' := [(6, .int x2), (5, .ref nq35), (4, va_rf r1), (0, .ref x0), (1, .int x1), (2, .int x2), (3, .int x3)]) hx hb dX0_write_40 hl (by decide) rfl (fun ls hl => ?_)
        obtain ⟨k, h⟩ := h
        exact kX0_write_42 X hr hlk hL hT  k _ _ _ _ _ _ _ _ _ _ _ _ _ _ h ⟨hw, by omega⟩ (lv_sub hl [3, 4, 6, 2, 1, 0] rfl)
      · have h := h.2 c32
        refine lv_iconst (pc := 28) (v := (-1 : Int32)) hx hb dX0_write_28 (by decide) ?_
        refine W.widen (k := MC) (n := MS) (by omega) (by omega) ?_
        refine cx_ret ?_
        exact W.iret (pc := 29) hx hb hr (fun t ht hW => c_ret (val := vI) (lw := jW) (u := N2) hw h ht) hw.2.2.2 dX0_write_29 hlk
theorem tX0_write {l : Launch} (hL : l.stackTraces = false) {G : gG} (hO : gOk G) {post : Int32 → NM → Prop} {MC MS : Nat} {N : NM} {x0 : Nat} {x1 : Int32} {x2 : Int32} {x3 : Int32} {sz : Nat} (h : wX0_write (gC G) post MC MS N x0 x1 x2 x3) : Met l yX0_write (ws_ yX0_write cX0_write 8 (some .int)) ⟨11, MC, MS, 10354⟩ (va_Pc [.ref x0, .int x1, .int x2, .int x3] (cPre G [] N sz)) (gQ vI post (fun u H => cBw G (cA [] N sz) (jW u).1 (jW u).2 H) (cA [] N sz)) MC MS (cA [] N sz) := cx_toMet (txX0_write hL hO h)

def wX0_gap_101 (K : Nat → Nat → Nat) (K49 : Nat → Int32 → Int32 → Option Nat → Int32 → Int32 → Int32 → Int32 → Nat → Nat → NM → Prop) (post : Int32 → NM → Prop) (x0 : Nat) (x3 : Int32) (x4 : Int32) (x5 : Option Nat) (x6 : Int32) (x7 : Int32) (x8 : Int32) (x9 : Int32) (mc ms : Nat) (N : NM) : Prop :=
  K49 x0 x3 x4 x5 x6 x7 x8 (x9 + (1 : Int32)) mc ms N
def wX0_gap_76 (K : Nat → Nat → Nat) (K49 : Nat → Int32 → Int32 → Option Nat → Int32 → Int32 → Int32 → Int32 → Nat → Nat → NM → Prop) (post : Int32 → NM → Prop) (x0 : Nat) (x3 : Int32) (x4 : Int32) (x5 : Option Nat) (x6 : Int32) (x7 : Int32) (x9 : Int32) (v0 : Int32) (mc ms : Nat) (N : NM) : Prop :=
  ((x6 < v0) → (wX0_gap_101 K K49 post x0 x3 x4 x5 v0 ((x9 - v0) + (1 : Int32)) v0 x9 mc ms N)) ∧ (¬ (x6 < v0) → (wX0_gap_101 K K49 post x0 x3 x4 x5 x6 x7 v0 x9 mc ms N))
def wX0_gap_49 (K : Nat → Nat → Nat) (post : Int32 → NM → Prop) : Nat → Nat → Int32 → Int32 → Option Nat → Int32 → Int32 → Int32 → Int32 → Nat → Nat → NM → Prop
  | 0, _, _, _, _, _, _, _, _, _, _, _ => False
  | n + 1, x0, x3, x4, x5, x6, x7, x8, x9, mc, ms, N => ((x3 < x9) → (((x4 = (0 : Int32)) → (post x6 N)) ∧ (¬ (x4 = (0 : Int32)) → (post x7 N)))) ∧ (¬ (x3 < x9) → (∃ f39 f40 f41 f42 f43 f44 f45 f46 f47 f48 f49 f50 f51 f52 f53 f54 f55 f56 f57, N x0 = some (eO 1 [va_rf f39, va_rf f40, va_rf f41, va_rf f42, va_rf f43, va_rf f44, va_rf f45, va_rf f46, va_rf f47, .int f48, .int f49, va_rf f50, va_rf f51, .int f52, va_rf f53, va_rf f54, va_rf f55, va_rf f56, va_rf f57]) ∧ (wX0_waysOf K (fun r36 N37 => ((r36 = (0 : Int64)) → (wX0_gap_76 K (fun x0 x3 x4 x5 x6 x7 x8 x9 mc ms N => wX0_gap_49 K post n x0 x3 x4 x5 x6 x7 x8 x9 mc ms N) post x0 x3 x4 x5 x6 x7 x9 (x8 + (1 : Int32)) mc ms N37)) ∧ (¬ (r36 = (0 : Int64)) → (wX0_gap_76 K (fun x0 x3 x4 x5 x6 x7 x8 x9 mc ms N => wX0_gap_49 K post n x0 x3 x4 x5 x6 x7 x8 x9 mc ms N) post x0 x3 x4 x5 x6 x7 x9 (0 : Int32) mc ms N37))) N x0 x5 x9)))
def wX0_gap (K : Nat → Nat → Nat) (post : Int32 → NM → Prop) (MC MS : Nat) (N : NM) (x0 : Nat) (x1 : Int32) (x2 : Int32) (x3 : Int32) (x4 : Int32) : Prop :=
  ∃ f8 f9 f10 f11 f12 f13 f14 f15 f16 f17 f18 f19 f20 f21 f22 f23 f24 f25 f26, N x0 = some (eO 1 [va_rf f8, va_rf f9, va_rf f10, va_rf f11, va_rf f12, va_rf f13, va_rf f14, va_rf f15, va_rf f16, .int f17, .int f18, va_rf f19, va_rf f20, .int f21, va_rf f22, va_rf f23, va_rf f24, va_rf f25, va_rf f26]) ∧ (∃ mc3 ms4, mc3 ≤ MC ∧ ms4 ≤ MS ∧ wX0_at K (fun r1 N2 => (r1 = none → (post (-100000 : Int32) N2)) ∧ (∀ a28, r1 = some a28 → (wX0_isSpan (fun r30 => ((r30 = (0 : Int32)) → (post (-100000 : Int32) N2)) ∧ (¬ (r30 = (0 : Int32)) → (wX0_isIn (fun r32 => ((r32 = (0 : Int32)) → (post (-100000 : Int32) N2)) ∧ (¬ (r32 = (0 : Int32)) → ((∃ k, wX0_gap_49 K post k x0 x3 x4 r1 (0 : Int32) (-100000 : Int32) (0 : Int32) x2 (MC - mc3) (MS - ms4) N2)))) x4.toInt64 (0 : Int64) (1 : Int64)))) x2 x3))) mc3 ms4 N x0 x1)
theorem kX0_gap_101 {p : Program} {l : Launch} {e : Env} {s : State} {m : MethodId} {args : Array Value} {below : List Frame} {meth : Method} {c : Code} {G : gG} {A : Nat → Prop} {MC MS : Nat} {K49 : Nat → Int32 → Int32 → Option Nat → Int32 → Int32 → Int32 → Int32 → Nat → Nat → NM → Prop} {post : Int32 → NM → Prop} (X : cX G A RX0 p s m args c cX0_gap 10) (hr : meth.sig.returnType = (some .int)) (hlk : meth.locks = false) (hL : l.stackTraces = false) (hT : c.exceptionTable.toList = tableOf []) (hK49 : ∀ (x0 : Nat) (x3 : Int32) (x4 : Int32) (x5 : Option Nat) (x6 : Int32) (x7 : Int32) (x8 : Int32) (x9 : Int32) (mc ms : Nat) (N : NM) (H : Heap) (locs : List Loc) (ls : Array Slot) (cells slots : Nat), K49 x0 x3 x4 x5 x6 x7 x8 x9 mc ms N → (cH G A s [] N H locs ∧ cells + mc ≤ MC ∧ slots + ms ≤ MS) → lv_has ls 10 [(0, .ref x0), (3, .int x3), (4, .int x4), (5, va_rf x5), (6, .int x6), (7, .int x7), (8, .int x8), (9, .int x9)] → W p l e ⟨10, MC, MS, 10322⟩ s m args below meth c H locs cells slots (cx_MQ below (gQ vI post (fun u H => cBw G A (jW u).1 (jW u).2 H) A) (cXC G A [] (fun _ _ _ => False)) args s MC MS A) (F0 m 49 ls [])) : ∀ (x0 : Nat) (x3 : Int32) (x4 : Int32) (x5 : Option Nat) (x6 : Int32) (x7 : Int32) (x8 : Int32) (x9 : Int32) (mc ms : Nat) (N : NM) (H : Heap) (locs : List Loc) (ls : Array Slot) (cells slots : Nat), wX0_gap_101 (gC G) K49 post x0 x3 x4 x5 x6 x7 x8 x9 mc ms N → (cH G A s [] N H locs ∧ cells + mc ≤ MC ∧ slots + ms ≤ MS) → lv_has ls 10 [(0, .ref x0), (3, .int x3), (4, .int x4), (5, va_rf x5), (6, .int x6), (7, .int x7), (8, .int x8), (9, .int x9)] → W p l e ⟨10, MC, MS, 10322⟩ s m args below meth c H locs cells slots (cx_MQ below (gQ vI post (fun u H => cBw G A (jW u).1 (jW u).2 H) A) (cXC G A [] (fun _ _ _ => False)) args s MC MS A) (F0 m 101 ls []) := by
  have hx := X.1.1
  have hb := X.1.2.1
  have hml := X.1.2.2.1
  have hown := X.1.2.2.2.1
  have hts := X.1.2.2.2.2
  intro x0 x3 x4 x5 x6 x7 x8 x9 mc ms N H locs ls cells slots h hw0 hl
  obtain ⟨hw, hbud⟩ := hw0
  unfold wX0_gap_101 at h
  refine lv_iinc (pc := 101) (v := x9 + (1 : Int32)) (lv' := [(9, .int (x9 + (1 : Int32))), (0, .ref x0), (3, .int x3), (4, .int x4), (5, va_rf x5), (6, .int x6), (7, .int x7), (8, .int x8)]) hx hb dX0_gap_101 hl (k := 7) rfl rfl (by decide) rfl (fun ls hl => ?_)
  refine lv_goto (pc := 104) (tgt := 49) hx hb dX0_gap_104 rfl ?_
  exact hK49 _ _ _ _ _ _ _ _ _ _ _ _ _ _ _ _ h ⟨hw, by omega⟩ (lv_sub hl [1, 2, 3, 4, 5, 6, 7, 0] rfl)
theorem kX0_gap_76 {p : Program} {l : Launch} {e : Env} {s : State} {m : MethodId} {args : Array Value} {below : List Frame} {meth : Method} {c : Code} {G : gG} {A : Nat → Prop} {MC MS : Nat} {K49 : Nat → Int32 → Int32 → Option Nat → Int32 → Int32 → Int32 → Int32 → Nat → Nat → NM → Prop} {post : Int32 → NM → Prop} (X : cX G A RX0 p s m args c cX0_gap 10) (hr : meth.sig.returnType = (some .int)) (hlk : meth.locks = false) (hL : l.stackTraces = false) (hT : c.exceptionTable.toList = tableOf []) (hK49 : ∀ (x0 : Nat) (x3 : Int32) (x4 : Int32) (x5 : Option Nat) (x6 : Int32) (x7 : Int32) (x8 : Int32) (x9 : Int32) (mc ms : Nat) (N : NM) (H : Heap) (locs : List Loc) (ls : Array Slot) (cells slots : Nat), K49 x0 x3 x4 x5 x6 x7 x8 x9 mc ms N → (cH G A s [] N H locs ∧ cells + mc ≤ MC ∧ slots + ms ≤ MS) → lv_has ls 10 [(0, .ref x0), (3, .int x3), (4, .int x4), (5, va_rf x5), (6, .int x6), (7, .int x7), (8, .int x8), (9, .int x9)] → W p l e ⟨10, MC, MS, 10322⟩ s m args below meth c H locs cells slots (cx_MQ below (gQ vI post (fun u H => cBw G A (jW u).1 (jW u).2 H) A) (cXC G A [] (fun _ _ _ => False)) args s MC MS A) (F0 m 49 ls [])) : ∀ (x0 : Nat) (x3 : Int32) (x4 : Int32) (x5 : Option Nat) (x6 : Int32) (x7 : Int32) (x9 : Int32) (v0 : Int32) (mc ms : Nat) (N : NM) (H : Heap) (locs : List Loc) (ls : Array Slot) (cells slots : Nat), wX0_gap_76 (gC G) K49 post x0 x3 x4 x5 x6 x7 x9 v0 mc ms N → (cH G A s [] N H locs ∧ cells + mc ≤ MC ∧ slots + ms ≤ MS) → lv_has ls 10 [(0, .ref x0), (3, .int x3), (4, .int x4), (5, va_rf x5), (6, .int x6), (7, .int x7), (9, .int x9)] → W p l e ⟨10, MC, MS, 10322⟩ s m args below meth c H locs cells slots (cx_MQ below (gQ vI post (fun u H => cBw G A (jW u).1 (jW u).2 H) A) (cXC G A [] (fun _ _ _ => False)) args s MC MS A) (F0 m 76 ls [.int v0]) := by
  have hx := X.1.1
  have hb := X.1.2.1
  have hml := X.1.2.2.1
  have hown := X.1.2.2.2.1
  have hts := X.1.2.2.2.2
  intro x0 x3 x4 x5 x6 x7 x9 v0 mc ms N H locs ls cells slots h hw0 hl
  obtain ⟨hw, hbud⟩ := hw0
  unfold wX0_gap_76 at h
  refine lv_istore (pc := 76) (lv' := [(8, .int v0), (0, .ref x0), (3, .int x3), (4, .int x4), (5, va_rf x5), (6, .int x6), (7, .int x7), (9, .int x9)]) hx hb dX0_gap_76 hl (by decide) rfl (fun ls hl => ?_)
  refine lv_iload (pc := 78) hx hb dX0_gap_78 (lv_at hl 0 rfl) ?_
  refine lv_iload (pc := 80) hx hb dX0_gap_80 (lv_at hl 5 rfl) ?_
  refine lv_icmp_gt (pc := 82) (tgt := 88) hx hb dX0_gap_82 rfl (fun c59 => ?_) (fun c59 => ?_)
  · have h := h.1 c59
    refine lv_iload (pc := 88) hx hb dX0_gap_88 (lv_at hl 0 rfl) ?_
    refine lv_istore (pc := 90) (i := 6) (lv' := [(6, .int v0), (8, .int v0), (0, .ref x0), (3, .int x3), (4, .int x4), (5, va_rf x5), (7, .int x7), (9, .int x9)]) hx hb dX0_gap_90 hl (by decide) (by simp [rf_c]) (fun ls hl => ?_)
    refine lv_iload (pc := 92) hx hb dX0_gap_92 (lv_at hl 7 rfl) ?_
    refine lv_iload (pc := 94) hx hb dX0_gap_94 (lv_at hl 1 rfl) ?_
    refine lv_isub (pc := 96) hx hb dX0_gap_96 ?_
    refine lv_iconst (pc := 97) (v := (1 : Int32)) hx hb dX0_gap_97 (by decide) ?_
    refine lv_iadd (pc := 98) hx hb dX0_gap_98 ?_
    refine lv_istore (pc := 99) (lv' := [(7, .int ((x9 - v0) + (1 : Int32))), (6, .int v0), (8, .int v0), (0, .ref x0), (3, .int x3), (4, .int x4), (5, va_rf x5), (9, .int x9)]) hx hb dX0_gap_99 hl (by decide) rfl (fun ls hl => ?_)
    exact kX0_gap_101 X hr hlk hL hT hK49 _ _ _ _ _ _ _ _ _ _ _ _ _ _ _ _ h ⟨hw, by omega⟩ (lv_sub hl [3, 4, 5, 6, 1, 0, 2, 7] rfl)
  · have h := h.2 c59
    refine lv_goto (pc := 85) (tgt := 101) hx hb dX0_gap_85 rfl ?_
    exact kX0_gap_101 X hr hlk hL hT hK49 _ _ _ _ _ _ _ _ _ _ _ _ _ _ _ _ h ⟨hw, by omega⟩ (lv_sub hl [1, 2, 3, 4, 5, 6, 0, 7] rfl)
theorem kX0_gap_49 {p : Program} {l : Launch} {e : Env} {s : State} {m : MethodId} {args : Array Value} {below : List Frame} {meth : Method} {c : Code} {G : gG} {A : Nat → Prop} {MC MS : Nat} {post : Int32 → NM → Prop} (X : cX G A RX0 p s m args c cX0_gap 10) (hr : meth.sig.returnType = (some .int)) (hlk : meth.locks = false) (hL : l.stackTraces = false) (hT : c.exceptionTable.toList = tableOf []) : ∀ (n : Nat) (x0 : Nat) (x3 : Int32) (x4 : Int32) (x5 : Option Nat) (x6 : Int32) (x7 : Int32) (x8 : Int32) (x9 : Int32) (mc ms : Nat) (N : NM) (H : Heap) (locs : List Loc) (ls : Array Slot) (cells slots : Nat), wX0_gap_49 (gC G) post n x0 x3 x4 x5 x6 x7 x8 x9 mc ms N → (cH G A s [] N H locs ∧ cells + mc ≤ MC ∧ slots + ms ≤ MS) → lv_has ls 10 [(0, .ref x0), (3, .int x3), (4, .int x4), (5, va_rf x5), (6, .int x6), (7, .int x7), (8, .int x8), (9, .int x9)] → W p l e ⟨10, MC, MS, 10322⟩ s m args below meth c H locs cells slots (cx_MQ below (gQ vI post (fun u H => cBw G A (jW u).1 (jW u).2 H) A) (cXC G A [] (fun _ _ _ => False)) args s MC MS A) (F0 m 49 ls []) := by
  have hx := X.1.1
  have hb := X.1.2.1
  have hml := X.1.2.2.1
  have hown := X.1.2.2.2.1
  have hts := X.1.2.2.2.2
  intro n
  induction n with
  | zero =>
    intro x0 x3 x4 x5 x6 x7 x8 x9 mc ms N H locs ls cells slots h
    exact False.elim h
  | succ n ih =>
    intro x0 x3 x4 x5 x6 x7 x8 x9 mc ms N H locs ls cells slots h hw0 hl
    obtain ⟨hw, hbud⟩ := hw0
    unfold wX0_gap_49 at h
    refine lv_iload (pc := 49) hx hb dX0_gap_49 (lv_at hl 7 rfl) ?_
    refine lv_iload_n (pc := 51) hx hb dX0_gap_51 rfl (lv_at hl 1 rfl) ?_
    refine lv_icmp_gt (pc := 52) (tgt := 107) hx hb dX0_gap_52 rfl (fun c34 => ?_) (fun c34 => ?_)
    · have h := h.1 c34
      refine lv_iload (pc := 107) hx hb dX0_gap_107 (lv_at hl 2 rfl) ?_
      refine lv_if_ne (pc := 109) (tgt := 117) hx hb dX0_gap_109 rfl (fun c35 => ?_) (fun c35 => ?_)
      · have h := h.2 c35
        refine lv_iload (pc := 117) hx hb dX0_gap_117 (lv_at hl 5 rfl) ?_
        refine W.widen (k := MC) (n := MS) (by omega) (by omega) ?_
        refine cx_ret ?_
        exact W.iret (pc := 119) hx hb hr (fun t ht hW => c_ret (val := vI) (lw := jW) (u := N) hw h ht) hw.2.2.2 dX0_gap_119 hlk
      · have h := h.1 c35
        refine lv_iload (pc := 112) hx hb dX0_gap_112 (lv_at hl 4 rfl) ?_
        refine lv_goto (pc := 114) (tgt := 119) hx hb dX0_gap_114 rfl ?_
        refine W.widen (k := MC) (n := MS) (by omega) (by omega) ?_
        refine cx_ret ?_
        exact W.iret (pc := 119) hx hb hr (fun t ht hW => c_ret (val := vI) (lw := jW) (u := N) hw h ht) hw.2.2.2 dX0_gap_119 hlk
    · have h := h.2 c34
      refine lv_aload_n (pc := 55) hx hb dX0_gap_55 rfl (lv_at hl 0 rfl) ?_
      refine lq_aload (pc := 56) hx hb dX0_gap_56 (lv_at hl 3 rfl) ?_
      refine lv_iload (pc := 58) hx hb dX0_gap_58 (lv_at hl 7 rfl) ?_
      obtain ⟨f39, f40, f41, f42, f43, f44, f45, f46, f47, f48, f49, f50, f51, f52, f53, f54, f55, f56, f57, hN38, h⟩ := h
      refine c_callJ (pc := 60) (val := vL) X hw (va_runV (C := RX0) (As := [va_rf x5, .int x9]) (rest := []) X.1 (tX0_waysOf X.2.2.1 (sz := H.size) h) (cwV 2 hts (lw_V q1557 q1374 qs28 q102 q1375) rfl rfl rfl ⟨rfl, by decide, by decide, (by decide +kernel : (parseMethodDescriptor yX0_waysOf.desc).map (fun d => d.parameters.length) = some 2)⟩ ⟨Nat.le_of_ble_eq_true rfl, Nat.le_of_ble_eq_true rfl⟩) ⟨cPre_blind, c_recv X hw hN38 rfl, fun U hU hW => ⟨rfl, X.preJ hw hU hW⟩⟩ rfl rfl hl.1 rfl (lv_room (Nat.le_of_ble_eq_true rfl)) dX0_gap_60 ⟨show cells + 0 ≤ MC by omega, show slots + 0 ≤ MS by omega⟩) (fun r36 N37 H locs h hw => ?_)
      refine W.eq (g2 := F0 m 63 ls (.long r36 :: [])) rfl ?_
      refine lv_lconst (pc := 63) (v := (0 : Int64)) hx hb dX0_gap_63 (by decide) ?_
      refine W.lcmp (pc := 64) hx hb dX0_gap_64 ?_
      refine lv_if_ne (pc := 65) (tgt := 75) hx hb dX0_gap_65 rfl (fun c58 => ?_) (fun c58 => ?_)
      · have h := h.2 (fun z => c58 ((lg_cmp_eq _ _).mpr z))
        refine lv_iconst (pc := 75) (v := (0 : Int32)) hx hb dX0_gap_75 (by decide) ?_
        exact kX0_gap_76 X hr hlk hL hT ih _ _ _ _ _ _ _ _ _ _ _ _ _ _ _ _ h ⟨hw, by omega⟩ (lv_sub hl [0, 1, 2, 3, 4, 5, 7] rfl)
      · have h := h.1 ((lg_cmp_eq _ _).mp c58)
        refine lv_iload (pc := 68) hx hb dX0_gap_68 (lv_at hl 6 rfl) ?_
        refine lv_iconst (pc := 70) (v := (1 : Int32)) hx hb dX0_gap_70 (by decide) ?_
        refine lv_iadd (pc := 71) hx hb dX0_gap_71 ?_
        refine lv_goto (pc := 72) (tgt := 76) hx hb dX0_gap_72 rfl ?_
        exact kX0_gap_76 X hr hlk hL hT ih _ _ _ _ _ _ _ _ _ _ _ _ _ _ _ _ h ⟨hw, by omega⟩ (lv_sub hl [0, 1, 2, 3, 4, 5, 7] rfl)
theorem txX0_gap {l : Launch} (hL : l.stackTraces = false) {G : gG} (hO : gOk G) {post : Int32 → NM → Prop} {MC MS : Nat} {N : NM} {x0 : Nat} {x1 : Int32} {x2 : Int32} {x3 : Int32} {x4 : Int32} {sz : Nat} (h : wX0_gap (gC G) post MC MS N x0 x1 x2 x3 x4) : cx_Met l yX0_gap (ws_ yX0_gap cX0_gap 10 (some .int)) ⟨10, MC, MS, 10322⟩ (va_Pc [.ref x0, .int x1, .int x2, .int x3, .int x4] (cPre G [] N sz)) (gQ vI post (fun u H => cBw G (cA [] N sz) (jW u).1 (jW u).2 H) (cA [] N sz)) (cXC G (cA [] N sz) [] (fun _ _ _ => False)) MC MS (cA [] N sz) := by
  refine c_ofX (B := fun A u H => cBw G A (jW u).1 (jW u).2 H) (by decide) hO (Nat.le_of_ble_eq_true rfl) (fun p e s m below meth c ls A X hr hlk hT hw hl => ?_)
  have hl : lv_has ls 10 [(0, .ref x0), (1, .int x1), (2, .int x2), (3, .int x3), (4, .int x4)] := hl
  have hx := X.1.1
  have hb := X.1.2.1
  have hml := X.1.2.2.1
  have hown := X.1.2.2.2.1
  have hts := X.1.2.2.2.2
  obtain ⟨H, eH⟩ : ∃ z, z = s.heap := ⟨_, rfl⟩
  rw [← eH] at hw ⊢
  obtain ⟨locs, eLo⟩ : ∃ z : List Loc, z = [] := ⟨_, rfl⟩
  rw [← eLo] at hw ⊢
  have hbud : 0 + MC ≤ MC ∧ 0 + MS ≤ MS := by omega
  unfold wX0_gap at h
  refine lv_aload_n (pc := 0) hx hb dX0_gap_0 rfl (lv_at hl 0 rfl) ?_
  refine lv_iload_n (pc := 1) hx hb dX0_gap_1 rfl (lv_at hl 1 rfl) ?_
  obtain ⟨f8, f9, f10, f11, f12, f13, f14, f15, f16, f17, f18, f19, f20, f21, f22, f23, f24, f25, f26, hN7, h⟩ := h
  obtain ⟨mc3, ms4, hm5, hm6, h⟩ := h
  refine c_callJ (pc := 2) (val := vQ) X hw (vx_runVW (C := RX0) (As := [.int x1]) (rest := []) X.1 (tX0_at hL X.2.2.1 (sz := H.size) h) (vx_cwVW 1 hts (lw_VW q898 q900 qs20 q102 q901) rfl rfl rfl ⟨rfl, by decide, by decide, (by decide +kernel : (parseMethodDescriptor yX0_at.desc).map (fun d => d.parameters.length) = some 1)⟩ ⟨Nat.le_of_ble_eq_true rfl, Nat.le_of_ble_eq_true rfl⟩) ⟨cPre_blind, c_recv X hw hN7 rfl, fun U hU hW => ⟨rfl, X.preJ hw hU hW⟩⟩ rfl rfl hl.1 rfl (lv_room (Nat.le_of_ble_eq_true rfl)) dX0_gap_2 ⟨show 0 + mc3 ≤ MC by omega, show 0 + ms4 ≤ MS by omega⟩) (fun r1 N2 H locs h hw => ?_)
  refine W.eq (g2 := F0 m 5 ls (va_rf r1 :: [])) rfl ?_
  refine lq_astore (pc := 5) (lv' := [(5, va_rf r1), (0, .ref x0), (1, .int x1), (2, .int x2), (3, .int x3), (4, .int x4)]) hx hb dX0_gap_5 hl (by decide) rfl (fun ls hl => ?_)
  refine lq_aload (pc := 7) hx hb dX0_gap_7 (lv_at hl 0 rfl) ?_
  refine lq_ifnull (pc := 9) (tgt := 31) hx hb dX0_gap_9 rfl (fun hz27 => ?_) (fun a28 hr29 => ?_)
  · have h := h.1 hz27
    refine lv_ldcw (pc := 31) hx hb hown (hts _ q1540) dX0_gap_31 ?_
    refine W.widen (k := MC) (n := MS) (by omega) (by omega) ?_
    refine cx_ret ?_
    exact W.iret (pc := 34) hx hb hr (fun t ht hW => c_ret (val := vI) (lw := jW) (u := N2) hw h ht) hw.2.2.2 dX0_gap_34 hlk
  · have h := h.2 a28 hr29
    refine lv_iload_n (pc := 12) hx hb dX0_gap_12 rfl (lv_at hl 3 rfl) ?_
    refine lv_iload_n (pc := 13) hx hb dX0_gap_13 rfl (lv_at hl 4 rfl) ?_
    refine s_call (pc := 14) (val := vI) (As := [.int x2, .int x3]) (rest := []) X.1 (tX0_isSpan h) (lw_S q1592 q1593 q102 q1594) ⟨by decide, by decide, (by decide +kernel : (parseMethodDescriptor yX0_isSpan.desc).map (fun d => d.parameters.length) = some 2)⟩ ⟨Nat.le_of_ble_eq_true rfl, Nat.le_of_ble_eq_true rfl⟩ hl.1 (Nat.le_of_ble_eq_true rfl) ⟨show 0 + mc3 ≤ MC by omega, show 0 + ms4 ≤ MS by omega⟩ dX0_gap_14 rfl (fun r30 h => ?_)
    refine W.eq (g2 := F0 m 17 ls (.int r30 :: [])) rfl ?_
    refine lv_if_eq (pc := 17) (tgt := 31) hx hb dX0_gap_17 rfl (fun c31 => ?_) (fun c31 => ?_)
    · have h := h.1 c31
      refine lv_ldcw (pc := 31) hx hb hown (hts _ q1540) dX0_gap_31 ?_
      refine W.widen (k := MC) (n := MS) (by omega) (by omega) ?_
      refine cx_ret ?_
      exact W.iret (pc := 34) hx hb hr (fun t ht hW => c_ret (val := vI) (lw := jW) (u := N2) hw h ht) hw.2.2.2 dX0_gap_34 hlk
    · have h := h.2 c31
      refine lv_iload (pc := 20) hx hb dX0_gap_20 (lv_at hl 5 rfl) ?_
      refine lv_i2l (pc := 22) hx hb dX0_gap_22 rfl ?_
      refine lv_lconst (pc := 23) (v := (0 : Int64)) hx hb dX0_gap_23 (by decide) ?_
      refine lv_lconst (pc := 24) (v := (1 : Int64)) hx hb dX0_gap_24 (by decide) ?_
      refine s_call (pc := 25) (val := vI) (As := [.long x4.toInt64, .long (0 : Int64), .long (1 : Int64)]) (rest := []) X.1 (tX0_isIn h) (lw_S q380 q381 q102 q382) ⟨by decide, by decide, (by decide +kernel : (parseMethodDescriptor yX0_isIn.desc).map (fun d => d.parameters.length) = some 3)⟩ ⟨Nat.le_of_ble_eq_true rfl, Nat.le_of_ble_eq_true rfl⟩ hl.1 (Nat.le_of_ble_eq_true rfl) ⟨show 0 + mc3 ≤ MC by omega, show 0 + ms4 ≤ MS by omega⟩ dX0_gap_25 rfl (fun r32 h => ?_)
      refine W.eq (g2 := F0 m 28 ls (.int r32 :: [])) rfl ?_
      refine lv_if_ne (pc := 28) (tgt := 35) hx hb dX0_gap_28 rfl (fun c33 => ?_) (fun c33 => ?_)
      · have h := h.2 c33
        refine lv_iconst (pc := 35) (v := (0 : Int32)) hx hb dX0_gap_35 (by decide) ?_
        refine lv_istore (pc := 36) (i := 6) (lv' := [(6, .int (0 : Int32)), (5, va_rf r1), (0, .ref x0), (1, .int x1), (2, .int x2), (3, .int x3), (4, .int x4)]) hx hb dX0_gap_36 hl (by decide) (by simp [rf_c]) (fun ls hl => ?_)
        refine lv_ldcw (pc := 38) hx hb hown (hts _ q1540) dX0_gap_38 ?_
        refine lv_istore (pc := 41) (lv' := [(7, .int (-100000 : Int32)), (6, .int (0 : Int32)), (5, va_rf r1), (0, .ref x0), (1, .int x1), (2, .int x2), (3, .int x3), (4, .int x4)]) hx hb dX0_gap_41 hl (by decide) rfl (fun ls hl => ?_)
        refine lv_iconst (pc := 43) (v := (0 : Int32)) hx hb dX0_gap_43 (by decide) ?_
        refine lv_istore (pc := 44) (lv' := [(8, .int (0 : Int32)), (7, .int (-100000 : Int32)), (6, .int (0 : Int32)), (5, va_rf r1), (0, .ref x0), (1, .int x1), (2, .int x2), (3, .int x3), (4, .int x4)]) hx hb dX0_gap_44 hl (by decide) rfl (fun ls hl => ?_)
        refine lv_iload_n (pc := 46) hx hb dX0_gap_46 rfl (lv_at hl 6 rfl) ?_
        refine lv_istore (pc := 47) (lv' := [(9, .int x2), (8, .int (0 : Int32)), (7, .int (-100000 : Int32)), (6, .int (0 : Int32)), (5, va_rf r1), (0, .ref x0), (1, .int x1), (2, .int x2), (3, .int x3), (4, .int x4)]) hx hb dX0_gap_47 hl (by decide) rfl (fun ls hl => ?_)
        obtain ⟨k, h⟩ := h
        exact kX0_gap_49 X hr hlk hL hT  k _ _ _ _ _ _ _ _ _ _ _ _ _ _ _ _ h ⟨hw, by omega⟩ (lv_sub hl [5, 8, 9, 4, 3, 2, 1, 0] rfl)
      · have h := h.1 c33
        refine lv_ldcw (pc := 31) hx hb hown (hts _ q1540) dX0_gap_31 ?_
        refine W.widen (k := MC) (n := MS) (by omega) (by omega) ?_
        refine cx_ret ?_
        exact W.iret (pc := 34) hx hb hr (fun t ht hW => c_ret (val := vI) (lw := jW) (u := N2) hw h ht) hw.2.2.2 dX0_gap_34 hlk
theorem tX0_gap {l : Launch} (hL : l.stackTraces = false) {G : gG} (hO : gOk G) {post : Int32 → NM → Prop} {MC MS : Nat} {N : NM} {x0 : Nat} {x1 : Int32} {x2 : Int32} {x3 : Int32} {x4 : Int32} {sz : Nat} (h : wX0_gap (gC G) post MC MS N x0 x1 x2 x3 x4) : Met l yX0_gap (ws_ yX0_gap cX0_gap 10 (some .int)) ⟨10, MC, MS, 10322⟩ (va_Pc [.ref x0, .int x1, .int x2, .int x3, .int x4] (cPre G [] N sz)) (gQ vI post (fun u H => cBw G (cA [] N sz) (jW u).1 (jW u).2 H) (cA [] N sz)) MC MS (cA [] N sz) := cx_toMet (txX0_gap hL hO h)

def wX0_rank_97 (K : Nat → Nat → Nat) (post : Int32 → NM → Prop) : Nat → Nat → Int32 → Nat → Int32 → Nat → Nat → NM → Prop
  | 0, _, _, _, _, _, _, _ => False
  | n + 1, x0, x4, x6, x7, mc, ms, N => ((x4 ≤ x7) → (∃ f53 f54 f55 f56, N x6 = some (eO 21 [va_rf f53, .int f54, va_rf f55, .int f56]) ∧ (wJ28_peek_r K (fun r50 N51 => ∃ a57, r50 = some a57 ∧ (∃ f60 f61, N51 a57 = some (eO 15 [.int f60, .long f61]) ∧ (post f60 N51))) N x6))) ∧ (¬ (x4 ≤ x7) → (∃ f65 f66 f67 f68, N x6 = some (eO 21 [va_rf f65, .int f66, va_rf f67, .int f68]) ∧ (wJ28_poll_r K (fun r62 N63 => ∃ a69, r62 = some a69 ∧ (∃ f72 f73, N63 a69 = some (eO 15 [.int f72, .long f73]) ∧ (∃ f75 f76 f77 f78 f79 f80 f81 f82 f83 f84 f85 f86 f87 f88 f89 f90 f91 f92 f93, N63 x0 = some (eO 1 [va_rf f75, va_rf f76, va_rf f77, va_rf f78, va_rf f79, va_rf f80, va_rf f81, va_rf f82, va_rf f83, .int f84, .int f85, va_rf f86, va_rf f87, .int f88, va_rf f89, va_rf f90, va_rf f91, va_rf f92, va_rf f93]) ∧ (∀ N94, N94 = va_up N63 x0 (some (eO 1 [va_rf f75, va_rf f76, va_rf f77, va_rf f78, va_rf f79, va_rf f80, va_rf f81, va_rf f82, va_rf f83, .int f84, .int f85, va_rf f86, va_rf f87, .int f88, va_rf f89, va_rf f90, va_rf f91, va_rf f92, va_rf (some a69)])) → (wX0_rank_97 K post n x0 x4 x6 (x7 + (1 : Int32)) mc ms N94))))) N x6)))
def wX0_rank_59 (K : Nat → Nat → Nat) (post : Int32 → NM → Prop) : Nat → Nat → Int32 → Int32 → Option Nat → Nat → Int32 → Nat → Nat → NM → Prop
  | 0, _, _, _, _, _, _, _, _, _ => False
  | n + 1, x0, x3, x4, x5, x6, x7, mc, ms, N => ((x3 < x7) → ((∃ k, wX0_rank_97 K post k x0 x4 x6 (0 : Int32) mc ms N))) ∧ (¬ (x3 < x7) → (1 ≤ mc ∧ 2 ≤ ms ∧ (∀ nq100, N nq100 = none → (∀ N102, N102 = va_up N nq100 (some (eO 15 [.int (0 : Int32), .long (0 : Int64)])) → (∃ f108 f109 f110 f111 f112 f113 f114 f115 f116 f117 f118 f119 f120 f121 f122 f123 f124 f125 f126, N102 x0 = some (eO 1 [va_rf f108, va_rf f109, va_rf f110, va_rf f111, va_rf f112, va_rf f113, va_rf f114, va_rf f115, va_rf f116, .int f117, .int f118, va_rf f119, va_rf f120, .int f121, va_rf f122, va_rf f123, va_rf f124, va_rf f125, va_rf f126]) ∧ (wX0_waysOf K (fun r105 N106 => wX16_init K (fun _ N128 => ∃ f136 f137 f138 f139, N128 x6 = some (eO 21 [va_rf f136, .int f137, va_rf f138, .int f139]) ∧ (∃ mc131 ms132, mc131 ≤ (mc - 1) ∧ ms132 ≤ (ms - 2) ∧ wJ28_add_r K (fun r129 N130 => wX0_rank_59 K post n x0 x3 x4 x5 x6 (x7 + (1 : Int32)) ((mc - 1) - mc131) ((ms - 2) - ms132) N130) mc131 ms132 N128 x6 nq100)) N106 nq100 x7 r105) N102 x0 x5 x7))))))
def wX0_rank (K : Nat → Nat → Nat) (post : Int32 → NM → Prop) (MC MS : Nat) (N : NM) (x0 : Nat) (x1 : Int32) (x2 : Int32) (x3 : Int32) (x4 : Int32) : Prop :=
  ∃ f8 f9 f10 f11 f12 f13 f14 f15 f16 f17 f18 f19 f20 f21 f22 f23 f24 f25 f26, N x0 = some (eO 1 [va_rf f8, va_rf f9, va_rf f10, va_rf f11, va_rf f12, va_rf f13, va_rf f14, va_rf f15, va_rf f16, .int f17, .int f18, va_rf f19, va_rf f20, .int f21, va_rf f22, va_rf f23, va_rf f24, va_rf f25, va_rf f26]) ∧ (∃ mc3 ms4, mc3 ≤ MC ∧ ms4 ≤ MS ∧ wX0_at K (fun r1 N2 => (r1 = none → (post (-100000 : Int32) N2)) ∧ (∀ a28, r1 = some a28 → (wX0_isSpan (fun r30 => ((r30 = (0 : Int32)) → (post (-100000 : Int32) N2)) ∧ (¬ (r30 = (0 : Int32)) → ((((200 : Int32) ≤ (x3 - x2)) → (post (-100000 : Int32) N2)) ∧ (¬ ((200 : Int32) ≤ (x3 - x2)) → (wX0_isIn (fun r33 => ((r33 = (0 : Int32)) → (post (-100000 : Int32) N2)) ∧ (¬ (r33 = (0 : Int32)) → (1 ≤ (MC - mc3) ∧ 4 ≤ (MS - ms4) ∧ (∀ nq37, N2 nq37 = none → (∀ N39, N39 = va_up N2 nq37 (some (eO 21 [va_rf none, .int (0 : Int32), va_rf none, .int (0 : Int32)])) → (∃ mc44 ms45, mc44 ≤ ((MC - mc3) - 1) ∧ ms45 ≤ ((MS - ms4) - 4) ∧ wJ28_init K (fun _ N43 => (∃ k, wX0_rank_59 K post k x0 x3 x4 r1 nq37 x2 (((MC - mc3) - 1) - mc44) (((MS - ms4) - 4) - ms45) N43)) mc44 ms45 N39 nq37)))))) x4.toInt64 (0 : Int64) ((x3 - x2).toInt64)))))) x2 x3))) mc3 ms4 N x0 x1)
theorem kX0_rank_97 {p : Program} {l : Launch} {e : Env} {s : State} {m : MethodId} {args : Array Value} {below : List Frame} {meth : Method} {c : Code} {G : gG} {A : Nat → Prop} {MC MS : Nat} {post : Int32 → NM → Prop} (X : cX G A RX0 p s m args c cX0_rank 8) (hr : meth.sig.returnType = (some .int)) (hlk : meth.locks = false) (hL : l.stackTraces = false) (hT : c.exceptionTable.toList = tableOf []) : ∀ (n : Nat) (x0 : Nat) (x4 : Int32) (x6 : Nat) (x7 : Int32) (mc ms : Nat) (N : NM) (H : Heap) (locs : List Loc) (ls : Array Slot) (cells slots : Nat), wX0_rank_97 (gC G) post n x0 x4 x6 x7 mc ms N → (cH G A s [] N H locs ∧ cells + mc ≤ MC ∧ slots + ms ≤ MS) → lv_has ls 8 [(0, .ref x0), (4, .int x4), (6, .ref x6), (7, .int x7)] → W p l e ⟨10, MC, MS, 10322⟩ s m args below meth c H locs cells slots (cx_MQ below (gQ vI post (fun u H => cBw G A (jW u).1 (jW u).2 H) A) (cXC G A [] (fun _ _ _ => False)) args s MC MS A) (F0 m 97 ls []) := by
  have hx := X.1.1
  have hb := X.1.2.1
  have hml := X.1.2.2.1
  have hown := X.1.2.2.2.1
  have hts := X.1.2.2.2.2
  intro n
  induction n with
  | zero =>
    intro x0 x4 x6 x7 mc ms N H locs ls cells slots h
    exact False.elim h
  | succ n ih =>
    intro x0 x4 x6 x7 mc ms N H locs ls cells slots h hw0 hl
    obtain ⟨hw, hbud⟩ := hw0
    unfold wX0_rank_97 at h
    refine lv_iload (pc := 97) hx hb dX0_rank_97 (lv_at hl 3 rfl) ?_
    refine lv_iload (pc := 99) hx hb dX0_rank_99 (lv_at hl 1 rfl) ?_
    refine lv_icmp_ge (pc := 101) (tgt := 122) hx hb dX0_rank_101 rfl (fun c49 => ?_) (fun c49 => ?_)
    · have h := h.1 c49
      refine lv_aload (pc := 122) hx hb dX0_rank_122 (lv_at hl 2 rfl) ?_
      obtain ⟨f53, f54, f55, f56, hN52, h⟩ := h
      refine c_callJ (pc := 124) (val := vQ) X hw (va_runV (C := RJ28) (As := []) (rest := []) X.1 (tJ28_peek_r X.2.2.1 (sz := H.size) h) (cwV 0 hts (lw_V q1890 q1891 q1892 q149 q1893) rfl rfl rfl ⟨rfl, by decide, by decide, (by decide +kernel : (parseMethodDescriptor yJ28_peek.desc).map (fun d => d.parameters.length) = some 0)⟩ ⟨Nat.le_of_ble_eq_true rfl, Nat.le_of_ble_eq_true rfl⟩) ⟨cPre_blind, c_recv X hw hN52 rfl, fun U hU hW => ⟨rfl, X.preJ hw hU hW⟩⟩ rfl rfl hl.1 rfl (lv_room (Nat.le_of_ble_eq_true rfl)) dX0_rank_124 ⟨show cells + 0 ≤ MC by omega, show slots + 0 ≤ MS by omega⟩) (fun r50 N51 H locs h hw => ?_)
      refine W.eq (g2 := F0 m 127 ls (va_rf r50 :: [])) rfl ?_
      obtain ⟨a57, hr58, h⟩ := h
      refine W.eq (g2 := F0 m 127 ls [.ref a57]) (by rw [hr58]; rfl) ?_
      obtain ⟨f60, f61, hN59, h⟩ := h
      refine c_castS (pc := 127) X hw hN59 rfl q1876 dX0_rank_127 ?_
      refine c_getN (pc := 130) X hw hN59 in_X16 rfl 0 (by decide) q1883 rfl rfl dX0_rank_130 ?_
      refine W.widen (k := MC) (n := MS) (by omega) (by omega) ?_
      refine cx_ret ?_
      exact W.iret (pc := 133) hx hb hr (fun t ht hW => c_ret (val := vI) (lw := jW) (u := N51) hw h ht) hw.2.2.2 dX0_rank_133 hlk
    · have h := h.2 c49
      refine lv_aload_n (pc := 104) hx hb dX0_rank_104 rfl (lv_at hl 0 rfl) ?_
      refine lv_aload (pc := 105) hx hb dX0_rank_105 (lv_at hl 2 rfl) ?_
      obtain ⟨f65, f66, f67, f68, hN64, h⟩ := h
      refine c_callJ (pc := 107) (val := vQ) X hw (va_runV (C := RJ28) (As := []) (rest := [.ref x0]) X.1 (tJ28_poll_r X.2.2.1 (sz := H.size) h) (cwV 0 hts (lw_V q1746 q1747 q1748 q149 q1749) rfl rfl rfl ⟨rfl, by decide, by decide, (by decide +kernel : (parseMethodDescriptor yJ28_poll.desc).map (fun d => d.parameters.length) = some 0)⟩ ⟨Nat.le_of_ble_eq_true rfl, Nat.le_of_ble_eq_true rfl⟩) ⟨cPre_blind, c_recv X hw hN64 rfl, fun U hU hW => ⟨rfl, X.preJ hw hU hW⟩⟩ rfl rfl hl.1 rfl (lv_room (Nat.le_of_ble_eq_true rfl)) dX0_rank_107 ⟨show cells + 0 ≤ MC by omega, show slots + 0 ≤ MS by omega⟩) (fun r62 N63 H locs h hw => ?_)
      refine W.eq (g2 := F0 m 110 ls (va_rf r62 :: [.ref x0])) rfl ?_
      obtain ⟨a69, hr70, h⟩ := h
      refine W.eq (g2 := F0 m 110 ls [.ref a69, .ref x0]) (by rw [hr70]; rfl) ?_
      obtain ⟨f72, f73, hN71, h⟩ := h
      refine c_castS (pc := 110) X hw hN71 rfl q1876 dX0_rank_110 ?_
      obtain ⟨f75, f76, f77, f78, f79, f80, f81, f82, f83, f84, f85, f86, f87, f88, f89, f90, f91, f92, f93, hN74, h⟩ := h
      refine c_put (pc := 113) (v := va_rf (some a69)) X hw hN74 in_X0 tyX0 tyX0_ok nmX0 rfl 18 (by decide) q235 rfl rfl rfl (rf_n (some a69) _) (rf_f (some a69) _) (Nat.le_of_ble_eq_true rfl) dX0_rank_113 (fun H locs hw => ?_)
      obtain ⟨N94, e95⟩ : ∃ z, z = va_up N63 x0 (some (eO 1 [va_rf f75, va_rf f76, va_rf f77, va_rf f78, va_rf f79, va_rf f80, va_rf f81, va_rf f82, va_rf f83, .int f84, .int f85, va_rf f86, va_rf f87, .int f88, va_rf f89, va_rf f90, va_rf f91, va_rf f92, va_rf (some a69)])) := ⟨_, rfl⟩
      have hw : cH G A s [] N94 H locs := by rw [e95]; exact hw
      have h := h N94 e95
      have hN96 : N94 x0 = some (eO 1 [va_rf f75, va_rf f76, va_rf f77, va_rf f78, va_rf f79, va_rf f80, va_rf f81, va_rf f82, va_rf f83, .int f84, .int f85, va_rf f86, va_rf f87, .int f88, va_rf f89, va_rf f90, va_rf f91, va_rf f92, va_rf (some a69)]) := by rw [e95]; exact up_s
      have hN97 := up_k (x := some (eO 1 [va_rf f75, va_rf f76, va_rf f77, va_rf f78, va_rf f79, va_rf f80, va_rf f81, va_rf f82, va_rf f83, .int f84, .int f85, va_rf f86, va_rf f87, .int f88, va_rf f89, va_rf f90, va_rf f91, va_rf f92, va_rf (some a69)])) hN74 hN71 (show (2 : Nat) ≠ 30 by decide)
      rw [← e95] at hN97
      refine lv_iinc (pc := 116) (v := x7 + (1 : Int32)) (lv' := [(7, .int (x7 + (1 : Int32))), (0, .ref x0), (4, .int x4), (6, .ref x6)]) hx hb dX0_rank_116 hl (k := 3) rfl rfl (by decide) rfl (fun ls hl => ?_)
      refine lv_goto (pc := 119) (tgt := 97) hx hb dX0_rank_119 rfl ?_
      exact ih _ _ _ _ _ _ _ _ _ _ _ _ h ⟨hw, by omega⟩ (lv_sub hl [1, 2, 3, 0] rfl)
theorem kX0_rank_59 {p : Program} {l : Launch} {e : Env} {s : State} {m : MethodId} {args : Array Value} {below : List Frame} {meth : Method} {c : Code} {G : gG} {A : Nat → Prop} {MC MS : Nat} {post : Int32 → NM → Prop} (X : cX G A RX0 p s m args c cX0_rank 8) (hr : meth.sig.returnType = (some .int)) (hlk : meth.locks = false) (hL : l.stackTraces = false) (hT : c.exceptionTable.toList = tableOf []) : ∀ (n : Nat) (x0 : Nat) (x3 : Int32) (x4 : Int32) (x5 : Option Nat) (x6 : Nat) (x7 : Int32) (mc ms : Nat) (N : NM) (H : Heap) (locs : List Loc) (ls : Array Slot) (cells slots : Nat), wX0_rank_59 (gC G) post n x0 x3 x4 x5 x6 x7 mc ms N → (cH G A s [] N H locs ∧ cells + mc ≤ MC ∧ slots + ms ≤ MS) → lv_has ls 8 [(0, .ref x0), (3, .int x3), (4, .int x4), (5, va_rf x5), (6, .ref x6), (7, .int x7)] → W p l e ⟨10, MC, MS, 10322⟩ s m args below meth c H locs cells slots (cx_MQ below (gQ vI post (fun u H => cBw G A (jW u).1 (jW u).2 H) A) (cXC G A [] (fun _ _ _ => False)) args s MC MS A) (F0 m 59 ls []) := by
  have hx := X.1.1
  have hb := X.1.2.1
  have hml := X.1.2.2.1
  have hown := X.1.2.2.2.1
  have hts := X.1.2.2.2.2
  intro n
  induction n with
  | zero =>
    intro x0 x3 x4 x5 x6 x7 mc ms N H locs ls cells slots h
    exact False.elim h
  | succ n ih =>
    intro x0 x3 x4 x5 x6 x7 mc ms N H locs ls cells slots h hw0 hl
    obtain ⟨hw, hbud⟩ := hw0
    unfold wX0_rank_59 at h
    refine lv_iload (pc := 59) hx hb dX0_rank_59 (lv_at hl 5 rfl) ?_
    refine lv_iload_n (pc := 61) hx hb dX0_rank_61 rfl (lv_at hl 1 rfl) ?_
    refine lv_icmp_gt (pc := 62) (tgt := 94) hx hb dX0_rank_62 rfl (fun c48 => ?_) (fun c48 => ?_)
    · have h := h.1 c48
      refine lv_iconst (pc := 94) (v := (0 : Int32)) hx hb dX0_rank_94 (by decide) ?_
      refine lv_istore (pc := 95) (lv' := [(7, .int (0 : Int32)), (0, .ref x0), (3, .int x3), (4, .int x4), (5, va_rf x5), (6, .ref x6)]) hx hb dX0_rank_95 hl (by decide) rfl (fun ls hl => ?_)
      obtain ⟨k, h⟩ := h
      exact kX0_rank_97 X hr hlk hL hT  k _ _ _ _ _ _ _ _ _ _ _ _ h ⟨hw, by omega⟩ (lv_sub hl [1, 3, 5, 0] rfl)
    · have h := h.2 c48
      refine lv_aload (pc := 65) hx hb dX0_rank_65 (lv_at hl 4 rfl) ?_
      obtain ⟨hm98, hm99, h⟩ := h
      refine c_new (pc := 67) (ci := 15) (fs := [.int (0 : Int32), .long (0 : Int64)]) X hw in_X16 tyX16 tyX16_ok q1876 q1877 q151 rfl nf_X16 (show cells + 1 ≤ MC by omega) (show slots + 2 ≤ MS by omega) dX0_rank_67 (fun nq100 H hq101 _ hw => ?_)
      have h := h nq100 hq101
      obtain ⟨N102, e103⟩ : ∃ z, z = va_up N nq100 (some (eO 15 [.int (0 : Int32), .long (0 : Int64)])) := ⟨_, rfl⟩
      have hw : cH G A s [] N102 H locs := by rw [e103]; exact hw
      have h := h N102 e103
      have hN104 : N102 nq100 = some (eO 15 [.int (0 : Int32), .long (0 : Int64)]) := by rw [e103]; exact up_s
      refine lv_dup (pc := 70) hx hb dX0_rank_70 rfl ?_
      refine lv_iload (pc := 71) hx hb dX0_rank_71 (lv_at hl 5 rfl) ?_
      refine lv_aload_n (pc := 73) hx hb dX0_rank_73 rfl (lv_at hl 0 rfl) ?_
      refine lq_aload (pc := 74) hx hb dX0_rank_74 (lv_at hl 3 rfl) ?_
      refine lv_iload (pc := 76) hx hb dX0_rank_76 (lv_at hl 5 rfl) ?_
      obtain ⟨f108, f109, f110, f111, f112, f113, f114, f115, f116, f117, f118, f119, f120, f121, f122, f123, f124, f125, f126, hN107, h⟩ := h
      refine c_callJ (pc := 78) (val := vL) X hw (va_runV (C := RX0) (As := [va_rf x5, .int x7]) (rest := [.int x7, .ref nq100, .ref nq100, .ref x6]) X.1 (tX0_waysOf X.2.2.1 (sz := H.size) h) (cwV 2 hts (lw_V q1557 q1374 qs28 q102 q1375) rfl rfl rfl ⟨rfl, by decide, by decide, (by decide +kernel : (parseMethodDescriptor yX0_waysOf.desc).map (fun d => d.parameters.length) = some 2)⟩ ⟨Nat.le_of_ble_eq_true rfl, Nat.le_of_ble_eq_true rfl⟩) ⟨cPre_blind, c_recv X hw hN107 rfl, fun U hU hW => ⟨rfl, X.preJ hw hU hW⟩⟩ rfl rfl hl.1 rfl (lv_room (Nat.le_of_ble_eq_true rfl)) dX0_rank_78 ⟨show cells + 1 + 0 ≤ MC by omega, show slots + 2 + 0 ≤ MS by omega⟩) (fun r105 N106 H locs h hw => ?_)
      refine W.eq (g2 := F0 m 81 ls (.long r105 :: [.int x7, .ref nq100, .ref nq100, .ref x6])) rfl ?_
      refine c_callJ (pc := 81) (val := vV) X hw (va_runI (As := [.int x7, .long r105]) (rest := [.ref nq100, .ref x6]) X.1 (tX16_init X.2.2.1 (sz := H.size) h) (cwI 2 hts (lw_meth q1880) rfl rfl rfl (hts _ q151) (hts _ q1878) (hts _ q1879) rfl ⟨by decide, by decide, (by decide +kernel : (parseMethodDescriptor yX16_init.desc).map (fun d => d.parameters.length) = some 2)⟩ ⟨Nat.le_of_ble_eq_true rfl, Nat.le_of_ble_eq_true rfl⟩) ⟨cPre_blind, fun U hU hW => ⟨rfl, X.preJ hw hU hW⟩⟩ rfl rfl hl.1 rfl (lv_room (Nat.le_of_ble_eq_true rfl)) dX0_rank_81 ⟨show cells + 1 + 0 + 0 ≤ MC by omega, show slots + 2 + 0 + 0 ≤ MS by omega⟩) (fun _ N128 H locs h hw => ?_)
      refine W.eq (g2 := F0 m 84 ls ([.ref nq100, .ref x6])) rfl ?_
      obtain ⟨f136, f137, f138, f139, hN135, h⟩ := h
      obtain ⟨mc131, ms132, hm133, hm134, h⟩ := h
      refine c_callJ (pc := 84) (val := vI) X hw (va_runV (C := RJ28) (As := [.ref nq100]) (rest := []) X.1 (tJ28_add_r X.2.2.1 (sz := H.size) h) (cwV 1 hts (lw_V q1702 q1703 q1704 q149 q1705) rfl rfl rfl ⟨rfl, by decide, by decide, (by decide +kernel : (parseMethodDescriptor yJ28_add.desc).map (fun d => d.parameters.length) = some 1)⟩ ⟨Nat.le_of_ble_eq_true rfl, Nat.le_of_ble_eq_true rfl⟩) ⟨cPre_blind, c_recv X hw hN135 rfl, fun U hU hW => ⟨rfl, X.preJ hw hU hW⟩⟩ rfl rfl hl.1 rfl (lv_room (Nat.le_of_ble_eq_true rfl)) dX0_rank_84 ⟨show cells + 1 + 0 + 0 + mc131 ≤ MC by omega, show slots + 2 + 0 + 0 + ms132 ≤ MS by omega⟩) (fun r129 N130 H locs h hw => ?_)
      refine W.eq (g2 := F0 m 87 ls (.int r129 :: [])) rfl ?_
      refine lv_pop (pc := 87) hx hb dX0_rank_87 rfl ?_
      refine lv_iinc (pc := 88) (v := x7 + (1 : Int32)) (lv' := [(7, .int (x7 + (1 : Int32))), (0, .ref x0), (3, .int x3), (4, .int x4), (5, va_rf x5), (6, .ref x6)]) hx hb dX0_rank_88 hl (k := 5) rfl rfl (by decide) rfl (fun ls hl => ?_)
      refine lv_goto (pc := 91) (tgt := 59) hx hb dX0_rank_91 rfl ?_
      exact ih _ _ _ _ _ _ _ _ _ _ _ _ _ _ h ⟨hw, by omega⟩ (lv_sub hl [1, 2, 3, 4, 5, 0] rfl)
theorem txX0_rank {l : Launch} (hL : l.stackTraces = false) {G : gG} (hO : gOk G) {post : Int32 → NM → Prop} {MC MS : Nat} {N : NM} {x0 : Nat} {x1 : Int32} {x2 : Int32} {x3 : Int32} {x4 : Int32} {sz : Nat} (h : wX0_rank (gC G) post MC MS N x0 x1 x2 x3 x4) : cx_Met l yX0_rank (ws_ yX0_rank cX0_rank 8 (some .int)) ⟨10, MC, MS, 10322⟩ (va_Pc [.ref x0, .int x1, .int x2, .int x3, .int x4] (cPre G [] N sz)) (gQ vI post (fun u H => cBw G (cA [] N sz) (jW u).1 (jW u).2 H) (cA [] N sz)) (cXC G (cA [] N sz) [] (fun _ _ _ => False)) MC MS (cA [] N sz) := by
  refine c_ofX (B := fun A u H => cBw G A (jW u).1 (jW u).2 H) (by decide) hO (Nat.le_of_ble_eq_true rfl) (fun p e s m below meth c ls A X hr hlk hT hw hl => ?_)
  have hl : lv_has ls 8 [(0, .ref x0), (1, .int x1), (2, .int x2), (3, .int x3), (4, .int x4)] := hl
  have hx := X.1.1
  have hb := X.1.2.1
  have hml := X.1.2.2.1
  have hown := X.1.2.2.2.1
  have hts := X.1.2.2.2.2
  obtain ⟨H, eH⟩ : ∃ z, z = s.heap := ⟨_, rfl⟩
  rw [← eH] at hw ⊢
  obtain ⟨locs, eLo⟩ : ∃ z : List Loc, z = [] := ⟨_, rfl⟩
  rw [← eLo] at hw ⊢
  have hbud : 0 + MC ≤ MC ∧ 0 + MS ≤ MS := by omega
  unfold wX0_rank at h
  refine lv_aload_n (pc := 0) hx hb dX0_rank_0 rfl (lv_at hl 0 rfl) ?_
  refine lv_iload_n (pc := 1) hx hb dX0_rank_1 rfl (lv_at hl 1 rfl) ?_
  obtain ⟨f8, f9, f10, f11, f12, f13, f14, f15, f16, f17, f18, f19, f20, f21, f22, f23, f24, f25, f26, hN7, h⟩ := h
  obtain ⟨mc3, ms4, hm5, hm6, h⟩ := h
  refine c_callJ (pc := 2) (val := vQ) X hw (vx_runVW (C := RX0) (As := [.int x1]) (rest := []) X.1 (tX0_at hL X.2.2.1 (sz := H.size) h) (vx_cwVW 1 hts (lw_VW q898 q900 qs20 q102 q901) rfl rfl rfl ⟨rfl, by decide, by decide, (by decide +kernel : (parseMethodDescriptor yX0_at.desc).map (fun d => d.parameters.length) = some 1)⟩ ⟨Nat.le_of_ble_eq_true rfl, Nat.le_of_ble_eq_true rfl⟩) ⟨cPre_blind, c_recv X hw hN7 rfl, fun U hU hW => ⟨rfl, X.preJ hw hU hW⟩⟩ rfl rfl hl.1 rfl (lv_room (Nat.le_of_ble_eq_true rfl)) dX0_rank_2 ⟨show 0 + mc3 ≤ MC by omega, show 0 + ms4 ≤ MS by omega⟩) (fun r1 N2 H locs h hw => ?_)
  refine W.eq (g2 := F0 m 5 ls (va_rf r1 :: [])) rfl ?_
  refine lq_astore (pc := 5) (lv' := [(5, va_rf r1), (0, .ref x0), (1, .int x1), (2, .int x2), (3, .int x3), (4, .int x4)]) hx hb dX0_rank_5 hl (by decide) rfl (fun ls hl => ?_)
  refine lq_aload (pc := 7) hx hb dX0_rank_7 (lv_at hl 0 rfl) ?_
  refine lq_ifnull (pc := 9) (tgt := 43) hx hb dX0_rank_9 rfl (fun hz27 => ?_) (fun a28 hr29 => ?_)
  · have h := h.1 hz27
    refine lv_ldcw (pc := 43) hx hb hown (hts _ q1540) dX0_rank_43 ?_
    refine W.widen (k := MC) (n := MS) (by omega) (by omega) ?_
    refine cx_ret ?_
    exact W.iret (pc := 46) hx hb hr (fun t ht hW => c_ret (val := vI) (lw := jW) (u := N2) hw h ht) hw.2.2.2 dX0_rank_46 hlk
  · have h := h.2 a28 hr29
    refine lv_iload_n (pc := 12) hx hb dX0_rank_12 rfl (lv_at hl 3 rfl) ?_
    refine lv_iload_n (pc := 13) hx hb dX0_rank_13 rfl (lv_at hl 4 rfl) ?_
    refine s_call (pc := 14) (val := vI) (As := [.int x2, .int x3]) (rest := []) X.1 (tX0_isSpan h) (lw_S q1592 q1593 q102 q1594) ⟨by decide, by decide, (by decide +kernel : (parseMethodDescriptor yX0_isSpan.desc).map (fun d => d.parameters.length) = some 2)⟩ ⟨Nat.le_of_ble_eq_true rfl, Nat.le_of_ble_eq_true rfl⟩ hl.1 (Nat.le_of_ble_eq_true rfl) ⟨show 0 + mc3 ≤ MC by omega, show 0 + ms4 ≤ MS by omega⟩ dX0_rank_14 rfl (fun r30 h => ?_)
    refine W.eq (g2 := F0 m 17 ls (.int r30 :: [])) rfl ?_
    refine lv_if_eq (pc := 17) (tgt := 43) hx hb dX0_rank_17 rfl (fun c31 => ?_) (fun c31 => ?_)
    · have h := h.1 c31
      refine lv_ldcw (pc := 43) hx hb hown (hts _ q1540) dX0_rank_43 ?_
      refine W.widen (k := MC) (n := MS) (by omega) (by omega) ?_
      refine cx_ret ?_
      exact W.iret (pc := 46) hx hb hr (fun t ht hW => c_ret (val := vI) (lw := jW) (u := N2) hw h ht) hw.2.2.2 dX0_rank_46 hlk
    · have h := h.2 c31
      refine lv_iload_n (pc := 20) hx hb dX0_rank_20 rfl (lv_at hl 4 rfl) ?_
      refine lv_iload_n (pc := 21) hx hb dX0_rank_21 rfl (lv_at hl 3 rfl) ?_
      refine lv_isub (pc := 22) hx hb dX0_rank_22 ?_
      refine lv_sipush (pc := 23) (v := (200 : Int32)) hx hb dX0_rank_23 (by decide) ?_
      refine lv_icmp_ge (pc := 26) (tgt := 43) hx hb dX0_rank_26 rfl (fun c32 => ?_) (fun c32 => ?_)
      · have h := h.1 c32
        refine lv_ldcw (pc := 43) hx hb hown (hts _ q1540) dX0_rank_43 ?_
        refine W.widen (k := MC) (n := MS) (by omega) (by omega) ?_
        refine cx_ret ?_
        exact W.iret (pc := 46) hx hb hr (fun t ht hW => c_ret (val := vI) (lw := jW) (u := N2) hw h ht) hw.2.2.2 dX0_rank_46 hlk
      · have h := h.2 c32
        refine lv_iload (pc := 29) hx hb dX0_rank_29 (lv_at hl 5 rfl) ?_
        refine lv_i2l (pc := 31) hx hb dX0_rank_31 rfl ?_
        refine lv_lconst (pc := 32) (v := (0 : Int64)) hx hb dX0_rank_32 (by decide) ?_
        refine lv_iload_n (pc := 33) hx hb dX0_rank_33 rfl (lv_at hl 4 rfl) ?_
        refine lv_iload_n (pc := 34) hx hb dX0_rank_34 rfl (lv_at hl 3 rfl) ?_
        refine lv_isub (pc := 35) hx hb dX0_rank_35 ?_
        refine lv_i2l (pc := 36) hx hb dX0_rank_36 rfl ?_
        refine s_call (pc := 37) (val := vI) (As := [.long x4.toInt64, .long (0 : Int64), .long ((x3 - x2).toInt64)]) (rest := []) X.1 (tX0_isIn h) (lw_S q380 q381 q102 q382) ⟨by decide, by decide, (by decide +kernel : (parseMethodDescriptor yX0_isIn.desc).map (fun d => d.parameters.length) = some 3)⟩ ⟨Nat.le_of_ble_eq_true rfl, Nat.le_of_ble_eq_true rfl⟩ hl.1 (Nat.le_of_ble_eq_true rfl) ⟨show 0 + mc3 ≤ MC by omega, show 0 + ms4 ≤ MS by omega⟩ dX0_rank_37 rfl (fun r33 h => ?_)
        refine W.eq (g2 := F0 m 40 ls (.int r33 :: [])) rfl ?_
        refine lv_if_ne (pc := 40) (tgt := 47) hx hb dX0_rank_40 rfl (fun c34 => ?_) (fun c34 => ?_)
        · have h := h.2 c34
          obtain ⟨hm35, hm36, h⟩ := h
          refine c_new (pc := 47) (ci := 21) (fs := [va_rf none, .int (0 : Int32), va_rf none, .int (0 : Int32)]) X hw in_J28 tyJ28 tyJ28_ok q1659 q1660 q149 rfl nf_J28 (show 0 + mc3 + 1 ≤ MC by omega) (show 0 + ms4 + 4 ≤ MS by omega) dX0_rank_47 (fun nq37 H hq38 _ hw => ?_)
          have h := h nq37 hq38
          obtain ⟨N39, e40⟩ : ∃ z, z = va_up N2 nq37 (some (eO 21 [va_rf none, .int (0 : Int32), va_rf none, .int (0 : Int32)])) := ⟨_, rfl⟩
          have hw : cH G A s [] N39 H locs := by rw [e40]; exact hw
          have h := h N39 e40
          have hN41 : N39 nq37 = some (eO 21 [va_rf none, .int (0 : Int32), va_rf none, .int (0 : Int32)]) := by rw [e40]; exact up_s
          refine lv_dup (pc := 50) hx hb dX0_rank_50 rfl ?_
          obtain ⟨mc44, ms45, hm46, hm47, h⟩ := h
          refine c_callJ (pc := 51) (val := vV) X hw (va_runI (As := []) (rest := [.ref nq37]) X.1 (tJ28_init X.2.2.1 (sz := H.size) h) (cwI 0 hts (lw_meth q1663) rfl rfl rfl (hts _ q149) (hts _ q1661) (hts _ q1662) rfl ⟨by decide, by decide, (by decide +kernel : (parseMethodDescriptor yJ28_init.desc).map (fun d => d.parameters.length) = some 0)⟩ ⟨Nat.le_of_ble_eq_true rfl, Nat.le_of_ble_eq_true rfl⟩) ⟨cPre_blind, fun U hU hW => ⟨rfl, X.preJ hw hU hW⟩⟩ rfl rfl hl.1 rfl (lv_room (Nat.le_of_ble_eq_true rfl)) dX0_rank_51 ⟨show 0 + mc3 + 1 + mc44 ≤ MC by omega, show 0 + ms4 + 4 + ms45 ≤ MS by omega⟩) (fun _ N43 H locs h hw => ?_)
          refine W.eq (g2 := F0 m 54 ls ([.ref nq37])) rfl ?_
          refine lv_astore (pc := 54) (i := 6) (lv' := [(6, .ref nq37), (5, va_rf r1), (0, .ref x0), (1, .int x1), (2, .int x2), (3, .int x3), (4, .int x4)]) hx hb dX0_rank_54 hl (by decide) (by simp [rf_c]) (fun ls hl => ?_)
          refine lv_iload_n (pc := 56) hx hb dX0_rank_56 rfl (lv_at hl 4 rfl) ?_
          refine lv_istore (pc := 57) (lv' := [(7, .int x2), (6, .ref nq37), (5, va_rf r1), (0, .ref x0), (1, .int x1), (2, .int x2), (3, .int x3), (4, .int x4)]) hx hb dX0_rank_57 hl (by decide) rfl (fun ls hl => ?_)
          obtain ⟨k, h⟩ := h
          exact kX0_rank_59 X hr hlk hL hT  k _ _ _ _ _ _ _ _ _ _ _ _ _ _ h ⟨hw, by omega⟩ (lv_sub hl [3, 6, 7, 2, 1, 0] rfl)
        · have h := h.1 c34
          refine lv_ldcw (pc := 43) hx hb hown (hts _ q1540) dX0_rank_43 ?_
          refine W.widen (k := MC) (n := MS) (by omega) (by omega) ?_
          refine cx_ret ?_
          exact W.iret (pc := 46) hx hb hr (fun t ht hW => c_ret (val := vI) (lw := jW) (u := N2) hw h ht) hw.2.2.2 dX0_rank_46 hlk
theorem tX0_rank {l : Launch} (hL : l.stackTraces = false) {G : gG} (hO : gOk G) {post : Int32 → NM → Prop} {MC MS : Nat} {N : NM} {x0 : Nat} {x1 : Int32} {x2 : Int32} {x3 : Int32} {x4 : Int32} {sz : Nat} (h : wX0_rank (gC G) post MC MS N x0 x1 x2 x3 x4) : Met l yX0_rank (ws_ yX0_rank cX0_rank 8 (some .int)) ⟨10, MC, MS, 10322⟩ (va_Pc [.ref x0, .int x1, .int x2, .int x3, .int x4] (cPre G [] N sz)) (gQ vI post (fun u H => cBw G (cA [] N sz) (jW u).1 (jW u).2 H) (cA [] N sz)) MC MS (cA [] N sz) := cx_toMet (txX0_rank hL hO h)

def wX0_isBroken_43 (K : Nat → Nat → Nat) (post : Int32 → NM → Prop) (mc ms : Nat) (N : NM) : Prop :=
  post (1 : Int32) N
def wX0_isBroken_30 (K : Nat → Nat → Nat) (post : Int32 → NM → Prop) (x1 : Nat) (v0 : Int32) (mc ms : Nat) (N : NM) : Prop :=
  ((v0 = (0 : Int32)) → (∃ n58 f59, N x1 = some (eN 0 n58 f59) ∧ (vp_in (6 : Int32) n58 ∧ ((((f59 (6 : Int32).toNatClampNeg) = (1 : Int32)) → (wX0_isBroken_43 K post mc ms N)) ∧ (¬ ((f59 (6 : Int32).toNatClampNeg) = (1 : Int32)) → (post (0 : Int32) N)))))) ∧ (¬ (v0 = (0 : Int32)) → (wX0_isBroken_43 K post mc ms N))
def wX0_isBroken (K : Nat → Nat → Nat) (post : Int32 → NM → Prop) (MC MS : Nat) (N : NM) (x0 : Nat) (x1 : Nat) : Prop :=
  ∃ n2 f3, N x1 = some (eN 0 n2 f3) ∧ (vp_in (6 : Int32) n2 ∧ (∀ N4, N4 = va_up N x1 (some (eN 0 n2 (upd f3 (6 : Int32).toNatClampNeg (0 : Int32)))) → (∃ f8 f9 f10 f11 f12 f13 f14 f15 f16 f17 f18 f19 f20 f21 f22 f23 f24 f25 f26, N4 x0 = some (eO 1 [va_rf f8, va_rf f9, va_rf f10, va_rf f11, va_rf f12, va_rf f13, va_rf f14, va_rf f15, va_rf f16, .int f17, .int f18, va_rf f19, va_rf f20, .int f21, va_rf f22, va_rf f23, va_rf f24, va_rf f25, va_rf f26]) ∧ (∃ a27, f15 = some a27 ∧ (wSum K 200 (fun r29 N30 => ∃ f32 f33 f34 f35 f36 f37 f38 f39 f40 f41 f42 f43 f44 f45 f46 f47 f48 f49 f50, N30 x0 = some (eO 1 [va_rf f32, va_rf f33, va_rf f34, va_rf f35, va_rf f36, va_rf f37, va_rf f38, va_rf f39, va_rf f40, .int f41, .int f42, va_rf f43, va_rf f44, .int f45, va_rf f46, va_rf f47, va_rf f48, va_rf f49, va_rf f50]) ∧ (∃ a51, f40 = some a51 ∧ (wSum K 200 (fun r53 N54 => ((r29 = r53) → (wX0_isBroken_30 K post x1 (0 : Int32) MC MS N54)) ∧ (¬ (r29 = r53) → (wX0_isBroken_30 K post x1 (1 : Int32) MC MS N54))) N30 a51 x1))) N4 a27 x1)))))
theorem kX0_isBroken_43 {p : Program} {l : Launch} {e : Env} {s : State} {m : MethodId} {args : Array Value} {below : List Frame} {meth : Method} {c : Code} {G : gG} {A : Nat → Prop} {MC MS : Nat} {post : Int32 → NM → Prop} (X : cX G A RX0 p s m args c cX0_isBroken 3) (hr : meth.sig.returnType = (some .boolean)) (hlk : meth.locks = false) (hL : l.stackTraces = false) (hT : c.exceptionTable.toList = tableOf []) : ∀ (mc ms : Nat) (N : NM) (H : Heap) (locs : List Loc) (ls : Array Slot) (cells slots : Nat), wX0_isBroken_43 (gC G) post mc ms N → (cH G A s [] N H locs ∧ cells + mc ≤ MC ∧ slots + ms ≤ MS) → lv_has ls 3 [] → W p l e ⟨204, MC, MS, 5889⟩ s m args below meth c H locs cells slots (cx_MQ below (gQ vI post (fun u H => cBw G A (jW u).1 (jW u).2 H) A) (cXC G A [] (fun _ _ _ => False)) args s MC MS A) (F0 m 43 ls []) := by
  have hx := X.1.1
  have hb := X.1.2.1
  have hml := X.1.2.2.1
  have hown := X.1.2.2.2.1
  have hts := X.1.2.2.2.2
  intro mc ms N H locs ls cells slots h hw0 hl
  obtain ⟨hw, hbud⟩ := hw0
  unfold wX0_isBroken_43 at h
  refine lv_iconst (pc := 43) (v := (1 : Int32)) hx hb dX0_isBroken_43 (by decide) ?_
  refine lv_goto (pc := 44) (tgt := 48) hx hb dX0_isBroken_44 rfl ?_
  refine W.widen (k := MC) (n := MS) (by omega) (by omega) ?_
  refine cx_ret ?_
  exact W.zret (pc := 48) hx hb hr rfl (fun t ht hW => c_ret (val := vI) (lw := jW) (u := N) hw h ht) hw.2.2.2 dX0_isBroken_48 hlk
theorem kX0_isBroken_30 {p : Program} {l : Launch} {e : Env} {s : State} {m : MethodId} {args : Array Value} {below : List Frame} {meth : Method} {c : Code} {G : gG} {A : Nat → Prop} {MC MS : Nat} {post : Int32 → NM → Prop} (X : cX G A RX0 p s m args c cX0_isBroken 3) (hr : meth.sig.returnType = (some .boolean)) (hlk : meth.locks = false) (hL : l.stackTraces = false) (hT : c.exceptionTable.toList = tableOf []) : ∀ (x1 : Nat) (v0 : Int32) (mc ms : Nat) (N : NM) (H : Heap) (locs : List Loc) (ls : Array Slot) (cells slots : Nat), wX0_isBroken_30 (gC G) post x1 v0 mc ms N → (cH G A s [] N H locs ∧ cells + mc ≤ MC ∧ slots + ms ≤ MS) → lv_has ls 3 [(1, .ref x1)] → W p l e ⟨204, MC, MS, 5889⟩ s m args below meth c H locs cells slots (cx_MQ below (gQ vI post (fun u H => cBw G A (jW u).1 (jW u).2 H) A) (cXC G A [] (fun _ _ _ => False)) args s MC MS A) (F0 m 30 ls [.int v0]) := by
  have hx := X.1.1
  have hb := X.1.2.1
  have hml := X.1.2.2.1
  have hown := X.1.2.2.2.1
  have hts := X.1.2.2.2.2
  intro x1 v0 mc ms N H locs ls cells slots h hw0 hl
  obtain ⟨hw, hbud⟩ := hw0
  unfold wX0_isBroken_30 at h
  refine lv_istore_n (pc := 30) (lv' := [(2, .int v0), (1, .ref x1)]) hx hb dX0_isBroken_30 rfl hl (by decide) rfl (fun ls hl => ?_)
  refine lv_iload_n (pc := 31) hx hb dX0_isBroken_31 rfl (lv_at hl 0 rfl) ?_
  refine lv_if_ne (pc := 32) (tgt := 43) hx hb dX0_isBroken_32 rfl (fun c56 => ?_) (fun c56 => ?_)
  · have h := h.2 c56
    exact kX0_isBroken_43 X hr hlk hL hT   _ _ _ _ _ _ _ _ h ⟨hw, by omega⟩ (lv_sub hl [] rfl)
  · have h := h.1 c56
    refine lv_aload_n (pc := 35) hx hb dX0_isBroken_35 rfl (lv_at hl 1 rfl) ?_
    refine lv_bipush (pc := 36) (v := (6 : Int32)) hx hb dX0_isBroken_36 (by decide) ?_
    obtain ⟨n58, f59, hN57, h⟩ := h
    obtain ⟨hi, h⟩ := h
    refine c_iald (pc := 38) X hw hN57 hi dX0_isBroken_38 ?_
    refine lv_iconst (pc := 39) (v := (1 : Int32)) hx hb dX0_isBroken_39 (by decide) ?_
    refine lv_icmp_ne (pc := 40) (tgt := 47) hx hb dX0_isBroken_40 rfl (fun c60 => ?_) (fun c60 => ?_)
    · have h := h.2 c60
      refine lv_iconst (pc := 47) (v := (0 : Int32)) hx hb dX0_isBroken_47 (by decide) ?_
      refine W.widen (k := MC) (n := MS) (by omega) (by omega) ?_
      refine cx_ret ?_
      exact W.zret (pc := 48) hx hb hr rfl (fun t ht hW => c_ret (val := vI) (lw := jW) (u := N) hw h ht) hw.2.2.2 dX0_isBroken_48 hlk
    · have h := h.1 c60
      exact kX0_isBroken_43 X hr hlk hL hT   _ _ _ _ _ _ _ _ h ⟨hw, by omega⟩ (lv_sub hl [] rfl)
theorem txX0_isBroken {l : Launch} (hL : l.stackTraces = false) {G : gG} (hO : gOk G) {post : Int32 → NM → Prop} {MC MS : Nat} {N : NM} {x0 : Nat} {x1 : Nat} {sz : Nat} (h : wX0_isBroken (gC G) post MC MS N x0 x1) : cx_Met l yX0_isBroken (ws_ yX0_isBroken cX0_isBroken 3 (some .boolean)) ⟨204, MC, MS, 5889⟩ (va_Pc [.ref x0, .ref x1] (cPre G [] N sz)) (gQ vI post (fun u H => cBw G (cA [] N sz) (jW u).1 (jW u).2 H) (cA [] N sz)) (cXC G (cA [] N sz) [] (fun _ _ _ => False)) MC MS (cA [] N sz) := by
  refine c_ofX (B := fun A u H => cBw G A (jW u).1 (jW u).2 H) (by decide) hO (Nat.le_of_ble_eq_true rfl) (fun p e s m below meth c ls A X hr hlk hT hw hl => ?_)
  have hl : lv_has ls 3 [(0, .ref x0), (1, .ref x1)] := hl
  have hx := X.1.1
  have hb := X.1.2.1
  have hml := X.1.2.2.1
  have hown := X.1.2.2.2.1
  have hts := X.1.2.2.2.2
  obtain ⟨H, eH⟩ : ∃ z, z = s.heap := ⟨_, rfl⟩
  rw [← eH] at hw ⊢
  obtain ⟨locs, eLo⟩ : ∃ z : List Loc, z = [] := ⟨_, rfl⟩
  rw [← eLo] at hw ⊢
  have hbud : 0 + MC ≤ MC ∧ 0 + MS ≤ MS := by omega
  unfold wX0_isBroken at h
  refine lv_aload_n (pc := 0) hx hb dX0_isBroken_0 rfl (lv_at hl 1 rfl) ?_
  refine lv_bipush (pc := 1) (v := (6 : Int32)) hx hb dX0_isBroken_1 (by decide) ?_
  refine lv_iconst (pc := 3) (v := (0 : Int32)) hx hb dX0_isBroken_3 (by decide) ?_
  obtain ⟨n2, f3, hN1, h⟩ := h
  obtain ⟨hi, h⟩ := h
  refine c_iast (pc := 4) X hw hN1 hi dX0_isBroken_4 (fun H locs hw => ?_)
  obtain ⟨N4, e5⟩ : ∃ z, z = va_up N x1 (some (eN 0 n2 (upd f3 (6 : Int32).toNatClampNeg (0 : Int32)))) := ⟨_, rfl⟩
  have hw : cH G A s [] N4 H locs := by rw [e5]; exact hw
  have h := h N4 e5
  have hN6 : N4 x1 = some (eN 0 n2 (upd f3 (6 : Int32).toNatClampNeg (0 : Int32))) := by rw [e5]; exact up_s
  refine lv_aload_n (pc := 5) hx hb dX0_isBroken_5 rfl (lv_at hl 0 rfl) ?_
  obtain ⟨f8, f9, f10, f11, f12, f13, f14, f15, f16, f17, f18, f19, f20, f21, f22, f23, f24, f25, f26, hN7, h⟩ := h
  refine c_get (pc := 6) X hw hN7 in_X0 rfl 7 (by decide) q219 rfl rfl dX0_isBroken_6 ?_
  refine lv_aload_n (pc := 9) hx hb dX0_isBroken_9 rfl (lv_at hl 1 rfl) ?_
  obtain ⟨a27, hr28, h⟩ := h
  refine W.eq (g2 := F0 m 10 ls [.ref x1, .ref a27]) (by rw [hr28]; rfl) ?_
  refine c_sumOf (pc := 10) (d := 200) (rest := []) X hw (tSum X.2.2.1 200 h) q1903 ⟨Nat.le_of_ble_eq_true rfl, Nat.le_of_ble_eq_true rfl⟩ hl.1 (Nat.le_of_ble_eq_true rfl) ⟨show 0 ≤ MC by omega, show 0 ≤ MS by omega⟩ dX0_isBroken_10 (fun r29 N30 H locs h hw => ?_)
  refine W.eq (g2 := F0 m 13 ls (.long r29 :: [])) rfl ?_
  refine lv_aload_n (pc := 13) hx hb dX0_isBroken_13 rfl (lv_at hl 0 rfl) ?_
  obtain ⟨f32, f33, f34, f35, f36, f37, f38, f39, f40, f41, f42, f43, f44, f45, f46, f47, f48, f49, f50, hN31, h⟩ := h
  refine c_get (pc := 14) X hw hN31 in_X0 rfl 8 (by decide) q221 rfl rfl dX0_isBroken_14 ?_
  refine lv_aload_n (pc := 17) hx hb dX0_isBroken_17 rfl (lv_at hl 1 rfl) ?_
  obtain ⟨a51, hr52, h⟩ := h
  refine W.eq (g2 := F0 m 18 ls [.ref x1, .ref a51, .long r29]) (by rw [hr52]; rfl) ?_
  refine c_sumOf (pc := 18) (d := 200) (rest := [.long r29]) X hw (tSum X.2.2.1 200 h) q1903 ⟨Nat.le_of_ble_eq_true rfl, Nat.le_of_ble_eq_true rfl⟩ hl.1 (Nat.le_of_ble_eq_true rfl) ⟨show 0 ≤ MC by omega, show 0 ≤ MS by omega⟩ dX0_isBroken_18 (fun r53 N54 H locs h hw => ?_)
  refine W.eq (g2 := F0 m 21 ls (.long r53 :: [.long r29])) rfl ?_
  refine W.lcmp (pc := 21) hx hb dX0_isBroken_21 ?_
  refine lv_if_eq (pc := 22) (tgt := 29) hx hb dX0_isBroken_22 rfl (fun c55 => ?_) (fun c55 => ?_)
  · have h := h.1 ((lg_cmp_eq _ _).mp c55)
    refine lv_iconst (pc := 29) (v := (0 : Int32)) hx hb dX0_isBroken_29 (by decide) ?_
    exact kX0_isBroken_30 X hr hlk hL hT  _ _ _ _ _ _ _ _ _ _ h ⟨hw, by omega⟩ (lv_sub hl [1] rfl)
  · have h := h.2 (fun z => c55 ((lg_cmp_eq _ _).mpr z))
    refine lv_iconst (pc := 25) (v := (1 : Int32)) hx hb dX0_isBroken_25 (by decide) ?_
    refine lv_goto (pc := 26) (tgt := 30) hx hb dX0_isBroken_26 rfl ?_
    exact kX0_isBroken_30 X hr hlk hL hT  _ _ _ _ _ _ _ _ _ _ h ⟨hw, by omega⟩ (lv_sub hl [1] rfl)
theorem tX0_isBroken {l : Launch} (hL : l.stackTraces = false) {G : gG} (hO : gOk G) {post : Int32 → NM → Prop} {MC MS : Nat} {N : NM} {x0 : Nat} {x1 : Nat} {sz : Nat} (h : wX0_isBroken (gC G) post MC MS N x0 x1) : Met l yX0_isBroken (ws_ yX0_isBroken cX0_isBroken 3 (some .boolean)) ⟨204, MC, MS, 5889⟩ (va_Pc [.ref x0, .ref x1] (cPre G [] N sz)) (gQ vI post (fun u H => cBw G (cA [] N sz) (jW u).1 (jW u).2 H) (cA [] N sz)) MC MS (cA [] N sz) := cx_toMet (txX0_isBroken hL hO h)

def wX0_isBeyond (K : Nat → Nat → Nat) (post : Int32 → NM → Prop) (MC MS : Nat) (N : NM) (x0 : Nat) (x1 : Nat) : Prop :=
  ∃ f8 f9 f10 f11 f12 f13 f14 f15 f16 f17 f18 f19 f20 f21 f22 f23 f24 f25 f26, N x0 = some (eO 1 [va_rf f8, va_rf f9, va_rf f10, va_rf f11, va_rf f12, va_rf f13, va_rf f14, va_rf f15, va_rf f16, .int f17, .int f18, va_rf f19, va_rf f20, .int f21, va_rf f22, va_rf f23, va_rf f24, va_rf f25, va_rf f26]) ∧ (∃ mc3 ms4, mc3 ≤ MC ∧ ms4 ≤ MS ∧ wX0_isBroken K (fun r1 N2 => ∃ n28 f29, N2 x1 = some (eN 0 n28 f29) ∧ (vp_in (6 : Int32) n28 ∧ ((((f29 (6 : Int32).toNatClampNeg) = (1 : Int32)) → (post (1 : Int32) N2)) ∧ (¬ ((f29 (6 : Int32).toNatClampNeg) = (1 : Int32)) → (post (0 : Int32) N2))))) mc3 ms4 N x0 x1)
theorem txX0_isBeyond {l : Launch} (hL : l.stackTraces = false) {G : gG} (hO : gOk G) {post : Int32 → NM → Prop} {MC MS : Nat} {N : NM} {x0 : Nat} {x1 : Nat} {sz : Nat} (h : wX0_isBeyond (gC G) post MC MS N x0 x1) : cx_Met l yX0_isBeyond (ws_ yX0_isBeyond cX0_isBeyond 3 (some .boolean)) ⟨205, MC, MS, 5911⟩ (va_Pc [.ref x0, .ref x1] (cPre G [] N sz)) (gQ vI post (fun u H => cBw G (cA [] N sz) (jW u).1 (jW u).2 H) (cA [] N sz)) (cXC G (cA [] N sz) [] (fun _ _ _ => False)) MC MS (cA [] N sz) := by
  refine c_ofX (B := fun A u H => cBw G A (jW u).1 (jW u).2 H) (by decide) hO (Nat.le_of_ble_eq_true rfl) (fun p e s m below meth c ls A X hr hlk hT hw hl => ?_)
  have hl : lv_has ls 3 [(0, .ref x0), (1, .ref x1)] := hl
  have hx := X.1.1
  have hb := X.1.2.1
  have hml := X.1.2.2.1
  have hown := X.1.2.2.2.1
  have hts := X.1.2.2.2.2
  obtain ⟨H, eH⟩ : ∃ z, z = s.heap := ⟨_, rfl⟩
  rw [← eH] at hw ⊢
  obtain ⟨locs, eLo⟩ : ∃ z : List Loc, z = [] := ⟨_, rfl⟩
  rw [← eLo] at hw ⊢
  have hbud : 0 + MC ≤ MC ∧ 0 + MS ≤ MS := by omega
  unfold wX0_isBeyond at h
  refine lv_aload_n (pc := 0) hx hb dX0_isBeyond_0 rfl (lv_at hl 0 rfl) ?_
  refine lv_aload_n (pc := 1) hx hb dX0_isBeyond_1 rfl (lv_at hl 1 rfl) ?_
  obtain ⟨f8, f9, f10, f11, f12, f13, f14, f15, f16, f17, f18, f19, f20, f21, f22, f23, f24, f25, f26, hN7, h⟩ := h
  obtain ⟨mc3, ms4, hm5, hm6, h⟩ := h
  refine c_callJ (pc := 2) (val := vI) X hw (va_runV (C := RX0) (As := [.ref x1]) (rest := []) X.1 (tX0_isBroken hL X.2.2.1 (sz := H.size) h) (cwV 1 hts (lw_V q1899 q1901 qs43 q102 q1902) rfl rfl rfl ⟨rfl, by decide, by decide, (by decide +kernel : (parseMethodDescriptor yX0_isBroken.desc).map (fun d => d.parameters.length) = some 1)⟩ ⟨Nat.le_of_ble_eq_true rfl, Nat.le_of_ble_eq_true rfl⟩) ⟨cPre_blind, c_recv X hw hN7 rfl, fun U hU hW => ⟨rfl, X.preJ hw hU hW⟩⟩ rfl rfl hl.1 rfl (lv_room (Nat.le_of_ble_eq_true rfl)) dX0_isBeyond_2 ⟨show 0 + mc3 ≤ MC by omega, show 0 + ms4 ≤ MS by omega⟩) (fun r1 N2 H locs h hw => ?_)
  refine W.eq (g2 := F0 m 5 ls (.int r1 :: [])) rfl ?_
  refine lv_istore_n (pc := 5) (lv' := [(2, .int r1), (0, .ref x0), (1, .ref x1)]) hx hb dX0_isBeyond_5 rfl hl (by decide) rfl (fun ls hl => ?_)
  refine lv_aload_n (pc := 6) hx hb dX0_isBeyond_6 rfl (lv_at hl 2 rfl) ?_
  refine lv_bipush (pc := 7) (v := (6 : Int32)) hx hb dX0_isBeyond_7 (by decide) ?_
  obtain ⟨n28, f29, hN27, h⟩ := h
  obtain ⟨hi, h⟩ := h
  refine c_iald (pc := 9) X hw hN27 hi dX0_isBeyond_9 ?_
  refine lv_iconst (pc := 10) (v := (1 : Int32)) hx hb dX0_isBeyond_10 (by decide) ?_
  refine lv_icmp_ne (pc := 11) (tgt := 18) hx hb dX0_isBeyond_11 rfl (fun c30 => ?_) (fun c30 => ?_)
  · have h := h.2 c30
    refine lv_iconst (pc := 18) (v := (0 : Int32)) hx hb dX0_isBeyond_18 (by decide) ?_
    refine W.widen (k := MC) (n := MS) (by omega) (by omega) ?_
    refine cx_ret ?_
    exact W.zret (pc := 19) hx hb hr rfl (fun t ht hW => c_ret (val := vI) (lw := jW) (u := N2) hw h ht) hw.2.2.2 dX0_isBeyond_19 hlk
  · have h := h.1 c30
    refine lv_iconst (pc := 14) (v := (1 : Int32)) hx hb dX0_isBeyond_14 (by decide) ?_
    refine lv_goto (pc := 15) (tgt := 19) hx hb dX0_isBeyond_15 rfl ?_
    refine W.widen (k := MC) (n := MS) (by omega) (by omega) ?_
    refine cx_ret ?_
    exact W.zret (pc := 19) hx hb hr rfl (fun t ht hW => c_ret (val := vI) (lw := jW) (u := N2) hw h ht) hw.2.2.2 dX0_isBeyond_19 hlk
theorem tX0_isBeyond {l : Launch} (hL : l.stackTraces = false) {G : gG} (hO : gOk G) {post : Int32 → NM → Prop} {MC MS : Nat} {N : NM} {x0 : Nat} {x1 : Nat} {sz : Nat} (h : wX0_isBeyond (gC G) post MC MS N x0 x1) : Met l yX0_isBeyond (ws_ yX0_isBeyond cX0_isBeyond 3 (some .boolean)) ⟨205, MC, MS, 5911⟩ (va_Pc [.ref x0, .ref x1] (cPre G [] N sz)) (gQ vI post (fun u H => cBw G (cA [] N sz) (jW u).1 (jW u).2 H) (cA [] N sz)) MC MS (cA [] N sz) := cx_toMet (txX0_isBeyond hL hO h)

def wX0_told (K : Nat → Nat → Nat) (post : Int64 → NM → Prop) (MC MS : Nat) (N : NM) (x0 : Option Nat) (x1 : Nat) : Prop :=
  ∃ n2 f3, N x1 = some (eN 0 n2 f3) ∧ (vp_in (6 : Int32) n2 ∧ (∀ N4, N4 = va_up N x1 (some (eN 0 n2 (upd f3 (6 : Int32).toNatClampNeg (0 : Int32)))) → (∃ a7, x0 = some a7 ∧ (wSum K 200 (fun r9 N10 => ∃ n12 f13, N10 x1 = some (eN 0 n12 f13) ∧ (vp_in (6 : Int32) n12 ∧ ((((f13 (6 : Int32).toNatClampNeg) = (1 : Int32)) → (post (-9223372036854775808 : Int64) N10)) ∧ (¬ ((f13 (6 : Int32).toNatClampNeg) = (1 : Int32)) → (post r9 N10))))) N4 a7 x1))))
theorem txX0_told {l : Launch} (hL : l.stackTraces = false) {G : gG} (hO : gOk G) {post : Int64 → NM → Prop} {MC MS : Nat} {N : NM} {x0 : Option Nat} {x1 : Nat} {sz : Nat} (h : wX0_told (gC G) post MC MS N x0 x1) : cx_Met l yX0_told (ws_ yX0_told cX0_told 4 (some .long)) ⟨204, MC, MS, 5889⟩ (va_Pc [va_rf x0, .ref x1] (cPre G [] N sz)) (gQ vL post (fun u H => cBw G (cA [] N sz) (jW u).1 (jW u).2 H) (cA [] N sz)) (cXC G (cA [] N sz) [] (fun _ _ _ => False)) MC MS (cA [] N sz) := by
  refine c_ofX (B := fun A u H => cBw G A (jW u).1 (jW u).2 H) (by decide) hO (by cases x0 <;> exact Nat.le_of_ble_eq_true rfl) (fun p e s m below meth c ls A X hr hlk hT hw hl => ?_)
  have hl : lv_has ls 4 [(0, va_rf x0), (1, .ref x1)] := by cases x0 <;> exact hl
  have hx := X.1.1
  have hb := X.1.2.1
  have hml := X.1.2.2.1
  have hown := X.1.2.2.2.1
  have hts := X.1.2.2.2.2
  obtain ⟨H, eH⟩ : ∃ z, z = s.heap := ⟨_, rfl⟩
  rw [← eH] at hw ⊢
  obtain ⟨locs, eLo⟩ : ∃ z : List Loc, z = [] := ⟨_, rfl⟩
  rw [← eLo] at hw ⊢
  have hbud : 0 + MC ≤ MC ∧ 0 + MS ≤ MS := by omega
  unfold wX0_told at h
  refine lv_aload_n (pc := 0) hx hb dX0_told_0 rfl (lv_at hl 1 rfl) ?_
  refine lv_bipush (pc := 1) (v := (6 : Int32)) hx hb dX0_told_1 (by decide) ?_
  refine lv_iconst (pc := 3) (v := (0 : Int32)) hx hb dX0_told_3 (by decide) ?_
  obtain ⟨n2, f3, hN1, h⟩ := h
  obtain ⟨hi, h⟩ := h
  refine c_iast (pc := 4) X hw hN1 hi dX0_told_4 (fun H locs hw => ?_)
  obtain ⟨N4, e5⟩ : ∃ z, z = va_up N x1 (some (eN 0 n2 (upd f3 (6 : Int32).toNatClampNeg (0 : Int32)))) := ⟨_, rfl⟩
  have hw : cH G A s [] N4 H locs := by rw [e5]; exact hw
  have h := h N4 e5
  have hN6 : N4 x1 = some (eN 0 n2 (upd f3 (6 : Int32).toNatClampNeg (0 : Int32))) := by rw [e5]; exact up_s
  refine lq_aload_n (pc := 5) hx hb dX0_told_5 rfl (lv_at hl 0 rfl) ?_
  refine lv_aload_n (pc := 6) hx hb dX0_told_6 rfl (lv_at hl 1 rfl) ?_
  obtain ⟨a7, hr8, h⟩ := h
  refine W.eq (g2 := F0 m 7 ls [.ref x1, .ref a7]) (by rw [hr8]; rfl) ?_
  refine c_sumOf (pc := 7) (d := 200) (rest := []) X hw (tSum X.2.2.1 200 h) q1903 ⟨Nat.le_of_ble_eq_true rfl, Nat.le_of_ble_eq_true rfl⟩ hl.1 (Nat.le_of_ble_eq_true rfl) ⟨show 0 ≤ MC by omega, show 0 ≤ MS by omega⟩ dX0_told_7 (fun r9 N10 H locs h hw => ?_)
  refine W.eq (g2 := F0 m 10 ls (.long r9 :: [])) rfl ?_
  refine lv_lstore_n (pc := 10) (lv' := [(2, .long r9), (0, va_rf x0), (1, .ref x1)]) hx hb dX0_told_10 rfl hl (by decide) rfl (fun ls hl => ?_)
  refine lv_aload_n (pc := 11) hx hb dX0_told_11 rfl (lv_at hl 2 rfl) ?_
  refine lv_bipush (pc := 12) (v := (6 : Int32)) hx hb dX0_told_12 (by decide) ?_
  obtain ⟨n12, f13, hN11, h⟩ := h
  obtain ⟨hi, h⟩ := h
  refine c_iald (pc := 14) X hw hN11 hi dX0_told_14 ?_
  refine lv_iconst (pc := 15) (v := (1 : Int32)) hx hb dX0_told_15 (by decide) ?_
  refine lv_icmp_ne (pc := 16) (tgt := 25) hx hb dX0_told_16 rfl (fun c14 => ?_) (fun c14 => ?_)
  · have h := h.2 c14
    refine lv_lload_n (pc := 25) hx hb dX0_told_25 rfl (lv_at hl 0 rfl) ?_
    refine W.widen (k := MC) (n := MS) (by omega) (by omega) ?_
    refine cx_ret ?_
    exact W.lret (pc := 26) hx hb hr (fun t ht hW => c_ret (val := vL) (lw := jW) (u := N10) hw h ht) hw.2.2.2 dX0_told_26 hlk
  · have h := h.1 c14
    refine lv_ldc2 (pc := 19) hx hb hown (hts _ q1925) dX0_told_19 ?_
    refine lv_goto (pc := 22) (tgt := 26) hx hb dX0_told_22 rfl ?_
    refine W.widen (k := MC) (n := MS) (by omega) (by omega) ?_
    refine cx_ret ?_
    exact W.lret (pc := 26) hx hb hr (fun t ht hW => c_ret (val := vL) (lw := jW) (u := N10) hw h ht) hw.2.2.2 dX0_told_26 hlk
theorem tX0_told {l : Launch} (hL : l.stackTraces = false) {G : gG} (hO : gOk G) {post : Int64 → NM → Prop} {MC MS : Nat} {N : NM} {x0 : Option Nat} {x1 : Nat} {sz : Nat} (h : wX0_told (gC G) post MC MS N x0 x1) : Met l yX0_told (ws_ yX0_told cX0_told 4 (some .long)) ⟨204, MC, MS, 5889⟩ (va_Pc [va_rf x0, .ref x1] (cPre G [] N sz)) (gQ vL post (fun u H => cBw G (cA [] N sz) (jW u).1 (jW u).2 H) (cA [] N sz)) MC MS (cA [] N sz) := cx_toMet (txX0_told hL hO h)

def wX0_look (K : Nat → Nat → Nat) (post : Int32 → NM → Prop) (MC MS : Nat) (N : NM) (x0 : Nat) (x1 : Int32) : Prop :=
  wX0_isSlot (fun r1 => ((r1 = (0 : Int32)) → (((x1 = (4 : Int32)) → (∃ f47 f48 f49 f50 f51 f52 f53 f54 f55 f56 f57 f58 f59 f60 f61 f62 f63 f64 f65, N x0 = some (eO 1 [va_rf f47, va_rf f48, va_rf f49, va_rf f50, va_rf f51, va_rf f52, va_rf f53, va_rf f54, va_rf f55, .int f56, .int f57, va_rf f58, va_rf f59, .int f60, va_rf f61, va_rf f62, va_rf f63, va_rf f64, va_rf f65]) ∧ (post f60 N))) ∧ (¬ (x1 = (4 : Int32)) → (((x1 = (5 : Int32)) → (∃ f27 f28 f29 f30 f31 f32 f33 f34 f35 f36 f37 f38 f39 f40 f41 f42 f43 f44 f45, N x0 = some (eO 1 [va_rf f27, va_rf f28, va_rf f29, va_rf f30, va_rf f31, va_rf f32, va_rf f33, va_rf f34, va_rf f35, .int f36, .int f37, va_rf f38, va_rf f39, .int f40, va_rf f41, va_rf f42, va_rf f43, va_rf f44, va_rf f45]) ∧ (post f36 N))) ∧ (¬ (x1 = (5 : Int32)) → (((x1 = (6 : Int32)) → (∃ f7 f8 f9 f10 f11 f12 f13 f14 f15 f16 f17 f18 f19 f20 f21 f22 f23 f24 f25, N x0 = some (eO 1 [va_rf f7, va_rf f8, va_rf f9, va_rf f10, va_rf f11, va_rf f12, va_rf f13, va_rf f14, va_rf f15, .int f16, .int f17, va_rf f18, va_rf f19, .int f20, va_rf f21, va_rf f22, va_rf f23, va_rf f24, va_rf f25]) ∧ (post f17 N))) ∧ (¬ (x1 = (6 : Int32)) → (post (-1 : Int32) N)))))))) ∧ (¬ (r1 = (0 : Int32)) → (∃ f73 f74 f75 f76 f77 f78 f79 f80 f81 f82 f83 f84 f85 f86 f87 f88 f89 f90 f91, N x0 = some (eO 1 [va_rf f73, va_rf f74, va_rf f75, va_rf f76, va_rf f77, va_rf f78, va_rf f79, va_rf f80, va_rf f81, .int f82, .int f83, va_rf f84, va_rf f85, .int f86, va_rf f87, va_rf f88, va_rf f89, va_rf f90, va_rf f91]) ∧ (∃ mc68 ms69, mc68 ≤ MC ∧ ms69 ≤ MS ∧ wX0_at K (fun r66 N67 => (r66 = none → (post (0 : Int32) N67)) ∧ (∀ a93, r66 = some a93 → (∃ f102 f103 f104 f105 f106 f107 f108 f109 f110 f111 f112 f113 f114 f115 f116 f117 f118 f119 f120, N67 x0 = some (eO 1 [va_rf f102, va_rf f103, va_rf f104, va_rf f105, va_rf f106, va_rf f107, va_rf f108, va_rf f109, va_rf f110, .int f111, .int f112, va_rf f113, va_rf f114, .int f115, va_rf f116, va_rf f117, va_rf f118, va_rf f119, va_rf f120]) ∧ (∃ mc97 ms98, mc97 ≤ (MC - mc68) ∧ ms98 ≤ (MS - ms69) ∧ wX0_at K (fun r95 N96 => ∃ a121, r95 = some a121 ∧ (∃ f126, N96 a121 = some (eO 7 [va_rf f126]) ∧ (wX6_many K (fun r123 N124 => post r123 N124) N96 a121))) mc97 ms98 N67 x0 x1)))) mc68 ms69 N x0 x1)))) x1
theorem txX0_look {l : Launch} (hL : l.stackTraces = false) {G : gG} (hO : gOk G) {post : Int32 → NM → Prop} {MC MS : Nat} {N : NM} {x0 : Nat} {x1 : Int32} {sz : Nat} (h : wX0_look (gC G) post MC MS N x0 x1) : cx_Met l yX0_look (ws_ yX0_look cX0_look 2 (some .int)) ⟨10, MC, MS, 10322⟩ (va_Pc [.ref x0, .int x1] (cPre G [] N sz)) (gQ vI post (fun u H => cBw G (cA [] N sz) (jW u).1 (jW u).2 H) (cA [] N sz)) (cXC G (cA [] N sz) [] (fun _ _ _ => False)) MC MS (cA [] N sz) := by
  refine c_ofX (B := fun A u H => cBw G A (jW u).1 (jW u).2 H) (by decide) hO (Nat.le_of_ble_eq_true rfl) (fun p e s m below meth c ls A X hr hlk hT hw hl => ?_)
  have hl : lv_has ls 2 [(0, .ref x0), (1, .int x1)] := hl
  have hx := X.1.1
  have hb := X.1.2.1
  have hml := X.1.2.2.1
  have hown := X.1.2.2.2.1
  have hts := X.1.2.2.2.2
  obtain ⟨H, eH⟩ : ∃ z, z = s.heap := ⟨_, rfl⟩
  rw [← eH] at hw ⊢
  obtain ⟨locs, eLo⟩ : ∃ z : List Loc, z = [] := ⟨_, rfl⟩
  rw [← eLo] at hw ⊢
  have hbud : 0 + MC ≤ MC ∧ 0 + MS ≤ MS := by omega
  unfold wX0_look at h
  refine lv_iload_n (pc := 0) hx hb dX0_look_0 rfl (lv_at hl 1 rfl) ?_
  refine s_call (pc := 1) (val := vI) (As := [.int x1]) (rest := []) X.1 (tX0_isSlot h) (lw_S q388 q389 q102 q390) ⟨by decide, by decide, (by decide +kernel : (parseMethodDescriptor yX0_isSlot.desc).map (fun d => d.parameters.length) = some 1)⟩ ⟨Nat.le_of_ble_eq_true rfl, Nat.le_of_ble_eq_true rfl⟩ hl.1 (Nat.le_of_ble_eq_true rfl) ⟨show 0 ≤ MC by omega, show 0 ≤ MS by omega⟩ dX0_look_1 rfl (fun r1 h => ?_)
  refine W.eq (g2 := F0 m 4 ls (.int r1 :: [])) rfl ?_
  refine lv_if_eq (pc := 4) (tgt := 28) hx hb dX0_look_4 rfl (fun c2 => ?_) (fun c2 => ?_)
  · have h := h.1 c2
    refine lv_iload_n (pc := 28) hx hb dX0_look_28 rfl (lv_at hl 1 rfl) ?_
    refine lv_iconst (pc := 29) (v := (4 : Int32)) hx hb dX0_look_29 (by decide) ?_
    refine lv_icmp_ne (pc := 30) (tgt := 40) hx hb dX0_look_30 rfl (fun c3 => ?_) (fun c3 => ?_)
    · have h := h.2 c3
      refine lv_iload_n (pc := 40) hx hb dX0_look_40 rfl (lv_at hl 1 rfl) ?_
      refine lv_iconst (pc := 41) (v := (5 : Int32)) hx hb dX0_look_41 (by decide) ?_
      refine lv_icmp_ne (pc := 42) (tgt := 52) hx hb dX0_look_42 rfl (fun c4 => ?_) (fun c4 => ?_)
      · have h := h.2 c4
        refine lv_iload_n (pc := 52) hx hb dX0_look_52 rfl (lv_at hl 1 rfl) ?_
        refine lv_bipush (pc := 53) (v := (6 : Int32)) hx hb dX0_look_53 (by decide) ?_
        refine lv_icmp_ne (pc := 55) (tgt := 65) hx hb dX0_look_55 rfl (fun c5 => ?_) (fun c5 => ?_)
        · have h := h.2 c5
          refine lv_iconst (pc := 65) (v := (-1 : Int32)) hx hb dX0_look_65 (by decide) ?_
          refine W.widen (k := MC) (n := MS) (by omega) (by omega) ?_
          refine cx_ret ?_
          exact W.iret (pc := 66) hx hb hr (fun t ht hW => c_ret (val := vI) (lw := jW) (u := N) hw h ht) hw.2.2.2 dX0_look_66 hlk
        · have h := h.1 c5
          refine lv_aload_n (pc := 58) hx hb dX0_look_58 rfl (lv_at hl 0 rfl) ?_
          obtain ⟨f7, f8, f9, f10, f11, f12, f13, f14, f15, f16, f17, f18, f19, f20, f21, f22, f23, f24, f25, hN6, h⟩ := h
          refine c_get (pc := 59) X hw hN6 in_X0 rfl 10 (by decide) q225 rfl rfl dX0_look_59 ?_
          refine lv_goto (pc := 62) (tgt := 66) hx hb dX0_look_62 rfl ?_
          refine W.widen (k := MC) (n := MS) (by omega) (by omega) ?_
          refine cx_ret ?_
          exact W.iret (pc := 66) hx hb hr (fun t ht hW => c_ret (val := vI) (lw := jW) (u := N) hw h ht) hw.2.2.2 dX0_look_66 hlk
      · have h := h.1 c4
        refine lv_aload_n (pc := 45) hx hb dX0_look_45 rfl (lv_at hl 0 rfl) ?_
        obtain ⟨f27, f28, f29, f30, f31, f32, f33, f34, f35, f36, f37, f38, f39, f40, f41, f42, f43, f44, f45, hN26, h⟩ := h
        refine c_get (pc := 46) X hw hN26 in_X0 rfl 9 (by decide) q223 rfl rfl dX0_look_46 ?_
        refine lv_goto (pc := 49) (tgt := 66) hx hb dX0_look_49 rfl ?_
        refine W.widen (k := MC) (n := MS) (by omega) (by omega) ?_
        refine cx_ret ?_
        exact W.iret (pc := 66) hx hb hr (fun t ht hW => c_ret (val := vI) (lw := jW) (u := N) hw h ht) hw.2.2.2 dX0_look_66 hlk
    · have h := h.1 c3
      refine lv_aload_n (pc := 33) hx hb dX0_look_33 rfl (lv_at hl 0 rfl) ?_
      obtain ⟨f47, f48, f49, f50, f51, f52, f53, f54, f55, f56, f57, f58, f59, f60, f61, f62, f63, f64, f65, hN46, h⟩ := h
      refine c_get (pc := 34) X hw hN46 in_X0 rfl 13 (by decide) q230 rfl rfl dX0_look_34 ?_
      refine lv_goto (pc := 37) (tgt := 66) hx hb dX0_look_37 rfl ?_
      refine W.widen (k := MC) (n := MS) (by omega) (by omega) ?_
      refine cx_ret ?_
      exact W.iret (pc := 66) hx hb hr (fun t ht hW => c_ret (val := vI) (lw := jW) (u := N) hw h ht) hw.2.2.2 dX0_look_66 hlk
  · have h := h.2 c2
    refine lv_aload_n (pc := 7) hx hb dX0_look_7 rfl (lv_at hl 0 rfl) ?_
    refine lv_iload_n (pc := 8) hx hb dX0_look_8 rfl (lv_at hl 1 rfl) ?_
    obtain ⟨f73, f74, f75, f76, f77, f78, f79, f80, f81, f82, f83, f84, f85, f86, f87, f88, f89, f90, f91, hN72, h⟩ := h
    obtain ⟨mc68, ms69, hm70, hm71, h⟩ := h
    refine c_callJ (pc := 9) (val := vQ) X hw (vx_runVW (C := RX0) (As := [.int x1]) (rest := []) X.1 (tX0_at hL X.2.2.1 (sz := H.size) h) (vx_cwVW 1 hts (lw_VW q898 q900 qs20 q102 q901) rfl rfl rfl ⟨rfl, by decide, by decide, (by decide +kernel : (parseMethodDescriptor yX0_at.desc).map (fun d => d.parameters.length) = some 1)⟩ ⟨Nat.le_of_ble_eq_true rfl, Nat.le_of_ble_eq_true rfl⟩) ⟨cPre_blind, c_recv X hw hN72 rfl, fun U hU hW => ⟨rfl, X.preJ hw hU hW⟩⟩ rfl rfl hl.1 rfl (lv_room (Nat.le_of_ble_eq_true rfl)) dX0_look_9 ⟨show 0 + mc68 ≤ MC by omega, show 0 + ms69 ≤ MS by omega⟩) (fun r66 N67 H locs h hw => ?_)
    refine W.eq (g2 := F0 m 12 ls (va_rf r66 :: [])) rfl ?_
    refine lq_ifnonnull (pc := 12) (tgt := 19) hx hb dX0_look_12 rfl (fun hz92 => ?_) (fun a93 hr94 => ?_)
    · have h := h.1 hz92
      refine lv_iconst (pc := 15) (v := (0 : Int32)) hx hb dX0_look_15 (by decide) ?_
      refine lv_goto (pc := 16) (tgt := 27) hx hb dX0_look_16 rfl ?_
      refine W.widen (k := MC) (n := MS) (by omega) (by omega) ?_
      refine cx_ret ?_
      exact W.iret (pc := 27) hx hb hr (fun t ht hW => c_ret (val := vI) (lw := jW) (u := N67) hw h ht) hw.2.2.2 dX0_look_27 hlk
    · have h := h.2 a93 hr94
      refine lv_aload_n (pc := 19) hx hb dX0_look_19 rfl (lv_at hl 0 rfl) ?_
      refine lv_iload_n (pc := 20) hx hb dX0_look_20 rfl (lv_at hl 1 rfl) ?_
      obtain ⟨f102, f103, f104, f105, f106, f107, f108, f109, f110, f111, f112, f113, f114, f115, f116, f117, f118, f119, f120, hN101, h⟩ := h
      obtain ⟨mc97, ms98, hm99, hm100, h⟩ := h
      refine c_callJ (pc := 21) (val := vQ) X hw (vx_runVW (C := RX0) (As := [.int x1]) (rest := []) X.1 (tX0_at hL X.2.2.1 (sz := H.size) h) (vx_cwVW 1 hts (lw_VW q898 q900 qs20 q102 q901) rfl rfl rfl ⟨rfl, by decide, by decide, (by decide +kernel : (parseMethodDescriptor yX0_at.desc).map (fun d => d.parameters.length) = some 1)⟩ ⟨Nat.le_of_ble_eq_true rfl, Nat.le_of_ble_eq_true rfl⟩) ⟨cPre_blind, c_recv X hw hN101 rfl, fun U hU hW => ⟨rfl, X.preJ hw hU hW⟩⟩ rfl rfl hl.1 rfl (lv_room (Nat.le_of_ble_eq_true rfl)) dX0_look_21 ⟨show 0 + mc68 + mc97 ≤ MC by omega, show 0 + ms69 + ms98 ≤ MS by omega⟩) (fun r95 N96 H locs h hw => ?_)
      refine W.eq (g2 := F0 m 24 ls (va_rf r95 :: [])) rfl ?_
      obtain ⟨a121, hr122, h⟩ := h
      refine W.eq (g2 := F0 m 24 ls [.ref a121]) (by rw [hr122]; rfl) ?_
      obtain ⟨f126, hN125, h⟩ := h
      refine c_callJ (pc := 24) (val := vI) X hw (va_runV (C := RX6) (As := []) (rest := []) X.1 (tX6_many X.2.2.1 (sz := H.size) h) (cwV 0 hts (lw_V q890 q891 q892 q129 q893) rfl rfl rfl ⟨rfl, by decide, by decide, (by decide +kernel : (parseMethodDescriptor yX6_many.desc).map (fun d => d.parameters.length) = some 0)⟩ ⟨Nat.le_of_ble_eq_true rfl, Nat.le_of_ble_eq_true rfl⟩) ⟨cPre_blind, c_recv X hw hN125 rfl, fun U hU hW => ⟨rfl, X.preJ hw hU hW⟩⟩ rfl rfl hl.1 rfl (lv_room (Nat.le_of_ble_eq_true rfl)) dX0_look_24 ⟨show 0 + mc68 + mc97 + 0 ≤ MC by omega, show 0 + ms69 + ms98 + 0 ≤ MS by omega⟩) (fun r123 N124 H locs h hw => ?_)
      refine W.eq (g2 := F0 m 27 ls (.int r123 :: [])) rfl ?_
      refine W.widen (k := MC) (n := MS) (by omega) (by omega) ?_
      refine cx_ret ?_
      exact W.iret (pc := 27) hx hb hr (fun t ht hW => c_ret (val := vI) (lw := jW) (u := N124) hw h ht) hw.2.2.2 dX0_look_27 hlk
theorem tX0_look {l : Launch} (hL : l.stackTraces = false) {G : gG} (hO : gOk G) {post : Int32 → NM → Prop} {MC MS : Nat} {N : NM} {x0 : Nat} {x1 : Int32} {sz : Nat} (h : wX0_look (gC G) post MC MS N x0 x1) : Met l yX0_look (ws_ yX0_look cX0_look 2 (some .int)) ⟨10, MC, MS, 10322⟩ (va_Pc [.ref x0, .int x1] (cPre G [] N sz)) (gQ vI post (fun u H => cBw G (cA [] N sz) (jW u).1 (jW u).2 H) (cA [] N sz)) MC MS (cA [] N sz) := cx_toMet (txX0_look hL hO h)

def wX2_must (K : Nat → Nat → Nat) (post : Unit → NM → Prop) (xp : Nat → List Nat → NM → Prop) (MC MS : Nat) (N : NM) (x0 : Nat) (x1 : Int32) (x2 : Int32) (x3 : Int32) : Prop :=
  ((x1 = (0 : Int32)) → (1 ≤ MC ∧ 8 ≤ MS ∧ (∀ nq4, N nq4 = none → (∀ N6, N6 = va_up N nq4 (some (eO 3 [va_rf none, va_rf none, va_rf none, va_rf none, va_rf none, .int (0 : Int32), .int (0 : Int32), .int (0 : Int32)])) → (wX3_init K (fun _ N10 => ∃ f12 f13 f14 f15 f16 f17 f18 f19, N10 nq4 = some (eO 3 [va_rf f12, va_rf f13, va_rf f14, va_rf f15, va_rf f16, .int f17, .int f18, .int f19]) ∧ (xp nq4 (nq4 :: []) N10)) N6 nq4 x2 x3))))) ∧ (¬ (x1 = (0 : Int32)) → (post () N))
theorem tX2_must {l : Launch} (hL : l.stackTraces = false) {G : gG} (hO : gOk G) {post : Unit → NM → Prop} {xp : Nat → List Nat → NM → Prop} {MC MS : Nat} {N : NM} {x0 : Nat} {x1 : Int32} {x2 : Int32} {x3 : Int32} {sz : Nat} (h : wX2_must (gC G) post xp MC MS N x0 x1 x2 x3) : cx_Met l yX2_must (ws_ yX2_must cX2_must 4 none) ⟨4, MC, MS, 90⟩ (va_Pc [.ref x0, .int x1, .int x2, .int x3] (cPre G [] N sz)) (gQ vV post (fun u H => cBw G (cA [] N sz) (jW u).1 (jW u).2 H) (cA [] N sz)) (cXC G (cA [] N sz) [3] xp) MC MS (cA [] N sz) := by
  refine c_ofX (B := fun A u H => cBw G A (jW u).1 (jW u).2 H) (by decide) hO (Nat.le_of_ble_eq_true rfl) (fun p e s m below meth c ls A X hr hlk hT hw hl => ?_)
  have hl : lv_has ls 4 [(0, .ref x0), (1, .int x1), (2, .int x2), (3, .int x3)] := hl
  have hx := X.1.1
  have hb := X.1.2.1
  have hml := X.1.2.2.1
  have hown := X.1.2.2.2.1
  have hts := X.1.2.2.2.2
  obtain ⟨H, eH⟩ : ∃ z, z = s.heap := ⟨_, rfl⟩
  rw [← eH] at hw ⊢
  obtain ⟨locs, eLo⟩ : ∃ z : List Loc, z = [] := ⟨_, rfl⟩
  rw [← eLo] at hw ⊢
  have hbud : 0 + MC ≤ MC ∧ 0 + MS ≤ MS := by omega
  unfold wX2_must at h
  refine lv_iload_n (pc := 0) hx hb dX2_must_0 rfl (lv_at hl 1 rfl) ?_
  refine lv_if_ne (pc := 1) (tgt := 14) hx hb dX2_must_1 rfl (fun c1 => ?_) (fun c1 => ?_)
  · have h := h.2 c1
    refine W.widen (k := MC) (n := MS) (by omega) (by omega) ?_
    refine cx_ret ?_
    exact W.vret (pc := 14) hx hb hr (fun t ht hW => c_ret (val := vV) (lw := jW) (u := N) (v := ()) hw h ht) hw.2.2.2 dX2_must_14 hlk
  · have h := h.1 c1
    obtain ⟨hm2, hm3, h⟩ := h
    refine c_newM (pc := 4) (ci := 3) (fs := [va_rf none, va_rf none, va_rf none, va_rf none, va_rf none, .int (0 : Int32), .int (0 : Int32), .int (0 : Int32)]) X hw in_X3 tyX3 tyX3_ok q423 q663 q125 rfl nf_X3 (show 0 + 1 ≤ MC by omega) (show 0 + 8 ≤ MS by omega) dX2_must_4 (fun nq4 H hq5 _ hw hf9 hMo => ?_)
    have hch := Mf.cons hf9 Mf.nil
    have h := h nq4 hq5
    obtain ⟨N6, e7⟩ : ∃ z, z = va_up N nq4 (some (eO 3 [va_rf none, va_rf none, va_rf none, va_rf none, va_rf none, .int (0 : Int32), .int (0 : Int32), .int (0 : Int32)])) := ⟨_, rfl⟩
    have hw : cH G A s [] N6 H locs := by rw [e7]; exact hw
    have h := h N6 e7
    have hN8 : N6 nq4 = some (eO 3 [va_rf none, va_rf none, va_rf none, va_rf none, va_rf none, .int (0 : Int32), .int (0 : Int32), .int (0 : Int32)]) := by rw [e7]; exact up_s
    refine lv_dup (pc := 7) hx hb dX2_must_7 rfl ?_
    refine lv_iload_n (pc := 8) hx hb dX2_must_8 rfl (lv_at hl 2 rfl) ?_
    refine lv_iload_n (pc := 9) hx hb dX2_must_9 rfl (lv_at hl 3 rfl) ?_
    refine mo_row (dc := 0) (dn := 0) (g2 := F0 m 13 ls [.ref nq4]) X hw ⟨show 0 + 1 ≤ MC by omega, show 0 + 8 ≤ MS by omega⟩ (fun s Q X hw kk => by have hts := X.1.2.2.2.2; exact c_callJ (pc := 10) (Q := Q) (val := vV) X hw (va_runI (As := [.int x2, .int x3]) (rest := [.ref nq4]) X.1 (tX3_init X.2.2.1 (sz := H.size) h) (cwI 2 hts (lw_meth q673) rfl rfl rfl (hts _ q125) (hts _ q671) (hts _ q672) rfl ⟨by decide, by decide, (by decide +kernel : (parseMethodDescriptor yX3_init.desc).map (fun d => d.parameters.length) = some 2)⟩ ⟨Nat.le_of_ble_eq_true rfl, Nat.le_of_ble_eq_true rfl⟩) ⟨cPre_blind, fun U hU hW => ⟨rfl, X.preJ hw hU hW⟩⟩ rfl rfl hl.1 rfl (lv_room (Nat.le_of_ble_eq_true rfl)) dX2_must_10 ⟨show 0 + 0 ≤ MC - (0 + 1) by omega, show 0 + 0 ≤ MS - (0 + 8) by omega⟩) (fun _ N9 H1 locs1 h hw1 => kk N9 H1 locs1 h hw1)) (fun N10 H locs h hw hMo => ?_)
    have hch := hMo.all hch
    refine W.eq (g2 := F0 m 13 ls ([.ref nq4])) rfl ?_
    obtain ⟨f12, f13, f14, f15, f16, f17, f18, f19, hN11, h⟩ := h
    refine vx_athrow (pc := 13) hx hb dX2_must_13 ?_
    exact cx_outJ (pc := 13) X hw hN11 rfl (by decide) (by rw [hT]; intro x hx; cases hx) hlk hch h (by omega) (by omega)

def wX2_number_88 (K : Nat → Nat → Nat) (post : Int32 → NM → Prop) (xp : Nat → List Nat → NM → Prop) (x0 : Nat) (x1 : Int32) (v0 : Int32) (v1 : Nat) (mc ms : Nat) (N : NM) : Prop :=
  ∃ f49 f50 f51 f52, N x0 = some (eO 2 [.int f49, .int f50, .int f51, va_rf f52]) ∧ (∃ f60 f61 f62 f63, N v1 = some (eO 2 [.int f60, .int f61, .int f62, va_rf f63]) ∧ (∃ mc55 ms56, mc55 ≤ mc ∧ ms56 ≤ ms ∧ wX2_must K (fun _ N54 => ∃ f74 f75 f76 f77, N54 x0 = some (eO 2 [.int f74, .int f75, .int f76, va_rf f77]) ∧ (wX2_skips K (fun _ N72 => post x1 N72) N54 x0)) (fun q64 ch70 N65 => (∀ fs67, N65 q64 = some (eO 3 fs67) → (xp q64 ch70 N65))) mc55 ms56 N v1 v0 (1 : Int32) f50))
def wX2_number_56 (K : Nat → Nat → Nat) (K23 : Nat → Int32 → Nat → Nat → NM → Prop) (post : Int32 → NM → Prop) (xp : Nat → List Nat → NM → Prop) (x0 : Nat) (x1 : Int32) (mc ms : Nat) (N : NM) : Prop :=
  ∃ f85 f86 f87 f88, N x0 = some (eO 2 [.int f85, .int f86, .int f87, va_rf f88]) ∧ (∀ N89, N89 = va_up N x0 (some (eO 2 [.int (f85 + (1 : Int32)), .int f86, .int f87, va_rf f88])) → (K23 x0 x1 mc ms N89))
def wX2_number_23 (K : Nat → Nat → Nat) (post : Int32 → NM → Prop) (xp : Nat → List Nat → NM → Prop) : Nat → Nat → Int32 → Nat → Nat → NM → Prop
  | 0, _, _, _, _, _ => False
  | n + 1, x0, x1, mc, ms, N => ∃ f37 f38 f39 f40, N x0 = some (eO 2 [.int f37, .int f38, .int f39, va_rf f40]) ∧ (wX2_isDigit K (fun r34 N35 => ((r34 = (0 : Int32)) → (∃ f43 f44 f45 f46, N35 x0 = some (eO 2 [.int f43, .int f44, .int f45, va_rf f46]) ∧ ((((4 : Int32) < (f43 - f44)) → (wX2_number_88 K post xp x0 x1 (0 : Int32) x0 mc ms N35)) ∧ (¬ ((4 : Int32) < (f43 - f44)) → (wX2_number_88 K post xp x0 x1 (1 : Int32) x0 mc ms N35))))) ∧ (¬ (r34 = (0 : Int32)) → (∃ f79 f80 f81 f82, N35 x0 = some (eO 2 [.int f79, .int f80, .int f81, va_rf f82]) ∧ ((((4 : Int32) ≤ (f79 - f80)) → (wX2_number_56 K (fun x0 x1 mc ms N => wX2_number_23 K post xp n x0 x1 mc ms N) post xp x0 x1 mc ms N35)) ∧ (¬ ((4 : Int32) ≤ (f79 - f80)) → (wX2_here K (fun r92 N93 => wX2_number_56 K (fun x0 x1 mc ms N => wX2_number_23 K post xp n x0 x1 mc ms N) post xp x0 ((((10 : Int32) * x1) + r92) - (48 : Int32)) mc ms N93) N35 x0)))))) N x0)
def wX2_number (K : Nat → Nat → Nat) (post : Int32 → NM → Prop) (xp : Nat → List Nat → NM → Prop) (MC MS : Nat) (N : NM) (x0 : Nat) : Prop :=
  ∃ f4 f5 f6 f7, N x0 = some (eO 2 [.int f4, .int f5, .int f6, va_rf f7]) ∧ (wX2_isDigit K (fun r1 N2 => ∃ f9 f10 f11 f12, N2 x0 = some (eO 2 [.int f9, .int f10, .int f11, va_rf f12]) ∧ (∃ mc15 ms16, mc15 ≤ MC ∧ ms16 ≤ MS ∧ wX2_must K (fun _ N14 => ∃ f27 f28 f29 f30, N14 x0 = some (eO 2 [.int f27, .int f28, .int f29, va_rf f30]) ∧ (∀ N31, N31 = va_up N14 x0 (some (eO 2 [.int f27, .int f27, .int f29, va_rf f30])) → ((∃ k, wX2_number_23 K post xp k x0 (0 : Int32) (MC - mc15) (MS - ms16) N31)))) (fun q19 ch25 N20 => (∀ fs22, N20 q19 = some (eO 3 fs22) → (xp q19 ch25 N20))) mc15 ms16 N2 x0 r1 (1 : Int32) f9)) N x0)
theorem kX2_number_88 {p : Program} {l : Launch} {e : Env} {s : State} {m : MethodId} {args : Array Value} {below : List Frame} {meth : Method} {c : Code} {G : gG} {A : Nat → Prop} {MC MS : Nat} {post : Int32 → NM → Prop} {xp : Nat → List Nat → NM → Prop} (X : cX G A RX2 p s m args c cX2_number 2) (hr : meth.sig.returnType = (some .int)) (hlk : meth.locks = false) (hL : l.stackTraces = false) (hT : c.exceptionTable.toList = tableOf []) : ∀ (x0 : Nat) (x1 : Int32) (v0 : Int32) (v1 : Nat) (mc ms : Nat) (N : NM) (H : Heap) (locs : List Loc) (ls : Array Slot) (cells slots : Nat), wX2_number_88 (gC G) post xp x0 x1 v0 v1 mc ms N → (cH G A s [] N H locs ∧ cells + mc ≤ MC ∧ slots + ms ≤ MS) → lv_has ls 2 [(0, .ref x0), (1, .int x1)] → W p l e ⟨5, MC, MS, 113⟩ s m args below meth c H locs cells slots (cx_MQ below (gQ vI post (fun u H => cBw G A (jW u).1 (jW u).2 H) A) (cXC G A [3] xp) args s MC MS A) (F0 m 88 ls [.int v0, .ref v1]) := by
  have hx := X.1.1
  have hb := X.1.2.1
  have hml := X.1.2.2.1
  have hown := X.1.2.2.2.1
  have hts := X.1.2.2.2.2
  intro x0 x1 v0 v1 mc ms N H locs ls cells slots h hw0 hl
  obtain ⟨hw, hbud⟩ := hw0
  unfold wX2_number_88 at h
  refine lv_iconst (pc := 88) (v := (1 : Int32)) hx hb dX2_number_88 (by decide) ?_
  refine lv_aload_n (pc := 89) hx hb dX2_number_89 rfl (lv_at hl 0 rfl) ?_
  obtain ⟨f49, f50, f51, f52, hN48, h⟩ := h
  refine c_get (pc := 90) X hw hN48 in_X2 rfl 1 (by decide) q407 rfl rfl dX2_number_90 ?_
  obtain ⟨f60, f61, f62, f63, hN59, h⟩ := h
  obtain ⟨mc55, ms56, hm57, hm58, h⟩ := h
  refine cx_callJ (pc := 93) (val := vV) X hw (cx_runV (C := RX2) (As := [.int v0, .int (1 : Int32), .int f50]) (rest := []) X.1 (tX2_must hL X.2.2.1 (sz := H.size) h) (cwV 3 hts (lw_V q659 q661 qs9 q113 q662) rfl rfl rfl ⟨rfl, by decide, by decide, (by decide +kernel : (parseMethodDescriptor yX2_must.desc).map (fun d => d.parameters.length) = some 3)⟩ ⟨Nat.le_of_ble_eq_true rfl, Nat.le_of_ble_eq_true rfl⟩) ⟨cPre_blind, c_recv X hw hN59 rfl, fun U hU hW => ⟨rfl, X.preJ hw hU hW⟩⟩ rfl rfl hl.1 rfl (lv_room (Nat.le_of_ble_eq_true rfl)) dX2_number_93 ⟨show cells + mc55 ≤ MC by omega, show slots + ms56 ≤ MS by omega⟩) (fun q64 N65 H locs ci66 fs67 ch70 hci68 hNq69 h hw hch => ?_) (fun _ N54 H locs h hw => ?_)
  · have hci68 := List.mem_singleton.mp hci68
    subst hci68
    have h := h fs67 hNq69
    exact cx_outJ (pc := 93) X hw hNq69 rfl (by decide) (by rw [hT]; intro x hx; cases hx) hlk hch h (by omega) (by omega)
  refine W.eq (g2 := F0 m 96 ls ([])) rfl ?_
  refine lv_aload_n (pc := 96) hx hb dX2_number_96 rfl (lv_at hl 0 rfl) ?_
  obtain ⟨f74, f75, f76, f77, hN73, h⟩ := h
  refine c_callJ (pc := 97) (val := vV) X hw (va_runV (C := RX2) (As := []) (rest := []) X.1 (tX2_skips X.2.2.1 (sz := H.size) h) (cwV 0 hts (lw_V q398 q400 qs3 q113 q401) rfl rfl rfl ⟨rfl, by decide, by decide, (by decide +kernel : (parseMethodDescriptor yX2_skips.desc).map (fun d => d.parameters.length) = some 0)⟩ ⟨Nat.le_of_ble_eq_true rfl, Nat.le_of_ble_eq_true rfl⟩) ⟨cPre_blind, c_recv X hw hN73 rfl, fun U hU hW => ⟨rfl, X.preJ hw hU hW⟩⟩ rfl rfl hl.1 rfl (lv_room (Nat.le_of_ble_eq_true rfl)) dX2_number_97 ⟨show cells + mc55 + 0 ≤ MC by omega, show slots + ms56 + 0 ≤ MS by omega⟩) (fun _ N72 H locs h hw => ?_)
  refine W.eq (g2 := F0 m 100 ls ([])) rfl ?_
  refine lv_iload_n (pc := 100) hx hb dX2_number_100 rfl (lv_at hl 1 rfl) ?_
  refine W.widen (k := MC) (n := MS) (by omega) (by omega) ?_
  refine cx_ret ?_
  exact W.iret (pc := 101) hx hb hr (fun t ht hW => c_ret (val := vI) (lw := jW) (u := N72) hw h ht) hw.2.2.2 dX2_number_101 hlk
theorem kX2_number_56 {p : Program} {l : Launch} {e : Env} {s : State} {m : MethodId} {args : Array Value} {below : List Frame} {meth : Method} {c : Code} {G : gG} {A : Nat → Prop} {MC MS : Nat} {K23 : Nat → Int32 → Nat → Nat → NM → Prop} {post : Int32 → NM → Prop} {xp : Nat → List Nat → NM → Prop} (X : cX G A RX2 p s m args c cX2_number 2) (hr : meth.sig.returnType = (some .int)) (hlk : meth.locks = false) (hL : l.stackTraces = false) (hT : c.exceptionTable.toList = tableOf []) (hK23 : ∀ (x0 : Nat) (x1 : Int32) (mc ms : Nat) (N : NM) (H : Heap) (locs : List Loc) (ls : Array Slot) (cells slots : Nat), K23 x0 x1 mc ms N → (cH G A s [] N H locs ∧ cells + mc ≤ MC ∧ slots + ms ≤ MS) → lv_has ls 2 [(0, .ref x0), (1, .int x1)] → W p l e ⟨5, MC, MS, 113⟩ s m args below meth c H locs cells slots (cx_MQ below (gQ vI post (fun u H => cBw G A (jW u).1 (jW u).2 H) A) (cXC G A [3] xp) args s MC MS A) (F0 m 23 ls [])) : ∀ (x0 : Nat) (x1 : Int32) (mc ms : Nat) (N : NM) (H : Heap) (locs : List Loc) (ls : Array Slot) (cells slots : Nat), wX2_number_56 (gC G) K23 post xp x0 x1 mc ms N → (cH G A s [] N H locs ∧ cells + mc ≤ MC ∧ slots + ms ≤ MS) → lv_has ls 2 [(0, .ref x0), (1, .int x1)] → W p l e ⟨5, MC, MS, 113⟩ s m args below meth c H locs cells slots (cx_MQ below (gQ vI post (fun u H => cBw G A (jW u).1 (jW u).2 H) A) (cXC G A [3] xp) args s MC MS A) (F0 m 56 ls []) := by
  have hx := X.1.1
  have hb := X.1.2.1
  have hml := X.1.2.2.1
  have hown := X.1.2.2.2.1
  have hts := X.1.2.2.2.2
  intro x0 x1 mc ms N H locs ls cells slots h hw0 hl
  obtain ⟨hw, hbud⟩ := hw0
  unfold wX2_number_56 at h
  refine lv_aload_n (pc := 56) hx hb dX2_number_56 rfl (lv_at hl 0 rfl) ?_
  refine lv_dup (pc := 57) hx hb dX2_number_57 rfl ?_
  obtain ⟨f85, f86, f87, f88, hN84, h⟩ := h
  refine c_get (pc := 58) X hw hN84 in_X2 rfl 0 (by decide) q406 rfl rfl dX2_number_58 ?_
  refine lv_iconst (pc := 61) (v := (1 : Int32)) hx hb dX2_number_61 (by decide) ?_
  refine lv_iadd (pc := 62) hx hb dX2_number_62 ?_
  refine c_put (pc := 63) X hw hN84 in_X2 tyX2 tyX2_ok nmX2 rfl 0 (by decide) q406 rfl rfl rfl rfl rfl (Nat.le_of_ble_eq_true rfl) dX2_number_63 (fun H locs hw => ?_)
  obtain ⟨N89, e90⟩ : ∃ z, z = va_up N x0 (some (eO 2 [.int (f85 + (1 : Int32)), .int f86, .int f87, va_rf f88])) := ⟨_, rfl⟩
  have hw : cH G A s [] N89 H locs := by rw [e90]; exact hw
  have h := h N89 e90
  have hN91 : N89 x0 = some (eO 2 [.int (f85 + (1 : Int32)), .int f86, .int f87, va_rf f88]) := by rw [e90]; exact up_s
  refine lv_goto (pc := 66) (tgt := 23) hx hb dX2_number_66 rfl ?_
  exact hK23 _ _ _ _ _ _ _ _ _ _ h ⟨hw, by omega⟩ (lv_sub hl [0, 1] rfl)
theorem kX2_number_23 {p : Program} {l : Launch} {e : Env} {s : State} {m : MethodId} {args : Array Value} {below : List Frame} {meth : Method} {c : Code} {G : gG} {A : Nat → Prop} {MC MS : Nat} {post : Int32 → NM → Prop} {xp : Nat → List Nat → NM → Prop} (X : cX G A RX2 p s m args c cX2_number 2) (hr : meth.sig.returnType = (some .int)) (hlk : meth.locks = false) (hL : l.stackTraces = false) (hT : c.exceptionTable.toList = tableOf []) : ∀ (n : Nat) (x0 : Nat) (x1 : Int32) (mc ms : Nat) (N : NM) (H : Heap) (locs : List Loc) (ls : Array Slot) (cells slots : Nat), wX2_number_23 (gC G) post xp n x0 x1 mc ms N → (cH G A s [] N H locs ∧ cells + mc ≤ MC ∧ slots + ms ≤ MS) → lv_has ls 2 [(0, .ref x0), (1, .int x1)] → W p l e ⟨5, MC, MS, 113⟩ s m args below meth c H locs cells slots (cx_MQ below (gQ vI post (fun u H => cBw G A (jW u).1 (jW u).2 H) A) (cXC G A [3] xp) args s MC MS A) (F0 m 23 ls []) := by
  have hx := X.1.1
  have hb := X.1.2.1
  have hml := X.1.2.2.1
  have hown := X.1.2.2.2.1
  have hts := X.1.2.2.2.2
  intro n
  induction n with
  | zero =>
    intro x0 x1 mc ms N H locs ls cells slots h
    exact False.elim h
  | succ n ih =>
    intro x0 x1 mc ms N H locs ls cells slots h hw0 hl
    obtain ⟨hw, hbud⟩ := hw0
    unfold wX2_number_23 at h
    refine lv_aload_n (pc := 23) hx hb dX2_number_23 rfl (lv_at hl 0 rfl) ?_
    obtain ⟨f37, f38, f39, f40, hN36, h⟩ := h
    refine c_callJ (pc := 24) (val := vI) X hw (va_runV (C := RX2) (As := []) (rest := []) X.1 (tX2_isDigit X.2.2.1 (sz := H.size) h) (cwV 0 hts (lw_V q454 q456 qs6 q113 q457) rfl rfl rfl ⟨rfl, by decide, by decide, (by decide +kernel : (parseMethodDescriptor yX2_isDigit.desc).map (fun d => d.parameters.length) = some 0)⟩ ⟨Nat.le_of_ble_eq_true rfl, Nat.le_of_ble_eq_true rfl⟩) ⟨cPre_blind, c_recv X hw hN36 rfl, fun U hU hW => ⟨rfl, X.preJ hw hU hW⟩⟩ rfl rfl hl.1 rfl (lv_room (Nat.le_of_ble_eq_true rfl)) dX2_number_24 ⟨show cells + 0 ≤ MC by omega, show slots + 0 ≤ MS by omega⟩) (fun r34 N35 H locs h hw => ?_)
    refine W.eq (g2 := F0 m 27 ls (.int r34 :: [])) rfl ?_
    refine lv_if_eq (pc := 27) (tgt := 69) hx hb dX2_number_27 rfl (fun c41 => ?_) (fun c41 => ?_)
    · have h := h.1 c41
      refine lv_aload_n (pc := 69) hx hb dX2_number_69 rfl (lv_at hl 0 rfl) ?_
      refine lv_aload_n (pc := 70) hx hb dX2_number_70 rfl (lv_at hl 0 rfl) ?_
      obtain ⟨f43, f44, f45, f46, hN42, h⟩ := h
      refine c_get (pc := 71) X hw hN42 in_X2 rfl 0 (by decide) q406 rfl rfl dX2_number_71 ?_
      refine lv_aload_n (pc := 74) hx hb dX2_number_74 rfl (lv_at hl 0 rfl) ?_
      refine c_get (pc := 75) X hw hN42 in_X2 rfl 1 (by decide) q407 rfl rfl dX2_number_75 ?_
      refine lv_isub (pc := 78) hx hb dX2_number_78 ?_
      refine lv_iconst (pc := 79) (v := (4 : Int32)) hx hb dX2_number_79 (by decide) ?_
      refine lv_icmp_gt (pc := 80) (tgt := 87) hx hb dX2_number_80 rfl (fun c47 => ?_) (fun c47 => ?_)
      · have h := h.1 c47
        refine lv_iconst (pc := 87) (v := (0 : Int32)) hx hb dX2_number_87 (by decide) ?_
        exact kX2_number_88 X hr hlk hL hT  _ _ _ _ _ _ _ _ _ _ _ _ h ⟨hw, by omega⟩ (lv_sub hl [0, 1] rfl)
      · have h := h.2 c47
        refine lv_iconst (pc := 83) (v := (1 : Int32)) hx hb dX2_number_83 (by decide) ?_
        refine lv_goto (pc := 84) (tgt := 88) hx hb dX2_number_84 rfl ?_
        exact kX2_number_88 X hr hlk hL hT  _ _ _ _ _ _ _ _ _ _ _ _ h ⟨hw, by omega⟩ (lv_sub hl [0, 1] rfl)
    · have h := h.2 c41
      refine lv_aload_n (pc := 30) hx hb dX2_number_30 rfl (lv_at hl 0 rfl) ?_
      obtain ⟨f79, f80, f81, f82, hN78, h⟩ := h
      refine c_get (pc := 31) X hw hN78 in_X2 rfl 0 (by decide) q406 rfl rfl dX2_number_31 ?_
      refine lv_aload_n (pc := 34) hx hb dX2_number_34 rfl (lv_at hl 0 rfl) ?_
      refine c_get (pc := 35) X hw hN78 in_X2 rfl 1 (by decide) q407 rfl rfl dX2_number_35 ?_
      refine lv_isub (pc := 38) hx hb dX2_number_38 ?_
      refine lv_iconst (pc := 39) (v := (4 : Int32)) hx hb dX2_number_39 (by decide) ?_
      refine lv_icmp_ge (pc := 40) (tgt := 56) hx hb dX2_number_40 rfl (fun c83 => ?_) (fun c83 => ?_)
      · have h := h.1 c83
        exact kX2_number_56 X hr hlk hL hT ih _ _ _ _ _ _ _ _ _ _ h ⟨hw, by omega⟩ (lv_sub hl [0, 1] rfl)
      · have h := h.2 c83
        refine lv_bipush (pc := 43) (v := (10 : Int32)) hx hb dX2_number_43 (by decide) ?_
        refine lv_iload_n (pc := 45) hx hb dX2_number_45 rfl (lv_at hl 1 rfl) ?_
        refine lv_imul (pc := 46) hx hb dX2_number_46 ?_
        refine lv_aload_n (pc := 47) hx hb dX2_number_47 rfl (lv_at hl 0 rfl) ?_
        refine c_callJ (pc := 48) (val := vI) X hw (va_runV (C := RX2) (As := []) (rest := [.int ((10 : Int32) * x1)]) X.1 (tX2_here X.2.2.1 (sz := H.size) h) (cwV 0 hts (lw_V q402 q404 qs4 q113 q405) rfl rfl rfl ⟨rfl, by decide, by decide, (by decide +kernel : (parseMethodDescriptor yX2_here.desc).map (fun d => d.parameters.length) = some 0)⟩ ⟨Nat.le_of_ble_eq_true rfl, Nat.le_of_ble_eq_true rfl⟩) ⟨cPre_blind, c_recv X hw hN78 rfl, fun U hU hW => ⟨rfl, X.preJ hw hU hW⟩⟩ rfl rfl hl.1 rfl (lv_room (Nat.le_of_ble_eq_true rfl)) dX2_number_48 ⟨show cells + 0 + 0 ≤ MC by omega, show slots + 0 + 0 ≤ MS by omega⟩) (fun r92 N93 H locs h hw => ?_)
        refine W.eq (g2 := F0 m 51 ls (.int r92 :: [.int ((10 : Int32) * x1)])) rfl ?_
        refine lv_iadd (pc := 51) hx hb dX2_number_51 ?_
        refine lv_bipush (pc := 52) (v := (48 : Int32)) hx hb dX2_number_52 (by decide) ?_
        refine lv_isub (pc := 54) hx hb dX2_number_54 ?_
        refine lv_istore_n (pc := 55) (lv' := [(1, .int ((((10 : Int32) * x1) + r92) - (48 : Int32))), (0, .ref x0)]) hx hb dX2_number_55 rfl hl (by decide) rfl (fun ls hl => ?_)
        exact kX2_number_56 X hr hlk hL hT ih _ _ _ _ _ _ _ _ _ _ h ⟨hw, by omega⟩ (lv_sub hl [1, 0] rfl)
theorem tX2_number {l : Launch} (hL : l.stackTraces = false) {G : gG} (hO : gOk G) {post : Int32 → NM → Prop} {xp : Nat → List Nat → NM → Prop} {MC MS : Nat} {N : NM} {x0 : Nat} {sz : Nat} (h : wX2_number (gC G) post xp MC MS N x0) : cx_Met l yX2_number (ws_ yX2_number cX2_number 2 (some .int)) ⟨5, MC, MS, 113⟩ (va_Pc [.ref x0] (cPre G [] N sz)) (gQ vI post (fun u H => cBw G (cA [] N sz) (jW u).1 (jW u).2 H) (cA [] N sz)) (cXC G (cA [] N sz) [3] xp) MC MS (cA [] N sz) := by
  refine c_ofX (B := fun A u H => cBw G A (jW u).1 (jW u).2 H) (by decide) hO (Nat.le_of_ble_eq_true rfl) (fun p e s m below meth c ls A X hr hlk hT hw hl => ?_)
  have hl : lv_has ls 2 [(0, .ref x0)] := hl
  have hx := X.1.1
  have hb := X.1.2.1
  have hml := X.1.2.2.1
  have hown := X.1.2.2.2.1
  have hts := X.1.2.2.2.2
  obtain ⟨H, eH⟩ : ∃ z, z = s.heap := ⟨_, rfl⟩
  rw [← eH] at hw ⊢
  obtain ⟨locs, eLo⟩ : ∃ z : List Loc, z = [] := ⟨_, rfl⟩
  rw [← eLo] at hw ⊢
  have hbud : 0 + MC ≤ MC ∧ 0 + MS ≤ MS := by omega
  unfold wX2_number at h
  refine lv_aload_n (pc := 0) hx hb dX2_number_0 rfl (lv_at hl 0 rfl) ?_
  refine lv_aload_n (pc := 1) hx hb dX2_number_1 rfl (lv_at hl 0 rfl) ?_
  obtain ⟨f4, f5, f6, f7, hN3, h⟩ := h
  refine c_callJ (pc := 2) (val := vI) X hw (va_runV (C := RX2) (As := []) (rest := [.ref x0]) X.1 (tX2_isDigit X.2.2.1 (sz := H.size) h) (cwV 0 hts (lw_V q454 q456 qs6 q113 q457) rfl rfl rfl ⟨rfl, by decide, by decide, (by decide +kernel : (parseMethodDescriptor yX2_isDigit.desc).map (fun d => d.parameters.length) = some 0)⟩ ⟨Nat.le_of_ble_eq_true rfl, Nat.le_of_ble_eq_true rfl⟩) ⟨cPre_blind, c_recv X hw hN3 rfl, fun U hU hW => ⟨rfl, X.preJ hw hU hW⟩⟩ rfl rfl hl.1 rfl (lv_room (Nat.le_of_ble_eq_true rfl)) dX2_number_2 ⟨show 0 + 0 ≤ MC by omega, show 0 + 0 ≤ MS by omega⟩) (fun r1 N2 H locs h hw => ?_)
  refine W.eq (g2 := F0 m 5 ls (.int r1 :: [.ref x0])) rfl ?_
  refine lv_iconst (pc := 5) (v := (1 : Int32)) hx hb dX2_number_5 (by decide) ?_
  refine lv_aload_n (pc := 6) hx hb dX2_number_6 rfl (lv_at hl 0 rfl) ?_
  obtain ⟨f9, f10, f11, f12, hN8, h⟩ := h
  refine c_get (pc := 7) X hw hN8 in_X2 rfl 0 (by decide) q406 rfl rfl dX2_number_7 ?_
  obtain ⟨mc15, ms16, hm17, hm18, h⟩ := h
  refine cx_callJ (pc := 10) (val := vV) X hw (cx_runV (C := RX2) (As := [.int r1, .int (1 : Int32), .int f9]) (rest := []) X.1 (tX2_must hL X.2.2.1 (sz := H.size) h) (cwV 3 hts (lw_V q659 q661 qs9 q113 q662) rfl rfl rfl ⟨rfl, by decide, by decide, (by decide +kernel : (parseMethodDescriptor yX2_must.desc).map (fun d => d.parameters.length) = some 3)⟩ ⟨Nat.le_of_ble_eq_true rfl, Nat.le_of_ble_eq_true rfl⟩) ⟨cPre_blind, c_recv X hw hN8 rfl, fun U hU hW => ⟨rfl, X.preJ hw hU hW⟩⟩ rfl rfl hl.1 rfl (lv_room (Nat.le_of_ble_eq_true rfl)) dX2_number_10 ⟨show 0 + 0 + mc15 ≤ MC by omega, show 0 + 0 + ms16 ≤ MS by omega⟩) (fun q19 N20 H locs ci21 fs22 ch25 hci23 hNq24 h hw hch => ?_) (fun _ N14 H locs h hw => ?_)
  · have hci23 := List.mem_singleton.mp hci23
    subst hci23
    have h := h fs22 hNq24
    exact cx_outJ (pc := 10) X hw hNq24 rfl (by decide) (by rw [hT]; intro x hx; cases hx) hlk hch h (by omega) (by omega)
  refine W.eq (g2 := F0 m 13 ls ([])) rfl ?_
  refine lv_aload_n (pc := 13) hx hb dX2_number_13 rfl (lv_at hl 0 rfl) ?_
  refine lv_aload_n (pc := 14) hx hb dX2_number_14 rfl (lv_at hl 0 rfl) ?_
  obtain ⟨f27, f28, f29, f30, hN26, h⟩ := h
  refine c_get (pc := 15) X hw hN26 in_X2 rfl 0 (by decide) q406 rfl rfl dX2_number_15 ?_
  refine c_put (pc := 18) X hw hN26 in_X2 tyX2 tyX2_ok nmX2 rfl 1 (by decide) q407 rfl rfl rfl rfl rfl (Nat.le_of_ble_eq_true rfl) dX2_number_18 (fun H locs hw => ?_)
  obtain ⟨N31, e32⟩ : ∃ z, z = va_up N14 x0 (some (eO 2 [.int f27, .int f27, .int f29, va_rf f30])) := ⟨_, rfl⟩
  have hw : cH G A s [] N31 H locs := by rw [e32]; exact hw
  have h := h N31 e32
  have hN33 : N31 x0 = some (eO 2 [.int f27, .int f27, .int f29, va_rf f30]) := by rw [e32]; exact up_s
  refine lv_iconst (pc := 21) (v := (0 : Int32)) hx hb dX2_number_21 (by decide) ?_
  refine lv_istore_n (pc := 22) (lv' := [(1, .int (0 : Int32)), (0, .ref x0)]) hx hb dX2_number_22 rfl hl (by decide) rfl (fun ls hl => ?_)
  obtain ⟨k, h⟩ := h
  exact kX2_number_23 X hr hlk hL hT  k _ _ _ _ _ _ _ _ _ _ h ⟨hw, by omega⟩ (lv_sub hl [1, 0] rfl)

def wX2_whole (K : Nat → Nat → Nat) (post : Int32 → NM → Prop) (xp : Nat → List Nat → NM → Prop) (MC MS : Nat) (N : NM) (x0 : Nat) : Prop :=
  ∃ f4 f5 f6 f7, N x0 = some (eO 2 [.int f4, .int f5, .int f6, va_rf f7]) ∧ (wX2_passes_2 K (fun r1 N2 => ((r1 = (0 : Int32)) → (∃ f16 f17 f18 f19, N2 x0 = some (eO 2 [.int f16, .int f17, .int f18, va_rf f19]) ∧ (∃ mc11 ms12, mc11 ≤ MC ∧ ms12 ≤ MS ∧ wX2_number K (fun r9 N10 => post r9 N10) (fun q20 ch26 N21 => (∀ fs23, N21 q20 = some (eO 3 fs23) → (xp q20 ch26 N21))) mc11 ms12 N2 x0))) ∧ (¬ (r1 = (0 : Int32)) → (∃ f34 f35 f36 f37, N2 x0 = some (eO 2 [.int f34, .int f35, .int f36, va_rf f37]) ∧ (∃ mc29 ms30, mc29 ≤ MC ∧ ms30 ≤ MS ∧ wX2_number K (fun r27 N28 => post (-r27) N28) (fun q38 ch44 N39 => (∀ fs41, N39 q38 = some (eO 3 fs41) → (xp q38 ch44 N39))) mc29 ms30 N2 x0)))) N x0 (45 : Int32))
theorem tX2_whole {l : Launch} (hL : l.stackTraces = false) {G : gG} (hO : gOk G) {post : Int32 → NM → Prop} {xp : Nat → List Nat → NM → Prop} {MC MS : Nat} {N : NM} {x0 : Nat} {sz : Nat} (h : wX2_whole (gC G) post xp MC MS N x0) : cx_Met l yX2_whole (ws_ yX2_whole cX2_whole 1 (some .int)) ⟨6, MC, MS, 134⟩ (va_Pc [.ref x0] (cPre G [] N sz)) (gQ vI post (fun u H => cBw G (cA [] N sz) (jW u).1 (jW u).2 H) (cA [] N sz)) (cXC G (cA [] N sz) [3] xp) MC MS (cA [] N sz) := by
  refine c_ofX (B := fun A u H => cBw G A (jW u).1 (jW u).2 H) (by decide) hO (Nat.le_of_ble_eq_true rfl) (fun p e s m below meth c ls A X hr hlk hT hw hl => ?_)
  have hl : lv_has ls 1 [(0, .ref x0)] := hl
  have hx := X.1.1
  have hb := X.1.2.1
  have hml := X.1.2.2.1
  have hown := X.1.2.2.2.1
  have hts := X.1.2.2.2.2
  obtain ⟨H, eH⟩ : ∃ z, z = s.heap := ⟨_, rfl⟩
  rw [← eH] at hw ⊢
  obtain ⟨locs, eLo⟩ : ∃ z : List Loc, z = [] := ⟨_, rfl⟩
  rw [← eLo] at hw ⊢
  have hbud : 0 + MC ≤ MC ∧ 0 + MS ≤ MS := by omega
  unfold wX2_whole at h
  refine lv_aload_n (pc := 0) hx hb dX2_whole_0 rfl (lv_at hl 0 rfl) ?_
  refine lv_bipush (pc := 1) (v := (45 : Int32)) hx hb dX2_whole_1 (by decide) ?_
  obtain ⟨f4, f5, f6, f7, hN3, h⟩ := h
  refine c_callJ (pc := 3) (val := vI) X hw (va_runV (C := RX2) (As := [.int (45 : Int32)]) (rest := []) X.1 (tX2_passes_2 X.2.2.1 (sz := H.size) h) (cwV 1 hts (lw_V q765 q767 qs14 q113 q768) rfl rfl rfl ⟨rfl, by decide, by decide, (by decide +kernel : (parseMethodDescriptor yX2_passes_2.desc).map (fun d => d.parameters.length) = some 1)⟩ ⟨Nat.le_of_ble_eq_true rfl, Nat.le_of_ble_eq_true rfl⟩) ⟨cPre_blind, c_recv X hw hN3 rfl, fun U hU hW => ⟨rfl, X.preJ hw hU hW⟩⟩ rfl rfl hl.1 rfl (lv_room (Nat.le_of_ble_eq_true rfl)) dX2_whole_3 ⟨show 0 + 0 ≤ MC by omega, show 0 + 0 ≤ MS by omega⟩) (fun r1 N2 H locs h hw => ?_)
  refine W.eq (g2 := F0 m 6 ls (.int r1 :: [])) rfl ?_
  refine lv_if_eq (pc := 6) (tgt := 17) hx hb dX2_whole_6 rfl (fun c8 => ?_) (fun c8 => ?_)
  · have h := h.1 c8
    refine lv_aload_n (pc := 17) hx hb dX2_whole_17 rfl (lv_at hl 0 rfl) ?_
    obtain ⟨f16, f17, f18, f19, hN15, h⟩ := h
    obtain ⟨mc11, ms12, hm13, hm14, h⟩ := h
    refine cx_callJ (pc := 18) (val := vI) X hw (cx_runV (C := RX2) (As := []) (rest := []) X.1 (tX2_number hL X.2.2.1 (sz := H.size) h) (cwV 0 hts (lw_V q690 q692 qs10 q113 q693) rfl rfl rfl ⟨rfl, by decide, by decide, (by decide +kernel : (parseMethodDescriptor yX2_number.desc).map (fun d => d.parameters.length) = some 0)⟩ ⟨Nat.le_of_ble_eq_true rfl, Nat.le_of_ble_eq_true rfl⟩) ⟨cPre_blind, c_recv X hw hN15 rfl, fun U hU hW => ⟨rfl, X.preJ hw hU hW⟩⟩ rfl rfl hl.1 rfl (lv_room (Nat.le_of_ble_eq_true rfl)) dX2_whole_18 ⟨show 0 + 0 + mc11 ≤ MC by omega, show 0 + 0 + ms12 ≤ MS by omega⟩) (fun q20 N21 H locs ci22 fs23 ch26 hci24 hNq25 h hw hch => ?_) (fun r9 N10 H locs h hw => ?_)
    · have hci24 := List.mem_singleton.mp hci24
      subst hci24
      have h := h fs23 hNq25
      exact cx_outJ (pc := 18) X hw hNq25 rfl (by decide) (by rw [hT]; intro x hx; cases hx) hlk hch h (by omega) (by omega)
    refine W.eq (g2 := F0 m 21 ls (.int r9 :: [])) rfl ?_
    refine W.widen (k := MC) (n := MS) (by omega) (by omega) ?_
    refine cx_ret ?_
    exact W.iret (pc := 21) hx hb hr (fun t ht hW => c_ret (val := vI) (lw := jW) (u := N10) hw h ht) hw.2.2.2 dX2_whole_21 hlk
  · have h := h.2 c8
    refine lv_aload_n (pc := 9) hx hb dX2_whole_9 rfl (lv_at hl 0 rfl) ?_
    obtain ⟨f34, f35, f36, f37, hN33, h⟩ := h
    obtain ⟨mc29, ms30, hm31, hm32, h⟩ := h
    refine cx_callJ (pc := 10) (val := vI) X hw (cx_runV (C := RX2) (As := []) (rest := []) X.1 (tX2_number hL X.2.2.1 (sz := H.size) h) (cwV 0 hts (lw_V q690 q692 qs10 q113 q693) rfl rfl rfl ⟨rfl, by decide, by decide, (by decide +kernel : (parseMethodDescriptor yX2_number.desc).map (fun d => d.parameters.length) = some 0)⟩ ⟨Nat.le_of_ble_eq_true rfl, Nat.le_of_ble_eq_true rfl⟩) ⟨cPre_blind, c_recv X hw hN33 rfl, fun U hU hW => ⟨rfl, X.preJ hw hU hW⟩⟩ rfl rfl hl.1 rfl (lv_room (Nat.le_of_ble_eq_true rfl)) dX2_whole_10 ⟨show 0 + 0 + mc29 ≤ MC by omega, show 0 + 0 + ms30 ≤ MS by omega⟩) (fun q38 N39 H locs ci40 fs41 ch44 hci42 hNq43 h hw hch => ?_) (fun r27 N28 H locs h hw => ?_)
    · have hci42 := List.mem_singleton.mp hci42
      subst hci42
      have h := h fs41 hNq43
      exact cx_outJ (pc := 10) X hw hNq43 rfl (by decide) (by rw [hT]; intro x hx; cases hx) hlk hch h (by omega) (by omega)
    refine W.eq (g2 := F0 m 13 ls (.int r27 :: [])) rfl ?_
    refine lv_ineg (pc := 13) hx hb dX2_whole_13 ?_
    refine lv_goto (pc := 14) (tgt := 21) hx hb dX2_whole_14 rfl ?_
    refine W.widen (k := MC) (n := MS) (by omega) (by omega) ?_
    refine cx_ret ?_
    exact W.iret (pc := 21) hx hb hr (fun t ht hW => c_ret (val := vI) (lw := jW) (u := N28) hw h ht) hw.2.2.2 dX2_whole_21 hlk

def wX2_asks (K : Nat → Nat → Nat) (post : Unit → NM → Prop) (xp : Nat → List Nat → NM → Prop) (MC MS : Nat) (N : NM) (x0 : Nat) (x1 : Int32) : Prop :=
  ∃ f4 f5 f6 f7, N x0 = some (eO 2 [.int f4, .int f5, .int f6, va_rf f7]) ∧ (wX2_passes_2 K (fun r1 N2 => ∃ f9 f10 f11 f12, N2 x0 = some (eO 2 [.int f9, .int f10, .int f11, va_rf f12]) ∧ (∃ mc15 ms16, mc15 ≤ MC ∧ ms16 ≤ MS ∧ wX2_must K (fun _ N14 => post () N14) (fun q19 ch25 N20 => (∀ fs22, N20 q19 = some (eO 3 fs22) → (xp q19 ch25 N20))) mc15 ms16 N2 x0 r1 (1 : Int32) f9)) N x0 x1)
theorem tX2_asks {l : Launch} (hL : l.stackTraces = false) {G : gG} (hO : gOk G) {post : Unit → NM → Prop} {xp : Nat → List Nat → NM → Prop} {MC MS : Nat} {N : NM} {x0 : Nat} {x1 : Int32} {sz : Nat} (h : wX2_asks (gC G) post xp MC MS N x0 x1) : cx_Met l yX2_asks (ws_ yX2_asks cX2_asks 2 none) ⟨5, MC, MS, 113⟩ (va_Pc [.ref x0, .int x1] (cPre G [] N sz)) (gQ vV post (fun u H => cBw G (cA [] N sz) (jW u).1 (jW u).2 H) (cA [] N sz)) (cXC G (cA [] N sz) [3] xp) MC MS (cA [] N sz) := by
  refine c_ofX (B := fun A u H => cBw G A (jW u).1 (jW u).2 H) (by decide) hO (Nat.le_of_ble_eq_true rfl) (fun p e s m below meth c ls A X hr hlk hT hw hl => ?_)
  have hl : lv_has ls 2 [(0, .ref x0), (1, .int x1)] := hl
  have hx := X.1.1
  have hb := X.1.2.1
  have hml := X.1.2.2.1
  have hown := X.1.2.2.2.1
  have hts := X.1.2.2.2.2
  obtain ⟨H, eH⟩ : ∃ z, z = s.heap := ⟨_, rfl⟩
  rw [← eH] at hw ⊢
  obtain ⟨locs, eLo⟩ : ∃ z : List Loc, z = [] := ⟨_, rfl⟩
  rw [← eLo] at hw ⊢
  have hbud : 0 + MC ≤ MC ∧ 0 + MS ≤ MS := by omega
  unfold wX2_asks at h
  refine lv_aload_n (pc := 0) hx hb dX2_asks_0 rfl (lv_at hl 0 rfl) ?_
  refine lv_aload_n (pc := 1) hx hb dX2_asks_1 rfl (lv_at hl 0 rfl) ?_
  refine lv_iload_n (pc := 2) hx hb dX2_asks_2 rfl (lv_at hl 1 rfl) ?_
  obtain ⟨f4, f5, f6, f7, hN3, h⟩ := h
  refine c_callJ (pc := 3) (val := vI) X hw (va_runV (C := RX2) (As := [.int x1]) (rest := [.ref x0]) X.1 (tX2_passes_2 X.2.2.1 (sz := H.size) h) (cwV 1 hts (lw_V q765 q767 qs14 q113 q768) rfl rfl rfl ⟨rfl, by decide, by decide, (by decide +kernel : (parseMethodDescriptor yX2_passes_2.desc).map (fun d => d.parameters.length) = some 1)⟩ ⟨Nat.le_of_ble_eq_true rfl, Nat.le_of_ble_eq_true rfl⟩) ⟨cPre_blind, c_recv X hw hN3 rfl, fun U hU hW => ⟨rfl, X.preJ hw hU hW⟩⟩ rfl rfl hl.1 rfl (lv_room (Nat.le_of_ble_eq_true rfl)) dX2_asks_3 ⟨show 0 + 0 ≤ MC by omega, show 0 + 0 ≤ MS by omega⟩) (fun r1 N2 H locs h hw => ?_)
  refine W.eq (g2 := F0 m 6 ls (.int r1 :: [.ref x0])) rfl ?_
  refine lv_iconst (pc := 6) (v := (1 : Int32)) hx hb dX2_asks_6 (by decide) ?_
  refine lv_aload_n (pc := 7) hx hb dX2_asks_7 rfl (lv_at hl 0 rfl) ?_
  obtain ⟨f9, f10, f11, f12, hN8, h⟩ := h
  refine c_get (pc := 8) X hw hN8 in_X2 rfl 0 (by decide) q406 rfl rfl dX2_asks_8 ?_
  obtain ⟨mc15, ms16, hm17, hm18, h⟩ := h
  refine cx_callJ (pc := 11) (val := vV) X hw (cx_runV (C := RX2) (As := [.int r1, .int (1 : Int32), .int f9]) (rest := []) X.1 (tX2_must hL X.2.2.1 (sz := H.size) h) (cwV 3 hts (lw_V q659 q661 qs9 q113 q662) rfl rfl rfl ⟨rfl, by decide, by decide, (by decide +kernel : (parseMethodDescriptor yX2_must.desc).map (fun d => d.parameters.length) = some 3)⟩ ⟨Nat.le_of_ble_eq_true rfl, Nat.le_of_ble_eq_true rfl⟩) ⟨cPre_blind, c_recv X hw hN8 rfl, fun U hU hW => ⟨rfl, X.preJ hw hU hW⟩⟩ rfl rfl hl.1 rfl (lv_room (Nat.le_of_ble_eq_true rfl)) dX2_asks_11 ⟨show 0 + 0 + mc15 ≤ MC by omega, show 0 + 0 + ms16 ≤ MS by omega⟩) (fun q19 N20 H locs ci21 fs22 ch25 hci23 hNq24 h hw hch => ?_) (fun _ N14 H locs h hw => ?_)
  · have hci23 := List.mem_singleton.mp hci23
    subst hci23
    have h := h fs22 hNq24
    exact cx_outJ (pc := 11) X hw hNq24 rfl (by decide) (by rw [hT]; intro x hx; cases hx) hlk hch h (by omega) (by omega)
  refine W.eq (g2 := F0 m 14 ls ([])) rfl ?_
  refine W.widen (k := MC) (n := MS) (by omega) (by omega) ?_
  refine cx_ret ?_
  exact W.vret (pc := 14) hx hb hr (fun t ht hW => c_ret (val := vV) (lw := jW) (u := N14) (v := ()) hw h ht) hw.2.2.2 dX2_asks_14 hlk

def wX2_value_54 (K : Nat → Nat → Nat) (post : Int64 → NM → Prop) (xp : Nat → List Nat → NM → Prop) (x0 : Nat) (x1 : Option Nat) (x2 : Int32) (x3 : Int32) (x4 : Int32) (v0 : Int32) (v1 : Nat) (mc ms : Nat) (N : NM) : Prop :=
  ∃ f59 f60 f61 f62, N v1 = some (eO 2 [.int f59, .int f60, .int f61, va_rf f62]) ∧ (∃ mc54 ms55, mc54 ≤ mc ∧ ms55 ≤ ms ∧ wX2_must K (fun _ N53 => ∃ a70, x1 = some a70 ∧ (∃ f73, N53 a70 = some (eO 7 [va_rf f73]) ∧ (∃ a74, f73 = some a74 ∧ (∃ n77 f78, N53 a74 = some (eR 5 n77 f78) ∧ (vp_in x2 n77 ∧ (∃ a79, (f78 x2.toNatClampNeg) = some a79 ∧ (∃ f82 f83 f84 f85, N53 a79 = some (eO 6 [.int f82, .int f83, .int f84, va_rf f85]) ∧ (vp_in x2 n77 ∧ (wX0_isIn (fun r86 => ∃ f88 f89 f90 f91, N53 x0 = some (eO 2 [.int f88, .int f89, .int f90, va_rf f91]) ∧ (∃ mc94 ms95, mc94 ≤ (mc - mc54) ∧ ms95 ≤ (ms - ms55) ∧ wX2_must K (fun _ N93 => ∃ f106, N93 a70 = some (eO 7 [va_rf f106]) ∧ (∃ a107, f106 = some a107 ∧ (∃ n110 f111, N93 a107 = some (eR 5 n110 f111) ∧ (vp_in x2 n110 ∧ (∃ a112, (f111 x2.toNatClampNeg) = some a112 ∧ (∃ f117 f118 f119 f120, N93 a112 = some (eO 6 [.int f117, .int f118, .int f119, va_rf f120]) ∧ (wX4_value K (fun r114 N115 => post r114 N115) N93 a112 x4.toInt64))))))) (fun q98 ch104 N99 => (∀ fs101, N99 q98 = some (eO 3 fs101) → (xp q98 ch104 N99))) mc94 ms95 N53 x0 r86 (6 : Int32) f89)) x4.toInt64 f83.toInt64 f84.toInt64))))))))) (fun q63 ch69 N64 => (∀ fs66, N64 q63 = some (eO 3 fs66) → (xp q63 ch69 N64))) mc54 ms55 N v1 v0 (7 : Int32) x3)
def wX2_value_28 (K : Nat → Nat → Nat) (post : Int64 → NM → Prop) (xp : Nat → List Nat → NM → Prop) (x0 : Nat) (x1 : Option Nat) (x2 : Int32) (x3 : Int32) (v0 : Int32) (v1 : Nat) (mc ms : Nat) (N : NM) : Prop :=
  ∃ f16 f17 f18 f19, N v1 = some (eO 2 [.int f16, .int f17, .int f18, va_rf f19]) ∧ (∃ mc11 ms12, mc11 ≤ mc ∧ ms12 ≤ ms ∧ wX2_must K (fun _ N10 => ∃ f34 f35 f36 f37, N10 x0 = some (eO 2 [.int f34, .int f35, .int f36, va_rf f37]) ∧ (∃ mc29 ms30, mc29 ≤ (mc - mc11) ∧ ms30 ≤ (ms - ms12) ∧ wX2_whole K (fun r27 N28 => ∃ a45, x1 = some a45 ∧ (∃ f50, N28 a45 = some (eO 7 [va_rf f50]) ∧ (wX6_many K (fun r47 N48 => ((r47 ≤ x2) → (wX2_value_54 K post xp x0 x1 x2 x3 r27 (0 : Int32) x0 ((mc - mc11) - mc29) ((ms - ms12) - ms30) N48)) ∧ (¬ (r47 ≤ x2) → (wX2_value_54 K post xp x0 x1 x2 x3 r27 (1 : Int32) x0 ((mc - mc11) - mc29) ((ms - ms12) - ms30) N48))) N28 a45))) (fun q38 ch44 N39 => (∀ fs41, N39 q38 = some (eO 3 fs41) → (xp q38 ch44 N39))) mc29 ms30 N10 x0)) (fun q20 ch26 N21 => (∀ fs23, N21 q20 = some (eO 3 fs23) → (xp q20 ch26 N21))) mc11 ms12 N v1 v0 (7 : Int32) x3)
def wX2_value_23 (K : Nat → Nat → Nat) (post : Int64 → NM → Prop) (xp : Nat → List Nat → NM → Prop) (x0 : Nat) (x1 : Option Nat) (x2 : Int32) (x3 : Int32) (v0 : Nat) (mc ms : Nat) (N : NM) : Prop :=
  wX2_value_28 K post xp x0 x1 x2 x3 (1 : Int32) v0 mc ms N
def wX2_value (K : Nat → Nat → Nat) (post : Int64 → NM → Prop) (xp : Nat → List Nat → NM → Prop) (MC MS : Nat) (N : NM) (x0 : Nat) (x1 : Option Nat) (x2 : Int32) : Prop :=
  ∃ f2 f3 f4 f5, N x0 = some (eO 2 [.int f2, .int f3, .int f4, va_rf f5]) ∧ (wX2_here K (fun r6 N7 => ((r6 = (45 : Int32)) → (∃ a121, x1 = some a121 ∧ (∃ f126, N7 a121 = some (eO 7 [va_rf f126]) ∧ (wX6_many K (fun r123 N124 => ((r123 ≤ x2) → (wX2_value_28 K post xp x0 x1 x2 f2 (0 : Int32) x0 MC MS N124)) ∧ (¬ (r123 ≤ x2) → (wX2_value_23 K post xp x0 x1 x2 f2 x0 MC MS N124))) N7 a121)))) ∧ (¬ (r6 = (45 : Int32)) → (wX2_value_23 K post xp x0 x1 x2 f2 x0 MC MS N7))) N x0)
theorem kX2_value_54 {p : Program} {l : Launch} {e : Env} {s : State} {m : MethodId} {args : Array Value} {below : List Frame} {meth : Method} {c : Code} {G : gG} {A : Nat → Prop} {MC MS : Nat} {post : Int64 → NM → Prop} {xp : Nat → List Nat → NM → Prop} (X : cX G A RX2 p s m args c cX2_value 5) (hr : meth.sig.returnType = (some .long)) (hlk : meth.locks = false) (hL : l.stackTraces = false) (hT : c.exceptionTable.toList = tableOf []) : ∀ (x0 : Nat) (x1 : Option Nat) (x2 : Int32) (x3 : Int32) (x4 : Int32) (v0 : Int32) (v1 : Nat) (mc ms : Nat) (N : NM) (H : Heap) (locs : List Loc) (ls : Array Slot) (cells slots : Nat), wX2_value_54 (gC G) post xp x0 x1 x2 x3 x4 v0 v1 mc ms N → (cH G A s [] N H locs ∧ cells + mc ≤ MC ∧ slots + ms ≤ MS) → lv_has ls 5 [(0, .ref x0), (1, va_rf x1), (2, .int x2), (3, .int x3), (4, .int x4)] → W p l e ⟨7, MC, MS, 154⟩ s m args below meth c H locs cells slots (cx_MQ below (gQ vL post (fun u H => cBw G A (jW u).1 (jW u).2 H) A) (cXC G A [3] xp) args s MC MS A) (F0 m 54 ls [.int v0, .ref v1]) := by
  have hx := X.1.1
  have hb := X.1.2.1
  have hml := X.1.2.2.1
  have hown := X.1.2.2.2.1
  have hts := X.1.2.2.2.2
  intro x0 x1 x2 x3 x4 v0 v1 mc ms N H locs ls cells slots h hw0 hl
  obtain ⟨hw, hbud⟩ := hw0
  unfold wX2_value_54 at h
  refine lv_bipush (pc := 54) (v := (7 : Int32)) hx hb dX2_value_54 (by decide) ?_
  refine lv_iload_n (pc := 56) hx hb dX2_value_56 rfl (lv_at hl 3 rfl) ?_
  obtain ⟨f59, f60, f61, f62, hN58, h⟩ := h
  obtain ⟨mc54, ms55, hm56, hm57, h⟩ := h
  refine cx_callJ (pc := 57) (val := vV) X hw (cx_runV (C := RX2) (As := [.int v0, .int (7 : Int32), .int x3]) (rest := []) X.1 (tX2_must hL X.2.2.1 (sz := H.size) h) (cwV 3 hts (lw_V q659 q661 qs9 q113 q662) rfl rfl rfl ⟨rfl, by decide, by decide, (by decide +kernel : (parseMethodDescriptor yX2_must.desc).map (fun d => d.parameters.length) = some 3)⟩ ⟨Nat.le_of_ble_eq_true rfl, Nat.le_of_ble_eq_true rfl⟩) ⟨cPre_blind, c_recv X hw hN58 rfl, fun U hU hW => ⟨rfl, X.preJ hw hU hW⟩⟩ rfl rfl hl.1 rfl (lv_room (Nat.le_of_ble_eq_true rfl)) dX2_value_57 ⟨show cells + mc54 ≤ MC by omega, show slots + ms55 ≤ MS by omega⟩) (fun q63 N64 H locs ci65 fs66 ch69 hci67 hNq68 h hw hch => ?_) (fun _ N53 H locs h hw => ?_)
  · have hci67 := List.mem_singleton.mp hci67
    subst hci67
    have h := h fs66 hNq68
    exact cx_outJ (pc := 57) X hw hNq68 rfl (by decide) (by rw [hT]; intro x hx; cases hx) hlk hch h (by omega) (by omega)
  refine W.eq (g2 := F0 m 60 ls ([])) rfl ?_
  refine lv_aload_n (pc := 60) hx hb dX2_value_60 rfl (lv_at hl 0 rfl) ?_
  refine lv_iload (pc := 61) hx hb dX2_value_61 (lv_at hl 4 rfl) ?_
  refine lv_i2l (pc := 63) hx hb dX2_value_63 rfl ?_
  refine lq_aload_n (pc := 64) hx hb dX2_value_64 rfl (lv_at hl 1 rfl) ?_
  obtain ⟨a70, hr71, h⟩ := h
  refine W.eq (g2 := F0 m 65 ls [.ref a70, .long x4.toInt64, .ref x0]) (by rw [hr71]; rfl) ?_
  obtain ⟨f73, hN72, h⟩ := h
  refine c_getN (pc := 65) X hw hN72 in_X6 rfl 0 (by decide) q886 rfl rfl dX2_value_65 ?_
  refine lv_iload_n (pc := 68) hx hb dX2_value_68 rfl (lv_at hl 2 rfl) ?_
  obtain ⟨a74, hr75, h⟩ := h
  refine W.eq (g2 := F0 m 69 ls [.int x2, .ref a74, .long x4.toInt64, .ref x0]) (by rw [hr75]; rfl) ?_
  obtain ⟨n77, f78, hN76, h⟩ := h
  obtain ⟨hi, h⟩ := h
  refine c_aald (pc := 69) X hw 5 hN76 rfl hi dX2_value_69 ?_
  obtain ⟨a79, hr80, h⟩ := h
  refine W.eq (g2 := F0 m 70 ls [.ref a79, .long x4.toInt64, .ref x0]) (by rw [hr80]; rfl) ?_
  obtain ⟨f82, f83, f84, f85, hN81, h⟩ := h
  refine c_getN (pc := 70) X hw hN81 in_X4 rfl 1 (by decide) q713 rfl rfl dX2_value_70 ?_
  refine lv_i2l (pc := 73) hx hb dX2_value_73 rfl ?_
  refine lq_aload_n (pc := 74) hx hb dX2_value_74 rfl (lv_at hl 1 rfl) ?_
  refine W.eq (g2 := F0 m 75 ls [.ref a70, .long f83.toInt64, .long x4.toInt64, .ref x0]) (by rw [hr71]; rfl) ?_
  refine c_getN (pc := 75) X hw hN72 in_X6 rfl 0 (by decide) q886 rfl rfl dX2_value_75 ?_
  refine lv_iload_n (pc := 78) hx hb dX2_value_78 rfl (lv_at hl 2 rfl) ?_
  refine W.eq (g2 := F0 m 79 ls [.int x2, .ref a74, .long f83.toInt64, .long x4.toInt64, .ref x0]) (by rw [hr75]; rfl) ?_
  obtain ⟨hi, h⟩ := h
  refine c_aald (pc := 79) X hw 5 hN76 rfl hi dX2_value_79 ?_
  refine W.eq (g2 := F0 m 80 ls [.ref a79, .long f83.toInt64, .long x4.toInt64, .ref x0]) (by rw [hr80]; rfl) ?_
  refine c_getN (pc := 80) X hw hN81 in_X4 rfl 2 (by decide) q716 rfl rfl dX2_value_80 ?_
  refine lv_i2l (pc := 83) hx hb dX2_value_83 rfl ?_
  refine p_call (pc := 84) (val := vI) ((va_runSN (As := [.long x4.toInt64, .long f83.toInt64, .long f84.toInt64]) (rest := [.ref x0]) X.1 (tX0_isIn h) ⟨va_cnB 3 hts (lw_meth q382) rfl rfl rfl (X.nest q460) (hts _ q102) ⟨by decide, by decide, (by decide +kernel : (parseMethodDescriptor yX0_isIn.desc).map (fun d => d.parameters.length) = some 3)⟩ ⟨Nat.le_of_ble_eq_true rfl, Nat.le_of_ble_eq_true rfl⟩, hts _ q381, trivial⟩ ⟨pc_blind, fun U _ _ => ⟨rfl, trivial⟩⟩ rfl rfl hl.1 rfl (lv_room (Nat.le_of_ble_eq_true rfl)) dX2_value_84 ⟨show cells + mc54 ≤ MC by omega, show slots + ms55 ≤ MS by omega⟩).run) (fun r86 h => ?_)
  refine W.eq (g2 := F0 m 87 ls (.int r86 :: [.ref x0])) rfl ?_
  refine lv_bipush (pc := 87) (v := (6 : Int32)) hx hb dX2_value_87 (by decide) ?_
  refine lv_aload_n (pc := 89) hx hb dX2_value_89 rfl (lv_at hl 0 rfl) ?_
  obtain ⟨f88, f89, f90, f91, hN87, h⟩ := h
  refine c_get (pc := 90) X hw hN87 in_X2 rfl 1 (by decide) q407 rfl rfl dX2_value_90 ?_
  obtain ⟨mc94, ms95, hm96, hm97, h⟩ := h
  refine cx_callJ (pc := 93) (val := vV) X hw (cx_runV (C := RX2) (As := [.int r86, .int (6 : Int32), .int f89]) (rest := []) X.1 (tX2_must hL X.2.2.1 (sz := H.size) h) (cwV 3 hts (lw_V q659 q661 qs9 q113 q662) rfl rfl rfl ⟨rfl, by decide, by decide, (by decide +kernel : (parseMethodDescriptor yX2_must.desc).map (fun d => d.parameters.length) = some 3)⟩ ⟨Nat.le_of_ble_eq_true rfl, Nat.le_of_ble_eq_true rfl⟩) ⟨cPre_blind, c_recv X hw hN87 rfl, fun U hU hW => ⟨rfl, X.preJ hw hU hW⟩⟩ rfl rfl hl.1 rfl (lv_room (Nat.le_of_ble_eq_true rfl)) dX2_value_93 ⟨show cells + mc54 + mc94 ≤ MC by omega, show slots + ms55 + ms95 ≤ MS by omega⟩) (fun q98 N99 H locs ci100 fs101 ch104 hci102 hNq103 h hw hch => ?_) (fun _ N93 H locs h hw => ?_)
  · have hci102 := List.mem_singleton.mp hci102
    subst hci102
    have h := h fs101 hNq103
    exact cx_outJ (pc := 93) X hw hNq103 rfl (by decide) (by rw [hT]; intro x hx; cases hx) hlk hch h (by omega) (by omega)
  refine W.eq (g2 := F0 m 96 ls ([])) rfl ?_
  refine lq_aload_n (pc := 96) hx hb dX2_value_96 rfl (lv_at hl 1 rfl) ?_
  refine W.eq (g2 := F0 m 97 ls [.ref a70]) (by rw [hr71]; rfl) ?_
  obtain ⟨f106, hN105, h⟩ := h
  refine c_getN (pc := 97) X hw hN105 in_X6 rfl 0 (by decide) q886 rfl rfl dX2_value_97 ?_
  refine lv_iload_n (pc := 100) hx hb dX2_value_100 rfl (lv_at hl 2 rfl) ?_
  obtain ⟨a107, hr108, h⟩ := h
  refine W.eq (g2 := F0 m 101 ls [.int x2, .ref a107]) (by rw [hr108]; rfl) ?_
  obtain ⟨n110, f111, hN109, h⟩ := h
  obtain ⟨hi, h⟩ := h
  refine c_aald (pc := 101) X hw 5 hN109 rfl hi dX2_value_101 ?_
  refine lv_iload (pc := 102) hx hb dX2_value_102 (lv_at hl 4 rfl) ?_
  refine lv_i2l (pc := 104) hx hb dX2_value_104 rfl ?_
  obtain ⟨a112, hr113, h⟩ := h
  refine W.eq (g2 := F0 m 105 ls [.long x4.toInt64, .ref a112]) (by rw [hr113]; rfl) ?_
  obtain ⟨f117, f118, f119, f120, hN116, h⟩ := h
  refine c_callJ (pc := 105) (val := vL) X hw (va_runV (C := RX4) (As := [.long x4.toInt64]) (rest := []) X.1 (tX4_value X.2.2.1 (sz := H.size) h) (cwV 1 hts (lw_V q737 q738 q739 q126 q740) rfl rfl rfl ⟨rfl, by decide, by decide, (by decide +kernel : (parseMethodDescriptor yX4_value.desc).map (fun d => d.parameters.length) = some 1)⟩ ⟨Nat.le_of_ble_eq_true rfl, Nat.le_of_ble_eq_true rfl⟩) ⟨cPre_blind, c_recv X hw hN116 rfl, fun U hU hW => ⟨rfl, X.preJ hw hU hW⟩⟩ rfl rfl hl.1 rfl (lv_room (Nat.le_of_ble_eq_true rfl)) dX2_value_105 ⟨show cells + mc54 + mc94 + 0 ≤ MC by omega, show slots + ms55 + ms95 + 0 ≤ MS by omega⟩) (fun r114 N115 H locs h hw => ?_)
  refine W.eq (g2 := F0 m 108 ls (.long r114 :: [])) rfl ?_
  refine W.widen (k := MC) (n := MS) (by omega) (by omega) ?_
  refine cx_ret ?_
  exact W.lret (pc := 108) hx hb hr (fun t ht hW => c_ret (val := vL) (lw := jW) (u := N115) hw h ht) hw.2.2.2 dX2_value_108 hlk
theorem kX2_value_28 {p : Program} {l : Launch} {e : Env} {s : State} {m : MethodId} {args : Array Value} {below : List Frame} {meth : Method} {c : Code} {G : gG} {A : Nat → Prop} {MC MS : Nat} {post : Int64 → NM → Prop} {xp : Nat → List Nat → NM → Prop} (X : cX G A RX2 p s m args c cX2_value 5) (hr : meth.sig.returnType = (some .long)) (hlk : meth.locks = false) (hL : l.stackTraces = false) (hT : c.exceptionTable.toList = tableOf []) : ∀ (x0 : Nat) (x1 : Option Nat) (x2 : Int32) (x3 : Int32) (v0 : Int32) (v1 : Nat) (mc ms : Nat) (N : NM) (H : Heap) (locs : List Loc) (ls : Array Slot) (cells slots : Nat), wX2_value_28 (gC G) post xp x0 x1 x2 x3 v0 v1 mc ms N → (cH G A s [] N H locs ∧ cells + mc ≤ MC ∧ slots + ms ≤ MS) → lv_has ls 5 [(0, .ref x0), (1, va_rf x1), (2, .int x2), (3, .int x3)] → W p l e ⟨7, MC, MS, 154⟩ s m args below meth c H locs cells slots (cx_MQ below (gQ vL post (fun u H => cBw G A (jW u).1 (jW u).2 H) A) (cXC G A [3] xp) args s MC MS A) (F0 m 28 ls [.int v0, .ref v1]) := by
  have hx := X.1.1
  have hb := X.1.2.1
  have hml := X.1.2.2.1
  have hown := X.1.2.2.2.1
  have hts := X.1.2.2.2.2
  intro x0 x1 x2 x3 v0 v1 mc ms N H locs ls cells slots h hw0 hl
  obtain ⟨hw, hbud⟩ := hw0
  unfold wX2_value_28 at h
  refine lv_bipush (pc := 28) (v := (7 : Int32)) hx hb dX2_value_28 (by decide) ?_
  refine lv_iload_n (pc := 30) hx hb dX2_value_30 rfl (lv_at hl 3 rfl) ?_
  obtain ⟨f16, f17, f18, f19, hN15, h⟩ := h
  obtain ⟨mc11, ms12, hm13, hm14, h⟩ := h
  refine cx_callJ (pc := 31) (val := vV) X hw (cx_runV (C := RX2) (As := [.int v0, .int (7 : Int32), .int x3]) (rest := []) X.1 (tX2_must hL X.2.2.1 (sz := H.size) h) (cwV 3 hts (lw_V q659 q661 qs9 q113 q662) rfl rfl rfl ⟨rfl, by decide, by decide, (by decide +kernel : (parseMethodDescriptor yX2_must.desc).map (fun d => d.parameters.length) = some 3)⟩ ⟨Nat.le_of_ble_eq_true rfl, Nat.le_of_ble_eq_true rfl⟩) ⟨cPre_blind, c_recv X hw hN15 rfl, fun U hU hW => ⟨rfl, X.preJ hw hU hW⟩⟩ rfl rfl hl.1 rfl (lv_room (Nat.le_of_ble_eq_true rfl)) dX2_value_31 ⟨show cells + mc11 ≤ MC by omega, show slots + ms12 ≤ MS by omega⟩) (fun q20 N21 H locs ci22 fs23 ch26 hci24 hNq25 h hw hch => ?_) (fun _ N10 H locs h hw => ?_)
  · have hci24 := List.mem_singleton.mp hci24
    subst hci24
    have h := h fs23 hNq25
    exact cx_outJ (pc := 31) X hw hNq25 rfl (by decide) (by rw [hT]; intro x hx; cases hx) hlk hch h (by omega) (by omega)
  refine W.eq (g2 := F0 m 34 ls ([])) rfl ?_
  refine lv_aload_n (pc := 34) hx hb dX2_value_34 rfl (lv_at hl 0 rfl) ?_
  obtain ⟨f34, f35, f36, f37, hN33, h⟩ := h
  obtain ⟨mc29, ms30, hm31, hm32, h⟩ := h
  refine cx_callJ (pc := 35) (val := vI) X hw (cx_runV (C := RX2) (As := []) (rest := []) X.1 (tX2_whole hL X.2.2.1 (sz := H.size) h) (cwV 0 hts (lw_V q761 q763 qs13 q113 q764) rfl rfl rfl ⟨rfl, by decide, by decide, (by decide +kernel : (parseMethodDescriptor yX2_whole.desc).map (fun d => d.parameters.length) = some 0)⟩ ⟨Nat.le_of_ble_eq_true rfl, Nat.le_of_ble_eq_true rfl⟩) ⟨cPre_blind, c_recv X hw hN33 rfl, fun U hU hW => ⟨rfl, X.preJ hw hU hW⟩⟩ rfl rfl hl.1 rfl (lv_room (Nat.le_of_ble_eq_true rfl)) dX2_value_35 ⟨show cells + mc11 + mc29 ≤ MC by omega, show slots + ms12 + ms30 ≤ MS by omega⟩) (fun q38 N39 H locs ci40 fs41 ch44 hci42 hNq43 h hw hch => ?_) (fun r27 N28 H locs h hw => ?_)
  · have hci42 := List.mem_singleton.mp hci42
    subst hci42
    have h := h fs41 hNq43
    exact cx_outJ (pc := 35) X hw hNq43 rfl (by decide) (by rw [hT]; intro x hx; cases hx) hlk hch h (by omega) (by omega)
  refine W.eq (g2 := F0 m 38 ls (.int r27 :: [])) rfl ?_
  refine lv_istore (pc := 38) (lv' := [(4, .int r27), (0, .ref x0), (1, va_rf x1), (2, .int x2), (3, .int x3)]) hx hb dX2_value_38 hl (by decide) rfl (fun ls hl => ?_)
  refine lv_aload_n (pc := 40) hx hb dX2_value_40 rfl (lv_at hl 1 rfl) ?_
  refine lv_iload_n (pc := 41) hx hb dX2_value_41 rfl (lv_at hl 3 rfl) ?_
  refine lq_aload_n (pc := 42) hx hb dX2_value_42 rfl (lv_at hl 2 rfl) ?_
  obtain ⟨a45, hr46, h⟩ := h
  refine W.eq (g2 := F0 m 43 ls [.ref a45, .int x2, .ref x0]) (by rw [hr46]; rfl) ?_
  obtain ⟨f50, hN49, h⟩ := h
  refine c_callJ (pc := 43) (val := vI) X hw (va_runV (C := RX6) (As := []) (rest := [.int x2, .ref x0]) X.1 (tX6_many X.2.2.1 (sz := H.size) h) (cwV 0 hts (lw_V q1392 q891 q892 q129 q893) rfl rfl rfl ⟨rfl, by decide, by decide, (by decide +kernel : (parseMethodDescriptor yX6_many.desc).map (fun d => d.parameters.length) = some 0)⟩ ⟨Nat.le_of_ble_eq_true rfl, Nat.le_of_ble_eq_true rfl⟩) ⟨cPre_blind, c_recv X hw hN49 rfl, fun U hU hW => ⟨rfl, X.preJ hw hU hW⟩⟩ rfl rfl hl.1 rfl (lv_room (Nat.le_of_ble_eq_true rfl)) dX2_value_43 ⟨show cells + mc11 + mc29 + 0 ≤ MC by omega, show slots + ms12 + ms30 + 0 ≤ MS by omega⟩) (fun r47 N48 H locs h hw => ?_)
  refine W.eq (g2 := F0 m 46 ls (.int r47 :: [.int x2, .ref x0])) rfl ?_
  refine lv_icmp_ge (pc := 46) (tgt := 53) hx hb dX2_value_46 rfl (fun c51 => ?_) (fun c51 => ?_)
  · have h := h.1 c51
    refine lv_iconst (pc := 53) (v := (0 : Int32)) hx hb dX2_value_53 (by decide) ?_
    exact kX2_value_54 X hr hlk hL hT  _ _ _ _ _ _ _ _ _ _ _ _ _ _ _ h ⟨hw, by omega⟩ (lv_sub hl [1, 2, 3, 4, 0] rfl)
  · have h := h.2 c51
    refine lv_iconst (pc := 49) (v := (1 : Int32)) hx hb dX2_value_49 (by decide) ?_
    refine lv_goto (pc := 50) (tgt := 54) hx hb dX2_value_50 rfl ?_
    exact kX2_value_54 X hr hlk hL hT  _ _ _ _ _ _ _ _ _ _ _ _ _ _ _ h ⟨hw, by omega⟩ (lv_sub hl [1, 2, 3, 4, 0] rfl)
theorem kX2_value_23 {p : Program} {l : Launch} {e : Env} {s : State} {m : MethodId} {args : Array Value} {below : List Frame} {meth : Method} {c : Code} {G : gG} {A : Nat → Prop} {MC MS : Nat} {post : Int64 → NM → Prop} {xp : Nat → List Nat → NM → Prop} (X : cX G A RX2 p s m args c cX2_value 5) (hr : meth.sig.returnType = (some .long)) (hlk : meth.locks = false) (hL : l.stackTraces = false) (hT : c.exceptionTable.toList = tableOf []) : ∀ (x0 : Nat) (x1 : Option Nat) (x2 : Int32) (x3 : Int32) (v0 : Nat) (mc ms : Nat) (N : NM) (H : Heap) (locs : List Loc) (ls : Array Slot) (cells slots : Nat), wX2_value_23 (gC G) post xp x0 x1 x2 x3 v0 mc ms N → (cH G A s [] N H locs ∧ cells + mc ≤ MC ∧ slots + ms ≤ MS) → lv_has ls 5 [(0, .ref x0), (1, va_rf x1), (2, .int x2), (3, .int x3)] → W p l e ⟨7, MC, MS, 154⟩ s m args below meth c H locs cells slots (cx_MQ below (gQ vL post (fun u H => cBw G A (jW u).1 (jW u).2 H) A) (cXC G A [3] xp) args s MC MS A) (F0 m 23 ls [.ref v0]) := by
  have hx := X.1.1
  have hb := X.1.2.1
  have hml := X.1.2.2.1
  have hown := X.1.2.2.2.1
  have hts := X.1.2.2.2.2
  intro x0 x1 x2 x3 v0 mc ms N H locs ls cells slots h hw0 hl
  obtain ⟨hw, hbud⟩ := hw0
  unfold wX2_value_23 at h
  refine lv_iconst (pc := 23) (v := (1 : Int32)) hx hb dX2_value_23 (by decide) ?_
  refine lv_goto (pc := 24) (tgt := 28) hx hb dX2_value_24 rfl ?_
  exact kX2_value_28 X hr hlk hL hT  _ _ _ _ _ _ _ _ _ _ _ _ _ _ h ⟨hw, by omega⟩ (lv_sub hl [0, 1, 2, 3] rfl)
theorem tX2_value {l : Launch} (hL : l.stackTraces = false) {G : gG} (hO : gOk G) {post : Int64 → NM → Prop} {xp : Nat → List Nat → NM → Prop} {MC MS : Nat} {N : NM} {x0 : Nat} {x1 : Option Nat} {x2 : Int32} {sz : Nat} (h : wX2_value (gC G) post xp MC MS N x0 x1 x2) : cx_Met l yX2_value (ws_ yX2_value cX2_value 5 (some .long)) ⟨7, MC, MS, 154⟩ (va_Pc [.ref x0, va_rf x1, .int x2] (cPre G [] N sz)) (gQ vL post (fun u H => cBw G (cA [] N sz) (jW u).1 (jW u).2 H) (cA [] N sz)) (cXC G (cA [] N sz) [3] xp) MC MS (cA [] N sz) := by
  refine c_ofX (B := fun A u H => cBw G A (jW u).1 (jW u).2 H) (by decide) hO (by cases x1 <;> exact Nat.le_of_ble_eq_true rfl) (fun p e s m below meth c ls A X hr hlk hT hw hl => ?_)
  have hl : lv_has ls 5 [(0, .ref x0), (1, va_rf x1), (2, .int x2)] := by cases x1 <;> exact hl
  have hx := X.1.1
  have hb := X.1.2.1
  have hml := X.1.2.2.1
  have hown := X.1.2.2.2.1
  have hts := X.1.2.2.2.2
  obtain ⟨H, eH⟩ : ∃ z, z = s.heap := ⟨_, rfl⟩
  rw [← eH] at hw ⊢
  obtain ⟨locs, eLo⟩ : ∃ z : List Loc, z = [] := ⟨_, rfl⟩
  rw [← eLo] at hw ⊢
  have hbud : 0 + MC ≤ MC ∧ 0 + MS ≤ MS := by omega
  unfold wX2_value at h
  refine lv_aload_n (pc := 0) hx hb dX2_value_0 rfl (lv_at hl 0 rfl) ?_
  obtain ⟨f2, f3, f4, f5, hN1, h⟩ := h
  refine c_get (pc := 1) X hw hN1 in_X2 rfl 0 (by decide) q406 rfl rfl dX2_value_1 ?_
  refine lv_istore_n (pc := 4) (lv' := [(3, .int f2), (0, .ref x0), (1, va_rf x1), (2, .int x2)]) hx hb dX2_value_4 rfl hl (by decide) rfl (fun ls hl => ?_)
  refine lv_aload_n (pc := 5) hx hb dX2_value_5 rfl (lv_at hl 1 rfl) ?_
  refine lv_aload_n (pc := 6) hx hb dX2_value_6 rfl (lv_at hl 1 rfl) ?_
  refine c_callJ (pc := 7) (val := vI) X hw (va_runV (C := RX2) (As := []) (rest := [.ref x0]) X.1 (tX2_here X.2.2.1 (sz := H.size) h) (cwV 0 hts (lw_V q402 q404 qs4 q113 q405) rfl rfl rfl ⟨rfl, by decide, by decide, (by decide +kernel : (parseMethodDescriptor yX2_here.desc).map (fun d => d.parameters.length) = some 0)⟩ ⟨Nat.le_of_ble_eq_true rfl, Nat.le_of_ble_eq_true rfl⟩) ⟨cPre_blind, c_recv X hw hN1 rfl, fun U hU hW => ⟨rfl, X.preJ hw hU hW⟩⟩ rfl rfl hl.1 rfl (lv_room (Nat.le_of_ble_eq_true rfl)) dX2_value_7 ⟨show 0 + 0 ≤ MC by omega, show 0 + 0 ≤ MS by omega⟩) (fun r6 N7 H locs h hw => ?_)
  refine W.eq (g2 := F0 m 10 ls (.int r6 :: [.ref x0])) rfl ?_
  refine lv_bipush (pc := 10) (v := (45 : Int32)) hx hb dX2_value_10 (by decide) ?_
  refine lv_icmp_ne (pc := 12) (tgt := 23) hx hb dX2_value_12 rfl (fun c8 => ?_) (fun c8 => ?_)
  · have h := h.2 c8
    exact kX2_value_23 X hr hlk hL hT  _ _ _ _ _ _ _ _ _ _ _ _ _ h ⟨hw, by omega⟩ (lv_sub hl [1, 2, 3, 0] rfl)
  · have h := h.1 c8
    refine lv_iload_n (pc := 15) hx hb dX2_value_15 rfl (lv_at hl 3 rfl) ?_
    refine lq_aload_n (pc := 16) hx hb dX2_value_16 rfl (lv_at hl 2 rfl) ?_
    obtain ⟨a121, hr122, h⟩ := h
    refine W.eq (g2 := F0 m 17 ls [.ref a121, .int x2, .ref x0]) (by rw [hr122]; rfl) ?_
    obtain ⟨f126, hN125, h⟩ := h
    refine c_callJ (pc := 17) (val := vI) X hw (va_runV (C := RX6) (As := []) (rest := [.int x2, .ref x0]) X.1 (tX6_many X.2.2.1 (sz := H.size) h) (cwV 0 hts (lw_V q1392 q891 q892 q129 q893) rfl rfl rfl ⟨rfl, by decide, by decide, (by decide +kernel : (parseMethodDescriptor yX6_many.desc).map (fun d => d.parameters.length) = some 0)⟩ ⟨Nat.le_of_ble_eq_true rfl, Nat.le_of_ble_eq_true rfl⟩) ⟨cPre_blind, c_recv X hw hN125 rfl, fun U hU hW => ⟨rfl, X.preJ hw hU hW⟩⟩ rfl rfl hl.1 rfl (lv_room (Nat.le_of_ble_eq_true rfl)) dX2_value_17 ⟨show 0 + 0 + 0 ≤ MC by omega, show 0 + 0 + 0 ≤ MS by omega⟩) (fun r123 N124 H locs h hw => ?_)
    refine W.eq (g2 := F0 m 20 ls (.int r123 :: [.int x2, .ref x0])) rfl ?_
    refine lv_icmp_ge (pc := 20) (tgt := 27) hx hb dX2_value_20 rfl (fun c127 => ?_) (fun c127 => ?_)
    · have h := h.1 c127
      refine lv_iconst (pc := 27) (v := (0 : Int32)) hx hb dX2_value_27 (by decide) ?_
      exact kX2_value_28 X hr hlk hL hT  _ _ _ _ _ _ _ _ _ _ _ _ _ _ h ⟨hw, by omega⟩ (lv_sub hl [1, 2, 3, 0] rfl)
    · have h := h.2 c127
      exact kX2_value_23 X hr hlk hL hT  _ _ _ _ _ _ _ _ _ _ _ _ _ h ⟨hw, by omega⟩ (lv_sub hl [1, 2, 3, 0] rfl)

def wX0_tried_128 (K : Nat → Nat → Nat) (K82 : Nat → Int32 → Int32 → Nat → Int32 → Nat → Nat → NM → Prop) (post : Int32 → NM → Prop) (x0 : Nat) (x1 : Int32) (x2 : Int32) (x3 : Nat) (x4 : Int32) (mc ms : Nat) (N : NM) : Prop :=
  ∃ f70 f71 f72 f73 f74 f75 f76 f77 f78 f79 f80 f81 f82 f83 f84 f85 f86 f87 f88, N x0 = some (eO 1 [va_rf f70, va_rf f71, va_rf f72, va_rf f73, va_rf f74, va_rf f75, va_rf f76, va_rf f77, va_rf f78, .int f79, .int f80, va_rf f81, va_rf f82, .int f83, va_rf f84, va_rf f85, va_rf f86, va_rf f87, va_rf f88]) ∧ (wX0_goesOn K (fun r67 N68 => ((r67 = (0 : Int32)) → (((x2 = (0 : Int32)) → (post x4 N68)) ∧ (¬ (x2 = (0 : Int32)) → (post (-100000 : Int32) N68)))) ∧ (¬ (r67 = (0 : Int32)) → (K82 x0 x1 x2 x3 x4 mc ms N68))) N x0 x3 x1)
def wX0_tried_82 (K : Nat → Nat → Nat) (post : Int32 → NM → Prop) : Nat → Nat → Int32 → Int32 → Nat → Int32 → Nat → Nat → NM → Prop
  | 0, _, _, _, _, _, _, _, _ => False
  | n + 1, x0, x1, x2, x3, x4, mc, ms, N => ∃ f46 f47 f48 f49 f50 f51 f52 f53 f54 f55 f56 f57 f58 f59 f60 f61 f62 f63 f64, N x0 = some (eO 1 [va_rf f46, va_rf f47, va_rf f48, va_rf f49, va_rf f50, va_rf f51, va_rf f52, va_rf f53, va_rf f54, .int f55, .int f56, va_rf f57, va_rf f58, .int f59, va_rf f60, va_rf f61, va_rf f62, va_rf f63, va_rf f64]) ∧ (∃ mc41 ms42, mc41 ≤ mc ∧ ms42 ≤ ms ∧ wX0_isBroken K (fun r39 N40 => ((r39 = (0 : Int32)) → (wX0_tried_128 K (fun x0 x1 x2 x3 x4 mc ms N => wX0_tried_82 K post n x0 x1 x2 x3 x4 mc ms N) post x0 x1 x2 x3 x4 (mc - mc41) (ms - ms42) N40)) ∧ (¬ (r39 = (0 : Int32)) → (((x2 ≤ (0 : Int32)) → (wX0_tried_128 K (fun x0 x1 x2 x3 x4 mc ms N => wX0_tried_82 K post n x0 x1 x2 x3 x4 mc ms N) post x0 x1 x2 x3 (x4 + (1 : Int32)) (mc - mc41) (ms - ms42) N40)) ∧ (¬ (x2 ≤ (0 : Int32)) → ((((7 : Int32) ≤ x2) → (∃ f99 f100 f101 f102 f103 f104 f105 f106 f107 f108 f109 f110 f111 f112 f113 f114 f115 f116 f117, N40 x0 = some (eO 1 [va_rf f99, va_rf f100, va_rf f101, va_rf f102, va_rf f103, va_rf f104, va_rf f105, va_rf f106, va_rf f107, .int f108, .int f109, va_rf f110, va_rf f111, .int f112, va_rf f113, va_rf f114, va_rf f115, va_rf f116, va_rf f117]) ∧ (∃ mc94 ms95, mc94 ≤ (mc - mc41) ∧ ms95 ≤ (ms - ms42) ∧ wX0_isBeyond K (fun r92 N93 => ((r92 = (0 : Int32)) → (post (0 : Int32) N93)) ∧ (¬ (r92 = (0 : Int32)) → (post (1 : Int32) N93))) mc94 ms95 N40 x0 x3))) ∧ (¬ ((7 : Int32) ≤ x2) → (∃ n120 f121, N40 x3 = some (eN 0 n120 f121) ∧ (vp_in (x2 - (1 : Int32)) n120 ∧ (post (f121 (x2 - (1 : Int32)).toNatClampNeg) N40))))))))) mc41 ms42 N x0 x3)
def wX0_tried_72 (K : Nat → Nat → Nat) (K43 : Nat → Int32 → Int32 → Nat → Int32 → Nat → Nat → NM → Prop) (post : Int32 → NM → Prop) (x0 : Nat) (x1 : Int32) (x2 : Int32) (x3 : Nat) (x4 : Int32) (v0 : Int32) (v1 : Int32) (v2 : Nat) (mc ms : Nat) (N : NM) : Prop :=
  ∃ n144 f145, N v2 = some (eN 0 n144 f145) ∧ (vp_in v1 n144 ∧ (∀ N146, N146 = va_up N v2 (some (eN 0 n144 (upd f145 v1.toNatClampNeg v0))) → (K43 x0 x1 x2 x3 (x4 + (1 : Int32)) mc ms N146)))
def wX0_tried_43 (K : Nat → Nat → Nat) (post : Int32 → NM → Prop) : Nat → Nat → Int32 → Int32 → Nat → Int32 → Nat → Nat → NM → Prop
  | 0, _, _, _, _, _, _, _, _ => False
  | n + 1, x0, x1, x2, x3, x4, mc, ms, N => (((6 : Int32) ≤ x4) → ((∃ k, wX0_tried_82 K post k x0 x1 x2 x3 (0 : Int32) mc ms N))) ∧ (¬ ((6 : Int32) ≤ x4) → (∃ f123 f124 f125 f126 f127 f128 f129 f130 f131 f132 f133 f134 f135 f136 f137 f138 f139 f140 f141, N x0 = some (eO 1 [va_rf f123, va_rf f124, va_rf f125, va_rf f126, va_rf f127, va_rf f128, va_rf f129, va_rf f130, va_rf f131, .int f132, .int f133, va_rf f134, va_rf f135, .int f136, va_rf f137, va_rf f138, va_rf f139, va_rf f140, va_rf f141]) ∧ (((((f132 >>> (x4 &&& 31)) &&& (1 : Int32)) = (1 : Int32)) → (wX0_tried_72 K (fun x0 x1 x2 x3 x4 mc ms N => wX0_tried_43 K post n x0 x1 x2 x3 x4 mc ms N) post x0 x1 x2 x3 x4 (-x1) x4 x3 mc ms N)) ∧ (¬ (((f132 >>> (x4 &&& 31)) &&& (1 : Int32)) = (1 : Int32)) → (wX0_tried_72 K (fun x0 x1 x2 x3 x4 mc ms N => wX0_tried_43 K post n x0 x1 x2 x3 x4 mc ms N) post x0 x1 x2 x3 x4 (0 : Int32) x4 x3 mc ms N)))))
def wX0_tried (K : Nat → Nat → Nat) (post : Int32 → NM → Prop) (MC MS : Nat) (N : NM) (x0 : Nat) (x1 : Int32) (x2 : Int32) : Prop :=
  ∃ f2 f3 f4 f5 f6 f7 f8 f9 f10 f11 f12 f13 f14 f15 f16 f17 f18 f19 f20, N x0 = some (eO 1 [va_rf f2, va_rf f3, va_rf f4, va_rf f5, va_rf f6, va_rf f7, va_rf f8, va_rf f9, va_rf f10, .int f11, .int f12, va_rf f13, va_rf f14, .int f15, va_rf f16, va_rf f17, va_rf f18, va_rf f19, va_rf f20]) ∧ ((f9 = none → (post (-100000 : Int32) N)) ∧ (∀ a22, f9 = some a22 → (wX0_isIn (fun r24 => ((r24 = (0 : Int32)) → (post (-100000 : Int32) N)) ∧ (¬ (r24 = (0 : Int32)) → (wX0_isIn (fun r26 => ((r26 = (0 : Int32)) → (post (-100000 : Int32) N)) ∧ (¬ (r26 = (0 : Int32)) → (¬ (7 : Int32) < 0 ∧ (7 : Int32).toNatClampNeg ≤ 65536 ∧ 1 ≤ MC ∧ (7 : Int32).toNatClampNeg ≤ MS ∧ (∀ nq32, N nq32 = none → (∀ N34, N34 = va_up N nq32 (some (eN 0 ((7 : Int32).toNatClampNeg) (fun _ => (0 : Int32)))) → ((∃ k, wX0_tried_43 K post k x0 x1 x2 nq32 (0 : Int32) (MC - 1) (MS - (7 : Int32).toNatClampNeg) N34))))))) x2.toInt64 (0 : Int64) (7 : Int64)))) x1.toInt64 (0 : Int64) (3 : Int64))))
theorem kX0_tried_128 {p : Program} {l : Launch} {e : Env} {s : State} {m : MethodId} {args : Array Value} {below : List Frame} {meth : Method} {c : Code} {G : gG} {A : Nat → Prop} {MC MS : Nat} {K82 : Nat → Int32 → Int32 → Nat → Int32 → Nat → Nat → NM → Prop} {post : Int32 → NM → Prop} (X : cX G A RX0 p s m args c cX0_tried 5) (hr : meth.sig.returnType = (some .int)) (hlk : meth.locks = false) (hL : l.stackTraces = false) (hT : c.exceptionTable.toList = tableOf []) (hK82 : ∀ (x0 : Nat) (x1 : Int32) (x2 : Int32) (x3 : Nat) (x4 : Int32) (mc ms : Nat) (N : NM) (H : Heap) (locs : List Loc) (ls : Array Slot) (cells slots : Nat), K82 x0 x1 x2 x3 x4 mc ms N → (cH G A s [] N H locs ∧ cells + mc ≤ MC ∧ slots + ms ≤ MS) → lv_has ls 5 [(0, .ref x0), (1, .int x1), (2, .int x2), (3, .ref x3), (4, .int x4)] → W p l e ⟨206, MC, MS, 5933⟩ s m args below meth c H locs cells slots (cx_MQ below (gQ vI post (fun u H => cBw G A (jW u).1 (jW u).2 H) A) (cXC G A [] (fun _ _ _ => False)) args s MC MS A) (F0 m 82 ls [])) : ∀ (x0 : Nat) (x1 : Int32) (x2 : Int32) (x3 : Nat) (x4 : Int32) (mc ms : Nat) (N : NM) (H : Heap) (locs : List Loc) (ls : Array Slot) (cells slots : Nat), wX0_tried_128 (gC G) K82 post x0 x1 x2 x3 x4 mc ms N → (cH G A s [] N H locs ∧ cells + mc ≤ MC ∧ slots + ms ≤ MS) → lv_has ls 5 [(0, .ref x0), (1, .int x1), (2, .int x2), (3, .ref x3), (4, .int x4)] → W p l e ⟨206, MC, MS, 5933⟩ s m args below meth c H locs cells slots (cx_MQ below (gQ vI post (fun u H => cBw G A (jW u).1 (jW u).2 H) A) (cXC G A [] (fun _ _ _ => False)) args s MC MS A) (F0 m 128 ls []) := by
  have hx := X.1.1
  have hb := X.1.2.1
  have hml := X.1.2.2.1
  have hown := X.1.2.2.2.1
  have hts := X.1.2.2.2.2
  intro x0 x1 x2 x3 x4 mc ms N H locs ls cells slots h hw0 hl
  obtain ⟨hw, hbud⟩ := hw0
  unfold wX0_tried_128 at h
  refine lv_aload_n (pc := 128) hx hb dX0_tried_128 rfl (lv_at hl 0 rfl) ?_
  refine lv_aload_n (pc := 129) hx hb dX0_tried_129 rfl (lv_at hl 3 rfl) ?_
  refine lv_iload_n (pc := 130) hx hb dX0_tried_130 rfl (lv_at hl 1 rfl) ?_
  obtain ⟨f70, f71, f72, f73, f74, f75, f76, f77, f78, f79, f80, f81, f82, f83, f84, f85, f86, f87, f88, hN69, h⟩ := h
  refine c_callJ (pc := 131) (val := vI) X hw (va_runV (C := RX0) (As := [.ref x3, .int x1]) (rest := []) X.1 (tX0_goesOn X.2.2.1 (sz := H.size) h) (cwV 2 hts (lw_V q1933 q1935 qs45 q102 q1936) rfl rfl rfl ⟨rfl, by decide, by decide, (by decide +kernel : (parseMethodDescriptor yX0_goesOn.desc).map (fun d => d.parameters.length) = some 2)⟩ ⟨Nat.le_of_ble_eq_true rfl, Nat.le_of_ble_eq_true rfl⟩) ⟨cPre_blind, c_recv X hw hN69 rfl, fun U hU hW => ⟨rfl, X.preJ hw hU hW⟩⟩ rfl rfl hl.1 rfl (lv_room (Nat.le_of_ble_eq_true rfl)) dX0_tried_131 ⟨show cells + 0 ≤ MC by omega, show slots + 0 ≤ MS by omega⟩) (fun r67 N68 H locs h hw => ?_)
  refine W.eq (g2 := F0 m 134 ls (.int r67 :: [])) rfl ?_
  refine lv_if_ne (pc := 134) (tgt := 82) hx hb dX0_tried_134 rfl (fun c89 => ?_) (fun c89 => ?_)
  · have h := h.2 c89
    exact hK82 _ _ _ _ _ _ _ _ _ _ _ _ _ h ⟨hw, by omega⟩ (lv_sub hl [0, 1, 2, 3, 4] rfl)
  · have h := h.1 c89
    refine lv_iload_n (pc := 137) hx hb dX0_tried_137 rfl (lv_at hl 2 rfl) ?_
    refine lv_if_ne (pc := 138) (tgt := 146) hx hb dX0_tried_138 rfl (fun c90 => ?_) (fun c90 => ?_)
    · have h := h.2 c90
      refine lv_ldcw (pc := 146) hx hb hown (hts _ q1540) dX0_tried_146 ?_
      refine W.widen (k := MC) (n := MS) (by omega) (by omega) ?_
      refine cx_ret ?_
      exact W.iret (pc := 149) hx hb hr (fun t ht hW => c_ret (val := vI) (lw := jW) (u := N68) hw h ht) hw.2.2.2 dX0_tried_149 hlk
    · have h := h.1 c90
      refine lv_iload (pc := 141) hx hb dX0_tried_141 (lv_at hl 4 rfl) ?_
      refine lv_goto (pc := 143) (tgt := 149) hx hb dX0_tried_143 rfl ?_
      refine W.widen (k := MC) (n := MS) (by omega) (by omega) ?_
      refine cx_ret ?_
      exact W.iret (pc := 149) hx hb hr (fun t ht hW => c_ret (val := vI) (lw := jW) (u := N68) hw h ht) hw.2.2.2 dX0_tried_149 hlk
theorem kX0_tried_82 {p : Program} {l : Launch} {e : Env} {s : State} {m : MethodId} {args : Array Value} {below : List Frame} {meth : Method} {c : Code} {G : gG} {A : Nat → Prop} {MC MS : Nat} {post : Int32 → NM → Prop} (X : cX G A RX0 p s m args c cX0_tried 5) (hr : meth.sig.returnType = (some .int)) (hlk : meth.locks = false) (hL : l.stackTraces = false) (hT : c.exceptionTable.toList = tableOf []) : ∀ (n : Nat) (x0 : Nat) (x1 : Int32) (x2 : Int32) (x3 : Nat) (x4 : Int32) (mc ms : Nat) (N : NM) (H : Heap) (locs : List Loc) (ls : Array Slot) (cells slots : Nat), wX0_tried_82 (gC G) post n x0 x1 x2 x3 x4 mc ms N → (cH G A s [] N H locs ∧ cells + mc ≤ MC ∧ slots + ms ≤ MS) → lv_has ls 5 [(0, .ref x0), (1, .int x1), (2, .int x2), (3, .ref x3), (4, .int x4)] → W p l e ⟨206, MC, MS, 5933⟩ s m args below meth c H locs cells slots (cx_MQ below (gQ vI post (fun u H => cBw G A (jW u).1 (jW u).2 H) A) (cXC G A [] (fun _ _ _ => False)) args s MC MS A) (F0 m 82 ls []) := by
  have hx := X.1.1
  have hb := X.1.2.1
  have hml := X.1.2.2.1
  have hown := X.1.2.2.2.1
  have hts := X.1.2.2.2.2
  intro n
  induction n with
  | zero =>
    intro x0 x1 x2 x3 x4 mc ms N H locs ls cells slots h
    exact False.elim h
  | succ n ih =>
    intro x0 x1 x2 x3 x4 mc ms N H locs ls cells slots h hw0 hl
    obtain ⟨hw, hbud⟩ := hw0
    unfold wX0_tried_82 at h
    refine lv_aload_n (pc := 82) hx hb dX0_tried_82 rfl (lv_at hl 0 rfl) ?_
    refine lv_aload_n (pc := 83) hx hb dX0_tried_83 rfl (lv_at hl 3 rfl) ?_
    obtain ⟨f46, f47, f48, f49, f50, f51, f52, f53, f54, f55, f56, f57, f58, f59, f60, f61, f62, f63, f64, hN45, h⟩ := h
    obtain ⟨mc41, ms42, hm43, hm44, h⟩ := h
    refine c_callJ (pc := 84) (val := vI) X hw (va_runV (C := RX0) (As := [.ref x3]) (rest := []) X.1 (tX0_isBroken hL X.2.2.1 (sz := H.size) h) (cwV 1 hts (lw_V q1899 q1901 qs43 q102 q1902) rfl rfl rfl ⟨rfl, by decide, by decide, (by decide +kernel : (parseMethodDescriptor yX0_isBroken.desc).map (fun d => d.parameters.length) = some 1)⟩ ⟨Nat.le_of_ble_eq_true rfl, Nat.le_of_ble_eq_true rfl⟩) ⟨cPre_blind, c_recv X hw hN45 rfl, fun U hU hW => ⟨rfl, X.preJ hw hU hW⟩⟩ rfl rfl hl.1 rfl (lv_room (Nat.le_of_ble_eq_true rfl)) dX0_tried_84 ⟨show cells + mc41 ≤ MC by omega, show slots + ms42 ≤ MS by omega⟩) (fun r39 N40 H locs h hw => ?_)
    refine W.eq (g2 := F0 m 87 ls (.int r39 :: [])) rfl ?_
    refine lv_if_ne (pc := 87) (tgt := 93) hx hb dX0_tried_87 rfl (fun c65 => ?_) (fun c65 => ?_)
    · have h := h.2 c65
      refine lv_iload_n (pc := 93) hx hb dX0_tried_93 rfl (lv_at hl 2 rfl) ?_
      refine lv_if_le (pc := 94) (tgt := 125) hx hb dX0_tried_94 rfl (fun c66 => ?_) (fun c66 => ?_)
      · have h := h.1 c66
        refine lv_iinc (pc := 125) (v := x4 + (1 : Int32)) (lv' := [(4, .int (x4 + (1 : Int32))), (0, .ref x0), (1, .int x1), (2, .int x2), (3, .ref x3)]) hx hb dX0_tried_125 hl (k := 4) rfl rfl (by decide) rfl (fun ls hl => ?_)
        exact kX0_tried_128 X hr hlk hL hT ih _ _ _ _ _ _ _ _ _ _ _ _ _ h ⟨hw, by omega⟩ (lv_sub hl [1, 2, 3, 4, 0] rfl)
      · have h := h.2 c66
        refine lv_iload_n (pc := 97) hx hb dX0_tried_97 rfl (lv_at hl 2 rfl) ?_
        refine lv_bipush (pc := 98) (v := (7 : Int32)) hx hb dX0_tried_98 (by decide) ?_
        refine lv_icmp_ge (pc := 100) (tgt := 111) hx hb dX0_tried_100 rfl (fun c91 => ?_) (fun c91 => ?_)
        · have h := h.1 c91
          refine lv_aload_n (pc := 111) hx hb dX0_tried_111 rfl (lv_at hl 0 rfl) ?_
          refine lv_aload_n (pc := 112) hx hb dX0_tried_112 rfl (lv_at hl 3 rfl) ?_
          obtain ⟨f99, f100, f101, f102, f103, f104, f105, f106, f107, f108, f109, f110, f111, f112, f113, f114, f115, f116, f117, hN98, h⟩ := h
          obtain ⟨mc94, ms95, hm96, hm97, h⟩ := h
          refine c_callJ (pc := 113) (val := vI) X hw (va_runV (C := RX0) (As := [.ref x3]) (rest := []) X.1 (tX0_isBeyond hL X.2.2.1 (sz := H.size) h) (cwV 1 hts (lw_V q1929 q1931 qs44 q102 q1932) rfl rfl rfl ⟨rfl, by decide, by decide, (by decide +kernel : (parseMethodDescriptor yX0_isBeyond.desc).map (fun d => d.parameters.length) = some 1)⟩ ⟨Nat.le_of_ble_eq_true rfl, Nat.le_of_ble_eq_true rfl⟩) ⟨cPre_blind, c_recv X hw hN98 rfl, fun U hU hW => ⟨rfl, X.preJ hw hU hW⟩⟩ rfl rfl hl.1 rfl (lv_room (Nat.le_of_ble_eq_true rfl)) dX0_tried_113 ⟨show cells + mc41 + mc94 ≤ MC by omega, show slots + ms42 + ms95 ≤ MS by omega⟩) (fun r92 N93 H locs h hw => ?_)
          refine W.eq (g2 := F0 m 116 ls (.int r92 :: [])) rfl ?_
          refine lv_if_eq (pc := 116) (tgt := 123) hx hb dX0_tried_116 rfl (fun c118 => ?_) (fun c118 => ?_)
          · have h := h.1 c118
            refine lv_iconst (pc := 123) (v := (0 : Int32)) hx hb dX0_tried_123 (by decide) ?_
            refine W.widen (k := MC) (n := MS) (by omega) (by omega) ?_
            refine cx_ret ?_
            exact W.iret (pc := 124) hx hb hr (fun t ht hW => c_ret (val := vI) (lw := jW) (u := N93) hw h ht) hw.2.2.2 dX0_tried_124 hlk
          · have h := h.2 c118
            refine lv_iconst (pc := 119) (v := (1 : Int32)) hx hb dX0_tried_119 (by decide) ?_
            refine lv_goto (pc := 120) (tgt := 124) hx hb dX0_tried_120 rfl ?_
            refine W.widen (k := MC) (n := MS) (by omega) (by omega) ?_
            refine cx_ret ?_
            exact W.iret (pc := 124) hx hb hr (fun t ht hW => c_ret (val := vI) (lw := jW) (u := N93) hw h ht) hw.2.2.2 dX0_tried_124 hlk
        · have h := h.2 c91
          refine lv_aload_n (pc := 103) hx hb dX0_tried_103 rfl (lv_at hl 3 rfl) ?_
          refine lv_iload_n (pc := 104) hx hb dX0_tried_104 rfl (lv_at hl 2 rfl) ?_
          refine lv_iconst (pc := 105) (v := (1 : Int32)) hx hb dX0_tried_105 (by decide) ?_
          refine lv_isub (pc := 106) hx hb dX0_tried_106 ?_
          obtain ⟨n120, f121, hN119, h⟩ := h
          obtain ⟨hi, h⟩ := h
          refine c_iald (pc := 107) X hw hN119 hi dX0_tried_107 ?_
          refine lv_goto (pc := 108) (tgt := 124) hx hb dX0_tried_108 rfl ?_
          refine W.widen (k := MC) (n := MS) (by omega) (by omega) ?_
          refine cx_ret ?_
          exact W.iret (pc := 124) hx hb hr (fun t ht hW => c_ret (val := vI) (lw := jW) (u := N40) hw h ht) hw.2.2.2 dX0_tried_124 hlk
    · have h := h.1 c65
      refine lv_goto (pc := 90) (tgt := 128) hx hb dX0_tried_90 rfl ?_
      exact kX0_tried_128 X hr hlk hL hT ih _ _ _ _ _ _ _ _ _ _ _ _ _ h ⟨hw, by omega⟩ (lv_sub hl [0, 1, 2, 3, 4] rfl)
theorem kX0_tried_72 {p : Program} {l : Launch} {e : Env} {s : State} {m : MethodId} {args : Array Value} {below : List Frame} {meth : Method} {c : Code} {G : gG} {A : Nat → Prop} {MC MS : Nat} {K43 : Nat → Int32 → Int32 → Nat → Int32 → Nat → Nat → NM → Prop} {post : Int32 → NM → Prop} (X : cX G A RX0 p s m args c cX0_tried 5) (hr : meth.sig.returnType = (some .int)) (hlk : meth.locks = false) (hL : l.stackTraces = false) (hT : c.exceptionTable.toList = tableOf []) (hK43 : ∀ (x0 : Nat) (x1 : Int32) (x2 : Int32) (x3 : Nat) (x4 : Int32) (mc ms : Nat) (N : NM) (H : Heap) (locs : List Loc) (ls : Array Slot) (cells slots : Nat), K43 x0 x1 x2 x3 x4 mc ms N → (cH G A s [] N H locs ∧ cells + mc ≤ MC ∧ slots + ms ≤ MS) → lv_has ls 5 [(0, .ref x0), (1, .int x1), (2, .int x2), (3, .ref x3), (4, .int x4)] → W p l e ⟨206, MC, MS, 5933⟩ s m args below meth c H locs cells slots (cx_MQ below (gQ vI post (fun u H => cBw G A (jW u).1 (jW u).2 H) A) (cXC G A [] (fun _ _ _ => False)) args s MC MS A) (F0 m 43 ls [])) : ∀ (x0 : Nat) (x1 : Int32) (x2 : Int32) (x3 : Nat) (x4 : Int32) (v0 : Int32) (v1 : Int32) (v2 : Nat) (mc ms : Nat) (N : NM) (H : Heap) (locs : List Loc) (ls : Array Slot) (cells slots : Nat), wX0_tried_72 (gC G) K43 post x0 x1 x2 x3 x4 v0 v1 v2 mc ms N → (cH G A s [] N H locs ∧ cells + mc ≤ MC ∧ slots + ms ≤ MS) → lv_has ls 5 [(0, .ref x0), (1, .int x1), (2, .int x2), (3, .ref x3), (4, .int x4)] → W p l e ⟨206, MC, MS, 5933⟩ s m args below meth c H locs cells slots (cx_MQ below (gQ vI post (fun u H => cBw G A (jW u).1 (jW u).2 H) A) (cXC G A [] (fun _ _ _ => False)) args s MC MS A) (F0 m 72 ls [.int v0, .int v1, .ref v2]) := by
  have hx := X.1.1
  have hb := X.1.2.1
  have hml := X.1.2.2.1
  have hown := X.1.2.2.2.1
  have hts := X.1.2.2.2.2
  intro x0 x1 x2 x3 x4 v0 v1 v2 mc ms N H locs ls cells slots h hw0 hl
  obtain ⟨hw, hbud⟩ := hw0
  unfold wX0_tried_72 at h
  obtain ⟨n144, f145, hN143, h⟩ := h
  obtain ⟨hi, h⟩ := h
  refine c_iast (pc := 72) X hw hN143 hi dX0_tried_72 (fun H locs hw => ?_)
  obtain ⟨N146, e147⟩ : ∃ z, z = va_up N v2 (some (eN 0 n144 (upd f145 v1.toNatClampNeg v0))) := ⟨_, rfl⟩
  have hw : cH G A s [] N146 H locs := by rw [e147]; exact hw
  have h := h N146 e147
  have hN148 : N146 v2 = some (eN 0 n144 (upd f145 v1.toNatClampNeg v0)) := by rw [e147]; exact up_s
  refine lv_iinc (pc := 73) (v := x4 + (1 : Int32)) (lv' := [(4, .int (x4 + (1 : Int32))), (0, .ref x0), (1, .int x1), (2, .int x2), (3, .ref x3)]) hx hb dX0_tried_73 hl (k := 4) rfl rfl (by decide) rfl (fun ls hl => ?_)
  refine lv_goto (pc := 76) (tgt := 43) hx hb dX0_tried_76 rfl ?_
  exact hK43 _ _ _ _ _ _ _ _ _ _ _ _ _ h ⟨hw, by omega⟩ (lv_sub hl [1, 2, 3, 4, 0] rfl)
theorem kX0_tried_43 {p : Program} {l : Launch} {e : Env} {s : State} {m : MethodId} {args : Array Value} {below : List Frame} {meth : Method} {c : Code} {G : gG} {A : Nat → Prop} {MC MS : Nat} {post : Int32 → NM → Prop} (X : cX G A RX0 p s m args c cX0_tried 5) (hr : meth.sig.returnType = (some .int)) (hlk : meth.locks = false) (hL : l.stackTraces = false) (hT : c.exceptionTable.toList = tableOf []) : ∀ (n : Nat) (x0 : Nat) (x1 : Int32) (x2 : Int32) (x3 : Nat) (x4 : Int32) (mc ms : Nat) (N : NM) (H : Heap) (locs : List Loc) (ls : Array Slot) (cells slots : Nat), wX0_tried_43 (gC G) post n x0 x1 x2 x3 x4 mc ms N → (cH G A s [] N H locs ∧ cells + mc ≤ MC ∧ slots + ms ≤ MS) → lv_has ls 5 [(0, .ref x0), (1, .int x1), (2, .int x2), (3, .ref x3), (4, .int x4)] → W p l e ⟨206, MC, MS, 5933⟩ s m args below meth c H locs cells slots (cx_MQ below (gQ vI post (fun u H => cBw G A (jW u).1 (jW u).2 H) A) (cXC G A [] (fun _ _ _ => False)) args s MC MS A) (F0 m 43 ls []) := by
  have hx := X.1.1
  have hb := X.1.2.1
  have hml := X.1.2.2.1
  have hown := X.1.2.2.2.1
  have hts := X.1.2.2.2.2
  intro n
  induction n with
  | zero =>
    intro x0 x1 x2 x3 x4 mc ms N H locs ls cells slots h
    exact False.elim h
  | succ n ih =>
    intro x0 x1 x2 x3 x4 mc ms N H locs ls cells slots h hw0 hl
    obtain ⟨hw, hbud⟩ := hw0
    unfold wX0_tried_43 at h
    refine lv_iload (pc := 43) hx hb dX0_tried_43 (lv_at hl 4 rfl) ?_
    refine lv_bipush (pc := 45) (v := (6 : Int32)) hx hb dX0_tried_45 (by decide) ?_
    refine lv_icmp_ge (pc := 47) (tgt := 79) hx hb dX0_tried_47 rfl (fun c38 => ?_) (fun c38 => ?_)
    · have h := h.1 c38
      refine lv_iconst (pc := 79) (v := (0 : Int32)) hx hb dX0_tried_79 (by decide) ?_
      refine lv_istore (pc := 80) (lv' := [(4, .int (0 : Int32)), (0, .ref x0), (1, .int x1), (2, .int x2), (3, .ref x3)]) hx hb dX0_tried_80 hl (by decide) rfl (fun ls hl => ?_)
      obtain ⟨k, h⟩ := h
      exact kX0_tried_82 X hr hlk hL hT  k _ _ _ _ _ _ _ _ _ _ _ _ _ h ⟨hw, by omega⟩ (lv_sub hl [1, 2, 3, 4, 0] rfl)
    · have h := h.2 c38
      refine lv_aload_n (pc := 50) hx hb dX0_tried_50 rfl (lv_at hl 3 rfl) ?_
      refine lv_iload (pc := 51) hx hb dX0_tried_51 (lv_at hl 4 rfl) ?_
      refine lv_aload_n (pc := 53) hx hb dX0_tried_53 rfl (lv_at hl 0 rfl) ?_
      obtain ⟨f123, f124, f125, f126, f127, f128, f129, f130, f131, f132, f133, f134, f135, f136, f137, f138, f139, f140, f141, hN122, h⟩ := h
      refine c_get (pc := 54) X hw hN122 in_X0 rfl 9 (by decide) q223 rfl rfl dX0_tried_54 ?_
      refine lv_iload (pc := 57) hx hb dX0_tried_57 (lv_at hl 4 rfl) ?_
      refine lv_ishr (pc := 59) hx hb dX0_tried_59 ?_
      refine lv_iconst (pc := 60) (v := (1 : Int32)) hx hb dX0_tried_60 (by decide) ?_
      refine lv_iand (pc := 61) hx hb dX0_tried_61 ?_
      refine lv_iconst (pc := 62) (v := (1 : Int32)) hx hb dX0_tried_62 (by decide) ?_
      refine lv_icmp_ne (pc := 63) (tgt := 71) hx hb dX0_tried_63 rfl (fun c142 => ?_) (fun c142 => ?_)
      · have h := h.2 c142
        refine lv_iconst (pc := 71) (v := (0 : Int32)) hx hb dX0_tried_71 (by decide) ?_
        exact kX0_tried_72 X hr hlk hL hT ih _ _ _ _ _ _ _ _ _ _ _ _ _ _ _ _ h ⟨hw, by omega⟩ (lv_sub hl [0, 1, 2, 3, 4] rfl)
      · have h := h.1 c142
        refine lv_iload_n (pc := 66) hx hb dX0_tried_66 rfl (lv_at hl 1 rfl) ?_
        refine lv_ineg (pc := 67) hx hb dX0_tried_67 ?_
        refine lv_goto (pc := 68) (tgt := 72) hx hb dX0_tried_68 rfl ?_
        exact kX0_tried_72 X hr hlk hL hT ih _ _ _ _ _ _ _ _ _ _ _ _ _ _ _ _ h ⟨hw, by omega⟩ (lv_sub hl [0, 1, 2, 3, 4] rfl)
theorem txX0_tried {l : Launch} (hL : l.stackTraces = false) {G : gG} (hO : gOk G) {post : Int32 → NM → Prop} {MC MS : Nat} {N : NM} {x0 : Nat} {x1 : Int32} {x2 : Int32} {sz : Nat} (h : wX0_tried (gC G) post MC MS N x0 x1 x2) : cx_Met l yX0_tried (ws_ yX0_tried cX0_tried 5 (some .int)) ⟨206, MC, MS, 5933⟩ (va_Pc [.ref x0, .int x1, .int x2] (cPre G [] N sz)) (gQ vI post (fun u H => cBw G (cA [] N sz) (jW u).1 (jW u).2 H) (cA [] N sz)) (cXC G (cA [] N sz) [] (fun _ _ _ => False)) MC MS (cA [] N sz) := by
  refine c_ofX (B := fun A u H => cBw G A (jW u).1 (jW u).2 H) (by decide) hO (Nat.le_of_ble_eq_true rfl) (fun p e s m below meth c ls A X hr hlk hT hw hl => ?_)
  have hl : lv_has ls 5 [(0, .ref x0), (1, .int x1), (2, .int x2)] := hl
  have hx := X.1.1
  have hb := X.1.2.1
  have hml := X.1.2.2.1
  have hown := X.1.2.2.2.1
  have hts := X.1.2.2.2.2
  obtain ⟨H, eH⟩ : ∃ z, z = s.heap := ⟨_, rfl⟩
  rw [← eH] at hw ⊢
  obtain ⟨locs, eLo⟩ : ∃ z : List Loc, z = [] := ⟨_, rfl⟩
  rw [← eLo] at hw ⊢
  have hbud : 0 + MC ≤ MC ∧ 0 + MS ≤ MS := by omega
  unfold wX0_tried at h
  refine lv_aload_n (pc := 0) hx hb dX0_tried_0 rfl (lv_at hl 0 rfl) ?_
  obtain ⟨f2, f3, f4, f5, f6, f7, f8, f9, f10, f11, f12, f13, f14, f15, f16, f17, f18, f19, f20, hN1, h⟩ := h
  refine c_get (pc := 1) X hw hN1 in_X0 rfl 7 (by decide) q219 rfl rfl dX0_tried_1 ?_
  refine lq_ifnull (pc := 4) (tgt := 31) hx hb dX0_tried_4 rfl (fun hz21 => ?_) (fun a22 hr23 => ?_)
  · have h := h.1 hz21
    refine lv_ldcw (pc := 31) hx hb hown (hts _ q1540) dX0_tried_31 ?_
    refine W.widen (k := MC) (n := MS) (by omega) (by omega) ?_
    refine cx_ret ?_
    exact W.iret (pc := 34) hx hb hr (fun t ht hW => c_ret (val := vI) (lw := jW) (u := N) hw h ht) hw.2.2.2 dX0_tried_34 hlk
  · have h := h.2 a22 hr23
    refine lv_iload_n (pc := 7) hx hb dX0_tried_7 rfl (lv_at hl 1 rfl) ?_
    refine lv_i2l (pc := 8) hx hb dX0_tried_8 rfl ?_
    refine lv_lconst (pc := 9) (v := (0 : Int64)) hx hb dX0_tried_9 (by decide) ?_
    refine lv_ldc2 (pc := 10) hx hb hown (hts _ q391) dX0_tried_10 ?_
    refine s_call (pc := 13) (val := vI) (As := [.long x1.toInt64, .long (0 : Int64), .long (3 : Int64)]) (rest := []) X.1 (tX0_isIn h) (lw_S q380 q381 q102 q382) ⟨by decide, by decide, (by decide +kernel : (parseMethodDescriptor yX0_isIn.desc).map (fun d => d.parameters.length) = some 3)⟩ ⟨Nat.le_of_ble_eq_true rfl, Nat.le_of_ble_eq_true rfl⟩ hl.1 (Nat.le_of_ble_eq_true rfl) ⟨show 0 ≤ MC by omega, show 0 ≤ MS by omega⟩ dX0_tried_13 rfl (fun r24 h => ?_)
    refine W.eq (g2 := F0 m 16 ls (.int r24 :: [])) rfl ?_
    refine lv_if_eq (pc := 16) (tgt := 31) hx hb dX0_tried_16 rfl (fun c25 => ?_) (fun c25 => ?_)
    · have h := h.1 c25
      refine lv_ldcw (pc := 31) hx hb hown (hts _ q1540) dX0_tried_31 ?_
      refine W.widen (k := MC) (n := MS) (by omega) (by omega) ?_
      refine cx_ret ?_
      exact W.iret (pc := 34) hx hb hr (fun t ht hW => c_ret (val := vI) (lw := jW) (u := N) hw h ht) hw.2.2.2 dX0_tried_34 hlk
    · have h := h.2 c25
      refine lv_iload_n (pc := 19) hx hb dX0_tried_19 rfl (lv_at hl 2 rfl) ?_
      refine lv_i2l (pc := 20) hx hb dX0_tried_20 rfl ?_
      refine lv_lconst (pc := 21) (v := (0 : Int64)) hx hb dX0_tried_21 (by decide) ?_
      refine lv_ldc2 (pc := 22) hx hb hown (hts _ q1898) dX0_tried_22 ?_
      refine s_call (pc := 25) (val := vI) (As := [.long x2.toInt64, .long (0 : Int64), .long (7 : Int64)]) (rest := []) X.1 (tX0_isIn h) (lw_S q380 q381 q102 q382) ⟨by decide, by decide, (by decide +kernel : (parseMethodDescriptor yX0_isIn.desc).map (fun d => d.parameters.length) = some 3)⟩ ⟨Nat.le_of_ble_eq_true rfl, Nat.le_of_ble_eq_true rfl⟩ hl.1 (Nat.le_of_ble_eq_true rfl) ⟨show 0 ≤ MC by omega, show 0 ≤ MS by omega⟩ dX0_tried_25 rfl (fun r26 h => ?_)
      refine W.eq (g2 := F0 m 28 ls (.int r26 :: [])) rfl ?_
      refine lv_if_ne (pc := 28) (tgt := 35) hx hb dX0_tried_28 rfl (fun c27 => ?_) (fun c27 => ?_)
      · have h := h.2 c27
        refine lv_bipush (pc := 35) (v := (7 : Int32)) hx hb dX0_tried_35 (by decide) ?_
        obtain ⟨hm28, hm29, hm30, hm31, h⟩ := h
        refine c_newa (pc := 37) (atype := .int) (ty := .int) (a0 := ((7 : Int32).toNatClampNeg, .inl (fun _ => (0 : Int32)))) X hw rfl q375 0 rfl (fun _ => rfl) hm28 rfl (Nat.le_trans (Nat.mul_le_mul_right _ hm29) (Nat.le_of_ble_eq_true rfl)) (show 0 + 1 ≤ MC by omega) (show 0 + (7 : Int32).toNatClampNeg ≤ MS by omega) dX0_tried_37 (fun nq32 H hq33 _ hw => ?_)
        have h := h nq32 hq33
        obtain ⟨N34, e35⟩ : ∃ z, z = va_up N nq32 (some (eN 0 ((7 : Int32).toNatClampNeg) (fun _ => (0 : Int32)))) := ⟨_, rfl⟩
        have hw : cH G A s [] N34 H locs := by rw [e35]; exact hw
        have h := h N34 e35
        have hN36 : N34 nq32 = some (eN 0 ((7 : Int32).toNatClampNeg) (fun _ => (0 : Int32))) := by rw [e35]; exact up_s
        have hN37 := up_f (x := some (eN 0 ((7 : Int32).toNatClampNeg) (fun _ => (0 : Int32)))) hq33 hN1
        rw [← e35] at hN37
        refine lv_astore_n (pc := 39) (lv' := [(3, .ref nq32), (0, .ref x0), (1, .int x1), (2, .int x2)]) hx hb dX0_tried_39 rfl hl (by decide) rfl (fun ls hl => ?_)
        refine lv_iconst (pc := 40) (v := (0 : Int32)) hx hb dX0_tried_40 (by decide) ?_
        refine lv_istore (pc := 41) (lv' := [(4, .int (0 : Int32)), (3, .ref nq32), (0, .ref x0), (1, .int x1), (2, .int x2)]) hx hb dX0_tried_41 hl (by decide) rfl (fun ls hl => ?_)
        obtain ⟨k, h⟩ := h
        exact kX0_tried_43 X hr hlk hL hT  k _ _ _ _ _ _ _ _ _ _ _ _ _ h ⟨hw, by omega⟩ (lv_sub hl [2, 3, 4, 1, 0] rfl)
      · have h := h.1 c27
        refine lv_ldcw (pc := 31) hx hb hown (hts _ q1540) dX0_tried_31 ?_
        refine W.widen (k := MC) (n := MS) (by omega) (by omega) ?_
        refine cx_ret ?_
        exact W.iret (pc := 34) hx hb hr (fun t ht hW => c_ret (val := vI) (lw := jW) (u := N) hw h ht) hw.2.2.2 dX0_tried_34 hlk
theorem tX0_tried {l : Launch} (hL : l.stackTraces = false) {G : gG} (hO : gOk G) {post : Int32 → NM → Prop} {MC MS : Nat} {N : NM} {x0 : Nat} {x1 : Int32} {x2 : Int32} {sz : Nat} (h : wX0_tried (gC G) post MC MS N x0 x1 x2) : Met l yX0_tried (ws_ yX0_tried cX0_tried 5 (some .int)) ⟨206, MC, MS, 5933⟩ (va_Pc [.ref x0, .int x1, .int x2] (cPre G [] N sz)) (gQ vI post (fun u H => cBw G (cA [] N sz) (jW u).1 (jW u).2 H) (cA [] N sz)) MC MS (cA [] N sz) := cx_toMet (txX0_tried hL hO h)

def wX0_side_132 (K : Nat → Nat → Nat) (post : Int64 → NM → Prop) (x8 : Nat) (v0 : Option Nat) (mc ms : Nat) (N : NM) : Prop :=
  ∃ mc82 ms83, mc82 ≤ mc ∧ ms83 ≤ ms ∧ wX0_told K (fun r80 N81 => post r80 N81) mc82 ms83 N v0 x8
def wX0_side_75 (K : Nat → Nat → Nat) (post : Int64 → NM → Prop) : Nat → Nat → Int32 → Nat → Int32 → Nat → Int32 → Int32 → Nat → Nat → NM → Prop
  | 0, _, _, _, _, _, _, _, _, _, _ => False
  | n + 1, x0, x1, x8, x9, x10, x11, x12, mc, ms, N => ((x11 ≤ x12) → (((x9 = (0 : Int32)) → (post (-9223372036854775808 : Int64) N)) ∧ (¬ (x9 = (0 : Int32)) → (((x1 = (0 : Int32)) → (∃ f87 f88 f89 f90 f91 f92 f93 f94 f95 f96 f97 f98 f99 f100 f101 f102 f103 f104 f105, N x0 = some (eO 1 [va_rf f87, va_rf f88, va_rf f89, va_rf f90, va_rf f91, va_rf f92, va_rf f93, va_rf f94, va_rf f95, .int f96, .int f97, va_rf f98, va_rf f99, .int f100, va_rf f101, va_rf f102, va_rf f103, va_rf f104, va_rf f105]) ∧ (wX0_side_132 K post x8 f94 mc ms N))) ∧ (¬ (x1 = (0 : Int32)) → (∃ f61 f62 f63 f64 f65 f66 f67 f68 f69 f70 f71 f72 f73 f74 f75 f76 f77 f78 f79, N x0 = some (eO 1 [va_rf f61, va_rf f62, va_rf f63, va_rf f64, va_rf f65, va_rf f66, va_rf f67, va_rf f68, va_rf f69, .int f70, .int f71, va_rf f72, va_rf f73, .int f74, va_rf f75, va_rf f76, va_rf f77, va_rf f78, va_rf f79]) ∧ (wX0_side_132 K post x8 f69 mc ms N))))))) ∧ (¬ (x11 ≤ x12) → (∃ n107 f108, N x10 = some (eN 0 n107 f108) ∧ (vp_in x12 n107 ∧ (wX0_isIn (fun r109 => wX0_side_75 K post n x0 x1 x8 (x9 &&& r109) x10 x11 (x12 + (1 : Int32)) mc ms N) ((f108 x12.toNatClampNeg).toInt64) (-9 : Int64) (9 : Int64)))))
def wX0_side_61 (K : Nat → Nat → Nat) (post : Int64 → NM → Prop) (x0 : Nat) (x1 : Int32) (x8 : Nat) (v0 : Int32) (mc ms : Nat) (N : NM) : Prop :=
  ∃ n55 f56, N x8 = some (eN 0 n55 f56) ∧ ((∃ k, wX0_side_75 K post k x0 x1 x8 v0 x8 (nI n55) (0 : Int32) mc ms N))
def wX0_side_60 (K : Nat → Nat → Nat) (post : Int64 → NM → Prop) (x0 : Nat) (x1 : Int32) (x8 : Nat) (mc ms : Nat) (N : NM) : Prop :=
  wX0_side_61 K post x0 x1 x8 (0 : Int32) mc ms N
def wX0_side (K : Nat → Nat → Nat) (post : Int64 → NM → Prop) (MC MS : Nat) (N : NM) (x0 : Nat) (x1 : Int32) (x2 : Int32) (x3 : Int32) (x4 : Int32) (x5 : Int32) (x6 : Int32) (x7 : Int32) : Prop :=
  ¬ (7 : Int32) < 0 ∧ (7 : Int32).toNatClampNeg ≤ 65536 ∧ 1 ≤ MC ∧ (7 : Int32).toNatClampNeg ≤ MS ∧ (∀ nq5, N nq5 = none → (∀ N7, N7 = va_up N nq5 (some (eN 0 ((7 : Int32).toNatClampNeg) (fun _ => (0 : Int32)))) → (vp_in (0 : Int32) ((7 : Int32).toNatClampNeg) ∧ (∀ N10, N10 = va_up N7 nq5 (some (eN 0 ((7 : Int32).toNatClampNeg) (upd (fun _ => (0 : Int32)) (0 : Int32).toNatClampNeg x2))) → (vp_in (1 : Int32) ((7 : Int32).toNatClampNeg) ∧ (∀ N13, N13 = va_up N10 nq5 (some (eN 0 ((7 : Int32).toNatClampNeg) (upd (upd (fun _ => (0 : Int32)) (0 : Int32).toNatClampNeg x2) (1 : Int32).toNatClampNeg x3))) → (vp_in (2 : Int32) ((7 : Int32).toNatClampNeg) ∧ (∀ N16, N16 = va_up N13 nq5 (some (eN 0 ((7 : Int32).toNatClampNeg) (upd (upd (upd (fun _ => (0 : Int32)) (0 : Int32).toNatClampNeg x2) (1 : Int32).toNatClampNeg x3) (2 : Int32).toNatClampNeg x4))) → (vp_in (3 : Int32) ((7 : Int32).toNatClampNeg) ∧ (∀ N19, N19 = va_up N16 nq5 (some (eN 0 ((7 : Int32).toNatClampNeg) (upd (upd (upd (upd (fun _ => (0 : Int32)) (0 : Int32).toNatClampNeg x2) (1 : Int32).toNatClampNeg x3) (2 : Int32).toNatClampNeg x4) (3 : Int32).toNatClampNeg x5))) → (vp_in (4 : Int32) ((7 : Int32).toNatClampNeg) ∧ (∀ N22, N22 = va_up N19 nq5 (some (eN 0 ((7 : Int32).toNatClampNeg) (upd (upd (upd (upd (upd (fun _ => (0 : Int32)) (0 : Int32).toNatClampNeg x2) (1 : Int32).toNatClampNeg x3) (2 : Int32).toNatClampNeg x4) (3 : Int32).toNatClampNeg x5) (4 : Int32).toNatClampNeg x6))) → (vp_in (5 : Int32) ((7 : Int32).toNatClampNeg) ∧ (∀ N25, N25 = va_up N22 nq5 (some (eN 0 ((7 : Int32).toNatClampNeg) (upd (upd (upd (upd (upd (upd (fun _ => (0 : Int32)) (0 : Int32).toNatClampNeg x2) (1 : Int32).toNatClampNeg x3) (2 : Int32).toNatClampNeg x4) (3 : Int32).toNatClampNeg x5) (4 : Int32).toNatClampNeg x6) (5 : Int32).toNatClampNeg x7))) → (vp_in (6 : Int32) ((7 : Int32).toNatClampNeg) ∧ (∀ N28, N28 = va_up N25 nq5 (some (eN 0 ((7 : Int32).toNatClampNeg) (upd (upd (upd (upd (upd (upd (upd (fun _ => (0 : Int32)) (0 : Int32).toNatClampNeg x2) (1 : Int32).toNatClampNeg x3) (2 : Int32).toNatClampNeg x4) (3 : Int32).toNatClampNeg x5) (4 : Int32).toNatClampNeg x6) (5 : Int32).toNatClampNeg x7) (6 : Int32).toNatClampNeg (0 : Int32)))) → (∃ f32 f33 f34 f35 f36 f37 f38 f39 f40 f41 f42 f43 f44 f45 f46 f47 f48 f49 f50, N28 x0 = some (eO 1 [va_rf f32, va_rf f33, va_rf f34, va_rf f35, va_rf f36, va_rf f37, va_rf f38, va_rf f39, va_rf f40, .int f41, .int f42, va_rf f43, va_rf f44, .int f45, va_rf f46, va_rf f47, va_rf f48, va_rf f49, va_rf f50]) ∧ ((f39 = none → (wX0_side_60 K post x0 x1 nq5 (MC - 1) (MS - (7 : Int32).toNatClampNeg) N28)) ∧ (∀ a52, f39 = some a52 → (wX0_isIn (fun r110 => ((r110 = (0 : Int32)) → (wX0_side_60 K post x0 x1 nq5 (MC - 1) (MS - (7 : Int32).toNatClampNeg) N28)) ∧ (¬ (r110 = (0 : Int32)) → (wX0_side_61 K post x0 x1 nq5 (1 : Int32) (MC - 1) (MS - (7 : Int32).toNatClampNeg) N28))) x1.toInt64 (0 : Int64) (1 : Int64)))))))))))))))))))))
theorem kX0_side_132 {p : Program} {l : Launch} {e : Env} {s : State} {m : MethodId} {args : Array Value} {below : List Frame} {meth : Method} {c : Code} {G : gG} {A : Nat → Prop} {MC MS : Nat} {post : Int64 → NM → Prop} (X : cX G A RX0 p s m args c cX0_side 14) (hr : meth.sig.returnType = (some .long)) (hlk : meth.locks = false) (hL : l.stackTraces = false) (hT : c.exceptionTable.toList = tableOf []) : ∀ (x8 : Nat) (v0 : Option Nat) (mc ms : Nat) (N : NM) (H : Heap) (locs : List Loc) (ls : Array Slot) (cells slots : Nat), wX0_side_132 (gC G) post x8 v0 mc ms N → (cH G A s [] N H locs ∧ cells + mc ≤ MC ∧ slots + ms ≤ MS) → lv_has ls 14 [(8, .ref x8)] → W p l e ⟨205, MC, MS, 5912⟩ s m args below meth c H locs cells slots (cx_MQ below (gQ vL post (fun u H => cBw G A (jW u).1 (jW u).2 H) A) (cXC G A [] (fun _ _ _ => False)) args s MC MS A) (F0 m 132 ls [va_rf v0]) := by
  have hx := X.1.1
  have hb := X.1.2.1
  have hml := X.1.2.2.1
  have hown := X.1.2.2.2.1
  have hts := X.1.2.2.2.2
  intro x8 v0 mc ms N H locs ls cells slots h hw0 hl
  obtain ⟨hw, hbud⟩ := hw0
  unfold wX0_side_132 at h
  refine lv_aload (pc := 132) hx hb dX0_side_132 (lv_at hl 0 rfl) ?_
  obtain ⟨mc82, ms83, hm84, hm85, h⟩ := h
  refine c_callJ (pc := 134) (val := vL) X hw (va_runS (g := F0 m 134 ls _) (As := [va_rf v0, .ref x8]) (rest := []) X.1 (tX0_told hL X.2.2.1 (sz := H.size) h) (va_cwS 2 hts (lw_S q1943 q1944 q102 q1945) rfl rfl rfl ⟨by decide, by decide, (by decide +kernel : (parseMethodDescriptor yX0_told.desc).map (fun d => d.parameters.length) = some 2)⟩ ⟨Nat.le_of_ble_eq_true rfl, Nat.le_of_ble_eq_true rfl⟩) ⟨cPre_blind, fun U hU hW => ⟨rfl, X.preJ hw hU hW⟩⟩ rfl rfl hl.1 rfl (lv_room (Nat.le_of_ble_eq_true rfl)) dX0_side_134 ⟨show cells + mc82 ≤ MC by omega, show slots + ms83 ≤ MS by omega⟩) (fun r80 N81 H locs h hw => ?_)
  refine W.eq (g2 := F0 m 137 ls (.long r80 :: [])) rfl ?_
  refine lv_goto (pc := 137) (tgt := 143) hx hb dX0_side_137 rfl ?_
  refine W.widen (k := MC) (n := MS) (by omega) (by omega) ?_
  refine cx_ret ?_
  exact W.lret (pc := 143) hx hb hr (fun t ht hW => c_ret (val := vL) (lw := jW) (u := N81) hw h ht) hw.2.2.2 dX0_side_143 hlk
theorem kX0_side_75 {p : Program} {l : Launch} {e : Env} {s : State} {m : MethodId} {args : Array Value} {below : List Frame} {meth : Method} {c : Code} {G : gG} {A : Nat → Prop} {MC MS : Nat} {post : Int64 → NM → Prop} (X : cX G A RX0 p s m args c cX0_side 14) (hr : meth.sig.returnType = (some .long)) (hlk : meth.locks = false) (hL : l.stackTraces = false) (hT : c.exceptionTable.toList = tableOf []) : ∀ (n : Nat) (x0 : Nat) (x1 : Int32) (x8 : Nat) (x9 : Int32) (x10 : Nat) (x11 : Int32) (x12 : Int32) (mc ms : Nat) (N : NM) (H : Heap) (locs : List Loc) (ls : Array Slot) (cells slots : Nat), wX0_side_75 (gC G) post n x0 x1 x8 x9 x10 x11 x12 mc ms N → (cH G A s [] N H locs ∧ cells + mc ≤ MC ∧ slots + ms ≤ MS) → lv_has ls 14 [(0, .ref x0), (1, .int x1), (8, .ref x8), (9, .int x9), (10, .ref x10), (11, .int x11), (12, .int x12)] → W p l e ⟨205, MC, MS, 5912⟩ s m args below meth c H locs cells slots (cx_MQ below (gQ vL post (fun u H => cBw G A (jW u).1 (jW u).2 H) A) (cXC G A [] (fun _ _ _ => False)) args s MC MS A) (F0 m 75 ls []) := by
  have hx := X.1.1
  have hb := X.1.2.1
  have hml := X.1.2.2.1
  have hown := X.1.2.2.2.1
  have hts := X.1.2.2.2.2
  intro n
  induction n with
  | zero =>
    intro x0 x1 x8 x9 x10 x11 x12 mc ms N H locs ls cells slots h
    exact False.elim h
  | succ n ih =>
    intro x0 x1 x8 x9 x10 x11 x12 mc ms N H locs ls cells slots h hw0 hl
    obtain ⟨hw, hbud⟩ := hw0
    unfold wX0_side_75 at h
    refine lv_iload (pc := 75) hx hb dX0_side_75 (lv_at hl 6 rfl) ?_
    refine lv_iload (pc := 77) hx hb dX0_side_77 (lv_at hl 5 rfl) ?_
    refine lv_icmp_ge (pc := 79) (tgt := 112) hx hb dX0_side_79 rfl (fun c57 => ?_) (fun c57 => ?_)
    · have h := h.1 c57
      refine lv_iload (pc := 112) hx hb dX0_side_112 (lv_at hl 3 rfl) ?_
      refine lv_if_eq (pc := 114) (tgt := 140) hx hb dX0_side_114 rfl (fun c58 => ?_) (fun c58 => ?_)
      · have h := h.1 c58
        refine lv_ldc2 (pc := 140) hx hb hown (hts _ q1925) dX0_side_140 ?_
        refine W.widen (k := MC) (n := MS) (by omega) (by omega) ?_
        refine cx_ret ?_
        exact W.lret (pc := 143) hx hb hr (fun t ht hW => c_ret (val := vL) (lw := jW) (u := N) hw h ht) hw.2.2.2 dX0_side_143 hlk
      · have h := h.2 c58
        refine lv_iload_n (pc := 117) hx hb dX0_side_117 rfl (lv_at hl 1 rfl) ?_
        refine lv_if_ne (pc := 118) (tgt := 128) hx hb dX0_side_118 rfl (fun c59 => ?_) (fun c59 => ?_)
        · have h := h.2 c59
          refine lv_aload_n (pc := 128) hx hb dX0_side_128 rfl (lv_at hl 0 rfl) ?_
          obtain ⟨f61, f62, f63, f64, f65, f66, f67, f68, f69, f70, f71, f72, f73, f74, f75, f76, f77, f78, f79, hN60, h⟩ := h
          refine c_get (pc := 129) X hw hN60 in_X0 rfl 8 (by decide) q221 rfl rfl dX0_side_129 ?_
          exact kX0_side_132 X hr hlk hL hT  _ _ _ _ _ _ _ _ _ _ h ⟨hw, by omega⟩ (lv_sub hl [2] rfl)
        · have h := h.1 c59
          refine lv_aload_n (pc := 121) hx hb dX0_side_121 rfl (lv_at hl 0 rfl) ?_
          obtain ⟨f87, f88, f89, f90, f91, f92, f93, f94, f95, f96, f97, f98, f99, f100, f101, f102, f103, f104, f105, hN86, h⟩ := h
          refine c_get (pc := 122) X hw hN86 in_X0 rfl 7 (by decide) q219 rfl rfl dX0_side_122 ?_
          refine lv_goto (pc := 125) (tgt := 132) hx hb dX0_side_125 rfl ?_
          exact kX0_side_132 X hr hlk hL hT  _ _ _ _ _ _ _ _ _ _ h ⟨hw, by omega⟩ (lv_sub hl [2] rfl)
    · have h := h.2 c57
      refine lv_aload (pc := 82) hx hb dX0_side_82 (lv_at hl 4 rfl) ?_
      refine lv_iload (pc := 84) hx hb dX0_side_84 (lv_at hl 6 rfl) ?_
      obtain ⟨n107, f108, hN106, h⟩ := h
      obtain ⟨hi, h⟩ := h
      refine c_iald (pc := 86) X hw hN106 hi dX0_side_86 ?_
      refine lv_istore (pc := 87) (lv' := [(13, .int (f108 x12.toNatClampNeg)), (0, .ref x0), (1, .int x1), (8, .ref x8), (9, .int x9), (10, .ref x10), (11, .int x11), (12, .int x12)]) hx hb dX0_side_87 hl (by decide) rfl (fun ls hl => ?_)
      refine lv_iload (pc := 89) hx hb dX0_side_89 (lv_at hl 4 rfl) ?_
      refine lv_iload (pc := 91) hx hb dX0_side_91 (lv_at hl 0 rfl) ?_
      refine lv_i2l (pc := 93) hx hb dX0_side_93 rfl ?_
      refine lv_ldc2 (pc := 94) hx hb hown (hts _ q1941) dX0_side_94 ?_
      refine lv_ldc2 (pc := 97) hx hb hown (hts _ q1942) dX0_side_97 ?_
      refine s_call (pc := 100) (val := vI) (As := [.long ((f108 x12.toNatClampNeg).toInt64), .long (-9 : Int64), .long (9 : Int64)]) (rest := [.int x9]) X.1 (tX0_isIn h) (lw_S q380 q381 q102 q382) ⟨by decide, by decide, (by decide +kernel : (parseMethodDescriptor yX0_isIn.desc).map (fun d => d.parameters.length) = some 3)⟩ ⟨Nat.le_of_ble_eq_true rfl, Nat.le_of_ble_eq_true rfl⟩ hl.1 (Nat.le_of_ble_eq_true rfl) ⟨show cells ≤ MC by omega, show slots ≤ MS by omega⟩ dX0_side_100 rfl (fun r109 h => ?_)
      refine W.eq (g2 := F0 m 103 ls (.int r109 :: [.int x9])) rfl ?_
      refine lv_iand (pc := 103) hx hb dX0_side_103 ?_
      refine lv_istore (pc := 104) (lv' := [(9, .int (x9 &&& r109)), (13, .int (f108 x12.toNatClampNeg)), (0, .ref x0), (1, .int x1), (8, .ref x8), (10, .ref x10), (11, .int x11), (12, .int x12)]) hx hb dX0_side_104 hl (by decide) rfl (fun ls hl => ?_)
      refine lv_iinc (pc := 106) (v := x12 + (1 : Int32)) (lv' := [(12, .int (x12 + (1 : Int32))), (9, .int (x9 &&& r109)), (13, .int (f108 x12.toNatClampNeg)), (0, .ref x0), (1, .int x1), (8, .ref x8), (10, .ref x10), (11, .int x11)]) hx hb dX0_side_106 hl (k := 7) rfl rfl (by decide) rfl (fun ls hl => ?_)
      refine lv_goto (pc := 109) (tgt := 75) hx hb dX0_side_109 rfl ?_
      exact ih _ _ _ _ _ _ _ _ _ _ _ _ _ _ _ h ⟨hw, by omega⟩ (lv_sub hl [3, 4, 5, 1, 6, 7, 0] rfl)
theorem kX0_side_61 {p : Program} {l : Launch} {e : Env} {s : State} {m : MethodId} {args : Array Value} {below : List Frame} {meth : Method} {c : Code} {G : gG} {A : Nat → Prop} {MC MS : Nat} {post : Int64 → NM → Prop} (X : cX G A RX0 p s m args c cX0_side 14) (hr : meth.sig.returnType = (some .long)) (hlk : meth.locks = false) (hL : l.stackTraces = false) (hT : c.exceptionTable.toList = tableOf []) : ∀ (x0 : Nat) (x1 : Int32) (x8 : Nat) (v0 : Int32) (mc ms : Nat) (N : NM) (H : Heap) (locs : List Loc) (ls : Array Slot) (cells slots : Nat), wX0_side_61 (gC G) post x0 x1 x8 v0 mc ms N → (cH G A s [] N H locs ∧ cells + mc ≤ MC ∧ slots + ms ≤ MS) → lv_has ls 14 [(0, .ref x0), (1, .int x1), (8, .ref x8)] → W p l e ⟨205, MC, MS, 5912⟩ s m args below meth c H locs cells slots (cx_MQ below (gQ vL post (fun u H => cBw G A (jW u).1 (jW u).2 H) A) (cXC G A [] (fun _ _ _ => False)) args s MC MS A) (F0 m 61 ls [.int v0]) := by
  have hx := X.1.1
  have hb := X.1.2.1
  have hml := X.1.2.2.1
  have hown := X.1.2.2.2.1
  have hts := X.1.2.2.2.2
  intro x0 x1 x8 v0 mc ms N H locs ls cells slots h hw0 hl
  obtain ⟨hw, hbud⟩ := hw0
  unfold wX0_side_61 at h
  refine lv_istore (pc := 61) (lv' := [(9, .int v0), (0, .ref x0), (1, .int x1), (8, .ref x8)]) hx hb dX0_side_61 hl (by decide) rfl (fun ls hl => ?_)
  refine lv_aload (pc := 63) hx hb dX0_side_63 (lv_at hl 3 rfl) ?_
  refine lv_astore (pc := 65) (lv' := [(10, .ref x8), (9, .int v0), (0, .ref x0), (1, .int x1), (8, .ref x8)]) hx hb dX0_side_65 hl (by decide) rfl (fun ls hl => ?_)
  refine lv_aload (pc := 67) hx hb dX0_side_67 (lv_at hl 0 rfl) ?_
  obtain ⟨n55, f56, hN54, h⟩ := h
  refine c_alen (pc := 69) X hw hN54 rfl dX0_side_69 ?_
  refine lv_istore (pc := 70) (lv' := [(11, .int (nI n55)), (10, .ref x8), (9, .int v0), (0, .ref x0), (1, .int x1), (8, .ref x8)]) hx hb dX0_side_70 hl (by decide) rfl (fun ls hl => ?_)
  refine lv_iconst (pc := 72) (v := (0 : Int32)) hx hb dX0_side_72 (by decide) ?_
  refine lv_istore (pc := 73) (lv' := [(12, .int (0 : Int32)), (11, .int (nI n55)), (10, .ref x8), (9, .int v0), (0, .ref x0), (1, .int x1), (8, .ref x8)]) hx hb dX0_side_73 hl (by decide) rfl (fun ls hl => ?_)
  obtain ⟨k, h⟩ := h
  exact kX0_side_75 X hr hlk hL hT  k _ _ _ _ _ _ _ _ _ _ _ _ _ _ _ h ⟨hw, by omega⟩ (lv_sub hl [4, 5, 6, 3, 2, 1, 0] rfl)
theorem kX0_side_60 {p : Program} {l : Launch} {e : Env} {s : State} {m : MethodId} {args : Array Value} {below : List Frame} {meth : Method} {c : Code} {G : gG} {A : Nat → Prop} {MC MS : Nat} {post : Int64 → NM → Prop} (X : cX G A RX0 p s m args c cX0_side 14) (hr : meth.sig.returnType = (some .long)) (hlk : meth.locks = false) (hL : l.stackTraces = false) (hT : c.exceptionTable.toList = tableOf []) : ∀ (x0 : Nat) (x1 : Int32) (x8 : Nat) (mc ms : Nat) (N : NM) (H : Heap) (locs : List Loc) (ls : Array Slot) (cells slots : Nat), wX0_side_60 (gC G) post x0 x1 x8 mc ms N → (cH G A s [] N H locs ∧ cells + mc ≤ MC ∧ slots + ms ≤ MS) → lv_has ls 14 [(0, .ref x0), (1, .int x1), (8, .ref x8)] → W p l e ⟨205, MC, MS, 5912⟩ s m args below meth c H locs cells slots (cx_MQ below (gQ vL post (fun u H => cBw G A (jW u).1 (jW u).2 H) A) (cXC G A [] (fun _ _ _ => False)) args s MC MS A) (F0 m 60 ls []) := by
  have hx := X.1.1
  have hb := X.1.2.1
  have hml := X.1.2.2.1
  have hown := X.1.2.2.2.1
  have hts := X.1.2.2.2.2
  intro x0 x1 x8 mc ms N H locs ls cells slots h hw0 hl
  obtain ⟨hw, hbud⟩ := hw0
  unfold wX0_side_60 at h
  refine lv_iconst (pc := 60) (v := (0 : Int32)) hx hb dX0_side_60 (by decide) ?_
  exact kX0_side_61 X hr hlk hL hT  _ _ _ _ _ _ _ _ _ _ _ _ h ⟨hw, by omega⟩ (lv_sub hl [0, 1, 2] rfl)
theorem txX0_side {l : Launch} (hL : l.stackTraces = false) {G : gG} (hO : gOk G) {post : Int64 → NM → Prop} {MC MS : Nat} {N : NM} {x0 : Nat} {x1 : Int32} {x2 : Int32} {x3 : Int32} {x4 : Int32} {x5 : Int32} {x6 : Int32} {x7 : Int32} {sz : Nat} (h : wX0_side (gC G) post MC MS N x0 x1 x2 x3 x4 x5 x6 x7) : cx_Met l yX0_side (ws_ yX0_side cX0_side 14 (some .long)) ⟨205, MC, MS, 5912⟩ (va_Pc [.ref x0, .int x1, .int x2, .int x3, .int x4, .int x5, .int x6, .int x7] (cPre G [] N sz)) (gQ vL post (fun u H => cBw G (cA [] N sz) (jW u).1 (jW u).2 H) (cA [] N sz)) (cXC G (cA [] N sz) [] (fun _ _ _ => False)) MC MS (cA [] N sz) := by
  refine c_ofX (B := fun A u H => cBw G A (jW u).1 (jW u).2 H) (by decide) hO (Nat.le_of_ble_eq_true rfl) (fun p e s m below meth c ls A X hr hlk hT hw hl => ?_)
  have hl : lv_has ls 14 [(0, .ref x0), (1, .int x1), (2, .int x2), (3, .int x3), (4, .int x4), (5, .int x5), (6, .int x6), (7, .int x7)] := hl
  have hx := X.1.1
  have hb := X.1.2.1
  have hml := X.1.2.2.1
  have hown := X.1.2.2.2.1
  have hts := X.1.2.2.2.2
  obtain ⟨H, eH⟩ : ∃ z, z = s.heap := ⟨_, rfl⟩
  rw [← eH] at hw ⊢
  obtain ⟨locs, eLo⟩ : ∃ z : List Loc, z = [] := ⟨_, rfl⟩
  rw [← eLo] at hw ⊢
  have hbud : 0 + MC ≤ MC ∧ 0 + MS ≤ MS := by omega
  unfold wX0_side at h
  refine lv_bipush (pc := 0) (v := (7 : Int32)) hx hb dX0_side_0 (by decide) ?_
  obtain ⟨hm1, hm2, hm3, hm4, h⟩ := h
  refine c_newa (pc := 2) (atype := .int) (ty := .int) (a0 := ((7 : Int32).toNatClampNeg, .inl (fun _ => (0 : Int32)))) X hw rfl q375 0 rfl (fun _ => rfl) hm1 rfl (Nat.le_trans (Nat.mul_le_mul_right _ hm2) (Nat.le_of_ble_eq_true rfl)) (show 0 + 1 ≤ MC by omega) (show 0 + (7 : Int32).toNatClampNeg ≤ MS by omega) dX0_side_2 (fun nq5 H hq6 _ hw => ?_)
  have h := h nq5 hq6
  obtain ⟨N7, e8⟩ : ∃ z, z = va_up N nq5 (some (eN 0 ((7 : Int32).toNatClampNeg) (fun _ => (0 : Int32)))) := ⟨_, rfl⟩
  have hw : cH G A s [] N7 H locs := by rw [e8]; exact hw
  have h := h N7 e8
  have hN9 : N7 nq5 = some (eN 0 ((7 : Int32).toNatClampNeg) (fun _ => (0 : Int32))) := by rw [e8]; exact up_s
  refine lv_dup (pc := 4) hx hb dX0_side_4 rfl ?_
  refine lv_iconst (pc := 5) (v := (0 : Int32)) hx hb dX0_side_5 (by decide) ?_
  refine lv_iload_n (pc := 6) hx hb dX0_side_6 rfl (lv_at hl 2 rfl) ?_
  obtain ⟨hi, h⟩ := h
  refine c_iast (pc := 7) X hw hN9 hi dX0_side_7 (fun H locs hw => ?_)
  obtain ⟨N10, e11⟩ : ∃ z, z = va_up N7 nq5 (some (eN 0 ((7 : Int32).toNatClampNeg) (upd (fun _ => (0 : Int32)) (0 : Int32).toNatClampNeg x2))) := ⟨_, rfl⟩
  have hw : cH G A s [] N10 H locs := by rw [e11]; exact hw
  have h := h N10 e11
  have hN12 : N10 nq5 = some (eN 0 ((7 : Int32).toNatClampNeg) (upd (fun _ => (0 : Int32)) (0 : Int32).toNatClampNeg x2)) := by rw [e11]; exact up_s
  refine lv_dup (pc := 8) hx hb dX0_side_8 rfl ?_
  refine lv_iconst (pc := 9) (v := (1 : Int32)) hx hb dX0_side_9 (by decide) ?_
  refine lv_iload_n (pc := 10) hx hb dX0_side_10 rfl (lv_at hl 3 rfl) ?_
  obtain ⟨hi, h⟩ := h
  refine c_iast (pc := 11) X hw hN12 hi dX0_side_11 (fun H locs hw => ?_)
  obtain ⟨N13, e14⟩ : ∃ z, z = va_up N10 nq5 (some (eN 0 ((7 : Int32).toNatClampNeg) (upd (upd (fun _ => (0 : Int32)) (0 : Int32).toNatClampNeg x2) (1 : Int32).toNatClampNeg x3))) := ⟨_, rfl⟩
  have hw : cH G A s [] N13 H locs := by rw [e14]; exact hw
  have h := h N13 e14
  have hN15 : N13 nq5 = some (eN 0 ((7 : Int32).toNatClampNeg) (upd (upd (fun _ => (0 : Int32)) (0 : Int32).toNatClampNeg x2) (1 : Int32).toNatClampNeg x3)) := by rw [e14]; exact up_s
  refine lv_dup (pc := 12) hx hb dX0_side_12 rfl ?_
  refine lv_iconst (pc := 13) (v := (2 : Int32)) hx hb dX0_side_13 (by decide) ?_
  refine lv_iload (pc := 14) hx hb dX0_side_14 (lv_at hl 4 rfl) ?_
  obtain ⟨hi, h⟩ := h
  refine c_iast (pc := 16) X hw hN15 hi dX0_side_16 (fun H locs hw => ?_)
  obtain ⟨N16, e17⟩ : ∃ z, z = va_up N13 nq5 (some (eN 0 ((7 : Int32).toNatClampNeg) (upd (upd (upd (fun _ => (0 : Int32)) (0 : Int32).toNatClampNeg x2) (1 : Int32).toNatClampNeg x3) (2 : Int32).toNatClampNeg x4))) := ⟨_, rfl⟩
  have hw : cH G A s [] N16 H locs := by rw [e17]; exact hw
  have h := h N16 e17
  have hN18 : N16 nq5 = some (eN 0 ((7 : Int32).toNatClampNeg) (upd (upd (upd (fun _ => (0 : Int32)) (0 : Int32).toNatClampNeg x2) (1 : Int32).toNatClampNeg x3) (2 : Int32).toNatClampNeg x4)) := by rw [e17]; exact up_s
  refine lv_dup (pc := 17) hx hb dX0_side_17 rfl ?_
  refine lv_iconst (pc := 18) (v := (3 : Int32)) hx hb dX0_side_18 (by decide) ?_
  refine lv_iload (pc := 19) hx hb dX0_side_19 (lv_at hl 5 rfl) ?_
  obtain ⟨hi, h⟩ := h
  refine c_iast (pc := 21) X hw hN18 hi dX0_side_21 (fun H locs hw => ?_)
  obtain ⟨N19, e20⟩ : ∃ z, z = va_up N16 nq5 (some (eN 0 ((7 : Int32).toNatClampNeg) (upd (upd (upd (upd (fun _ => (0 : Int32)) (0 : Int32).toNatClampNeg x2) (1 : Int32).toNatClampNeg x3) (2 : Int32).toNatClampNeg x4) (3 : Int32).toNatClampNeg x5))) := ⟨_, rfl⟩
  have hw : cH G A s [] N19 H locs := by rw [e20]; exact hw
  have h := h N19 e20
  have hN21 : N19 nq5 = some (eN 0 ((7 : Int32).toNatClampNeg) (upd (upd (upd (upd (fun _ => (0 : Int32)) (0 : Int32).toNatClampNeg x2) (1 : Int32).toNatClampNeg x3) (2 : Int32).toNatClampNeg x4) (3 : Int32).toNatClampNeg x5)) := by rw [e20]; exact up_s
  refine lv_dup (pc := 22) hx hb dX0_side_22 rfl ?_
  refine lv_iconst (pc := 23) (v := (4 : Int32)) hx hb dX0_side_23 (by decide) ?_
  refine lv_iload (pc := 24) hx hb dX0_side_24 (lv_at hl 6 rfl) ?_
  obtain ⟨hi, h⟩ := h
  refine c_iast (pc := 26) X hw hN21 hi dX0_side_26 (fun H locs hw => ?_)
  obtain ⟨N22, e23⟩ : ∃ z, z = va_up N19 nq5 (some (eN 0 ((7 : Int32).toNatClampNeg) (upd (upd (upd (upd (upd (fun _ => (0 : Int32)) (0 : Int32).toNatClampNeg x2) (1 : Int32).toNatClampNeg x3) (2 : Int32).toNatClampNeg x4) (3 : Int32).toNatClampNeg x5) (4 : Int32).toNatClampNeg x6))) := ⟨_, rfl⟩
  have hw : cH G A s [] N22 H locs := by rw [e23]; exact hw
  have h := h N22 e23
  have hN24 : N22 nq5 = some (eN 0 ((7 : Int32).toNatClampNeg) (upd (upd (upd (upd (upd (fun _ => (0 : Int32)) (0 : Int32).toNatClampNeg x2) (1 : Int32).toNatClampNeg x3) (2 : Int32).toNatClampNeg x4) (3 : Int32).toNatClampNeg x5) (4 : Int32).toNatClampNeg x6)) := by rw [e23]; exact up_s
  refine lv_dup (pc := 27) hx hb dX0_side_27 rfl ?_
  refine lv_iconst (pc := 28) (v := (5 : Int32)) hx hb dX0_side_28 (by decide) ?_
  refine lv_iload (pc := 29) hx hb dX0_side_29 (lv_at hl 7 rfl) ?_
  obtain ⟨hi, h⟩ := h
  refine c_iast (pc := 31) X hw hN24 hi dX0_side_31 (fun H locs hw => ?_)
  obtain ⟨N25, e26⟩ : ∃ z, z = va_up N22 nq5 (some (eN 0 ((7 : Int32).toNatClampNeg) (upd (upd (upd (upd (upd (upd (fun _ => (0 : Int32)) (0 : Int32).toNatClampNeg x2) (1 : Int32).toNatClampNeg x3) (2 : Int32).toNatClampNeg x4) (3 : Int32).toNatClampNeg x5) (4 : Int32).toNatClampNeg x6) (5 : Int32).toNatClampNeg x7))) := ⟨_, rfl⟩
  have hw : cH G A s [] N25 H locs := by rw [e26]; exact hw
  have h := h N25 e26
  have hN27 : N25 nq5 = some (eN 0 ((7 : Int32).toNatClampNeg) (upd (upd (upd (upd (upd (upd (fun _ => (0 : Int32)) (0 : Int32).toNatClampNeg x2) (1 : Int32).toNatClampNeg x3) (2 : Int32).toNatClampNeg x4) (3 : Int32).toNatClampNeg x5) (4 : Int32).toNatClampNeg x6) (5 : Int32).toNatClampNeg x7)) := by rw [e26]; exact up_s
  refine lv_dup (pc := 32) hx hb dX0_side_32 rfl ?_
  refine lv_bipush (pc := 33) (v := (6 : Int32)) hx hb dX0_side_33 (by decide) ?_
  refine lv_iconst (pc := 35) (v := (0 : Int32)) hx hb dX0_side_35 (by decide) ?_
  obtain ⟨hi, h⟩ := h
  refine c_iast (pc := 36) X hw hN27 hi dX0_side_36 (fun H locs hw => ?_)
  obtain ⟨N28, e29⟩ : ∃ z, z = va_up N25 nq5 (some (eN 0 ((7 : Int32).toNatClampNeg) (upd (upd (upd (upd (upd (upd (upd (fun _ => (0 : Int32)) (0 : Int32).toNatClampNeg x2) (1 : Int32).toNatClampNeg x3) (2 : Int32).toNatClampNeg x4) (3 : Int32).toNatClampNeg x5) (4 : Int32).toNatClampNeg x6) (5 : Int32).toNatClampNeg x7) (6 : Int32).toNatClampNeg (0 : Int32)))) := ⟨_, rfl⟩
  have hw : cH G A s [] N28 H locs := by rw [e29]; exact hw
  have h := h N28 e29
  have hN30 : N28 nq5 = some (eN 0 ((7 : Int32).toNatClampNeg) (upd (upd (upd (upd (upd (upd (upd (fun _ => (0 : Int32)) (0 : Int32).toNatClampNeg x2) (1 : Int32).toNatClampNeg x3) (2 : Int32).toNatClampNeg x4) (3 : Int32).toNatClampNeg x5) (4 : Int32).toNatClampNeg x6) (5 : Int32).toNatClampNeg x7) (6 : Int32).toNatClampNeg (0 : Int32))) := by rw [e29]; exact up_s
  refine lv_astore (pc := 37) (lv' := [(8, .ref nq5), (0, .ref x0), (1, .int x1), (2, .int x2), (3, .int x3), (4, .int x4), (5, .int x5), (6, .int x6), (7, .int x7)]) hx hb dX0_side_37 hl (by decide) rfl (fun ls hl => ?_)
  refine lv_aload_n (pc := 39) hx hb dX0_side_39 rfl (lv_at hl 1 rfl) ?_
  obtain ⟨f32, f33, f34, f35, f36, f37, f38, f39, f40, f41, f42, f43, f44, f45, f46, f47, f48, f49, f50, hN31, h⟩ := h
  refine c_get (pc := 40) X hw hN31 in_X0 rfl 7 (by decide) q219 rfl rfl dX0_side_40 ?_
  refine lq_ifnull (pc := 43) (tgt := 60) hx hb dX0_side_43 rfl (fun hz51 => ?_) (fun a52 hr53 => ?_)
  · have h := h.1 hz51
    exact kX0_side_60 X hr hlk hL hT  _ _ _ _ _ _ _ _ _ _ _ h ⟨hw, by omega⟩ (lv_sub hl [1, 2, 0] rfl)
  · have h := h.2 a52 hr53
    refine lv_iload_n (pc := 46) hx hb dX0_side_46 rfl (lv_at hl 2 rfl) ?_
    refine lv_i2l (pc := 47) hx hb dX0_side_47 rfl ?_
    refine lv_lconst (pc := 48) (v := (0 : Int64)) hx hb dX0_side_48 (by decide) ?_
    refine lv_lconst (pc := 49) (v := (1 : Int64)) hx hb dX0_side_49 (by decide) ?_
    refine s_call (pc := 50) (val := vI) (As := [.long x1.toInt64, .long (0 : Int64), .long (1 : Int64)]) (rest := []) X.1 (tX0_isIn h) (lw_S q380 q381 q102 q382) ⟨by decide, by decide, (by decide +kernel : (parseMethodDescriptor yX0_isIn.desc).map (fun d => d.parameters.length) = some 3)⟩ ⟨Nat.le_of_ble_eq_true rfl, Nat.le_of_ble_eq_true rfl⟩ hl.1 (Nat.le_of_ble_eq_true rfl) ⟨show 0 + 1 ≤ MC by omega, show 0 + (7 : Int32).toNatClampNeg ≤ MS by omega⟩ dX0_side_50 rfl (fun r110 h => ?_)
    refine W.eq (g2 := F0 m 53 ls (.int r110 :: [])) rfl ?_
    refine lv_if_eq (pc := 53) (tgt := 60) hx hb dX0_side_53 rfl (fun c111 => ?_) (fun c111 => ?_)
    · have h := h.1 c111
      exact kX0_side_60 X hr hlk hL hT  _ _ _ _ _ _ _ _ _ _ _ h ⟨hw, by omega⟩ (lv_sub hl [1, 2, 0] rfl)
    · have h := h.2 c111
      refine lv_iconst (pc := 56) (v := (1 : Int32)) hx hb dX0_side_56 (by decide) ?_
      refine lv_goto (pc := 57) (tgt := 61) hx hb dX0_side_57 rfl ?_
      exact kX0_side_61 X hr hlk hL hT  _ _ _ _ _ _ _ _ _ _ _ _ h ⟨hw, by omega⟩ (lv_sub hl [1, 2, 0] rfl)
theorem tX0_side {l : Launch} (hL : l.stackTraces = false) {G : gG} (hO : gOk G) {post : Int64 → NM → Prop} {MC MS : Nat} {N : NM} {x0 : Nat} {x1 : Int32} {x2 : Int32} {x3 : Int32} {x4 : Int32} {x5 : Int32} {x6 : Int32} {x7 : Int32} {sz : Nat} (h : wX0_side (gC G) post MC MS N x0 x1 x2 x3 x4 x5 x6 x7) : Met l yX0_side (ws_ yX0_side cX0_side 14 (some .long)) ⟨205, MC, MS, 5912⟩ (va_Pc [.ref x0, .int x1, .int x2, .int x3, .int x4, .int x5, .int x6, .int x7] (cPre G [] N sz)) (gQ vL post (fun u H => cBw G (cA [] N sz) (jW u).1 (jW u).2 H) (cA [] N sz)) MC MS (cA [] N sz) := cx_toMet (txX0_side hL hO h)

def wX2_term_274 (K : Nat → Nat → Nat) (post : Option Nat → NM → Prop) (xp : Nat → List Nat → NM → Prop) (x0 : Nat) (x2 : Int32) (x4 : Int32) (x6 : Int32) (x7 : Int32) (v0 : Int32) (v1 : Nat) (mc ms : Nat) (N : NM) : Prop :=
  ∃ f280 f281 f282 f283, N x0 = some (eO 2 [.int f280, .int f281, .int f282, va_rf f283]) ∧ (∃ f291 f292 f293 f294, N v1 = some (eO 2 [.int f291, .int f292, .int f293, va_rf f294]) ∧ (∃ mc286 ms287, mc286 ≤ mc ∧ ms287 ≤ ms ∧ wX2_must K (fun _ N285 => 1 ≤ (mc - mc286) ∧ 4 ≤ (ms - ms287) ∧ (∀ nq304, N285 nq304 = none → (∀ N306, N306 = va_up N285 nq304 (some (eO 6 [.int (0 : Int32), .int (0 : Int32), .int (0 : Int32), va_rf none])) → (∃ f310 f311 f312 f313, N306 x0 = some (eO 2 [.int f310, .int f311, .int f312, va_rf f313]) ∧ (∃ a314, f313 = some a314 ∧ (∃ f317 f318 f319 f320 f321 f322 f323 f324 f325 f326 f327 f328 f329 f330 f331 f332 f333 f334 f335, N306 a314 = some (eO 1 [va_rf f317, va_rf f318, va_rf f319, va_rf f320, va_rf f321, va_rf f322, va_rf f323, va_rf f324, va_rf f325, .int f326, .int f327, va_rf f328, va_rf f329, .int f330, va_rf f331, va_rf f332, va_rf f333, va_rf f334, va_rf f335]) ∧ (∃ a336, f317 = some a336 ∧ (∃ n339 f340, N306 a336 = some (eR 9 n339 f340) ∧ (vp_in x4 n339 ∧ (wX4_init K (fun _ N342 => post (some nq304) N342) N306 nq304 x2 (f340 x4.toNatClampNeg) x6 x7)))))))))) (fun q295 ch301 N296 => (∀ fs298, N296 q295 = some (eO 3 fs298) → (xp q295 ch301 N296))) mc286 ms287 N v1 v0 (3 : Int32) f281))
def wX2_term_273 (K : Nat → Nat → Nat) (post : Option Nat → NM → Prop) (xp : Nat → List Nat → NM → Prop) (x0 : Nat) (x2 : Int32) (x4 : Int32) (x6 : Int32) (x7 : Int32) (v0 : Nat) (mc ms : Nat) (N : NM) : Prop :=
  wX2_term_274 K post xp x0 x2 x4 x6 x7 (0 : Int32) v0 mc ms N
def wX2_term_97 (K : Nat → Nat → Nat) (post : Option Nat → NM → Prop) (xp : Nat → List Nat → NM → Prop) (x0 : Nat) (x2 : Int32) (x4 : Int32) (v0 : Int32) (v1 : Nat) (mc ms : Nat) (N : NM) : Prop :=
  ∃ f67 f68 f69 f70, N x0 = some (eO 2 [.int f67, .int f68, .int f69, va_rf f70]) ∧ (∃ f78 f79 f80 f81, N v1 = some (eO 2 [.int f78, .int f79, .int f80, va_rf f81]) ∧ (∃ mc73 ms74, mc73 ≤ mc ∧ ms74 ≤ ms ∧ wX2_must K (fun _ N72 => ∃ f90 f91 f92 f93, N72 x0 = some (eO 2 [.int f90, .int f91, .int f92, va_rf f93]) ∧ (∃ a94, f93 = some a94 ∧ (∃ f97 f98 f99 f100 f101 f102 f103 f104 f105 f106 f107 f108 f109 f110 f111 f112 f113 f114 f115, N72 a94 = some (eO 1 [va_rf f97, va_rf f98, va_rf f99, va_rf f100, va_rf f101, va_rf f102, va_rf f103, va_rf f104, va_rf f105, .int f106, .int f107, va_rf f108, va_rf f109, .int f110, va_rf f111, va_rf f112, va_rf f113, va_rf f114, va_rf f115]) ∧ (∃ a116, f98 = some a116 ∧ (∃ n119 f120, N72 a116 = some (eR 10 n119 f120) ∧ (vp_in x4 n119 ∧ (∃ a121, (f120 x4.toNatClampNeg) = some a121 ∧ (∃ sv123 sn124 sf125, sKn K N72 a121 sv123 sn124 sf125 ∧ (∀ N127, N127 = va_up N72 x0 (some (eO 2 [.int (f90 + (nI sn124)), .int f91, .int f92, va_rf f93])) → (wX2_skips K (fun _ N133 => 1 ≤ (mc - mc73) ∧ 4 ≤ (ms - ms74) ∧ (∀ nq136, N133 nq136 = none → (∀ N138, N138 = va_up N133 nq136 (some (eO 6 [.int (0 : Int32), .int (0 : Int32), .int (0 : Int32), va_rf none])) → (∃ f142 f143 f144 f145, N138 x0 = some (eO 2 [.int f142, .int f143, .int f144, va_rf f145]) ∧ (∃ a146, f145 = some a146 ∧ (∃ f149 f150 f151 f152 f153 f154 f155 f156 f157 f158 f159 f160 f161 f162 f163 f164 f165 f166 f167, N138 a146 = some (eO 1 [va_rf f149, va_rf f150, va_rf f151, va_rf f152, va_rf f153, va_rf f154, va_rf f155, va_rf f156, va_rf f157, .int f158, .int f159, va_rf f160, va_rf f161, .int f162, va_rf f163, va_rf f164, va_rf f165, va_rf f166, va_rf f167]) ∧ (∃ a168, f149 = some a168 ∧ (∃ n171 f172, N138 a168 = some (eR 9 n171 f172) ∧ (vp_in x4 n171 ∧ (wX4_init K (fun _ N174 => ∃ f182 f183 f184 f185, N174 x0 = some (eO 2 [.int f182, .int f183, .int f184, va_rf f185]) ∧ (∃ mc177 ms178, mc177 ≤ ((mc - mc73) - 1) ∧ ms178 ≤ ((ms - ms74) - 4) ∧ wX2_passes K (fun r175 N176 => ((r175 = (0 : Int32)) → (1 ≤ (((mc - mc73) - 1) - mc177) ∧ 4 ≤ (((ms - ms74) - 4) - ms178) ∧ (∀ nq354, N176 nq354 = none → (∀ N356, N356 = va_up N176 nq354 (some (eO 6 [.int (0 : Int32), .int (0 : Int32), .int (0 : Int32), va_rf none])) → (∃ f360 f361 f362 f363, N356 x0 = some (eO 2 [.int f360, .int f361, .int f362, va_rf f363]) ∧ (∃ a364, f363 = some a364 ∧ (∃ f367 f368 f369 f370 f371 f372 f373 f374 f375 f376 f377 f378 f379 f380 f381 f382 f383 f384 f385, N356 a364 = some (eO 1 [va_rf f367, va_rf f368, va_rf f369, va_rf f370, va_rf f371, va_rf f372, va_rf f373, va_rf f374, va_rf f375, .int f376, .int f377, va_rf f378, va_rf f379, .int f380, va_rf f381, va_rf f382, va_rf f383, va_rf f384, va_rf f385]) ∧ (∃ a386, f367 = some a386 ∧ (∃ n389 f390, N356 a386 = some (eR 9 n389 f390) ∧ (vp_in x4 n389 ∧ (wX2_highest K (fun r391 N392 => wX4_init K (fun _ N394 => post (some nq354) N394) N392 nq354 x2 (f390 x4.toNatClampNeg) (0 : Int32) r391) N356 x0 (some nq136)))))))))))) ∧ (¬ (r175 = (0 : Int32)) → (∃ f194 f195 f196 f197, N176 x0 = some (eO 2 [.int f194, .int f195, .int f196, va_rf f197]) ∧ (∃ mc189 ms190, mc189 ≤ (((mc - mc73) - 1) - mc177) ∧ ms190 ≤ (((ms - ms74) - 4) - ms178) ∧ wX2_whole K (fun r187 N188 => ∃ f208 f209 f210 f211, N188 nq136 = some (eO 6 [.int f208, .int f209, .int f210, va_rf f211]) ∧ (wX4_value K (fun r205 N206 => wX0_isIn (fun r212 => ∃ f214 f215 f216 f217, N206 x0 = some (eO 2 [.int f214, .int f215, .int f216, va_rf f217]) ∧ (∃ mc220 ms221, mc220 ≤ ((((mc - mc73) - 1) - mc177) - mc189) ∧ ms221 ≤ ((((ms - ms74) - 4) - ms178) - ms190) ∧ wX2_must K (fun _ N219 => ∃ f238 f239 f240 f241, N219 x0 = some (eO 2 [.int f238, .int f239, .int f240, va_rf f241]) ∧ (∃ mc233 ms234, mc233 ≤ (((((mc - mc73) - 1) - mc177) - mc189) - mc220) ∧ ms234 ≤ (((((ms - ms74) - 4) - ms178) - ms190) - ms221) ∧ wX2_passes K (fun r231 N232 => ∃ f243 f244 f245 f246, N232 x0 = some (eO 2 [.int f243, .int f244, .int f245, va_rf f246]) ∧ (∃ mc249 ms250, mc249 ≤ ((((((mc - mc73) - 1) - mc177) - mc189) - mc220) - mc233) ∧ ms250 ≤ ((((((ms - ms74) - 4) - ms178) - ms190) - ms221) - ms234) ∧ wX2_must K (fun _ N248 => ∃ f267 f268 f269 f270, N248 x0 = some (eO 2 [.int f267, .int f268, .int f269, va_rf f270]) ∧ (∃ mc262 ms263, mc262 ≤ (((((((mc - mc73) - 1) - mc177) - mc189) - mc220) - mc233) - mc249) ∧ ms263 ≤ (((((((ms - ms74) - 4) - ms178) - ms190) - ms221) - ms234) - ms250) ∧ wX2_whole K (fun r260 N261 => ((r260 < r187) → (wX2_term_273 K post xp x0 x2 x4 r187 r260 x0 ((((((((mc - mc73) - 1) - mc177) - mc189) - mc220) - mc233) - mc249) - mc262) ((((((((ms - ms74) - 4) - ms178) - ms190) - ms221) - ms234) - ms250) - ms263) N261)) ∧ (¬ (r260 < r187) → (∃ f346 f347 f348 f349, N261 nq136 = some (eO 6 [.int f346, .int f347, .int f348, va_rf f349]) ∧ (wX4_value K (fun r343 N344 => wX0_isIn (fun r350 => ((r350 = (0 : Int32)) → (wX2_term_273 K post xp x0 x2 x4 r187 r260 x0 ((((((((mc - mc73) - 1) - mc177) - mc189) - mc220) - mc233) - mc249) - mc262) ((((((((ms - ms74) - 4) - ms178) - ms190) - ms221) - ms234) - ms250) - ms263) N344)) ∧ (¬ (r350 = (0 : Int32)) → (wX2_term_274 K post xp x0 x2 x4 r187 r260 (1 : Int32) x0 ((((((((mc - mc73) - 1) - mc177) - mc189) - mc220) - mc233) - mc249) - mc262) ((((((((ms - ms74) - 4) - ms178) - ms190) - ms221) - ms234) - ms250) - ms263) N344))) r343 (-3000 : Int64) (3000 : Int64)) N261 nq136 r260.toInt64)))) (fun q271 ch277 N272 => (∀ fs274, N272 q271 = some (eO 3 fs274) → (xp q271 ch277 N272))) mc262 ms263 N248 x0)) (fun q253 ch259 N254 => (∀ fs256, N254 q253 = some (eO 3 fs256) → (xp q253 ch259 N254))) mc249 ms250 N232 x0 r231 (1 : Int32) f243)) mc233 ms234 N219 x0 (some (K 0 10)))) (fun q224 ch230 N225 => (∀ fs227, N225 q224 = some (eO 3 fs227) → (xp q224 ch230 N225))) mc220 ms221 N206 x0 r212 (3 : Int32) f215)) r205 (-3000 : Int64) (3000 : Int64)) N188 nq136 r187.toInt64)) (fun q198 ch204 N199 => (∀ fs201, N199 q198 = some (eO 3 fs201) → (xp q198 ch204 N199))) mc189 ms190 N176 x0)))) mc177 ms178 N174 x0 (some (K 0 9)))) N138 nq136 x2 (f172 x4.toNatClampNeg) (0 : Int32) (0 : Int32))))))))))) N127 x0)))))))))) (fun q82 ch88 N83 => (∀ fs85, N83 q82 = some (eO 3 fs85) → (xp q82 ch88 N83))) mc73 ms74 N v1 v0 (1 : Int32) f67))
def wX2_term_74 (K : Nat → Nat → Nat) (post : Option Nat → NM → Prop) (xp : Nat → List Nat → NM → Prop) (x0 : Nat) (x2 : Int32) (x3 : Int32) (v0 : Int32) (v1 : Nat) (mc ms : Nat) (N : NM) : Prop :=
  ∃ f43 f44 f45 f46, N v1 = some (eO 2 [.int f43, .int f44, .int f45, va_rf f46]) ∧ (∃ mc38 ms39, mc38 ≤ mc ∧ ms39 ≤ ms ∧ wX2_must K (fun _ N37 => ∃ f61 f62 f63 f64, N37 x0 = some (eO 2 [.int f61, .int f62, .int f63, va_rf f64]) ∧ (∃ mc56 ms57, mc56 ≤ (mc - mc38) ∧ ms57 ≤ (ms - ms39) ∧ wX2_kind K (fun r54 N55 => ((r54 = (-1 : Int32)) → (wX2_term_97 K post xp x0 x2 r54 (0 : Int32) x0 ((mc - mc38) - mc56) ((ms - ms39) - ms57) N55)) ∧ (¬ (r54 = (-1 : Int32)) → (wX2_term_97 K post xp x0 x2 r54 (1 : Int32) x0 ((mc - mc38) - mc56) ((ms - ms39) - ms57) N55))) mc56 ms57 N37 x0)) (fun q47 ch53 N48 => (∀ fs50, N48 q47 = some (eO 3 fs50) → (xp q47 ch53 N48))) mc38 ms39 N v1 v0 (4 : Int32) x3)
def wX2_term_63 (K : Nat → Nat → Nat) (post : Option Nat → NM → Prop) (xp : Nat → List Nat → NM → Prop) (x0 : Nat) (x1 : Int32) (x2 : Int32) (x3 : Int32) (mc ms : Nat) (N : NM) : Prop :=
  (((5 : Int32) ≤ x1) → (wX2_term_74 K post xp x0 x2 x3 (0 : Int32) x0 mc ms N)) ∧ (¬ ((5 : Int32) ≤ x1) → (wX2_term_74 K post xp x0 x2 x3 (1 : Int32) x0 mc ms N))
def wX2_term_28 (K : Nat → Nat → Nat) (post : Option Nat → NM → Prop) (xp : Nat → List Nat → NM → Prop) (x0 : Nat) (x1 : Int32) (x2 : Int32) (x3 : Int32) (v0 : Int32) (v1 : Nat) (mc ms : Nat) (N : NM) : Prop :=
  ∃ f16 f17 f18 f19, N v1 = some (eO 2 [.int f16, .int f17, .int f18, va_rf f19]) ∧ (∃ mc11 ms12, mc11 ≤ mc ∧ ms12 ≤ ms ∧ wX2_must K (fun _ N10 => ∃ f30 f31 f32 f33, N10 x0 = some (eO 2 [.int f30, .int f31, .int f32, va_rf f33]) ∧ (wX2_isDigit K (fun r27 N28 => ((r27 = (0 : Int32)) → (wX2_term_63 K post xp x0 x1 x2 x3 (mc - mc11) (ms - ms12) N28)) ∧ (¬ (r27 = (0 : Int32)) → (∃ f402 f403 f404 f405, N28 x0 = some (eO 2 [.int f402, .int f403, .int f404, va_rf f405]) ∧ (∃ mc397 ms398, mc397 ≤ (mc - mc11) ∧ ms398 ≤ (ms - ms12) ∧ wX2_number K (fun r395 N396 => wX0_isIn (fun r413 => ∃ f415 f416 f417 f418, N396 x0 = some (eO 2 [.int f415, .int f416, .int f417, va_rf f418]) ∧ (∃ mc421 ms422, mc421 ≤ ((mc - mc11) - mc397) ∧ ms422 ≤ ((ms - ms12) - ms398) ∧ wX2_must K (fun _ N420 => wX2_term_63 K post xp x0 x1 r395 x3 (((mc - mc11) - mc397) - mc421) (((ms - ms12) - ms398) - ms422) N420) (fun q425 ch431 N426 => (∀ fs428, N426 q425 = some (eO 3 fs428) → (xp q425 ch431 N426))) mc421 ms422 N396 x0 r413 (2 : Int32) f416)) r395.toInt64 (1 : Int64) (99 : Int64)) (fun q406 ch412 N407 => (∀ fs409, N407 q406 = some (eO 3 fs409) → (xp q406 ch412 N407))) mc397 ms398 N28 x0)))) N10 x0)) (fun q20 ch26 N21 => (∀ fs23, N21 q20 = some (eO 3 fs23) → (xp q20 ch26 N21))) mc11 ms12 N v1 v0 (1 : Int32) x3)
def wX2_term_23 (K : Nat → Nat → Nat) (post : Option Nat → NM → Prop) (xp : Nat → List Nat → NM → Prop) (x0 : Nat) (x1 : Int32) (x2 : Int32) (x3 : Int32) (v0 : Nat) (mc ms : Nat) (N : NM) : Prop :=
  wX2_term_28 K post xp x0 x1 x2 x3 (1 : Int32) v0 mc ms N
def wX2_term (K : Nat → Nat → Nat) (post : Option Nat → NM → Prop) (xp : Nat → List Nat → NM → Prop) (MC MS : Nat) (N : NM) (x0 : Nat) (x1 : Int32) : Prop :=
  ∃ f2 f3 f4 f5, N x0 = some (eO 2 [.int f2, .int f3, .int f4, va_rf f5]) ∧ (wX2_isDigit K (fun r6 N7 => ((r6 = (0 : Int32)) → (∃ f439 f440 f441 f442, N7 x0 = some (eO 2 [.int f439, .int f440, .int f441, va_rf f442]) ∧ (∃ mc434 ms435, mc434 ≤ MC ∧ ms435 ≤ MS ∧ wX2_kind K (fun r432 N433 => ((r432 = (-1 : Int32)) → (wX2_term_28 K post xp x0 x1 (1 : Int32) f2 (0 : Int32) x0 (MC - mc434) (MS - ms435) N433)) ∧ (¬ (r432 = (-1 : Int32)) → (wX2_term_23 K post xp x0 x1 (1 : Int32) f2 x0 (MC - mc434) (MS - ms435) N433))) mc434 ms435 N7 x0))) ∧ (¬ (r6 = (0 : Int32)) → (wX2_term_23 K post xp x0 x1 (1 : Int32) f2 x0 MC MS N7))) N x0)
theorem kX2_term_274 {p : Program} {l : Launch} {e : Env} {s : State} {m : MethodId} {args : Array Value} {below : List Frame} {meth : Method} {c : Code} {G : gG} {A : Nat → Prop} {MC MS : Nat} {post : Option Nat → NM → Prop} {xp : Nat → List Nat → NM → Prop} (X : cX G A RX2 p s m args c cX2_term 8) (hr : meth.sig.returnType = (some (.object "ToldPowers$Term"))) (hlk : meth.locks = false) (hL : l.stackTraces = false) (hT : c.exceptionTable.toList = tableOf []) : ∀ (x0 : Nat) (x2 : Int32) (x4 : Int32) (x6 : Int32) (x7 : Int32) (v0 : Int32) (v1 : Nat) (mc ms : Nat) (N : NM) (H : Heap) (locs : List Loc) (ls : Array Slot) (cells slots : Nat), wX2_term_274 (gC G) post xp x0 x2 x4 x6 x7 v0 v1 mc ms N → (cH G A s [] N H locs ∧ cells + mc ≤ MC ∧ slots + ms ≤ MS) → lv_has ls 8 [(0, .ref x0), (2, .int x2), (4, .int x4), (6, .int x6), (7, .int x7)] → W p l e ⟨8, MC, MS, 215⟩ s m args below meth c H locs cells slots (cx_MQ below (gQ vQ post (fun u H => cBw G A (jW u).1 (jW u).2 H) A) (cXC G A [3] xp) args s MC MS A) (F0 m 274 ls [.int v0, .ref v1]) := by
  have hx := X.1.1
  have hb := X.1.2.1
  have hml := X.1.2.2.1
  have hown := X.1.2.2.2.1
  have hts := X.1.2.2.2.2
  intro x0 x2 x4 x6 x7 v0 v1 mc ms N H locs ls cells slots h hw0 hl
  obtain ⟨hw, hbud⟩ := hw0
  unfold wX2_term_274 at h
  refine lv_iconst (pc := 274) (v := (3 : Int32)) hx hb dX2_term_274 (by decide) ?_
  refine lv_aload_n (pc := 275) hx hb dX2_term_275 rfl (lv_at hl 0 rfl) ?_
  obtain ⟨f280, f281, f282, f283, hN279, h⟩ := h
  refine c_get (pc := 276) X hw hN279 in_X2 rfl 1 (by decide) q407 rfl rfl dX2_term_276 ?_
  obtain ⟨f291, f292, f293, f294, hN290, h⟩ := h
  obtain ⟨mc286, ms287, hm288, hm289, h⟩ := h
  refine cx_callJ (pc := 279) (val := vV) X hw (cx_runV (C := RX2) (As := [.int v0, .int (3 : Int32), .int f281]) (rest := []) X.1 (tX2_must hL X.2.2.1 (sz := H.size) h) (cwV 3 hts (lw_V q659 q661 qs9 q113 q662) rfl rfl rfl ⟨rfl, by decide, by decide, (by decide +kernel : (parseMethodDescriptor yX2_must.desc).map (fun d => d.parameters.length) = some 3)⟩ ⟨Nat.le_of_ble_eq_true rfl, Nat.le_of_ble_eq_true rfl⟩) ⟨cPre_blind, c_recv X hw hN290 rfl, fun U hU hW => ⟨rfl, X.preJ hw hU hW⟩⟩ rfl rfl hl.1 rfl (lv_room (Nat.le_of_ble_eq_true rfl)) dX2_term_279 ⟨show cells + mc286 ≤ MC by omega, show slots + ms287 ≤ MS by omega⟩) (fun q295 N296 H locs ci297 fs298 ch301 hci299 hNq300 h hw hch => ?_) (fun _ N285 H locs h hw => ?_)
  · have hci299 := List.mem_singleton.mp hci299
    subst hci299
    have h := h fs298 hNq300
    exact cx_outJ (pc := 279) X hw hNq300 rfl (by decide) (by rw [hT]; intro x hx; cases hx) hlk hch h (by omega) (by omega)
  refine W.eq (g2 := F0 m 282 ls ([])) rfl ?_
  obtain ⟨hm302, hm303, h⟩ := h
  refine c_new (pc := 282) (ci := 6) (fs := [.int (0 : Int32), .int (0 : Int32), .int (0 : Int32), va_rf none]) X hw in_X4 tyX4 tyX4_ok q703 q704 q126 rfl nf_X4 (show cells + mc286 + 1 ≤ MC by omega) (show slots + ms287 + 4 ≤ MS by omega) dX2_term_282 (fun nq304 H hq305 _ hw => ?_)
  have h := h nq304 hq305
  obtain ⟨N306, e307⟩ : ∃ z, z = va_up N285 nq304 (some (eO 6 [.int (0 : Int32), .int (0 : Int32), .int (0 : Int32), va_rf none])) := ⟨_, rfl⟩
  have hw : cH G A s [] N306 H locs := by rw [e307]; exact hw
  have h := h N306 e307
  have hN308 : N306 nq304 = some (eO 6 [.int (0 : Int32), .int (0 : Int32), .int (0 : Int32), va_rf none]) := by rw [e307]; exact up_s
  refine lv_dup (pc := 285) hx hb dX2_term_285 rfl ?_
  refine lv_iload_n (pc := 286) hx hb dX2_term_286 rfl (lv_at hl 1 rfl) ?_
  refine lv_aload_n (pc := 287) hx hb dX2_term_287 rfl (lv_at hl 0 rfl) ?_
  obtain ⟨f310, f311, f312, f313, hN309, h⟩ := h
  refine c_get (pc := 288) X hw hN309 in_X2 rfl 3 (by decide) q409 rfl rfl dX2_term_288 ?_
  obtain ⟨a314, hr315, h⟩ := h
  refine W.eq (g2 := F0 m 291 ls [.ref a314, .int x2, .ref nq304, .ref nq304]) (by rw [hr315]; rfl) ?_
  obtain ⟨f317, f318, f319, f320, f321, f322, f323, f324, f325, f326, f327, f328, f329, f330, f331, f332, f333, f334, f335, hN316, h⟩ := h
  refine c_getN (pc := 291) X hw hN316 in_X0 rfl 0 (by decide) q209 rfl rfl dX2_term_291 ?_
  refine lv_iload (pc := 294) hx hb dX2_term_294 (lv_at hl 2 rfl) ?_
  obtain ⟨a336, hr337, h⟩ := h
  refine W.eq (g2 := F0 m 296 ls [.int x4, .ref a336, .int x2, .ref nq304, .ref nq304]) (by rw [hr337]; rfl) ?_
  obtain ⟨n339, f340, hN338, h⟩ := h
  obtain ⟨hi, h⟩ := h
  refine c_aald (pc := 296) X hw 9 hN338 rfl hi dX2_term_296 ?_
  refine lv_iload (pc := 297) hx hb dX2_term_297 (lv_at hl 3 rfl) ?_
  refine lv_iload (pc := 299) hx hb dX2_term_299 (lv_at hl 4 rfl) ?_
  refine c_callJ (pc := 301) (val := vV) X hw (va_runI (As := [.int x2, va_rf (f340 x4.toNatClampNeg), .int x6, .int x7]) (rest := [.ref nq304]) X.1 (tX4_init X.2.2.1 (sz := H.size) h) (cwI 4 hts (lw_meth q707) rfl rfl rfl (hts _ q126) (hts _ q705) (hts _ q706) rfl ⟨by decide, by decide, (by decide +kernel : (parseMethodDescriptor yX4_init.desc).map (fun d => d.parameters.length) = some 4)⟩ ⟨Nat.le_of_ble_eq_true rfl, Nat.le_of_ble_eq_true rfl⟩) ⟨cPre_blind, fun U hU hW => ⟨rfl, X.preJ hw hU hW⟩⟩ rfl rfl hl.1 rfl (lv_room (Nat.le_of_ble_eq_true rfl)) dX2_term_301 ⟨show cells + mc286 + 1 + 0 ≤ MC by omega, show slots + ms287 + 4 + 0 ≤ MS by omega⟩) (fun _ N342 H locs h hw => ?_)
  refine W.eq (g2 := F0 m 304 ls ([.ref nq304])) rfl ?_
  refine W.widen (k := MC) (n := MS) (by omega) (by omega) ?_
  refine cx_ret ?_
  exact W.aret (pc := 304) (v := va_rf (some nq304)) hx hb hr (Or.inl ⟨_, rfl⟩) (va_rf_or _) (fun t ht hW => c_ret (val := vQ) (lw := jW) (u := N342) hw h ht) hw.2.2.2 dX2_term_304 hlk
theorem kX2_term_273 {p : Program} {l : Launch} {e : Env} {s : State} {m : MethodId} {args : Array Value} {below : List Frame} {meth : Method} {c : Code} {G : gG} {A : Nat → Prop} {MC MS : Nat} {post : Option Nat → NM → Prop} {xp : Nat → List Nat → NM → Prop} (X : cX G A RX2 p s m args c cX2_term 8) (hr : meth.sig.returnType = (some (.object "ToldPowers$Term"))) (hlk : meth.locks = false) (hL : l.stackTraces = false) (hT : c.exceptionTable.toList = tableOf []) : ∀ (x0 : Nat) (x2 : Int32) (x4 : Int32) (x6 : Int32) (x7 : Int32) (v0 : Nat) (mc ms : Nat) (N : NM) (H : Heap) (locs : List Loc) (ls : Array Slot) (cells slots : Nat), wX2_term_273 (gC G) post xp x0 x2 x4 x6 x7 v0 mc ms N → (cH G A s [] N H locs ∧ cells + mc ≤ MC ∧ slots + ms ≤ MS) → lv_has ls 8 [(0, .ref x0), (2, .int x2), (4, .int x4), (6, .int x6), (7, .int x7)] → W p l e ⟨8, MC, MS, 215⟩ s m args below meth c H locs cells slots (cx_MQ below (gQ vQ post (fun u H => cBw G A (jW u).1 (jW u).2 H) A) (cXC G A [3] xp) args s MC MS A) (F0 m 273 ls [.ref v0]) := by
  have hx := X.1.1
  have hb := X.1.2.1
  have hml := X.1.2.2.1
  have hown := X.1.2.2.2.1
  have hts := X.1.2.2.2.2
  intro x0 x2 x4 x6 x7 v0 mc ms N H locs ls cells slots h hw0 hl
  obtain ⟨hw, hbud⟩ := hw0
  unfold wX2_term_273 at h
  refine lv_iconst (pc := 273) (v := (0 : Int32)) hx hb dX2_term_273 (by decide) ?_
  exact kX2_term_274 X hr hlk hL hT  _ _ _ _ _ _ _ _ _ _ _ _ _ _ _ h ⟨hw, by omega⟩ (lv_sub hl [0, 1, 2, 3, 4] rfl)
theorem kX2_term_97 {p : Program} {l : Launch} {e : Env} {s : State} {m : MethodId} {args : Array Value} {below : List Frame} {meth : Method} {c : Code} {G : gG} {A : Nat → Prop} {MC MS : Nat} {post : Option Nat → NM → Prop} {xp : Nat → List Nat → NM → Prop} (X : cX G A RX2 p s m args c cX2_term 8) (hr : meth.sig.returnType = (some (.object "ToldPowers$Term"))) (hlk : meth.locks = false) (hL : l.stackTraces = false) (hT : c.exceptionTable.toList = tableOf []) : ∀ (x0 : Nat) (x2 : Int32) (x4 : Int32) (v0 : Int32) (v1 : Nat) (mc ms : Nat) (N : NM) (H : Heap) (locs : List Loc) (ls : Array Slot) (cells slots : Nat), wX2_term_97 (gC G) post xp x0 x2 x4 v0 v1 mc ms N → (cH G A s [] N H locs ∧ cells + mc ≤ MC ∧ slots + ms ≤ MS) → lv_has ls 8 [(0, .ref x0), (2, .int x2), (4, .int x4)] → W p l e ⟨8, MC, MS, 215⟩ s m args below meth c H locs cells slots (cx_MQ below (gQ vQ post (fun u H => cBw G A (jW u).1 (jW u).2 H) A) (cXC G A [3] xp) args s MC MS A) (F0 m 97 ls [.int v0, .ref v1]) := by
  have hx := X.1.1
  have hb := X.1.2.1
  have hml := X.1.2.2.1
  have hown := X.1.2.2.2.1
  have hts := X.1.2.2.2.2
  intro x0 x2 x4 v0 v1 mc ms N H locs ls cells slots h hw0 hl
  obtain ⟨hw, hbud⟩ := hw0
  unfold wX2_term_97 at h
  refine lv_iconst (pc := 97) (v := (1 : Int32)) hx hb dX2_term_97 (by decide) ?_
  refine lv_aload_n (pc := 98) hx hb dX2_term_98 rfl (lv_at hl 0 rfl) ?_
  obtain ⟨f67, f68, f69, f70, hN66, h⟩ := h
  refine c_get (pc := 99) X hw hN66 in_X2 rfl 0 (by decide) q406 rfl rfl dX2_term_99 ?_
  obtain ⟨f78, f79, f80, f81, hN77, h⟩ := h
  obtain ⟨mc73, ms74, hm75, hm76, h⟩ := h
  refine cx_callJ (pc := 102) (val := vV) X hw (cx_runV (C := RX2) (As := [.int v0, .int (1 : Int32), .int f67]) (rest := []) X.1 (tX2_must hL X.2.2.1 (sz := H.size) h) (cwV 3 hts (lw_V q659 q661 qs9 q113 q662) rfl rfl rfl ⟨rfl, by decide, by decide, (by decide +kernel : (parseMethodDescriptor yX2_must.desc).map (fun d => d.parameters.length) = some 3)⟩ ⟨Nat.le_of_ble_eq_true rfl, Nat.le_of_ble_eq_true rfl⟩) ⟨cPre_blind, c_recv X hw hN77 rfl, fun U hU hW => ⟨rfl, X.preJ hw hU hW⟩⟩ rfl rfl hl.1 rfl (lv_room (Nat.le_of_ble_eq_true rfl)) dX2_term_102 ⟨show cells + mc73 ≤ MC by omega, show slots + ms74 ≤ MS by omega⟩) (fun q82 N83 H locs ci84 fs85 ch88 hci86 hNq87 h hw hch => ?_) (fun _ N72 H locs h hw => ?_)
  · have hci86 := List.mem_singleton.mp hci86
    subst hci86
    have h := h fs85 hNq87
    exact cx_outJ (pc := 102) X hw hNq87 rfl (by decide) (by rw [hT]; intro x hx; cases hx) hlk hch h (by omega) (by omega)
  refine W.eq (g2 := F0 m 105 ls ([])) rfl ?_
  refine lv_aload_n (pc := 105) hx hb dX2_term_105 rfl (lv_at hl 0 rfl) ?_
  refine lv_dup (pc := 106) hx hb dX2_term_106 rfl ?_
  obtain ⟨f90, f91, f92, f93, hN89, h⟩ := h
  refine c_get (pc := 107) X hw hN89 in_X2 rfl 0 (by decide) q406 rfl rfl dX2_term_107 ?_
  refine lv_aload_n (pc := 110) hx hb dX2_term_110 rfl (lv_at hl 0 rfl) ?_
  refine c_get (pc := 111) X hw hN89 in_X2 rfl 3 (by decide) q409 rfl rfl dX2_term_111 ?_
  obtain ⟨a94, hr95, h⟩ := h
  refine W.eq (g2 := F0 m 114 ls [.ref a94, .int f90, .ref x0]) (by rw [hr95]; rfl) ?_
  obtain ⟨f97, f98, f99, f100, f101, f102, f103, f104, f105, f106, f107, f108, f109, f110, f111, f112, f113, f114, f115, hN96, h⟩ := h
  refine c_getN (pc := 114) X hw hN96 in_X0 rfl 1 (by decide) q211 rfl rfl dX2_term_114 ?_
  refine lv_iload (pc := 117) hx hb dX2_term_117 (lv_at hl 2 rfl) ?_
  obtain ⟨a116, hr117, h⟩ := h
  refine W.eq (g2 := F0 m 119 ls [.int x4, .ref a116, .int f90, .ref x0]) (by rw [hr117]; rfl) ?_
  obtain ⟨n119, f120, hN118, h⟩ := h
  obtain ⟨hi, h⟩ := h
  refine c_aald (pc := 119) X hw 10 hN118 rfl hi dX2_term_119 ?_
  obtain ⟨a121, hr122, h⟩ := h
  refine W.eq (g2 := F0 m 120 ls [.ref a121, .int f90, .ref x0]) (by rw [hr122]; rfl) ?_
  obtain ⟨sv123, sn124, sf125, hK126, h⟩ := h
  refine str_len (pc := 120) (rest := [.int f90, .ref x0]) X.1 X.2.2.1 (c_sk X hw hK126) (fun U hU hW => X.go hw hU hW) (lw_V q695 q696 q697 q111 q698) ⟨Nat.le_of_ble_eq_true rfl, Nat.le_of_ble_eq_true rfl⟩ hl.1 (Nat.le_of_ble_eq_true rfl) ⟨show cells + mc73 ≤ MC by omega, show slots + ms74 ≤ MS by omega⟩ dX2_term_120 ?_
  refine lv_iadd (pc := 123) hx hb dX2_term_123 ?_
  refine c_put (pc := 124) X hw hN89 in_X2 tyX2 tyX2_ok nmX2 rfl 0 (by decide) q406 rfl rfl rfl rfl rfl (Nat.le_of_ble_eq_true rfl) dX2_term_124 (fun H locs hw => ?_)
  obtain ⟨N127, e128⟩ : ∃ z, z = va_up N72 x0 (some (eO 2 [.int (f90 + (nI sn124)), .int f91, .int f92, va_rf f93])) := ⟨_, rfl⟩
  have hw : cH G A s [] N127 H locs := by rw [e128]; exact hw
  have h := h N127 e128
  have hN129 : N127 x0 = some (eO 2 [.int (f90 + (nI sn124)), .int f91, .int f92, va_rf f93]) := by rw [e128]; exact up_s
  have hN130 := up_k (x := some (eO 2 [.int (f90 + (nI sn124)), .int f91, .int f92, va_rf f93])) hN89 hN96 (show (4 : Nat) ≠ 2 by decide)
  rw [← e128] at hN130
  have hN131 := up_k (x := some (eO 2 [.int (f90 + (nI sn124)), .int f91, .int f92, va_rf f93])) hN89 hN118 (show (4 : Nat) ≠ 21 by decide)
  rw [← e128] at hN131
  refine lv_aload_n (pc := 127) hx hb dX2_term_127 rfl (lv_at hl 0 rfl) ?_
  refine c_callJ (pc := 128) (val := vV) X hw (va_runV (C := RX2) (As := []) (rest := []) X.1 (tX2_skips X.2.2.1 (sz := H.size) h) (cwV 0 hts (lw_V q398 q400 qs3 q113 q401) rfl rfl rfl ⟨rfl, by decide, by decide, (by decide +kernel : (parseMethodDescriptor yX2_skips.desc).map (fun d => d.parameters.length) = some 0)⟩ ⟨Nat.le_of_ble_eq_true rfl, Nat.le_of_ble_eq_true rfl⟩) ⟨cPre_blind, c_recv X hw hN129 rfl, fun U hU hW => ⟨rfl, X.preJ hw hU hW⟩⟩ rfl rfl hl.1 rfl (lv_room (Nat.le_of_ble_eq_true rfl)) dX2_term_128 ⟨show cells + mc73 + 0 ≤ MC by omega, show slots + ms74 + 0 ≤ MS by omega⟩) (fun _ N133 H locs h hw => ?_)
  refine W.eq (g2 := F0 m 131 ls ([])) rfl ?_
  obtain ⟨hm134, hm135, h⟩ := h
  refine c_new (pc := 131) (ci := 6) (fs := [.int (0 : Int32), .int (0 : Int32), .int (0 : Int32), va_rf none]) X hw in_X4 tyX4 tyX4_ok q703 q704 q126 rfl nf_X4 (show cells + mc73 + 0 + 1 ≤ MC by omega) (show slots + ms74 + 0 + 4 ≤ MS by omega) dX2_term_131 (fun nq136 H hq137 _ hw => ?_)
  have h := h nq136 hq137
  obtain ⟨N138, e139⟩ : ∃ z, z = va_up N133 nq136 (some (eO 6 [.int (0 : Int32), .int (0 : Int32), .int (0 : Int32), va_rf none])) := ⟨_, rfl⟩
  have hw : cH G A s [] N138 H locs := by rw [e139]; exact hw
  have h := h N138 e139
  have hN140 : N138 nq136 = some (eO 6 [.int (0 : Int32), .int (0 : Int32), .int (0 : Int32), va_rf none]) := by rw [e139]; exact up_s
  refine lv_dup (pc := 134) hx hb dX2_term_134 rfl ?_
  refine lv_iload_n (pc := 135) hx hb dX2_term_135 rfl (lv_at hl 1 rfl) ?_
  refine lv_aload_n (pc := 136) hx hb dX2_term_136 rfl (lv_at hl 0 rfl) ?_
  obtain ⟨f142, f143, f144, f145, hN141, h⟩ := h
  refine c_get (pc := 137) X hw hN141 in_X2 rfl 3 (by decide) q409 rfl rfl dX2_term_137 ?_
  obtain ⟨a146, hr147, h⟩ := h
  refine W.eq (g2 := F0 m 140 ls [.ref a146, .int x2, .ref nq136, .ref nq136]) (by rw [hr147]; rfl) ?_
  obtain ⟨f149, f150, f151, f152, f153, f154, f155, f156, f157, f158, f159, f160, f161, f162, f163, f164, f165, f166, f167, hN148, h⟩ := h
  refine c_getN (pc := 140) X hw hN148 in_X0 rfl 0 (by decide) q209 rfl rfl dX2_term_140 ?_
  refine lv_iload (pc := 143) hx hb dX2_term_143 (lv_at hl 2 rfl) ?_
  obtain ⟨a168, hr169, h⟩ := h
  refine W.eq (g2 := F0 m 145 ls [.int x4, .ref a168, .int x2, .ref nq136, .ref nq136]) (by rw [hr169]; rfl) ?_
  obtain ⟨n171, f172, hN170, h⟩ := h
  obtain ⟨hi, h⟩ := h
  refine c_aald (pc := 145) X hw 9 hN170 rfl hi dX2_term_145 ?_
  refine lv_iconst (pc := 146) (v := (0 : Int32)) hx hb dX2_term_146 (by decide) ?_
  refine lv_iconst (pc := 147) (v := (0 : Int32)) hx hb dX2_term_147 (by decide) ?_
  refine c_callJ (pc := 148) (val := vV) X hw (va_runI (As := [.int x2, va_rf (f172 x4.toNatClampNeg), .int (0 : Int32), .int (0 : Int32)]) (rest := [.ref nq136]) X.1 (tX4_init X.2.2.1 (sz := H.size) h) (cwI 4 hts (lw_meth q707) rfl rfl rfl (hts _ q126) (hts _ q705) (hts _ q706) rfl ⟨by decide, by decide, (by decide +kernel : (parseMethodDescriptor yX4_init.desc).map (fun d => d.parameters.length) = some 4)⟩ ⟨Nat.le_of_ble_eq_true rfl, Nat.le_of_ble_eq_true rfl⟩) ⟨cPre_blind, fun U hU hW => ⟨rfl, X.preJ hw hU hW⟩⟩ rfl rfl hl.1 rfl (lv_room (Nat.le_of_ble_eq_true rfl)) dX2_term_148 ⟨show cells + mc73 + 0 + 1 + 0 ≤ MC by omega, show slots + ms74 + 0 + 4 + 0 ≤ MS by omega⟩) (fun _ N174 H locs h hw => ?_)
  refine W.eq (g2 := F0 m 151 ls ([.ref nq136])) rfl ?_
  refine lv_astore (pc := 151) (lv' := [(5, .ref nq136), (0, .ref x0), (2, .int x2), (4, .int x4)]) hx hb dX2_term_151 hl (by decide) rfl (fun ls hl => ?_)
  refine lv_aload_n (pc := 153) hx hb dX2_term_153 rfl (lv_at hl 1 rfl) ?_
  refine va_ldcS (pc := 154) hx hb hown (X.str (r := ("ToldPowers$Reader", 144, "from", 9)) (List.mem_of_getElem? (i := 9) rfl)) dX2_term_154 ?_
  obtain ⟨f182, f183, f184, f185, hN181, h⟩ := h
  obtain ⟨mc177, ms178, hm179, hm180, h⟩ := h
  refine c_callJ (pc := 156) (val := vI) X hw (va_runV (C := RX2) (As := [va_rf (some (gC G 0 9))]) (rest := []) X.1 (tX2_passes X.2.2.1 (sz := H.size) h) (cwV 1 hts (lw_V q729 q731 qs11 q113 q732) rfl rfl rfl ⟨rfl, by decide, by decide, (by decide +kernel : (parseMethodDescriptor yX2_passes.desc).map (fun d => d.parameters.length) = some 1)⟩ ⟨Nat.le_of_ble_eq_true rfl, Nat.le_of_ble_eq_true rfl⟩) ⟨cPre_blind, c_recv X hw hN181 rfl, fun U hU hW => ⟨rfl, X.preJ hw hU hW⟩⟩ rfl rfl hl.1 rfl (lv_room (Nat.le_of_ble_eq_true rfl)) dX2_term_156 ⟨show cells + mc73 + 0 + 1 + 0 + mc177 ≤ MC by omega, show slots + ms74 + 0 + 4 + 0 + ms178 ≤ MS by omega⟩) (fun r175 N176 H locs h hw => ?_)
  refine W.eq (g2 := F0 m 159 ls (.int r175 :: [])) rfl ?_
  refine lv_if_ne (pc := 159) (tgt := 188) hx hb dX2_term_159 rfl (fun c186 => ?_) (fun c186 => ?_)
  · have h := h.2 c186
    refine lv_aload_n (pc := 188) hx hb dX2_term_188 rfl (lv_at hl 1 rfl) ?_
    obtain ⟨f194, f195, f196, f197, hN193, h⟩ := h
    obtain ⟨mc189, ms190, hm191, hm192, h⟩ := h
    refine cx_callJ (pc := 189) (val := vI) X hw (cx_runV (C := RX2) (As := []) (rest := []) X.1 (tX2_whole hL X.2.2.1 (sz := H.size) h) (cwV 0 hts (lw_V q761 q763 qs13 q113 q764) rfl rfl rfl ⟨rfl, by decide, by decide, (by decide +kernel : (parseMethodDescriptor yX2_whole.desc).map (fun d => d.parameters.length) = some 0)⟩ ⟨Nat.le_of_ble_eq_true rfl, Nat.le_of_ble_eq_true rfl⟩) ⟨cPre_blind, c_recv X hw hN193 rfl, fun U hU hW => ⟨rfl, X.preJ hw hU hW⟩⟩ rfl rfl hl.1 rfl (lv_room (Nat.le_of_ble_eq_true rfl)) dX2_term_189 ⟨show cells + mc73 + 0 + 1 + 0 + mc177 + mc189 ≤ MC by omega, show slots + ms74 + 0 + 4 + 0 + ms178 + ms190 ≤ MS by omega⟩) (fun q198 N199 H locs ci200 fs201 ch204 hci202 hNq203 h hw hch => ?_) (fun r187 N188 H locs h hw => ?_)
    · have hci202 := List.mem_singleton.mp hci202
      subst hci202
      have h := h fs201 hNq203
      exact cx_outJ (pc := 189) X hw hNq203 rfl (by decide) (by rw [hT]; intro x hx; cases hx) hlk hch h (by omega) (by omega)
    refine W.eq (g2 := F0 m 192 ls (.int r187 :: [])) rfl ?_
    refine lv_istore (pc := 192) (lv' := [(6, .int r187), (5, .ref nq136), (0, .ref x0), (2, .int x2), (4, .int x4)]) hx hb dX2_term_192 hl (by decide) rfl (fun ls hl => ?_)
    refine lv_aload_n (pc := 194) hx hb dX2_term_194 rfl (lv_at hl 2 rfl) ?_
    refine lv_aload (pc := 195) hx hb dX2_term_195 (lv_at hl 1 rfl) ?_
    refine lv_iload (pc := 197) hx hb dX2_term_197 (lv_at hl 0 rfl) ?_
    refine lv_i2l (pc := 199) hx hb dX2_term_199 rfl ?_
    obtain ⟨f208, f209, f210, f211, hN207, h⟩ := h
    refine c_callJ (pc := 200) (val := vL) X hw (va_runV (C := RX4) (As := [.long r187.toInt64]) (rest := [.ref x0]) X.1 (tX4_value X.2.2.1 (sz := H.size) h) (cwV 1 hts (lw_V q737 q738 q739 q126 q740) rfl rfl rfl ⟨rfl, by decide, by decide, (by decide +kernel : (parseMethodDescriptor yX4_value.desc).map (fun d => d.parameters.length) = some 1)⟩ ⟨Nat.le_of_ble_eq_true rfl, Nat.le_of_ble_eq_true rfl⟩) ⟨cPre_blind, c_recv X hw hN207 rfl, fun U hU hW => ⟨rfl, X.preJ hw hU hW⟩⟩ rfl rfl hl.1 rfl (lv_room (Nat.le_of_ble_eq_true rfl)) dX2_term_200 ⟨show cells + mc73 + 0 + 1 + 0 + mc177 + mc189 + 0 ≤ MC by omega, show slots + ms74 + 0 + 4 + 0 + ms178 + ms190 + 0 ≤ MS by omega⟩) (fun r205 N206 H locs h hw => ?_)
    refine W.eq (g2 := F0 m 203 ls (.long r205 :: [.ref x0])) rfl ?_
    refine lv_ldc2 (pc := 203) hx hb hown (hts _ q769) dX2_term_203 ?_
    refine lv_ldc2 (pc := 206) hx hb hown (hts _ q760) dX2_term_206 ?_
    refine p_call (pc := 209) (val := vI) ((va_runSN (As := [.long r205, .long (-3000 : Int64), .long (3000 : Int64)]) (rest := [.ref x0]) X.1 (tX0_isIn h) ⟨va_cnB 3 hts (lw_meth q382) rfl rfl rfl (X.nest q460) (hts _ q102) ⟨by decide, by decide, (by decide +kernel : (parseMethodDescriptor yX0_isIn.desc).map (fun d => d.parameters.length) = some 3)⟩ ⟨Nat.le_of_ble_eq_true rfl, Nat.le_of_ble_eq_true rfl⟩, hts _ q381, trivial⟩ ⟨pc_blind, fun U _ _ => ⟨rfl, trivial⟩⟩ rfl rfl hl.1 rfl (lv_room (Nat.le_of_ble_eq_true rfl)) dX2_term_209 ⟨show cells + mc73 + 0 + 1 + 0 + mc177 + mc189 + 0 ≤ MC by omega, show slots + ms74 + 0 + 4 + 0 + ms178 + ms190 + 0 ≤ MS by omega⟩).run) (fun r212 h => ?_)
    refine W.eq (g2 := F0 m 212 ls (.int r212 :: [.ref x0])) rfl ?_
    refine lv_iconst (pc := 212) (v := (3 : Int32)) hx hb dX2_term_212 (by decide) ?_
    refine lv_aload_n (pc := 213) hx hb dX2_term_213 rfl (lv_at hl 2 rfl) ?_
    obtain ⟨f214, f215, f216, f217, hN213, h⟩ := h
    refine c_get (pc := 214) X hw hN213 in_X2 rfl 1 (by decide) q407 rfl rfl dX2_term_214 ?_
    obtain ⟨mc220, ms221, hm222, hm223, h⟩ := h
    refine cx_callJ (pc := 217) (val := vV) X hw (cx_runV (C := RX2) (As := [.int r212, .int (3 : Int32), .int f215]) (rest := []) X.1 (tX2_must hL X.2.2.1 (sz := H.size) h) (cwV 3 hts (lw_V q659 q661 qs9 q113 q662) rfl rfl rfl ⟨rfl, by decide, by decide, (by decide +kernel : (parseMethodDescriptor yX2_must.desc).map (fun d => d.parameters.length) = some 3)⟩ ⟨Nat.le_of_ble_eq_true rfl, Nat.le_of_ble_eq_true rfl⟩) ⟨cPre_blind, c_recv X hw hN213 rfl, fun U hU hW => ⟨rfl, X.preJ hw hU hW⟩⟩ rfl rfl hl.1 rfl (lv_room (Nat.le_of_ble_eq_true rfl)) dX2_term_217 ⟨show cells + mc73 + 0 + 1 + 0 + mc177 + mc189 + 0 + mc220 ≤ MC by omega, show slots + ms74 + 0 + 4 + 0 + ms178 + ms190 + 0 + ms221 ≤ MS by omega⟩) (fun q224 N225 H locs ci226 fs227 ch230 hci228 hNq229 h hw hch => ?_) (fun _ N219 H locs h hw => ?_)
    · have hci228 := List.mem_singleton.mp hci228
      subst hci228
      have h := h fs227 hNq229
      exact cx_outJ (pc := 217) X hw hNq229 rfl (by decide) (by rw [hT]; intro x hx; cases hx) hlk hch h (by omega) (by omega)
    refine W.eq (g2 := F0 m 220 ls ([])) rfl ?_
    refine lv_aload_n (pc := 220) hx hb dX2_term_220 rfl (lv_at hl 2 rfl) ?_
    refine lv_aload_n (pc := 221) hx hb dX2_term_221 rfl (lv_at hl 2 rfl) ?_
    refine va_ldcS (pc := 222) hx hb hown (X.str (r := ("ToldPowers$Reader", 163, "to", 10)) (List.mem_of_getElem? (i := 10) rfl)) dX2_term_222 ?_
    obtain ⟨f238, f239, f240, f241, hN237, h⟩ := h
    obtain ⟨mc233, ms234, hm235, hm236, h⟩ := h
    refine c_callJ (pc := 224) (val := vI) X hw (va_runV (C := RX2) (As := [va_rf (some (gC G 0 10))]) (rest := [.ref x0]) X.1 (tX2_passes X.2.2.1 (sz := H.size) h) (cwV 1 hts (lw_V q729 q731 qs11 q113 q732) rfl rfl rfl ⟨rfl, by decide, by decide, (by decide +kernel : (parseMethodDescriptor yX2_passes.desc).map (fun d => d.parameters.length) = some 1)⟩ ⟨Nat.le_of_ble_eq_true rfl, Nat.le_of_ble_eq_true rfl⟩) ⟨cPre_blind, c_recv X hw hN237 rfl, fun U hU hW => ⟨rfl, X.preJ hw hU hW⟩⟩ rfl rfl hl.1 rfl (lv_room (Nat.le_of_ble_eq_true rfl)) dX2_term_224 ⟨show cells + mc73 + 0 + 1 + 0 + mc177 + mc189 + 0 + mc220 + mc233 ≤ MC by omega, show slots + ms74 + 0 + 4 + 0 + ms178 + ms190 + 0 + ms221 + ms234 ≤ MS by omega⟩) (fun r231 N232 H locs h hw => ?_)
    refine W.eq (g2 := F0 m 227 ls (.int r231 :: [.ref x0])) rfl ?_
    refine lv_iconst (pc := 227) (v := (1 : Int32)) hx hb dX2_term_227 (by decide) ?_
    refine lv_aload_n (pc := 228) hx hb dX2_term_228 rfl (lv_at hl 2 rfl) ?_
    obtain ⟨f243, f244, f245, f246, hN242, h⟩ := h
    refine c_get (pc := 229) X hw hN242 in_X2 rfl 0 (by decide) q406 rfl rfl dX2_term_229 ?_
    obtain ⟨mc249, ms250, hm251, hm252, h⟩ := h
    refine cx_callJ (pc := 232) (val := vV) X hw (cx_runV (C := RX2) (As := [.int r231, .int (1 : Int32), .int f243]) (rest := []) X.1 (tX2_must hL X.2.2.1 (sz := H.size) h) (cwV 3 hts (lw_V q659 q661 qs9 q113 q662) rfl rfl rfl ⟨rfl, by decide, by decide, (by decide +kernel : (parseMethodDescriptor yX2_must.desc).map (fun d => d.parameters.length) = some 3)⟩ ⟨Nat.le_of_ble_eq_true rfl, Nat.le_of_ble_eq_true rfl⟩) ⟨cPre_blind, c_recv X hw hN242 rfl, fun U hU hW => ⟨rfl, X.preJ hw hU hW⟩⟩ rfl rfl hl.1 rfl (lv_room (Nat.le_of_ble_eq_true rfl)) dX2_term_232 ⟨show cells + mc73 + 0 + 1 + 0 + mc177 + mc189 + 0 + mc220 + mc233 + mc249 ≤ MC by omega, show slots + ms74 + 0 + 4 + 0 + ms178 + ms190 + 0 + ms221 + ms234 + ms250 ≤ MS by omega⟩) (fun q253 N254 H locs ci255 fs256 ch259 hci257 hNq258 h hw hch => ?_) (fun _ N248 H locs h hw => ?_)
    · have hci257 := List.mem_singleton.mp hci257
      subst hci257
      have h := h fs256 hNq258
      exact cx_outJ (pc := 232) X hw hNq258 rfl (by decide) (by rw [hT]; intro x hx; cases hx) hlk hch h (by omega) (by omega)
    refine W.eq (g2 := F0 m 235 ls ([])) rfl ?_
    refine lv_aload_n (pc := 235) hx hb dX2_term_235 rfl (lv_at hl 2 rfl) ?_
    obtain ⟨f267, f268, f269, f270, hN266, h⟩ := h
    obtain ⟨mc262, ms263, hm264, hm265, h⟩ := h
    refine cx_callJ (pc := 236) (val := vI) X hw (cx_runV (C := RX2) (As := []) (rest := []) X.1 (tX2_whole hL X.2.2.1 (sz := H.size) h) (cwV 0 hts (lw_V q761 q763 qs13 q113 q764) rfl rfl rfl ⟨rfl, by decide, by decide, (by decide +kernel : (parseMethodDescriptor yX2_whole.desc).map (fun d => d.parameters.length) = some 0)⟩ ⟨Nat.le_of_ble_eq_true rfl, Nat.le_of_ble_eq_true rfl⟩) ⟨cPre_blind, c_recv X hw hN266 rfl, fun U hU hW => ⟨rfl, X.preJ hw hU hW⟩⟩ rfl rfl hl.1 rfl (lv_room (Nat.le_of_ble_eq_true rfl)) dX2_term_236 ⟨show cells + mc73 + 0 + 1 + 0 + mc177 + mc189 + 0 + mc220 + mc233 + mc249 + mc262 ≤ MC by omega, show slots + ms74 + 0 + 4 + 0 + ms178 + ms190 + 0 + ms221 + ms234 + ms250 + ms263 ≤ MS by omega⟩) (fun q271 N272 H locs ci273 fs274 ch277 hci275 hNq276 h hw hch => ?_) (fun r260 N261 H locs h hw => ?_)
    · have hci275 := List.mem_singleton.mp hci275
      subst hci275
      have h := h fs274 hNq276
      exact cx_outJ (pc := 236) X hw hNq276 rfl (by decide) (by rw [hT]; intro x hx; cases hx) hlk hch h (by omega) (by omega)
    refine W.eq (g2 := F0 m 239 ls (.int r260 :: [])) rfl ?_
    refine lv_istore (pc := 239) (lv' := [(7, .int r260), (6, .int r187), (5, .ref nq136), (0, .ref x0), (2, .int x2), (4, .int x4)]) hx hb dX2_term_239 hl (by decide) rfl (fun ls hl => ?_)
    refine lv_aload_n (pc := 241) hx hb dX2_term_241 rfl (lv_at hl 3 rfl) ?_
    refine lv_iload (pc := 242) hx hb dX2_term_242 (lv_at hl 0 rfl) ?_
    refine lv_iload (pc := 244) hx hb dX2_term_244 (lv_at hl 1 rfl) ?_
    refine lv_icmp_lt (pc := 246) (tgt := 273) hx hb dX2_term_246 rfl (fun c278 => ?_) (fun c278 => ?_)
    · have h := h.1 c278
      exact kX2_term_273 X hr hlk hL hT  _ _ _ _ _ _ _ _ _ _ _ _ _ _ h ⟨hw, by omega⟩ (lv_sub hl [3, 4, 5, 1, 0] rfl)
    · have h := h.2 c278
      refine lv_aload (pc := 249) hx hb dX2_term_249 (lv_at hl 2 rfl) ?_
      refine lv_iload (pc := 251) hx hb dX2_term_251 (lv_at hl 0 rfl) ?_
      refine lv_i2l (pc := 253) hx hb dX2_term_253 rfl ?_
      obtain ⟨f346, f347, f348, f349, hN345, h⟩ := h
      refine c_callJ (pc := 254) (val := vL) X hw (va_runV (C := RX4) (As := [.long r260.toInt64]) (rest := [.ref x0]) X.1 (tX4_value X.2.2.1 (sz := H.size) h) (cwV 1 hts (lw_V q737 q738 q739 q126 q740) rfl rfl rfl ⟨rfl, by decide, by decide, (by decide +kernel : (parseMethodDescriptor yX4_value.desc).map (fun d => d.parameters.length) = some 1)⟩ ⟨Nat.le_of_ble_eq_true rfl, Nat.le_of_ble_eq_true rfl⟩) ⟨cPre_blind, c_recv X hw hN345 rfl, fun U hU hW => ⟨rfl, X.preJ hw hU hW⟩⟩ rfl rfl hl.1 rfl (lv_room (Nat.le_of_ble_eq_true rfl)) dX2_term_254 ⟨show cells + mc73 + 0 + 1 + 0 + mc177 + mc189 + 0 + mc220 + mc233 + mc249 + mc262 + 0 ≤ MC by omega, show slots + ms74 + 0 + 4 + 0 + ms178 + ms190 + 0 + ms221 + ms234 + ms250 + ms263 + 0 ≤ MS by omega⟩) (fun r343 N344 H locs h hw => ?_)
      refine W.eq (g2 := F0 m 257 ls (.long r343 :: [.ref x0])) rfl ?_
      refine lv_ldc2 (pc := 257) hx hb hown (hts _ q769) dX2_term_257 ?_
      refine lv_ldc2 (pc := 260) hx hb hown (hts _ q760) dX2_term_260 ?_
      refine p_call (pc := 263) (val := vI) ((va_runSN (As := [.long r343, .long (-3000 : Int64), .long (3000 : Int64)]) (rest := [.ref x0]) X.1 (tX0_isIn h) ⟨va_cnB 3 hts (lw_meth q382) rfl rfl rfl (X.nest q460) (hts _ q102) ⟨by decide, by decide, (by decide +kernel : (parseMethodDescriptor yX0_isIn.desc).map (fun d => d.parameters.length) = some 3)⟩ ⟨Nat.le_of_ble_eq_true rfl, Nat.le_of_ble_eq_true rfl⟩, hts _ q381, trivial⟩ ⟨pc_blind, fun U _ _ => ⟨rfl, trivial⟩⟩ rfl rfl hl.1 rfl (lv_room (Nat.le_of_ble_eq_true rfl)) dX2_term_263 ⟨show cells + mc73 + 0 + 1 + 0 + mc177 + mc189 + 0 + mc220 + mc233 + mc249 + mc262 + 0 ≤ MC by omega, show slots + ms74 + 0 + 4 + 0 + ms178 + ms190 + 0 + ms221 + ms234 + ms250 + ms263 + 0 ≤ MS by omega⟩).run) (fun r350 h => ?_)
      refine W.eq (g2 := F0 m 266 ls (.int r350 :: [.ref x0])) rfl ?_
      refine lv_if_eq (pc := 266) (tgt := 273) hx hb dX2_term_266 rfl (fun c351 => ?_) (fun c351 => ?_)
      · have h := h.1 c351
        exact kX2_term_273 X hr hlk hL hT  _ _ _ _ _ _ _ _ _ _ _ _ _ _ h ⟨hw, by omega⟩ (lv_sub hl [3, 4, 5, 1, 0] rfl)
      · have h := h.2 c351
        refine lv_iconst (pc := 269) (v := (1 : Int32)) hx hb dX2_term_269 (by decide) ?_
        refine lv_goto (pc := 270) (tgt := 274) hx hb dX2_term_270 rfl ?_
        exact kX2_term_274 X hr hlk hL hT  _ _ _ _ _ _ _ _ _ _ _ _ _ _ _ h ⟨hw, by omega⟩ (lv_sub hl [3, 4, 5, 1, 0] rfl)
  · have h := h.1 c186
    obtain ⟨hm352, hm353, h⟩ := h
    refine c_new (pc := 162) (ci := 6) (fs := [.int (0 : Int32), .int (0 : Int32), .int (0 : Int32), va_rf none]) X hw in_X4 tyX4 tyX4_ok q703 q704 q126 rfl nf_X4 (show cells + mc73 + 0 + 1 + 0 + mc177 + 1 ≤ MC by omega) (show slots + ms74 + 0 + 4 + 0 + ms178 + 4 ≤ MS by omega) dX2_term_162 (fun nq354 H hq355 _ hw => ?_)
    have h := h nq354 hq355
    obtain ⟨N356, e357⟩ : ∃ z, z = va_up N176 nq354 (some (eO 6 [.int (0 : Int32), .int (0 : Int32), .int (0 : Int32), va_rf none])) := ⟨_, rfl⟩
    have hw : cH G A s [] N356 H locs := by rw [e357]; exact hw
    have h := h N356 e357
    have hN358 : N356 nq354 = some (eO 6 [.int (0 : Int32), .int (0 : Int32), .int (0 : Int32), va_rf none]) := by rw [e357]; exact up_s
    refine lv_dup (pc := 165) hx hb dX2_term_165 rfl ?_
    refine lv_iload_n (pc := 166) hx hb dX2_term_166 rfl (lv_at hl 2 rfl) ?_
    refine lv_aload_n (pc := 167) hx hb dX2_term_167 rfl (lv_at hl 1 rfl) ?_
    obtain ⟨f360, f361, f362, f363, hN359, h⟩ := h
    refine c_get (pc := 168) X hw hN359 in_X2 rfl 3 (by decide) q409 rfl rfl dX2_term_168 ?_
    obtain ⟨a364, hr365, h⟩ := h
    refine W.eq (g2 := F0 m 171 ls [.ref a364, .int x2, .ref nq354, .ref nq354]) (by rw [hr365]; rfl) ?_
    obtain ⟨f367, f368, f369, f370, f371, f372, f373, f374, f375, f376, f377, f378, f379, f380, f381, f382, f383, f384, f385, hN366, h⟩ := h
    refine c_getN (pc := 171) X hw hN366 in_X0 rfl 0 (by decide) q209 rfl rfl dX2_term_171 ?_
    refine lv_iload (pc := 174) hx hb dX2_term_174 (lv_at hl 3 rfl) ?_
    obtain ⟨a386, hr387, h⟩ := h
    refine W.eq (g2 := F0 m 176 ls [.int x4, .ref a386, .int x2, .ref nq354, .ref nq354]) (by rw [hr387]; rfl) ?_
    obtain ⟨n389, f390, hN388, h⟩ := h
    obtain ⟨hi, h⟩ := h
    refine c_aald (pc := 176) X hw 9 hN388 rfl hi dX2_term_176 ?_
    refine lv_iconst (pc := 177) (v := (0 : Int32)) hx hb dX2_term_177 (by decide) ?_
    refine lv_aload_n (pc := 178) hx hb dX2_term_178 rfl (lv_at hl 1 rfl) ?_
    refine lv_aload (pc := 179) hx hb dX2_term_179 (lv_at hl 0 rfl) ?_
    refine c_callJ (pc := 181) (val := vI) X hw (va_runV (C := RX2) (As := [va_rf (some nq136)]) (rest := [.int (0 : Int32), va_rf (f390 x4.toNatClampNeg), .int x2, .ref nq354, .ref nq354]) X.1 (tX2_highest X.2.2.1 (sz := H.size) h) (cwV 1 hts (lw_V q733 q735 qs12 q113 q736) rfl rfl rfl ⟨rfl, by decide, by decide, (by decide +kernel : (parseMethodDescriptor yX2_highest.desc).map (fun d => d.parameters.length) = some 1)⟩ ⟨Nat.le_of_ble_eq_true rfl, Nat.le_of_ble_eq_true rfl⟩) ⟨cPre_blind, c_recv X hw hN359 rfl, fun U hU hW => ⟨rfl, X.preJ hw hU hW⟩⟩ rfl rfl hl.1 rfl (lv_room (by simp only [List.map_cons, List.map_nil, List.sum_cons, List.sum_nil, rf_c]; exact Nat.le_of_ble_eq_true rfl)) dX2_term_181 ⟨show cells + mc73 + 0 + 1 + 0 + mc177 + 1 + 0 ≤ MC by omega, show slots + ms74 + 0 + 4 + 0 + ms178 + 4 + 0 ≤ MS by omega⟩) (fun r391 N392 H locs h hw => ?_)
    refine W.eq (g2 := F0 m 184 ls (.int r391 :: [.int (0 : Int32), va_rf (f390 x4.toNatClampNeg), .int x2, .ref nq354, .ref nq354])) rfl ?_
    refine c_callJ (pc := 184) (val := vV) X hw (va_runI (As := [.int x2, va_rf (f390 x4.toNatClampNeg), .int (0 : Int32), .int r391]) (rest := [.ref nq354]) X.1 (tX4_init X.2.2.1 (sz := H.size) h) (cwI 4 hts (lw_meth q707) rfl rfl rfl (hts _ q126) (hts _ q705) (hts _ q706) rfl ⟨by decide, by decide, (by decide +kernel : (parseMethodDescriptor yX4_init.desc).map (fun d => d.parameters.length) = some 4)⟩ ⟨Nat.le_of_ble_eq_true rfl, Nat.le_of_ble_eq_true rfl⟩) ⟨cPre_blind, fun U hU hW => ⟨rfl, X.preJ hw hU hW⟩⟩ rfl rfl hl.1 rfl (lv_room (Nat.le_of_ble_eq_true rfl)) dX2_term_184 ⟨show cells + mc73 + 0 + 1 + 0 + mc177 + 1 + 0 + 0 ≤ MC by omega, show slots + ms74 + 0 + 4 + 0 + ms178 + 4 + 0 + 0 ≤ MS by omega⟩) (fun _ N394 H locs h hw => ?_)
    refine W.eq (g2 := F0 m 187 ls ([.ref nq354])) rfl ?_
    refine W.widen (k := MC) (n := MS) (by omega) (by omega) ?_
    refine cx_ret ?_
    exact W.aret (pc := 187) (v := va_rf (some nq354)) hx hb hr (Or.inl ⟨_, rfl⟩) (va_rf_or _) (fun t ht hW => c_ret (val := vQ) (lw := jW) (u := N394) hw h ht) hw.2.2.2 dX2_term_187 hlk
theorem kX2_term_74 {p : Program} {l : Launch} {e : Env} {s : State} {m : MethodId} {args : Array Value} {below : List Frame} {meth : Method} {c : Code} {G : gG} {A : Nat → Prop} {MC MS : Nat} {post : Option Nat → NM → Prop} {xp : Nat → List Nat → NM → Prop} (X : cX G A RX2 p s m args c cX2_term 8) (hr : meth.sig.returnType = (some (.object "ToldPowers$Term"))) (hlk : meth.locks = false) (hL : l.stackTraces = false) (hT : c.exceptionTable.toList = tableOf []) : ∀ (x0 : Nat) (x2 : Int32) (x3 : Int32) (v0 : Int32) (v1 : Nat) (mc ms : Nat) (N : NM) (H : Heap) (locs : List Loc) (ls : Array Slot) (cells slots : Nat), wX2_term_74 (gC G) post xp x0 x2 x3 v0 v1 mc ms N → (cH G A s [] N H locs ∧ cells + mc ≤ MC ∧ slots + ms ≤ MS) → lv_has ls 8 [(0, .ref x0), (2, .int x2), (3, .int x3)] → W p l e ⟨8, MC, MS, 215⟩ s m args below meth c H locs cells slots (cx_MQ below (gQ vQ post (fun u H => cBw G A (jW u).1 (jW u).2 H) A) (cXC G A [3] xp) args s MC MS A) (F0 m 74 ls [.int v0, .ref v1]) := by
  have hx := X.1.1
  have hb := X.1.2.1
  have hml := X.1.2.2.1
  have hown := X.1.2.2.2.1
  have hts := X.1.2.2.2.2
  intro x0 x2 x3 v0 v1 mc ms N H locs ls cells slots h hw0 hl
  obtain ⟨hw, hbud⟩ := hw0
  unfold wX2_term_74 at h
  refine lv_iconst (pc := 74) (v := (4 : Int32)) hx hb dX2_term_74 (by decide) ?_
  refine lv_iload_n (pc := 75) hx hb dX2_term_75 rfl (lv_at hl 2 rfl) ?_
  obtain ⟨f43, f44, f45, f46, hN42, h⟩ := h
  obtain ⟨mc38, ms39, hm40, hm41, h⟩ := h
  refine cx_callJ (pc := 76) (val := vV) X hw (cx_runV (C := RX2) (As := [.int v0, .int (4 : Int32), .int x3]) (rest := []) X.1 (tX2_must hL X.2.2.1 (sz := H.size) h) (cwV 3 hts (lw_V q659 q661 qs9 q113 q662) rfl rfl rfl ⟨rfl, by decide, by decide, (by decide +kernel : (parseMethodDescriptor yX2_must.desc).map (fun d => d.parameters.length) = some 3)⟩ ⟨Nat.le_of_ble_eq_true rfl, Nat.le_of_ble_eq_true rfl⟩) ⟨cPre_blind, c_recv X hw hN42 rfl, fun U hU hW => ⟨rfl, X.preJ hw hU hW⟩⟩ rfl rfl hl.1 rfl (lv_room (Nat.le_of_ble_eq_true rfl)) dX2_term_76 ⟨show cells + mc38 ≤ MC by omega, show slots + ms39 ≤ MS by omega⟩) (fun q47 N48 H locs ci49 fs50 ch53 hci51 hNq52 h hw hch => ?_) (fun _ N37 H locs h hw => ?_)
  · have hci51 := List.mem_singleton.mp hci51
    subst hci51
    have h := h fs50 hNq52
    exact cx_outJ (pc := 76) X hw hNq52 rfl (by decide) (by rw [hT]; intro x hx; cases hx) hlk hch h (by omega) (by omega)
  refine W.eq (g2 := F0 m 79 ls ([])) rfl ?_
  refine lv_aload_n (pc := 79) hx hb dX2_term_79 rfl (lv_at hl 0 rfl) ?_
  obtain ⟨f61, f62, f63, f64, hN60, h⟩ := h
  obtain ⟨mc56, ms57, hm58, hm59, h⟩ := h
  refine c_callJ (pc := 80) (val := vI) X hw (va_runV (C := RX2) (As := []) (rest := []) X.1 (tX2_kind X.2.2.1 (sz := H.size) h) (cwV 0 hts (lw_V q461 q463 qs7 q113 q464) rfl rfl rfl ⟨rfl, by decide, by decide, (by decide +kernel : (parseMethodDescriptor yX2_kind.desc).map (fun d => d.parameters.length) = some 0)⟩ ⟨Nat.le_of_ble_eq_true rfl, Nat.le_of_ble_eq_true rfl⟩) ⟨cPre_blind, c_recv X hw hN60 rfl, fun U hU hW => ⟨rfl, X.preJ hw hU hW⟩⟩ rfl rfl hl.1 rfl (lv_room (Nat.le_of_ble_eq_true rfl)) dX2_term_80 ⟨show cells + mc38 + mc56 ≤ MC by omega, show slots + ms39 + ms57 ≤ MS by omega⟩) (fun r54 N55 H locs h hw => ?_)
  refine W.eq (g2 := F0 m 83 ls (.int r54 :: [])) rfl ?_
  refine lv_istore (pc := 83) (lv' := [(4, .int r54), (0, .ref x0), (2, .int x2), (3, .int x3)]) hx hb dX2_term_83 hl (by decide) rfl (fun ls hl => ?_)
  refine lv_aload_n (pc := 85) hx hb dX2_term_85 rfl (lv_at hl 1 rfl) ?_
  refine lv_iload (pc := 86) hx hb dX2_term_86 (lv_at hl 0 rfl) ?_
  refine lv_iconst (pc := 88) (v := (-1 : Int32)) hx hb dX2_term_88 (by decide) ?_
  refine lv_icmp_eq (pc := 89) (tgt := 96) hx hb dX2_term_89 rfl (fun c65 => ?_) (fun c65 => ?_)
  · have h := h.1 c65
    refine lv_iconst (pc := 96) (v := (0 : Int32)) hx hb dX2_term_96 (by decide) ?_
    exact kX2_term_97 X hr hlk hL hT  _ _ _ _ _ _ _ _ _ _ _ _ _ h ⟨hw, by omega⟩ (lv_sub hl [1, 2, 0] rfl)
  · have h := h.2 c65
    refine lv_iconst (pc := 92) (v := (1 : Int32)) hx hb dX2_term_92 (by decide) ?_
    refine lv_goto (pc := 93) (tgt := 97) hx hb dX2_term_93 rfl ?_
    exact kX2_term_97 X hr hlk hL hT  _ _ _ _ _ _ _ _ _ _ _ _ _ h ⟨hw, by omega⟩ (lv_sub hl [1, 2, 0] rfl)
theorem kX2_term_63 {p : Program} {l : Launch} {e : Env} {s : State} {m : MethodId} {args : Array Value} {below : List Frame} {meth : Method} {c : Code} {G : gG} {A : Nat → Prop} {MC MS : Nat} {post : Option Nat → NM → Prop} {xp : Nat → List Nat → NM → Prop} (X : cX G A RX2 p s m args c cX2_term 8) (hr : meth.sig.returnType = (some (.object "ToldPowers$Term"))) (hlk : meth.locks = false) (hL : l.stackTraces = false) (hT : c.exceptionTable.toList = tableOf []) : ∀ (x0 : Nat) (x1 : Int32) (x2 : Int32) (x3 : Int32) (mc ms : Nat) (N : NM) (H : Heap) (locs : List Loc) (ls : Array Slot) (cells slots : Nat), wX2_term_63 (gC G) post xp x0 x1 x2 x3 mc ms N → (cH G A s [] N H locs ∧ cells + mc ≤ MC ∧ slots + ms ≤ MS) → lv_has ls 8 [(0, .ref x0), (1, .int x1), (2, .int x2), (3, .int x3)] → W p l e ⟨8, MC, MS, 215⟩ s m args below meth c H locs cells slots (cx_MQ below (gQ vQ post (fun u H => cBw G A (jW u).1 (jW u).2 H) A) (cXC G A [3] xp) args s MC MS A) (F0 m 63 ls []) := by
  have hx := X.1.1
  have hb := X.1.2.1
  have hml := X.1.2.2.1
  have hown := X.1.2.2.2.1
  have hts := X.1.2.2.2.2
  intro x0 x1 x2 x3 mc ms N H locs ls cells slots h hw0 hl
  obtain ⟨hw, hbud⟩ := hw0
  unfold wX2_term_63 at h
  refine lv_aload_n (pc := 63) hx hb dX2_term_63 rfl (lv_at hl 0 rfl) ?_
  refine lv_iload_n (pc := 64) hx hb dX2_term_64 rfl (lv_at hl 1 rfl) ?_
  refine lv_iconst (pc := 65) (v := (5 : Int32)) hx hb dX2_term_65 (by decide) ?_
  refine lv_icmp_ge (pc := 66) (tgt := 73) hx hb dX2_term_66 rfl (fun c35 => ?_) (fun c35 => ?_)
  · have h := h.1 c35
    refine lv_iconst (pc := 73) (v := (0 : Int32)) hx hb dX2_term_73 (by decide) ?_
    exact kX2_term_74 X hr hlk hL hT  _ _ _ _ _ _ _ _ _ _ _ _ _ h ⟨hw, by omega⟩ (lv_sub hl [0, 2, 3] rfl)
  · have h := h.2 c35
    refine lv_iconst (pc := 69) (v := (1 : Int32)) hx hb dX2_term_69 (by decide) ?_
    refine lv_goto (pc := 70) (tgt := 74) hx hb dX2_term_70 rfl ?_
    exact kX2_term_74 X hr hlk hL hT  _ _ _ _ _ _ _ _ _ _ _ _ _ h ⟨hw, by omega⟩ (lv_sub hl [0, 2, 3] rfl)
theorem kX2_term_28 {p : Program} {l : Launch} {e : Env} {s : State} {m : MethodId} {args : Array Value} {below : List Frame} {meth : Method} {c : Code} {G : gG} {A : Nat → Prop} {MC MS : Nat} {post : Option Nat → NM → Prop} {xp : Nat → List Nat → NM → Prop} (X : cX G A RX2 p s m args c cX2_term 8) (hr : meth.sig.returnType = (some (.object "ToldPowers$Term"))) (hlk : meth.locks = false) (hL : l.stackTraces = false) (hT : c.exceptionTable.toList = tableOf []) : ∀ (x0 : Nat) (x1 : Int32) (x2 : Int32) (x3 : Int32) (v0 : Int32) (v1 : Nat) (mc ms : Nat) (N : NM) (H : Heap) (locs : List Loc) (ls : Array Slot) (cells slots : Nat), wX2_term_28 (gC G) post xp x0 x1 x2 x3 v0 v1 mc ms N → (cH G A s [] N H locs ∧ cells + mc ≤ MC ∧ slots + ms ≤ MS) → lv_has ls 8 [(0, .ref x0), (1, .int x1), (2, .int x2), (3, .int x3)] → W p l e ⟨8, MC, MS, 215⟩ s m args below meth c H locs cells slots (cx_MQ below (gQ vQ post (fun u H => cBw G A (jW u).1 (jW u).2 H) A) (cXC G A [3] xp) args s MC MS A) (F0 m 28 ls [.int v0, .ref v1]) := by
  have hx := X.1.1
  have hb := X.1.2.1
  have hml := X.1.2.2.1
  have hown := X.1.2.2.2.1
  have hts := X.1.2.2.2.2
  intro x0 x1 x2 x3 v0 v1 mc ms N H locs ls cells slots h hw0 hl
  obtain ⟨hw, hbud⟩ := hw0
  unfold wX2_term_28 at h
  refine lv_iconst (pc := 28) (v := (1 : Int32)) hx hb dX2_term_28 (by decide) ?_
  refine lv_iload_n (pc := 29) hx hb dX2_term_29 rfl (lv_at hl 3 rfl) ?_
  obtain ⟨f16, f17, f18, f19, hN15, h⟩ := h
  obtain ⟨mc11, ms12, hm13, hm14, h⟩ := h
  refine cx_callJ (pc := 30) (val := vV) X hw (cx_runV (C := RX2) (As := [.int v0, .int (1 : Int32), .int x3]) (rest := []) X.1 (tX2_must hL X.2.2.1 (sz := H.size) h) (cwV 3 hts (lw_V q659 q661 qs9 q113 q662) rfl rfl rfl ⟨rfl, by decide, by decide, (by decide +kernel : (parseMethodDescriptor yX2_must.desc).map (fun d => d.parameters.length) = some 3)⟩ ⟨Nat.le_of_ble_eq_true rfl, Nat.le_of_ble_eq_true rfl⟩) ⟨cPre_blind, c_recv X hw hN15 rfl, fun U hU hW => ⟨rfl, X.preJ hw hU hW⟩⟩ rfl rfl hl.1 rfl (lv_room (Nat.le_of_ble_eq_true rfl)) dX2_term_30 ⟨show cells + mc11 ≤ MC by omega, show slots + ms12 ≤ MS by omega⟩) (fun q20 N21 H locs ci22 fs23 ch26 hci24 hNq25 h hw hch => ?_) (fun _ N10 H locs h hw => ?_)
  · have hci24 := List.mem_singleton.mp hci24
    subst hci24
    have h := h fs23 hNq25
    exact cx_outJ (pc := 30) X hw hNq25 rfl (by decide) (by rw [hT]; intro x hx; cases hx) hlk hch h (by omega) (by omega)
  refine W.eq (g2 := F0 m 33 ls ([])) rfl ?_
  refine lv_aload_n (pc := 33) hx hb dX2_term_33 rfl (lv_at hl 0 rfl) ?_
  obtain ⟨f30, f31, f32, f33, hN29, h⟩ := h
  refine c_callJ (pc := 34) (val := vI) X hw (va_runV (C := RX2) (As := []) (rest := []) X.1 (tX2_isDigit X.2.2.1 (sz := H.size) h) (cwV 0 hts (lw_V q454 q456 qs6 q113 q457) rfl rfl rfl ⟨rfl, by decide, by decide, (by decide +kernel : (parseMethodDescriptor yX2_isDigit.desc).map (fun d => d.parameters.length) = some 0)⟩ ⟨Nat.le_of_ble_eq_true rfl, Nat.le_of_ble_eq_true rfl⟩) ⟨cPre_blind, c_recv X hw hN29 rfl, fun U hU hW => ⟨rfl, X.preJ hw hU hW⟩⟩ rfl rfl hl.1 rfl (lv_room (Nat.le_of_ble_eq_true rfl)) dX2_term_34 ⟨show cells + mc11 + 0 ≤ MC by omega, show slots + ms12 + 0 ≤ MS by omega⟩) (fun r27 N28 H locs h hw => ?_)
  refine W.eq (g2 := F0 m 37 ls (.int r27 :: [])) rfl ?_
  refine lv_if_eq (pc := 37) (tgt := 63) hx hb dX2_term_37 rfl (fun c34 => ?_) (fun c34 => ?_)
  · have h := h.1 c34
    exact kX2_term_63 X hr hlk hL hT  _ _ _ _ _ _ _ _ _ _ _ _ h ⟨hw, by omega⟩ (lv_sub hl [0, 1, 2, 3] rfl)
  · have h := h.2 c34
    refine lv_aload_n (pc := 40) hx hb dX2_term_40 rfl (lv_at hl 0 rfl) ?_
    obtain ⟨f402, f403, f404, f405, hN401, h⟩ := h
    obtain ⟨mc397, ms398, hm399, hm400, h⟩ := h
    refine cx_callJ (pc := 41) (val := vI) X hw (cx_runV (C := RX2) (As := []) (rest := []) X.1 (tX2_number hL X.2.2.1 (sz := H.size) h) (cwV 0 hts (lw_V q690 q692 qs10 q113 q693) rfl rfl rfl ⟨rfl, by decide, by decide, (by decide +kernel : (parseMethodDescriptor yX2_number.desc).map (fun d => d.parameters.length) = some 0)⟩ ⟨Nat.le_of_ble_eq_true rfl, Nat.le_of_ble_eq_true rfl⟩) ⟨cPre_blind, c_recv X hw hN401 rfl, fun U hU hW => ⟨rfl, X.preJ hw hU hW⟩⟩ rfl rfl hl.1 rfl (lv_room (Nat.le_of_ble_eq_true rfl)) dX2_term_41 ⟨show cells + mc11 + 0 + mc397 ≤ MC by omega, show slots + ms12 + 0 + ms398 ≤ MS by omega⟩) (fun q406 N407 H locs ci408 fs409 ch412 hci410 hNq411 h hw hch => ?_) (fun r395 N396 H locs h hw => ?_)
    · have hci410 := List.mem_singleton.mp hci410
      subst hci410
      have h := h fs409 hNq411
      exact cx_outJ (pc := 41) X hw hNq411 rfl (by decide) (by rw [hT]; intro x hx; cases hx) hlk hch h (by omega) (by omega)
    refine W.eq (g2 := F0 m 44 ls (.int r395 :: [])) rfl ?_
    refine lv_istore_n (pc := 44) (lv' := [(2, .int r395), (0, .ref x0), (1, .int x1), (3, .int x3)]) hx hb dX2_term_44 rfl hl (by decide) rfl (fun ls hl => ?_)
    refine lv_aload_n (pc := 45) hx hb dX2_term_45 rfl (lv_at hl 1 rfl) ?_
    refine lv_iload_n (pc := 46) hx hb dX2_term_46 rfl (lv_at hl 0 rfl) ?_
    refine lv_i2l (pc := 47) hx hb dX2_term_47 rfl ?_
    refine lv_lconst (pc := 48) (v := (1 : Int64)) hx hb dX2_term_48 (by decide) ?_
    refine lv_ldc2 (pc := 49) hx hb hown (hts _ q694) dX2_term_49 ?_
    refine p_call (pc := 52) (val := vI) ((va_runSN (As := [.long r395.toInt64, .long (1 : Int64), .long (99 : Int64)]) (rest := [.ref x0]) X.1 (tX0_isIn h) ⟨va_cnB 3 hts (lw_meth q382) rfl rfl rfl (X.nest q460) (hts _ q102) ⟨by decide, by decide, (by decide +kernel : (parseMethodDescriptor yX0_isIn.desc).map (fun d => d.parameters.length) = some 3)⟩ ⟨Nat.le_of_ble_eq_true rfl, Nat.le_of_ble_eq_true rfl⟩, hts _ q381, trivial⟩ ⟨pc_blind, fun U _ _ => ⟨rfl, trivial⟩⟩ rfl rfl hl.1 rfl (lv_room (Nat.le_of_ble_eq_true rfl)) dX2_term_52 ⟨show cells + mc11 + 0 + mc397 ≤ MC by omega, show slots + ms12 + 0 + ms398 ≤ MS by omega⟩).run) (fun r413 h => ?_)
    refine W.eq (g2 := F0 m 55 ls (.int r413 :: [.ref x0])) rfl ?_
    refine lv_iconst (pc := 55) (v := (2 : Int32)) hx hb dX2_term_55 (by decide) ?_
    refine lv_aload_n (pc := 56) hx hb dX2_term_56 rfl (lv_at hl 1 rfl) ?_
    obtain ⟨f415, f416, f417, f418, hN414, h⟩ := h
    refine c_get (pc := 57) X hw hN414 in_X2 rfl 1 (by decide) q407 rfl rfl dX2_term_57 ?_
    obtain ⟨mc421, ms422, hm423, hm424, h⟩ := h
    refine cx_callJ (pc := 60) (val := vV) X hw (cx_runV (C := RX2) (As := [.int r413, .int (2 : Int32), .int f416]) (rest := []) X.1 (tX2_must hL X.2.2.1 (sz := H.size) h) (cwV 3 hts (lw_V q659 q661 qs9 q113 q662) rfl rfl rfl ⟨rfl, by decide, by decide, (by decide +kernel : (parseMethodDescriptor yX2_must.desc).map (fun d => d.parameters.length) = some 3)⟩ ⟨Nat.le_of_ble_eq_true rfl, Nat.le_of_ble_eq_true rfl⟩) ⟨cPre_blind, c_recv X hw hN414 rfl, fun U hU hW => ⟨rfl, X.preJ hw hU hW⟩⟩ rfl rfl hl.1 rfl (lv_room (Nat.le_of_ble_eq_true rfl)) dX2_term_60 ⟨show cells + mc11 + 0 + mc397 + mc421 ≤ MC by omega, show slots + ms12 + 0 + ms398 + ms422 ≤ MS by omega⟩) (fun q425 N426 H locs ci427 fs428 ch431 hci429 hNq430 h hw hch => ?_) (fun _ N420 H locs h hw => ?_)
    · have hci429 := List.mem_singleton.mp hci429
      subst hci429
      have h := h fs428 hNq430
      exact cx_outJ (pc := 60) X hw hNq430 rfl (by decide) (by rw [hT]; intro x hx; cases hx) hlk hch h (by omega) (by omega)
    refine W.eq (g2 := F0 m 63 ls ([])) rfl ?_
    exact kX2_term_63 X hr hlk hL hT  _ _ _ _ _ _ _ _ _ _ _ _ h ⟨hw, by omega⟩ (lv_sub hl [1, 2, 0, 3] rfl)
theorem kX2_term_23 {p : Program} {l : Launch} {e : Env} {s : State} {m : MethodId} {args : Array Value} {below : List Frame} {meth : Method} {c : Code} {G : gG} {A : Nat → Prop} {MC MS : Nat} {post : Option Nat → NM → Prop} {xp : Nat → List Nat → NM → Prop} (X : cX G A RX2 p s m args c cX2_term 8) (hr : meth.sig.returnType = (some (.object "ToldPowers$Term"))) (hlk : meth.locks = false) (hL : l.stackTraces = false) (hT : c.exceptionTable.toList = tableOf []) : ∀ (x0 : Nat) (x1 : Int32) (x2 : Int32) (x3 : Int32) (v0 : Nat) (mc ms : Nat) (N : NM) (H : Heap) (locs : List Loc) (ls : Array Slot) (cells slots : Nat), wX2_term_23 (gC G) post xp x0 x1 x2 x3 v0 mc ms N → (cH G A s [] N H locs ∧ cells + mc ≤ MC ∧ slots + ms ≤ MS) → lv_has ls 8 [(0, .ref x0), (1, .int x1), (2, .int x2), (3, .int x3)] → W p l e ⟨8, MC, MS, 215⟩ s m args below meth c H locs cells slots (cx_MQ below (gQ vQ post (fun u H => cBw G A (jW u).1 (jW u).2 H) A) (cXC G A [3] xp) args s MC MS A) (F0 m 23 ls [.ref v0]) := by
  have hx := X.1.1
  have hb := X.1.2.1
  have hml := X.1.2.2.1
  have hown := X.1.2.2.2.1
  have hts := X.1.2.2.2.2
  intro x0 x1 x2 x3 v0 mc ms N H locs ls cells slots h hw0 hl
  obtain ⟨hw, hbud⟩ := hw0
  unfold wX2_term_23 at h
  refine lv_iconst (pc := 23) (v := (1 : Int32)) hx hb dX2_term_23 (by decide) ?_
  refine lv_goto (pc := 24) (tgt := 28) hx hb dX2_term_24 rfl ?_
  exact kX2_term_28 X hr hlk hL hT  _ _ _ _ _ _ _ _ _ _ _ _ _ _ h ⟨hw, by omega⟩ (lv_sub hl [0, 1, 2, 3] rfl)
theorem tX2_term {l : Launch} (hL : l.stackTraces = false) {G : gG} (hO : gOk G) {post : Option Nat → NM → Prop} {xp : Nat → List Nat → NM → Prop} {MC MS : Nat} {N : NM} {x0 : Nat} {x1 : Int32} {sz : Nat} (h : wX2_term (gC G) post xp MC MS N x0 x1) : cx_Met l yX2_term (ws_ yX2_term cX2_term 8 (some (.object "ToldPowers$Term"))) ⟨8, MC, MS, 215⟩ (va_Pc [.ref x0, .int x1] (cPre G [] N sz)) (gQ vQ post (fun u H => cBw G (cA [] N sz) (jW u).1 (jW u).2 H) (cA [] N sz)) (cXC G (cA [] N sz) [3] xp) MC MS (cA [] N sz) := by
  refine c_ofX (B := fun A u H => cBw G A (jW u).1 (jW u).2 H) (by decide) hO (Nat.le_of_ble_eq_true rfl) (fun p e s m below meth c ls A X hr hlk hT hw hl => ?_)
  have hl : lv_has ls 8 [(0, .ref x0), (1, .int x1)] := hl
  have hx := X.1.1
  have hb := X.1.2.1
  have hml := X.1.2.2.1
  have hown := X.1.2.2.2.1
  have hts := X.1.2.2.2.2
  obtain ⟨H, eH⟩ : ∃ z, z = s.heap := ⟨_, rfl⟩
  rw [← eH] at hw ⊢
  obtain ⟨locs, eLo⟩ : ∃ z : List Loc, z = [] := ⟨_, rfl⟩
  rw [← eLo] at hw ⊢
  have hbud : 0 + MC ≤ MC ∧ 0 + MS ≤ MS := by omega
  unfold wX2_term at h
  refine lv_iconst (pc := 0) (v := (1 : Int32)) hx hb dX2_term_0 (by decide) ?_
  refine lv_istore_n (pc := 1) (lv' := [(2, .int (1 : Int32)), (0, .ref x0), (1, .int x1)]) hx hb dX2_term_1 rfl hl (by decide) rfl (fun ls hl => ?_)
  refine lv_aload_n (pc := 2) hx hb dX2_term_2 rfl (lv_at hl 1 rfl) ?_
  obtain ⟨f2, f3, f4, f5, hN1, h⟩ := h
  refine c_get (pc := 3) X hw hN1 in_X2 rfl 0 (by decide) q406 rfl rfl dX2_term_3 ?_
  refine lv_istore_n (pc := 6) (lv' := [(3, .int f2), (2, .int (1 : Int32)), (0, .ref x0), (1, .int x1)]) hx hb dX2_term_6 rfl hl (by decide) rfl (fun ls hl => ?_)
  refine lv_aload_n (pc := 7) hx hb dX2_term_7 rfl (lv_at hl 2 rfl) ?_
  refine lv_aload_n (pc := 8) hx hb dX2_term_8 rfl (lv_at hl 2 rfl) ?_
  refine c_callJ (pc := 9) (val := vI) X hw (va_runV (C := RX2) (As := []) (rest := [.ref x0]) X.1 (tX2_isDigit X.2.2.1 (sz := H.size) h) (cwV 0 hts (lw_V q454 q456 qs6 q113 q457) rfl rfl rfl ⟨rfl, by decide, by decide, (by decide +kernel : (parseMethodDescriptor yX2_isDigit.desc).map (fun d => d.parameters.length) = some 0)⟩ ⟨Nat.le_of_ble_eq_true rfl, Nat.le_of_ble_eq_true rfl⟩) ⟨cPre_blind, c_recv X hw hN1 rfl, fun U hU hW => ⟨rfl, X.preJ hw hU hW⟩⟩ rfl rfl hl.1 rfl (lv_room (Nat.le_of_ble_eq_true rfl)) dX2_term_9 ⟨show 0 + 0 ≤ MC by omega, show 0 + 0 ≤ MS by omega⟩) (fun r6 N7 H locs h hw => ?_)
  refine W.eq (g2 := F0 m 12 ls (.int r6 :: [.ref x0])) rfl ?_
  refine lv_if_ne (pc := 12) (tgt := 23) hx hb dX2_term_12 rfl (fun c8 => ?_) (fun c8 => ?_)
  · have h := h.2 c8
    exact kX2_term_23 X hr hlk hL hT  _ _ _ _ _ _ _ _ _ _ _ _ _ h ⟨hw, by omega⟩ (lv_sub hl [2, 3, 1, 0] rfl)
  · have h := h.1 c8
    refine lv_aload_n (pc := 15) hx hb dX2_term_15 rfl (lv_at hl 2 rfl) ?_
    obtain ⟨f439, f440, f441, f442, hN438, h⟩ := h
    obtain ⟨mc434, ms435, hm436, hm437, h⟩ := h
    refine c_callJ (pc := 16) (val := vI) X hw (va_runV (C := RX2) (As := []) (rest := [.ref x0]) X.1 (tX2_kind X.2.2.1 (sz := H.size) h) (cwV 0 hts (lw_V q461 q463 qs7 q113 q464) rfl rfl rfl ⟨rfl, by decide, by decide, (by decide +kernel : (parseMethodDescriptor yX2_kind.desc).map (fun d => d.parameters.length) = some 0)⟩ ⟨Nat.le_of_ble_eq_true rfl, Nat.le_of_ble_eq_true rfl⟩) ⟨cPre_blind, c_recv X hw hN438 rfl, fun U hU hW => ⟨rfl, X.preJ hw hU hW⟩⟩ rfl rfl hl.1 rfl (lv_room (Nat.le_of_ble_eq_true rfl)) dX2_term_16 ⟨show 0 + 0 + mc434 ≤ MC by omega, show 0 + 0 + ms435 ≤ MS by omega⟩) (fun r432 N433 H locs h hw => ?_)
    refine W.eq (g2 := F0 m 19 ls (.int r432 :: [.ref x0])) rfl ?_
    refine lv_iconst (pc := 19) (v := (-1 : Int32)) hx hb dX2_term_19 (by decide) ?_
    refine lv_icmp_eq (pc := 20) (tgt := 27) hx hb dX2_term_20 rfl (fun c443 => ?_) (fun c443 => ?_)
    · have h := h.1 c443
      refine lv_iconst (pc := 27) (v := (0 : Int32)) hx hb dX2_term_27 (by decide) ?_
      exact kX2_term_28 X hr hlk hL hT  _ _ _ _ _ _ _ _ _ _ _ _ _ _ h ⟨hw, by omega⟩ (lv_sub hl [2, 3, 1, 0] rfl)
    · have h := h.2 c443
      exact kX2_term_23 X hr hlk hL hT  _ _ _ _ _ _ _ _ _ _ _ _ _ h ⟨hw, by omega⟩ (lv_sub hl [2, 3, 1, 0] rfl)

def wX2_line_234 (K : Nat → Nat → Nat) (post : Unit → NM → Prop) (xp : Nat → List Nat → NM → Prop) (x0 : Nat) (v0 : Int32) (v1 : Nat) (mc ms : Nat) (N : NM) : Prop :=
  ∃ f234 f235 f236 f237, N x0 = some (eO 2 [.int f234, .int f235, .int f236, va_rf f237]) ∧ (∃ f245 f246 f247 f248, N v1 = some (eO 2 [.int f245, .int f246, .int f247, va_rf f248]) ∧ (∃ mc240 ms241, mc240 ≤ mc ∧ ms241 ≤ ms ∧ wX2_must K (fun _ N239 => post () N239) (fun q249 ch255 N250 => (∀ fs252, N250 q249 = some (eO 3 fs252) → (xp q249 ch255 N250))) mc240 ms241 N v1 v0 (8 : Int32) f234))
def wX2_line_210 (K : Nat → Nat → Nat) (post : Unit → NM → Prop) (xp : Nat → List Nat → NM → Prop) (x0 : Nat) (x4 : Int32) (x6 : Int64) (v0 : Int32) (v1 : Nat) (mc ms : Nat) (N : NM) : Prop :=
  ∃ f210 f211 f212 f213, N x0 = some (eO 2 [.int f210, .int f211, .int f212, va_rf f213]) ∧ (∃ f221 f222 f223 f224, N v1 = some (eO 2 [.int f221, .int f222, .int f223, va_rf f224]) ∧ (∃ mc216 ms217, mc216 ≤ mc ∧ ms217 ≤ ms ∧ wX2_must K (fun _ N215 => ((x6 = x4.toInt64) → (wX2_line_234 K post xp x0 (1 : Int32) x0 (mc - mc216) (ms - ms217) N215)) ∧ (¬ (x6 = x4.toInt64) → (wX2_line_234 K post xp x0 (0 : Int32) x0 (mc - mc216) (ms - ms217) N215))) (fun q225 ch231 N226 => (∀ fs228, N226 q225 = some (eO 3 fs228) → (xp q225 ch231 N226))) mc216 ms217 N v1 v0 (7 : Int32) f210))
def wX2_line_187 (K : Nat → Nat → Nat) (post : Unit → NM → Prop) (xp : Nat → List Nat → NM → Prop) (x0 : Nat) (x1 : Option Nat) (x4 : Int32) (x6 : Int64) (x8 : Int32) (v0 : Int32) (v1 : Nat) (mc ms : Nat) (N : NM) : Prop :=
  ∃ f180 f181 f182 f183, N x0 = some (eO 2 [.int f180, .int f181, .int f182, va_rf f183]) ∧ (∃ f191 f192 f193 f194, N v1 = some (eO 2 [.int f191, .int f192, .int f193, va_rf f194]) ∧ (∃ mc186 ms187, mc186 ≤ mc ∧ ms187 ≤ ms ∧ wX2_must K (fun _ N185 => ∃ a202, x1 = some a202 ∧ (∃ f207, N185 a202 = some (eO 7 [va_rf f207]) ∧ (wX6_many K (fun r204 N205 => ((x8 = r204) → (wX2_line_210 K post xp x0 x4 x6 (1 : Int32) x0 (mc - mc186) (ms - ms187) N205)) ∧ (¬ (x8 = r204) → (wX2_line_210 K post xp x0 x4 x6 (0 : Int32) x0 (mc - mc186) (ms - ms187) N205))) N185 a202))) (fun q195 ch201 N196 => (∀ fs198, N196 q195 = some (eO 3 fs198) → (xp q195 ch201 N196))) mc186 ms187 N v1 v0 (1 : Int32) f180))
def wX2_line_131 (K : Nat → Nat → Nat) (post : Unit → NM → Prop) (xp : Nat → List Nat → NM → Prop) : Nat → Nat → Option Nat → Int32 → Int64 → Int32 → Nat → Nat → NM → Prop
  | 0, _, _, _, _, _, _, _, _ => False
  | n + 1, x0, x1, x4, x6, x8, mc, ms, N => ∃ f135 f136 f137 f138, N x0 = some (eO 2 [.int f135, .int f136, .int f137, va_rf f138]) ∧ (∃ mc130 ms131, mc130 ≤ mc ∧ ms131 ≤ ms ∧ wX2_value K (fun r128 N129 => ∃ f166 f167 f168 f169, N129 x0 = some (eO 2 [.int f166, .int f167, .int f168, va_rf f169]) ∧ (wX2_passes_2 K (fun r163 N164 => ((r163 = (0 : Int32)) → (∃ f174 f175 f176 f177, N164 x0 = some (eO 2 [.int f174, .int f175, .int f176, va_rf f177]) ∧ (wX2_here K (fun r171 N172 => ((r171 = (59 : Int32)) → (wX2_line_187 K post xp x0 x1 x4 (x6 + r128) (x8 + (1 : Int32)) (1 : Int32) x0 (mc - mc130) (ms - ms131) N172)) ∧ (¬ (r171 = (59 : Int32)) → (wX2_line_187 K post xp x0 x1 x4 (x6 + r128) (x8 + (1 : Int32)) (0 : Int32) x0 (mc - mc130) (ms - ms131) N172))) N164 x0))) ∧ (¬ (r163 = (0 : Int32)) → (wX2_line_131 K post xp n x0 x1 x4 (x6 + r128) (x8 + (1 : Int32)) (mc - mc130) (ms - ms131) N164))) N129 x0 (44 : Int32))) (fun q139 ch145 N140 => (∀ fs142, N140 q139 = some (eO 3 fs142) → (1 ≤ (mc - mc130) ∧ 7 ≤ (ms - ms131) ∧ (∀ nq148, N140 nq148 = none → (∀ N150, N150 = va_up N140 nq148 (some (eO 4 [va_rf none, va_rf none, va_rf none, va_rf none, va_rf none, .int (0 : Int32), .int (0 : Int32)])) → (wX8_init K (fun _ N154 => ∃ f156 f157 f158 f159 f160 f161 f162, N154 nq148 = some (eO 4 [va_rf f156, va_rf f157, va_rf f158, va_rf f159, va_rf f160, .int f161, .int f162]) ∧ (xp nq148 (nq148 :: ch145) N154)) N150 nq148 x8 (some q139))))))) mc130 ms131 N x0 x1 x8)
def wX2_line_111 (K : Nat → Nat → Nat) (post : Unit → NM → Prop) (xp : Nat → List Nat → NM → Prop) (x5 : Int32) (v0 : Int32) (v1 : Nat) (mc ms : Nat) (N : NM) : Prop :=
  ∃ f293 f294 f295 f296, N v1 = some (eO 2 [.int f293, .int f294, .int f295, va_rf f296]) ∧ (∃ mc288 ms289, mc288 ≤ mc ∧ ms289 ≤ ms ∧ wX2_must K (fun _ N287 => post () N287) (fun q297 ch303 N298 => (∀ fs300, N298 q297 = some (eO 3 fs300) → (xp q297 ch303 N298))) mc288 ms289 N v1 v0 (8 : Int32) x5)
def wX2_line_52 (K : Nat → Nat → Nat) (post : Unit → NM → Prop) (xp : Nat → List Nat → NM → Prop) (x0 : Nat) (x1 : Option Nat) (x2 : Option Nat) (x3 : Int32) (x4 : Int32) (v0 : Int32) (v1 : Nat) (mc ms : Nat) (N : NM) : Prop :=
  ∃ f46 f47 f48 f49, N x0 = some (eO 2 [.int f46, .int f47, .int f48, va_rf f49]) ∧ (∃ f57 f58 f59 f60, N v1 = some (eO 2 [.int f57, .int f58, .int f59, va_rf f60]) ∧ (∃ mc52 ms53, mc52 ≤ mc ∧ ms53 ≤ ms ∧ wX2_must K (fun _ N51 => ∃ mc70 ms71, mc70 ≤ (mc - mc52) ∧ ms71 ≤ (ms - ms53) ∧ wJ23_valueOf K (fun r68 N69 => ∃ mc76 ms77, mc76 ≤ ((mc - mc52) - mc70) ∧ ms77 ≤ ((ms - ms53) - ms71) ∧ wJ23_valueOf K (fun r74 N75 => ∃ a80, x2 = some a80 ∧ (∃ f89 f90 f91 f92 f93 f94 f95 f96 f97, N75 a80 = some (eO 19 [va_rf f89, va_rf f90, va_rf f91, va_rf f92, .int f93, .int f94, va_rf f95, va_rf f96, va_rf f97]) ∧ (∃ mc84 ms85, mc84 ≤ (((mc - mc52) - mc70) - mc76) ∧ ms85 ≤ (((ms - ms53) - ms71) - ms77) ∧ wJ21_put K (fun r82 N83 => ∃ f99 f100 f101 f102, N83 x0 = some (eO 2 [.int f99, .int f100, .int f101, va_rf f102]) ∧ (∃ mc105 ms106, mc105 ≤ ((((mc - mc52) - mc70) - mc76) - mc84) ∧ ms106 ≤ ((((ms - ms53) - ms71) - ms77) - ms85) ∧ wX2_passes K (fun r103 N104 => ((r103 = (0 : Int32)) → (∃ f117 f118 f119 f120, N104 x0 = some (eO 2 [.int f117, .int f118, .int f119, va_rf f120]) ∧ (∃ mc112 ms113, mc112 ≤ (((((mc - mc52) - mc70) - mc76) - mc84) - mc105) ∧ ms113 ≤ (((((ms - ms53) - ms71) - ms77) - ms85) - ms106) ∧ wX2_asks K (fun _ N111 => (∃ k, wX2_line_131 K post xp k x0 x1 x4 (0 : Int64) (0 : Int32) ((((((mc - mc52) - mc70) - mc76) - mc84) - mc105) - mc112) ((((((ms - ms53) - ms71) - ms77) - ms85) - ms106) - ms113) N111)) (fun q121 ch127 N122 => (∀ fs124, N122 q121 = some (eO 3 fs124) → (xp q121 ch127 N122))) mc112 ms113 N104 x0 (61 : Int32)))) ∧ (¬ (r103 = (0 : Int32)) → (∃ f257 f258 f259 f260, N104 x0 = some (eO 2 [.int f257, .int f258, .int f259, va_rf f260]) ∧ (∃ a261, f260 = some a261 ∧ (∃ f266 f267 f268 f269 f270 f271 f272 f273 f274 f275 f276 f277 f278 f279 f280 f281 f282 f283 f284, N104 a261 = some (eO 1 [va_rf f266, va_rf f267, va_rf f268, va_rf f269, va_rf f270, va_rf f271, va_rf f272, va_rf f273, va_rf f274, .int f275, .int f276, va_rf f277, va_rf f278, .int f279, va_rf f280, va_rf f281, va_rf f282, va_rf f283, va_rf f284]) ∧ (wX0_waysOf K (fun r263 N264 => ((r263 = (0 : Int64)) → (wX2_line_111 K post xp f99 (1 : Int32) x0 (((((mc - mc52) - mc70) - mc76) - mc84) - mc105) (((((ms - ms53) - ms71) - ms77) - ms85) - ms106) N264)) ∧ (¬ (r263 = (0 : Int64)) → (wX2_line_111 K post xp f99 (0 : Int32) x0 (((((mc - mc52) - mc70) - mc76) - mc84) - mc105) (((((ms - ms53) - ms71) - ms77) - ms85) - ms106) N264))) N104 a261 x1 x4)))))) mc105 ms106 N83 x0 (some (K 0 11)))) mc84 ms85 N75 a80 r68 (some r74)))) mc76 ms77 N69 x3) mc70 ms71 N51 x4) (fun q61 ch67 N62 => (∀ fs64, N62 q61 = some (eO 3 fs64) → (xp q61 ch67 N62))) mc52 ms53 N v1 v0 (9 : Int32) f47))
def wX2_line_32 (K : Nat → Nat → Nat) (post : Unit → NM → Prop) (xp : Nat → List Nat → NM → Prop) (x0 : Nat) (x1 : Option Nat) (x2 : Option Nat) (x3 : Int32) (x4 : Int32) (v0 : Int32) (v1 : Nat) (mc ms : Nat) (N : NM) : Prop :=
  ∃ f22 f23 f24 f25, N x0 = some (eO 2 [.int f22, .int f23, .int f24, va_rf f25]) ∧ (∃ f33 f34 f35 f36, N v1 = some (eO 2 [.int f33, .int f34, .int f35, va_rf f36]) ∧ (∃ mc28 ms29, mc28 ≤ mc ∧ ms29 ≤ ms ∧ wX2_must K (fun _ N27 => (((60 : Int32) ≤ x3) → (wX2_line_52 K post xp x0 x1 x2 x3 x4 (0 : Int32) x0 (mc - mc28) (ms - ms29) N27)) ∧ (¬ ((60 : Int32) ≤ x3) → (wX2_line_52 K post xp x0 x1 x2 x3 x4 (1 : Int32) x0 (mc - mc28) (ms - ms29) N27))) (fun q37 ch43 N38 => (∀ fs40, N38 q37 = some (eO 3 fs40) → (xp q37 ch43 N38))) mc28 ms29 N v1 v0 (5 : Int32) f23))
def wX2_line_31 (K : Nat → Nat → Nat) (post : Unit → NM → Prop) (xp : Nat → List Nat → NM → Prop) (x0 : Nat) (x1 : Option Nat) (x2 : Option Nat) (x3 : Int32) (x4 : Int32) (v0 : Nat) (mc ms : Nat) (N : NM) : Prop :=
  wX2_line_32 K post xp x0 x1 x2 x3 x4 (0 : Int32) v0 mc ms N
def wX2_line (K : Nat → Nat → Nat) (post : Unit → NM → Prop) (xp : Nat → List Nat → NM → Prop) (MC MS : Nat) (N : NM) (x0 : Nat) (x1 : Option Nat) (x2 : Option Nat) (x3 : Int32) : Prop :=
  ∃ f8 f9 f10 f11, N x0 = some (eO 2 [.int f8, .int f9, .int f10, va_rf f11]) ∧ (∃ mc3 ms4, mc3 ≤ MC ∧ ms4 ≤ MS ∧ wX2_whole K (fun r1 N2 => wX0_isNumber (fun r19 => ((r19 = (0 : Int32)) → (wX2_line_31 K post xp x0 x1 x2 x3 r1 x0 (MC - mc3) (MS - ms4) N2)) ∧ (¬ (r19 = (0 : Int32)) → (∃ mc306 ms307, mc306 ≤ (MC - mc3) ∧ ms307 ≤ (MS - ms4) ∧ wJ23_valueOf K (fun r304 N305 => ∃ a310, x2 = some a310 ∧ (∃ f315 f316 f317 f318 f319 f320 f321 f322 f323, N305 a310 = some (eO 19 [va_rf f315, va_rf f316, va_rf f317, va_rf f318, .int f319, .int f320, va_rf f321, va_rf f322, va_rf f323]) ∧ (wJ21_containsKey K (fun r312 N313 => ((r312 = (0 : Int32)) → (wX2_line_32 K post xp x0 x1 x2 x3 r1 (1 : Int32) x0 ((MC - mc3) - mc306) ((MS - ms4) - ms307) N313)) ∧ (¬ (r312 = (0 : Int32)) → (wX2_line_31 K post xp x0 x1 x2 x3 r1 x0 ((MC - mc3) - mc306) ((MS - ms4) - ms307) N313))) N305 a310 r304))) mc306 ms307 N2 r1))) r1) (fun q12 ch18 N13 => (∀ fs15, N13 q12 = some (eO 3 fs15) → (xp q12 ch18 N13))) mc3 ms4 N x0)
theorem kX2_line_234 {p : Program} {l : Launch} {e : Env} {s : State} {m : MethodId} {args : Array Value} {below : List Frame} {meth : Method} {c : Code} {G : gG} {A : Nat → Prop} {MC MS : Nat} {post : Unit → NM → Prop} {xp : Nat → List Nat → NM → Prop} (X : cX G A RX2 p s m args c cX2_line 10) (hr : meth.sig.returnType = none) (hlk : meth.locks = false) (hL : l.stackTraces = false) (hT : c.exceptionTable.toList = tableOf [(131, 143, 146, 41)]) : ∀ (x0 : Nat) (v0 : Int32) (v1 : Nat) (mc ms : Nat) (N : NM) (H : Heap) (locs : List Loc) (ls : Array Slot) (cells slots : Nat), wX2_line_234 (gC G) post xp x0 v0 v1 mc ms N → (cH G A s [] N H locs ∧ cells + mc ≤ MC ∧ slots + ms ≤ MS) → lv_has ls 10 [(0, .ref x0)] → W p l e ⟨8, MC, MS, 214⟩ s m args below meth c H locs cells slots (cx_MQ below (gQ vV post (fun u H => cBw G A (jW u).1 (jW u).2 H) A) (cXC G A [3, 4] xp) args s MC MS A) (F0 m 234 ls [.int v0, .ref v1]) := by
  have hx := X.1.1
  have hb := X.1.2.1
  have hml := X.1.2.2.1
  have hown := X.1.2.2.2.1
  have hts := X.1.2.2.2.2
  intro x0 v0 v1 mc ms N H locs ls cells slots h hw0 hl
  obtain ⟨hw, hbud⟩ := hw0
  unfold wX2_line_234 at h
  refine lv_bipush (pc := 234) (v := (8 : Int32)) hx hb dX2_line_234 (by decide) ?_
  refine lv_aload_n (pc := 236) hx hb dX2_line_236 rfl (lv_at hl 0 rfl) ?_
  obtain ⟨f234, f235, f236, f237, hN233, h⟩ := h
  refine c_get (pc := 237) X hw hN233 in_X2 rfl 0 (by decide) q406 rfl rfl dX2_line_237 ?_
  obtain ⟨f245, f246, f247, f248, hN244, h⟩ := h
  obtain ⟨mc240, ms241, hm242, hm243, h⟩ := h
  refine cx_callJ (pc := 240) (val := vV) X hw (cx_runV (C := RX2) (As := [.int v0, .int (8 : Int32), .int f234]) (rest := []) X.1 (tX2_must hL X.2.2.1 (sz := H.size) h) (cwV 3 hts (lw_V q659 q661 qs9 q113 q662) rfl rfl rfl ⟨rfl, by decide, by decide, (by decide +kernel : (parseMethodDescriptor yX2_must.desc).map (fun d => d.parameters.length) = some 3)⟩ ⟨Nat.le_of_ble_eq_true rfl, Nat.le_of_ble_eq_true rfl⟩) ⟨cPre_blind, c_recv X hw hN244 rfl, fun U hU hW => ⟨rfl, X.preJ hw hU hW⟩⟩ rfl rfl hl.1 rfl (lv_room (Nat.le_of_ble_eq_true rfl)) dX2_line_240 ⟨show cells + mc240 ≤ MC by omega, show slots + ms241 ≤ MS by omega⟩) (fun q249 N250 H locs ci251 fs252 ch255 hci253 hNq254 h hw hch => ?_) (fun _ N239 H locs h hw => ?_)
  · have hci253 := List.mem_singleton.mp hci253
    subst hci253
    have h := h fs252 hNq254
    exact cx_outJ (pc := 240) X hw hNq254 rfl (by decide) (by rw [hT]; exact (ep_c rfl ep_n)) hlk hch h (by omega) (by omega)
  refine W.eq (g2 := F0 m 243 ls ([])) rfl ?_
  refine W.widen (k := MC) (n := MS) (by omega) (by omega) ?_
  refine cx_ret ?_
  exact W.vret (pc := 243) hx hb hr (fun t ht hW => c_ret (val := vV) (lw := jW) (u := N239) (v := ()) hw h ht) hw.2.2.2 dX2_line_243 hlk
theorem kX2_line_210 {p : Program} {l : Launch} {e : Env} {s : State} {m : MethodId} {args : Array Value} {below : List Frame} {meth : Method} {c : Code} {G : gG} {A : Nat → Prop} {MC MS : Nat} {post : Unit → NM → Prop} {xp : Nat → List Nat → NM → Prop} (X : cX G A RX2 p s m args c cX2_line 10) (hr : meth.sig.returnType = none) (hlk : meth.locks = false) (hL : l.stackTraces = false) (hT : c.exceptionTable.toList = tableOf [(131, 143, 146, 41)]) : ∀ (x0 : Nat) (x4 : Int32) (x6 : Int64) (v0 : Int32) (v1 : Nat) (mc ms : Nat) (N : NM) (H : Heap) (locs : List Loc) (ls : Array Slot) (cells slots : Nat), wX2_line_210 (gC G) post xp x0 x4 x6 v0 v1 mc ms N → (cH G A s [] N H locs ∧ cells + mc ≤ MC ∧ slots + ms ≤ MS) → lv_has ls 10 [(0, .ref x0), (4, .int x4), (6, .long x6)] → W p l e ⟨8, MC, MS, 214⟩ s m args below meth c H locs cells slots (cx_MQ below (gQ vV post (fun u H => cBw G A (jW u).1 (jW u).2 H) A) (cXC G A [3, 4] xp) args s MC MS A) (F0 m 210 ls [.int v0, .ref v1]) := by
  have hx := X.1.1
  have hb := X.1.2.1
  have hml := X.1.2.2.1
  have hown := X.1.2.2.2.1
  have hts := X.1.2.2.2.2
  intro x0 x4 x6 v0 v1 mc ms N H locs ls cells slots h hw0 hl
  obtain ⟨hw, hbud⟩ := hw0
  unfold wX2_line_210 at h
  refine lv_bipush (pc := 210) (v := (7 : Int32)) hx hb dX2_line_210 (by decide) ?_
  refine lv_aload_n (pc := 212) hx hb dX2_line_212 rfl (lv_at hl 0 rfl) ?_
  obtain ⟨f210, f211, f212, f213, hN209, h⟩ := h
  refine c_get (pc := 213) X hw hN209 in_X2 rfl 0 (by decide) q406 rfl rfl dX2_line_213 ?_
  obtain ⟨f221, f222, f223, f224, hN220, h⟩ := h
  obtain ⟨mc216, ms217, hm218, hm219, h⟩ := h
  refine cx_callJ (pc := 216) (val := vV) X hw (cx_runV (C := RX2) (As := [.int v0, .int (7 : Int32), .int f210]) (rest := []) X.1 (tX2_must hL X.2.2.1 (sz := H.size) h) (cwV 3 hts (lw_V q659 q661 qs9 q113 q662) rfl rfl rfl ⟨rfl, by decide, by decide, (by decide +kernel : (parseMethodDescriptor yX2_must.desc).map (fun d => d.parameters.length) = some 3)⟩ ⟨Nat.le_of_ble_eq_true rfl, Nat.le_of_ble_eq_true rfl⟩) ⟨cPre_blind, c_recv X hw hN220 rfl, fun U hU hW => ⟨rfl, X.preJ hw hU hW⟩⟩ rfl rfl hl.1 rfl (lv_room (Nat.le_of_ble_eq_true rfl)) dX2_line_216 ⟨show cells + mc216 ≤ MC by omega, show slots + ms217 ≤ MS by omega⟩) (fun q225 N226 H locs ci227 fs228 ch231 hci229 hNq230 h hw hch => ?_) (fun _ N215 H locs h hw => ?_)
  · have hci229 := List.mem_singleton.mp hci229
    subst hci229
    have h := h fs228 hNq230
    exact cx_outJ (pc := 216) X hw hNq230 rfl (by decide) (by rw [hT]; exact (ep_c rfl ep_n)) hlk hch h (by omega) (by omega)
  refine W.eq (g2 := F0 m 219 ls ([])) rfl ?_
  refine lv_aload_n (pc := 219) hx hb dX2_line_219 rfl (lv_at hl 0 rfl) ?_
  refine lv_lload (pc := 220) hx hb dX2_line_220 (lv_at hl 2 rfl) ?_
  refine lv_iload (pc := 222) hx hb dX2_line_222 (lv_at hl 1 rfl) ?_
  refine lv_i2l (pc := 224) hx hb dX2_line_224 rfl ?_
  refine W.lcmp (pc := 225) hx hb dX2_line_225 ?_
  refine lv_if_ne (pc := 226) (tgt := 233) hx hb dX2_line_226 rfl (fun c232 => ?_) (fun c232 => ?_)
  · have h := h.2 (fun z => c232 ((lg_cmp_eq _ _).mpr z))
    refine lv_iconst (pc := 233) (v := (0 : Int32)) hx hb dX2_line_233 (by decide) ?_
    exact kX2_line_234 X hr hlk hL hT  _ _ _ _ _ _ _ _ _ _ _ h ⟨hw, by omega⟩ (lv_sub hl [0] rfl)
  · have h := h.1 ((lg_cmp_eq _ _).mp c232)
    refine lv_iconst (pc := 229) (v := (1 : Int32)) hx hb dX2_line_229 (by decide) ?_
    refine lv_goto (pc := 230) (tgt := 234) hx hb dX2_line_230 rfl ?_
    exact kX2_line_234 X hr hlk hL hT  _ _ _ _ _ _ _ _ _ _ _ h ⟨hw, by omega⟩ (lv_sub hl [0] rfl)
theorem kX2_line_187 {p : Program} {l : Launch} {e : Env} {s : State} {m : MethodId} {args : Array Value} {below : List Frame} {meth : Method} {c : Code} {G : gG} {A : Nat → Prop} {MC MS : Nat} {post : Unit → NM → Prop} {xp : Nat → List Nat → NM → Prop} (X : cX G A RX2 p s m args c cX2_line 10) (hr : meth.sig.returnType = none) (hlk : meth.locks = false) (hL : l.stackTraces = false) (hT : c.exceptionTable.toList = tableOf [(131, 143, 146, 41)]) : ∀ (x0 : Nat) (x1 : Option Nat) (x4 : Int32) (x6 : Int64) (x8 : Int32) (v0 : Int32) (v1 : Nat) (mc ms : Nat) (N : NM) (H : Heap) (locs : List Loc) (ls : Array Slot) (cells slots : Nat), wX2_line_187 (gC G) post xp x0 x1 x4 x6 x8 v0 v1 mc ms N → (cH G A s [] N H locs ∧ cells + mc ≤ MC ∧ slots + ms ≤ MS) → lv_has ls 10 [(0, .ref x0), (1, va_rf x1), (4, .int x4), (6, .long x6), (8, .int x8)] → W p l e ⟨8, MC, MS, 214⟩ s m args below meth c H locs cells slots (cx_MQ below (gQ vV post (fun u H => cBw G A (jW u).1 (jW u).2 H) A) (cXC G A [3, 4] xp) args s MC MS A) (F0 m 187 ls [.int v0, .ref v1]) := by
  have hx := X.1.1
  have hb := X.1.2.1
  have hml := X.1.2.2.1
  have hown := X.1.2.2.2.1
  have hts := X.1.2.2.2.2
  intro x0 x1 x4 x6 x8 v0 v1 mc ms N H locs ls cells slots h hw0 hl
  obtain ⟨hw, hbud⟩ := hw0
  unfold wX2_line_187 at h
  refine lv_iconst (pc := 187) (v := (1 : Int32)) hx hb dX2_line_187 (by decide) ?_
  refine lv_aload_n (pc := 188) hx hb dX2_line_188 rfl (lv_at hl 0 rfl) ?_
  obtain ⟨f180, f181, f182, f183, hN179, h⟩ := h
  refine c_get (pc := 189) X hw hN179 in_X2 rfl 0 (by decide) q406 rfl rfl dX2_line_189 ?_
  obtain ⟨f191, f192, f193, f194, hN190, h⟩ := h
  obtain ⟨mc186, ms187, hm188, hm189, h⟩ := h
  refine cx_callJ (pc := 192) (val := vV) X hw (cx_runV (C := RX2) (As := [.int v0, .int (1 : Int32), .int f180]) (rest := []) X.1 (tX2_must hL X.2.2.1 (sz := H.size) h) (cwV 3 hts (lw_V q659 q661 qs9 q113 q662) rfl rfl rfl ⟨rfl, by decide, by decide, (by decide +kernel : (parseMethodDescriptor yX2_must.desc).map (fun d => d.parameters.length) = some 3)⟩ ⟨Nat.le_of_ble_eq_true rfl, Nat.le_of_ble_eq_true rfl⟩) ⟨cPre_blind, c_recv X hw hN190 rfl, fun U hU hW => ⟨rfl, X.preJ hw hU hW⟩⟩ rfl rfl hl.1 rfl (lv_room (Nat.le_of_ble_eq_true rfl)) dX2_line_192 ⟨show cells + mc186 ≤ MC by omega, show slots + ms187 ≤ MS by omega⟩) (fun q195 N196 H locs ci197 fs198 ch201 hci199 hNq200 h hw hch => ?_) (fun _ N185 H locs h hw => ?_)
  · have hci199 := List.mem_singleton.mp hci199
    subst hci199
    have h := h fs198 hNq200
    exact cx_outJ (pc := 192) X hw hNq200 rfl (by decide) (by rw [hT]; exact (ep_c rfl ep_n)) hlk hch h (by omega) (by omega)
  refine W.eq (g2 := F0 m 195 ls ([])) rfl ?_
  refine lv_aload_n (pc := 195) hx hb dX2_line_195 rfl (lv_at hl 0 rfl) ?_
  refine lv_iload (pc := 196) hx hb dX2_line_196 (lv_at hl 4 rfl) ?_
  refine lq_aload_n (pc := 198) hx hb dX2_line_198 rfl (lv_at hl 1 rfl) ?_
  obtain ⟨a202, hr203, h⟩ := h
  refine W.eq (g2 := F0 m 199 ls [.ref a202, .int x8, .ref x0]) (by rw [hr203]; rfl) ?_
  obtain ⟨f207, hN206, h⟩ := h
  refine c_callJ (pc := 199) (val := vI) X hw (va_runV (C := RX6) (As := []) (rest := [.int x8, .ref x0]) X.1 (tX6_many X.2.2.1 (sz := H.size) h) (cwV 0 hts (lw_V q1392 q891 q892 q129 q893) rfl rfl rfl ⟨rfl, by decide, by decide, (by decide +kernel : (parseMethodDescriptor yX6_many.desc).map (fun d => d.parameters.length) = some 0)⟩ ⟨Nat.le_of_ble_eq_true rfl, Nat.le_of_ble_eq_true rfl⟩) ⟨cPre_blind, c_recv X hw hN206 rfl, fun U hU hW => ⟨rfl, X.preJ hw hU hW⟩⟩ rfl rfl hl.1 rfl (lv_room (Nat.le_of_ble_eq_true rfl)) dX2_line_199 ⟨show cells + mc186 + 0 ≤ MC by omega, show slots + ms187 + 0 ≤ MS by omega⟩) (fun r204 N205 H locs h hw => ?_)
  refine W.eq (g2 := F0 m 202 ls (.int r204 :: [.int x8, .ref x0])) rfl ?_
  refine lv_icmp_ne (pc := 202) (tgt := 209) hx hb dX2_line_202 rfl (fun c208 => ?_) (fun c208 => ?_)
  · have h := h.2 c208
    refine lv_iconst (pc := 209) (v := (0 : Int32)) hx hb dX2_line_209 (by decide) ?_
    exact kX2_line_210 X hr hlk hL hT  _ _ _ _ _ _ _ _ _ _ _ _ _ h ⟨hw, by omega⟩ (lv_sub hl [0, 2, 3] rfl)
  · have h := h.1 c208
    refine lv_iconst (pc := 205) (v := (1 : Int32)) hx hb dX2_line_205 (by decide) ?_
    refine lv_goto (pc := 206) (tgt := 210) hx hb dX2_line_206 rfl ?_
    exact kX2_line_210 X hr hlk hL hT  _ _ _ _ _ _ _ _ _ _ _ _ _ h ⟨hw, by omega⟩ (lv_sub hl [0, 2, 3] rfl)
theorem kX2_line_131 {p : Program} {l : Launch} {e : Env} {s : State} {m : MethodId} {args : Array Value} {below : List Frame} {meth : Method} {c : Code} {G : gG} {A : Nat → Prop} {MC MS : Nat} {post : Unit → NM → Prop} {xp : Nat → List Nat → NM → Prop} (X : cX G A RX2 p s m args c cX2_line 10) (hr : meth.sig.returnType = none) (hlk : meth.locks = false) (hL : l.stackTraces = false) (hT : c.exceptionTable.toList = tableOf [(131, 143, 146, 41)]) : ∀ (n : Nat) (x0 : Nat) (x1 : Option Nat) (x4 : Int32) (x6 : Int64) (x8 : Int32) (mc ms : Nat) (N : NM) (H : Heap) (locs : List Loc) (ls : Array Slot) (cells slots : Nat), wX2_line_131 (gC G) post xp n x0 x1 x4 x6 x8 mc ms N → (cH G A s [] N H locs ∧ cells + mc ≤ MC ∧ slots + ms ≤ MS) → lv_has ls 10 [(0, .ref x0), (1, va_rf x1), (4, .int x4), (6, .long x6), (8, .int x8)] → W p l e ⟨8, MC, MS, 214⟩ s m args below meth c H locs cells slots (cx_MQ below (gQ vV post (fun u H => cBw G A (jW u).1 (jW u).2 H) A) (cXC G A [3, 4] xp) args s MC MS A) (F0 m 131 ls []) := by
  have hx := X.1.1
  have hb := X.1.2.1
  have hml := X.1.2.2.1
  have hown := X.1.2.2.2.1
  have hts := X.1.2.2.2.2
  intro n
  induction n with
  | zero =>
    intro x0 x1 x4 x6 x8 mc ms N H locs ls cells slots h
    exact False.elim h
  | succ n ih =>
    intro x0 x1 x4 x6 x8 mc ms N H locs ls cells slots h hw0 hl
    obtain ⟨hw, hbud⟩ := hw0
    unfold wX2_line_131 at h
    refine lv_lload (pc := 131) hx hb dX2_line_131 (lv_at hl 3 rfl) ?_
    refine lv_aload_n (pc := 133) hx hb dX2_line_133 rfl (lv_at hl 0 rfl) ?_
    refine lq_aload_n (pc := 134) hx hb dX2_line_134 rfl (lv_at hl 1 rfl) ?_
    refine lv_iload (pc := 135) hx hb dX2_line_135 (lv_at hl 4 rfl) ?_
    obtain ⟨f135, f136, f137, f138, hN134, h⟩ := h
    obtain ⟨mc130, ms131, hm132, hm133, h⟩ := h
    refine cx_callJ (pc := 137) (val := vL) X hw (cx_runV (C := RX2) (As := [va_rf x1, .int x8]) (rest := [.long x6]) X.1 (tX2_value hL X.2.2.1 (sz := H.size) h) (cwV 2 hts (lw_V q1388 q1390 qs30 q113 q1391) rfl rfl rfl ⟨rfl, by decide, by decide, (by decide +kernel : (parseMethodDescriptor yX2_value.desc).map (fun d => d.parameters.length) = some 2)⟩ ⟨Nat.le_of_ble_eq_true rfl, Nat.le_of_ble_eq_true rfl⟩) ⟨cPre_blind, c_recv X hw hN134 rfl, fun U hU hW => ⟨rfl, X.preJ hw hU hW⟩⟩ rfl rfl hl.1 rfl (lv_room (Nat.le_of_ble_eq_true rfl)) dX2_line_137 ⟨show cells + mc130 ≤ MC by omega, show slots + ms131 ≤ MS by omega⟩) (fun q139 N140 H locs ci141 fs142 ch145 hci143 hNq144 h hw hch => ?_) (fun r128 N129 H locs h hw => ?_)
    · have hci143 := List.mem_singleton.mp hci143
      subst hci143
      have h := h fs142 hNq144
      refine cx_catchJ (pc := 137) X hw hNq144 rfl [] ⟨131, 143, 146, 41⟩ [] (by rw [hT]; rfl) ep_n rfl (by decide) q423 q664 ?_
      refine lv_astore (pc := 146) (lv' := [(9, .ref q139), (0, .ref x0), (1, va_rf x1), (4, .int x4), (6, .long x6), (8, .int x8)]) hx hb dX2_line_146 hl (by decide) rfl (fun ls hl => ?_)
      obtain ⟨hm146, hm147, h⟩ := h
      refine c_newM (pc := 148) (ci := 4) (fs := [va_rf none, va_rf none, va_rf none, va_rf none, va_rf none, .int (0 : Int32), .int (0 : Int32)]) X hw in_X8 tyX8 tyX8_ok q931 q1393 q141 rfl nf_X8 (show cells + mc130 + 1 ≤ MC by omega) (show slots + ms131 + 7 ≤ MS by omega) dX2_line_148 (fun nq148 H hq149 _ hw hf9 hMo => ?_)
      have hch := Mf.cons hf9 (hMo.all hch)
      have h := h nq148 hq149
      obtain ⟨N150, e151⟩ : ∃ z, z = va_up N140 nq148 (some (eO 4 [va_rf none, va_rf none, va_rf none, va_rf none, va_rf none, .int (0 : Int32), .int (0 : Int32)])) := ⟨_, rfl⟩
      have hw : cH G A s [] N150 H locs := by rw [e151]; exact hw
      have h := h N150 e151
      have hN152 : N150 nq148 = some (eO 4 [va_rf none, va_rf none, va_rf none, va_rf none, va_rf none, .int (0 : Int32), .int (0 : Int32)]) := by rw [e151]; exact up_s
      refine lv_dup (pc := 151) hx hb dX2_line_151 rfl ?_
      refine lv_iload (pc := 152) hx hb dX2_line_152 (lv_at hl 5 rfl) ?_
      refine lv_aload (pc := 154) hx hb dX2_line_154 (lv_at hl 0 rfl) ?_
      refine mo_row (dc := 0) (dn := 0) (g2 := F0 m 159 ls [.ref nq148]) X hw ⟨show cells + mc130 + 1 ≤ MC by omega, show slots + ms131 + 7 ≤ MS by omega⟩ (fun s Q X hw kk => by have hts := X.1.2.2.2.2; exact c_callJ (pc := 156) (Q := Q) (val := vV) X hw (va_runI (As := [.int x8, va_rf (some q139)]) (rest := [.ref nq148]) X.1 (tX8_init X.2.2.1 (sz := H.size) h) (cwI 2 hts (lw_meth q1403) rfl rfl rfl (hts _ q141) (hts _ q1401) (hts _ q1402) rfl ⟨by decide, by decide, (by decide +kernel : (parseMethodDescriptor yX8_init.desc).map (fun d => d.parameters.length) = some 2)⟩ ⟨Nat.le_of_ble_eq_true rfl, Nat.le_of_ble_eq_true rfl⟩) ⟨cPre_blind, fun U hU hW => ⟨rfl, X.preJ hw hU hW⟩⟩ rfl rfl hl.1 rfl (lv_room (Nat.le_of_ble_eq_true rfl)) dX2_line_156 ⟨show 0 + 0 ≤ MC - (cells + mc130 + 1) by omega, show 0 + 0 ≤ MS - (slots + ms131 + 7) by omega⟩) (fun _ N9 H1 locs1 h hw1 => kk N9 H1 locs1 h hw1)) (fun N154 H locs h hw hMo => ?_)
      have hch := hMo.all hch
      refine W.eq (g2 := F0 m 159 ls ([.ref nq148])) rfl ?_
      obtain ⟨f156, f157, f158, f159, f160, f161, f162, hN155, h⟩ := h
      refine vx_athrow (pc := 159) hx hb dX2_line_159 ?_
      exact cx_outJ (pc := 159) X hw hN155 rfl (by decide) (by rw [hT]; exact (ep_c rfl ep_n)) hlk hch h (by omega) (by omega)
    refine W.eq (g2 := F0 m 140 ls (.long r128 :: [.long x6])) rfl ?_
    refine lv_ladd (pc := 140) hx hb dX2_line_140 ?_
    refine lv_lstore (pc := 141) (lv' := [(6, .long (x6 + r128)), (0, .ref x0), (1, va_rf x1), (4, .int x4), (8, .int x8)]) hx hb dX2_line_141 hl (by decide) rfl (fun ls hl => ?_)
    refine lv_goto (pc := 143) (tgt := 160) hx hb dX2_line_143 rfl ?_
    refine lv_iinc (pc := 160) (v := x8 + (1 : Int32)) (lv' := [(8, .int (x8 + (1 : Int32))), (6, .long (x6 + r128)), (0, .ref x0), (1, va_rf x1), (4, .int x4)]) hx hb dX2_line_160 hl (k := 4) rfl rfl (by decide) rfl (fun ls hl => ?_)
    refine lv_aload_n (pc := 163) hx hb dX2_line_163 rfl (lv_at hl 2 rfl) ?_
    refine lv_bipush (pc := 164) (v := (44 : Int32)) hx hb dX2_line_164 (by decide) ?_
    obtain ⟨f166, f167, f168, f169, hN165, h⟩ := h
    refine c_callJ (pc := 166) (val := vI) X hw (va_runV (C := RX2) (As := [.int (44 : Int32)]) (rest := []) X.1 (tX2_passes_2 X.2.2.1 (sz := H.size) h) (cwV 1 hts (lw_V q765 q767 qs14 q113 q768) rfl rfl rfl ⟨rfl, by decide, by decide, (by decide +kernel : (parseMethodDescriptor yX2_passes_2.desc).map (fun d => d.parameters.length) = some 1)⟩ ⟨Nat.le_of_ble_eq_true rfl, Nat.le_of_ble_eq_true rfl⟩) ⟨cPre_blind, c_recv X hw hN165 rfl, fun U hU hW => ⟨rfl, X.preJ hw hU hW⟩⟩ rfl rfl hl.1 rfl (lv_room (Nat.le_of_ble_eq_true rfl)) dX2_line_166 ⟨show cells + mc130 + 0 ≤ MC by omega, show slots + ms131 + 0 ≤ MS by omega⟩) (fun r163 N164 H locs h hw => ?_)
    refine W.eq (g2 := F0 m 169 ls (.int r163 :: [])) rfl ?_
    refine lv_if_ne (pc := 169) (tgt := 131) hx hb dX2_line_169 rfl (fun c170 => ?_) (fun c170 => ?_)
    · have h := h.2 c170
      exact ih _ _ _ _ _ _ _ _ _ _ _ _ _ h ⟨hw, by omega⟩ (lv_sub hl [2, 3, 4, 1, 0] rfl)
    · have h := h.1 c170
      refine lv_aload_n (pc := 172) hx hb dX2_line_172 rfl (lv_at hl 2 rfl) ?_
      refine lv_aload_n (pc := 173) hx hb dX2_line_173 rfl (lv_at hl 2 rfl) ?_
      obtain ⟨f174, f175, f176, f177, hN173, h⟩ := h
      refine c_callJ (pc := 174) (val := vI) X hw (va_runV (C := RX2) (As := []) (rest := [.ref x0]) X.1 (tX2_here X.2.2.1 (sz := H.size) h) (cwV 0 hts (lw_V q402 q404 qs4 q113 q405) rfl rfl rfl ⟨rfl, by decide, by decide, (by decide +kernel : (parseMethodDescriptor yX2_here.desc).map (fun d => d.parameters.length) = some 0)⟩ ⟨Nat.le_of_ble_eq_true rfl, Nat.le_of_ble_eq_true rfl⟩) ⟨cPre_blind, c_recv X hw hN173 rfl, fun U hU hW => ⟨rfl, X.preJ hw hU hW⟩⟩ rfl rfl hl.1 rfl (lv_room (Nat.le_of_ble_eq_true rfl)) dX2_line_174 ⟨show cells + mc130 + 0 + 0 ≤ MC by omega, show slots + ms131 + 0 + 0 ≤ MS by omega⟩) (fun r171 N172 H locs h hw => ?_)
      refine W.eq (g2 := F0 m 177 ls (.int r171 :: [.ref x0])) rfl ?_
      refine lv_bipush (pc := 177) (v := (59 : Int32)) hx hb dX2_line_177 (by decide) ?_
      refine lv_icmp_ne (pc := 179) (tgt := 186) hx hb dX2_line_179 rfl (fun c178 => ?_) (fun c178 => ?_)
      · have h := h.2 c178
        refine lv_iconst (pc := 186) (v := (0 : Int32)) hx hb dX2_line_186 (by decide) ?_
        exact kX2_line_187 X hr hlk hL hT  _ _ _ _ _ _ _ _ _ _ _ _ _ _ _ h ⟨hw, by omega⟩ (lv_sub hl [2, 3, 4, 1, 0] rfl)
      · have h := h.1 c178
        refine lv_iconst (pc := 182) (v := (1 : Int32)) hx hb dX2_line_182 (by decide) ?_
        refine lv_goto (pc := 183) (tgt := 187) hx hb dX2_line_183 rfl ?_
        exact kX2_line_187 X hr hlk hL hT  _ _ _ _ _ _ _ _ _ _ _ _ _ _ _ h ⟨hw, by omega⟩ (lv_sub hl [2, 3, 4, 1, 0] rfl)
theorem kX2_line_111 {p : Program} {l : Launch} {e : Env} {s : State} {m : MethodId} {args : Array Value} {below : List Frame} {meth : Method} {c : Code} {G : gG} {A : Nat → Prop} {MC MS : Nat} {post : Unit → NM → Prop} {xp : Nat → List Nat → NM → Prop} (X : cX G A RX2 p s m args c cX2_line 10) (hr : meth.sig.returnType = none) (hlk : meth.locks = false) (hL : l.stackTraces = false) (hT : c.exceptionTable.toList = tableOf [(131, 143, 146, 41)]) : ∀ (x5 : Int32) (v0 : Int32) (v1 : Nat) (mc ms : Nat) (N : NM) (H : Heap) (locs : List Loc) (ls : Array Slot) (cells slots : Nat), wX2_line_111 (gC G) post xp x5 v0 v1 mc ms N → (cH G A s [] N H locs ∧ cells + mc ≤ MC ∧ slots + ms ≤ MS) → lv_has ls 10 [(5, .int x5)] → W p l e ⟨8, MC, MS, 214⟩ s m args below meth c H locs cells slots (cx_MQ below (gQ vV post (fun u H => cBw G A (jW u).1 (jW u).2 H) A) (cXC G A [3, 4] xp) args s MC MS A) (F0 m 111 ls [.int v0, .ref v1]) := by
  have hx := X.1.1
  have hb := X.1.2.1
  have hml := X.1.2.2.1
  have hown := X.1.2.2.2.1
  have hts := X.1.2.2.2.2
  intro x5 v0 v1 mc ms N H locs ls cells slots h hw0 hl
  obtain ⟨hw, hbud⟩ := hw0
  unfold wX2_line_111 at h
  refine lv_bipush (pc := 111) (v := (8 : Int32)) hx hb dX2_line_111 (by decide) ?_
  refine lv_iload (pc := 113) hx hb dX2_line_113 (lv_at hl 0 rfl) ?_
  obtain ⟨f293, f294, f295, f296, hN292, h⟩ := h
  obtain ⟨mc288, ms289, hm290, hm291, h⟩ := h
  refine cx_callJ (pc := 115) (val := vV) X hw (cx_runV (C := RX2) (As := [.int v0, .int (8 : Int32), .int x5]) (rest := []) X.1 (tX2_must hL X.2.2.1 (sz := H.size) h) (cwV 3 hts (lw_V q659 q661 qs9 q113 q662) rfl rfl rfl ⟨rfl, by decide, by decide, (by decide +kernel : (parseMethodDescriptor yX2_must.desc).map (fun d => d.parameters.length) = some 3)⟩ ⟨Nat.le_of_ble_eq_true rfl, Nat.le_of_ble_eq_true rfl⟩) ⟨cPre_blind, c_recv X hw hN292 rfl, fun U hU hW => ⟨rfl, X.preJ hw hU hW⟩⟩ rfl rfl hl.1 rfl (lv_room (Nat.le_of_ble_eq_true rfl)) dX2_line_115 ⟨show cells + mc288 ≤ MC by omega, show slots + ms289 ≤ MS by omega⟩) (fun q297 N298 H locs ci299 fs300 ch303 hci301 hNq302 h hw hch => ?_) (fun _ N287 H locs h hw => ?_)
  · have hci301 := List.mem_singleton.mp hci301
    subst hci301
    have h := h fs300 hNq302
    exact cx_outJ (pc := 115) X hw hNq302 rfl (by decide) (by rw [hT]; exact (ep_c rfl ep_n)) hlk hch h (by omega) (by omega)
  refine W.eq (g2 := F0 m 118 ls ([])) rfl ?_
  refine W.widen (k := MC) (n := MS) (by omega) (by omega) ?_
  refine cx_ret ?_
  exact W.vret (pc := 118) hx hb hr (fun t ht hW => c_ret (val := vV) (lw := jW) (u := N287) (v := ()) hw h ht) hw.2.2.2 dX2_line_118 hlk
theorem kX2_line_52 {p : Program} {l : Launch} {e : Env} {s : State} {m : MethodId} {args : Array Value} {below : List Frame} {meth : Method} {c : Code} {G : gG} {A : Nat → Prop} {MC MS : Nat} {post : Unit → NM → Prop} {xp : Nat → List Nat → NM → Prop} (X : cX G A RX2 p s m args c cX2_line 10) (hr : meth.sig.returnType = none) (hlk : meth.locks = false) (hL : l.stackTraces = false) (hT : c.exceptionTable.toList = tableOf [(131, 143, 146, 41)]) : ∀ (x0 : Nat) (x1 : Option Nat) (x2 : Option Nat) (x3 : Int32) (x4 : Int32) (v0 : Int32) (v1 : Nat) (mc ms : Nat) (N : NM) (H : Heap) (locs : List Loc) (ls : Array Slot) (cells slots : Nat), wX2_line_52 (gC G) post xp x0 x1 x2 x3 x4 v0 v1 mc ms N → (cH G A s [] N H locs ∧ cells + mc ≤ MC ∧ slots + ms ≤ MS) → lv_has ls 10 [(0, .ref x0), (1, va_rf x1), (2, va_rf x2), (3, .int x3), (4, .int x4)] → W p l e ⟨8, MC, MS, 214⟩ s m args below meth c H locs cells slots (cx_MQ below (gQ vV post (fun u H => cBw G A (jW u).1 (jW u).2 H) A) (cXC G A [3, 4] xp) args s MC MS A) (F0 m 52 ls [.int v0, .ref v1]) := by
  have hx := X.1.1
  have hb := X.1.2.1
  have hml := X.1.2.2.1
  have hown := X.1.2.2.2.1
  have hts := X.1.2.2.2.2
  intro x0 x1 x2 x3 x4 v0 v1 mc ms N H locs ls cells slots h hw0 hl
  obtain ⟨hw, hbud⟩ := hw0
  unfold wX2_line_52 at h
  refine lv_bipush (pc := 52) (v := (9 : Int32)) hx hb dX2_line_52 (by decide) ?_
  refine lv_aload_n (pc := 54) hx hb dX2_line_54 rfl (lv_at hl 0 rfl) ?_
  obtain ⟨f46, f47, f48, f49, hN45, h⟩ := h
  refine c_get (pc := 55) X hw hN45 in_X2 rfl 1 (by decide) q407 rfl rfl dX2_line_55 ?_
  obtain ⟨f57, f58, f59, f60, hN56, h⟩ := h
  obtain ⟨mc52, ms53, hm54, hm55, h⟩ := h
  refine cx_callJ (pc := 58) (val := vV) X hw (cx_runV (C := RX2) (As := [.int v0, .int (9 : Int32), .int f47]) (rest := []) X.1 (tX2_must hL X.2.2.1 (sz := H.size) h) (cwV 3 hts (lw_V q659 q661 qs9 q113 q662) rfl rfl rfl ⟨rfl, by decide, by decide, (by decide +kernel : (parseMethodDescriptor yX2_must.desc).map (fun d => d.parameters.length) = some 3)⟩ ⟨Nat.le_of_ble_eq_true rfl, Nat.le_of_ble_eq_true rfl⟩) ⟨cPre_blind, c_recv X hw hN56 rfl, fun U hU hW => ⟨rfl, X.preJ hw hU hW⟩⟩ rfl rfl hl.1 rfl (lv_room (Nat.le_of_ble_eq_true rfl)) dX2_line_58 ⟨show cells + mc52 ≤ MC by omega, show slots + ms53 ≤ MS by omega⟩) (fun q61 N62 H locs ci63 fs64 ch67 hci65 hNq66 h hw hch => ?_) (fun _ N51 H locs h hw => ?_)
  · have hci65 := List.mem_singleton.mp hci65
    subst hci65
    have h := h fs64 hNq66
    exact cx_outJ (pc := 58) X hw hNq66 rfl (by decide) (by rw [hT]; exact (ep_c rfl ep_n)) hlk hch h (by omega) (by omega)
  refine W.eq (g2 := F0 m 61 ls ([])) rfl ?_
  refine lq_aload_n (pc := 61) hx hb dX2_line_61 rfl (lv_at hl 2 rfl) ?_
  refine lv_iload (pc := 62) hx hb dX2_line_62 (lv_at hl 4 rfl) ?_
  obtain ⟨mc70, ms71, hm72, hm73, h⟩ := h
  refine c_callJ (pc := 64) (val := vR) X hw (va_runS (g := F0 m 64 ls _) (As := [.int x4]) (rest := [va_rf x2]) X.1 (tJ23_valueOf X.2.2.1 (sz := H.size) h) (va_cwS 1 hts (lw_S q980 q981 q135 q982) rfl rfl rfl ⟨by decide, by decide, (by decide +kernel : (parseMethodDescriptor yJ23_valueOf.desc).map (fun d => d.parameters.length) = some 1)⟩ ⟨Nat.le_of_ble_eq_true rfl, Nat.le_of_ble_eq_true rfl⟩) ⟨cPre_blind, fun U hU hW => ⟨rfl, X.preJ hw hU hW⟩⟩ rfl rfl hl.1 rfl (lv_room (rsum_le (Nat.le_of_ble_eq_true rfl))) dX2_line_64 ⟨show cells + mc52 + mc70 ≤ MC by omega, show slots + ms53 + ms71 ≤ MS by omega⟩) (fun r68 N69 H locs h hw => ?_)
  refine W.eq (g2 := F0 m 67 ls (.ref r68 :: [va_rf x2])) rfl ?_
  refine lv_iload_n (pc := 67) hx hb dX2_line_67 rfl (lv_at hl 3 rfl) ?_
  obtain ⟨mc76, ms77, hm78, hm79, h⟩ := h
  refine c_callJ (pc := 68) (val := vR) X hw (va_runS (g := F0 m 68 ls _) (As := [.int x3]) (rest := [.ref r68, va_rf x2]) X.1 (tJ23_valueOf X.2.2.1 (sz := H.size) h) (va_cwS 1 hts (lw_S q980 q981 q135 q982) rfl rfl rfl ⟨by decide, by decide, (by decide +kernel : (parseMethodDescriptor yJ23_valueOf.desc).map (fun d => d.parameters.length) = some 1)⟩ ⟨Nat.le_of_ble_eq_true rfl, Nat.le_of_ble_eq_true rfl⟩) ⟨cPre_blind, fun U hU hW => ⟨rfl, X.preJ hw hU hW⟩⟩ rfl rfl hl.1 rfl (lv_room (rsum_le (Nat.le_of_ble_eq_true rfl))) dX2_line_68 ⟨show cells + mc52 + mc70 + mc76 ≤ MC by omega, show slots + ms53 + ms71 + ms77 ≤ MS by omega⟩) (fun r74 N75 H locs h hw => ?_)
  refine W.eq (g2 := F0 m 71 ls (.ref r74 :: [.ref r68, va_rf x2])) rfl ?_
  obtain ⟨a80, hr81, h⟩ := h
  refine W.eq (g2 := F0 m 71 ls [.ref r74, .ref r68, .ref a80]) (by rw [hr81]; rfl) ?_
  obtain ⟨f89, f90, f91, f92, f93, f94, f95, f96, f97, hN88, h⟩ := h
  obtain ⟨mc84, ms85, hm86, hm87, h⟩ := h
  refine c_callJ (pc := 71) (val := vQ) X hw (va_runV (C := RJ21) (As := [.ref r68, va_rf (some r74)]) (rest := []) X.1 (tJ21_put X.2.2.1 (sz := H.size) h) (cwV 2 hts (lw_V q1295 q1296 q1297 q132 q1298) rfl rfl rfl ⟨rfl, by decide, by decide, (by decide +kernel : (parseMethodDescriptor yJ21_put.desc).map (fun d => d.parameters.length) = some 2)⟩ ⟨Nat.le_of_ble_eq_true rfl, Nat.le_of_ble_eq_true rfl⟩) ⟨cPre_blind, c_recv X hw hN88 rfl, fun U hU hW => ⟨rfl, X.preJ hw hU hW⟩⟩ rfl rfl hl.1 rfl (lv_room (Nat.le_of_ble_eq_true rfl)) dX2_line_71 ⟨show cells + mc52 + mc70 + mc76 + mc84 ≤ MC by omega, show slots + ms53 + ms71 + ms77 + ms85 ≤ MS by omega⟩) (fun r82 N83 H locs h hw => ?_)
  refine W.eq (g2 := F0 m 74 ls (va_rf r82 :: [])) rfl ?_
  refine lv_pop (pc := 74) hx hb dX2_line_74 (rf_c _) ?_
  refine lv_aload_n (pc := 75) hx hb dX2_line_75 rfl (lv_at hl 0 rfl) ?_
  obtain ⟨f99, f100, f101, f102, hN98, h⟩ := h
  refine c_get (pc := 76) X hw hN98 in_X2 rfl 0 (by decide) q406 rfl rfl dX2_line_76 ?_
  refine lv_istore (pc := 79) (lv' := [(5, .int f99), (0, .ref x0), (1, va_rf x1), (2, va_rf x2), (3, .int x3), (4, .int x4)]) hx hb dX2_line_79 hl (by decide) rfl (fun ls hl => ?_)
  refine lv_aload_n (pc := 81) hx hb dX2_line_81 rfl (lv_at hl 1 rfl) ?_
  refine va_ldcS (pc := 82) hx hb hown (X.str (r := ("ToldPowers$Reader", 196, "not", 11)) (List.mem_of_getElem? (i := 11) rfl)) dX2_line_82 ?_
  obtain ⟨mc105, ms106, hm107, hm108, h⟩ := h
  refine c_callJ (pc := 84) (val := vI) X hw (va_runV (C := RX2) (As := [va_rf (some (gC G 0 11))]) (rest := []) X.1 (tX2_passes X.2.2.1 (sz := H.size) h) (cwV 1 hts (lw_V q729 q731 qs11 q113 q732) rfl rfl rfl ⟨rfl, by decide, by decide, (by decide +kernel : (parseMethodDescriptor yX2_passes.desc).map (fun d => d.parameters.length) = some 1)⟩ ⟨Nat.le_of_ble_eq_true rfl, Nat.le_of_ble_eq_true rfl⟩) ⟨cPre_blind, c_recv X hw hN98 rfl, fun U hU hW => ⟨rfl, X.preJ hw hU hW⟩⟩ rfl rfl hl.1 rfl (lv_room (Nat.le_of_ble_eq_true rfl)) dX2_line_84 ⟨show cells + mc52 + mc70 + mc76 + mc84 + mc105 ≤ MC by omega, show slots + ms53 + ms71 + ms77 + ms85 + ms106 ≤ MS by omega⟩) (fun r103 N104 H locs h hw => ?_)
  refine W.eq (g2 := F0 m 87 ls (.int r103 :: [])) rfl ?_
  refine lv_if_eq (pc := 87) (tgt := 119) hx hb dX2_line_87 rfl (fun c109 => ?_) (fun c109 => ?_)
  · have h := h.1 c109
    refine lv_aload_n (pc := 119) hx hb dX2_line_119 rfl (lv_at hl 1 rfl) ?_
    refine lv_bipush (pc := 120) (v := (61 : Int32)) hx hb dX2_line_120 (by decide) ?_
    obtain ⟨f117, f118, f119, f120, hN116, h⟩ := h
    obtain ⟨mc112, ms113, hm114, hm115, h⟩ := h
    refine cx_callJ (pc := 122) (val := vV) X hw (cx_runV (C := RX2) (As := [.int (61 : Int32)]) (rest := []) X.1 (tX2_asks hL X.2.2.1 (sz := H.size) h) (cwV 1 hts (lw_V q838 q840 qs19 q113 q841) rfl rfl rfl ⟨rfl, by decide, by decide, (by decide +kernel : (parseMethodDescriptor yX2_asks.desc).map (fun d => d.parameters.length) = some 1)⟩ ⟨Nat.le_of_ble_eq_true rfl, Nat.le_of_ble_eq_true rfl⟩) ⟨cPre_blind, c_recv X hw hN116 rfl, fun U hU hW => ⟨rfl, X.preJ hw hU hW⟩⟩ rfl rfl hl.1 rfl (lv_room (Nat.le_of_ble_eq_true rfl)) dX2_line_122 ⟨show cells + mc52 + mc70 + mc76 + mc84 + mc105 + mc112 ≤ MC by omega, show slots + ms53 + ms71 + ms77 + ms85 + ms106 + ms113 ≤ MS by omega⟩) (fun q121 N122 H locs ci123 fs124 ch127 hci125 hNq126 h hw hch => ?_) (fun _ N111 H locs h hw => ?_)
    · have hci125 := List.mem_singleton.mp hci125
      subst hci125
      have h := h fs124 hNq126
      exact cx_outJ (pc := 122) X hw hNq126 rfl (by decide) (by rw [hT]; exact (ep_c rfl ep_n)) hlk hch h (by omega) (by omega)
    refine W.eq (g2 := F0 m 125 ls ([])) rfl ?_
    refine lv_lconst (pc := 125) (v := (0 : Int64)) hx hb dX2_line_125 (by decide) ?_
    refine lv_lstore (pc := 126) (lv' := [(6, .long (0 : Int64)), (5, .int f99), (0, .ref x0), (1, va_rf x1), (2, va_rf x2), (3, .int x3), (4, .int x4)]) hx hb dX2_line_126 hl (by decide) rfl (fun ls hl => ?_)
    refine lv_iconst (pc := 128) (v := (0 : Int32)) hx hb dX2_line_128 (by decide) ?_
    refine lv_istore (pc := 129) (lv' := [(8, .int (0 : Int32)), (6, .long (0 : Int64)), (5, .int f99), (0, .ref x0), (1, va_rf x1), (2, va_rf x2), (3, .int x3), (4, .int x4)]) hx hb dX2_line_129 hl (by decide) rfl (fun ls hl => ?_)
    obtain ⟨k, h⟩ := h
    exact kX2_line_131 X hr hlk hL hT  k _ _ _ _ _ _ _ _ _ _ _ _ _ h ⟨hw, by omega⟩ (lv_sub hl [3, 4, 7, 1, 0] rfl)
  · have h := h.2 c109
    refine lv_aload_n (pc := 90) hx hb dX2_line_90 rfl (lv_at hl 1 rfl) ?_
    refine lv_aload_n (pc := 91) hx hb dX2_line_91 rfl (lv_at hl 1 rfl) ?_
    obtain ⟨f257, f258, f259, f260, hN256, h⟩ := h
    refine c_get (pc := 92) X hw hN256 in_X2 rfl 3 (by decide) q409 rfl rfl dX2_line_92 ?_
    refine lq_aload_n (pc := 95) hx hb dX2_line_95 rfl (lv_at hl 2 rfl) ?_
    refine lv_iload (pc := 96) hx hb dX2_line_96 (lv_at hl 5 rfl) ?_
    obtain ⟨a261, hr262, h⟩ := h
    refine W.eq (g2 := F0 m 98 ls [.int x4, va_rf x1, .ref a261, .ref x0]) (by rw [hr262]; rfl) ?_
    obtain ⟨f266, f267, f268, f269, f270, f271, f272, f273, f274, f275, f276, f277, f278, f279, f280, f281, f282, f283, f284, hN265, h⟩ := h
    refine c_callJ (pc := 98) (val := vL) X hw (va_runVN (C := RX0) (As := [va_rf x1, .int x4]) (rest := [.ref x0]) X.1 (tX0_waysOf X.2.2.1 (sz := H.size) h) ⟨va_cnB 2 hts (lw_meth q1375) rfl rfl rfl (X.nest q1372) (hts _ q102) ⟨by decide, by decide, (by decide +kernel : (parseMethodDescriptor yX0_waysOf.desc).map (fun d => d.parameters.length) = some 2)⟩ ⟨Nat.le_of_ble_eq_true rfl, Nat.le_of_ble_eq_true rfl⟩, hts _ q1374, hts _ qs28⟩ ⟨cPre_blind, c_recv X hw hN265 rfl, fun U hU hW => ⟨rfl, X.preJ hw hU hW⟩⟩ rfl rfl hl.1 rfl (lv_room (Nat.le_of_ble_eq_true rfl)) dX2_line_98 ⟨show cells + mc52 + mc70 + mc76 + mc84 + mc105 + 0 ≤ MC by omega, show slots + ms53 + ms71 + ms77 + ms85 + ms106 + 0 ≤ MS by omega⟩) (fun r263 N264 H locs h hw => ?_)
    refine W.eq (g2 := F0 m 101 ls (.long r263 :: [.ref x0])) rfl ?_
    refine lv_lconst (pc := 101) (v := (0 : Int64)) hx hb dX2_line_101 (by decide) ?_
    refine W.lcmp (pc := 102) hx hb dX2_line_102 ?_
    refine lv_if_ne (pc := 103) (tgt := 110) hx hb dX2_line_103 rfl (fun c285 => ?_) (fun c285 => ?_)
    · have h := h.2 (fun z => c285 ((lg_cmp_eq _ _).mpr z))
      refine lv_iconst (pc := 110) (v := (0 : Int32)) hx hb dX2_line_110 (by decide) ?_
      exact kX2_line_111 X hr hlk hL hT  _ _ _ _ _ _ _ _ _ _ _ h ⟨hw, by omega⟩ (lv_sub hl [0] rfl)
    · have h := h.1 ((lg_cmp_eq _ _).mp c285)
      refine lv_iconst (pc := 106) (v := (1 : Int32)) hx hb dX2_line_106 (by decide) ?_
      refine lv_goto (pc := 107) (tgt := 111) hx hb dX2_line_107 rfl ?_
      exact kX2_line_111 X hr hlk hL hT  _ _ _ _ _ _ _ _ _ _ _ h ⟨hw, by omega⟩ (lv_sub hl [0] rfl)
theorem kX2_line_32 {p : Program} {l : Launch} {e : Env} {s : State} {m : MethodId} {args : Array Value} {below : List Frame} {meth : Method} {c : Code} {G : gG} {A : Nat → Prop} {MC MS : Nat} {post : Unit → NM → Prop} {xp : Nat → List Nat → NM → Prop} (X : cX G A RX2 p s m args c cX2_line 10) (hr : meth.sig.returnType = none) (hlk : meth.locks = false) (hL : l.stackTraces = false) (hT : c.exceptionTable.toList = tableOf [(131, 143, 146, 41)]) : ∀ (x0 : Nat) (x1 : Option Nat) (x2 : Option Nat) (x3 : Int32) (x4 : Int32) (v0 : Int32) (v1 : Nat) (mc ms : Nat) (N : NM) (H : Heap) (locs : List Loc) (ls : Array Slot) (cells slots : Nat), wX2_line_32 (gC G) post xp x0 x1 x2 x3 x4 v0 v1 mc ms N → (cH G A s [] N H locs ∧ cells + mc ≤ MC ∧ slots + ms ≤ MS) → lv_has ls 10 [(0, .ref x0), (1, va_rf x1), (2, va_rf x2), (3, .int x3), (4, .int x4)] → W p l e ⟨8, MC, MS, 214⟩ s m args below meth c H locs cells slots (cx_MQ below (gQ vV post (fun u H => cBw G A (jW u).1 (jW u).2 H) A) (cXC G A [3, 4] xp) args s MC MS A) (F0 m 32 ls [.int v0, .ref v1]) := by
  have hx := X.1.1
  have hb := X.1.2.1
  have hml := X.1.2.2.1
  have hown := X.1.2.2.2.1
  have hts := X.1.2.2.2.2
  intro x0 x1 x2 x3 x4 v0 v1 mc ms N H locs ls cells slots h hw0 hl
  obtain ⟨hw, hbud⟩ := hw0
  unfold wX2_line_32 at h
  refine lv_iconst (pc := 32) (v := (5 : Int32)) hx hb dX2_line_32 (by decide) ?_
  refine lv_aload_n (pc := 33) hx hb dX2_line_33 rfl (lv_at hl 0 rfl) ?_
  obtain ⟨f22, f23, f24, f25, hN21, h⟩ := h
  refine c_get (pc := 34) X hw hN21 in_X2 rfl 1 (by decide) q407 rfl rfl dX2_line_34 ?_
  obtain ⟨f33, f34, f35, f36, hN32, h⟩ := h
  obtain ⟨mc28, ms29, hm30, hm31, h⟩ := h
  refine cx_callJ (pc := 37) (val := vV) X hw (cx_runV (C := RX2) (As := [.int v0, .int (5 : Int32), .int f23]) (rest := []) X.1 (tX2_must hL X.2.2.1 (sz := H.size) h) (cwV 3 hts (lw_V q659 q661 qs9 q113 q662) rfl rfl rfl ⟨rfl, by decide, by decide, (by decide +kernel : (parseMethodDescriptor yX2_must.desc).map (fun d => d.parameters.length) = some 3)⟩ ⟨Nat.le_of_ble_eq_true rfl, Nat.le_of_ble_eq_true rfl⟩) ⟨cPre_blind, c_recv X hw hN32 rfl, fun U hU hW => ⟨rfl, X.preJ hw hU hW⟩⟩ rfl rfl hl.1 rfl (lv_room (Nat.le_of_ble_eq_true rfl)) dX2_line_37 ⟨show cells + mc28 ≤ MC by omega, show slots + ms29 ≤ MS by omega⟩) (fun q37 N38 H locs ci39 fs40 ch43 hci41 hNq42 h hw hch => ?_) (fun _ N27 H locs h hw => ?_)
  · have hci41 := List.mem_singleton.mp hci41
    subst hci41
    have h := h fs40 hNq42
    exact cx_outJ (pc := 37) X hw hNq42 rfl (by decide) (by rw [hT]; exact (ep_c rfl ep_n)) hlk hch h (by omega) (by omega)
  refine W.eq (g2 := F0 m 40 ls ([])) rfl ?_
  refine lv_aload_n (pc := 40) hx hb dX2_line_40 rfl (lv_at hl 0 rfl) ?_
  refine lv_iload_n (pc := 41) hx hb dX2_line_41 rfl (lv_at hl 3 rfl) ?_
  refine lv_bipush (pc := 42) (v := (60 : Int32)) hx hb dX2_line_42 (by decide) ?_
  refine lv_icmp_ge (pc := 44) (tgt := 51) hx hb dX2_line_44 rfl (fun c44 => ?_) (fun c44 => ?_)
  · have h := h.1 c44
    refine lv_iconst (pc := 51) (v := (0 : Int32)) hx hb dX2_line_51 (by decide) ?_
    exact kX2_line_52 X hr hlk hL hT  _ _ _ _ _ _ _ _ _ _ _ _ _ _ _ h ⟨hw, by omega⟩ (lv_sub hl [0, 1, 2, 3, 4] rfl)
  · have h := h.2 c44
    refine lv_iconst (pc := 47) (v := (1 : Int32)) hx hb dX2_line_47 (by decide) ?_
    refine lv_goto (pc := 48) (tgt := 52) hx hb dX2_line_48 rfl ?_
    exact kX2_line_52 X hr hlk hL hT  _ _ _ _ _ _ _ _ _ _ _ _ _ _ _ h ⟨hw, by omega⟩ (lv_sub hl [0, 1, 2, 3, 4] rfl)
theorem kX2_line_31 {p : Program} {l : Launch} {e : Env} {s : State} {m : MethodId} {args : Array Value} {below : List Frame} {meth : Method} {c : Code} {G : gG} {A : Nat → Prop} {MC MS : Nat} {post : Unit → NM → Prop} {xp : Nat → List Nat → NM → Prop} (X : cX G A RX2 p s m args c cX2_line 10) (hr : meth.sig.returnType = none) (hlk : meth.locks = false) (hL : l.stackTraces = false) (hT : c.exceptionTable.toList = tableOf [(131, 143, 146, 41)]) : ∀ (x0 : Nat) (x1 : Option Nat) (x2 : Option Nat) (x3 : Int32) (x4 : Int32) (v0 : Nat) (mc ms : Nat) (N : NM) (H : Heap) (locs : List Loc) (ls : Array Slot) (cells slots : Nat), wX2_line_31 (gC G) post xp x0 x1 x2 x3 x4 v0 mc ms N → (cH G A s [] N H locs ∧ cells + mc ≤ MC ∧ slots + ms ≤ MS) → lv_has ls 10 [(0, .ref x0), (1, va_rf x1), (2, va_rf x2), (3, .int x3), (4, .int x4)] → W p l e ⟨8, MC, MS, 214⟩ s m args below meth c H locs cells slots (cx_MQ below (gQ vV post (fun u H => cBw G A (jW u).1 (jW u).2 H) A) (cXC G A [3, 4] xp) args s MC MS A) (F0 m 31 ls [.ref v0]) := by
  have hx := X.1.1
  have hb := X.1.2.1
  have hml := X.1.2.2.1
  have hown := X.1.2.2.2.1
  have hts := X.1.2.2.2.2
  intro x0 x1 x2 x3 x4 v0 mc ms N H locs ls cells slots h hw0 hl
  obtain ⟨hw, hbud⟩ := hw0
  unfold wX2_line_31 at h
  refine lv_iconst (pc := 31) (v := (0 : Int32)) hx hb dX2_line_31 (by decide) ?_
  exact kX2_line_32 X hr hlk hL hT  _ _ _ _ _ _ _ _ _ _ _ _ _ _ _ h ⟨hw, by omega⟩ (lv_sub hl [0, 1, 2, 3, 4] rfl)
theorem tX2_line {l : Launch} (hL : l.stackTraces = false) {G : gG} (hO : gOk G) {post : Unit → NM → Prop} {xp : Nat → List Nat → NM → Prop} {MC MS : Nat} {N : NM} {x0 : Nat} {x1 : Option Nat} {x2 : Option Nat} {x3 : Int32} {sz : Nat} (h : wX2_line (gC G) post xp MC MS N x0 x1 x2 x3) : cx_Met l yX2_line (wsW_ yX2_line cX2_line 10 none [(131, 143, 146, 41)]) ⟨8, MC, MS, 214⟩ (va_Pc [.ref x0, va_rf x1, va_rf x2, .int x3] (cPre G [] N sz)) (gQ vV post (fun u H => cBw G (cA [] N sz) (jW u).1 (jW u).2 H) (cA [] N sz)) (cXC G (cA [] N sz) [3, 4] xp) MC MS (cA [] N sz) := by
  refine c_ofXH (B := fun A u H => cBw G A (jW u).1 (jW u).2 H) (by decide) hO (by cases x1 <;> cases x2 <;> exact Nat.le_of_ble_eq_true rfl) (fun p e s m below meth c ls A X hr hlk hT hw hl => ?_)
  have hl : lv_has ls 10 [(0, .ref x0), (1, va_rf x1), (2, va_rf x2), (3, .int x3)] := by cases x1 <;> cases x2 <;> exact hl
  have hx := X.1.1
  have hb := X.1.2.1
  have hml := X.1.2.2.1
  have hown := X.1.2.2.2.1
  have hts := X.1.2.2.2.2
  obtain ⟨H, eH⟩ : ∃ z, z = s.heap := ⟨_, rfl⟩
  rw [← eH] at hw ⊢
  obtain ⟨locs, eLo⟩ : ∃ z : List Loc, z = [] := ⟨_, rfl⟩
  rw [← eLo] at hw ⊢
  have hbud : 0 + MC ≤ MC ∧ 0 + MS ≤ MS := by omega
  unfold wX2_line at h
  refine lv_aload_n (pc := 0) hx hb dX2_line_0 rfl (lv_at hl 0 rfl) ?_
  obtain ⟨f8, f9, f10, f11, hN7, h⟩ := h
  obtain ⟨mc3, ms4, hm5, hm6, h⟩ := h
  refine cx_callJ (pc := 1) (val := vI) X hw (cx_runV (C := RX2) (As := []) (rest := []) X.1 (tX2_whole hL X.2.2.1 (sz := H.size) h) (cwV 0 hts (lw_V q761 q763 qs13 q113 q764) rfl rfl rfl ⟨rfl, by decide, by decide, (by decide +kernel : (parseMethodDescriptor yX2_whole.desc).map (fun d => d.parameters.length) = some 0)⟩ ⟨Nat.le_of_ble_eq_true rfl, Nat.le_of_ble_eq_true rfl⟩) ⟨cPre_blind, c_recv X hw hN7 rfl, fun U hU hW => ⟨rfl, X.preJ hw hU hW⟩⟩ rfl rfl hl.1 rfl (lv_room (Nat.le_of_ble_eq_true rfl)) dX2_line_1 ⟨show 0 + mc3 ≤ MC by omega, show 0 + ms4 ≤ MS by omega⟩) (fun q12 N13 H locs ci14 fs15 ch18 hci16 hNq17 h hw hch => ?_) (fun r1 N2 H locs h hw => ?_)
  · have hci16 := List.mem_singleton.mp hci16
    subst hci16
    have h := h fs15 hNq17
    exact cx_outJ (pc := 1) X hw hNq17 rfl (by decide) (by rw [hT]; exact (ep_c rfl ep_n)) hlk hch h (by omega) (by omega)
  refine W.eq (g2 := F0 m 4 ls (.int r1 :: [])) rfl ?_
  refine lv_istore (pc := 4) (lv' := [(4, .int r1), (0, .ref x0), (1, va_rf x1), (2, va_rf x2), (3, .int x3)]) hx hb dX2_line_4 hl (by decide) rfl (fun ls hl => ?_)
  refine lv_aload_n (pc := 6) hx hb dX2_line_6 rfl (lv_at hl 1 rfl) ?_
  refine lv_iload (pc := 7) hx hb dX2_line_7 (lv_at hl 0 rfl) ?_
  refine p_call (pc := 9) (val := vI) ((va_runSN (As := [.int r1]) (rest := [.ref x0]) X.1 (tX0_isNumber h) ⟨va_cnB 1 hts (lw_meth q977) rfl rfl rfl (X.nest q975) (hts _ q102) ⟨by decide, by decide, (by decide +kernel : (parseMethodDescriptor yX0_isNumber.desc).map (fun d => d.parameters.length) = some 1)⟩ ⟨Nat.le_of_ble_eq_true rfl, Nat.le_of_ble_eq_true rfl⟩, hts _ q976, trivial⟩ ⟨pc_blind, fun U _ _ => ⟨rfl, trivial⟩⟩ rfl rfl hl.1 rfl (lv_room (Nat.le_of_ble_eq_true rfl)) dX2_line_9 ⟨show 0 + mc3 ≤ MC by omega, show 0 + ms4 ≤ MS by omega⟩).run) (fun r19 h => ?_)
  refine W.eq (g2 := F0 m 12 ls (.int r19 :: [.ref x0])) rfl ?_
  refine lv_if_eq (pc := 12) (tgt := 31) hx hb dX2_line_12 rfl (fun c20 => ?_) (fun c20 => ?_)
  · have h := h.1 c20
    exact kX2_line_31 X hr hlk hL hT  _ _ _ _ _ _ _ _ _ _ _ _ _ _ h ⟨hw, by omega⟩ (lv_sub hl [1, 2, 3, 4, 0] rfl)
  · have h := h.2 c20
    refine lq_aload_n (pc := 15) hx hb dX2_line_15 rfl (lv_at hl 3 rfl) ?_
    refine lv_iload (pc := 16) hx hb dX2_line_16 (lv_at hl 0 rfl) ?_
    obtain ⟨mc306, ms307, hm308, hm309, h⟩ := h
    refine c_callJ (pc := 18) (val := vR) X hw (va_runS (g := F0 m 18 ls _) (As := [.int r1]) (rest := [va_rf x2, .ref x0]) X.1 (tJ23_valueOf X.2.2.1 (sz := H.size) h) (va_cwS 1 hts (lw_S q980 q981 q135 q982) rfl rfl rfl ⟨by decide, by decide, (by decide +kernel : (parseMethodDescriptor yJ23_valueOf.desc).map (fun d => d.parameters.length) = some 1)⟩ ⟨Nat.le_of_ble_eq_true rfl, Nat.le_of_ble_eq_true rfl⟩) ⟨cPre_blind, fun U hU hW => ⟨rfl, X.preJ hw hU hW⟩⟩ rfl rfl hl.1 rfl (lv_room (rsum_le (Nat.le_of_ble_eq_true rfl))) dX2_line_18 ⟨show 0 + mc3 + mc306 ≤ MC by omega, show 0 + ms4 + ms307 ≤ MS by omega⟩) (fun r304 N305 H locs h hw => ?_)
    refine W.eq (g2 := F0 m 21 ls (.ref r304 :: [va_rf x2, .ref x0])) rfl ?_
    obtain ⟨a310, hr311, h⟩ := h
    refine W.eq (g2 := F0 m 21 ls [.ref r304, .ref a310, .ref x0]) (by rw [hr311]; rfl) ?_
    obtain ⟨f315, f316, f317, f318, f319, f320, f321, f322, f323, hN314, h⟩ := h
    refine c_callJ (pc := 21) (val := vI) X hw (va_runV (C := RJ21) (As := [.ref r304]) (rest := [.ref x0]) X.1 (tJ21_containsKey X.2.2.1 (sz := H.size) h) (cwV 1 hts (lw_V q1000 q1001 q1002 q132 q1003) rfl rfl rfl ⟨rfl, by decide, by decide, (by decide +kernel : (parseMethodDescriptor yJ21_containsKey.desc).map (fun d => d.parameters.length) = some 1)⟩ ⟨Nat.le_of_ble_eq_true rfl, Nat.le_of_ble_eq_true rfl⟩) ⟨cPre_blind, c_recv X hw hN314 rfl, fun U hU hW => ⟨rfl, X.preJ hw hU hW⟩⟩ rfl rfl hl.1 rfl (lv_room (Nat.le_of_ble_eq_true rfl)) dX2_line_21 ⟨show 0 + mc3 + mc306 + 0 ≤ MC by omega, show 0 + ms4 + ms307 + 0 ≤ MS by omega⟩) (fun r312 N313 H locs h hw => ?_)
    refine W.eq (g2 := F0 m 24 ls (.int r312 :: [.ref x0])) rfl ?_
    refine lv_if_ne (pc := 24) (tgt := 31) hx hb dX2_line_24 rfl (fun c324 => ?_) (fun c324 => ?_)
    · have h := h.2 c324
      exact kX2_line_31 X hr hlk hL hT  _ _ _ _ _ _ _ _ _ _ _ _ _ _ h ⟨hw, by omega⟩ (lv_sub hl [1, 2, 3, 4, 0] rfl)
    · have h := h.1 c324
      refine lv_iconst (pc := 27) (v := (1 : Int32)) hx hb dX2_line_27 (by decide) ?_
      refine lv_goto (pc := 28) (tgt := 32) hx hb dX2_line_28 rfl ?_
      exact kX2_line_32 X hr hlk hL hT  _ _ _ _ _ _ _ _ _ _ _ _ _ _ _ h ⟨hw, by omega⟩ (lv_sub hl [1, 2, 3, 4, 0] rfl)

def wX2_form_74 (K : Nat → Nat → Nat) (post : Option Nat → NM → Prop) (xp : Nat → List Nat → NM → Prop) : Nat → Nat → Nat → Int32 → Nat → Nat → NM → Prop
  | 0, _, _, _, _, _, _ => False
  | n + 1, x1, x3, x4, mc, ms, N => ∃ n81 f82, N x3 = some (eR 5 n81 f82) ∧ ((((nI n81) ≤ x4) → (1 ≤ mc ∧ 1 ≤ ms ∧ (∀ nq86, N nq86 = none → (∀ N88, N88 = va_up N nq86 (some (eO 7 [va_rf none])) → (wX6_init K (fun _ N93 => post (some nq86) N93) N88 nq86 x3))))) ∧ (¬ ((nI n81) ≤ x4) → (∃ f97 f98 f99, N x1 = some (eO 18 [.int f97, va_rf f98, .int f99]) ∧ (wJ9_get K (fun r94 N95 => ∃ a100, r94 = some a100 ∧ (∃ f103 f104 f105 f106, N95 a100 = some (eO 6 [.int f103, .int f104, .int f105, va_rf f106]) ∧ (∃ n108 f109, N95 x3 = some (eR 5 n108 f109) ∧ (vp_in x4 n108 ∧ (∀ N110, N110 = va_up N95 x3 (some (eR 5 n108 (va_up f109 x4.toNatClampNeg (some a100)))) → (wX2_form_74 K post xp n x1 x3 (x4 + (1 : Int32)) mc ms N110)))))) N x1 x4))))
def wX2_form_20 (K : Nat → Nat → Nat) (post : Option Nat → NM → Prop) (xp : Nat → List Nat → NM → Prop) : Nat → Nat → Nat → Int32 → Nat → Nat → NM → Prop
  | 0, _, _, _, _, _, _ => False
  | n + 1, x0, x1, x2, mc, ms, N => ∃ f60 f61 f62 f63, N x0 = some (eO 2 [.int f60, .int f61, .int f62, va_rf f63]) ∧ (wX2_isOver K (fun r57 N58 => ((r57 = (0 : Int32)) → (∃ f121 f122 f123 f124, N58 x0 = some (eO 2 [.int f121, .int f122, .int f123, va_rf f124]) ∧ (∃ mc116 ms117, mc116 ≤ mc ∧ ms117 ≤ ms ∧ wX2_asks K (fun _ N115 => ∃ f156 f157 f158 f159, N115 x0 = some (eO 2 [.int f156, .int f157, .int f158, va_rf f159]) ∧ (∃ mc151 ms152, mc151 ≤ (mc - mc116) ∧ ms152 ≤ (ms - ms117) ∧ wX2_term K (fun r149 N150 => ∃ a184, r149 = some a184 ∧ (∃ f193 f194 f195, N150 x1 = some (eO 18 [.int f193, va_rf f194, .int f195]) ∧ (∃ mc188 ms189, mc188 ≤ ((mc - mc116) - mc151) ∧ ms189 ≤ ((ms - ms117) - ms152) ∧ wJ9_add K (fun r186 N187 => wX2_form_20 K post xp n x0 x1 (x2 + (1 : Int32)) (((mc - mc116) - mc151) - mc188) (((ms - ms117) - ms152) - ms189) N187) mc188 ms189 N150 x1 a184))) (fun q160 ch166 N161 => (∀ fs163, N161 q160 = some (eO 3 fs163) → (1 ≤ ((mc - mc116) - mc151) ∧ 7 ≤ ((ms - ms117) - ms152) ∧ (∀ nq169, N161 nq169 = none → (∀ N171, N171 = va_up N161 nq169 (some (eO 5 [va_rf none, va_rf none, va_rf none, va_rf none, va_rf none, .int (0 : Int32), .int (0 : Int32)])) → (wX5_init K (fun _ N175 => ∃ f177 f178 f179 f180 f181 f182 f183, N175 nq169 = some (eO 5 [va_rf f177, va_rf f178, va_rf f179, va_rf f180, va_rf f181, .int f182, .int f183]) ∧ (xp nq169 (nq169 :: ch166) N175)) N171 nq169 (x2 + (1 : Int32)) (some q160))))))) mc151 ms152 N115 x0 (x2 + (1 : Int32)))) (fun q125 ch131 N126 => (∀ fs128, N126 q125 = some (eO 3 fs128) → (1 ≤ (mc - mc116) ∧ 7 ≤ (ms - ms117) ∧ (∀ nq134, N126 nq134 = none → (∀ N136, N136 = va_up N126 nq134 (some (eO 5 [va_rf none, va_rf none, va_rf none, va_rf none, va_rf none, .int (0 : Int32), .int (0 : Int32)])) → (wX5_init K (fun _ N140 => ∃ f142 f143 f144 f145 f146 f147 f148, N140 nq134 = some (eO 5 [va_rf f142, va_rf f143, va_rf f144, va_rf f145, va_rf f146, .int f147, .int f148]) ∧ (xp nq134 (nq134 :: ch131) N140)) N136 nq134 x2 (some q125))))))) mc116 ms117 N58 x0 (43 : Int32)))) ∧ (¬ (r57 = (0 : Int32)) → (∃ f68 f69 f70, N58 x1 = some (eO 18 [.int f68, va_rf f69, .int f70]) ∧ (wJ9_size K (fun r65 N66 => ¬ r65 < 0 ∧ r65.toNatClampNeg ≤ 65536 ∧ 1 ≤ mc ∧ r65.toNatClampNeg ≤ ms ∧ (∀ nq75, N66 nq75 = none → (∀ N77, N77 = va_up N66 nq75 (some (eR 5 r65.toNatClampNeg (fun _ => (none : Option Nat)))) → ((∃ k, wX2_form_74 K post xp k x1 nq75 (0 : Int32) (mc - 1) (ms - r65.toNatClampNeg) N77))))) N58 x1)))) N x0)
def wX2_form (K : Nat → Nat → Nat) (post : Option Nat → NM → Prop) (xp : Nat → List Nat → NM → Prop) (MC MS : Nat) (N : NM) (x0 : Nat) : Prop :=
  1 ≤ MC ∧ 3 ≤ MS ∧ (∀ nq3, N nq3 = none → (∀ N5, N5 = va_up N nq3 (some (eO 18 [.int (0 : Int32), va_rf none, .int (0 : Int32)])) → (wJ9_init K (fun _ N9 => ∃ f17 f18 f19 f20, N9 x0 = some (eO 2 [.int f17, .int f18, .int f19, va_rf f20]) ∧ (∃ mc12 ms13, mc12 ≤ (MC - 1) ∧ ms13 ≤ (MS - 3) ∧ wX2_term K (fun r10 N11 => ∃ a45, r10 = some a45 ∧ (∃ f54 f55 f56, N11 nq3 = some (eO 18 [.int f54, va_rf f55, .int f56]) ∧ (∃ mc49 ms50, mc49 ≤ ((MC - 1) - mc12) ∧ ms50 ≤ ((MS - 3) - ms13) ∧ wJ9_add K (fun r47 N48 => (∃ k, wX2_form_20 K post xp k x0 nq3 (0 : Int32) (((MC - 1) - mc12) - mc49) (((MS - 3) - ms13) - ms50) N48)) mc49 ms50 N11 nq3 a45))) (fun q21 ch27 N22 => (∀ fs24, N22 q21 = some (eO 3 fs24) → (1 ≤ ((MC - 1) - mc12) ∧ 7 ≤ ((MS - 3) - ms13) ∧ (∀ nq30, N22 nq30 = none → (∀ N32, N32 = va_up N22 nq30 (some (eO 5 [va_rf none, va_rf none, va_rf none, va_rf none, va_rf none, .int (0 : Int32), .int (0 : Int32)])) → (wX5_init K (fun _ N36 => ∃ f38 f39 f40 f41 f42 f43 f44, N36 nq30 = some (eO 5 [va_rf f38, va_rf f39, va_rf f40, va_rf f41, va_rf f42, .int f43, .int f44]) ∧ (xp nq30 (nq30 :: ch27) N36)) N32 nq30 (0 : Int32) (some q21))))))) mc12 ms13 N9 x0 (0 : Int32))) N5 nq3)))
theorem kX2_form_74 {p : Program} {l : Launch} {e : Env} {s : State} {m : MethodId} {args : Array Value} {below : List Frame} {meth : Method} {c : Code} {G : gG} {A : Nat → Prop} {MC MS : Nat} {post : Option Nat → NM → Prop} {xp : Nat → List Nat → NM → Prop} (X : cX G A RX2 p s m args c cX2_form 5) (hr : meth.sig.returnType = (some (.object "ToldPowers$Form"))) (hlk : meth.locks = false) (hL : l.stackTraces = false) (hT : c.exceptionTable.toList = tableOf [(10, 49, 52, 41)]) : ∀ (n : Nat) (x1 : Nat) (x3 : Nat) (x4 : Int32) (mc ms : Nat) (N : NM) (H : Heap) (locs : List Loc) (ls : Array Slot) (cells slots : Nat), wX2_form_74 (gC G) post xp n x1 x3 x4 mc ms N → (cH G A s [] N H locs ∧ cells + mc ≤ MC ∧ slots + ms ≤ MS) → lv_has ls 5 [(1, .ref x1), (3, .ref x3), (4, .int x4)] → W p l e ⟨9, MC, MS, 242⟩ s m args below meth c H locs cells slots (cx_MQ below (gQ vQ post (fun u H => cBw G A (jW u).1 (jW u).2 H) A) (cXC G A [5] xp) args s MC MS A) (F0 m 74 ls []) := by
  have hx := X.1.1
  have hb := X.1.2.1
  have hml := X.1.2.2.1
  have hown := X.1.2.2.2.1
  have hts := X.1.2.2.2.2
  intro n
  induction n with
  | zero =>
    intro x1 x3 x4 mc ms N H locs ls cells slots h
    exact False.elim h
  | succ n ih =>
    intro x1 x3 x4 mc ms N H locs ls cells slots h hw0 hl
    obtain ⟨hw, hbud⟩ := hw0
    unfold wX2_form_74 at h
    refine lv_iload (pc := 74) hx hb dX2_form_74 (lv_at hl 2 rfl) ?_
    refine lv_aload_n (pc := 76) hx hb dX2_form_76 rfl (lv_at hl 1 rfl) ?_
    obtain ⟨n81, f82, hN80, h⟩ := h
    refine c_alen (pc := 77) X hw hN80 rfl dX2_form_77 ?_
    refine lv_icmp_ge (pc := 78) (tgt := 100) hx hb dX2_form_78 rfl (fun c83 => ?_) (fun c83 => ?_)
    · have h := h.1 c83
      obtain ⟨hm84, hm85, h⟩ := h
      refine c_new (pc := 100) (ci := 7) (fs := [va_rf none]) X hw in_X6 tyX6 tyX6_ok q878 q879 q129 rfl nf_X6 (show cells + 1 ≤ MC by omega) (show slots + 1 ≤ MS by omega) dX2_form_100 (fun nq86 H hq87 _ hw => ?_)
      have h := h nq86 hq87
      obtain ⟨N88, e89⟩ : ∃ z, z = va_up N nq86 (some (eO 7 [va_rf none])) := ⟨_, rfl⟩
      have hw : cH G A s [] N88 H locs := by rw [e89]; exact hw
      have h := h N88 e89
      have hN90 : N88 nq86 = some (eO 7 [va_rf none]) := by rw [e89]; exact up_s
      have hN91 := up_f (x := some (eO 7 [va_rf none])) hq87 hN80
      rw [← e89] at hN91
      refine lv_dup (pc := 103) hx hb dX2_form_103 rfl ?_
      refine lv_aload_n (pc := 104) hx hb dX2_form_104 rfl (lv_at hl 1 rfl) ?_
      refine c_callJ (pc := 105) (val := vV) X hw (va_runI (As := [.ref x3]) (rest := [.ref nq86]) X.1 (tX6_init X.2.2.1 (sz := H.size) h) (cwI 1 hts (lw_meth q882) rfl rfl rfl (hts _ q129) (hts _ q880) (hts _ q881) rfl ⟨by decide, by decide, (by decide +kernel : (parseMethodDescriptor yX6_init.desc).map (fun d => d.parameters.length) = some 1)⟩ ⟨Nat.le_of_ble_eq_true rfl, Nat.le_of_ble_eq_true rfl⟩) ⟨cPre_blind, fun U hU hW => ⟨rfl, X.preJ hw hU hW⟩⟩ rfl rfl hl.1 rfl (lv_room (Nat.le_of_ble_eq_true rfl)) dX2_form_105 ⟨show cells + 1 + 0 ≤ MC by omega, show slots + 1 + 0 ≤ MS by omega⟩) (fun _ N93 H locs h hw => ?_)
      refine W.eq (g2 := F0 m 108 ls ([.ref nq86])) rfl ?_
      refine W.widen (k := MC) (n := MS) (by omega) (by omega) ?_
      refine cx_ret ?_
      exact W.aret (pc := 108) (v := va_rf (some nq86)) hx hb hr (Or.inl ⟨_, rfl⟩) (va_rf_or _) (fun t ht hW => c_ret (val := vQ) (lw := jW) (u := N93) hw h ht) hw.2.2.2 dX2_form_108 hlk
    · have h := h.2 c83
      refine lv_aload_n (pc := 81) hx hb dX2_form_81 rfl (lv_at hl 1 rfl) ?_
      refine lv_iload (pc := 82) hx hb dX2_form_82 (lv_at hl 2 rfl) ?_
      refine lv_aload_n (pc := 84) hx hb dX2_form_84 rfl (lv_at hl 0 rfl) ?_
      refine lv_iload (pc := 85) hx hb dX2_form_85 (lv_at hl 2 rfl) ?_
      obtain ⟨f97, f98, f99, hN96, h⟩ := h
      refine c_callJ (pc := 87) (val := vQ) X hw (va_runV (C := RJ9) (As := [.int x4]) (rest := [.int x4, .ref x3]) X.1 (tJ9_get X.2.2.1 (sz := H.size) h) (cwV 1 hts (lw_V q866 q867 q868 q116 q869) rfl rfl rfl ⟨rfl, by decide, by decide, (by decide +kernel : (parseMethodDescriptor yJ9_get.desc).map (fun d => d.parameters.length) = some 1)⟩ ⟨Nat.le_of_ble_eq_true rfl, Nat.le_of_ble_eq_true rfl⟩) ⟨cPre_blind, c_recv X hw hN96 rfl, fun U hU hW => ⟨rfl, X.preJ hw hU hW⟩⟩ rfl rfl hl.1 rfl (lv_room (Nat.le_of_ble_eq_true rfl)) dX2_form_87 ⟨show cells + 0 ≤ MC by omega, show slots + 0 ≤ MS by omega⟩) (fun r94 N95 H locs h hw => ?_)
      refine W.eq (g2 := F0 m 90 ls (va_rf r94 :: [.int x4, .ref x3])) rfl ?_
      obtain ⟨a100, hr101, h⟩ := h
      refine W.eq (g2 := F0 m 90 ls [.ref a100, .int x4, .ref x3]) (by rw [hr101]; rfl) ?_
      obtain ⟨f103, f104, f105, f106, hN102, h⟩ := h
      refine c_castS (pc := 90) X hw hN102 rfl q703 dX2_form_90 ?_
      obtain ⟨n108, f109, hN107, h⟩ := h
      obtain ⟨hi, h⟩ := h
      refine c_aast (pc := 93) X hw 5 hN107 rfl (c_anyS X hw hN102 rfl) hi dX2_form_93 (fun H locs hw => ?_)
      obtain ⟨N110, e111⟩ : ∃ z, z = va_up N95 x3 (some (eR 5 n108 (va_up f109 x4.toNatClampNeg (some a100)))) := ⟨_, rfl⟩
      have hw : cH G A s [] N110 H locs := by rw [e111]; exact hw
      have h := h N110 e111
      have hN112 : N110 x3 = some (eR 5 n108 (va_up f109 x4.toNatClampNeg (some a100))) := by rw [e111]; exact up_s
      have hN113 := up_k (x := some (eR 5 n108 (va_up f109 x4.toNatClampNeg (some a100)))) hN107 hN102 (show (11 : Nat) ≠ 12 by decide)
      rw [← e111] at hN113
      refine lv_iinc (pc := 94) (v := x4 + (1 : Int32)) (lv' := [(4, .int (x4 + (1 : Int32))), (1, .ref x1), (3, .ref x3)]) hx hb dX2_form_94 hl (k := 2) rfl rfl (by decide) rfl (fun ls hl => ?_)
      refine lv_goto (pc := 97) (tgt := 74) hx hb dX2_form_97 rfl ?_
      exact ih _ _ _ _ _ _ _ _ _ _ _ h ⟨hw, by omega⟩ (lv_sub hl [1, 2, 0] rfl)
theorem kX2_form_20 {p : Program} {l : Launch} {e : Env} {s : State} {m : MethodId} {args : Array Value} {below : List Frame} {meth : Method} {c : Code} {G : gG} {A : Nat → Prop} {MC MS : Nat} {post : Option Nat → NM → Prop} {xp : Nat → List Nat → NM → Prop} (X : cX G A RX2 p s m args c cX2_form 5) (hr : meth.sig.returnType = (some (.object "ToldPowers$Form"))) (hlk : meth.locks = false) (hL : l.stackTraces = false) (hT : c.exceptionTable.toList = tableOf [(10, 49, 52, 41)]) : ∀ (n : Nat) (x0 : Nat) (x1 : Nat) (x2 : Int32) (mc ms : Nat) (N : NM) (H : Heap) (locs : List Loc) (ls : Array Slot) (cells slots : Nat), wX2_form_20 (gC G) post xp n x0 x1 x2 mc ms N → (cH G A s [] N H locs ∧ cells + mc ≤ MC ∧ slots + ms ≤ MS) → lv_has ls 5 [(0, .ref x0), (1, .ref x1), (2, .int x2)] → W p l e ⟨9, MC, MS, 242⟩ s m args below meth c H locs cells slots (cx_MQ below (gQ vQ post (fun u H => cBw G A (jW u).1 (jW u).2 H) A) (cXC G A [5] xp) args s MC MS A) (F0 m 20 ls []) := by
  have hx := X.1.1
  have hb := X.1.2.1
  have hml := X.1.2.2.1
  have hown := X.1.2.2.2.1
  have hts := X.1.2.2.2.2
  intro n
  induction n with
  | zero =>
    intro x0 x1 x2 mc ms N H locs ls cells slots h
    exact False.elim h
  | succ n ih =>
    intro x0 x1 x2 mc ms N H locs ls cells slots h hw0 hl
    obtain ⟨hw, hbud⟩ := hw0
    unfold wX2_form_20 at h
    refine lv_aload_n (pc := 20) hx hb dX2_form_20 rfl (lv_at hl 0 rfl) ?_
    obtain ⟨f60, f61, f62, f63, hN59, h⟩ := h
    refine c_callJ (pc := 21) (val := vI) X hw (va_runV (C := RX2) (As := []) (rest := []) X.1 (tX2_isOver X.2.2.1 (sz := H.size) h) (cwV 0 hts (lw_V q834 q836 qs18 q113 q837) rfl rfl rfl ⟨rfl, by decide, by decide, (by decide +kernel : (parseMethodDescriptor yX2_isOver.desc).map (fun d => d.parameters.length) = some 0)⟩ ⟨Nat.le_of_ble_eq_true rfl, Nat.le_of_ble_eq_true rfl⟩) ⟨cPre_blind, c_recv X hw hN59 rfl, fun U hU hW => ⟨rfl, X.preJ hw hU hW⟩⟩ rfl rfl hl.1 rfl (lv_room (Nat.le_of_ble_eq_true rfl)) dX2_form_21 ⟨show cells + 0 ≤ MC by omega, show slots + 0 ≤ MS by omega⟩) (fun r57 N58 H locs h hw => ?_)
    refine W.eq (g2 := F0 m 24 ls (.int r57 :: [])) rfl ?_
    refine lv_if_ne (pc := 24) (tgt := 49) hx hb dX2_form_24 rfl (fun c64 => ?_) (fun c64 => ?_)
    · have h := h.2 c64
      refine lv_goto (pc := 49) (tgt := 63) hx hb dX2_form_49 rfl ?_
      refine lv_aload_n (pc := 63) hx hb dX2_form_63 rfl (lv_at hl 1 rfl) ?_
      obtain ⟨f68, f69, f70, hN67, h⟩ := h
      refine c_callJ (pc := 64) (val := vI) X hw (va_runV (C := RJ9) (As := []) (rest := []) X.1 (tJ9_size X.2.2.1 (sz := H.size) h) (cwV 0 hts (lw_V q861 q862 q863 q116 q864) rfl rfl rfl ⟨rfl, by decide, by decide, (by decide +kernel : (parseMethodDescriptor yJ9_size.desc).map (fun d => d.parameters.length) = some 0)⟩ ⟨Nat.le_of_ble_eq_true rfl, Nat.le_of_ble_eq_true rfl⟩) ⟨cPre_blind, c_recv X hw hN67 rfl, fun U hU hW => ⟨rfl, X.preJ hw hU hW⟩⟩ rfl rfl hl.1 rfl (lv_room (Nat.le_of_ble_eq_true rfl)) dX2_form_64 ⟨show cells + 0 + 0 ≤ MC by omega, show slots + 0 + 0 ≤ MS by omega⟩) (fun r65 N66 H locs h hw => ?_)
      refine W.eq (g2 := F0 m 67 ls (.int r65 :: [])) rfl ?_
      obtain ⟨hm71, hm72, hm73, hm74, h⟩ := h
      refine c_newq (pc := 67) X hw q703 q865 5 rfl hm71 rfl (Nat.le_trans (Nat.mul_le_mul_right _ hm72) (Nat.le_of_ble_eq_true rfl)) (show cells + 0 + 0 + 1 ≤ MC by omega) (show slots + 0 + 0 + r65.toNatClampNeg ≤ MS by omega) dX2_form_67 (fun nq75 H hq76 _ hw => ?_)
      have h := h nq75 hq76
      obtain ⟨N77, e78⟩ : ∃ z, z = va_up N66 nq75 (some (eR 5 r65.toNatClampNeg (fun _ => (none : Option Nat)))) := ⟨_, rfl⟩
      have hw : cH G A s [] N77 H locs := by rw [e78]; exact hw
      have h := h N77 e78
      have hN79 : N77 nq75 = some (eR 5 r65.toNatClampNeg (fun _ => (none : Option Nat))) := by rw [e78]; exact up_s
      refine lv_astore_n (pc := 70) (lv' := [(3, .ref nq75), (0, .ref x0), (1, .ref x1), (2, .int x2)]) hx hb dX2_form_70 rfl hl (by decide) rfl (fun ls hl => ?_)
      refine lv_iconst (pc := 71) (v := (0 : Int32)) hx hb dX2_form_71 (by decide) ?_
      refine lv_istore (pc := 72) (lv' := [(4, .int (0 : Int32)), (3, .ref nq75), (0, .ref x0), (1, .ref x1), (2, .int x2)]) hx hb dX2_form_72 hl (by decide) rfl (fun ls hl => ?_)
      obtain ⟨k, h⟩ := h
      exact kX2_form_74 X hr hlk hL hT  k _ _ _ _ _ _ _ _ _ _ _ h ⟨hw, by omega⟩ (lv_sub hl [3, 1, 0] rfl)
    · have h := h.1 c64
      refine lv_aload_n (pc := 27) hx hb dX2_form_27 rfl (lv_at hl 0 rfl) ?_
      refine lv_bipush (pc := 28) (v := (43 : Int32)) hx hb dX2_form_28 (by decide) ?_
      obtain ⟨f121, f122, f123, f124, hN120, h⟩ := h
      obtain ⟨mc116, ms117, hm118, hm119, h⟩ := h
      refine cx_callJ (pc := 30) (val := vV) X hw (cx_runV (C := RX2) (As := [.int (43 : Int32)]) (rest := []) X.1 (tX2_asks hL X.2.2.1 (sz := H.size) h) (cwV 1 hts (lw_V q838 q840 qs19 q113 q841) rfl rfl rfl ⟨rfl, by decide, by decide, (by decide +kernel : (parseMethodDescriptor yX2_asks.desc).map (fun d => d.parameters.length) = some 1)⟩ ⟨Nat.le_of_ble_eq_true rfl, Nat.le_of_ble_eq_true rfl⟩) ⟨cPre_blind, c_recv X hw hN120 rfl, fun U hU hW => ⟨rfl, X.preJ hw hU hW⟩⟩ rfl rfl hl.1 rfl (lv_room (Nat.le_of_ble_eq_true rfl)) dX2_form_30 ⟨show cells + 0 + mc116 ≤ MC by omega, show slots + 0 + ms117 ≤ MS by omega⟩) (fun q125 N126 H locs ci127 fs128 ch131 hci129 hNq130 h hw hch => ?_) (fun _ N115 H locs h hw => ?_)
      · have hci129 := List.mem_singleton.mp hci129
        subst hci129
        have h := h fs128 hNq130
        refine cx_catchJ (pc := 30) X hw hNq130 rfl [] ⟨10, 49, 52, 41⟩ [] (by rw [hT]; rfl) ep_n rfl (by decide) q423 q664 ?_
        refine lv_astore_n (pc := 52) (lv' := [(3, .ref q125), (0, .ref x0), (1, .ref x1), (2, .int x2)]) hx hb dX2_form_52 rfl hl (by decide) rfl (fun ls hl => ?_)
        obtain ⟨hm132, hm133, h⟩ := h
        refine c_newM (pc := 53) (ci := 5) (fs := [va_rf none, va_rf none, va_rf none, va_rf none, va_rf none, .int (0 : Int32), .int (0 : Int32)]) X hw in_X5 tyX5 tyX5_ok q842 q843 q127 rfl nf_X5 (show cells + 0 + mc116 + 1 ≤ MC by omega) (show slots + 0 + ms117 + 7 ≤ MS by omega) dX2_form_53 (fun nq134 H hq135 _ hw hf9 hMo => ?_)
        have hch := Mf.cons hf9 (hMo.all hch)
        have h := h nq134 hq135
        obtain ⟨N136, e137⟩ : ∃ z, z = va_up N126 nq134 (some (eO 5 [va_rf none, va_rf none, va_rf none, va_rf none, va_rf none, .int (0 : Int32), .int (0 : Int32)])) := ⟨_, rfl⟩
        have hw : cH G A s [] N136 H locs := by rw [e137]; exact hw
        have h := h N136 e137
        have hN138 : N136 nq134 = some (eO 5 [va_rf none, va_rf none, va_rf none, va_rf none, va_rf none, .int (0 : Int32), .int (0 : Int32)]) := by rw [e137]; exact up_s
        refine lv_dup (pc := 56) hx hb dX2_form_56 rfl ?_
        refine lv_iload_n (pc := 57) hx hb dX2_form_57 rfl (lv_at hl 3 rfl) ?_
        refine lv_aload_n (pc := 58) hx hb dX2_form_58 rfl (lv_at hl 0 rfl) ?_
        refine mo_row (dc := 0) (dn := 0) (g2 := F0 m 62 ls [.ref nq134]) X hw ⟨show cells + 0 + mc116 + 1 ≤ MC by omega, show slots + 0 + ms117 + 7 ≤ MS by omega⟩ (fun s Q X hw kk => by have hts := X.1.2.2.2.2; exact c_callJ (pc := 59) (Q := Q) (val := vV) X hw (va_runI (As := [.int x2, va_rf (some q125)]) (rest := [.ref nq134]) X.1 (tX5_init X.2.2.1 (sz := H.size) h) (cwI 2 hts (lw_meth q853) rfl rfl rfl (hts _ q127) (hts _ q851) (hts _ q852) rfl ⟨by decide, by decide, (by decide +kernel : (parseMethodDescriptor yX5_init.desc).map (fun d => d.parameters.length) = some 2)⟩ ⟨Nat.le_of_ble_eq_true rfl, Nat.le_of_ble_eq_true rfl⟩) ⟨cPre_blind, fun U hU hW => ⟨rfl, X.preJ hw hU hW⟩⟩ rfl rfl hl.1 rfl (lv_room (Nat.le_of_ble_eq_true rfl)) dX2_form_59 ⟨show 0 + 0 ≤ MC - (cells + 0 + mc116 + 1) by omega, show 0 + 0 ≤ MS - (slots + 0 + ms117 + 7) by omega⟩) (fun _ N9 H1 locs1 h hw1 => kk N9 H1 locs1 h hw1)) (fun N140 H locs h hw hMo => ?_)
        have hch := hMo.all hch
        refine W.eq (g2 := F0 m 62 ls ([.ref nq134])) rfl ?_
        obtain ⟨f142, f143, f144, f145, f146, f147, f148, hN141, h⟩ := h
        refine vx_athrow (pc := 62) hx hb dX2_form_62 ?_
        exact cx_outJ (pc := 62) X hw hN141 rfl (by decide) (by rw [hT]; exact (ep_c rfl ep_n)) hlk hch h (by omega) (by omega)
      refine W.eq (g2 := F0 m 33 ls ([])) rfl ?_
      refine lv_iinc (pc := 33) (v := x2 + (1 : Int32)) (lv' := [(2, .int (x2 + (1 : Int32))), (0, .ref x0), (1, .ref x1)]) hx hb dX2_form_33 hl (k := 2) rfl rfl (by decide) rfl (fun ls hl => ?_)
      refine lv_aload_n (pc := 36) hx hb dX2_form_36 rfl (lv_at hl 2 rfl) ?_
      refine lv_aload_n (pc := 37) hx hb dX2_form_37 rfl (lv_at hl 1 rfl) ?_
      refine lv_iload_n (pc := 38) hx hb dX2_form_38 rfl (lv_at hl 0 rfl) ?_
      obtain ⟨f156, f157, f158, f159, hN155, h⟩ := h
      obtain ⟨mc151, ms152, hm153, hm154, h⟩ := h
      refine cx_callJ (pc := 39) (val := vQ) X hw (cx_runV (C := RX2) (As := [.int (x2 + (1 : Int32))]) (rest := [.ref x1]) X.1 (tX2_term hL X.2.2.1 (sz := H.size) h) (cwV 1 hts (lw_V q450 q452 qs5 q113 q453) rfl rfl rfl ⟨rfl, by decide, by decide, (by decide +kernel : (parseMethodDescriptor yX2_term.desc).map (fun d => d.parameters.length) = some 1)⟩ ⟨Nat.le_of_ble_eq_true rfl, Nat.le_of_ble_eq_true rfl⟩) ⟨cPre_blind, c_recv X hw hN155 rfl, fun U hU hW => ⟨rfl, X.preJ hw hU hW⟩⟩ rfl rfl hl.1 rfl (lv_room (Nat.le_of_ble_eq_true rfl)) dX2_form_39 ⟨show cells + 0 + mc116 + mc151 ≤ MC by omega, show slots + 0 + ms117 + ms152 ≤ MS by omega⟩) (fun q160 N161 H locs ci162 fs163 ch166 hci164 hNq165 h hw hch => ?_) (fun r149 N150 H locs h hw => ?_)
      · have hci164 := List.mem_singleton.mp hci164
        subst hci164
        have h := h fs163 hNq165
        refine cx_catchJ (pc := 39) X hw hNq165 rfl [] ⟨10, 49, 52, 41⟩ [] (by rw [hT]; rfl) ep_n rfl (by decide) q423 q664 ?_
        refine lv_astore_n (pc := 52) (lv' := [(3, .ref q160), (2, .int (x2 + (1 : Int32))), (0, .ref x0), (1, .ref x1)]) hx hb dX2_form_52 rfl hl (by decide) rfl (fun ls hl => ?_)
        obtain ⟨hm167, hm168, h⟩ := h
        refine c_newM (pc := 53) (ci := 5) (fs := [va_rf none, va_rf none, va_rf none, va_rf none, va_rf none, .int (0 : Int32), .int (0 : Int32)]) X hw in_X5 tyX5 tyX5_ok q842 q843 q127 rfl nf_X5 (show cells + 0 + mc116 + mc151 + 1 ≤ MC by omega) (show slots + 0 + ms117 + ms152 + 7 ≤ MS by omega) dX2_form_53 (fun nq169 H hq170 _ hw hf9 hMo => ?_)
        have hch := Mf.cons hf9 (hMo.all hch)
        have h := h nq169 hq170
        obtain ⟨N171, e172⟩ : ∃ z, z = va_up N161 nq169 (some (eO 5 [va_rf none, va_rf none, va_rf none, va_rf none, va_rf none, .int (0 : Int32), .int (0 : Int32)])) := ⟨_, rfl⟩
        have hw : cH G A s [] N171 H locs := by rw [e172]; exact hw
        have h := h N171 e172
        have hN173 : N171 nq169 = some (eO 5 [va_rf none, va_rf none, va_rf none, va_rf none, va_rf none, .int (0 : Int32), .int (0 : Int32)]) := by rw [e172]; exact up_s
        refine lv_dup (pc := 56) hx hb dX2_form_56 rfl ?_
        refine lv_iload_n (pc := 57) hx hb dX2_form_57 rfl (lv_at hl 1 rfl) ?_
        refine lv_aload_n (pc := 58) hx hb dX2_form_58 rfl (lv_at hl 0 rfl) ?_
        refine mo_row (dc := 0) (dn := 0) (g2 := F0 m 62 ls [.ref nq169]) X hw ⟨show cells + 0 + mc116 + mc151 + 1 ≤ MC by omega, show slots + 0 + ms117 + ms152 + 7 ≤ MS by omega⟩ (fun s Q X hw kk => by have hts := X.1.2.2.2.2; exact c_callJ (pc := 59) (Q := Q) (val := vV) X hw (va_runI (As := [.int (x2 + (1 : Int32)), va_rf (some q160)]) (rest := [.ref nq169]) X.1 (tX5_init X.2.2.1 (sz := H.size) h) (cwI 2 hts (lw_meth q853) rfl rfl rfl (hts _ q127) (hts _ q851) (hts _ q852) rfl ⟨by decide, by decide, (by decide +kernel : (parseMethodDescriptor yX5_init.desc).map (fun d => d.parameters.length) = some 2)⟩ ⟨Nat.le_of_ble_eq_true rfl, Nat.le_of_ble_eq_true rfl⟩) ⟨cPre_blind, fun U hU hW => ⟨rfl, X.preJ hw hU hW⟩⟩ rfl rfl hl.1 rfl (lv_room (Nat.le_of_ble_eq_true rfl)) dX2_form_59 ⟨show 0 + 0 ≤ MC - (cells + 0 + mc116 + mc151 + 1) by omega, show 0 + 0 ≤ MS - (slots + 0 + ms117 + ms152 + 7) by omega⟩) (fun _ N9 H1 locs1 h hw1 => kk N9 H1 locs1 h hw1)) (fun N175 H locs h hw hMo => ?_)
        have hch := hMo.all hch
        refine W.eq (g2 := F0 m 62 ls ([.ref nq169])) rfl ?_
        obtain ⟨f177, f178, f179, f180, f181, f182, f183, hN176, h⟩ := h
        refine vx_athrow (pc := 62) hx hb dX2_form_62 ?_
        exact cx_outJ (pc := 62) X hw hN176 rfl (by decide) (by rw [hT]; exact (ep_c rfl ep_n)) hlk hch h (by omega) (by omega)
      refine W.eq (g2 := F0 m 42 ls (va_rf r149 :: [.ref x1])) rfl ?_
      obtain ⟨a184, hr185, h⟩ := h
      refine W.eq (g2 := F0 m 42 ls [.ref a184, .ref x1]) (by rw [hr185]; rfl) ?_
      obtain ⟨f193, f194, f195, hN192, h⟩ := h
      obtain ⟨mc188, ms189, hm190, hm191, h⟩ := h
      refine c_callJ (pc := 42) (val := vI) X hw (va_runV (C := RJ9) (As := [.ref a184]) (rest := []) X.1 (tJ9_add X.2.2.1 (sz := H.size) h) (cwV 1 hts (lw_V q771 q772 q773 q116 q774) rfl rfl rfl ⟨rfl, by decide, by decide, (by decide +kernel : (parseMethodDescriptor yJ9_add.desc).map (fun d => d.parameters.length) = some 1)⟩ ⟨Nat.le_of_ble_eq_true rfl, Nat.le_of_ble_eq_true rfl⟩) ⟨cPre_blind, c_recv X hw hN192 rfl, fun U hU hW => ⟨rfl, X.preJ hw hU hW⟩⟩ rfl rfl hl.1 rfl (lv_room (Nat.le_of_ble_eq_true rfl)) dX2_form_42 ⟨show cells + 0 + mc116 + mc151 + mc188 ≤ MC by omega, show slots + 0 + ms117 + ms152 + ms189 ≤ MS by omega⟩) (fun r186 N187 H locs h hw => ?_)
      refine W.eq (g2 := F0 m 45 ls (.int r186 :: [])) rfl ?_
      refine lv_pop (pc := 45) hx hb dX2_form_45 rfl ?_
      refine lv_goto (pc := 46) (tgt := 20) hx hb dX2_form_46 rfl ?_
      exact ih _ _ _ _ _ _ _ _ _ _ _ h ⟨hw, by omega⟩ (lv_sub hl [1, 2, 0] rfl)
theorem tX2_form {l : Launch} (hL : l.stackTraces = false) {G : gG} (hO : gOk G) {post : Option Nat → NM → Prop} {xp : Nat → List Nat → NM → Prop} {MC MS : Nat} {N : NM} {x0 : Nat} {sz : Nat} (h : wX2_form (gC G) post xp MC MS N x0) : cx_Met l yX2_form (wsW_ yX2_form cX2_form 5 (some (.object "ToldPowers$Form")) [(10, 49, 52, 41)]) ⟨9, MC, MS, 242⟩ (va_Pc [.ref x0] (cPre G [] N sz)) (gQ vQ post (fun u H => cBw G (cA [] N sz) (jW u).1 (jW u).2 H) (cA [] N sz)) (cXC G (cA [] N sz) [5] xp) MC MS (cA [] N sz) := by
  refine c_ofXH (B := fun A u H => cBw G A (jW u).1 (jW u).2 H) (by decide) hO (Nat.le_of_ble_eq_true rfl) (fun p e s m below meth c ls A X hr hlk hT hw hl => ?_)
  have hl : lv_has ls 5 [(0, .ref x0)] := hl
  have hx := X.1.1
  have hb := X.1.2.1
  have hml := X.1.2.2.1
  have hown := X.1.2.2.2.1
  have hts := X.1.2.2.2.2
  obtain ⟨H, eH⟩ : ∃ z, z = s.heap := ⟨_, rfl⟩
  rw [← eH] at hw ⊢
  obtain ⟨locs, eLo⟩ : ∃ z : List Loc, z = [] := ⟨_, rfl⟩
  rw [← eLo] at hw ⊢
  have hbud : 0 + MC ≤ MC ∧ 0 + MS ≤ MS := by omega
  unfold wX2_form at h
  obtain ⟨hm1, hm2, h⟩ := h
  refine c_new (pc := 0) (ci := 18) (fs := [.int (0 : Int32), va_rf none, .int (0 : Int32)]) X hw in_J9 tyJ9 tyJ9_ok q424 q425 q116 rfl nf_J9 (show 0 + 1 ≤ MC by omega) (show 0 + 3 ≤ MS by omega) dX2_form_0 (fun nq3 H hq4 _ hw => ?_)
  have h := h nq3 hq4
  obtain ⟨N5, e6⟩ : ∃ z, z = va_up N nq3 (some (eO 18 [.int (0 : Int32), va_rf none, .int (0 : Int32)])) := ⟨_, rfl⟩
  have hw : cH G A s [] N5 H locs := by rw [e6]; exact hw
  have h := h N5 e6
  have hN7 : N5 nq3 = some (eO 18 [.int (0 : Int32), va_rf none, .int (0 : Int32)]) := by rw [e6]; exact up_s
  refine lv_dup (pc := 3) hx hb dX2_form_3 rfl ?_
  refine c_callJ (pc := 4) (val := vV) X hw (va_runI (As := []) (rest := [.ref nq3]) X.1 (tJ9_init X.2.2.1 (sz := H.size) h) (cwI 0 hts (lw_meth q428) rfl rfl rfl (hts _ q116) (hts _ q426) (hts _ q427) rfl ⟨by decide, by decide, (by decide +kernel : (parseMethodDescriptor yJ9_init.desc).map (fun d => d.parameters.length) = some 0)⟩ ⟨Nat.le_of_ble_eq_true rfl, Nat.le_of_ble_eq_true rfl⟩) ⟨cPre_blind, fun U hU hW => ⟨rfl, X.preJ hw hU hW⟩⟩ rfl rfl hl.1 rfl (lv_room (Nat.le_of_ble_eq_true rfl)) dX2_form_4 ⟨show 0 + 1 + 0 ≤ MC by omega, show 0 + 3 + 0 ≤ MS by omega⟩) (fun _ N9 H locs h hw => ?_)
  refine W.eq (g2 := F0 m 7 ls ([.ref nq3])) rfl ?_
  refine lv_astore_n (pc := 7) (lv' := [(1, .ref nq3), (0, .ref x0)]) hx hb dX2_form_7 rfl hl (by decide) rfl (fun ls hl => ?_)
  refine lv_iconst (pc := 8) (v := (0 : Int32)) hx hb dX2_form_8 (by decide) ?_
  refine lv_istore_n (pc := 9) (lv' := [(2, .int (0 : Int32)), (1, .ref nq3), (0, .ref x0)]) hx hb dX2_form_9 rfl hl (by decide) rfl (fun ls hl => ?_)
  refine lv_aload_n (pc := 10) hx hb dX2_form_10 rfl (lv_at hl 1 rfl) ?_
  refine lv_aload_n (pc := 11) hx hb dX2_form_11 rfl (lv_at hl 2 rfl) ?_
  refine lv_iconst (pc := 12) (v := (0 : Int32)) hx hb dX2_form_12 (by decide) ?_
  obtain ⟨f17, f18, f19, f20, hN16, h⟩ := h
  obtain ⟨mc12, ms13, hm14, hm15, h⟩ := h
  refine cx_callJ (pc := 13) (val := vQ) X hw (cx_runV (C := RX2) (As := [.int (0 : Int32)]) (rest := [.ref nq3]) X.1 (tX2_term hL X.2.2.1 (sz := H.size) h) (cwV 1 hts (lw_V q450 q452 qs5 q113 q453) rfl rfl rfl ⟨rfl, by decide, by decide, (by decide +kernel : (parseMethodDescriptor yX2_term.desc).map (fun d => d.parameters.length) = some 1)⟩ ⟨Nat.le_of_ble_eq_true rfl, Nat.le_of_ble_eq_true rfl⟩) ⟨cPre_blind, c_recv X hw hN16 rfl, fun U hU hW => ⟨rfl, X.preJ hw hU hW⟩⟩ rfl rfl hl.1 rfl (lv_room (Nat.le_of_ble_eq_true rfl)) dX2_form_13 ⟨show 0 + 1 + 0 + mc12 ≤ MC by omega, show 0 + 3 + 0 + ms13 ≤ MS by omega⟩) (fun q21 N22 H locs ci23 fs24 ch27 hci25 hNq26 h hw hch => ?_) (fun r10 N11 H locs h hw => ?_)
  · have hci25 := List.mem_singleton.mp hci25
    subst hci25
    have h := h fs24 hNq26
    refine cx_catchJ (pc := 13) X hw hNq26 rfl [] ⟨10, 49, 52, 41⟩ [] (by rw [hT]; rfl) ep_n rfl (by decide) q423 q664 ?_
    refine lv_astore_n (pc := 52) (lv' := [(3, .ref q21), (2, .int (0 : Int32)), (1, .ref nq3), (0, .ref x0)]) hx hb dX2_form_52 rfl hl (by decide) rfl (fun ls hl => ?_)
    obtain ⟨hm28, hm29, h⟩ := h
    refine c_newM (pc := 53) (ci := 5) (fs := [va_rf none, va_rf none, va_rf none, va_rf none, va_rf none, .int (0 : Int32), .int (0 : Int32)]) X hw in_X5 tyX5 tyX5_ok q842 q843 q127 rfl nf_X5 (show 0 + 1 + 0 + mc12 + 1 ≤ MC by omega) (show 0 + 3 + 0 + ms13 + 7 ≤ MS by omega) dX2_form_53 (fun nq30 H hq31 _ hw hf9 hMo => ?_)
    have hch := Mf.cons hf9 (hMo.all hch)
    have h := h nq30 hq31
    obtain ⟨N32, e33⟩ : ∃ z, z = va_up N22 nq30 (some (eO 5 [va_rf none, va_rf none, va_rf none, va_rf none, va_rf none, .int (0 : Int32), .int (0 : Int32)])) := ⟨_, rfl⟩
    have hw : cH G A s [] N32 H locs := by rw [e33]; exact hw
    have h := h N32 e33
    have hN34 : N32 nq30 = some (eO 5 [va_rf none, va_rf none, va_rf none, va_rf none, va_rf none, .int (0 : Int32), .int (0 : Int32)]) := by rw [e33]; exact up_s
    refine lv_dup (pc := 56) hx hb dX2_form_56 rfl ?_
    refine lv_iload_n (pc := 57) hx hb dX2_form_57 rfl (lv_at hl 1 rfl) ?_
    refine lv_aload_n (pc := 58) hx hb dX2_form_58 rfl (lv_at hl 0 rfl) ?_
    refine mo_row (dc := 0) (dn := 0) (g2 := F0 m 62 ls [.ref nq30]) X hw ⟨show 0 + 1 + 0 + mc12 + 1 ≤ MC by omega, show 0 + 3 + 0 + ms13 + 7 ≤ MS by omega⟩ (fun s Q X hw kk => by have hts := X.1.2.2.2.2; exact c_callJ (pc := 59) (Q := Q) (val := vV) X hw (va_runI (As := [.int (0 : Int32), va_rf (some q21)]) (rest := [.ref nq30]) X.1 (tX5_init X.2.2.1 (sz := H.size) h) (cwI 2 hts (lw_meth q853) rfl rfl rfl (hts _ q127) (hts _ q851) (hts _ q852) rfl ⟨by decide, by decide, (by decide +kernel : (parseMethodDescriptor yX5_init.desc).map (fun d => d.parameters.length) = some 2)⟩ ⟨Nat.le_of_ble_eq_true rfl, Nat.le_of_ble_eq_true rfl⟩) ⟨cPre_blind, fun U hU hW => ⟨rfl, X.preJ hw hU hW⟩⟩ rfl rfl hl.1 rfl (lv_room (Nat.le_of_ble_eq_true rfl)) dX2_form_59 ⟨show 0 + 0 ≤ MC - (0 + 1 + 0 + mc12 + 1) by omega, show 0 + 0 ≤ MS - (0 + 3 + 0 + ms13 + 7) by omega⟩) (fun _ N9 H1 locs1 h hw1 => kk N9 H1 locs1 h hw1)) (fun N36 H locs h hw hMo => ?_)
    have hch := hMo.all hch
    refine W.eq (g2 := F0 m 62 ls ([.ref nq30])) rfl ?_
    obtain ⟨f38, f39, f40, f41, f42, f43, f44, hN37, h⟩ := h
    refine vx_athrow (pc := 62) hx hb dX2_form_62 ?_
    exact cx_outJ (pc := 62) X hw hN37 rfl (by decide) (by rw [hT]; exact (ep_c rfl ep_n)) hlk hch h (by omega) (by omega)
  refine W.eq (g2 := F0 m 16 ls (va_rf r10 :: [.ref nq3])) rfl ?_
  obtain ⟨a45, hr46, h⟩ := h
  refine W.eq (g2 := F0 m 16 ls [.ref a45, .ref nq3]) (by rw [hr46]; rfl) ?_
  obtain ⟨f54, f55, f56, hN53, h⟩ := h
  obtain ⟨mc49, ms50, hm51, hm52, h⟩ := h
  refine c_callJ (pc := 16) (val := vI) X hw (va_runV (C := RJ9) (As := [.ref a45]) (rest := []) X.1 (tJ9_add X.2.2.1 (sz := H.size) h) (cwV 1 hts (lw_V q771 q772 q773 q116 q774) rfl rfl rfl ⟨rfl, by decide, by decide, (by decide +kernel : (parseMethodDescriptor yJ9_add.desc).map (fun d => d.parameters.length) = some 1)⟩ ⟨Nat.le_of_ble_eq_true rfl, Nat.le_of_ble_eq_true rfl⟩) ⟨cPre_blind, c_recv X hw hN53 rfl, fun U hU hW => ⟨rfl, X.preJ hw hU hW⟩⟩ rfl rfl hl.1 rfl (lv_room (Nat.le_of_ble_eq_true rfl)) dX2_form_16 ⟨show 0 + 1 + 0 + mc12 + mc49 ≤ MC by omega, show 0 + 3 + 0 + ms13 + ms50 ≤ MS by omega⟩) (fun r47 N48 H locs h hw => ?_)
  refine W.eq (g2 := F0 m 19 ls (.int r47 :: [])) rfl ?_
  refine lv_pop (pc := 19) hx hb dX2_form_19 rfl ?_
  obtain ⟨k, h⟩ := h
  exact kX2_form_20 X hr hlk hL hT  k _ _ _ _ _ _ _ _ _ _ _ h ⟨hw, by omega⟩ (lv_sub hl [2, 1, 0] rfl)

def wX2_proof_45 (K : Nat → Nat → Nat) (K17 : Nat → Option Nat → Nat → Int32 → Nat → Nat → NM → Prop) (post : Int32 → NM → Prop) (xp : Nat → List Nat → NM → Prop) (x0 : Nat) (x1 : Option Nat) (x2 : Nat) (x3 : Int32) (v0 : Int32) (v1 : Nat) (mc ms : Nat) (N : NM) : Prop :=
  ∃ f30 f31 f32 f33, N x0 = some (eO 2 [.int f30, .int f31, .int f32, va_rf f33]) ∧ (∃ f41 f42 f43 f44, N v1 = some (eO 2 [.int f41, .int f42, .int f43, va_rf f44]) ∧ (∃ mc36 ms37, mc36 ≤ mc ∧ ms37 ≤ ms ∧ wX2_must K (fun _ N35 => ∃ f76 f77 f78 f79, N35 x0 = some (eO 2 [.int f76, .int f77, .int f78, va_rf f79]) ∧ (∃ mc71 ms72, mc71 ≤ (mc - mc36) ∧ ms72 ≤ (ms - ms37) ∧ wX2_line K (fun _ N70 => ∃ f128 f129 f130 f131, N70 x0 = some (eO 2 [.int f128, .int f129, .int f130, va_rf f131]) ∧ (∃ mc123 ms124, mc123 ≤ ((mc - mc36) - mc71) ∧ ms124 ≤ ((ms - ms37) - ms72) ∧ wX2_asks K (fun _ N122 => K17 x0 x1 x2 (x3 + (1 : Int32)) (((mc - mc36) - mc71) - mc123) (((ms - ms37) - ms72) - ms124) N122) (fun q132 ch138 N133 => (∀ fs135, N133 q132 = some (eO 3 fs135) → (1 ≤ (((mc - mc36) - mc71) - mc123) ∧ 7 ≤ (((ms - ms37) - ms72) - ms124) ∧ (∀ nq141, N133 nq141 = none → (∀ N143, N143 = va_up N133 nq141 (some (eO 5 [va_rf none, va_rf none, va_rf none, va_rf none, va_rf none, .int (0 : Int32), .int (0 : Int32)])) → (wX5_init K (fun _ N147 => ∃ f149 f150 f151 f152 f153 f154 f155, N147 nq141 = some (eO 5 [va_rf f149, va_rf f150, va_rf f151, va_rf f152, va_rf f153, .int f154, .int f155]) ∧ (xp nq141 (nq141 :: ch138) N147)) N143 nq141 x3 (some q132))))))) mc123 ms124 N70 x0 (59 : Int32))) (fun q80 ch86 N81 => (∀ fs83, N81 q80 = some (eO 3 fs83) → (1 ≤ ((mc - mc36) - mc71) ∧ 7 ≤ ((ms - ms37) - ms72) ∧ (∀ nq89, N81 nq89 = none → (∀ N91, N91 = va_up N81 nq89 (some (eO 5 [va_rf none, va_rf none, va_rf none, va_rf none, va_rf none, .int (0 : Int32), .int (0 : Int32)])) → (wX5_init K (fun _ N95 => ∃ f97 f98 f99 f100 f101 f102 f103, N95 nq89 = some (eO 5 [va_rf f97, va_rf f98, va_rf f99, va_rf f100, va_rf f101, .int f102, .int f103]) ∧ (xp nq89 (nq89 :: ch86) N95)) N91 nq89 x3 (some q80)))))) ∧ (∀ fs83, N81 q80 = some (eO 4 fs83) → (1 ≤ ((mc - mc36) - mc71) ∧ 7 ≤ ((ms - ms37) - ms72) ∧ (∀ nq106, N81 nq106 = none → (∀ N108, N108 = va_up N81 nq106 (some (eO 5 [va_rf none, va_rf none, va_rf none, va_rf none, va_rf none, .int (0 : Int32), .int (0 : Int32)])) → (wX5_init K (fun _ N112 => ∃ f114 f115 f116 f117 f118 f119 f120, N112 nq106 = some (eO 5 [va_rf f114, va_rf f115, va_rf f116, va_rf f117, va_rf f118, .int f119, .int f120]) ∧ (xp nq106 (nq106 :: ch86) N112)) N108 nq106 x3 (some q80))))))) mc71 ms72 N35 x0 x1 (some x2) x3)) (fun q45 ch51 N46 => (∀ fs48, N46 q45 = some (eO 3 fs48) → (1 ≤ (mc - mc36) ∧ 7 ≤ (ms - ms37) ∧ (∀ nq54, N46 nq54 = none → (∀ N56, N56 = va_up N46 nq54 (some (eO 5 [va_rf none, va_rf none, va_rf none, va_rf none, va_rf none, .int (0 : Int32), .int (0 : Int32)])) → (wX5_init K (fun _ N60 => ∃ f62 f63 f64 f65 f66 f67 f68, N60 nq54 = some (eO 5 [va_rf f62, va_rf f63, va_rf f64, va_rf f65, va_rf f66, .int f67, .int f68]) ∧ (xp nq54 (nq54 :: ch51) N60)) N56 nq54 x3 (some q45))))))) mc36 ms37 N v1 v0 (9 : Int32) f30))
def wX2_proof_40 (K : Nat → Nat → Nat) (K17 : Nat → Option Nat → Nat → Int32 → Nat → Nat → NM → Prop) (post : Int32 → NM → Prop) (xp : Nat → List Nat → NM → Prop) (x0 : Nat) (x1 : Option Nat) (x2 : Nat) (x3 : Int32) (v0 : Nat) (mc ms : Nat) (N : NM) : Prop :=
  wX2_proof_45 K K17 post xp x0 x1 x2 x3 (1 : Int32) v0 mc ms N
def wX2_proof_17 (K : Nat → Nat → Nat) (post : Int32 → NM → Prop) (xp : Nat → List Nat → NM → Prop) : Nat → Nat → Option Nat → Nat → Int32 → Nat → Nat → NM → Prop
  | 0, _, _, _, _, _, _, _ => False
  | n + 1, x0, x1, x2, x3, mc, ms, N => ∃ f23 f24 f25 f26, N x0 = some (eO 2 [.int f23, .int f24, .int f25, va_rf f26]) ∧ (wX2_isOver K (fun r20 N21 => ((r20 = (0 : Int32)) → (((x3 < (60 : Int32)) → (wX2_proof_40 K (fun x0 x1 x2 x3 mc ms N => wX2_proof_17 K post xp n x0 x1 x2 x3 mc ms N) post xp x0 x1 x2 x3 x0 mc ms N21)) ∧ (¬ (x3 < (60 : Int32)) → (∃ f159 f160 f161 f162, N21 x0 = some (eO 2 [.int f159, .int f160, .int f161, va_rf f162]) ∧ (wX2_here K (fun r156 N157 => ((r156 = (45 : Int32)) → (wX2_proof_45 K (fun x0 x1 x2 x3 mc ms N => wX2_proof_17 K post xp n x0 x1 x2 x3 mc ms N) post xp x0 x1 x2 x3 (0 : Int32) x0 mc ms N157)) ∧ (¬ (r156 = (45 : Int32)) → (wX2_proof_40 K (fun x0 x1 x2 x3 mc ms N => wX2_proof_17 K post xp n x0 x1 x2 x3 mc ms N) post xp x0 x1 x2 x3 x0 mc ms N157))) N21 x0))))) ∧ (¬ (r20 = (0 : Int32)) → (post x3 N21))) N x0)
def wX2_proof (K : Nat → Nat → Nat) (post : Int32 → NM → Prop) (xp : Nat → List Nat → NM → Prop) (MC MS : Nat) (N : NM) (x0 : Nat) (x1 : Option Nat) : Prop :=
  1 ≤ MC ∧ 9 ≤ MS ∧ (∀ nq3, N nq3 = none → (∀ N5, N5 = va_up N nq3 (some (eO 19 [va_rf none, va_rf none, va_rf none, va_rf none, .int (0 : Int32), .int (0 : Int32), va_rf none, va_rf none, va_rf none])) → (1 ≤ (MC - 1) ∧ 0 ≤ (MS - 9) ∧ (∀ nq10, N5 nq10 = none → (∀ N12, N12 = va_up N5 nq10 (some (eO 13 [])) → (wX7_init K (fun _ N17 => wJ21_init K (fun _ N19 => (∃ k, wX2_proof_17 K post xp k x0 x1 nq3 (0 : Int32) ((MC - 1) - 1) ((MS - 9) - 0) N19)) N17 nq3 nq10) N12 nq10))))))
theorem kX2_proof_45 {p : Program} {l : Launch} {e : Env} {s : State} {m : MethodId} {args : Array Value} {below : List Frame} {meth : Method} {c : Code} {G : gG} {A : Nat → Prop} {MC MS : Nat} {K17 : Nat → Option Nat → Nat → Int32 → Nat → Nat → NM → Prop} {post : Int32 → NM → Prop} {xp : Nat → List Nat → NM → Prop} (X : cX G A RX2 p s m args c cX2_proof 5) (hr : meth.sig.returnType = (some .int)) (hlk : meth.locks = false) (hL : l.stackTraces = false) (hT : c.exceptionTable.toList = tableOf [(24, 67, 70, 41), (24, 67, 70, 177)]) (hK17 : ∀ (x0 : Nat) (x1 : Option Nat) (x2 : Nat) (x3 : Int32) (mc ms : Nat) (N : NM) (H : Heap) (locs : List Loc) (ls : Array Slot) (cells slots : Nat), K17 x0 x1 x2 x3 mc ms N → (cH G A s [] N H locs ∧ cells + mc ≤ MC ∧ slots + ms ≤ MS) → lv_has ls 5 [(0, .ref x0), (1, va_rf x1), (2, .ref x2), (3, .int x3)] → W p l e ⟨9, MC, MS, 243⟩ s m args below meth c H locs cells slots (cx_MQ below (gQ vI post (fun u H => cBw G A (jW u).1 (jW u).2 H) A) (cXC G A [5] xp) args s MC MS A) (F0 m 17 ls [])) : ∀ (x0 : Nat) (x1 : Option Nat) (x2 : Nat) (x3 : Int32) (v0 : Int32) (v1 : Nat) (mc ms : Nat) (N : NM) (H : Heap) (locs : List Loc) (ls : Array Slot) (cells slots : Nat), wX2_proof_45 (gC G) K17 post xp x0 x1 x2 x3 v0 v1 mc ms N → (cH G A s [] N H locs ∧ cells + mc ≤ MC ∧ slots + ms ≤ MS) → lv_has ls 5 [(0, .ref x0), (1, va_rf x1), (2, .ref x2), (3, .int x3)] → W p l e ⟨9, MC, MS, 243⟩ s m args below meth c H locs cells slots (cx_MQ below (gQ vI post (fun u H => cBw G A (jW u).1 (jW u).2 H) A) (cXC G A [5] xp) args s MC MS A) (F0 m 45 ls [.int v0, .ref v1]) := by
  have hx := X.1.1
  have hb := X.1.2.1
  have hml := X.1.2.2.1
  have hown := X.1.2.2.2.1
  have hts := X.1.2.2.2.2
  intro x0 x1 x2 x3 v0 v1 mc ms N H locs ls cells slots h hw0 hl
  obtain ⟨hw, hbud⟩ := hw0
  unfold wX2_proof_45 at h
  refine lv_bipush (pc := 45) (v := (9 : Int32)) hx hb dX2_proof_45 (by decide) ?_
  refine lv_aload_n (pc := 47) hx hb dX2_proof_47 rfl (lv_at hl 0 rfl) ?_
  obtain ⟨f30, f31, f32, f33, hN29, h⟩ := h
  refine c_get (pc := 48) X hw hN29 in_X2 rfl 0 (by decide) q406 rfl rfl dX2_proof_48 ?_
  obtain ⟨f41, f42, f43, f44, hN40, h⟩ := h
  obtain ⟨mc36, ms37, hm38, hm39, h⟩ := h
  refine cx_callJ (pc := 51) (val := vV) X hw (cx_runV (C := RX2) (As := [.int v0, .int (9 : Int32), .int f30]) (rest := []) X.1 (tX2_must hL X.2.2.1 (sz := H.size) h) (cwV 3 hts (lw_V q659 q661 qs9 q113 q662) rfl rfl rfl ⟨rfl, by decide, by decide, (by decide +kernel : (parseMethodDescriptor yX2_must.desc).map (fun d => d.parameters.length) = some 3)⟩ ⟨Nat.le_of_ble_eq_true rfl, Nat.le_of_ble_eq_true rfl⟩) ⟨cPre_blind, c_recv X hw hN40 rfl, fun U hU hW => ⟨rfl, X.preJ hw hU hW⟩⟩ rfl rfl hl.1 rfl (lv_room (Nat.le_of_ble_eq_true rfl)) dX2_proof_51 ⟨show cells + mc36 ≤ MC by omega, show slots + ms37 ≤ MS by omega⟩) (fun q45 N46 H locs ci47 fs48 ch51 hci49 hNq50 h hw hch => ?_) (fun _ N35 H locs h hw => ?_)
  · have hci49 := List.mem_singleton.mp hci49
    subst hci49
    have h := h fs48 hNq50
    refine cx_catchJ (pc := 51) X hw hNq50 rfl [] ⟨24, 67, 70, 41⟩ [⟨24, 67, 70, 177⟩] (by rw [hT]; rfl) ep_n rfl (by decide) q423 q664 ?_
    refine lv_astore (pc := 70) (lv' := [(4, .ref q45), (0, .ref x0), (1, va_rf x1), (2, .ref x2), (3, .int x3)]) hx hb dX2_proof_70 hl (by decide) rfl (fun ls hl => ?_)
    obtain ⟨hm52, hm53, h⟩ := h
    refine c_newM (pc := 72) (ci := 5) (fs := [va_rf none, va_rf none, va_rf none, va_rf none, va_rf none, .int (0 : Int32), .int (0 : Int32)]) X hw in_X5 tyX5 tyX5_ok q842 q843 q127 rfl nf_X5 (show cells + mc36 + 1 ≤ MC by omega) (show slots + ms37 + 7 ≤ MS by omega) dX2_proof_72 (fun nq54 H hq55 _ hw hf9 hMo => ?_)
    have hch := Mf.cons hf9 (hMo.all hch)
    have h := h nq54 hq55
    obtain ⟨N56, e57⟩ : ∃ z, z = va_up N46 nq54 (some (eO 5 [va_rf none, va_rf none, va_rf none, va_rf none, va_rf none, .int (0 : Int32), .int (0 : Int32)])) := ⟨_, rfl⟩
    have hw : cH G A s [] N56 H locs := by rw [e57]; exact hw
    have h := h N56 e57
    have hN58 : N56 nq54 = some (eO 5 [va_rf none, va_rf none, va_rf none, va_rf none, va_rf none, .int (0 : Int32), .int (0 : Int32)]) := by rw [e57]; exact up_s
    refine lv_dup (pc := 75) hx hb dX2_proof_75 rfl ?_
    refine lv_iload_n (pc := 76) hx hb dX2_proof_76 rfl (lv_at hl 4 rfl) ?_
    refine lv_aload (pc := 77) hx hb dX2_proof_77 (lv_at hl 0 rfl) ?_
    refine mo_row (dc := 0) (dn := 0) (g2 := F0 m 82 ls [.ref nq54]) X hw ⟨show cells + mc36 + 1 ≤ MC by omega, show slots + ms37 + 7 ≤ MS by omega⟩ (fun s Q X hw kk => by have hts := X.1.2.2.2.2; exact c_callJ (pc := 79) (Q := Q) (val := vV) X hw (va_runI (As := [.int x3, va_rf (some q45)]) (rest := [.ref nq54]) X.1 (tX5_init X.2.2.1 (sz := H.size) h) (cwI 2 hts (lw_meth q853) rfl rfl rfl (hts _ q127) (hts _ q851) (hts _ q852) rfl ⟨by decide, by decide, (by decide +kernel : (parseMethodDescriptor yX5_init.desc).map (fun d => d.parameters.length) = some 2)⟩ ⟨Nat.le_of_ble_eq_true rfl, Nat.le_of_ble_eq_true rfl⟩) ⟨cPre_blind, fun U hU hW => ⟨rfl, X.preJ hw hU hW⟩⟩ rfl rfl hl.1 rfl (lv_room (Nat.le_of_ble_eq_true rfl)) dX2_proof_79 ⟨show 0 + 0 ≤ MC - (cells + mc36 + 1) by omega, show 0 + 0 ≤ MS - (slots + ms37 + 7) by omega⟩) (fun _ N9 H1 locs1 h hw1 => kk N9 H1 locs1 h hw1)) (fun N60 H locs h hw hMo => ?_)
    have hch := hMo.all hch
    refine W.eq (g2 := F0 m 82 ls ([.ref nq54])) rfl ?_
    obtain ⟨f62, f63, f64, f65, f66, f67, f68, hN61, h⟩ := h
    refine vx_athrow (pc := 82) hx hb dX2_proof_82 ?_
    exact cx_outJ (pc := 82) X hw hN61 rfl (by decide) (by rw [hT]; exact (ep_c rfl (ep_c rfl ep_n))) hlk hch h (by omega) (by omega)
  refine W.eq (g2 := F0 m 54 ls ([])) rfl ?_
  refine lv_aload_n (pc := 54) hx hb dX2_proof_54 rfl (lv_at hl 0 rfl) ?_
  refine lq_aload_n (pc := 55) hx hb dX2_proof_55 rfl (lv_at hl 1 rfl) ?_
  refine lv_aload_n (pc := 56) hx hb dX2_proof_56 rfl (lv_at hl 2 rfl) ?_
  refine lv_iload_n (pc := 57) hx hb dX2_proof_57 rfl (lv_at hl 3 rfl) ?_
  obtain ⟨f76, f77, f78, f79, hN75, h⟩ := h
  obtain ⟨mc71, ms72, hm73, hm74, h⟩ := h
  refine cx_callJ (pc := 58) (val := vV) X hw (cx_runVX (C := RX2) (As := [va_rf x1, va_rf (some x2), .int x3]) (rest := []) X.1 (tX2_line hL X.2.2.1 (sz := H.size) h) (vx_cwVW 3 hts (lw_VW q971 q973 qs21 q113 q974) rfl rfl rfl ⟨rfl, by decide, by decide, (by decide +kernel : (parseMethodDescriptor yX2_line.desc).map (fun d => d.parameters.length) = some 3)⟩ ⟨Nat.le_of_ble_eq_true rfl, Nat.le_of_ble_eq_true rfl⟩) ⟨cPre_blind, c_recv X hw hN75 rfl, fun U hU hW => ⟨rfl, X.preJ hw hU hW⟩⟩ rfl rfl hl.1 rfl (lv_room (Nat.le_of_ble_eq_true rfl)) dX2_proof_58 ⟨show cells + mc36 + mc71 ≤ MC by omega, show slots + ms37 + ms72 ≤ MS by omega⟩) (fun q80 N81 H locs ci82 fs83 ch86 hci84 hNq85 h hw hch => ?_) (fun _ N70 H locs h hw => ?_)
  · rcases (show ci82 = 3 ∨ ci82 = 4 by simpa using hci84) with hci84 | hci84
    · subst hci84
      have h := h.1 fs83 hNq85
      refine cx_catchJ (pc := 58) X hw hNq85 rfl [] ⟨24, 67, 70, 41⟩ [⟨24, 67, 70, 177⟩] (by rw [hT]; rfl) ep_n rfl (by decide) q423 q664 ?_
      refine lv_astore (pc := 70) (lv' := [(4, .ref q80), (0, .ref x0), (1, va_rf x1), (2, .ref x2), (3, .int x3)]) hx hb dX2_proof_70 hl (by decide) rfl (fun ls hl => ?_)
      obtain ⟨hm87, hm88, h⟩ := h
      refine c_newM (pc := 72) (ci := 5) (fs := [va_rf none, va_rf none, va_rf none, va_rf none, va_rf none, .int (0 : Int32), .int (0 : Int32)]) X hw in_X5 tyX5 tyX5_ok q842 q843 q127 rfl nf_X5 (show cells + mc36 + mc71 + 1 ≤ MC by omega) (show slots + ms37 + ms72 + 7 ≤ MS by omega) dX2_proof_72 (fun nq89 H hq90 _ hw hf9 hMo => ?_)
      have hch := Mf.cons hf9 (hMo.all hch)
      have h := h nq89 hq90
      obtain ⟨N91, e92⟩ : ∃ z, z = va_up N81 nq89 (some (eO 5 [va_rf none, va_rf none, va_rf none, va_rf none, va_rf none, .int (0 : Int32), .int (0 : Int32)])) := ⟨_, rfl⟩
      have hw : cH G A s [] N91 H locs := by rw [e92]; exact hw
      have h := h N91 e92
      have hN93 : N91 nq89 = some (eO 5 [va_rf none, va_rf none, va_rf none, va_rf none, va_rf none, .int (0 : Int32), .int (0 : Int32)]) := by rw [e92]; exact up_s
      refine lv_dup (pc := 75) hx hb dX2_proof_75 rfl ?_
      refine lv_iload_n (pc := 76) hx hb dX2_proof_76 rfl (lv_at hl 4 rfl) ?_
      refine lv_aload (pc := 77) hx hb dX2_proof_77 (lv_at hl 0 rfl) ?_
      refine mo_row (dc := 0) (dn := 0) (g2 := F0 m 82 ls [.ref nq89]) X hw ⟨show cells + mc36 + mc71 + 1 ≤ MC by omega, show slots + ms37 + ms72 + 7 ≤ MS by omega⟩ (fun s Q X hw kk => by have hts := X.1.2.2.2.2; exact c_callJ (pc := 79) (Q := Q) (val := vV) X hw (va_runI (As := [.int x3, va_rf (some q80)]) (rest := [.ref nq89]) X.1 (tX5_init X.2.2.1 (sz := H.size) h) (cwI 2 hts (lw_meth q853) rfl rfl rfl (hts _ q127) (hts _ q851) (hts _ q852) rfl ⟨by decide, by decide, (by decide +kernel : (parseMethodDescriptor yX5_init.desc).map (fun d => d.parameters.length) = some 2)⟩ ⟨Nat.le_of_ble_eq_true rfl, Nat.le_of_ble_eq_true rfl⟩) ⟨cPre_blind, fun U hU hW => ⟨rfl, X.preJ hw hU hW⟩⟩ rfl rfl hl.1 rfl (lv_room (Nat.le_of_ble_eq_true rfl)) dX2_proof_79 ⟨show 0 + 0 ≤ MC - (cells + mc36 + mc71 + 1) by omega, show 0 + 0 ≤ MS - (slots + ms37 + ms72 + 7) by omega⟩) (fun _ N9 H1 locs1 h hw1 => kk N9 H1 locs1 h hw1)) (fun N95 H locs h hw hMo => ?_)
      have hch := hMo.all hch
      refine W.eq (g2 := F0 m 82 ls ([.ref nq89])) rfl ?_
      obtain ⟨f97, f98, f99, f100, f101, f102, f103, hN96, h⟩ := h
      refine vx_athrow (pc := 82) hx hb dX2_proof_82 ?_
      exact cx_outJ (pc := 82) X hw hN96 rfl (by decide) (by rw [hT]; exact (ep_c rfl (ep_c rfl ep_n))) hlk hch h (by omega) (by omega)
    · subst hci84
      have h := h.2 fs83 hNq85
      refine cx_catchJ (pc := 58) X hw hNq85 rfl [⟨24, 67, 70, 41⟩] ⟨24, 67, 70, 177⟩ [] (by rw [hT]; rfl) (ep_c (Or.inr ⟨by decide, "ToldPowers$Wrong", X.1.2.2.2.2 _ q423, X.nc (and_l (and_r (and_l (and_l (and_r (and_l (and_r (and_r (and_r (and_l X.nar))))))))))⟩) ep_n) rfl (by decide) q931 q1394 ?_
      refine lv_astore (pc := 70) (lv' := [(4, .ref q80), (0, .ref x0), (1, va_rf x1), (2, .ref x2), (3, .int x3)]) hx hb dX2_proof_70 hl (by decide) rfl (fun ls hl => ?_)
      obtain ⟨hm104, hm105, h⟩ := h
      refine c_newM (pc := 72) (ci := 5) (fs := [va_rf none, va_rf none, va_rf none, va_rf none, va_rf none, .int (0 : Int32), .int (0 : Int32)]) X hw in_X5 tyX5 tyX5_ok q842 q843 q127 rfl nf_X5 (show cells + mc36 + mc71 + 1 ≤ MC by omega) (show slots + ms37 + ms72 + 7 ≤ MS by omega) dX2_proof_72 (fun nq106 H hq107 _ hw hf9 hMo => ?_)
      have hch := Mf.cons hf9 (hMo.all hch)
      have h := h nq106 hq107
      obtain ⟨N108, e109⟩ : ∃ z, z = va_up N81 nq106 (some (eO 5 [va_rf none, va_rf none, va_rf none, va_rf none, va_rf none, .int (0 : Int32), .int (0 : Int32)])) := ⟨_, rfl⟩
      have hw : cH G A s [] N108 H locs := by rw [e109]; exact hw
      have h := h N108 e109
      have hN110 : N108 nq106 = some (eO 5 [va_rf none, va_rf none, va_rf none, va_rf none, va_rf none, .int (0 : Int32), .int (0 : Int32)]) := by rw [e109]; exact up_s
      refine lv_dup (pc := 75) hx hb dX2_proof_75 rfl ?_
      refine lv_iload_n (pc := 76) hx hb dX2_proof_76 rfl (lv_at hl 4 rfl) ?_
      refine lv_aload (pc := 77) hx hb dX2_proof_77 (lv_at hl 0 rfl) ?_
      refine mo_row (dc := 0) (dn := 0) (g2 := F0 m 82 ls [.ref nq106]) X hw ⟨show cells + mc36 + mc71 + 1 ≤ MC by omega, show slots + ms37 + ms72 + 7 ≤ MS by omega⟩ (fun s Q X hw kk => by have hts := X.1.2.2.2.2; exact c_callJ (pc := 79) (Q := Q) (val := vV) X hw (va_runI (As := [.int x3, va_rf (some q80)]) (rest := [.ref nq106]) X.1 (tX5_init X.2.2.1 (sz := H.size) h) (cwI 2 hts (lw_meth q853) rfl rfl rfl (hts _ q127) (hts _ q851) (hts _ q852) rfl ⟨by decide, by decide, (by decide +kernel : (parseMethodDescriptor yX5_init.desc).map (fun d => d.parameters.length) = some 2)⟩ ⟨Nat.le_of_ble_eq_true rfl, Nat.le_of_ble_eq_true rfl⟩) ⟨cPre_blind, fun U hU hW => ⟨rfl, X.preJ hw hU hW⟩⟩ rfl rfl hl.1 rfl (lv_room (Nat.le_of_ble_eq_true rfl)) dX2_proof_79 ⟨show 0 + 0 ≤ MC - (cells + mc36 + mc71 + 1) by omega, show 0 + 0 ≤ MS - (slots + ms37 + ms72 + 7) by omega⟩) (fun _ N9 H1 locs1 h hw1 => kk N9 H1 locs1 h hw1)) (fun N112 H locs h hw hMo => ?_)
      have hch := hMo.all hch
      refine W.eq (g2 := F0 m 82 ls ([.ref nq106])) rfl ?_
      obtain ⟨f114, f115, f116, f117, f118, f119, f120, hN113, h⟩ := h
      refine vx_athrow (pc := 82) hx hb dX2_proof_82 ?_
      exact cx_outJ (pc := 82) X hw hN113 rfl (by decide) (by rw [hT]; exact (ep_c rfl (ep_c rfl ep_n))) hlk hch h (by omega) (by omega)
  refine W.eq (g2 := F0 m 61 ls ([])) rfl ?_
  refine lv_aload_n (pc := 61) hx hb dX2_proof_61 rfl (lv_at hl 0 rfl) ?_
  refine lv_bipush (pc := 62) (v := (59 : Int32)) hx hb dX2_proof_62 (by decide) ?_
  obtain ⟨f128, f129, f130, f131, hN127, h⟩ := h
  obtain ⟨mc123, ms124, hm125, hm126, h⟩ := h
  refine cx_callJ (pc := 64) (val := vV) X hw (cx_runV (C := RX2) (As := [.int (59 : Int32)]) (rest := []) X.1 (tX2_asks hL X.2.2.1 (sz := H.size) h) (cwV 1 hts (lw_V q838 q840 qs19 q113 q841) rfl rfl rfl ⟨rfl, by decide, by decide, (by decide +kernel : (parseMethodDescriptor yX2_asks.desc).map (fun d => d.parameters.length) = some 1)⟩ ⟨Nat.le_of_ble_eq_true rfl, Nat.le_of_ble_eq_true rfl⟩) ⟨cPre_blind, c_recv X hw hN127 rfl, fun U hU hW => ⟨rfl, X.preJ hw hU hW⟩⟩ rfl rfl hl.1 rfl (lv_room (Nat.le_of_ble_eq_true rfl)) dX2_proof_64 ⟨show cells + mc36 + mc71 + mc123 ≤ MC by omega, show slots + ms37 + ms72 + ms124 ≤ MS by omega⟩) (fun q132 N133 H locs ci134 fs135 ch138 hci136 hNq137 h hw hch => ?_) (fun _ N122 H locs h hw => ?_)
  · have hci136 := List.mem_singleton.mp hci136
    subst hci136
    have h := h fs135 hNq137
    refine cx_catchJ (pc := 64) X hw hNq137 rfl [] ⟨24, 67, 70, 41⟩ [⟨24, 67, 70, 177⟩] (by rw [hT]; rfl) ep_n rfl (by decide) q423 q664 ?_
    refine lv_astore (pc := 70) (lv' := [(4, .ref q132), (0, .ref x0), (1, va_rf x1), (2, .ref x2), (3, .int x3)]) hx hb dX2_proof_70 hl (by decide) rfl (fun ls hl => ?_)
    obtain ⟨hm139, hm140, h⟩ := h
    refine c_newM (pc := 72) (ci := 5) (fs := [va_rf none, va_rf none, va_rf none, va_rf none, va_rf none, .int (0 : Int32), .int (0 : Int32)]) X hw in_X5 tyX5 tyX5_ok q842 q843 q127 rfl nf_X5 (show cells + mc36 + mc71 + mc123 + 1 ≤ MC by omega) (show slots + ms37 + ms72 + ms124 + 7 ≤ MS by omega) dX2_proof_72 (fun nq141 H hq142 _ hw hf9 hMo => ?_)
    have hch := Mf.cons hf9 (hMo.all hch)
    have h := h nq141 hq142
    obtain ⟨N143, e144⟩ : ∃ z, z = va_up N133 nq141 (some (eO 5 [va_rf none, va_rf none, va_rf none, va_rf none, va_rf none, .int (0 : Int32), .int (0 : Int32)])) := ⟨_, rfl⟩
    have hw : cH G A s [] N143 H locs := by rw [e144]; exact hw
    have h := h N143 e144
    have hN145 : N143 nq141 = some (eO 5 [va_rf none, va_rf none, va_rf none, va_rf none, va_rf none, .int (0 : Int32), .int (0 : Int32)]) := by rw [e144]; exact up_s
    refine lv_dup (pc := 75) hx hb dX2_proof_75 rfl ?_
    refine lv_iload_n (pc := 76) hx hb dX2_proof_76 rfl (lv_at hl 4 rfl) ?_
    refine lv_aload (pc := 77) hx hb dX2_proof_77 (lv_at hl 0 rfl) ?_
    refine mo_row (dc := 0) (dn := 0) (g2 := F0 m 82 ls [.ref nq141]) X hw ⟨show cells + mc36 + mc71 + mc123 + 1 ≤ MC by omega, show slots + ms37 + ms72 + ms124 + 7 ≤ MS by omega⟩ (fun s Q X hw kk => by have hts := X.1.2.2.2.2; exact c_callJ (pc := 79) (Q := Q) (val := vV) X hw (va_runI (As := [.int x3, va_rf (some q132)]) (rest := [.ref nq141]) X.1 (tX5_init X.2.2.1 (sz := H.size) h) (cwI 2 hts (lw_meth q853) rfl rfl rfl (hts _ q127) (hts _ q851) (hts _ q852) rfl ⟨by decide, by decide, (by decide +kernel : (parseMethodDescriptor yX5_init.desc).map (fun d => d.parameters.length) = some 2)⟩ ⟨Nat.le_of_ble_eq_true rfl, Nat.le_of_ble_eq_true rfl⟩) ⟨cPre_blind, fun U hU hW => ⟨rfl, X.preJ hw hU hW⟩⟩ rfl rfl hl.1 rfl (lv_room (Nat.le_of_ble_eq_true rfl)) dX2_proof_79 ⟨show 0 + 0 ≤ MC - (cells + mc36 + mc71 + mc123 + 1) by omega, show 0 + 0 ≤ MS - (slots + ms37 + ms72 + ms124 + 7) by omega⟩) (fun _ N9 H1 locs1 h hw1 => kk N9 H1 locs1 h hw1)) (fun N147 H locs h hw hMo => ?_)
    have hch := hMo.all hch
    refine W.eq (g2 := F0 m 82 ls ([.ref nq141])) rfl ?_
    obtain ⟨f149, f150, f151, f152, f153, f154, f155, hN148, h⟩ := h
    refine vx_athrow (pc := 82) hx hb dX2_proof_82 ?_
    exact cx_outJ (pc := 82) X hw hN148 rfl (by decide) (by rw [hT]; exact (ep_c rfl (ep_c rfl ep_n))) hlk hch h (by omega) (by omega)
  refine W.eq (g2 := F0 m 67 ls ([])) rfl ?_
  refine lv_goto (pc := 67) (tgt := 83) hx hb dX2_proof_67 rfl ?_
  refine lv_iinc (pc := 83) (v := x3 + (1 : Int32)) (lv' := [(3, .int (x3 + (1 : Int32))), (0, .ref x0), (1, va_rf x1), (2, .ref x2)]) hx hb dX2_proof_83 hl (k := 3) rfl rfl (by decide) rfl (fun ls hl => ?_)
  refine lv_goto (pc := 86) (tgt := 17) hx hb dX2_proof_86 rfl ?_
  exact hK17 _ _ _ _ _ _ _ _ _ _ _ _ h ⟨hw, by omega⟩ (lv_sub hl [1, 2, 3, 0] rfl)
theorem kX2_proof_40 {p : Program} {l : Launch} {e : Env} {s : State} {m : MethodId} {args : Array Value} {below : List Frame} {meth : Method} {c : Code} {G : gG} {A : Nat → Prop} {MC MS : Nat} {K17 : Nat → Option Nat → Nat → Int32 → Nat → Nat → NM → Prop} {post : Int32 → NM → Prop} {xp : Nat → List Nat → NM → Prop} (X : cX G A RX2 p s m args c cX2_proof 5) (hr : meth.sig.returnType = (some .int)) (hlk : meth.locks = false) (hL : l.stackTraces = false) (hT : c.exceptionTable.toList = tableOf [(24, 67, 70, 41), (24, 67, 70, 177)]) (hK17 : ∀ (x0 : Nat) (x1 : Option Nat) (x2 : Nat) (x3 : Int32) (mc ms : Nat) (N : NM) (H : Heap) (locs : List Loc) (ls : Array Slot) (cells slots : Nat), K17 x0 x1 x2 x3 mc ms N → (cH G A s [] N H locs ∧ cells + mc ≤ MC ∧ slots + ms ≤ MS) → lv_has ls 5 [(0, .ref x0), (1, va_rf x1), (2, .ref x2), (3, .int x3)] → W p l e ⟨9, MC, MS, 243⟩ s m args below meth c H locs cells slots (cx_MQ below (gQ vI post (fun u H => cBw G A (jW u).1 (jW u).2 H) A) (cXC G A [5] xp) args s MC MS A) (F0 m 17 ls [])) : ∀ (x0 : Nat) (x1 : Option Nat) (x2 : Nat) (x3 : Int32) (v0 : Nat) (mc ms : Nat) (N : NM) (H : Heap) (locs : List Loc) (ls : Array Slot) (cells slots : Nat), wX2_proof_40 (gC G) K17 post xp x0 x1 x2 x3 v0 mc ms N → (cH G A s [] N H locs ∧ cells + mc ≤ MC ∧ slots + ms ≤ MS) → lv_has ls 5 [(0, .ref x0), (1, va_rf x1), (2, .ref x2), (3, .int x3)] → W p l e ⟨9, MC, MS, 243⟩ s m args below meth c H locs cells slots (cx_MQ below (gQ vI post (fun u H => cBw G A (jW u).1 (jW u).2 H) A) (cXC G A [5] xp) args s MC MS A) (F0 m 40 ls [.ref v0]) := by
  have hx := X.1.1
  have hb := X.1.2.1
  have hml := X.1.2.2.1
  have hown := X.1.2.2.2.1
  have hts := X.1.2.2.2.2
  intro x0 x1 x2 x3 v0 mc ms N H locs ls cells slots h hw0 hl
  obtain ⟨hw, hbud⟩ := hw0
  unfold wX2_proof_40 at h
  refine lv_iconst (pc := 40) (v := (1 : Int32)) hx hb dX2_proof_40 (by decide) ?_
  refine lv_goto (pc := 41) (tgt := 45) hx hb dX2_proof_41 rfl ?_
  exact kX2_proof_45 X hr hlk hL hT hK17 _ _ _ _ _ _ _ _ _ _ _ _ _ _ h ⟨hw, by omega⟩ (lv_sub hl [0, 1, 2, 3] rfl)
theorem kX2_proof_17 {p : Program} {l : Launch} {e : Env} {s : State} {m : MethodId} {args : Array Value} {below : List Frame} {meth : Method} {c : Code} {G : gG} {A : Nat → Prop} {MC MS : Nat} {post : Int32 → NM → Prop} {xp : Nat → List Nat → NM → Prop} (X : cX G A RX2 p s m args c cX2_proof 5) (hr : meth.sig.returnType = (some .int)) (hlk : meth.locks = false) (hL : l.stackTraces = false) (hT : c.exceptionTable.toList = tableOf [(24, 67, 70, 41), (24, 67, 70, 177)]) : ∀ (n : Nat) (x0 : Nat) (x1 : Option Nat) (x2 : Nat) (x3 : Int32) (mc ms : Nat) (N : NM) (H : Heap) (locs : List Loc) (ls : Array Slot) (cells slots : Nat), wX2_proof_17 (gC G) post xp n x0 x1 x2 x3 mc ms N → (cH G A s [] N H locs ∧ cells + mc ≤ MC ∧ slots + ms ≤ MS) → lv_has ls 5 [(0, .ref x0), (1, va_rf x1), (2, .ref x2), (3, .int x3)] → W p l e ⟨9, MC, MS, 243⟩ s m args below meth c H locs cells slots (cx_MQ below (gQ vI post (fun u H => cBw G A (jW u).1 (jW u).2 H) A) (cXC G A [5] xp) args s MC MS A) (F0 m 17 ls []) := by
  have hx := X.1.1
  have hb := X.1.2.1
  have hml := X.1.2.2.1
  have hown := X.1.2.2.2.1
  have hts := X.1.2.2.2.2
  intro n
  induction n with
  | zero =>
    intro x0 x1 x2 x3 mc ms N H locs ls cells slots h
    exact False.elim h
  | succ n ih =>
    intro x0 x1 x2 x3 mc ms N H locs ls cells slots h hw0 hl
    obtain ⟨hw, hbud⟩ := hw0
    unfold wX2_proof_17 at h
    refine lv_aload_n (pc := 17) hx hb dX2_proof_17 rfl (lv_at hl 0 rfl) ?_
    obtain ⟨f23, f24, f25, f26, hN22, h⟩ := h
    refine c_callJ (pc := 18) (val := vI) X hw (va_runV (C := RX2) (As := []) (rest := []) X.1 (tX2_isOver X.2.2.1 (sz := H.size) h) (cwV 0 hts (lw_V q834 q836 qs18 q113 q837) rfl rfl rfl ⟨rfl, by decide, by decide, (by decide +kernel : (parseMethodDescriptor yX2_isOver.desc).map (fun d => d.parameters.length) = some 0)⟩ ⟨Nat.le_of_ble_eq_true rfl, Nat.le_of_ble_eq_true rfl⟩) ⟨cPre_blind, c_recv X hw hN22 rfl, fun U hU hW => ⟨rfl, X.preJ hw hU hW⟩⟩ rfl rfl hl.1 rfl (lv_room (Nat.le_of_ble_eq_true rfl)) dX2_proof_18 ⟨show cells + 0 ≤ MC by omega, show slots + 0 ≤ MS by omega⟩) (fun r20 N21 H locs h hw => ?_)
    refine W.eq (g2 := F0 m 21 ls (.int r20 :: [])) rfl ?_
    refine lv_if_ne (pc := 21) (tgt := 89) hx hb dX2_proof_21 rfl (fun c27 => ?_) (fun c27 => ?_)
    · have h := h.2 c27
      refine lv_iload_n (pc := 89) hx hb dX2_proof_89 rfl (lv_at hl 3 rfl) ?_
      refine W.widen (k := MC) (n := MS) (by omega) (by omega) ?_
      refine cx_ret ?_
      exact W.iret (pc := 90) hx hb hr (fun t ht hW => c_ret (val := vI) (lw := jW) (u := N21) hw h ht) hw.2.2.2 dX2_proof_90 hlk
    · have h := h.1 c27
      refine lv_aload_n (pc := 24) hx hb dX2_proof_24 rfl (lv_at hl 0 rfl) ?_
      refine lv_iload_n (pc := 25) hx hb dX2_proof_25 rfl (lv_at hl 3 rfl) ?_
      refine lv_bipush (pc := 26) (v := (60 : Int32)) hx hb dX2_proof_26 (by decide) ?_
      refine lv_icmp_lt (pc := 28) (tgt := 40) hx hb dX2_proof_28 rfl (fun c28 => ?_) (fun c28 => ?_)
      · have h := h.1 c28
        exact kX2_proof_40 X hr hlk hL hT ih _ _ _ _ _ _ _ _ _ _ _ _ _ h ⟨hw, by omega⟩ (lv_sub hl [0, 1, 2, 3] rfl)
      · have h := h.2 c28
        refine lv_aload_n (pc := 31) hx hb dX2_proof_31 rfl (lv_at hl 0 rfl) ?_
        obtain ⟨f159, f160, f161, f162, hN158, h⟩ := h
        refine c_callJ (pc := 32) (val := vI) X hw (va_runV (C := RX2) (As := []) (rest := [.ref x0]) X.1 (tX2_here X.2.2.1 (sz := H.size) h) (cwV 0 hts (lw_V q402 q404 qs4 q113 q405) rfl rfl rfl ⟨rfl, by decide, by decide, (by decide +kernel : (parseMethodDescriptor yX2_here.desc).map (fun d => d.parameters.length) = some 0)⟩ ⟨Nat.le_of_ble_eq_true rfl, Nat.le_of_ble_eq_true rfl⟩) ⟨cPre_blind, c_recv X hw hN158 rfl, fun U hU hW => ⟨rfl, X.preJ hw hU hW⟩⟩ rfl rfl hl.1 rfl (lv_room (Nat.le_of_ble_eq_true rfl)) dX2_proof_32 ⟨show cells + 0 + 0 ≤ MC by omega, show slots + 0 + 0 ≤ MS by omega⟩) (fun r156 N157 H locs h hw => ?_)
        refine W.eq (g2 := F0 m 35 ls (.int r156 :: [.ref x0])) rfl ?_
        refine lv_bipush (pc := 35) (v := (45 : Int32)) hx hb dX2_proof_35 (by decide) ?_
        refine lv_icmp_eq (pc := 37) (tgt := 44) hx hb dX2_proof_37 rfl (fun c163 => ?_) (fun c163 => ?_)
        · have h := h.1 c163
          refine lv_iconst (pc := 44) (v := (0 : Int32)) hx hb dX2_proof_44 (by decide) ?_
          exact kX2_proof_45 X hr hlk hL hT ih _ _ _ _ _ _ _ _ _ _ _ _ _ _ h ⟨hw, by omega⟩ (lv_sub hl [0, 1, 2, 3] rfl)
        · have h := h.2 c163
          exact kX2_proof_40 X hr hlk hL hT ih _ _ _ _ _ _ _ _ _ _ _ _ _ h ⟨hw, by omega⟩ (lv_sub hl [0, 1, 2, 3] rfl)
theorem tX2_proof {l : Launch} (hL : l.stackTraces = false) {G : gG} (hO : gOk G) {post : Int32 → NM → Prop} {xp : Nat → List Nat → NM → Prop} {MC MS : Nat} {N : NM} {x0 : Nat} {x1 : Option Nat} {sz : Nat} (h : wX2_proof (gC G) post xp MC MS N x0 x1) : cx_Met l yX2_proof (wsW_ yX2_proof cX2_proof 5 (some .int) [(24, 67, 70, 41), (24, 67, 70, 177)]) ⟨9, MC, MS, 243⟩ (va_Pc [.ref x0, va_rf x1] (cPre G [] N sz)) (gQ vI post (fun u H => cBw G (cA [] N sz) (jW u).1 (jW u).2 H) (cA [] N sz)) (cXC G (cA [] N sz) [5] xp) MC MS (cA [] N sz) := by
  refine c_ofXH (B := fun A u H => cBw G A (jW u).1 (jW u).2 H) (by decide) hO (by cases x1 <;> exact Nat.le_of_ble_eq_true rfl) (fun p e s m below meth c ls A X hr hlk hT hw hl => ?_)
  have hl : lv_has ls 5 [(0, .ref x0), (1, va_rf x1)] := by cases x1 <;> exact hl
  have hx := X.1.1
  have hb := X.1.2.1
  have hml := X.1.2.2.1
  have hown := X.1.2.2.2.1
  have hts := X.1.2.2.2.2
  obtain ⟨H, eH⟩ : ∃ z, z = s.heap := ⟨_, rfl⟩
  rw [← eH] at hw ⊢
  obtain ⟨locs, eLo⟩ : ∃ z : List Loc, z = [] := ⟨_, rfl⟩
  rw [← eLo] at hw ⊢
  have hbud : 0 + MC ≤ MC ∧ 0 + MS ≤ MS := by omega
  unfold wX2_proof at h
  obtain ⟨hm1, hm2, h⟩ := h
  refine c_new (pc := 0) (ci := 19) (fs := [va_rf none, va_rf none, va_rf none, va_rf none, .int (0 : Int32), .int (0 : Int32), va_rf none, va_rf none, va_rf none]) X hw in_J21 tyJ21 tyJ21_ok q932 q933 q132 rfl nf_J21 (show 0 + 1 ≤ MC by omega) (show 0 + 9 ≤ MS by omega) dX2_proof_0 (fun nq3 H hq4 _ hw => ?_)
  have h := h nq3 hq4
  obtain ⟨N5, e6⟩ : ∃ z, z = va_up N nq3 (some (eO 19 [va_rf none, va_rf none, va_rf none, va_rf none, .int (0 : Int32), .int (0 : Int32), va_rf none, va_rf none, va_rf none])) := ⟨_, rfl⟩
  have hw : cH G A s [] N5 H locs := by rw [e6]; exact hw
  have h := h N5 e6
  have hN7 : N5 nq3 = some (eO 19 [va_rf none, va_rf none, va_rf none, va_rf none, .int (0 : Int32), .int (0 : Int32), va_rf none, va_rf none, va_rf none]) := by rw [e6]; exact up_s
  refine lv_dup (pc := 3) hx hb dX2_proof_3 rfl ?_
  obtain ⟨hm8, hm9, h⟩ := h
  refine c_new (pc := 4) (ci := 13) (fs := []) X hw in_X7 tyX7 tyX7_ok q934 q935 q133 rfl nf_X7 (show 0 + 1 + 1 ≤ MC by omega) (show 0 + 9 + 0 ≤ MS by omega) dX2_proof_4 (fun nq10 H hq11 _ hw => ?_)
  have h := h nq10 hq11
  obtain ⟨N12, e13⟩ : ∃ z, z = va_up N5 nq10 (some (eO 13 [])) := ⟨_, rfl⟩
  have hw : cH G A s [] N12 H locs := by rw [e13]; exact hw
  have h := h N12 e13
  have hN14 : N12 nq10 = some (eO 13 []) := by rw [e13]; exact up_s
  have hN15 := up_f (x := some (eO 13 [])) hq11 hN7
  rw [← e13] at hN15
  refine lv_dup (pc := 7) hx hb dX2_proof_7 rfl ?_
  refine c_callJ (pc := 8) (val := vV) X hw (va_runIN (As := []) (rest := [.ref nq10, .ref nq3, .ref nq3]) X.1 (tX7_init X.2.2.1 (sz := H.size) h) ⟨va_cnB 0 hts (lw_meth q938) rfl rfl rfl (X.nest q936) (hts _ q133) ⟨by decide, by decide, (by decide +kernel : (parseMethodDescriptor yX7_init.desc).map (fun d => d.parameters.length) = some 0)⟩ ⟨Nat.le_of_ble_eq_true rfl, Nat.le_of_ble_eq_true rfl⟩, rfl, hts _ q937⟩ ⟨cPre_blind, fun U hU hW => ⟨rfl, X.preJ hw hU hW⟩⟩ rfl rfl hl.1 rfl (lv_room (Nat.le_of_ble_eq_true rfl)) dX2_proof_8 ⟨show 0 + 1 + 1 + 0 ≤ MC by omega, show 0 + 9 + 0 + 0 ≤ MS by omega⟩) (fun _ N17 H locs h hw => ?_)
  refine W.eq (g2 := F0 m 11 ls ([.ref nq10, .ref nq3, .ref nq3])) rfl ?_
  refine c_callJ (pc := 11) (val := vV) X hw (va_runI (As := [.ref nq10]) (rest := [.ref nq3]) X.1 (tJ21_init X.2.2.1 (sz := H.size) h) (cwI 1 hts (lw_meth q943) rfl rfl rfl (hts _ q132) (hts _ q941) (hts _ q942) rfl ⟨by decide, by decide, (by decide +kernel : (parseMethodDescriptor yJ21_init.desc).map (fun d => d.parameters.length) = some 1)⟩ ⟨Nat.le_of_ble_eq_true rfl, Nat.le_of_ble_eq_true rfl⟩) ⟨cPre_blind, fun U hU hW => ⟨rfl, X.preJ hw hU hW⟩⟩ rfl rfl hl.1 rfl (lv_room (Nat.le_of_ble_eq_true rfl)) dX2_proof_11 ⟨show 0 + 1 + 1 + 0 + 0 ≤ MC by omega, show 0 + 9 + 0 + 0 + 0 ≤ MS by omega⟩) (fun _ N19 H locs h hw => ?_)
  refine W.eq (g2 := F0 m 14 ls ([.ref nq3])) rfl ?_
  refine lv_astore_n (pc := 14) (i := 2) (lv' := [(2, .ref nq3), (0, .ref x0), (1, va_rf x1)]) hx hb dX2_proof_14 rfl hl (by decide) (by simp [rf_c]) (fun ls hl => ?_)
  refine lv_iconst (pc := 15) (v := (0 : Int32)) hx hb dX2_proof_15 (by decide) ?_
  refine lv_istore_n (pc := 16) (lv' := [(3, .int (0 : Int32)), (2, .ref nq3), (0, .ref x0), (1, va_rf x1)]) hx hb dX2_proof_16 rfl hl (by decide) rfl (fun ls hl => ?_)
  obtain ⟨k, h⟩ := h
  exact kX2_proof_17 X hr hlk hL hT  k _ _ _ _ _ _ _ _ _ _ _ _ h ⟨hw, by omega⟩ (lv_sub hl [2, 3, 1, 0] rfl)

def wX0_form (K : Nat → Nat → Nat) (post : Int32 → List Nat → NM → Prop) (MC MS : Nat) (N : NM) (x0 : Nat) (x1 : Int32) : Prop :=
  ∃ f2 f3 f4 f5 f6 f7 f8 f9 f10 f11 f12 f13 f14 f15 f16 f17 f18 f19 f20, N x0 = some (eO 1 [va_rf f2, va_rf f3, va_rf f4, va_rf f5, va_rf f6, va_rf f7, va_rf f8, va_rf f9, va_rf f10, .int f11, .int f12, va_rf f13, va_rf f14, .int f15, va_rf f16, va_rf f17, va_rf f18, va_rf f19, va_rf f20]) ∧ (∀ N21, N21 = va_up N x0 (some (eO 1 [va_rf f2, va_rf f3, va_rf f4, va_rf f5, va_rf f6, va_rf f7, va_rf f8, va_rf f9, va_rf f10, .int f11, .int f12, va_rf none, va_rf f14, .int f15, va_rf f16, va_rf f17, va_rf f18, va_rf f19, va_rf f20])) → (wX0_isSlot (fun r24 => ((r24 = (0 : Int32)) → (∀ N147, N147 = va_up N21 x0 (some (eO 1 [va_rf f2, va_rf f3, va_rf f4, va_rf f5, va_rf f6, va_rf f7, va_rf f8, va_rf f9, va_rf f10, .int f11, .int f12, va_rf none, va_rf f14, .int (0 : Int32), va_rf f16, va_rf f17, va_rf f18, va_rf f19, va_rf f20])) → (post (-2 : Int32) ([]) N147))) ∧ (¬ (r24 = (0 : Int32)) → (1 ≤ MC ∧ 4 ≤ MS ∧ (∀ nq28, N21 nq28 = none → (∀ N30, N30 = va_up N21 nq28 (some (eO 2 [.int (0 : Int32), .int (0 : Int32), .int (0 : Int32), va_rf none])) → (wX2_init K (fun _ N35 => ∃ f43 f44 f45 f46, N35 nq28 = some (eO 2 [.int f43, .int f44, .int f45, va_rf f46]) ∧ (∃ mc38 ms39, mc38 ≤ (MC - 1) ∧ ms39 ≤ (MS - 4) ∧ wX2_form K (fun r36 N37 => ∃ a80, f4 = some a80 ∧ (∃ n83 f84, N37 a80 = some (eR 4 n83 f84) ∧ (vp_in x1 n83 ∧ (∃ a85, r36 = some a85 ∧ (∃ f88, N37 a85 = some (eO 7 [va_rf f88]) ∧ (∀ N89, N89 = va_up N37 a80 (some (eR 4 n83 (va_up f84 x1.toNatClampNeg (some a85)))) → (∃ f94 f95 f96 f97 f98 f99 f100 f101 f102 f103 f104 f105 f106 f107 f108 f109 f110 f111 f112, N89 x0 = some (eO 1 [va_rf f94, va_rf f95, va_rf f96, va_rf f97, va_rf f98, va_rf f99, va_rf f100, va_rf f101, va_rf f102, .int f103, .int f104, va_rf f105, va_rf f106, .int f107, va_rf f108, va_rf f109, va_rf f110, va_rf f111, va_rf f112]) ∧ (∃ a113, f96 = some a113 ∧ (∃ n116 f117, N89 a113 = some (eR 4 n116 f117) ∧ (vp_in x1 n116 ∧ (∃ a118, (f117 x1.toNatClampNeg) = some a118 ∧ (∃ f123, N89 a118 = some (eO 7 [va_rf f123]) ∧ (wX6_many K (fun r120 N121 => ∃ f125 f126 f127 f128 f129 f130 f131 f132 f133 f134 f135 f136 f137 f138 f139 f140 f141 f142 f143, N121 x0 = some (eO 1 [va_rf f125, va_rf f126, va_rf f127, va_rf f128, va_rf f129, va_rf f130, va_rf f131, va_rf f132, va_rf f133, .int f134, .int f135, va_rf f136, va_rf f137, .int f138, va_rf f139, va_rf f140, va_rf f141, va_rf f142, va_rf f143]) ∧ (∀ N144, N144 = va_up N121 x0 (some (eO 1 [va_rf f125, va_rf f126, va_rf f127, va_rf f128, va_rf f129, va_rf f130, va_rf f131, va_rf f132, va_rf f133, .int f134, .int f135, va_rf f136, va_rf f137, .int (0 : Int32), va_rf f139, va_rf f140, va_rf f141, va_rf f142, va_rf f143])) → (post r120 ([]) N144))) N89 a118))))))))))))) (fun q47 ch53 N48 => (∀ fs50, N48 q47 = some (eO 5 fs50) → (∃ f55 f56 f57 f58 f59 f60 f61 f62 f63 f64 f65 f66 f67 f68 f69 f70 f71 f72 f73, N48 x0 = some (eO 1 [va_rf f55, va_rf f56, va_rf f57, va_rf f58, va_rf f59, va_rf f60, va_rf f61, va_rf f62, va_rf f63, .int f64, .int f65, va_rf f66, va_rf f67, .int f68, va_rf f69, va_rf f70, va_rf f71, va_rf f72, va_rf f73]) ∧ (∀ N74, N74 = va_up N48 x0 (some (eO 1 [va_rf f55, va_rf f56, va_rf f57, va_rf f58, va_rf f59, va_rf f60, va_rf f61, va_rf f62, va_rf f63, .int f64, .int f65, va_rf (some q47), va_rf f67, .int f68, va_rf f69, va_rf f70, va_rf f71, va_rf f72, va_rf f73])) → (∀ N77, N77 = va_up N74 x0 (some (eO 1 [va_rf f55, va_rf f56, va_rf f57, va_rf f58, va_rf f59, va_rf f60, va_rf f61, va_rf f62, va_rf f63, .int f64, .int f65, va_rf (some q47), va_rf f67, .int (0 : Int32), va_rf f69, va_rf f70, va_rf f71, va_rf f72, va_rf f73])) → (post (-1 : Int32) ch53 N77)))))) mc38 ms39 N35 nq28)) N30 nq28 (some x0))))))) x1))
theorem txX0_form {l : Launch} (hL : l.stackTraces = false) {G : gG} (hO : gOk G) {post : Int32 → List Nat → NM → Prop} {MC MS : Nat} {N : NM} {x0 : Nat} {x1 : Int32} {sz : Nat} (h : wX0_form (gC G) post MC MS N x0 x1) : cx_Met l yX0_form (wsW_ yX0_form cX0_form 5 (some .int) [(5, 15, 56, 149), (22, 49, 56, 149), (5, 15, 71, 0), (22, 49, 71, 0), (56, 64, 71, 0), (71, 73, 71, 0)]) ⟨10, MC, MS, 266⟩ (va_Pc [.ref x0, .int x1] (cPre G [] N sz)) (gQ vI (fun r (u : NM × List Nat) => post r u.2 u.1) (fun (u : NM × List Nat) H => cBw G (cA [] N sz) [] u.1 H ∧ ∀ a ∈ u.2, Mf H a) (cA [] N sz)) (cXC G (cA [] N sz) [] (fun _ _ _ => False)) MC MS (cA [] N sz) := by
  refine c_ofXH (B := fun A (u : NM × List Nat) H => cBw G A [] u.1 H ∧ ∀ a ∈ u.2, Mf H a) (by decide) hO (Nat.le_of_ble_eq_true rfl) (fun p e s m below meth c ls A X hr hlk hT hw hl => ?_)
  have hl : lv_has ls 5 [(0, .ref x0), (1, .int x1)] := hl
  have hx := X.1.1
  have hb := X.1.2.1
  have hml := X.1.2.2.1
  have hown := X.1.2.2.2.1
  have hts := X.1.2.2.2.2
  obtain ⟨H, eH⟩ : ∃ z, z = s.heap := ⟨_, rfl⟩
  rw [← eH] at hw ⊢
  obtain ⟨locs, eLo⟩ : ∃ z : List Loc, z = [] := ⟨_, rfl⟩
  rw [← eLo] at hw ⊢
  have hbud : 0 + MC ≤ MC ∧ 0 + MS ≤ MS := by omega
  unfold wX0_form at h
  refine lv_aload_n (pc := 0) hx hb dX0_form_0 rfl (lv_at hl 0 rfl) ?_
  refine lv_null (pc := 1) hx hb dX0_form_1 ?_
  obtain ⟨f2, f3, f4, f5, f6, f7, f8, f9, f10, f11, f12, f13, f14, f15, f16, f17, f18, f19, f20, hN1, h⟩ := h
  refine c_put (pc := 2) (v := va_rf none) X hw hN1 in_X0 tyX0 tyX0_ok nmX0 rfl 11 (by decide) q226 rfl rfl rfl (rf_n none _) (rf_f none _) (Nat.le_of_ble_eq_true rfl) dX0_form_2 (fun H locs hw => ?_)
  obtain ⟨N21, e22⟩ : ∃ z, z = va_up N x0 (some (eO 1 [va_rf f2, va_rf f3, va_rf f4, va_rf f5, va_rf f6, va_rf f7, va_rf f8, va_rf f9, va_rf f10, .int f11, .int f12, va_rf none, va_rf f14, .int f15, va_rf f16, va_rf f17, va_rf f18, va_rf f19, va_rf f20])) := ⟨_, rfl⟩
  have hw : cH G A s [] N21 H locs := by rw [e22]; exact hw
  have h := h N21 e22
  have hN23 : N21 x0 = some (eO 1 [va_rf f2, va_rf f3, va_rf f4, va_rf f5, va_rf f6, va_rf f7, va_rf f8, va_rf f9, va_rf f10, .int f11, .int f12, va_rf none, va_rf f14, .int f15, va_rf f16, va_rf f17, va_rf f18, va_rf f19, va_rf f20]) := by rw [e22]; exact up_s
  refine lv_iload_n (pc := 5) hx hb dX0_form_5 rfl (lv_at hl 1 rfl) ?_
  refine s_call (pc := 6) (val := vI) (As := [.int x1]) (rest := []) X.1 (tX0_isSlot h) (lw_S q388 q389 q102 q390) ⟨by decide, by decide, (by decide +kernel : (parseMethodDescriptor yX0_isSlot.desc).map (fun d => d.parameters.length) = some 1)⟩ ⟨Nat.le_of_ble_eq_true rfl, Nat.le_of_ble_eq_true rfl⟩ hl.1 (Nat.le_of_ble_eq_true rfl) ⟨show 0 ≤ MC by omega, show 0 ≤ MS by omega⟩ dX0_form_6 rfl (fun r24 h => ?_)
  refine W.eq (g2 := F0 m 9 ls (.int r24 :: [])) rfl ?_
  refine lv_if_ne (pc := 9) (tgt := 22) hx hb dX0_form_9 rfl (fun c25 => ?_) (fun c25 => ?_)
  · have h := h.2 c25
    refine lv_aload_n (pc := 22) hx hb dX0_form_22 rfl (lv_at hl 0 rfl) ?_
    refine c_get (pc := 23) X hw hN23 in_X0 rfl 2 (by decide) q213 rfl rfl dX0_form_23 ?_
    refine lv_iload_n (pc := 26) hx hb dX0_form_26 rfl (lv_at hl 1 rfl) ?_
    obtain ⟨hm26, hm27, h⟩ := h
    refine c_new (pc := 27) (ci := 2) (fs := [.int (0 : Int32), .int (0 : Int32), .int (0 : Int32), va_rf none]) X hw in_X2 tyX2 tyX2_ok q392 q393 q113 rfl nf_X2 (show 0 + 1 ≤ MC by omega) (show 0 + 4 ≤ MS by omega) dX0_form_27 (fun nq28 H hq29 _ hw => ?_)
    have h := h nq28 hq29
    obtain ⟨N30, e31⟩ : ∃ z, z = va_up N21 nq28 (some (eO 2 [.int (0 : Int32), .int (0 : Int32), .int (0 : Int32), va_rf none])) := ⟨_, rfl⟩
    have hw : cH G A s [] N30 H locs := by rw [e31]; exact hw
    have h := h N30 e31
    have hN32 : N30 nq28 = some (eO 2 [.int (0 : Int32), .int (0 : Int32), .int (0 : Int32), va_rf none]) := by rw [e31]; exact up_s
    have hN33 := up_f (x := some (eO 2 [.int (0 : Int32), .int (0 : Int32), .int (0 : Int32), va_rf none])) hq29 hN23
    rw [← e31] at hN33
    refine lv_dup (pc := 30) hx hb dX0_form_30 rfl ?_
    refine lv_aload_n (pc := 31) hx hb dX0_form_31 rfl (lv_at hl 0 rfl) ?_
    refine c_callJ (pc := 32) (val := vV) X hw (va_runI (As := [va_rf (some x0)]) (rest := [.ref nq28, .int x1, va_rf f4]) X.1 (tX2_init X.2.2.1 (sz := H.size) h) (cwI 1 hts (lw_meth q396) rfl rfl rfl (hts _ q113) (hts _ q394) (hts _ q395) rfl ⟨by decide, by decide, (by decide +kernel : (parseMethodDescriptor yX2_init.desc).map (fun d => d.parameters.length) = some 1)⟩ ⟨Nat.le_of_ble_eq_true rfl, Nat.le_of_ble_eq_true rfl⟩) ⟨cPre_blind, fun U hU hW => ⟨rfl, X.preJ hw hU hW⟩⟩ rfl rfl hl.1 rfl (lv_room (rsum_le (Nat.le_of_ble_eq_true rfl))) dX0_form_32 ⟨show 0 + 1 + 0 ≤ MC by omega, show 0 + 4 + 0 ≤ MS by omega⟩) (fun _ N35 H locs h hw => ?_)
    refine W.eq (g2 := F0 m 35 ls ([.ref nq28, .int x1, va_rf f4])) rfl ?_
    obtain ⟨f43, f44, f45, f46, hN42, h⟩ := h
    obtain ⟨mc38, ms39, hm40, hm41, h⟩ := h
    refine cx_callJ (pc := 35) (val := vQ) X hw (cx_runVX (C := RX2) (As := []) (rest := [.int x1, va_rf f4]) X.1 (tX2_form hL X.2.2.1 (sz := H.size) h) (vx_cwVW 0 hts (lw_VW q419 q420 q421 q113 q422) rfl rfl rfl ⟨rfl, by decide, by decide, (by decide +kernel : (parseMethodDescriptor yX2_form.desc).map (fun d => d.parameters.length) = some 0)⟩ ⟨Nat.le_of_ble_eq_true rfl, Nat.le_of_ble_eq_true rfl⟩) ⟨cPre_blind, c_recv X hw hN42 rfl, fun U hU hW => ⟨rfl, X.preJ hw hU hW⟩⟩ rfl rfl hl.1 rfl (lv_room (rsum_le (Nat.le_of_ble_eq_true rfl))) dX0_form_35 ⟨show 0 + 1 + 0 + mc38 ≤ MC by omega, show 0 + 4 + 0 + ms39 ≤ MS by omega⟩) (fun q47 N48 H locs ci49 fs50 ch53 hci51 hNq52 h hw hch => ?_) (fun r36 N37 H locs h hw => ?_)
    · have hci51 := List.mem_singleton.mp hci51
      subst hci51
      have h := h fs50 hNq52
      refine cx_catchJ (pc := 35) X hw hNq52 rfl [⟨5, 15, 56, 149⟩] ⟨22, 49, 56, 149⟩ [⟨5, 15, 71, 0⟩, ⟨22, 49, 71, 0⟩, ⟨56, 64, 71, 0⟩, ⟨71, 73, 71, 0⟩] (by rw [hT]; rfl) (ep_c (Or.inl rfl) ep_n) rfl (by decide) q387 q844 ?_
      refine lv_astore_n (pc := 56) (lv' := [(2, .ref q47), (0, .ref x0), (1, .int x1)]) hx hb dX0_form_56 rfl hl (by decide) rfl (fun ls hl => ?_)
      refine lv_aload_n (pc := 57) hx hb dX0_form_57 rfl (lv_at hl 1 rfl) ?_
      refine lv_aload_n (pc := 58) hx hb dX0_form_58 rfl (lv_at hl 0 rfl) ?_
      obtain ⟨f55, f56, f57, f58, f59, f60, f61, f62, f63, f64, f65, f66, f67, f68, f69, f70, f71, f72, f73, hN54, h⟩ := h
      refine mo_row (dc := 0) (dn := 0) X hw ⟨show 0 + 1 + 0 + mc38 ≤ MC by omega, show 0 + 4 + 0 + ms39 ≤ MS by omega⟩ (fun s Q X hw kk => c_put (pc := 59) (Q := Q) (v := va_rf (some q47)) X hw hN54 in_X0 tyX0 tyX0_ok nmX0 rfl 11 (by decide) q226 rfl rfl rfl (rf_n (some q47) _) (rf_f (some q47) _) (Nat.le_of_ble_eq_true rfl) dX0_form_59 (fun H1 locs1 hw1 => kk _ H1 locs1 rfl hw1)) (fun N9 H locs e9 hw hMo => ?_)
      subst e9
      have hch := hMo.all hch
      obtain ⟨N74, e75⟩ : ∃ z, z = va_up N48 x0 (some (eO 1 [va_rf f55, va_rf f56, va_rf f57, va_rf f58, va_rf f59, va_rf f60, va_rf f61, va_rf f62, va_rf f63, .int f64, .int f65, va_rf (some q47), va_rf f67, .int f68, va_rf f69, va_rf f70, va_rf f71, va_rf f72, va_rf f73])) := ⟨_, rfl⟩
      have hw : cH G A s [] N74 H locs := by rw [e75]; exact hw
      have h := h N74 e75
      have hN76 : N74 x0 = some (eO 1 [va_rf f55, va_rf f56, va_rf f57, va_rf f58, va_rf f59, va_rf f60, va_rf f61, va_rf f62, va_rf f63, .int f64, .int f65, va_rf (some q47), va_rf f67, .int f68, va_rf f69, va_rf f70, va_rf f71, va_rf f72, va_rf f73]) := by rw [e75]; exact up_s
      refine lv_iconst (pc := 62) (v := (-1 : Int32)) hx hb dX0_form_62 (by decide) ?_
      refine lv_istore_n (pc := 63) (lv' := [(3, .int (-1 : Int32)), (2, .ref q47), (0, .ref x0), (1, .int x1)]) hx hb dX0_form_63 rfl hl (by decide) rfl (fun ls hl => ?_)
      refine lv_aload_n (pc := 64) hx hb dX0_form_64 rfl (lv_at hl 2 rfl) ?_
      refine lv_iconst (pc := 65) (v := (0 : Int32)) hx hb dX0_form_65 (by decide) ?_
      refine mo_row (dc := 0) (dn := 0) X hw ⟨show 0 + 1 + 0 + mc38 ≤ MC by omega, show 0 + 4 + 0 + ms39 ≤ MS by omega⟩ (fun s Q X hw kk => c_put (pc := 66) (Q := Q) X hw hN76 in_X0 tyX0 tyX0_ok nmX0 rfl 13 (by decide) q230 rfl rfl rfl rfl rfl (Nat.le_of_ble_eq_true rfl) dX0_form_66 (fun H1 locs1 hw1 => kk _ H1 locs1 rfl hw1)) (fun N9 H locs e9 hw hMo => ?_)
      subst e9
      have hch := hMo.all hch
      obtain ⟨N77, e78⟩ : ∃ z, z = va_up N74 x0 (some (eO 1 [va_rf f55, va_rf f56, va_rf f57, va_rf f58, va_rf f59, va_rf f60, va_rf f61, va_rf f62, va_rf f63, .int f64, .int f65, va_rf (some q47), va_rf f67, .int (0 : Int32), va_rf f69, va_rf f70, va_rf f71, va_rf f72, va_rf f73])) := ⟨_, rfl⟩
      have hw : cH G A s [] N77 H locs := by rw [e78]; exact hw
      have h := h N77 e78
      have hN79 : N77 x0 = some (eO 1 [va_rf f55, va_rf f56, va_rf f57, va_rf f58, va_rf f59, va_rf f60, va_rf f61, va_rf f62, va_rf f63, .int f64, .int f65, va_rf (some q47), va_rf f67, .int (0 : Int32), va_rf f69, va_rf f70, va_rf f71, va_rf f72, va_rf f73]) := by rw [e78]; exact up_s
      refine lv_iload_n (pc := 69) hx hb dX0_form_69 rfl (lv_at hl 0 rfl) ?_
      refine W.widen (k := MC) (n := MS) (by omega) (by omega) ?_
      refine cx_ret ?_
      exact W.iret (pc := 70) hx hb hr (fun t ht hW => c_retM (val := vI) hw hch h ht) hw.2.2.2 dX0_form_70 hlk
    refine W.eq (g2 := F0 m 38 ls (va_rf r36 :: [.int x1, va_rf f4])) rfl ?_
    obtain ⟨a80, hr81, h⟩ := h
    refine W.eq (g2 := F0 m 38 ls [va_rf r36, .int x1, .ref a80]) (by rw [hr81]; rfl) ?_
    obtain ⟨n83, f84, hN82, h⟩ := h
    obtain ⟨hi, h⟩ := h
    obtain ⟨a85, hr86, h⟩ := h
    refine W.eq (g2 := F0 m 38 ls [.ref a85, .int x1, .ref a80]) (by rw [hr86]; rfl) ?_
    obtain ⟨f88, hN87, h⟩ := h
    refine c_aast (pc := 38) X hw 4 hN82 rfl (c_anyS X hw hN87 rfl) hi dX0_form_38 (fun H locs hw => ?_)
    obtain ⟨N89, e90⟩ : ∃ z, z = va_up N37 a80 (some (eR 4 n83 (va_up f84 x1.toNatClampNeg (some a85)))) := ⟨_, rfl⟩
    have hw : cH G A s [] N89 H locs := by rw [e90]; exact hw
    have h := h N89 e90
    have hN91 : N89 a80 = some (eR 4 n83 (va_up f84 x1.toNatClampNeg (some a85))) := by rw [e90]; exact up_s
    have hN92 := up_k (x := some (eR 4 n83 (va_up f84 x1.toNatClampNeg (some a85)))) hN82 hN87 (show (9 : Nat) ≠ 14 by decide)
    rw [← e90] at hN92
    refine lv_aload_n (pc := 39) hx hb dX0_form_39 rfl (lv_at hl 0 rfl) ?_
    obtain ⟨f94, f95, f96, f97, f98, f99, f100, f101, f102, f103, f104, f105, f106, f107, f108, f109, f110, f111, f112, hN93, h⟩ := h
    refine c_get (pc := 40) X hw hN93 in_X0 rfl 2 (by decide) q213 rfl rfl dX0_form_40 ?_
    refine lv_iload_n (pc := 43) hx hb dX0_form_43 rfl (lv_at hl 1 rfl) ?_
    obtain ⟨a113, hr114, h⟩ := h
    refine W.eq (g2 := F0 m 44 ls [.int x1, .ref a113]) (by rw [hr114]; rfl) ?_
    obtain ⟨n116, f117, hN115, h⟩ := h
    obtain ⟨hi, h⟩ := h
    refine c_aald (pc := 44) X hw 4 hN115 rfl hi dX0_form_44 ?_
    obtain ⟨a118, hr119, h⟩ := h
    refine W.eq (g2 := F0 m 45 ls [.ref a118]) (by rw [hr119]; rfl) ?_
    obtain ⟨f123, hN122, h⟩ := h
    refine c_callJ (pc := 45) (val := vI) X hw (va_runV (C := RX6) (As := []) (rest := []) X.1 (tX6_many X.2.2.1 (sz := H.size) h) (cwV 0 hts (lw_V q890 q891 q892 q129 q893) rfl rfl rfl ⟨rfl, by decide, by decide, (by decide +kernel : (parseMethodDescriptor yX6_many.desc).map (fun d => d.parameters.length) = some 0)⟩ ⟨Nat.le_of_ble_eq_true rfl, Nat.le_of_ble_eq_true rfl⟩) ⟨cPre_blind, c_recv X hw hN122 rfl, fun U hU hW => ⟨rfl, X.preJ hw hU hW⟩⟩ rfl rfl hl.1 rfl (lv_room (Nat.le_of_ble_eq_true rfl)) dX0_form_45 ⟨show 0 + 1 + 0 + mc38 + 0 ≤ MC by omega, show 0 + 4 + 0 + ms39 + 0 ≤ MS by omega⟩) (fun r120 N121 H locs h hw => ?_)
    refine W.eq (g2 := F0 m 48 ls (.int r120 :: [])) rfl ?_
    refine lv_istore_n (pc := 48) (lv' := [(2, .int r120), (0, .ref x0), (1, .int x1)]) hx hb dX0_form_48 rfl hl (by decide) rfl (fun ls hl => ?_)
    refine lv_aload_n (pc := 49) hx hb dX0_form_49 rfl (lv_at hl 1 rfl) ?_
    refine lv_iconst (pc := 50) (v := (0 : Int32)) hx hb dX0_form_50 (by decide) ?_
    obtain ⟨f125, f126, f127, f128, f129, f130, f131, f132, f133, f134, f135, f136, f137, f138, f139, f140, f141, f142, f143, hN124, h⟩ := h
    refine c_put (pc := 51) X hw hN124 in_X0 tyX0 tyX0_ok nmX0 rfl 13 (by decide) q230 rfl rfl rfl rfl rfl (Nat.le_of_ble_eq_true rfl) dX0_form_51 (fun H locs hw => ?_)
    obtain ⟨N144, e145⟩ : ∃ z, z = va_up N121 x0 (some (eO 1 [va_rf f125, va_rf f126, va_rf f127, va_rf f128, va_rf f129, va_rf f130, va_rf f131, va_rf f132, va_rf f133, .int f134, .int f135, va_rf f136, va_rf f137, .int (0 : Int32), va_rf f139, va_rf f140, va_rf f141, va_rf f142, va_rf f143])) := ⟨_, rfl⟩
    have hw : cH G A s [] N144 H locs := by rw [e145]; exact hw
    have h := h N144 e145
    have hN146 : N144 x0 = some (eO 1 [va_rf f125, va_rf f126, va_rf f127, va_rf f128, va_rf f129, va_rf f130, va_rf f131, va_rf f132, va_rf f133, .int f134, .int f135, va_rf f136, va_rf f137, .int (0 : Int32), va_rf f139, va_rf f140, va_rf f141, va_rf f142, va_rf f143]) := by rw [e145]; exact up_s
    refine lv_iload_n (pc := 54) hx hb dX0_form_54 rfl (lv_at hl 0 rfl) ?_
    refine W.widen (k := MC) (n := MS) (by omega) (by omega) ?_
    refine cx_ret ?_
    exact W.iret (pc := 55) hx hb hr (fun t ht hW => c_retM (val := vI) hw Mf.nil h ht) hw.2.2.2 dX0_form_55 hlk
  · have h := h.1 c25
    refine lv_bipush (pc := 12) (v := (-2 : Int32)) hx hb dX0_form_12 (by decide) ?_
    refine lv_istore_n (pc := 14) (lv' := [(2, .int (-2 : Int32)), (0, .ref x0), (1, .int x1)]) hx hb dX0_form_14 rfl hl (by decide) rfl (fun ls hl => ?_)
    refine lv_aload_n (pc := 15) hx hb dX0_form_15 rfl (lv_at hl 1 rfl) ?_
    refine lv_iconst (pc := 16) (v := (0 : Int32)) hx hb dX0_form_16 (by decide) ?_
    refine c_put (pc := 17) X hw hN23 in_X0 tyX0 tyX0_ok nmX0 rfl 13 (by decide) q230 rfl rfl rfl rfl rfl (Nat.le_of_ble_eq_true rfl) dX0_form_17 (fun H locs hw => ?_)
    obtain ⟨N147, e148⟩ : ∃ z, z = va_up N21 x0 (some (eO 1 [va_rf f2, va_rf f3, va_rf f4, va_rf f5, va_rf f6, va_rf f7, va_rf f8, va_rf f9, va_rf f10, .int f11, .int f12, va_rf none, va_rf f14, .int (0 : Int32), va_rf f16, va_rf f17, va_rf f18, va_rf f19, va_rf f20])) := ⟨_, rfl⟩
    have hw : cH G A s [] N147 H locs := by rw [e148]; exact hw
    have h := h N147 e148
    have hN149 : N147 x0 = some (eO 1 [va_rf f2, va_rf f3, va_rf f4, va_rf f5, va_rf f6, va_rf f7, va_rf f8, va_rf f9, va_rf f10, .int f11, .int f12, va_rf none, va_rf f14, .int (0 : Int32), va_rf f16, va_rf f17, va_rf f18, va_rf f19, va_rf f20]) := by rw [e148]; exact up_s
    refine lv_iload_n (pc := 20) hx hb dX0_form_20 rfl (lv_at hl 0 rfl) ?_
    refine W.widen (k := MC) (n := MS) (by omega) (by omega) ?_
    refine cx_ret ?_
    exact W.iret (pc := 21) hx hb hr (fun t ht hW => c_retM (val := vI) hw Mf.nil h ht) hw.2.2.2 dX0_form_21 hlk
theorem tX0_form {l : Launch} (hL : l.stackTraces = false) {G : gG} (hO : gOk G) {post : Int32 → List Nat → NM → Prop} {MC MS : Nat} {N : NM} {x0 : Nat} {x1 : Int32} {sz : Nat} (h : wX0_form (gC G) post MC MS N x0 x1) : Met l yX0_form (wsW_ yX0_form cX0_form 5 (some .int) [(5, 15, 56, 149), (22, 49, 56, 149), (5, 15, 71, 0), (22, 49, 71, 0), (56, 64, 71, 0), (71, 73, 71, 0)]) ⟨10, MC, MS, 266⟩ (va_Pc [.ref x0, .int x1] (cPre G [] N sz)) (gQ vI (fun r (u : NM × List Nat) => post r u.2 u.1) (fun (u : NM × List Nat) H => cBw G (cA [] N sz) [] u.1 H ∧ ∀ a ∈ u.2, Mf H a) (cA [] N sz)) MC MS (cA [] N sz) := cx_toMet (txX0_form hL hO h)

def wX0_prove_32 (K : Nat → Nat → Nat) (post : Int32 → List Nat → NM → Prop) (x0 : Nat) (v0 : Int32) (mc ms : Nat) (N : NM) : Prop :=
  ∃ f34 f35 f36 f37 f38 f39 f40 f41 f42 f43 f44 f45 f46 f47 f48 f49 f50 f51 f52, N x0 = some (eO 1 [va_rf f34, va_rf f35, va_rf f36, va_rf f37, va_rf f38, va_rf f39, va_rf f40, va_rf f41, va_rf f42, .int f43, .int f44, va_rf f45, va_rf f46, .int f47, va_rf f48, va_rf f49, va_rf f50, va_rf f51, va_rf f52]) ∧ (∀ N53, N53 = va_up N x0 (some (eO 1 [va_rf f34, va_rf f35, va_rf f36, va_rf f37, va_rf f38, va_rf f39, va_rf f40, va_rf f41, va_rf f42, .int f43, .int f44, va_rf f45, va_rf f46, .int (0 : Int32), va_rf f48, va_rf f49, va_rf f50, va_rf f51, va_rf f52])) → (post v0 ([]) N53))
def wX0_prove (K : Nat → Nat → Nat) (post : Int32 → List Nat → NM → Prop) (MC MS : Nat) (N : NM) (x0 : Nat) (x1 : Int32) : Prop :=
  ∃ f2 f3 f4 f5 f6 f7 f8 f9 f10 f11 f12 f13 f14 f15 f16 f17 f18 f19 f20, N x0 = some (eO 1 [va_rf f2, va_rf f3, va_rf f4, va_rf f5, va_rf f6, va_rf f7, va_rf f8, va_rf f9, va_rf f10, .int f11, .int f12, va_rf f13, va_rf f14, .int f15, va_rf f16, va_rf f17, va_rf f18, va_rf f19, va_rf f20]) ∧ (∀ N21, N21 = va_up N x0 (some (eO 1 [va_rf f2, va_rf f3, va_rf f4, va_rf f5, va_rf f6, va_rf f7, va_rf f8, va_rf f9, va_rf f10, .int f11, .int f12, va_rf none, va_rf f14, .int f15, va_rf f16, va_rf f17, va_rf f18, va_rf f19, va_rf f20])) → (∃ mc26 ms27, mc26 ≤ MC ∧ ms27 ≤ MS ∧ wX0_at K (fun r24 N25 => (r24 = none → (wX0_prove_32 K post x0 (-2 : Int32) (MC - mc26) (MS - ms27) N25)) ∧ (∀ a31, r24 = some a31 → (1 ≤ (MC - mc26) ∧ 4 ≤ (MS - ms27) ∧ (∀ nq58, N25 nq58 = none → (∀ N60, N60 = va_up N25 nq58 (some (eO 2 [.int (0 : Int32), .int (0 : Int32), .int (0 : Int32), va_rf none])) → (wX2_init K (fun _ N64 => ∃ f72 f73 f74 f75, N64 nq58 = some (eO 2 [.int f72, .int f73, .int f74, va_rf f75]) ∧ (∃ mc67 ms68, mc67 ≤ ((MC - mc26) - 1) ∧ ms68 ≤ ((MS - ms27) - 4) ∧ wX2_proof K (fun r65 N66 => wX0_prove_32 K post x0 r65 (((MC - mc26) - 1) - mc67) (((MS - ms27) - 4) - ms68) N66) (fun q76 ch82 N77 => (∀ fs79, N77 q76 = some (eO 5 fs79) → (∃ f84 f85 f86 f87 f88 f89 f90 f91 f92 f93 f94 f95 f96 f97 f98 f99 f100 f101 f102, N77 x0 = some (eO 1 [va_rf f84, va_rf f85, va_rf f86, va_rf f87, va_rf f88, va_rf f89, va_rf f90, va_rf f91, va_rf f92, .int f93, .int f94, va_rf f95, va_rf f96, .int f97, va_rf f98, va_rf f99, va_rf f100, va_rf f101, va_rf f102]) ∧ (∀ N103, N103 = va_up N77 x0 (some (eO 1 [va_rf f84, va_rf f85, va_rf f86, va_rf f87, va_rf f88, va_rf f89, va_rf f90, va_rf f91, va_rf f92, .int f93, .int f94, va_rf (some q76), va_rf f96, .int f97, va_rf f98, va_rf f99, va_rf f100, va_rf f101, va_rf f102])) → (∀ N106, N106 = va_up N103 x0 (some (eO 1 [va_rf f84, va_rf f85, va_rf f86, va_rf f87, va_rf f88, va_rf f89, va_rf f90, va_rf f91, va_rf f92, .int f93, .int f94, va_rf (some q76), va_rf f96, .int (0 : Int32), va_rf f98, va_rf f99, va_rf f100, va_rf f101, va_rf f102])) → (post (-1 : Int32) ch82 N106)))))) mc67 ms68 N64 nq58 r24)) N60 nq58 (some x0))))))) mc26 ms27 N21 x0 x1))
theorem kX0_prove_32 {p : Program} {l : Launch} {e : Env} {s : State} {m : MethodId} {args : Array Value} {below : List Frame} {meth : Method} {c : Code} {G : gG} {A : Nat → Prop} {MC MS : Nat} {post : Int32 → List Nat → NM → Prop} (X : cX G A RX0 p s m args c cX0_prove 5) (hr : meth.sig.returnType = (some .int)) (hlk : meth.locks = false) (hL : l.stackTraces = false) (hT : c.exceptionTable.toList = tableOf [(5, 33, 40, 149), (5, 33, 55, 0), (40, 48, 55, 0), (55, 57, 55, 0)]) : ∀ (x0 : Nat) (v0 : Int32) (mc ms : Nat) (N : NM) (H : Heap) (locs : List Loc) (ls : Array Slot) (cells slots : Nat), wX0_prove_32 (gC G) post x0 v0 mc ms N → (cH G A s [] N H locs ∧ cells + mc ≤ MC ∧ slots + ms ≤ MS) → lv_has ls 5 [(0, .ref x0)] → W p l e ⟨10, MC, MS, 10322⟩ s m args below meth c H locs cells slots (cx_MQ below (gQ vI (fun r (u : NM × List Nat) => post r u.2 u.1) (fun (u : NM × List Nat) H => cBw G A [] u.1 H ∧ ∀ a ∈ u.2, Mf H a) A) (cXC G A [] (fun _ _ _ => False)) args s MC MS A) (F0 m 32 ls [.int v0]) := by
  have hx := X.1.1
  have hb := X.1.2.1
  have hml := X.1.2.2.1
  have hown := X.1.2.2.2.1
  have hts := X.1.2.2.2.2
  intro x0 v0 mc ms N H locs ls cells slots h hw0 hl
  obtain ⟨hw, hbud⟩ := hw0
  unfold wX0_prove_32 at h
  refine lv_istore_n (pc := 32) (lv' := [(3, .int v0), (0, .ref x0)]) hx hb dX0_prove_32 rfl hl (by decide) rfl (fun ls hl => ?_)
  refine lv_aload_n (pc := 33) hx hb dX0_prove_33 rfl (lv_at hl 1 rfl) ?_
  refine lv_iconst (pc := 34) (v := (0 : Int32)) hx hb dX0_prove_34 (by decide) ?_
  obtain ⟨f34, f35, f36, f37, f38, f39, f40, f41, f42, f43, f44, f45, f46, f47, f48, f49, f50, f51, f52, hN33, h⟩ := h
  refine c_put (pc := 35) X hw hN33 in_X0 tyX0 tyX0_ok nmX0 rfl 13 (by decide) q230 rfl rfl rfl rfl rfl (Nat.le_of_ble_eq_true rfl) dX0_prove_35 (fun H locs hw => ?_)
  obtain ⟨N53, e54⟩ : ∃ z, z = va_up N x0 (some (eO 1 [va_rf f34, va_rf f35, va_rf f36, va_rf f37, va_rf f38, va_rf f39, va_rf f40, va_rf f41, va_rf f42, .int f43, .int f44, va_rf f45, va_rf f46, .int (0 : Int32), va_rf f48, va_rf f49, va_rf f50, va_rf f51, va_rf f52])) := ⟨_, rfl⟩
  have hw : cH G A s [] N53 H locs := by rw [e54]; exact hw
  have h := h N53 e54
  have hN55 : N53 x0 = some (eO 1 [va_rf f34, va_rf f35, va_rf f36, va_rf f37, va_rf f38, va_rf f39, va_rf f40, va_rf f41, va_rf f42, .int f43, .int f44, va_rf f45, va_rf f46, .int (0 : Int32), va_rf f48, va_rf f49, va_rf f50, va_rf f51, va_rf f52]) := by rw [e54]; exact up_s
  refine lv_iload_n (pc := 38) hx hb dX0_prove_38 rfl (lv_at hl 0 rfl) ?_
  refine W.widen (k := MC) (n := MS) (by omega) (by omega) ?_
  refine cx_ret ?_
  exact W.iret (pc := 39) hx hb hr (fun t ht hW => c_retM (val := vI) hw Mf.nil h ht) hw.2.2.2 dX0_prove_39 hlk
theorem txX0_prove {l : Launch} (hL : l.stackTraces = false) {G : gG} (hO : gOk G) {post : Int32 → List Nat → NM → Prop} {MC MS : Nat} {N : NM} {x0 : Nat} {x1 : Int32} {sz : Nat} (h : wX0_prove (gC G) post MC MS N x0 x1) : cx_Met l yX0_prove (wsW_ yX0_prove cX0_prove 5 (some .int) [(5, 33, 40, 149), (5, 33, 55, 0), (40, 48, 55, 0), (55, 57, 55, 0)]) ⟨10, MC, MS, 10322⟩ (va_Pc [.ref x0, .int x1] (cPre G [] N sz)) (gQ vI (fun r (u : NM × List Nat) => post r u.2 u.1) (fun (u : NM × List Nat) H => cBw G (cA [] N sz) [] u.1 H ∧ ∀ a ∈ u.2, Mf H a) (cA [] N sz)) (cXC G (cA [] N sz) [] (fun _ _ _ => False)) MC MS (cA [] N sz) := by
  refine c_ofXH (B := fun A (u : NM × List Nat) H => cBw G A [] u.1 H ∧ ∀ a ∈ u.2, Mf H a) (by decide) hO (Nat.le_of_ble_eq_true rfl) (fun p e s m below meth c ls A X hr hlk hT hw hl => ?_)
  have hl : lv_has ls 5 [(0, .ref x0), (1, .int x1)] := hl
  have hx := X.1.1
  have hb := X.1.2.1
  have hml := X.1.2.2.1
  have hown := X.1.2.2.2.1
  have hts := X.1.2.2.2.2
  obtain ⟨H, eH⟩ : ∃ z, z = s.heap := ⟨_, rfl⟩
  rw [← eH] at hw ⊢
  obtain ⟨locs, eLo⟩ : ∃ z : List Loc, z = [] := ⟨_, rfl⟩
  rw [← eLo] at hw ⊢
  have hbud : 0 + MC ≤ MC ∧ 0 + MS ≤ MS := by omega
  unfold wX0_prove at h
  refine lv_aload_n (pc := 0) hx hb dX0_prove_0 rfl (lv_at hl 0 rfl) ?_
  refine lv_null (pc := 1) hx hb dX0_prove_1 ?_
  obtain ⟨f2, f3, f4, f5, f6, f7, f8, f9, f10, f11, f12, f13, f14, f15, f16, f17, f18, f19, f20, hN1, h⟩ := h
  refine c_put (pc := 2) (v := va_rf none) X hw hN1 in_X0 tyX0 tyX0_ok nmX0 rfl 11 (by decide) q226 rfl rfl rfl (rf_n none _) (rf_f none _) (Nat.le_of_ble_eq_true rfl) dX0_prove_2 (fun H locs hw => ?_)
  obtain ⟨N21, e22⟩ : ∃ z, z = va_up N x0 (some (eO 1 [va_rf f2, va_rf f3, va_rf f4, va_rf f5, va_rf f6, va_rf f7, va_rf f8, va_rf f9, va_rf f10, .int f11, .int f12, va_rf none, va_rf f14, .int f15, va_rf f16, va_rf f17, va_rf f18, va_rf f19, va_rf f20])) := ⟨_, rfl⟩
  have hw : cH G A s [] N21 H locs := by rw [e22]; exact hw
  have h := h N21 e22
  have hN23 : N21 x0 = some (eO 1 [va_rf f2, va_rf f3, va_rf f4, va_rf f5, va_rf f6, va_rf f7, va_rf f8, va_rf f9, va_rf f10, .int f11, .int f12, va_rf none, va_rf f14, .int f15, va_rf f16, va_rf f17, va_rf f18, va_rf f19, va_rf f20]) := by rw [e22]; exact up_s
  refine lv_aload_n (pc := 5) hx hb dX0_prove_5 rfl (lv_at hl 0 rfl) ?_
  refine lv_iload_n (pc := 6) hx hb dX0_prove_6 rfl (lv_at hl 1 rfl) ?_
  obtain ⟨mc26, ms27, hm28, hm29, h⟩ := h
  refine c_callJ (pc := 7) (val := vQ) X hw (vx_runVW (C := RX0) (As := [.int x1]) (rest := []) X.1 (tX0_at hL X.2.2.1 (sz := H.size) h) (vx_cwVW 1 hts (lw_VW q898 q900 qs20 q102 q901) rfl rfl rfl ⟨rfl, by decide, by decide, (by decide +kernel : (parseMethodDescriptor yX0_at.desc).map (fun d => d.parameters.length) = some 1)⟩ ⟨Nat.le_of_ble_eq_true rfl, Nat.le_of_ble_eq_true rfl⟩) ⟨cPre_blind, c_recv X hw hN23 rfl, fun U hU hW => ⟨rfl, X.preJ hw hU hW⟩⟩ rfl rfl hl.1 rfl (lv_room (Nat.le_of_ble_eq_true rfl)) dX0_prove_7 ⟨show 0 + mc26 ≤ MC by omega, show 0 + ms27 ≤ MS by omega⟩) (fun r24 N25 H locs h hw => ?_)
  refine W.eq (g2 := F0 m 10 ls (va_rf r24 :: [])) rfl ?_
  refine lq_astore_n (pc := 10) (lv' := [(2, va_rf r24), (0, .ref x0), (1, .int x1)]) hx hb dX0_prove_10 rfl hl (by decide) rfl (fun ls hl => ?_)
  refine lq_aload_n (pc := 11) hx hb dX0_prove_11 rfl (lv_at hl 0 rfl) ?_
  refine lq_ifnonnull (pc := 12) (tgt := 20) hx hb dX0_prove_12 rfl (fun hz30 => ?_) (fun a31 hr32 => ?_)
  · have h := h.1 hz30
    refine lv_bipush (pc := 15) (v := (-2 : Int32)) hx hb dX0_prove_15 (by decide) ?_
    refine lv_goto (pc := 17) (tgt := 32) hx hb dX0_prove_17 rfl ?_
    exact kX0_prove_32 X hr hlk hL hT  _ _ _ _ _ _ _ _ _ _ h ⟨hw, by omega⟩ (lv_sub hl [1] rfl)
  · have h := h.2 a31 hr32
    obtain ⟨hm56, hm57, h⟩ := h
    refine c_new (pc := 20) (ci := 2) (fs := [.int (0 : Int32), .int (0 : Int32), .int (0 : Int32), va_rf none]) X hw in_X2 tyX2 tyX2_ok q392 q393 q113 rfl nf_X2 (show 0 + mc26 + 1 ≤ MC by omega) (show 0 + ms27 + 4 ≤ MS by omega) dX0_prove_20 (fun nq58 H hq59 _ hw => ?_)
    have h := h nq58 hq59
    obtain ⟨N60, e61⟩ : ∃ z, z = va_up N25 nq58 (some (eO 2 [.int (0 : Int32), .int (0 : Int32), .int (0 : Int32), va_rf none])) := ⟨_, rfl⟩
    have hw : cH G A s [] N60 H locs := by rw [e61]; exact hw
    have h := h N60 e61
    have hN62 : N60 nq58 = some (eO 2 [.int (0 : Int32), .int (0 : Int32), .int (0 : Int32), va_rf none]) := by rw [e61]; exact up_s
    refine lv_dup (pc := 23) hx hb dX0_prove_23 rfl ?_
    refine lv_aload_n (pc := 24) hx hb dX0_prove_24 rfl (lv_at hl 1 rfl) ?_
    refine c_callJ (pc := 25) (val := vV) X hw (va_runI (As := [va_rf (some x0)]) (rest := [.ref nq58]) X.1 (tX2_init X.2.2.1 (sz := H.size) h) (cwI 1 hts (lw_meth q396) rfl rfl rfl (hts _ q113) (hts _ q394) (hts _ q395) rfl ⟨by decide, by decide, (by decide +kernel : (parseMethodDescriptor yX2_init.desc).map (fun d => d.parameters.length) = some 1)⟩ ⟨Nat.le_of_ble_eq_true rfl, Nat.le_of_ble_eq_true rfl⟩) ⟨cPre_blind, fun U hU hW => ⟨rfl, X.preJ hw hU hW⟩⟩ rfl rfl hl.1 rfl (lv_room (Nat.le_of_ble_eq_true rfl)) dX0_prove_25 ⟨show 0 + mc26 + 1 + 0 ≤ MC by omega, show 0 + ms27 + 4 + 0 ≤ MS by omega⟩) (fun _ N64 H locs h hw => ?_)
    refine W.eq (g2 := F0 m 28 ls ([.ref nq58])) rfl ?_
    refine lq_aload_n (pc := 28) hx hb dX0_prove_28 rfl (lv_at hl 0 rfl) ?_
    obtain ⟨f72, f73, f74, f75, hN71, h⟩ := h
    obtain ⟨mc67, ms68, hm69, hm70, h⟩ := h
    refine cx_callJ (pc := 29) (val := vI) X hw (cx_runVX (C := RX2) (As := [va_rf r24]) (rest := []) X.1 (tX2_proof hL X.2.2.1 (sz := H.size) h) (vx_cwVW 1 hts (lw_VW q927 q928 q929 q113 q930) rfl rfl rfl ⟨rfl, by decide, by decide, (by decide +kernel : (parseMethodDescriptor yX2_proof.desc).map (fun d => d.parameters.length) = some 1)⟩ ⟨Nat.le_of_ble_eq_true rfl, Nat.le_of_ble_eq_true rfl⟩) ⟨cPre_blind, c_recv X hw hN71 rfl, fun U hU hW => ⟨rfl, X.preJ hw hU hW⟩⟩ rfl rfl hl.1 rfl (lv_room (Nat.le_of_ble_eq_true rfl)) dX0_prove_29 ⟨show 0 + mc26 + 1 + 0 + mc67 ≤ MC by omega, show 0 + ms27 + 4 + 0 + ms68 ≤ MS by omega⟩) (fun q76 N77 H locs ci78 fs79 ch82 hci80 hNq81 h hw hch => ?_) (fun r65 N66 H locs h hw => ?_)
    · have hci80 := List.mem_singleton.mp hci80
      subst hci80
      have h := h fs79 hNq81
      refine cx_catchJ (pc := 29) X hw hNq81 rfl [] ⟨5, 33, 40, 149⟩ [⟨5, 33, 55, 0⟩, ⟨40, 48, 55, 0⟩, ⟨55, 57, 55, 0⟩] (by rw [hT]; rfl) ep_n rfl (by decide) q387 q844 ?_
      refine lv_astore_n (pc := 40) (lv' := [(2, .ref q76), (0, .ref x0), (1, .int x1)]) hx hb dX0_prove_40 rfl hl (by decide) rfl (fun ls hl => ?_)
      refine lv_aload_n (pc := 41) hx hb dX0_prove_41 rfl (lv_at hl 1 rfl) ?_
      refine lv_aload_n (pc := 42) hx hb dX0_prove_42 rfl (lv_at hl 0 rfl) ?_
      obtain ⟨f84, f85, f86, f87, f88, f89, f90, f91, f92, f93, f94, f95, f96, f97, f98, f99, f100, f101, f102, hN83, h⟩ := h
      refine mo_row (dc := 0) (dn := 0) X hw ⟨show 0 + mc26 + 1 + 0 + mc67 ≤ MC by omega, show 0 + ms27 + 4 + 0 + ms68 ≤ MS by omega⟩ (fun s Q X hw kk => c_put (pc := 43) (Q := Q) (v := va_rf (some q76)) X hw hN83 in_X0 tyX0 tyX0_ok nmX0 rfl 11 (by decide) q226 rfl rfl rfl (rf_n (some q76) _) (rf_f (some q76) _) (Nat.le_of_ble_eq_true rfl) dX0_prove_43 (fun H1 locs1 hw1 => kk _ H1 locs1 rfl hw1)) (fun N9 H locs e9 hw hMo => ?_)
      subst e9
      have hch := hMo.all hch
      obtain ⟨N103, e104⟩ : ∃ z, z = va_up N77 x0 (some (eO 1 [va_rf f84, va_rf f85, va_rf f86, va_rf f87, va_rf f88, va_rf f89, va_rf f90, va_rf f91, va_rf f92, .int f93, .int f94, va_rf (some q76), va_rf f96, .int f97, va_rf f98, va_rf f99, va_rf f100, va_rf f101, va_rf f102])) := ⟨_, rfl⟩
      have hw : cH G A s [] N103 H locs := by rw [e104]; exact hw
      have h := h N103 e104
      have hN105 : N103 x0 = some (eO 1 [va_rf f84, va_rf f85, va_rf f86, va_rf f87, va_rf f88, va_rf f89, va_rf f90, va_rf f91, va_rf f92, .int f93, .int f94, va_rf (some q76), va_rf f96, .int f97, va_rf f98, va_rf f99, va_rf f100, va_rf f101, va_rf f102]) := by rw [e104]; exact up_s
      refine lv_iconst (pc := 46) (v := (-1 : Int32)) hx hb dX0_prove_46 (by decide) ?_
      refine lv_istore_n (pc := 47) (lv' := [(3, .int (-1 : Int32)), (2, .ref q76), (0, .ref x0), (1, .int x1)]) hx hb dX0_prove_47 rfl hl (by decide) rfl (fun ls hl => ?_)
      refine lv_aload_n (pc := 48) hx hb dX0_prove_48 rfl (lv_at hl 2 rfl) ?_
      refine lv_iconst (pc := 49) (v := (0 : Int32)) hx hb dX0_prove_49 (by decide) ?_
      refine mo_row (dc := 0) (dn := 0) X hw ⟨show 0 + mc26 + 1 + 0 + mc67 ≤ MC by omega, show 0 + ms27 + 4 + 0 + ms68 ≤ MS by omega⟩ (fun s Q X hw kk => c_put (pc := 50) (Q := Q) X hw hN105 in_X0 tyX0 tyX0_ok nmX0 rfl 13 (by decide) q230 rfl rfl rfl rfl rfl (Nat.le_of_ble_eq_true rfl) dX0_prove_50 (fun H1 locs1 hw1 => kk _ H1 locs1 rfl hw1)) (fun N9 H locs e9 hw hMo => ?_)
      subst e9
      have hch := hMo.all hch
      obtain ⟨N106, e107⟩ : ∃ z, z = va_up N103 x0 (some (eO 1 [va_rf f84, va_rf f85, va_rf f86, va_rf f87, va_rf f88, va_rf f89, va_rf f90, va_rf f91, va_rf f92, .int f93, .int f94, va_rf (some q76), va_rf f96, .int (0 : Int32), va_rf f98, va_rf f99, va_rf f100, va_rf f101, va_rf f102])) := ⟨_, rfl⟩
      have hw : cH G A s [] N106 H locs := by rw [e107]; exact hw
      have h := h N106 e107
      have hN108 : N106 x0 = some (eO 1 [va_rf f84, va_rf f85, va_rf f86, va_rf f87, va_rf f88, va_rf f89, va_rf f90, va_rf f91, va_rf f92, .int f93, .int f94, va_rf (some q76), va_rf f96, .int (0 : Int32), va_rf f98, va_rf f99, va_rf f100, va_rf f101, va_rf f102]) := by rw [e107]; exact up_s
      refine lv_iload_n (pc := 53) hx hb dX0_prove_53 rfl (lv_at hl 0 rfl) ?_
      refine W.widen (k := MC) (n := MS) (by omega) (by omega) ?_
      refine cx_ret ?_
      exact W.iret (pc := 54) hx hb hr (fun t ht hW => c_retM (val := vI) hw hch h ht) hw.2.2.2 dX0_prove_54 hlk
    refine W.eq (g2 := F0 m 32 ls (.int r65 :: [])) rfl ?_
    exact kX0_prove_32 X hr hlk hL hT  _ _ _ _ _ _ _ _ _ _ h ⟨hw, by omega⟩ (lv_sub hl [1] rfl)
theorem tX0_prove {l : Launch} (hL : l.stackTraces = false) {G : gG} (hO : gOk G) {post : Int32 → List Nat → NM → Prop} {MC MS : Nat} {N : NM} {x0 : Nat} {x1 : Int32} {sz : Nat} (h : wX0_prove (gC G) post MC MS N x0 x1) : Met l yX0_prove (wsW_ yX0_prove cX0_prove 5 (some .int) [(5, 33, 40, 149), (5, 33, 55, 0), (40, 48, 55, 0), (55, 57, 55, 0)]) ⟨10, MC, MS, 10322⟩ (va_Pc [.ref x0, .int x1] (cPre G [] N sz)) (gQ vI (fun r (u : NM × List Nat) => post r u.2 u.1) (fun (u : NM × List Nat) H => cBw G (cA [] N sz) [] u.1 H ∧ ∀ a ∈ u.2, Mf H a) (cA [] N sz)) MC MS (cA [] N sz) := cx_toMet (txX0_prove hL hO h)
