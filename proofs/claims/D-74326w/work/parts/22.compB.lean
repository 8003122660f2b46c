set_option maxRecDepth 100000
set_option maxHeartbeats 4000000
def wX0_feed_36 (K : Nat → Nat → Nat) (post : Int32 → NM → Prop) : Nat → Nat → Nat → Nat → Int32 → Nat → Nat → NM → Prop
  | 0, _, _, _, _, _, _, _ => False
  | n + 1, x0, x6, x7, x8, mc, ms, N => ∃ n41 f42, N x6 = some (eN 3 n41 f42) ∧ ((((nI n41) ≤ x8) → (∃ f45 f46 f47 f48 f49 f50 f51 f52 f53 f54 f55 f56 f57 f58 f59 f60 f61 f62 f63, N x0 = some (eO 1 [va_rf f45, va_rf f46, va_rf f47, va_rf f48, va_rf f49, va_rf f50, va_rf f51, va_rf f52, va_rf f53, .int f54, .int f55, va_rf f56, va_rf f57, .int f58, va_rf f59, va_rf f60, va_rf f61, va_rf f62, va_rf f63]) ∧ (∃ a64, f57 = some a64 ∧ (∃ n67 f68, N a64 = some (eN 3 n67 f68) ∧ (¬ (0 : Int32) < 0 ∧ ¬ f58 < 0 ∧ ¬ (nI n41) < 0 ∧ (0 : Int32).toNatClampNeg + (nI n41).toNatClampNeg ≤ n41 ∧ ((f58.toNatClampNeg + (nI n41).toNatClampNeg ≤ n67 → ((∀ i, i < (nI n41).toNatClampNeg → fits .byte (.int (f42 ((0 : Int32).toNatClampNeg + i))) = true) ∧ (∀ N78, N78 = va_up N a64 (some (eN 3 n67 (va_cpy f42 f68 (0 : Int32).toNatClampNeg f58.toNatClampNeg (nI n41).toNatClampNeg))) → (∃ n83 f84, N78 x6 = some (eN 3 n83 f84) ∧ (∀ N85, N85 = va_up N78 x0 (some (eO 1 [va_rf f45, va_rf f46, va_rf f47, va_rf f48, va_rf f49, va_rf f50, va_rf f51, va_rf f52, va_rf f53, .int f54, .int f55, va_rf f56, va_rf f57, .int (f58 + (nI n83)), va_rf f59, va_rf f60, va_rf f61, va_rf f62, va_rf f63])) → (post (f58 + (nI n83)) N85)))))) ∧ (¬ f58.toNatClampNeg + (nI n41).toNatClampNeg ≤ n67 → n67 < 1000 ∧ 3 ≤ mc ∧ 410 ≤ ms ∧ ∀ q90 : Nat, (post (-1 : Int32) N)))))))) ∧ (¬ ((nI n41) ≤ x8) → (∃ n93 f94, N x7 = some (eN 0 n93 f94) ∧ (vp_in (x8 / (4 : Int32)) n93 ∧ (vp_in x8 n41 ∧ (∀ N95, N95 = va_up N x6 (some (eN 3 n41 (upd f42 x8.toNatClampNeg (vp_nar .byte (((f94 (x8 / (4 : Int32)).toNatClampNeg) >>> (((24 : Int32) - ((8 : Int32) * (x8 - x8 / (4 : Int32) * (4 : Int32)))) &&& 31)).toInt8.toInt32))))) → (wX0_feed_36 K post n x0 x6 x7 (x8 + (1 : Int32)) mc ms N95)))))))
def wX0_feed (K : Nat → Nat → Nat) (post : Int32 → NM → Prop) (MC MS : Nat) (N : NM) (x0 : Nat) (x1 : Int32) (x2 : Int32) (x3 : Int32) (x4 : Int32) (x5 : Int32) : Prop :=
  ¬ (20 : Int32) < 0 ∧ (20 : Int32).toNatClampNeg ≤ 65536 ∧ 1 ≤ MC ∧ (20 : Int32).toNatClampNeg ≤ MS ∧ (∀ nq5, N nq5 = none → (∀ N7, N7 = va_up N nq5 (some (eN 3 ((20 : Int32).toNatClampNeg) (fun _ => (0 : Int32)))) → (¬ (5 : Int32) < 0 ∧ (5 : Int32).toNatClampNeg ≤ 65536 ∧ 1 ≤ (MC - 1) ∧ (5 : Int32).toNatClampNeg ≤ (MS - (20 : Int32).toNatClampNeg) ∧ (∀ nq14, N7 nq14 = none → (∀ N16, N16 = va_up N7 nq14 (some (eN 0 ((5 : Int32).toNatClampNeg) (fun _ => (0 : Int32)))) → (vp_in (0 : Int32) ((5 : Int32).toNatClampNeg) ∧ (∀ N20, N20 = va_up N16 nq14 (some (eN 0 ((5 : Int32).toNatClampNeg) (upd (fun _ => (0 : Int32)) (0 : Int32).toNatClampNeg x1))) → (vp_in (1 : Int32) ((5 : Int32).toNatClampNeg) ∧ (∀ N24, N24 = va_up N20 nq14 (some (eN 0 ((5 : Int32).toNatClampNeg) (upd (upd (fun _ => (0 : Int32)) (0 : Int32).toNatClampNeg x1) (1 : Int32).toNatClampNeg x2))) → (vp_in (2 : Int32) ((5 : Int32).toNatClampNeg) ∧ (∀ N28, N28 = va_up N24 nq14 (some (eN 0 ((5 : Int32).toNatClampNeg) (upd (upd (upd (fun _ => (0 : Int32)) (0 : Int32).toNatClampNeg x1) (1 : Int32).toNatClampNeg x2) (2 : Int32).toNatClampNeg x3))) → (vp_in (3 : Int32) ((5 : Int32).toNatClampNeg) ∧ (∀ N32, N32 = va_up N28 nq14 (some (eN 0 ((5 : Int32).toNatClampNeg) (upd (upd (upd (upd (fun _ => (0 : Int32)) (0 : Int32).toNatClampNeg x1) (1 : Int32).toNatClampNeg x2) (2 : Int32).toNatClampNeg x3) (3 : Int32).toNatClampNeg x4))) → (vp_in (4 : Int32) ((5 : Int32).toNatClampNeg) ∧ (∀ N36, N36 = va_up N32 nq14 (some (eN 0 ((5 : Int32).toNatClampNeg) (upd (upd (upd (upd (upd (fun _ => (0 : Int32)) (0 : Int32).toNatClampNeg x1) (1 : Int32).toNatClampNeg x2) (2 : Int32).toNatClampNeg x3) (3 : Int32).toNatClampNeg x4) (4 : Int32).toNatClampNeg x5))) → ((∃ k, wX0_feed_36 K post k x0 nq5 nq14 (0 : Int32) ((MC - 1) - 1) ((MS - (20 : Int32).toNatClampNeg) - (5 : Int32).toNatClampNeg) N36)))))))))))))))))
theorem kX0_feed_36 {p : Program} {l : Launch} {e : Env} {s : State} {m : MethodId} {args : Array Value} {below : List Frame} {meth : Method} {c : Code} {G : gG} {A : Nat → Prop} {MC MS : Nat} {post : Int32 → NM → Prop} (X : cX G A RX0 p s m args c cX0_feed 9) (hr : meth.sig.returnType = (some .int)) (hlk : meth.locks = false) (hL : l.stackTraces = false) (hT : c.exceptionTable.toList = tableOf [(74, 107, 108, 15)]) : ∀ (n : Nat) (x0 : Nat) (x6 : Nat) (x7 : Nat) (x8 : Int32) (mc ms : Nat) (N : NM) (H : Heap) (locs : List Loc) (ls : Array Slot) (cells slots : Nat), wX0_feed_36 (gC G) post n x0 x6 x7 x8 mc ms N → (cH G A s [] N H locs ∧ cells + mc ≤ MC ∧ slots + ms ≤ MS) → lv_has ls 9 [(0, .ref x0), (6, .ref x6), (7, .ref x7), (8, .int x8)] → W p l e ⟨10, MC, MS, 10300⟩ s m args below meth c H locs cells slots (cx_MQ below (gQ vI post (fun u H => cBw G A (jW u).1 (jW u).2 H) A) (cXC G A [] (fun _ _ _ => False)) args s MC MS A) (F0 m 36 ls []) := by
  have hx := X.1.1
  have hb := X.1.2.1
  have hml := X.1.2.2.1
  have hown := X.1.2.2.2.1
  have hts := X.1.2.2.2.2
  intro n
  induction n with
  | zero =>
    intro x0 x6 x7 x8 mc ms N H locs ls cells slots h
    exact False.elim h
  | succ n ih =>
    intro x0 x6 x7 x8 mc ms N H locs ls cells slots h hw0 hl
    obtain ⟨hw, hbud⟩ := hw0
    unfold wX0_feed_36 at h
    refine lv_iload (pc := 36) hx hb dX0_feed_36 (lv_at hl 3 rfl) ?_
    refine lv_aload (pc := 38) hx hb dX0_feed_38 (lv_at hl 1 rfl) ?_
    obtain ⟨n41, f42, hN40, h⟩ := h
    refine c_alen (pc := 40) X hw hN40 rfl dX0_feed_40 ?_
    refine lv_icmp_ge (pc := 41) (tgt := 74) hx hb dX0_feed_41 rfl (fun c43 => ?_) (fun c43 => ?_)
    · have h := h.1 c43
      refine lv_aload (pc := 74) hx hb dX0_feed_74 (lv_at hl 1 rfl) ?_
      refine lv_iconst (pc := 76) (v := (0 : Int32)) hx hb dX0_feed_76 (by decide) ?_
      refine lv_aload_n (pc := 77) hx hb dX0_feed_77 rfl (lv_at hl 0 rfl) ?_
      obtain ⟨f45, f46, f47, f48, f49, f50, f51, f52, f53, f54, f55, f56, f57, f58, f59, f60, f61, f62, f63, hN44, h⟩ := h
      refine c_get (pc := 78) X hw hN44 in_X0 rfl 12 (by decide) q228 rfl rfl dX0_feed_78 ?_
      refine lv_aload_n (pc := 81) hx hb dX0_feed_81 rfl (lv_at hl 0 rfl) ?_
      refine c_get (pc := 82) X hw hN44 in_X0 rfl 13 (by decide) q230 rfl rfl dX0_feed_82 ?_
      refine lv_aload (pc := 85) hx hb dX0_feed_85 (lv_at hl 1 rfl) ?_
      refine c_alen (pc := 87) X hw hN40 rfl dX0_feed_87 ?_
      obtain ⟨a64, hr65, h⟩ := h
      refine W.eq (g2 := F0 m 88 ls [.int (nI n41), .int f58, .ref a64, .int (0 : Int32), .ref x6]) (by rw [hr65]; rfl) ?_
      obtain ⟨n67, f68, hN66, h⟩ := h
      obtain ⟨hm69, hm70, hm71, hm72, h⟩ := h
      by_cases hm73 : f58.toNatClampNeg + (nI n41).toNatClampNeg ≤ n67
      · have h := h.1 hm73
        obtain ⟨hm74, h⟩ := h
        refine c_copyi (pc := 88) (rest := []) X hw hl.1 q372 q374 q373 q112 3 hN40 hN66 rfl rfl hm69 hm70 hm71 hm72 hm73 hm74 (Nat.le_of_ble_eq_true rfl) (Nat.le_of_ble_eq_true rfl) dX0_feed_88 (fun H locs hw => ?_)
        obtain ⟨N78, e79⟩ : ∃ z, z = va_up N a64 (some (eN 3 n67 (va_cpy f42 f68 (0 : Int32).toNatClampNeg f58.toNatClampNeg (nI n41).toNatClampNeg))) := ⟨_, rfl⟩
        have hw : cH G A s [] N78 H locs := by rw [e79]; exact hw
        have h := h N78 e79
        have hN80 : N78 a64 = some (eN 3 n67 (va_cpy f42 f68 (0 : Int32).toNatClampNeg f58.toNatClampNeg (nI n41).toNatClampNeg)) := by rw [e79]; exact up_s
        have hN81 := up_k (x := some (eN 3 n67 (va_cpy f42 f68 (0 : Int32).toNatClampNeg f58.toNatClampNeg (nI n41).toNatClampNeg))) hN66 hN44 (show (7 : Nat) ≠ 2 by decide)
        rw [← e79] at hN81
        refine lv_aload_n (pc := 91) hx hb dX0_feed_91 rfl (lv_at hl 0 rfl) ?_
        refine lv_dup (pc := 92) hx hb dX0_feed_92 rfl ?_
        refine c_get (pc := 93) X hw hN81 in_X0 rfl 13 (by decide) q230 rfl rfl dX0_feed_93 ?_
        refine lv_aload (pc := 96) hx hb dX0_feed_96 (lv_at hl 1 rfl) ?_
        obtain ⟨n83, f84, hN82, h⟩ := h
        refine c_alen (pc := 98) X hw hN82 rfl dX0_feed_98 ?_
        refine lv_iadd (pc := 99) hx hb dX0_feed_99 ?_
        refine c_put (pc := 100) X hw hN81 in_X0 tyX0 tyX0_ok nmX0 rfl 13 (by decide) q230 rfl rfl rfl rfl rfl (Nat.le_of_ble_eq_true rfl) dX0_feed_100 (fun H locs hw => ?_)
        obtain ⟨N85, e86⟩ : ∃ z, z = va_up N78 x0 (some (eO 1 [va_rf f45, va_rf f46, va_rf f47, va_rf f48, va_rf f49, va_rf f50, va_rf f51, va_rf f52, va_rf f53, .int f54, .int f55, va_rf f56, va_rf f57, .int (f58 + (nI n83)), va_rf f59, va_rf f60, va_rf f61, va_rf f62, va_rf f63])) := ⟨_, rfl⟩
        have hw : cH G A s [] N85 H locs := by rw [e86]; exact hw
        have h := h N85 e86
        have hN87 : N85 x0 = some (eO 1 [va_rf f45, va_rf f46, va_rf f47, va_rf f48, va_rf f49, va_rf f50, va_rf f51, va_rf f52, va_rf f53, .int f54, .int f55, va_rf f56, va_rf f57, .int (f58 + (nI n83)), va_rf f59, va_rf f60, va_rf f61, va_rf f62, va_rf f63]) := by rw [e86]; exact up_s
        have hN88 := up_k (x := some (eO 1 [va_rf f45, va_rf f46, va_rf f47, va_rf f48, va_rf f49, va_rf f50, va_rf f51, va_rf f52, va_rf f53, .int f54, .int f55, va_rf f56, va_rf f57, .int (f58 + (nI n83)), va_rf f59, va_rf f60, va_rf f61, va_rf f62, va_rf f63])) hN81 hN80 (show (2 : Nat) ≠ 7 by decide)
        rw [← e86] at hN88
        have hN89 := up_k (x := some (eO 1 [va_rf f45, va_rf f46, va_rf f47, va_rf f48, va_rf f49, va_rf f50, va_rf f51, va_rf f52, va_rf f53, .int f54, .int f55, va_rf f56, va_rf f57, .int (f58 + (nI n83)), va_rf f59, va_rf f60, va_rf f61, va_rf f62, va_rf f63])) hN81 hN82 (show (2 : Nat) ≠ 7 by decide)
        rw [← e86] at hN89
        refine lv_aload_n (pc := 103) hx hb dX0_feed_103 rfl (lv_at hl 0 rfl) ?_
        refine c_get (pc := 104) X hw hN87 in_X0 rfl 13 (by decide) q230 rfl rfl dX0_feed_104 ?_
        refine W.widen (k := MC) (n := MS) (by omega) (by omega) ?_
        refine cx_ret ?_
        exact W.iret (pc := 107) hx hb hr (fun t ht hW => c_ret (val := vI) (lw := jW) (u := N85) hw h ht) hw.2.2.2 dX0_feed_107 hlk
      · obtain ⟨hm75, hm76, hm77, h⟩ := h.2 hm73
        refine c_copyZ (pc := 88) (rest := []) (f0 := fun j => .int (f42 j)) (f1 := fun j => .int (f68 j)) X hw hL hl.1 q372 q374 q373 q112 3 hN40 hN66 rfl rfl rfl (by decide) (by decide) hm69 hm70 hm71 hm72 hm73 hm75 (Nat.le_of_ble_eq_true rfl) (Nat.le_trans (Nat.add_le_add_right (show _ ≤ 8 from (Nat.le_of_ble_eq_true rfl)) 10240) (Nat.le_of_ble_eq_true rfl)) (show cells + 3 ≤ MC by omega) (show slots + 410 ≤ MS by omega) dX0_feed_88 (fun H q90 hw hq91 => ?_)
        have h := h q90
        refine cx_catchM (pc := 88) X hq91 [] ⟨74, 107, 108, 15⟩ [] (by rw [hT]; rfl) ep_n rfl (by decide) q282 q348 ?_
        refine lv_astore (pc := 108) (lv' := [(8, .ref q90), (0, .ref x0), (6, .ref x6), (7, .ref x7)]) hx hb dX0_feed_108 hl (by decide) rfl (fun ls hl => ?_)
        refine lv_iconst (pc := 110) (v := (-1 : Int32)) hx hb dX0_feed_110 (by decide) ?_
        refine W.widen (k := MC) (n := MS) (by omega) (by omega) ?_
        refine cx_ret ?_
        exact W.iret (pc := 111) hx hb hr (fun t ht hW => c_ret (val := vI) (lw := jW) (u := N) hw h ht) hw.2.2.2 dX0_feed_111 hlk
    · have h := h.2 c43
      refine lv_aload (pc := 44) hx hb dX0_feed_44 (lv_at hl 1 rfl) ?_
      refine lv_iload (pc := 46) hx hb dX0_feed_46 (lv_at hl 3 rfl) ?_
      refine lv_aload (pc := 48) hx hb dX0_feed_48 (lv_at hl 2 rfl) ?_
      refine lv_iload (pc := 50) hx hb dX0_feed_50 (lv_at hl 3 rfl) ?_
      refine lv_iconst (pc := 52) (v := (4 : Int32)) hx hb dX0_feed_52 (by decide) ?_
      refine lv_idiv (pc := 53) hx hb dX0_feed_53 (by decide) ?_
      obtain ⟨n93, f94, hN92, h⟩ := h
      obtain ⟨hi, h⟩ := h
      refine c_iald (pc := 54) X hw hN92 hi dX0_feed_54 ?_
      refine lv_bipush (pc := 55) (v := (24 : Int32)) hx hb dX0_feed_55 (by decide) ?_
      refine lv_bipush (pc := 57) (v := (8 : Int32)) hx hb dX0_feed_57 (by decide) ?_
      refine lv_iload (pc := 59) hx hb dX0_feed_59 (lv_at hl 3 rfl) ?_
      refine lv_iconst (pc := 61) (v := (4 : Int32)) hx hb dX0_feed_61 (by decide) ?_
      refine lv_irem (pc := 62) hx hb dX0_feed_62 (by decide) ?_
      refine lv_imul (pc := 63) hx hb dX0_feed_63 ?_
      refine lv_isub (pc := 64) hx hb dX0_feed_64 ?_
      refine lv_ishr (pc := 65) hx hb dX0_feed_65 ?_
      refine lv_i2b (pc := 66) hx hb dX0_feed_66 rfl ?_
      obtain ⟨hi, h⟩ := h
      refine c_bast (pc := 67) X hw hN40 hi dX0_feed_67 (fun H locs hw => ?_)
      obtain ⟨N95, e96⟩ : ∃ z, z = va_up N x6 (some (eN 3 n41 (upd f42 x8.toNatClampNeg (vp_nar .byte (((f94 (x8 / (4 : Int32)).toNatClampNeg) >>> (((24 : Int32) - ((8 : Int32) * (x8 - x8 / (4 : Int32) * (4 : Int32)))) &&& 31)).toInt8.toInt32))))) := ⟨_, rfl⟩
      have hw : cH G A s [] N95 H locs := by rw [e96]; exact hw
      have h := h N95 e96
      have hN97 : N95 x6 = some (eN 3 n41 (upd f42 x8.toNatClampNeg (vp_nar .byte (((f94 (x8 / (4 : Int32)).toNatClampNeg) >>> (((24 : Int32) - ((8 : Int32) * (x8 - x8 / (4 : Int32) * (4 : Int32)))) &&& 31)).toInt8.toInt32)))) := by rw [e96]; exact up_s
      have hN98 := up_k (x := some (eN 3 n41 (upd f42 x8.toNatClampNeg (vp_nar .byte (((f94 (x8 / (4 : Int32)).toNatClampNeg) >>> (((24 : Int32) - ((8 : Int32) * (x8 - x8 / (4 : Int32) * (4 : Int32)))) &&& 31)).toInt8.toInt32))))) hN40 hN92 (show (7 : Nat) ≠ 1 by decide)
      rw [← e96] at hN98
      refine lv_iinc (pc := 68) (v := x8 + (1 : Int32)) (lv' := [(8, .int (x8 + (1 : Int32))), (0, .ref x0), (6, .ref x6), (7, .ref x7)]) hx hb dX0_feed_68 hl (k := 3) rfl rfl (by decide) rfl (fun ls hl => ?_)
      refine lv_goto (pc := 71) (tgt := 36) hx hb dX0_feed_71 rfl ?_
      exact ih _ _ _ _ _ _ _ _ _ _ _ _ h ⟨hw, by omega⟩ (lv_sub hl [1, 2, 3, 0] rfl)
theorem txX0_feed {l : Launch} (hL : l.stackTraces = false) {G : gG} (hO : gOk G) {post : Int32 → NM → Prop} {MC MS : Nat} {N : NM} {x0 : Nat} {x1 : Int32} {x2 : Int32} {x3 : Int32} {x4 : Int32} {x5 : Int32} {sz : Nat} (h : wX0_feed (gC G) post MC MS N x0 x1 x2 x3 x4 x5) : cx_Met l yX0_feed (wsW_ yX0_feed cX0_feed 9 (some .int) [(74, 107, 108, 15)]) ⟨10, MC, MS, 10300⟩ (va_Pc [.ref x0, .int x1, .int x2, .int x3, .int x4, .int x5] (cPre G [] N sz)) (gQ vI post (fun u H => cBw G (cA [] N sz) (jW u).1 (jW u).2 H) (cA [] N sz)) (cXC G (cA [] N sz) [] (fun _ _ _ => False)) MC MS (cA [] N sz) := by
  refine c_ofXH (B := fun A u H => cBw G A (jW u).1 (jW u).2 H) (by decide) hO (Nat.le_of_ble_eq_true rfl) (fun p e s m below meth c ls A X hr hlk hT hw hl => ?_)
  have hl : lv_has ls 9 [(0, .ref x0), (1, .int x1), (2, .int x2), (3, .int x3), (4, .int x4), (5, .int x5)] := hl
  have hx := X.1.1
  have hb := X.1.2.1
  have hml := X.1.2.2.1
  have hown := X.1.2.2.2.1
  have hts := X.1.2.2.2.2
  obtain ⟨H, eH⟩ : ∃ z, z = s.heap := ⟨_, rfl⟩
  rw [← eH] at hw ⊢
  obtain ⟨locs, eLo⟩ : ∃ z : List Loc, z = [] := ⟨_, rfl⟩
  rw [← eLo] at hw ⊢
  have hbud : 0 + MC ≤ MC ∧ 0 + MS ≤ MS := by omega
  unfold wX0_feed at h
  refine lv_bipush (pc := 0) (v := (20 : Int32)) hx hb dX0_feed_0 (by decide) ?_
  obtain ⟨hm1, hm2, hm3, hm4, h⟩ := h
  refine c_newa (pc := 2) (atype := .byte) (ty := .byte) (a0 := ((20 : Int32).toNatClampNeg, .inl (fun _ => (0 : Int32)))) X hw rfl q275 3 rfl (fun _ => rfl) hm1 rfl (Nat.le_trans (Nat.mul_le_mul_right _ hm2) (Nat.le_of_ble_eq_true rfl)) (show 0 + 1 ≤ MC by omega) (show 0 + (20 : Int32).toNatClampNeg ≤ MS by omega) dX0_feed_2 (fun nq5 H hq6 _ hw => ?_)
  have h := h nq5 hq6
  obtain ⟨N7, e8⟩ : ∃ z, z = va_up N nq5 (some (eN 3 ((20 : Int32).toNatClampNeg) (fun _ => (0 : Int32)))) := ⟨_, rfl⟩
  have hw : cH G A s [] N7 H locs := by rw [e8]; exact hw
  have h := h N7 e8
  have hN9 : N7 nq5 = some (eN 3 ((20 : Int32).toNatClampNeg) (fun _ => (0 : Int32))) := by rw [e8]; exact up_s
  refine lv_astore (pc := 4) (lv' := [(6, .ref nq5), (0, .ref x0), (1, .int x1), (2, .int x2), (3, .int x3), (4, .int x4), (5, .int x5)]) hx hb dX0_feed_4 hl (by decide) rfl (fun ls hl => ?_)
  refine lv_iconst (pc := 6) (v := (5 : Int32)) hx hb dX0_feed_6 (by decide) ?_
  obtain ⟨hm10, hm11, hm12, hm13, h⟩ := h
  refine c_newa (pc := 7) (atype := .int) (ty := .int) (a0 := ((5 : Int32).toNatClampNeg, .inl (fun _ => (0 : Int32)))) X hw rfl q375 0 rfl (fun _ => rfl) hm10 rfl (Nat.le_trans (Nat.mul_le_mul_right _ hm11) (Nat.le_of_ble_eq_true rfl)) (show 0 + 1 + 1 ≤ MC by omega) (show 0 + (20 : Int32).toNatClampNeg + (5 : Int32).toNatClampNeg ≤ MS by omega) dX0_feed_7 (fun nq14 H hq15 _ hw => ?_)
  have h := h nq14 hq15
  obtain ⟨N16, e17⟩ : ∃ z, z = va_up N7 nq14 (some (eN 0 ((5 : Int32).toNatClampNeg) (fun _ => (0 : Int32)))) := ⟨_, rfl⟩
  have hw : cH G A s [] N16 H locs := by rw [e17]; exact hw
  have h := h N16 e17
  have hN18 : N16 nq14 = some (eN 0 ((5 : Int32).toNatClampNeg) (fun _ => (0 : Int32))) := by rw [e17]; exact up_s
  have hN19 := up_f (x := some (eN 0 ((5 : Int32).toNatClampNeg) (fun _ => (0 : Int32)))) hq15 hN9
  rw [← e17] at hN19
  refine lv_dup (pc := 9) hx hb dX0_feed_9 rfl ?_
  refine lv_iconst (pc := 10) (v := (0 : Int32)) hx hb dX0_feed_10 (by decide) ?_
  refine lv_iload_n (pc := 11) hx hb dX0_feed_11 rfl (lv_at hl 2 rfl) ?_
  obtain ⟨hi, h⟩ := h
  refine c_iast (pc := 12) X hw hN18 hi dX0_feed_12 (fun H locs hw => ?_)
  obtain ⟨N20, e21⟩ : ∃ z, z = va_up N16 nq14 (some (eN 0 ((5 : Int32).toNatClampNeg) (upd (fun _ => (0 : Int32)) (0 : Int32).toNatClampNeg x1))) := ⟨_, rfl⟩
  have hw : cH G A s [] N20 H locs := by rw [e21]; exact hw
  have h := h N20 e21
  have hN22 : N20 nq14 = some (eN 0 ((5 : Int32).toNatClampNeg) (upd (fun _ => (0 : Int32)) (0 : Int32).toNatClampNeg x1)) := by rw [e21]; exact up_s
  have hN23 := up_k (x := some (eN 0 ((5 : Int32).toNatClampNeg) (upd (fun _ => (0 : Int32)) (0 : Int32).toNatClampNeg x1))) hN18 hN19 (show (1 : Nat) ≠ 7 by decide)
  rw [← e21] at hN23
  refine lv_dup (pc := 13) hx hb dX0_feed_13 rfl ?_
  refine lv_iconst (pc := 14) (v := (1 : Int32)) hx hb dX0_feed_14 (by decide) ?_
  refine lv_iload_n (pc := 15) hx hb dX0_feed_15 rfl (lv_at hl 3 rfl) ?_
  obtain ⟨hi, h⟩ := h
  refine c_iast (pc := 16) X hw hN22 hi dX0_feed_16 (fun H locs hw => ?_)
  obtain ⟨N24, e25⟩ : ∃ z, z = va_up N20 nq14 (some (eN 0 ((5 : Int32).toNatClampNeg) (upd (upd (fun _ => (0 : Int32)) (0 : Int32).toNatClampNeg x1) (1 : Int32).toNatClampNeg x2))) := ⟨_, rfl⟩
  have hw : cH G A s [] N24 H locs := by rw [e25]; exact hw
  have h := h N24 e25
  have hN26 : N24 nq14 = some (eN 0 ((5 : Int32).toNatClampNeg) (upd (upd (fun _ => (0 : Int32)) (0 : Int32).toNatClampNeg x1) (1 : Int32).toNatClampNeg x2)) := by rw [e25]; exact up_s
  have hN27 := up_k (x := some (eN 0 ((5 : Int32).toNatClampNeg) (upd (upd (fun _ => (0 : Int32)) (0 : Int32).toNatClampNeg x1) (1 : Int32).toNatClampNeg x2))) hN22 hN23 (show (1 : Nat) ≠ 7 by decide)
  rw [← e25] at hN27
  refine lv_dup (pc := 17) hx hb dX0_feed_17 rfl ?_
  refine lv_iconst (pc := 18) (v := (2 : Int32)) hx hb dX0_feed_18 (by decide) ?_
  refine lv_iload_n (pc := 19) hx hb dX0_feed_19 rfl (lv_at hl 4 rfl) ?_
  obtain ⟨hi, h⟩ := h
  refine c_iast (pc := 20) X hw hN26 hi dX0_feed_20 (fun H locs hw => ?_)
  obtain ⟨N28, e29⟩ : ∃ z, z = va_up N24 nq14 (some (eN 0 ((5 : Int32).toNatClampNeg) (upd (upd (upd (fun _ => (0 : Int32)) (0 : Int32).toNatClampNeg x1) (1 : Int32).toNatClampNeg x2) (2 : Int32).toNatClampNeg x3))) := ⟨_, rfl⟩
  have hw : cH G A s [] N28 H locs := by rw [e29]; exact hw
  have h := h N28 e29
  have hN30 : N28 nq14 = some (eN 0 ((5 : Int32).toNatClampNeg) (upd (upd (upd (fun _ => (0 : Int32)) (0 : Int32).toNatClampNeg x1) (1 : Int32).toNatClampNeg x2) (2 : Int32).toNatClampNeg x3)) := by rw [e29]; exact up_s
  have hN31 := up_k (x := some (eN 0 ((5 : Int32).toNatClampNeg) (upd (upd (upd (fun _ => (0 : Int32)) (0 : Int32).toNatClampNeg x1) (1 : Int32).toNatClampNeg x2) (2 : Int32).toNatClampNeg x3))) hN26 hN27 (show (1 : Nat) ≠ 7 by decide)
  rw [← e29] at hN31
  refine lv_dup (pc := 21) hx hb dX0_feed_21 rfl ?_
  refine lv_iconst (pc := 22) (v := (3 : Int32)) hx hb dX0_feed_22 (by decide) ?_
  refine lv_iload (pc := 23) hx hb dX0_feed_23 (lv_at hl 5 rfl) ?_
  obtain ⟨hi, h⟩ := h
  refine c_iast (pc := 25) X hw hN30 hi dX0_feed_25 (fun H locs hw => ?_)
  obtain ⟨N32, e33⟩ : ∃ z, z = va_up N28 nq14 (some (eN 0 ((5 : Int32).toNatClampNeg) (upd (upd (upd (upd (fun _ => (0 : Int32)) (0 : Int32).toNatClampNeg x1) (1 : Int32).toNatClampNeg x2) (2 : Int32).toNatClampNeg x3) (3 : Int32).toNatClampNeg x4))) := ⟨_, rfl⟩
  have hw : cH G A s [] N32 H locs := by rw [e33]; exact hw
  have h := h N32 e33
  have hN34 : N32 nq14 = some (eN 0 ((5 : Int32).toNatClampNeg) (upd (upd (upd (upd (fun _ => (0 : Int32)) (0 : Int32).toNatClampNeg x1) (1 : Int32).toNatClampNeg x2) (2 : Int32).toNatClampNeg x3) (3 : Int32).toNatClampNeg x4)) := by rw [e33]; exact up_s
  have hN35 := up_k (x := some (eN 0 ((5 : Int32).toNatClampNeg) (upd (upd (upd (upd (fun _ => (0 : Int32)) (0 : Int32).toNatClampNeg x1) (1 : Int32).toNatClampNeg x2) (2 : Int32).toNatClampNeg x3) (3 : Int32).toNatClampNeg x4))) hN30 hN31 (show (1 : Nat) ≠ 7 by decide)
  rw [← e33] at hN35
  refine lv_dup (pc := 26) hx hb dX0_feed_26 rfl ?_
  refine lv_iconst (pc := 27) (v := (4 : Int32)) hx hb dX0_feed_27 (by decide) ?_
  refine lv_iload (pc := 28) hx hb dX0_feed_28 (lv_at hl 6 rfl) ?_
  obtain ⟨hi, h⟩ := h
  refine c_iast (pc := 30) X hw hN34 hi dX0_feed_30 (fun H locs hw => ?_)
  obtain ⟨N36, e37⟩ : ∃ z, z = va_up N32 nq14 (some (eN 0 ((5 : Int32).toNatClampNeg) (upd (upd (upd (upd (upd (fun _ => (0 : Int32)) (0 : Int32).toNatClampNeg x1) (1 : Int32).toNatClampNeg x2) (2 : Int32).toNatClampNeg x3) (3 : Int32).toNatClampNeg x4) (4 : Int32).toNatClampNeg x5))) := ⟨_, rfl⟩
  have hw : cH G A s [] N36 H locs := by rw [e37]; exact hw
  have h := h N36 e37
  have hN38 : N36 nq14 = some (eN 0 ((5 : Int32).toNatClampNeg) (upd (upd (upd (upd (upd (fun _ => (0 : Int32)) (0 : Int32).toNatClampNeg x1) (1 : Int32).toNatClampNeg x2) (2 : Int32).toNatClampNeg x3) (3 : Int32).toNatClampNeg x4) (4 : Int32).toNatClampNeg x5)) := by rw [e37]; exact up_s
  have hN39 := up_k (x := some (eN 0 ((5 : Int32).toNatClampNeg) (upd (upd (upd (upd (upd (fun _ => (0 : Int32)) (0 : Int32).toNatClampNeg x1) (1 : Int32).toNatClampNeg x2) (2 : Int32).toNatClampNeg x3) (3 : Int32).toNatClampNeg x4) (4 : Int32).toNatClampNeg x5))) hN34 hN35 (show (1 : Nat) ≠ 7 by decide)
  rw [← e37] at hN39
  refine lv_astore (pc := 31) (lv' := [(7, .ref nq14), (6, .ref nq5), (0, .ref x0), (1, .int x1), (2, .int x2), (3, .int x3), (4, .int x4), (5, .int x5)]) hx hb dX0_feed_31 hl (by decide) rfl (fun ls hl => ?_)
  refine lv_iconst (pc := 33) (v := (0 : Int32)) hx hb dX0_feed_33 (by decide) ?_
  refine lv_istore (pc := 34) (lv' := [(8, .int (0 : Int32)), (7, .ref nq14), (6, .ref nq5), (0, .ref x0), (1, .int x1), (2, .int x2), (3, .int x3), (4, .int x4), (5, .int x5)]) hx hb dX0_feed_34 hl (by decide) rfl (fun ls hl => ?_)
  obtain ⟨k, h⟩ := h
  exact kX0_feed_36 X hr hlk hL hT  k _ _ _ _ _ _ _ _ _ _ _ _ h ⟨hw, by omega⟩ (lv_sub hl [3, 2, 1, 0] rfl)
theorem tX0_feed {l : Launch} (hL : l.stackTraces = false) {G : gG} (hO : gOk G) {post : Int32 → NM → Prop} {MC MS : Nat} {N : NM} {x0 : Nat} {x1 : Int32} {x2 : Int32} {x3 : Int32} {x4 : Int32} {x5 : Int32} {sz : Nat} (h : wX0_feed (gC G) post MC MS N x0 x1 x2 x3 x4 x5) : Met l yX0_feed (wsW_ yX0_feed cX0_feed 9 (some .int) [(74, 107, 108, 15)]) ⟨10, MC, MS, 10300⟩ (va_Pc [.ref x0, .int x1, .int x2, .int x3, .int x4, .int x5] (cPre G [] N sz)) (gQ vI post (fun u H => cBw G (cA [] N sz) (jW u).1 (jW u).2 H) (cA [] N sz)) MC MS (cA [] N sz) := cx_toMet (txX0_feed hL hO h)

def wX0_at (K : Nat → Nat → Nat) (post : Option Nat → NM → Prop) (MC MS : Nat) (N : NM) (x0 : Nat) (x1 : Int32) : Prop :=
  ∃ f2 f3 f4 f5 f6 f7 f8 f9 f10 f11 f12 f13 f14 f15 f16 f17 f18 f19 f20, N x0 = some (eO 1 [va_rf f2, va_rf f3, va_rf f4, va_rf f5, va_rf f6, va_rf f7, va_rf f8, va_rf f9, va_rf f10, .int f11, .int f12, va_rf f13, va_rf f14, .int f15, va_rf f16, va_rf f17, va_rf f18, va_rf f19, va_rf f20]) ∧ (∃ a21, f4 = some a21 ∧ (∃ n24 f25, N a21 = some (eR 4 n24 f25) ∧ ((vp_in x1 n24 → (((f25 x1.toNatClampNeg) = none → 1 ≤ MC ∧ 8 ≤ MS ∧ ∀ q29 : Nat, (post none N)) ∧ (∀ a26, (f25 x1.toNatClampNeg) = some a26 → (∃ f36, N a26 = some (eO 7 [va_rf f36]) ∧ (wX6_many K (fun r33 N34 => ((r33 ≤ (0 : Int32)) → (post none N34)) ∧ (¬ (r33 ≤ (0 : Int32)) → (∃ f39 f40 f41 f42 f43 f44 f45 f46 f47 f48 f49 f50 f51 f52 f53 f54 f55 f56 f57, N34 x0 = some (eO 1 [va_rf f39, va_rf f40, va_rf f41, va_rf f42, va_rf f43, va_rf f44, va_rf f45, va_rf f46, va_rf f47, .int f48, .int f49, va_rf f50, va_rf f51, .int f52, va_rf f53, va_rf f54, va_rf f55, va_rf f56, va_rf f57]) ∧ (∃ a58, f41 = some a58 ∧ (∃ n61 f62, N34 a58 = some (eR 4 n61 f62) ∧ ((vp_in x1 n61 → (post (f62 x1.toNatClampNeg) N34)) ∧ (¬ vp_in x1 n61 → n61 < 1000 ∧ 3 ≤ MC ∧ 210 ≤ MS ∧ ∀ q63 : Nat, (post none N34)))))))) N a26))))) ∧ (¬ vp_in x1 n24 → n24 < 1000 ∧ 3 ≤ MC ∧ 210 ≤ MS ∧ ∀ q68 : Nat, (post none N)))))
theorem txX0_at {l : Launch} (hL : l.stackTraces = false) {G : gG} (hO : gOk G) {post : Option Nat → NM → Prop} {MC MS : Nat} {N : NM} {x0 : Nat} {x1 : Int32} {sz : Nat} (h : wX0_at (gC G) post MC MS N x0 x1) : cx_Met l yX0_at (wsW_ yX0_at cX0_at 3 (some (.object "ToldPowers$Form")) [(0, 22, 23, 15), (0, 22, 23, 17)]) ⟨9, MC, MS, 10300⟩ (va_Pc [.ref x0, .int x1] (cPre G [] N sz)) (gQ vQ post (fun u H => cBw G (cA [] N sz) (jW u).1 (jW u).2 H) (cA [] N sz)) (cXC G (cA [] N sz) [] (fun _ _ _ => False)) MC MS (cA [] N sz) := by
  refine c_ofXH (B := fun A u H => cBw G A (jW u).1 (jW u).2 H) (by decide) hO (Nat.le_of_ble_eq_true rfl) (fun p e s m below meth c ls A X hr hlk hT hw hl => ?_)
  have hl : lv_has ls 3 [(0, .ref x0), (1, .int x1)] := hl
  have hx := X.1.1
  have hb := X.1.2.1
  have hml := X.1.2.2.1
  have hown := X.1.2.2.2.1
  have hts := X.1.2.2.2.2
  obtain ⟨H, eH⟩ : ∃ z, z = s.heap := ⟨_, rfl⟩
  rw [← eH] at hw ⊢
  obtain ⟨locs, eLo⟩ : ∃ z : List Loc, z = [] := ⟨_, rfl⟩
  rw [← eLo] at hw ⊢
  have hbud : 0 + MC ≤ MC ∧ 0 + MS ≤ MS := by omega
  unfold wX0_at at h
  refine lv_aload_n (pc := 0) hx hb dX0_at_0 rfl (lv_at hl 0 rfl) ?_
  obtain ⟨f2, f3, f4, f5, f6, f7, f8, f9, f10, f11, f12, f13, f14, f15, f16, f17, f18, f19, f20, hN1, h⟩ := h
  refine c_get (pc := 1) X hw hN1 in_X0 rfl 2 (by decide) q213 rfl rfl dX0_at_1 ?_
  refine lv_iload_n (pc := 4) hx hb dX0_at_4 rfl (lv_at hl 1 rfl) ?_
  obtain ⟨a21, hr22, h⟩ := h
  refine W.eq (g2 := F0 m 5 ls [.int x1, .ref a21]) (by rw [hr22]; rfl) ?_
  obtain ⟨n24, f25, hN23, h⟩ := h
  by_cases hi : vp_in x1 n24
  · have h := h.1 hi
    refine c_aald (pc := 5) X hw 4 hN23 rfl hi dX0_at_5 ?_
    by_cases hz28 : (f25 x1.toNatClampNeg) = none
    · obtain ⟨hm31, hm32, h⟩ := h.1 hz28
      refine W.eq (g2 := F0 m 6 ls [.null]) (by rw [hz28]; rfl) ?_
      refine vx_invokeN (pc := 6) (C := "ToldPowers$Form") (As := []) (rest := []) hx hb hown (hts _ q890) (hts _ q891) (hts _ q893) (hts _ q892) ⟨by decide, by decide⟩ (by decide +kernel) dX0_at_6 (c_npe (pc := 6) X hw hL hl.1 (Nat.le_of_ble_eq_true rfl) (Nat.le_trans (Nat.add_le_add_right (show _ ≤ 8 from (Nat.le_of_ble_eq_true rfl)) 10240) (Nat.le_of_ble_eq_true rfl)) (show 0 + 1 ≤ MC by omega) (show 0 + 8 ≤ MS by omega) hlk (fun H q29 hw hq30 => ?_)) rfl
      have h := h q29
      refine cx_catchM (pc := 6) X hq30 [⟨0, 22, 23, 15⟩] ⟨0, 22, 23, 17⟩ [] (by rw [hT]; rfl) (ep_c (Or.inr ⟨by decide, "java/lang/ArrayIndexOutOfBoundsException", X.1.2.2.2.2 _ q282, X.nc (and_r (and_l (and_r (and_r (and_r (and_r (and_r (and_l (and_r (and_l X.nar))))))))))⟩) ep_n) rfl (by decide) q902 q924 ?_
      refine lv_astore_n (pc := 23) (lv' := [(2, .ref q29), (0, .ref x0), (1, .int x1)]) hx hb dX0_at_23 rfl hl (by decide) rfl (fun ls hl => ?_)
      refine lv_null (pc := 24) hx hb dX0_at_24 ?_
      refine W.widen (k := MC) (n := MS) (by omega) (by omega) ?_
      refine cx_ret ?_
      exact W.aret (pc := 25) (v := va_rf none) hx hb hr (Or.inl ⟨_, rfl⟩) (va_rf_or _) (fun t ht hW => c_ret (val := vQ) (lw := jW) (u := N) hw h ht) hw.2.2.2 dX0_at_25 hlk
    · obtain ⟨a26, hr27⟩ := Option.ne_none_iff_exists'.mp hz28
      have h := h.2 a26 hr27
      refine W.eq (g2 := F0 m 6 ls [.ref a26]) (by rw [hr27]; rfl) ?_
      obtain ⟨f36, hN35, h⟩ := h
      refine c_callJ (pc := 6) (val := vI) X hw (va_runV (C := RX6) (As := []) (rest := []) X.1 (tX6_many X.2.2.1 (sz := H.size) h) (cwV 0 hts (lw_V q890 q891 q892 q129 q893) rfl rfl rfl ⟨rfl, by decide, by decide, (by decide +kernel : (parseMethodDescriptor yX6_many.desc).map (fun d => d.parameters.length) = some 0)⟩ ⟨Nat.le_of_ble_eq_true rfl, Nat.le_of_ble_eq_true rfl⟩) ⟨cPre_blind, c_recv X hw hN35 rfl, fun U hU hW => ⟨rfl, X.preJ hw hU hW⟩⟩ rfl rfl hl.1 rfl (lv_room (Nat.le_of_ble_eq_true rfl)) dX0_at_6 ⟨show 0 + 0 ≤ MC by omega, show 0 + 0 ≤ MS by omega⟩) (fun r33 N34 H locs h hw => ?_)
      refine W.eq (g2 := F0 m 9 ls (.int r33 :: [])) rfl ?_
      refine lv_if_le (pc := 9) (tgt := 21) hx hb dX0_at_9 rfl (fun c37 => ?_) (fun c37 => ?_)
      · have h := h.1 c37
        refine lv_null (pc := 21) hx hb dX0_at_21 ?_
        refine W.widen (k := MC) (n := MS) (by omega) (by omega) ?_
        refine cx_ret ?_
        exact W.aret (pc := 22) (v := va_rf none) hx hb hr (Or.inl ⟨_, rfl⟩) (va_rf_or _) (fun t ht hW => c_ret (val := vQ) (lw := jW) (u := N34) hw h ht) hw.2.2.2 dX0_at_22 hlk
      · have h := h.2 c37
        refine lv_aload_n (pc := 12) hx hb dX0_at_12 rfl (lv_at hl 0 rfl) ?_
        obtain ⟨f39, f40, f41, f42, f43, f44, f45, f46, f47, f48, f49, f50, f51, f52, f53, f54, f55, f56, f57, hN38, h⟩ := h
        refine c_get (pc := 13) X hw hN38 in_X0 rfl 2 (by decide) q213 rfl rfl dX0_at_13 ?_
        refine lv_iload_n (pc := 16) hx hb dX0_at_16 rfl (lv_at hl 1 rfl) ?_
        obtain ⟨a58, hr59, h⟩ := h
        refine W.eq (g2 := F0 m 17 ls [.int x1, .ref a58]) (by rw [hr59]; rfl) ?_
        obtain ⟨n61, f62, hN60, h⟩ := h
        by_cases hi : vp_in x1 n61
        · have h := h.1 hi
          refine c_aald (pc := 17) X hw 4 hN60 rfl hi dX0_at_17 ?_
          refine lv_goto (pc := 18) (tgt := 22) hx hb dX0_at_18 rfl ?_
          refine W.widen (k := MC) (n := MS) (by omega) (by omega) ?_
          refine cx_ret ?_
          exact W.aret (pc := 22) (v := va_rf (f62 x1.toNatClampNeg)) hx hb hr (Or.inl ⟨_, rfl⟩) (va_rf_or _) (fun t ht hW => c_ret (val := vQ) (lw := jW) (u := N34) hw h ht) hw.2.2.2 dX0_at_22 hlk
        · obtain ⟨hm65, hm66, hm67, h⟩ := h.2 hi
          refine c_aaldZ (pc := 17) X hw hL 4 hN60 rfl hi hm65 hl.1 (Nat.le_of_ble_eq_true rfl) (Nat.le_trans (Nat.add_le_add_right (show _ ≤ 8 from (Nat.le_of_ble_eq_true rfl)) 10240) (Nat.le_of_ble_eq_true rfl)) (show 0 + 0 + 3 ≤ MC by omega) (show 0 + 0 + 210 ≤ MS by omega) hlk dX0_at_17 (fun H q63 hw hq64 => ?_)
          have h := h q63
          refine cx_catchM (pc := 17) X hq64 [] ⟨0, 22, 23, 15⟩ [⟨0, 22, 23, 17⟩] (by rw [hT]; rfl) ep_n rfl (by decide) q282 q348 ?_
          refine lv_astore_n (pc := 23) (lv' := [(2, .ref q63), (0, .ref x0), (1, .int x1)]) hx hb dX0_at_23 rfl hl (by decide) rfl (fun ls hl => ?_)
          refine lv_null (pc := 24) hx hb dX0_at_24 ?_
          refine W.widen (k := MC) (n := MS) (by omega) (by omega) ?_
          refine cx_ret ?_
          exact W.aret (pc := 25) (v := va_rf none) hx hb hr (Or.inl ⟨_, rfl⟩) (va_rf_or _) (fun t ht hW => c_ret (val := vQ) (lw := jW) (u := N34) hw h ht) hw.2.2.2 dX0_at_25 hlk
  · obtain ⟨hm70, hm71, hm72, h⟩ := h.2 hi
    refine c_aaldZ (pc := 5) X hw hL 4 hN23 rfl hi hm70 hl.1 (Nat.le_of_ble_eq_true rfl) (Nat.le_trans (Nat.add_le_add_right (show _ ≤ 8 from (Nat.le_of_ble_eq_true rfl)) 10240) (Nat.le_of_ble_eq_true rfl)) (show 0 + 3 ≤ MC by omega) (show 0 + 210 ≤ MS by omega) hlk dX0_at_5 (fun H q68 hw hq69 => ?_)
    have h := h q68
    refine cx_catchM (pc := 5) X hq69 [] ⟨0, 22, 23, 15⟩ [⟨0, 22, 23, 17⟩] (by rw [hT]; rfl) ep_n rfl (by decide) q282 q348 ?_
    refine lv_astore_n (pc := 23) (lv' := [(2, .ref q68), (0, .ref x0), (1, .int x1)]) hx hb dX0_at_23 rfl hl (by decide) rfl (fun ls hl => ?_)
    refine lv_null (pc := 24) hx hb dX0_at_24 ?_
    refine W.widen (k := MC) (n := MS) (by omega) (by omega) ?_
    refine cx_ret ?_
    exact W.aret (pc := 25) (v := va_rf none) hx hb hr (Or.inl ⟨_, rfl⟩) (va_rf_or _) (fun t ht hW => c_ret (val := vQ) (lw := jW) (u := N) hw h ht) hw.2.2.2 dX0_at_25 hlk
theorem tX0_at {l : Launch} (hL : l.stackTraces = false) {G : gG} (hO : gOk G) {post : Option Nat → NM → Prop} {MC MS : Nat} {N : NM} {x0 : Nat} {x1 : Int32} {sz : Nat} (h : wX0_at (gC G) post MC MS N x0 x1) : Met l yX0_at (wsW_ yX0_at cX0_at 3 (some (.object "ToldPowers$Form")) [(0, 22, 23, 15), (0, 22, 23, 17)]) ⟨9, MC, MS, 10300⟩ (va_Pc [.ref x0, .int x1] (cPre G [] N sz)) (gQ vQ post (fun u H => cBw G (cA [] N sz) (jW u).1 (jW u).2 H) (cA [] N sz)) MC MS (cA [] N sz) := cx_toMet (txX0_at hL hO h)

def wX0_term (K : Nat → Nat → Nat) (post : Int32 → NM → Prop) (MC MS : Nat) (N : NM) (x0 : Nat) (x1 : Int32) (x2 : Int32) (x3 : Int32) : Prop :=
  ∃ f8 f9 f10 f11 f12 f13 f14 f15 f16 f17 f18 f19 f20 f21 f22 f23 f24 f25 f26, N x0 = some (eO 1 [va_rf f8, va_rf f9, va_rf f10, va_rf f11, va_rf f12, va_rf f13, va_rf f14, va_rf f15, va_rf f16, .int f17, .int f18, va_rf f19, va_rf f20, .int f21, va_rf f22, va_rf f23, va_rf f24, va_rf f25, va_rf f26]) ∧ (∃ mc3 ms4, mc3 ≤ MC ∧ ms4 ≤ MS ∧ wX0_at K (fun r1 N2 => (r1 = none → (post (-100000 : Int32) N2)) ∧ (∀ a28, r1 = some a28 → (∃ f33, N2 a28 = some (eO 7 [va_rf f33]) ∧ (wX6_many K (fun r30 N31 => wX0_isIn (fun r34 => ((r34 = (0 : Int32)) → (post (-100000 : Int32) N31)) ∧ (¬ (r34 = (0 : Int32)) → (∃ f37, N31 a28 = some (eO 7 [va_rf f37]) ∧ (∃ a38, f37 = some a38 ∧ (∃ n41 f42, N31 a38 = some (eR 5 n41 f42) ∧ (vp_in x2 n41 ∧ (((x3 = (0 : Int32)) → (∃ a44, (f42 x2.toNatClampNeg) = some a44 ∧ (∃ f47 f48 f49 f50, N31 a44 = some (eO 6 [.int f47, .int f48, .int f49, va_rf f50]) ∧ (post f47 N31)))) ∧ (¬ (x3 = (0 : Int32)) → (((x3 = (1 : Int32)) → (∃ a52, (f42 x2.toNatClampNeg) = some a52 ∧ (∃ f55 f56 f57 f58, N31 a52 = some (eO 6 [.int f55, .int f56, .int f57, va_rf f58]) ∧ (∃ a59, f58 = some a59 ∧ (∃ kk61, kk61 < 5 ∧ a59 = K 2 kk61 ∧ (post (nI kk61) N31)))))) ∧ (¬ (x3 = (1 : Int32)) → (((x3 = (2 : Int32)) → (∃ a65, (f42 x2.toNatClampNeg) = some a65 ∧ (∃ f68 f69 f70 f71, N31 a65 = some (eO 6 [.int f68, .int f69, .int f70, va_rf f71]) ∧ (post f69 N31)))) ∧ (¬ (x3 = (2 : Int32)) → (((x3 = (3 : Int32)) → (∃ a73, (f42 x2.toNatClampNeg) = some a73 ∧ (∃ f76 f77 f78 f79, N31 a73 = some (eO 6 [.int f76, .int f77, .int f78, va_rf f79]) ∧ (post f78 N31)))) ∧ (¬ (x3 = (3 : Int32)) → (post (-100000 : Int32) N31))))))))))))))) x2.toInt64 (0 : Int64) ((r30 - (1 : Int32)).toInt64)) N2 a28)))) mc3 ms4 N x0 x1)
theorem txX0_term {l : Launch} (hL : l.stackTraces = false) {G : gG} (hO : gOk G) {post : Int32 → NM → Prop} {MC MS : Nat} {N : NM} {x0 : Nat} {x1 : Int32} {x2 : Int32} {x3 : Int32} {sz : Nat} (h : wX0_term (gC G) post MC MS N x0 x1 x2 x3) : cx_Met l yX0_term (ws_ yX0_term cX0_term 6 (some .int)) ⟨10, MC, MS, 10322⟩ (va_Pc [.ref x0, .int x1, .int x2, .int x3] (cPre G [] N sz)) (gQ vI post (fun u H => cBw G (cA [] N sz) (jW u).1 (jW u).2 H) (cA [] N sz)) (cXC G (cA [] N sz) [] (fun _ _ _ => False)) MC MS (cA [] N sz) := by
  refine c_ofX (B := fun A u H => cBw G A (jW u).1 (jW u).2 H) (by decide) hO (Nat.le_of_ble_eq_true rfl) (fun p e s m below meth c ls A X hr hlk hT hw hl => ?_)
  have hl : lv_has ls 6 [(0, .ref x0), (1, .int x1), (2, .int x2), (3, .int x3)] := hl
  have hx := X.1.1
  have hb := X.1.2.1
  have hml := X.1.2.2.1
  have hown := X.1.2.2.2.1
  have hts := X.1.2.2.2.2
  obtain ⟨H, eH⟩ : ∃ z, z = s.heap := ⟨_, rfl⟩
  rw [← eH] at hw ⊢
  obtain ⟨locs, eLo⟩ : ∃ z : List Loc, z = [] := ⟨_, rfl⟩
  rw [← eLo] at hw ⊢
  have hbud : 0 + MC ≤ MC ∧ 0 + MS ≤ MS := by omega
  unfold wX0_term at h
  refine lv_aload_n (pc := 0) hx hb dX0_term_0 rfl (lv_at hl 0 rfl) ?_
  refine lv_iload_n (pc := 1) hx hb dX0_term_1 rfl (lv_at hl 1 rfl) ?_
  obtain ⟨f8, f9, f10, f11, f12, f13, f14, f15, f16, f17, f18, f19, f20, f21, f22, f23, f24, f25, f26, hN7, h⟩ := h
  obtain ⟨mc3, ms4, hm5, hm6, h⟩ := h
  refine c_callJ (pc := 2) (val := vQ) X hw (vx_runVW (C := RX0) (As := [.int x1]) (rest := []) X.1 (tX0_at hL X.2.2.1 (sz := H.size) h) (vx_cwVW 1 hts (lw_VW q898 q900 qs20 q102 q901) rfl rfl rfl ⟨rfl, by decide, by decide, (by decide +kernel : (parseMethodDescriptor yX0_at.desc).map (fun d => d.parameters.length) = some 1)⟩ ⟨Nat.le_of_ble_eq_true rfl, Nat.le_of_ble_eq_true rfl⟩) ⟨cPre_blind, c_recv X hw hN7 rfl, fun U hU hW => ⟨rfl, X.preJ hw hU hW⟩⟩ rfl rfl hl.1 rfl (lv_room (Nat.le_of_ble_eq_true rfl)) dX0_term_2 ⟨show 0 + mc3 ≤ MC by omega, show 0 + ms4 ≤ MS by omega⟩) (fun r1 N2 H locs h hw => ?_)
  refine W.eq (g2 := F0 m 5 ls (va_rf r1 :: [])) rfl ?_
  refine lq_astore (pc := 5) (lv' := [(4, va_rf r1), (0, .ref x0), (1, .int x1), (2, .int x2), (3, .int x3)]) hx hb dX0_term_5 hl (by decide) rfl (fun ls hl => ?_)
  refine lq_aload (pc := 7) hx hb dX0_term_7 (lv_at hl 0 rfl) ?_
  refine lq_ifnull (pc := 9) (tgt := 29) hx hb dX0_term_9 rfl (fun hz27 => ?_) (fun a28 hr29 => ?_)
  · have h := h.1 hz27
    refine lv_ldcw (pc := 29) hx hb hown (hts _ q1540) dX0_term_29 ?_
    refine W.widen (k := MC) (n := MS) (by omega) (by omega) ?_
    refine cx_ret ?_
    exact W.iret (pc := 32) hx hb hr (fun t ht hW => c_ret (val := vI) (lw := jW) (u := N2) hw h ht) hw.2.2.2 dX0_term_32 hlk
  · have h := h.2 a28 hr29
    refine lv_iload_n (pc := 12) hx hb dX0_term_12 rfl (lv_at hl 3 rfl) ?_
    refine lv_i2l (pc := 13) hx hb dX0_term_13 rfl ?_
    refine lv_lconst (pc := 14) (v := (0 : Int64)) hx hb dX0_term_14 (by decide) ?_
    refine lq_aload (pc := 15) hx hb dX0_term_15 (lv_at hl 0 rfl) ?_
    refine W.eq (g2 := F0 m 17 ls [.ref a28, .long (0 : Int64), .long x2.toInt64]) (by rw [hr29]; rfl) ?_
    obtain ⟨f33, hN32, h⟩ := h
    refine c_callJ (pc := 17) (val := vI) X hw (va_runV (C := RX6) (As := []) (rest := [.long (0 : Int64), .long x2.toInt64]) X.1 (tX6_many X.2.2.1 (sz := H.size) h) (cwV 0 hts (lw_V q890 q891 q892 q129 q893) rfl rfl rfl ⟨rfl, by decide, by decide, (by decide +kernel : (parseMethodDescriptor yX6_many.desc).map (fun d => d.parameters.length) = some 0)⟩ ⟨Nat.le_of_ble_eq_true rfl, Nat.le_of_ble_eq_true rfl⟩) ⟨cPre_blind, c_recv X hw hN32 rfl, fun U hU hW => ⟨rfl, X.preJ hw hU hW⟩⟩ rfl rfl hl.1 rfl (lv_room (Nat.le_of_ble_eq_true rfl)) dX0_term_17 ⟨show 0 + mc3 + 0 ≤ MC by omega, show 0 + ms4 + 0 ≤ MS by omega⟩) (fun r30 N31 H locs h hw => ?_)
    refine W.eq (g2 := F0 m 20 ls (.int r30 :: [.long (0 : Int64), .long x2.toInt64])) rfl ?_
    refine lv_iconst (pc := 20) (v := (1 : Int32)) hx hb dX0_term_20 (by decide) ?_
    refine lv_isub (pc := 21) hx hb dX0_term_21 ?_
    refine lv_i2l (pc := 22) hx hb dX0_term_22 rfl ?_
    refine s_call (pc := 23) (val := vI) (As := [.long x2.toInt64, .long (0 : Int64), .long ((r30 - (1 : Int32)).toInt64)]) (rest := []) X.1 (tX0_isIn h) (lw_S q380 q381 q102 q382) ⟨by decide, by decide, (by decide +kernel : (parseMethodDescriptor yX0_isIn.desc).map (fun d => d.parameters.length) = some 3)⟩ ⟨Nat.le_of_ble_eq_true rfl, Nat.le_of_ble_eq_true rfl⟩ hl.1 (Nat.le_of_ble_eq_true rfl) ⟨show 0 + mc3 + 0 ≤ MC by omega, show 0 + ms4 + 0 ≤ MS by omega⟩ dX0_term_23 rfl (fun r34 h => ?_)
    refine W.eq (g2 := F0 m 26 ls (.int r34 :: [])) rfl ?_
    refine lv_if_ne (pc := 26) (tgt := 33) hx hb dX0_term_26 rfl (fun c35 => ?_) (fun c35 => ?_)
    · have h := h.2 c35
      refine lq_aload (pc := 33) hx hb dX0_term_33 (lv_at hl 0 rfl) ?_
      refine W.eq (g2 := F0 m 35 ls [.ref a28]) (by rw [hr29]; rfl) ?_
      obtain ⟨f37, hN36, h⟩ := h
      refine c_getN (pc := 35) X hw hN36 in_X6 rfl 0 (by decide) q885 rfl rfl dX0_term_35 ?_
      refine lv_iload_n (pc := 38) hx hb dX0_term_38 rfl (lv_at hl 3 rfl) ?_
      obtain ⟨a38, hr39, h⟩ := h
      refine W.eq (g2 := F0 m 39 ls [.int x2, .ref a38]) (by rw [hr39]; rfl) ?_
      obtain ⟨n41, f42, hN40, h⟩ := h
      obtain ⟨hi, h⟩ := h
      refine c_aald (pc := 39) X hw 5 hN40 rfl hi dX0_term_39 ?_
      refine lq_astore (pc := 40) (i := 5) (lv' := [(5, va_rf (f42 x2.toNatClampNeg)), (4, va_rf r1), (0, .ref x0), (1, .int x1), (2, .int x2), (3, .int x3)]) hx hb dX0_term_40 hl (by decide) (by simp [rf_c]) (fun ls hl => ?_)
      refine lv_iload_n (pc := 42) hx hb dX0_term_42 rfl (lv_at hl 5 rfl) ?_
      by_cases c43 : x3 = (0 : Int32)
      · have h := h.1 c43
        refine lv_tableIn (pc := 43) (tgt := 68) hx hb dX0_term_43 (by rw [show _ = _ from c43]; decide) (by rw [show _ = _ from c43]; decide) (by rw [show _ = _ from c43]; rfl) rfl ?_
        refine lq_aload (pc := 68) hx hb dX0_term_68 (lv_at hl 0 rfl) ?_
        obtain ⟨a44, hr45, h⟩ := h
        refine W.eq (g2 := F0 m 70 ls [.ref a44]) (by rw [hr45]; rfl) ?_
        obtain ⟨f47, f48, f49, f50, hN46, h⟩ := h
        refine c_getN (pc := 70) X hw hN46 in_X4 rfl 0 (by decide) q710 rfl rfl dX0_term_70 ?_
        refine W.widen (k := MC) (n := MS) (by omega) (by omega) ?_
        refine cx_ret ?_
        exact W.iret (pc := 73) hx hb hr (fun t ht hW => c_ret (val := vI) (lw := jW) (u := N31) hw h ht) hw.2.2.2 dX0_term_73 hlk
      · have h := h.2 c43
        by_cases c51 : x3 = (1 : Int32)
        · have h := h.1 c51
          refine lv_tableIn (pc := 43) (tgt := 74) hx hb dX0_term_43 (by rw [show _ = _ from c51]; decide) (by rw [show _ = _ from c51]; decide) (by rw [show _ = _ from c51]; rfl) rfl ?_
          refine lq_aload (pc := 74) hx hb dX0_term_74 (lv_at hl 0 rfl) ?_
          obtain ⟨a52, hr53, h⟩ := h
          refine W.eq (g2 := F0 m 76 ls [.ref a52]) (by rw [hr53]; rfl) ?_
          obtain ⟨f55, f56, f57, f58, hN54, h⟩ := h
          refine c_getN (pc := 76) X hw hN54 in_X4 rfl 3 (by decide) q718 rfl rfl dX0_term_76 ?_
          obtain ⟨a59, hr60, h⟩ := h
          refine W.eq (g2 := F0 m 79 ls [.ref a59]) (by rw [hr60]; rfl) ?_
          obtain ⟨kk61, hk62, ha63, h⟩ := h
          refine W.eq (g2 := F0 m 79 ls [.ref (gC G 2 kk61)]) (by rw [ha63]) ?_
          refine c_ordinal (pc := 79) (rest := []) X hw hk62 hl.1 ⟨Nat.le_of_ble_eq_true rfl, Nat.le_of_ble_eq_true rfl⟩ (Nat.le_of_ble_eq_true rfl) ⟨show 0 + mc3 + 0 ≤ MC by omega, show 0 + ms4 + 0 ≤ MS by omega⟩ dX0_term_79 (fun H locs hw => ?_)
          refine W.widen (k := MC) (n := MS) (by omega) (by omega) ?_
          refine cx_ret ?_
          exact W.iret (pc := 82) hx hb hr (fun t ht hW => c_ret (val := vI) (lw := jW) (u := N31) hw h ht) hw.2.2.2 dX0_term_82 hlk
        · have h := h.2 c51
          by_cases c64 : x3 = (2 : Int32)
          · have h := h.1 c64
            refine lv_tableIn (pc := 43) (tgt := 83) hx hb dX0_term_43 (by rw [show _ = _ from c64]; decide) (by rw [show _ = _ from c64]; decide) (by rw [show _ = _ from c64]; rfl) rfl ?_
            refine lq_aload (pc := 83) hx hb dX0_term_83 (lv_at hl 0 rfl) ?_
            obtain ⟨a65, hr66, h⟩ := h
            refine W.eq (g2 := F0 m 85 ls [.ref a65]) (by rw [hr66]; rfl) ?_
            obtain ⟨f68, f69, f70, f71, hN67, h⟩ := h
            refine c_getN (pc := 85) X hw hN67 in_X4 rfl 1 (by decide) q712 rfl rfl dX0_term_85 ?_
            refine W.widen (k := MC) (n := MS) (by omega) (by omega) ?_
            refine cx_ret ?_
            exact W.iret (pc := 88) hx hb hr (fun t ht hW => c_ret (val := vI) (lw := jW) (u := N31) hw h ht) hw.2.2.2 dX0_term_88 hlk
          · have h := h.2 c64
            refine lv_tableOut (pc := 43) (tgt := 89) hx hb dX0_term_43 (sw_out3 c43 c51 c64) rfl ?_
            refine lv_iload_n (pc := 89) hx hb dX0_term_89 rfl (lv_at hl 5 rfl) ?_
            refine lv_iconst (pc := 90) (v := (3 : Int32)) hx hb dX0_term_90 (by decide) ?_
            refine lv_icmp_ne (pc := 91) (tgt := 102) hx hb dX0_term_91 rfl (fun c72 => ?_) (fun c72 => ?_)
            · have h := h.2 c72
              refine lv_ldcw (pc := 102) hx hb hown (hts _ q1540) dX0_term_102 ?_
              refine W.widen (k := MC) (n := MS) (by omega) (by omega) ?_
              refine cx_ret ?_
              exact W.iret (pc := 105) hx hb hr (fun t ht hW => c_ret (val := vI) (lw := jW) (u := N31) hw h ht) hw.2.2.2 dX0_term_105 hlk
            · have h := h.1 c72
              refine lq_aload (pc := 94) hx hb dX0_term_94 (lv_at hl 0 rfl) ?_
              obtain ⟨a73, hr74, h⟩ := h
              refine W.eq (g2 := F0 m 96 ls [.ref a73]) (by rw [hr74]; rfl) ?_
              obtain ⟨f76, f77, f78, f79, hN75, h⟩ := h
              refine c_getN (pc := 96) X hw hN75 in_X4 rfl 2 (by decide) q715 rfl rfl dX0_term_96 ?_
              refine lv_goto (pc := 99) (tgt := 105) hx hb dX0_term_99 rfl ?_
              refine W.widen (k := MC) (n := MS) (by omega) (by omega) ?_
              refine cx_ret ?_
              exact W.iret (pc := 105) hx hb hr (fun t ht hW => c_ret (val := vI) (lw := jW) (u := N31) hw h ht) hw.2.2.2 dX0_term_105 hlk
    · have h := h.1 c35
      refine lv_ldcw (pc := 29) hx hb hown (hts _ q1540) dX0_term_29 ?_
      refine W.widen (k := MC) (n := MS) (by omega) (by omega) ?_
      refine cx_ret ?_
      exact W.iret (pc := 32) hx hb hr (fun t ht hW => c_ret (val := vI) (lw := jW) (u := N31) hw h ht) hw.2.2.2 dX0_term_32 hlk
theorem tX0_term {l : Launch} (hL : l.stackTraces = false) {G : gG} (hO : gOk G) {post : Int32 → NM → Prop} {MC MS : Nat} {N : NM} {x0 : Nat} {x1 : Int32} {x2 : Int32} {x3 : Int32} {sz : Nat} (h : wX0_term (gC G) post MC MS N x0 x1 x2 x3) : Met l yX0_term (ws_ yX0_term cX0_term 6 (some .int)) ⟨10, MC, MS, 10322⟩ (va_Pc [.ref x0, .int x1, .int x2, .int x3] (cPre G [] N sz)) (gQ vI post (fun u H => cBw G (cA [] N sz) (jW u).1 (jW u).2 H) (cA [] N sz)) MC MS (cA [] N sz) := cx_toMet (txX0_term hL hO h)

def wX0_ways_17 (K : Nat → Nat → Nat) (post : Int64 → NM → Prop) (mc ms : Nat) (N : NM) : Prop :=
  post (-1 : Int64) N
def wX0_ways (K : Nat → Nat → Nat) (post : Int64 → NM → Prop) (MC MS : Nat) (N : NM) (x0 : Nat) (x1 : Int32) (x2 : Int32) : Prop :=
  ∃ f8 f9 f10 f11 f12 f13 f14 f15 f16 f17 f18 f19 f20 f21 f22 f23 f24 f25 f26, N x0 = some (eO 1 [va_rf f8, va_rf f9, va_rf f10, va_rf f11, va_rf f12, va_rf f13, va_rf f14, va_rf f15, va_rf f16, .int f17, .int f18, va_rf f19, va_rf f20, .int f21, va_rf f22, va_rf f23, va_rf f24, va_rf f25, va_rf f26]) ∧ (∃ mc3 ms4, mc3 ≤ MC ∧ ms4 ≤ MS ∧ wX0_at K (fun r1 N2 => (r1 = none → (wX0_ways_17 K post (MC - mc3) (MS - ms4) N2)) ∧ (∀ a28, r1 = some a28 → (wX0_isNumber (fun r30 => ((r30 = (0 : Int32)) → (wX0_ways_17 K post (MC - mc3) (MS - ms4) N2)) ∧ (¬ (r30 = (0 : Int32)) → (∃ f35 f36 f37 f38 f39 f40 f41 f42 f43 f44 f45 f46 f47 f48 f49 f50 f51 f52 f53, N2 x0 = some (eO 1 [va_rf f35, va_rf f36, va_rf f37, va_rf f38, va_rf f39, va_rf f40, va_rf f41, va_rf f42, va_rf f43, .int f44, .int f45, va_rf f46, va_rf f47, .int f48, va_rf f49, va_rf f50, va_rf f51, va_rf f52, va_rf f53]) ∧ (wX0_waysOf K (fun r32 N33 => post r32 N33) N2 x0 r1 x2)))) x2))) mc3 ms4 N x0 x1)
theorem kX0_ways_17 {p : Program} {l : Launch} {e : Env} {s : State} {m : MethodId} {args : Array Value} {below : List Frame} {meth : Method} {c : Code} {G : gG} {A : Nat → Prop} {MC MS : Nat} {post : Int64 → NM → Prop} (X : cX G A RX0 p s m args c cX0_ways 4) (hr : meth.sig.returnType = (some .long)) (hlk : meth.locks = false) (hL : l.stackTraces = false) (hT : c.exceptionTable.toList = tableOf []) : ∀ (mc ms : Nat) (N : NM) (H : Heap) (locs : List Loc) (ls : Array Slot) (cells slots : Nat), wX0_ways_17 (gC G) post mc ms N → (cH G A s [] N H locs ∧ cells + mc ≤ MC ∧ slots + ms ≤ MS) → lv_has ls 4 [] → W p l e ⟨10, MC, MS, 10322⟩ s m args below meth c H locs cells slots (cx_MQ below (gQ vL post (fun u H => cBw G A (jW u).1 (jW u).2 H) A) (cXC G A [] (fun _ _ _ => False)) args s MC MS A) (F0 m 17 ls []) := by
  have hx := X.1.1
  have hb := X.1.2.1
  have hml := X.1.2.2.1
  have hown := X.1.2.2.2.1
  have hts := X.1.2.2.2.2
  intro mc ms N H locs ls cells slots h hw0 hl
  obtain ⟨hw, hbud⟩ := hw0
  unfold wX0_ways_17 at h
  refine lv_ldc2 (pc := 17) hx hb hown (hts _ q1556) dX0_ways_17 ?_
  refine lv_goto (pc := 20) (tgt := 29) hx hb dX0_ways_20 rfl ?_
  refine W.widen (k := MC) (n := MS) (by omega) (by omega) ?_
  refine cx_ret ?_
  exact W.lret (pc := 29) hx hb hr (fun t ht hW => c_ret (val := vL) (lw := jW) (u := N) hw h ht) hw.2.2.2 dX0_ways_29 hlk
theorem txX0_ways {l : Launch} (hL : l.stackTraces = false) {G : gG} (hO : gOk G) {post : Int64 → NM → Prop} {MC MS : Nat} {N : NM} {x0 : Nat} {x1 : Int32} {x2 : Int32} {sz : Nat} (h : wX0_ways (gC G) post MC MS N x0 x1 x2) : cx_Met l yX0_ways (ws_ yX0_ways cX0_ways 4 (some .long)) ⟨10, MC, MS, 10322⟩ (va_Pc [.ref x0, .int x1, .int x2] (cPre G [] N sz)) (gQ vL post (fun u H => cBw G (cA [] N sz) (jW u).1 (jW u).2 H) (cA [] N sz)) (cXC G (cA [] N sz) [] (fun _ _ _ => False)) MC MS (cA [] N sz) := by
  refine c_ofX (B := fun A u H => cBw G A (jW u).1 (jW u).2 H) (by decide) hO (Nat.le_of_ble_eq_true rfl) (fun p e s m below meth c ls A X hr hlk hT hw hl => ?_)
  have hl : lv_has ls 4 [(0, .ref x0), (1, .int x1), (2, .int x2)] := hl
  have hx := X.1.1
  have hb := X.1.2.1
  have hml := X.1.2.2.1
  have hown := X.1.2.2.2.1
  have hts := X.1.2.2.2.2
  obtain ⟨H, eH⟩ : ∃ z, z = s.heap := ⟨_, rfl⟩
  rw [← eH] at hw ⊢
  obtain ⟨locs, eLo⟩ : ∃ z : List Loc, z = [] := ⟨_, rfl⟩
  rw [← eLo] at hw ⊢
  have hbud : 0 + MC ≤ MC ∧ 0 + MS ≤ MS := by omega
  unfold wX0_ways at h
  refine lv_aload_n (pc := 0) hx hb dX0_ways_0 rfl (lv_at hl 0 rfl) ?_
  refine lv_iload_n (pc := 1) hx hb dX0_ways_1 rfl (lv_at hl 1 rfl) ?_
  obtain ⟨f8, f9, f10, f11, f12, f13, f14, f15, f16, f17, f18, f19, f20, f21, f22, f23, f24, f25, f26, hN7, h⟩ := h
  obtain ⟨mc3, ms4, hm5, hm6, h⟩ := h
  refine c_callJ (pc := 2) (val := vQ) X hw (vx_runVW (C := RX0) (As := [.int x1]) (rest := []) X.1 (tX0_at hL X.2.2.1 (sz := H.size) h) (vx_cwVW 1 hts (lw_VW q898 q900 qs20 q102 q901) rfl rfl rfl ⟨rfl, by decide, by decide, (by decide +kernel : (parseMethodDescriptor yX0_at.desc).map (fun d => d.parameters.length) = some 1)⟩ ⟨Nat.le_of_ble_eq_true rfl, Nat.le_of_ble_eq_true rfl⟩) ⟨cPre_blind, c_recv X hw hN7 rfl, fun U hU hW => ⟨rfl, X.preJ hw hU hW⟩⟩ rfl rfl hl.1 rfl (lv_room (Nat.le_of_ble_eq_true rfl)) dX0_ways_2 ⟨show 0 + mc3 ≤ MC by omega, show 0 + ms4 ≤ MS by omega⟩) (fun r1 N2 H locs h hw => ?_)
  refine W.eq (g2 := F0 m 5 ls (va_rf r1 :: [])) rfl ?_
  refine lq_astore_n (pc := 5) (lv' := [(3, va_rf r1), (0, .ref x0), (1, .int x1), (2, .int x2)]) hx hb dX0_ways_5 rfl hl (by decide) rfl (fun ls hl => ?_)
  refine lq_aload_n (pc := 6) hx hb dX0_ways_6 rfl (lv_at hl 0 rfl) ?_
  refine lq_ifnull (pc := 7) (tgt := 17) hx hb dX0_ways_7 rfl (fun hz27 => ?_) (fun a28 hr29 => ?_)
  · have h := h.1 hz27
    exact kX0_ways_17 X hr hlk hL hT   _ _ _ _ _ _ _ _ h ⟨hw, by omega⟩ (lv_sub hl [] rfl)
  · have h := h.2 a28 hr29
    refine lv_iload_n (pc := 10) hx hb dX0_ways_10 rfl (lv_at hl 3 rfl) ?_
    refine s_call (pc := 11) (val := vI) (As := [.int x2]) (rest := []) X.1 (tX0_isNumber h) (lw_S q1555 q976 q102 q977) ⟨by decide, by decide, (by decide +kernel : (parseMethodDescriptor yX0_isNumber.desc).map (fun d => d.parameters.length) = some 1)⟩ ⟨Nat.le_of_ble_eq_true rfl, Nat.le_of_ble_eq_true rfl⟩ hl.1 (Nat.le_of_ble_eq_true rfl) ⟨show 0 + mc3 ≤ MC by omega, show 0 + ms4 ≤ MS by omega⟩ dX0_ways_11 rfl (fun r30 h => ?_)
    refine W.eq (g2 := F0 m 14 ls (.int r30 :: [])) rfl ?_
    refine lv_if_ne (pc := 14) (tgt := 23) hx hb dX0_ways_14 rfl (fun c31 => ?_) (fun c31 => ?_)
    · have h := h.2 c31
      refine lv_aload_n (pc := 23) hx hb dX0_ways_23 rfl (lv_at hl 1 rfl) ?_
      refine lq_aload_n (pc := 24) hx hb dX0_ways_24 rfl (lv_at hl 0 rfl) ?_
      refine lv_iload_n (pc := 25) hx hb dX0_ways_25 rfl (lv_at hl 3 rfl) ?_
      obtain ⟨f35, f36, f37, f38, f39, f40, f41, f42, f43, f44, f45, f46, f47, f48, f49, f50, f51, f52, f53, hN34, h⟩ := h
      refine c_callJ (pc := 26) (val := vL) X hw (va_runV (C := RX0) (As := [va_rf r1, .int x2]) (rest := []) X.1 (tX0_waysOf X.2.2.1 (sz := H.size) h) (cwV 2 hts (lw_V q1557 q1374 qs28 q102 q1375) rfl rfl rfl ⟨rfl, by decide, by decide, (by decide +kernel : (parseMethodDescriptor yX0_waysOf.desc).map (fun d => d.parameters.length) = some 2)⟩ ⟨Nat.le_of_ble_eq_true rfl, Nat.le_of_ble_eq_true rfl⟩) ⟨cPre_blind, c_recv X hw hN34 rfl, fun U hU hW => ⟨rfl, X.preJ hw hU hW⟩⟩ rfl rfl hl.1 rfl (lv_room (Nat.le_of_ble_eq_true rfl)) dX0_ways_26 ⟨show 0 + mc3 + 0 ≤ MC by omega, show 0 + ms4 + 0 ≤ MS by omega⟩) (fun r32 N33 H locs h hw => ?_)
      refine W.eq (g2 := F0 m 29 ls (.long r32 :: [])) rfl ?_
      refine W.widen (k := MC) (n := MS) (by omega) (by omega) ?_
      refine cx_ret ?_
      exact W.lret (pc := 29) hx hb hr (fun t ht hW => c_ret (val := vL) (lw := jW) (u := N33) hw h ht) hw.2.2.2 dX0_ways_29 hlk
    · have h := h.1 c31
      exact kX0_ways_17 X hr hlk hL hT   _ _ _ _ _ _ _ _ h ⟨hw, by omega⟩ (lv_sub hl [] rfl)
theorem tX0_ways {l : Launch} (hL : l.stackTraces = false) {G : gG} (hO : gOk G) {post : Int64 → NM → Prop} {MC MS : Nat} {N : NM} {x0 : Nat} {x1 : Int32} {x2 : Int32} {sz : Nat} (h : wX0_ways (gC G) post MC MS N x0 x1 x2) : Met l yX0_ways (ws_ yX0_ways cX0_ways 4 (some .long)) ⟨10, MC, MS, 10322⟩ (va_Pc [.ref x0, .int x1, .int x2] (cPre G [] N sz)) (gQ vL post (fun u H => cBw G (cA [] N sz) (jW u).1 (jW u).2 H) (cA [] N sz)) MC MS (cA [] N sz) := cx_toMet (txX0_ways hL hO h)

def wX0_unlike_17 (K : Nat → Nat → Nat) (post : Int64 → NM → Prop) (mc ms : Nat) (N : NM) : Prop :=
  post (-1 : Int64) N
def wX0_unlike (K : Nat → Nat → Nat) (post : Int64 → NM → Prop) (MC MS : Nat) (N : NM) (x0 : Nat) (x1 : Int32) (x2 : Int32) : Prop :=
  ∃ f8 f9 f10 f11 f12 f13 f14 f15 f16 f17 f18 f19 f20 f21 f22 f23 f24 f25 f26, N x0 = some (eO 1 [va_rf f8, va_rf f9, va_rf f10, va_rf f11, va_rf f12, va_rf f13, va_rf f14, va_rf f15, va_rf f16, .int f17, .int f18, va_rf f19, va_rf f20, .int f21, va_rf f22, va_rf f23, va_rf f24, va_rf f25, va_rf f26]) ∧ (∃ mc3 ms4, mc3 ≤ MC ∧ ms4 ≤ MS ∧ wX0_at K (fun r1 N2 => (r1 = none → (wX0_unlike_17 K post (MC - mc3) (MS - ms4) N2)) ∧ (∀ a28, r1 = some a28 → (wX0_isNumber (fun r30 => ((r30 = (0 : Int32)) → (wX0_unlike_17 K post (MC - mc3) (MS - ms4) N2)) ∧ (¬ (r30 = (0 : Int32)) → (∃ f35 f36 f37 f38 f39 f40 f41 f42 f43 f44 f45 f46 f47 f48 f49 f50 f51 f52 f53, N2 x0 = some (eO 1 [va_rf f35, va_rf f36, va_rf f37, va_rf f38, va_rf f39, va_rf f40, va_rf f41, va_rf f42, va_rf f43, .int f44, .int f45, va_rf f46, va_rf f47, .int f48, va_rf f49, va_rf f50, va_rf f51, va_rf f52, va_rf f53]) ∧ (wX0_unlikeOf K (fun r32 N33 => post r32 N33) N2 x0 r1 x2)))) x2))) mc3 ms4 N x0 x1)
theorem kX0_unlike_17 {p : Program} {l : Launch} {e : Env} {s : State} {m : MethodId} {args : Array Value} {below : List Frame} {meth : Method} {c : Code} {G : gG} {A : Nat → Prop} {MC MS : Nat} {post : Int64 → NM → Prop} (X : cX G A RX0 p s m args c cX0_unlike 4) (hr : meth.sig.returnType = (some .long)) (hlk : meth.locks = false) (hL : l.stackTraces = false) (hT : c.exceptionTable.toList = tableOf []) : ∀ (mc ms : Nat) (N : NM) (H : Heap) (locs : List Loc) (ls : Array Slot) (cells slots : Nat), wX0_unlike_17 (gC G) post mc ms N → (cH G A s [] N H locs ∧ cells + mc ≤ MC ∧ slots + ms ≤ MS) → lv_has ls 4 [] → W p l e ⟨10, MC, MS, 10322⟩ s m args below meth c H locs cells slots (cx_MQ below (gQ vL post (fun u H => cBw G A (jW u).1 (jW u).2 H) A) (cXC G A [] (fun _ _ _ => False)) args s MC MS A) (F0 m 17 ls []) := by
  have hx := X.1.1
  have hb := X.1.2.1
  have hml := X.1.2.2.1
  have hown := X.1.2.2.2.1
  have hts := X.1.2.2.2.2
  intro mc ms N H locs ls cells slots h hw0 hl
  obtain ⟨hw, hbud⟩ := hw0
  unfold wX0_unlike_17 at h
  refine lv_ldc2 (pc := 17) hx hb hown (hts _ q1556) dX0_unlike_17 ?_
  refine lv_goto (pc := 20) (tgt := 29) hx hb dX0_unlike_20 rfl ?_
  refine W.widen (k := MC) (n := MS) (by omega) (by omega) ?_
  refine cx_ret ?_
  exact W.lret (pc := 29) hx hb hr (fun t ht hW => c_ret (val := vL) (lw := jW) (u := N) hw h ht) hw.2.2.2 dX0_unlike_29 hlk
theorem txX0_unlike {l : Launch} (hL : l.stackTraces = false) {G : gG} (hO : gOk G) {post : Int64 → NM → Prop} {MC MS : Nat} {N : NM} {x0 : Nat} {x1 : Int32} {x2 : Int32} {sz : Nat} (h : wX0_unlike (gC G) post MC MS N x0 x1 x2) : cx_Met l yX0_unlike (ws_ yX0_unlike cX0_unlike 4 (some .long)) ⟨10, MC, MS, 10322⟩ (va_Pc [.ref x0, .int x1, .int x2] (cPre G [] N sz)) (gQ vL post (fun u H => cBw G (cA [] N sz) (jW u).1 (jW u).2 H) (cA [] N sz)) (cXC G (cA [] N sz) [] (fun _ _ _ => False)) MC MS (cA [] N sz) := by
  refine c_ofX (B := fun A u H => cBw G A (jW u).1 (jW u).2 H) (by decide) hO (Nat.le_of_ble_eq_true rfl) (fun p e s m below meth c ls A X hr hlk hT hw hl => ?_)
  have hl : lv_has ls 4 [(0, .ref x0), (1, .int x1), (2, .int x2)] := hl
  have hx := X.1.1
  have hb := X.1.2.1
  have hml := X.1.2.2.1
  have hown := X.1.2.2.2.1
  have hts := X.1.2.2.2.2
  obtain ⟨H, eH⟩ : ∃ z, z = s.heap := ⟨_, rfl⟩
  rw [← eH] at hw ⊢
  obtain ⟨locs, eLo⟩ : ∃ z : List Loc, z = [] := ⟨_, rfl⟩
  rw [← eLo] at hw ⊢
  have hbud : 0 + MC ≤ MC ∧ 0 + MS ≤ MS := by omega
  unfold wX0_unlike at h
  refine lv_aload_n (pc := 0) hx hb dX0_unlike_0 rfl (lv_at hl 0 rfl) ?_
  refine lv_iload_n (pc := 1) hx hb dX0_unlike_1 rfl (lv_at hl 1 rfl) ?_
  obtain ⟨f8, f9, f10, f11, f12, f13, f14, f15, f16, f17, f18, f19, f20, f21, f22, f23, f24, f25, f26, hN7, h⟩ := h
  obtain ⟨mc3, ms4, hm5, hm6, h⟩ := h
  refine c_callJ (pc := 2) (val := vQ) X hw (vx_runVW (C := RX0) (As := [.int x1]) (rest := []) X.1 (tX0_at hL X.2.2.1 (sz := H.size) h) (vx_cwVW 1 hts (lw_VW q898 q900 qs20 q102 q901) rfl rfl rfl ⟨rfl, by decide, by decide, (by decide +kernel : (parseMethodDescriptor yX0_at.desc).map (fun d => d.parameters.length) = some 1)⟩ ⟨Nat.le_of_ble_eq_true rfl, Nat.le_of_ble_eq_true rfl⟩) ⟨cPre_blind, c_recv X hw hN7 rfl, fun U hU hW => ⟨rfl, X.preJ hw hU hW⟩⟩ rfl rfl hl.1 rfl (lv_room (Nat.le_of_ble_eq_true rfl)) dX0_unlike_2 ⟨show 0 + mc3 ≤ MC by omega, show 0 + ms4 ≤ MS by omega⟩) (fun r1 N2 H locs h hw => ?_)
  refine W.eq (g2 := F0 m 5 ls (va_rf r1 :: [])) rfl ?_
  refine lq_astore_n (pc := 5) (lv' := [(3, va_rf r1), (0, .ref x0), (1, .int x1), (2, .int x2)]) hx hb dX0_unlike_5 rfl hl (by decide) rfl (fun ls hl => ?_)
  refine lq_aload_n (pc := 6) hx hb dX0_unlike_6 rfl (lv_at hl 0 rfl) ?_
  refine lq_ifnull (pc := 7) (tgt := 17) hx hb dX0_unlike_7 rfl (fun hz27 => ?_) (fun a28 hr29 => ?_)
  · have h := h.1 hz27
    exact kX0_unlike_17 X hr hlk hL hT   _ _ _ _ _ _ _ _ h ⟨hw, by omega⟩ (lv_sub hl [] rfl)
  · have h := h.2 a28 hr29
    refine lv_iload_n (pc := 10) hx hb dX0_unlike_10 rfl (lv_at hl 3 rfl) ?_
    refine s_call (pc := 11) (val := vI) (As := [.int x2]) (rest := []) X.1 (tX0_isNumber h) (lw_S q1555 q976 q102 q977) ⟨by decide, by decide, (by decide +kernel : (parseMethodDescriptor yX0_isNumber.desc).map (fun d => d.parameters.length) = some 1)⟩ ⟨Nat.le_of_ble_eq_true rfl, Nat.le_of_ble_eq_true rfl⟩ hl.1 (Nat.le_of_ble_eq_true rfl) ⟨show 0 + mc3 ≤ MC by omega, show 0 + ms4 ≤ MS by omega⟩ dX0_unlike_11 rfl (fun r30 h => ?_)
    refine W.eq (g2 := F0 m 14 ls (.int r30 :: [])) rfl ?_
    refine lv_if_ne (pc := 14) (tgt := 23) hx hb dX0_unlike_14 rfl (fun c31 => ?_) (fun c31 => ?_)
    · have h := h.2 c31
      refine lv_aload_n (pc := 23) hx hb dX0_unlike_23 rfl (lv_at hl 1 rfl) ?_
      refine lq_aload_n (pc := 24) hx hb dX0_unlike_24 rfl (lv_at hl 0 rfl) ?_
      refine lv_iload_n (pc := 25) hx hb dX0_unlike_25 rfl (lv_at hl 3 rfl) ?_
      obtain ⟨f35, f36, f37, f38, f39, f40, f41, f42, f43, f44, f45, f46, f47, f48, f49, f50, f51, f52, f53, hN34, h⟩ := h
      refine c_callJ (pc := 26) (val := vL) X hw (va_runV (C := RX0) (As := [va_rf r1, .int x2]) (rest := []) X.1 (tX0_unlikeOf X.2.2.1 (sz := H.size) h) (cwV 2 hts (lw_V q1562 q1564 qs35 q102 q1565) rfl rfl rfl ⟨rfl, by decide, by decide, (by decide +kernel : (parseMethodDescriptor yX0_unlikeOf.desc).map (fun d => d.parameters.length) = some 2)⟩ ⟨Nat.le_of_ble_eq_true rfl, Nat.le_of_ble_eq_true rfl⟩) ⟨cPre_blind, c_recv X hw hN34 rfl, fun U hU hW => ⟨rfl, X.preJ hw hU hW⟩⟩ rfl rfl hl.1 rfl (lv_room (Nat.le_of_ble_eq_true rfl)) dX0_unlike_26 ⟨show 0 + mc3 + 0 ≤ MC by omega, show 0 + ms4 + 0 ≤ MS by omega⟩) (fun r32 N33 H locs h hw => ?_)
      refine W.eq (g2 := F0 m 29 ls (.long r32 :: [])) rfl ?_
      refine W.widen (k := MC) (n := MS) (by omega) (by omega) ?_
      refine cx_ret ?_
      exact W.lret (pc := 29) hx hb hr (fun t ht hW => c_ret (val := vL) (lw := jW) (u := N33) hw h ht) hw.2.2.2 dX0_unlike_29 hlk
    · have h := h.1 c31
      exact kX0_unlike_17 X hr hlk hL hT   _ _ _ _ _ _ _ _ h ⟨hw, by omega⟩ (lv_sub hl [] rfl)
theorem tX0_unlike {l : Launch} (hL : l.stackTraces = false) {G : gG} (hO : gOk G) {post : Int64 → NM → Prop} {MC MS : Nat} {N : NM} {x0 : Nat} {x1 : Int32} {x2 : Int32} {sz : Nat} (h : wX0_unlike (gC G) post MC MS N x0 x1 x2) : Met l yX0_unlike (ws_ yX0_unlike cX0_unlike 4 (some .long)) ⟨10, MC, MS, 10322⟩ (va_Pc [.ref x0, .int x1, .int x2] (cPre G [] N sz)) (gQ vL post (fun u H => cBw G (cA [] N sz) (jW u).1 (jW u).2 H) (cA [] N sz)) MC MS (cA [] N sz) := cx_toMet (txX0_unlike hL hO h)

def wX0_way_91 (K : Nat → Nat → Nat) (K71 : Nat → Int32 → Option Nat → Int64 → Int64 → Int32 → Int32 → Nat → Nat → NM → Prop) (post : Int32 → NM → Prop) : Nat → Nat → Int32 → Option Nat → Int64 → Int64 → Int32 → Int32 → Nat → Nat → NM → Prop
  | 0, _, _, _, _, _, _, _, _, _, _ => False
  | n + 1, x0, x5, x6, x7, x9, x11, x12, mc, ms, N => ∃ a79, x6 = some a79 ∧ (∃ f82, N a79 = some (eO 7 [va_rf f82]) ∧ (∃ a83, f82 = some a83 ∧ (∃ n86 f87, N a83 = some (eR 5 n86 f87) ∧ (vp_in x12 n86 ∧ (∃ a88, (f87 x12.toNatClampNeg) = some a88 ∧ (∃ f93 f94 f95 f96, N a88 = some (eO 6 [.int f93, .int f94, .int f95, va_rf f96]) ∧ (wX4_value K (fun r90 N91 => ∃ f100 f101 f102 f103 f104 f105 f106 f107 f108 f109 f110 f111 f112 f113 f114 f115 f116 f117 f118, N91 x0 = some (eO 1 [va_rf f100, va_rf f101, va_rf f102, va_rf f103, va_rf f104, va_rf f105, va_rf f106, va_rf f107, va_rf f108, .int f109, .int f110, va_rf f111, va_rf f112, .int f113, va_rf f114, va_rf f115, va_rf f116, va_rf f117, va_rf f118]) ∧ (wX0_rest K (fun r97 N98 => ((x9 < r97) → (∃ f121, N98 a79 = some (eO 7 [va_rf f121]) ∧ (∃ a122, f121 = some a122 ∧ (∃ n125 f126, N98 a122 = some (eR 5 n125 f126) ∧ (vp_in x12 n125 ∧ (∃ a127, (f126 x12.toNatClampNeg) = some a127 ∧ (∃ f132 f133 f134 f135, N98 a127 = some (eO 6 [.int f132, .int f133, .int f134, va_rf f135]) ∧ (wX4_value K (fun r129 N130 => K71 x0 x5 x6 (x7 - r129) x9 x11 (x12 + (1 : Int32)) mc ms N130) N98 a127 x11.toInt64)))))))) ∧ (¬ (x9 < r97) → (∃ f137, N98 a79 = some (eO 7 [va_rf f137]) ∧ (∃ a138, f137 = some a138 ∧ (∃ n141 f142, N98 a138 = some (eR 5 n141 f142) ∧ (vp_in x12 n141 ∧ (∃ a143, (f142 x12.toNatClampNeg) = some a143 ∧ (∃ f148 f149 f150 f151, N98 a143 = some (eO 6 [.int f148, .int f149, .int f150, va_rf f151]) ∧ (wX4_value K (fun r145 N146 => ∃ f155 f156 f157 f158 f159 f160 f161 f162 f163 f164 f165 f166 f167 f168 f169 f170 f171 f172 f173, N146 x0 = some (eO 1 [va_rf f155, va_rf f156, va_rf f157, va_rf f158, va_rf f159, va_rf f160, va_rf f161, va_rf f162, va_rf f163, .int f164, .int f165, va_rf f166, va_rf f167, .int f168, va_rf f169, va_rf f170, va_rf f171, va_rf f172, va_rf f173]) ∧ (wX0_rest K (fun r152 N153 => wX0_way_91 K K71 post n x0 x5 x6 x7 (x9 - r152) (x11 + (1 : Int32)) x12 mc ms N153) N146 x0 x12 (x7 - r145))) N98 a143 x11.toInt64))))))))) N91 x0 x12 (x7 - r90))) N a88 x11.toInt64)))))))
def wX0_way_71 (K : Nat → Nat → Nat) (post : Int32 → NM → Prop) : Nat → Nat → Int32 → Option Nat → Int64 → Int64 → Int32 → Int32 → Nat → Nat → NM → Prop
  | 0, _, _, _, _, _, _, _, _, _, _ => False
  | n + 1, x0, x5, x6, x7, x9, x11, x12, mc, ms, N => ((x5 < x12) → (post x11 N)) ∧ (¬ (x5 < x12) → (∃ a63, x6 = some a63 ∧ (∃ f66, N a63 = some (eO 7 [va_rf f66]) ∧ (∃ a67, f66 = some a67 ∧ (∃ n70 f71, N a67 = some (eR 5 n70 f71) ∧ (vp_in x12 n70 ∧ (∃ a72, (f71 x12.toNatClampNeg) = some a72 ∧ (∃ f75 f76 f77 f78, N a72 = some (eO 6 [.int f75, .int f76, .int f77, va_rf f78]) ∧ ((∃ k, wX0_way_91 K (fun x0 x5 x6 x7 x9 x11 x12 mc ms N => wX0_way_71 K post n x0 x5 x6 x7 x9 x11 x12 mc ms N) post k x0 x5 x6 x7 x9 f76 x12 mc ms N))))))))))
def wX0_way (K : Nat → Nat → Nat) (post : Int32 → NM → Prop) (MC MS : Nat) (N : NM) (x0 : Nat) (x1 : Int32) (x2 : Int32) (x3 : Int64) (x5 : Int32) : Prop :=
  ∃ f8 f9 f10 f11 f12 f13 f14 f15 f16 f17 f18 f19 f20 f21 f22 f23 f24 f25 f26, N x0 = some (eO 1 [va_rf f8, va_rf f9, va_rf f10, va_rf f11, va_rf f12, va_rf f13, va_rf f14, va_rf f15, va_rf f16, .int f17, .int f18, va_rf f19, va_rf f20, .int f21, va_rf f22, va_rf f23, va_rf f24, va_rf f25, va_rf f26]) ∧ (∃ mc3 ms4, mc3 ≤ MC ∧ ms4 ≤ MS ∧ wX0_at K (fun r1 N2 => (r1 = none → (post (-100000 : Int32) N2)) ∧ (∀ a28, r1 = some a28 → (wX0_isNumber (fun r30 => ((r30 = (0 : Int32)) → (post (-100000 : Int32) N2)) ∧ (¬ (r30 = (0 : Int32)) → (∃ f35, N2 a28 = some (eO 7 [va_rf f35]) ∧ (wX6_many K (fun r32 N33 => wX0_isIn (fun r36 => ((r36 = (0 : Int32)) → (post (-100000 : Int32) N33)) ∧ (¬ (r36 = (0 : Int32)) → (∃ f41 f42 f43 f44 f45 f46 f47 f48 f49 f50 f51 f52 f53 f54 f55 f56 f57 f58 f59, N33 x0 = some (eO 1 [va_rf f41, va_rf f42, va_rf f43, va_rf f44, va_rf f45, va_rf f46, va_rf f47, va_rf f48, va_rf f49, .int f50, .int f51, va_rf f52, va_rf f53, .int f54, va_rf f55, va_rf f56, va_rf f57, va_rf f58, va_rf f59]) ∧ (wX0_waysOf K (fun r38 N39 => wX0_isIn (fun r60 => ((r60 = (0 : Int32)) → (post (-100000 : Int32) N39)) ∧ (¬ (r60 = (0 : Int32)) → ((∃ k, wX0_way_71 K post k x0 x5 r1 x2.toInt64 x3 (0 : Int32) (0 : Int32) (MC - mc3) (MS - ms4) N39)))) x3 (0 : Int64) (r38 - (1 : Int64))) N33 x0 r1 x2)))) x5.toInt64 (0 : Int64) ((r32 - (1 : Int32)).toInt64)) N2 a28)))) x2))) mc3 ms4 N x0 x1)
theorem kX0_way_91 {p : Program} {l : Launch} {e : Env} {s : State} {m : MethodId} {args : Array Value} {below : List Frame} {meth : Method} {c : Code} {G : gG} {A : Nat → Prop} {MC MS : Nat} {K71 : Nat → Int32 → Option Nat → Int64 → Int64 → Int32 → Int32 → Nat → Nat → NM → Prop} {post : Int32 → NM → Prop} (X : cX G A RX0 p s m args c cX0_way 13) (hr : meth.sig.returnType = (some .int)) (hlk : meth.locks = false) (hL : l.stackTraces = false) (hT : c.exceptionTable.toList = tableOf []) (hK71 : ∀ (x0 : Nat) (x5 : Int32) (x6 : Option Nat) (x7 : Int64) (x9 : Int64) (x11 : Int32) (x12 : Int32) (mc ms : Nat) (N : NM) (H : Heap) (locs : List Loc) (ls : Array Slot) (cells slots : Nat), K71 x0 x5 x6 x7 x9 x11 x12 mc ms N → (cH G A s [] N H locs ∧ cells + mc ≤ MC ∧ slots + ms ≤ MS) → lv_has ls 13 [(0, .ref x0), (5, .int x5), (6, va_rf x6), (7, .long x7), (9, .long x9), (11, .int x11), (12, .int x12)] → W p l e ⟨10, MC, MS, 10322⟩ s m args below meth c H locs cells slots (cx_MQ below (gQ vI post (fun u H => cBw G A (jW u).1 (jW u).2 H) A) (cXC G A [] (fun _ _ _ => False)) args s MC MS A) (F0 m 71 ls [])) : ∀ (n : Nat) (x0 : Nat) (x5 : Int32) (x6 : Option Nat) (x7 : Int64) (x9 : Int64) (x11 : Int32) (x12 : Int32) (mc ms : Nat) (N : NM) (H : Heap) (locs : List Loc) (ls : Array Slot) (cells slots : Nat), wX0_way_91 (gC G) K71 post n x0 x5 x6 x7 x9 x11 x12 mc ms N → (cH G A s [] N H locs ∧ cells + mc ≤ MC ∧ slots + ms ≤ MS) → lv_has ls 13 [(0, .ref x0), (5, .int x5), (6, va_rf x6), (7, .long x7), (9, .long x9), (11, .int x11), (12, .int x12)] → W p l e ⟨10, MC, MS, 10322⟩ s m args below meth c H locs cells slots (cx_MQ below (gQ vI post (fun u H => cBw G A (jW u).1 (jW u).2 H) A) (cXC G A [] (fun _ _ _ => False)) args s MC MS A) (F0 m 91 ls []) := by
  have hx := X.1.1
  have hb := X.1.2.1
  have hml := X.1.2.2.1
  have hown := X.1.2.2.2.1
  have hts := X.1.2.2.2.2
  intro n
  induction n with
  | zero =>
    intro x0 x5 x6 x7 x9 x11 x12 mc ms N H locs ls cells slots h
    exact False.elim h
  | succ n ih =>
    intro x0 x5 x6 x7 x9 x11 x12 mc ms N H locs ls cells slots h hw0 hl
    obtain ⟨hw, hbud⟩ := hw0
    unfold wX0_way_91 at h
    refine lv_lload (pc := 91) hx hb dX0_way_91 (lv_at hl 4 rfl) ?_
    refine lv_aload_n (pc := 93) hx hb dX0_way_93 rfl (lv_at hl 0 rfl) ?_
    refine lv_iload (pc := 94) hx hb dX0_way_94 (lv_at hl 6 rfl) ?_
    refine lv_lload (pc := 96) hx hb dX0_way_96 (lv_at hl 3 rfl) ?_
    refine lq_aload (pc := 98) hx hb dX0_way_98 (lv_at hl 2 rfl) ?_
    obtain ⟨a79, hr80, h⟩ := h
    refine W.eq (g2 := F0 m 100 ls [.ref a79, .long x7, .int x12, .ref x0, .long x9]) (by rw [hr80]; rfl) ?_
    obtain ⟨f82, hN81, h⟩ := h
    refine c_getN (pc := 100) X hw hN81 in_X6 rfl 0 (by decide) q885 rfl rfl dX0_way_100 ?_
    refine lv_iload (pc := 103) hx hb dX0_way_103 (lv_at hl 6 rfl) ?_
    obtain ⟨a83, hr84, h⟩ := h
    refine W.eq (g2 := F0 m 105 ls [.int x12, .ref a83, .long x7, .int x12, .ref x0, .long x9]) (by rw [hr84]; rfl) ?_
    obtain ⟨n86, f87, hN85, h⟩ := h
    obtain ⟨hi, h⟩ := h
    refine c_aald (pc := 105) X hw 5 hN85 rfl hi dX0_way_105 ?_
    refine lv_iload (pc := 106) hx hb dX0_way_106 (lv_at hl 5 rfl) ?_
    refine lv_i2l (pc := 108) hx hb dX0_way_108 rfl ?_
    obtain ⟨a88, hr89, h⟩ := h
    refine W.eq (g2 := F0 m 109 ls [.long x11.toInt64, .ref a88, .long x7, .int x12, .ref x0, .long x9]) (by rw [hr89]; rfl) ?_
    obtain ⟨f93, f94, f95, f96, hN92, h⟩ := h
    refine c_callJ (pc := 109) (val := vL) X hw (va_runV (C := RX4) (As := [.long x11.toInt64]) (rest := [.long x7, .int x12, .ref x0, .long x9]) X.1 (tX4_value X.2.2.1 (sz := H.size) h) (cwV 1 hts (lw_V q1383 q738 q739 q126 q740) rfl rfl rfl ⟨rfl, by decide, by decide, (by decide +kernel : (parseMethodDescriptor yX4_value.desc).map (fun d => d.parameters.length) = some 1)⟩ ⟨Nat.le_of_ble_eq_true rfl, Nat.le_of_ble_eq_true rfl⟩) ⟨cPre_blind, c_recv X hw hN92 rfl, fun U hU hW => ⟨rfl, X.preJ hw hU hW⟩⟩ rfl rfl hl.1 rfl (lv_room (Nat.le_of_ble_eq_true rfl)) dX0_way_109 ⟨show cells + 0 ≤ MC by omega, show slots + 0 ≤ MS by omega⟩) (fun r90 N91 H locs h hw => ?_)
    refine W.eq (g2 := F0 m 112 ls (.long r90 :: [.long x7, .int x12, .ref x0, .long x9])) rfl ?_
    refine lv_lsub (pc := 112) hx hb dX0_way_112 ?_
    obtain ⟨f100, f101, f102, f103, f104, f105, f106, f107, f108, f109, f110, f111, f112, f113, f114, f115, f116, f117, f118, hN99, h⟩ := h
    refine c_callJ (pc := 113) (val := vL) X hw (va_runV (C := RX0) (As := [.int x12, .long (x7 - r90)]) (rest := [.long x9]) X.1 (tX0_rest X.2.2.1 (sz := H.size) h) (cwV 2 hts (lw_V q1578 q1580 qs37 q102 q1581) rfl rfl rfl ⟨rfl, by decide, by decide, (by decide +kernel : (parseMethodDescriptor yX0_rest.desc).map (fun d => d.parameters.length) = some 2)⟩ ⟨Nat.le_of_ble_eq_true rfl, Nat.le_of_ble_eq_true rfl⟩) ⟨cPre_blind, c_recv X hw hN99 rfl, fun U hU hW => ⟨rfl, X.preJ hw hU hW⟩⟩ rfl rfl hl.1 rfl (lv_room (Nat.le_of_ble_eq_true rfl)) dX0_way_113 ⟨show cells + 0 + 0 ≤ MC by omega, show slots + 0 + 0 ≤ MS by omega⟩) (fun r97 N98 H locs h hw => ?_)
    refine W.eq (g2 := F0 m 116 ls (.long r97 :: [.long x9])) rfl ?_
    refine W.lcmp (pc := 116) hx hb dX0_way_116 ?_
    refine lv_if_lt (pc := 117) (tgt := 154) hx hb dX0_way_117 rfl (fun c119 => ?_) (fun c119 => ?_)
    · have h := h.1 ((lg_cmp_lt _ _).mp c119)
      refine lv_lload (pc := 154) hx hb dX0_way_154 (lv_at hl 3 rfl) ?_
      refine lq_aload (pc := 156) hx hb dX0_way_156 (lv_at hl 2 rfl) ?_
      refine W.eq (g2 := F0 m 158 ls [.ref a79, .long x7]) (by rw [hr80]; rfl) ?_
      obtain ⟨f121, hN120, h⟩ := h
      refine c_getN (pc := 158) X hw hN120 in_X6 rfl 0 (by decide) q885 rfl rfl dX0_way_158 ?_
      refine lv_iload (pc := 161) hx hb dX0_way_161 (lv_at hl 6 rfl) ?_
      obtain ⟨a122, hr123, h⟩ := h
      refine W.eq (g2 := F0 m 163 ls [.int x12, .ref a122, .long x7]) (by rw [hr123]; rfl) ?_
      obtain ⟨n125, f126, hN124, h⟩ := h
      obtain ⟨hi, h⟩ := h
      refine c_aald (pc := 163) X hw 5 hN124 rfl hi dX0_way_163 ?_
      refine lv_iload (pc := 164) hx hb dX0_way_164 (lv_at hl 5 rfl) ?_
      refine lv_i2l (pc := 166) hx hb dX0_way_166 rfl ?_
      obtain ⟨a127, hr128, h⟩ := h
      refine W.eq (g2 := F0 m 167 ls [.long x11.toInt64, .ref a127, .long x7]) (by rw [hr128]; rfl) ?_
      obtain ⟨f132, f133, f134, f135, hN131, h⟩ := h
      refine c_callJ (pc := 167) (val := vL) X hw (va_runV (C := RX4) (As := [.long x11.toInt64]) (rest := [.long x7]) X.1 (tX4_value X.2.2.1 (sz := H.size) h) (cwV 1 hts (lw_V q1383 q738 q739 q126 q740) rfl rfl rfl ⟨rfl, by decide, by decide, (by decide +kernel : (parseMethodDescriptor yX4_value.desc).map (fun d => d.parameters.length) = some 1)⟩ ⟨Nat.le_of_ble_eq_true rfl, Nat.le_of_ble_eq_true rfl⟩) ⟨cPre_blind, c_recv X hw hN131 rfl, fun U hU hW => ⟨rfl, X.preJ hw hU hW⟩⟩ rfl rfl hl.1 rfl (lv_room (Nat.le_of_ble_eq_true rfl)) dX0_way_167 ⟨show cells + 0 + 0 + 0 ≤ MC by omega, show slots + 0 + 0 + 0 ≤ MS by omega⟩) (fun r129 N130 H locs h hw => ?_)
      refine W.eq (g2 := F0 m 170 ls (.long r129 :: [.long x7])) rfl ?_
      refine lv_lsub (pc := 170) hx hb dX0_way_170 ?_
      refine lv_lstore (pc := 171) (i := 7) (lv' := [(7, .long (x7 - r129)), (0, .ref x0), (5, .int x5), (6, va_rf x6), (9, .long x9), (11, .int x11), (12, .int x12)]) hx hb dX0_way_171 hl (by decide) (by simp [rf_c]) (fun ls hl => ?_)
      refine lv_iinc (pc := 173) (v := x12 + (1 : Int32)) (lv' := [(12, .int (x12 + (1 : Int32))), (7, .long (x7 - r129)), (0, .ref x0), (5, .int x5), (6, va_rf x6), (9, .long x9), (11, .int x11)]) hx hb dX0_way_173 hl (k := 6) rfl rfl (by decide) rfl (fun ls hl => ?_)
      refine lv_goto (pc := 176) (tgt := 71) hx hb dX0_way_176 rfl ?_
      exact hK71 _ _ _ _ _ _ _ _ _ _ _ _ _ _ _ h ⟨hw, by omega⟩ (lv_sub hl [2, 3, 4, 1, 5, 6, 0] rfl)
    · have h := h.2 (fun z => c119 ((lg_cmp_lt _ _).mpr z))
      refine lv_lload (pc := 120) hx hb dX0_way_120 (lv_at hl 4 rfl) ?_
      refine lv_aload_n (pc := 122) hx hb dX0_way_122 rfl (lv_at hl 0 rfl) ?_
      refine lv_iload (pc := 123) hx hb dX0_way_123 (lv_at hl 6 rfl) ?_
      refine lv_lload (pc := 125) hx hb dX0_way_125 (lv_at hl 3 rfl) ?_
      refine lq_aload (pc := 127) hx hb dX0_way_127 (lv_at hl 2 rfl) ?_
      refine W.eq (g2 := F0 m 129 ls [.ref a79, .long x7, .int x12, .ref x0, .long x9]) (by rw [hr80]; rfl) ?_
      obtain ⟨f137, hN136, h⟩ := h
      refine c_getN (pc := 129) X hw hN136 in_X6 rfl 0 (by decide) q885 rfl rfl dX0_way_129 ?_
      refine lv_iload (pc := 132) hx hb dX0_way_132 (lv_at hl 6 rfl) ?_
      obtain ⟨a138, hr139, h⟩ := h
      refine W.eq (g2 := F0 m 134 ls [.int x12, .ref a138, .long x7, .int x12, .ref x0, .long x9]) (by rw [hr139]; rfl) ?_
      obtain ⟨n141, f142, hN140, h⟩ := h
      obtain ⟨hi, h⟩ := h
      refine c_aald (pc := 134) X hw 5 hN140 rfl hi dX0_way_134 ?_
      refine lv_iload (pc := 135) hx hb dX0_way_135 (lv_at hl 5 rfl) ?_
      refine lv_i2l (pc := 137) hx hb dX0_way_137 rfl ?_
      obtain ⟨a143, hr144, h⟩ := h
      refine W.eq (g2 := F0 m 138 ls [.long x11.toInt64, .ref a143, .long x7, .int x12, .ref x0, .long x9]) (by rw [hr144]; rfl) ?_
      obtain ⟨f148, f149, f150, f151, hN147, h⟩ := h
      refine c_callJ (pc := 138) (val := vL) X hw (va_runV (C := RX4) (As := [.long x11.toInt64]) (rest := [.long x7, .int x12, .ref x0, .long x9]) X.1 (tX4_value X.2.2.1 (sz := H.size) h) (cwV 1 hts (lw_V q1383 q738 q739 q126 q740) rfl rfl rfl ⟨rfl, by decide, by decide, (by decide +kernel : (parseMethodDescriptor yX4_value.desc).map (fun d => d.parameters.length) = some 1)⟩ ⟨Nat.le_of_ble_eq_true rfl, Nat.le_of_ble_eq_true rfl⟩) ⟨cPre_blind, c_recv X hw hN147 rfl, fun U hU hW => ⟨rfl, X.preJ hw hU hW⟩⟩ rfl rfl hl.1 rfl (lv_room (Nat.le_of_ble_eq_true rfl)) dX0_way_138 ⟨show cells + 0 + 0 + 0 ≤ MC by omega, show slots + 0 + 0 + 0 ≤ MS by omega⟩) (fun r145 N146 H locs h hw => ?_)
      refine W.eq (g2 := F0 m 141 ls (.long r145 :: [.long x7, .int x12, .ref x0, .long x9])) rfl ?_
      refine lv_lsub (pc := 141) hx hb dX0_way_141 ?_
      obtain ⟨f155, f156, f157, f158, f159, f160, f161, f162, f163, f164, f165, f166, f167, f168, f169, f170, f171, f172, f173, hN154, h⟩ := h
      refine c_callJ (pc := 142) (val := vL) X hw (va_runV (C := RX0) (As := [.int x12, .long (x7 - r145)]) (rest := [.long x9]) X.1 (tX0_rest X.2.2.1 (sz := H.size) h) (cwV 2 hts (lw_V q1578 q1580 qs37 q102 q1581) rfl rfl rfl ⟨rfl, by decide, by decide, (by decide +kernel : (parseMethodDescriptor yX0_rest.desc).map (fun d => d.parameters.length) = some 2)⟩ ⟨Nat.le_of_ble_eq_true rfl, Nat.le_of_ble_eq_true rfl⟩) ⟨cPre_blind, c_recv X hw hN154 rfl, fun U hU hW => ⟨rfl, X.preJ hw hU hW⟩⟩ rfl rfl hl.1 rfl (lv_room (Nat.le_of_ble_eq_true rfl)) dX0_way_142 ⟨show cells + 0 + 0 + 0 + 0 ≤ MC by omega, show slots + 0 + 0 + 0 + 0 ≤ MS by omega⟩) (fun r152 N153 H locs h hw => ?_)
      refine W.eq (g2 := F0 m 145 ls (.long r152 :: [.long x9])) rfl ?_
      refine lv_lsub (pc := 145) hx hb dX0_way_145 ?_
      refine lv_lstore (pc := 146) (lv' := [(9, .long (x9 - r152)), (0, .ref x0), (5, .int x5), (6, va_rf x6), (7, .long x7), (11, .int x11), (12, .int x12)]) hx hb dX0_way_146 hl (by decide) rfl (fun ls hl => ?_)
      refine lv_iinc (pc := 148) (v := x11 + (1 : Int32)) (lv' := [(11, .int (x11 + (1 : Int32))), (9, .long (x9 - r152)), (0, .ref x0), (5, .int x5), (6, va_rf x6), (7, .long x7), (12, .int x12)]) hx hb dX0_way_148 hl (k := 5) rfl rfl (by decide) rfl (fun ls hl => ?_)
      refine lv_goto (pc := 151) (tgt := 91) hx hb dX0_way_151 rfl ?_
      exact ih _ _ _ _ _ _ _ _ _ _ _ _ _ _ _ h ⟨hw, by omega⟩ (lv_sub hl [2, 3, 4, 5, 1, 0, 6] rfl)
theorem kX0_way_71 {p : Program} {l : Launch} {e : Env} {s : State} {m : MethodId} {args : Array Value} {below : List Frame} {meth : Method} {c : Code} {G : gG} {A : Nat → Prop} {MC MS : Nat} {post : Int32 → NM → Prop} (X : cX G A RX0 p s m args c cX0_way 13) (hr : meth.sig.returnType = (some .int)) (hlk : meth.locks = false) (hL : l.stackTraces = false) (hT : c.exceptionTable.toList = tableOf []) : ∀ (n : Nat) (x0 : Nat) (x5 : Int32) (x6 : Option Nat) (x7 : Int64) (x9 : Int64) (x11 : Int32) (x12 : Int32) (mc ms : Nat) (N : NM) (H : Heap) (locs : List Loc) (ls : Array Slot) (cells slots : Nat), wX0_way_71 (gC G) post n x0 x5 x6 x7 x9 x11 x12 mc ms N → (cH G A s [] N H locs ∧ cells + mc ≤ MC ∧ slots + ms ≤ MS) → lv_has ls 13 [(0, .ref x0), (5, .int x5), (6, va_rf x6), (7, .long x7), (9, .long x9), (11, .int x11), (12, .int x12)] → W p l e ⟨10, MC, MS, 10322⟩ s m args below meth c H locs cells slots (cx_MQ below (gQ vI post (fun u H => cBw G A (jW u).1 (jW u).2 H) A) (cXC G A [] (fun _ _ _ => False)) args s MC MS A) (F0 m 71 ls []) := by
  have hx := X.1.1
  have hb := X.1.2.1
  have hml := X.1.2.2.1
  have hown := X.1.2.2.2.1
  have hts := X.1.2.2.2.2
  intro n
  induction n with
  | zero =>
    intro x0 x5 x6 x7 x9 x11 x12 mc ms N H locs ls cells slots h
    exact False.elim h
  | succ n ih =>
    intro x0 x5 x6 x7 x9 x11 x12 mc ms N H locs ls cells slots h hw0 hl
    obtain ⟨hw, hbud⟩ := hw0
    unfold wX0_way_71 at h
    refine lv_iload (pc := 71) hx hb dX0_way_71 (lv_at hl 6 rfl) ?_
    refine lv_iload (pc := 73) hx hb dX0_way_73 (lv_at hl 1 rfl) ?_
    refine lv_icmp_gt (pc := 75) (tgt := 179) hx hb dX0_way_75 rfl (fun c62 => ?_) (fun c62 => ?_)
    · have h := h.1 c62
      refine lv_iload (pc := 179) hx hb dX0_way_179 (lv_at hl 5 rfl) ?_
      refine W.widen (k := MC) (n := MS) (by omega) (by omega) ?_
      refine cx_ret ?_
      exact W.iret (pc := 181) hx hb hr (fun t ht hW => c_ret (val := vI) (lw := jW) (u := N) hw h ht) hw.2.2.2 dX0_way_181 hlk
    · have h := h.2 c62
      refine lq_aload (pc := 78) hx hb dX0_way_78 (lv_at hl 2 rfl) ?_
      obtain ⟨a63, hr64, h⟩ := h
      refine W.eq (g2 := F0 m 80 ls [.ref a63]) (by rw [hr64]; rfl) ?_
      obtain ⟨f66, hN65, h⟩ := h
      refine c_getN (pc := 80) X hw hN65 in_X6 rfl 0 (by decide) q885 rfl rfl dX0_way_80 ?_
      refine lv_iload (pc := 83) hx hb dX0_way_83 (lv_at hl 6 rfl) ?_
      obtain ⟨a67, hr68, h⟩ := h
      refine W.eq (g2 := F0 m 85 ls [.int x12, .ref a67]) (by rw [hr68]; rfl) ?_
      obtain ⟨n70, f71, hN69, h⟩ := h
      obtain ⟨hi, h⟩ := h
      refine c_aald (pc := 85) X hw 5 hN69 rfl hi dX0_way_85 ?_
      obtain ⟨a72, hr73, h⟩ := h
      refine W.eq (g2 := F0 m 86 ls [.ref a72]) (by rw [hr73]; rfl) ?_
      obtain ⟨f75, f76, f77, f78, hN74, h⟩ := h
      refine c_getN (pc := 86) X hw hN74 in_X4 rfl 1 (by decide) q712 rfl rfl dX0_way_86 ?_
      refine lv_istore (pc := 89) (lv' := [(11, .int f76), (0, .ref x0), (5, .int x5), (6, va_rf x6), (7, .long x7), (9, .long x9), (12, .int x12)]) hx hb dX0_way_89 hl (by decide) rfl (fun ls hl => ?_)
      obtain ⟨k, h⟩ := h
      exact kX0_way_91 X hr hlk hL hT ih k _ _ _ _ _ _ _ _ _ _ _ _ _ _ _ h ⟨hw, by omega⟩ (lv_sub hl [1, 2, 3, 4, 5, 0, 6] rfl)
theorem txX0_way {l : Launch} (hL : l.stackTraces = false) {G : gG} (hO : gOk G) {post : Int32 → NM → Prop} {MC MS : Nat} {N : NM} {x0 : Nat} {x1 : Int32} {x2 : Int32} {x3 : Int64} {x5 : Int32} {sz : Nat} (h : wX0_way (gC G) post MC MS N x0 x1 x2 x3 x5) : cx_Met l yX0_way (ws_ yX0_way cX0_way 13 (some .int)) ⟨10, MC, MS, 10322⟩ (va_Pc [.ref x0, .int x1, .int x2, .long x3, .int x5] (cPre G [] N sz)) (gQ vI post (fun u H => cBw G (cA [] N sz) (jW u).1 (jW u).2 H) (cA [] N sz)) (cXC G (cA [] N sz) [] (fun _ _ _ => False)) MC MS (cA [] N sz) := by
  refine c_ofX (B := fun A u H => cBw G A (jW u).1 (jW u).2 H) (by decide) hO (Nat.le_of_ble_eq_true rfl) (fun p e s m below meth c ls A X hr hlk hT hw hl => ?_)
  have hl : lv_has ls 13 [(0, .ref x0), (1, .int x1), (2, .int x2), (3, .long x3), (5, .int x5)] := hl
  have hx := X.1.1
  have hb := X.1.2.1
  have hml := X.1.2.2.1
  have hown := X.1.2.2.2.1
  have hts := X.1.2.2.2.2
  obtain ⟨H, eH⟩ : ∃ z, z = s.heap := ⟨_, rfl⟩
  rw [← eH] at hw ⊢
  obtain ⟨locs, eLo⟩ : ∃ z : List Loc, z = [] := ⟨_, rfl⟩
  rw [← eLo] at hw ⊢
  have hbud : 0 + MC ≤ MC ∧ 0 + MS ≤ MS := by omega
  unfold wX0_way at h
  refine lv_aload_n (pc := 0) hx hb dX0_way_0 rfl (lv_at hl 0 rfl) ?_
  refine lv_iload_n (pc := 1) hx hb dX0_way_1 rfl (lv_at hl 1 rfl) ?_
  obtain ⟨f8, f9, f10, f11, f12, f13, f14, f15, f16, f17, f18, f19, f20, f21, f22, f23, f24, f25, f26, hN7, h⟩ := h
  obtain ⟨mc3, ms4, hm5, hm6, h⟩ := h
  refine c_callJ (pc := 2) (val := vQ) X hw (vx_runVW (C := RX0) (As := [.int x1]) (rest := []) X.1 (tX0_at hL X.2.2.1 (sz := H.size) h) (vx_cwVW 1 hts (lw_VW q898 q900 qs20 q102 q901) rfl rfl rfl ⟨rfl, by decide, by decide, (by decide +kernel : (parseMethodDescriptor yX0_at.desc).map (fun d => d.parameters.length) = some 1)⟩ ⟨Nat.le_of_ble_eq_true rfl, Nat.le_of_ble_eq_true rfl⟩) ⟨cPre_blind, c_recv X hw hN7 rfl, fun U hU hW => ⟨rfl, X.preJ hw hU hW⟩⟩ rfl rfl hl.1 rfl (lv_room (Nat.le_of_ble_eq_true rfl)) dX0_way_2 ⟨show 0 + mc3 ≤ MC by omega, show 0 + ms4 ≤ MS by omega⟩) (fun r1 N2 H locs h hw => ?_)
  refine W.eq (g2 := F0 m 5 ls (va_rf r1 :: [])) rfl ?_
  refine lq_astore (pc := 5) (lv' := [(6, va_rf r1), (0, .ref x0), (1, .int x1), (2, .int x2), (3, .long x3), (5, .int x5)]) hx hb dX0_way_5 hl (by decide) rfl (fun ls hl => ?_)
  refine lq_aload (pc := 7) hx hb dX0_way_7 (lv_at hl 0 rfl) ?_
  refine lq_ifnull (pc := 9) (tgt := 54) hx hb dX0_way_9 rfl (fun hz27 => ?_) (fun a28 hr29 => ?_)
  · have h := h.1 hz27
    refine lv_ldcw (pc := 54) hx hb hown (hts _ q1540) dX0_way_54 ?_
    refine W.widen (k := MC) (n := MS) (by omega) (by omega) ?_
    refine cx_ret ?_
    exact W.iret (pc := 57) hx hb hr (fun t ht hW => c_ret (val := vI) (lw := jW) (u := N2) hw h ht) hw.2.2.2 dX0_way_57 hlk
  · have h := h.2 a28 hr29
    refine lv_iload_n (pc := 12) hx hb dX0_way_12 rfl (lv_at hl 3 rfl) ?_
    refine s_call (pc := 13) (val := vI) (As := [.int x2]) (rest := []) X.1 (tX0_isNumber h) (lw_S q1555 q976 q102 q977) ⟨by decide, by decide, (by decide +kernel : (parseMethodDescriptor yX0_isNumber.desc).map (fun d => d.parameters.length) = some 1)⟩ ⟨Nat.le_of_ble_eq_true rfl, Nat.le_of_ble_eq_true rfl⟩ hl.1 (Nat.le_of_ble_eq_true rfl) ⟨show 0 + mc3 ≤ MC by omega, show 0 + ms4 ≤ MS by omega⟩ dX0_way_13 rfl (fun r30 h => ?_)
    refine W.eq (g2 := F0 m 16 ls (.int r30 :: [])) rfl ?_
    refine lv_if_eq (pc := 16) (tgt := 54) hx hb dX0_way_16 rfl (fun c31 => ?_) (fun c31 => ?_)
    · have h := h.1 c31
      refine lv_ldcw (pc := 54) hx hb hown (hts _ q1540) dX0_way_54 ?_
      refine W.widen (k := MC) (n := MS) (by omega) (by omega) ?_
      refine cx_ret ?_
      exact W.iret (pc := 57) hx hb hr (fun t ht hW => c_ret (val := vI) (lw := jW) (u := N2) hw h ht) hw.2.2.2 dX0_way_57 hlk
    · have h := h.2 c31
      refine lv_iload (pc := 19) hx hb dX0_way_19 (lv_at hl 5 rfl) ?_
      refine lv_i2l (pc := 21) hx hb dX0_way_21 rfl ?_
      refine lv_lconst (pc := 22) (v := (0 : Int64)) hx hb dX0_way_22 (by decide) ?_
      refine lq_aload (pc := 23) hx hb dX0_way_23 (lv_at hl 0 rfl) ?_
      refine W.eq (g2 := F0 m 25 ls [.ref a28, .long (0 : Int64), .long x5.toInt64]) (by rw [hr29]; rfl) ?_
      obtain ⟨f35, hN34, h⟩ := h
      refine c_callJ (pc := 25) (val := vI) X hw (va_runV (C := RX6) (As := []) (rest := [.long (0 : Int64), .long x5.toInt64]) X.1 (tX6_many X.2.2.1 (sz := H.size) h) (cwV 0 hts (lw_V q890 q891 q892 q129 q893) rfl rfl rfl ⟨rfl, by decide, by decide, (by decide +kernel : (parseMethodDescriptor yX6_many.desc).map (fun d => d.parameters.length) = some 0)⟩ ⟨Nat.le_of_ble_eq_true rfl, Nat.le_of_ble_eq_true rfl⟩) ⟨cPre_blind, c_recv X hw hN34 rfl, fun U hU hW => ⟨rfl, X.preJ hw hU hW⟩⟩ rfl rfl hl.1 rfl (lv_room (Nat.le_of_ble_eq_true rfl)) dX0_way_25 ⟨show 0 + mc3 + 0 ≤ MC by omega, show 0 + ms4 + 0 ≤ MS by omega⟩) (fun r32 N33 H locs h hw => ?_)
      refine W.eq (g2 := F0 m 28 ls (.int r32 :: [.long (0 : Int64), .long x5.toInt64])) rfl ?_
      refine lv_iconst (pc := 28) (v := (1 : Int32)) hx hb dX0_way_28 (by decide) ?_
      refine lv_isub (pc := 29) hx hb dX0_way_29 ?_
      refine lv_i2l (pc := 30) hx hb dX0_way_30 rfl ?_
      refine s_call (pc := 31) (val := vI) (As := [.long x5.toInt64, .long (0 : Int64), .long ((r32 - (1 : Int32)).toInt64)]) (rest := []) X.1 (tX0_isIn h) (lw_S q380 q381 q102 q382) ⟨by decide, by decide, (by decide +kernel : (parseMethodDescriptor yX0_isIn.desc).map (fun d => d.parameters.length) = some 3)⟩ ⟨Nat.le_of_ble_eq_true rfl, Nat.le_of_ble_eq_true rfl⟩ hl.1 (Nat.le_of_ble_eq_true rfl) ⟨show 0 + mc3 + 0 ≤ MC by omega, show 0 + ms4 + 0 ≤ MS by omega⟩ dX0_way_31 rfl (fun r36 h => ?_)
      refine W.eq (g2 := F0 m 34 ls (.int r36 :: [])) rfl ?_
      refine lv_if_eq (pc := 34) (tgt := 54) hx hb dX0_way_34 rfl (fun c37 => ?_) (fun c37 => ?_)
      · have h := h.1 c37
        refine lv_ldcw (pc := 54) hx hb hown (hts _ q1540) dX0_way_54 ?_
        refine W.widen (k := MC) (n := MS) (by omega) (by omega) ?_
        refine cx_ret ?_
        exact W.iret (pc := 57) hx hb hr (fun t ht hW => c_ret (val := vI) (lw := jW) (u := N33) hw h ht) hw.2.2.2 dX0_way_57 hlk
      · have h := h.2 c37
        refine lv_lload_n (pc := 37) hx hb dX0_way_37 rfl (lv_at hl 4 rfl) ?_
        refine lv_lconst (pc := 38) (v := (0 : Int64)) hx hb dX0_way_38 (by decide) ?_
        refine lv_aload_n (pc := 39) hx hb dX0_way_39 rfl (lv_at hl 1 rfl) ?_
        refine lq_aload (pc := 40) hx hb dX0_way_40 (lv_at hl 0 rfl) ?_
        refine lv_iload_n (pc := 42) hx hb dX0_way_42 rfl (lv_at hl 3 rfl) ?_
        obtain ⟨f41, f42, f43, f44, f45, f46, f47, f48, f49, f50, f51, f52, f53, f54, f55, f56, f57, f58, f59, hN40, h⟩ := h
        refine c_callJ (pc := 43) (val := vL) X hw (va_runV (C := RX0) (As := [va_rf r1, .int x2]) (rest := [.long (0 : Int64), .long x3]) X.1 (tX0_waysOf X.2.2.1 (sz := H.size) h) (cwV 2 hts (lw_V q1557 q1374 qs28 q102 q1375) rfl rfl rfl ⟨rfl, by decide, by decide, (by decide +kernel : (parseMethodDescriptor yX0_waysOf.desc).map (fun d => d.parameters.length) = some 2)⟩ ⟨Nat.le_of_ble_eq_true rfl, Nat.le_of_ble_eq_true rfl⟩) ⟨cPre_blind, c_recv X hw hN40 rfl, fun U hU hW => ⟨rfl, X.preJ hw hU hW⟩⟩ rfl rfl hl.1 rfl (lv_room (Nat.le_of_ble_eq_true rfl)) dX0_way_43 ⟨show 0 + mc3 + 0 + 0 ≤ MC by omega, show 0 + ms4 + 0 + 0 ≤ MS by omega⟩) (fun r38 N39 H locs h hw => ?_)
        refine W.eq (g2 := F0 m 46 ls (.long r38 :: [.long (0 : Int64), .long x3])) rfl ?_
        refine lv_lconst (pc := 46) (v := (1 : Int64)) hx hb dX0_way_46 (by decide) ?_
        refine lv_lsub (pc := 47) hx hb dX0_way_47 ?_
        refine s_call (pc := 48) (val := vI) (As := [.long x3, .long (0 : Int64), .long (r38 - (1 : Int64))]) (rest := []) X.1 (tX0_isIn h) (lw_S q380 q381 q102 q382) ⟨by decide, by decide, (by decide +kernel : (parseMethodDescriptor yX0_isIn.desc).map (fun d => d.parameters.length) = some 3)⟩ ⟨Nat.le_of_ble_eq_true rfl, Nat.le_of_ble_eq_true rfl⟩ hl.1 (Nat.le_of_ble_eq_true rfl) ⟨show 0 + mc3 + 0 + 0 ≤ MC by omega, show 0 + ms4 + 0 + 0 ≤ MS by omega⟩ dX0_way_48 rfl (fun r60 h => ?_)
        refine W.eq (g2 := F0 m 51 ls (.int r60 :: [])) rfl ?_
        refine lv_if_ne (pc := 51) (tgt := 58) hx hb dX0_way_51 rfl (fun c61 => ?_) (fun c61 => ?_)
        · have h := h.2 c61
          refine lv_iload_n (pc := 58) hx hb dX0_way_58 rfl (lv_at hl 3 rfl) ?_
          refine lv_i2l (pc := 59) hx hb dX0_way_59 rfl ?_
          refine lv_lstore (pc := 60) (i := 7) (lv' := [(7, .long x2.toInt64), (6, va_rf r1), (0, .ref x0), (1, .int x1), (2, .int x2), (3, .long x3), (5, .int x5)]) hx hb dX0_way_60 hl (by decide) (by simp [rf_c]) (fun ls hl => ?_)
          refine lv_lload_n (pc := 62) hx hb dX0_way_62 rfl (lv_at hl 5 rfl) ?_
          refine lv_lstore (pc := 63) (lv' := [(9, .long x3), (7, .long x2.toInt64), (6, va_rf r1), (0, .ref x0), (1, .int x1), (2, .int x2), (3, .long x3), (5, .int x5)]) hx hb dX0_way_63 hl (by decide) rfl (fun ls hl => ?_)
          refine lv_iconst (pc := 65) (v := (0 : Int32)) hx hb dX0_way_65 (by decide) ?_
          refine lv_istore (pc := 66) (lv' := [(11, .int (0 : Int32)), (9, .long x3), (7, .long x2.toInt64), (6, va_rf r1), (0, .ref x0), (1, .int x1), (2, .int x2), (3, .long x3), (5, .int x5)]) hx hb dX0_way_66 hl (by decide) rfl (fun ls hl => ?_)
          refine lv_iconst (pc := 68) (v := (0 : Int32)) hx hb dX0_way_68 (by decide) ?_
          refine lv_istore (pc := 69) (lv' := [(12, .int (0 : Int32)), (11, .int (0 : Int32)), (9, .long x3), (7, .long x2.toInt64), (6, va_rf r1), (0, .ref x0), (1, .int x1), (2, .int x2), (3, .long x3), (5, .int x5)]) hx hb dX0_way_69 hl (by decide) rfl (fun ls hl => ?_)
          obtain ⟨k, h⟩ := h
          exact kX0_way_71 X hr hlk hL hT  k _ _ _ _ _ _ _ _ _ _ _ _ _ _ _ h ⟨hw, by omega⟩ (lv_sub hl [5, 9, 4, 3, 2, 1, 0] rfl)
        · have h := h.1 c61
          refine lv_ldcw (pc := 54) hx hb hown (hts _ q1540) dX0_way_54 ?_
          refine W.widen (k := MC) (n := MS) (by omega) (by omega) ?_
          refine cx_ret ?_
          exact W.iret (pc := 57) hx hb hr (fun t ht hW => c_ret (val := vI) (lw := jW) (u := N39) hw h ht) hw.2.2.2 dX0_way_57 hlk
theorem tX0_way {l : Launch} (hL : l.stackTraces = false) {G : gG} (hO : gOk G) {post : Int32 → NM → Prop} {MC MS : Nat} {N : NM} {x0 : Nat} {x1 : Int32} {x2 : Int32} {x3 : Int64} {x5 : Int32} {sz : Nat} (h : wX0_way (gC G) post MC MS N x0 x1 x2 x3 x5) : Met l yX0_way (ws_ yX0_way cX0_way 13 (some .int)) ⟨10, MC, MS, 10322⟩ (va_Pc [.ref x0, .int x1, .int x2, .long x3, .int x5] (cPre G [] N sz)) (gQ vI post (fun u H => cBw G (cA [] N sz) (jW u).1 (jW u).2 H) (cA [] N sz)) MC MS (cA [] N sz) := cx_toMet (txX0_way hL hO h)

def wX0_number_131 (K : Nat → Nat → Nat) (K68 : Nat → Option Nat → Nat → Int64 → Int64 → Int32 → Nat → Nat → NM → Prop) (post : Int64 → NM → Prop) : Nat → Nat → Option Nat → Nat → Int64 → Int64 → Int32 → Int32 → Nat → Nat → NM → Prop
  | 0, _, _, _, _, _, _, _, _, _, _ => False
  | n + 1, x0, x8, x9, x10, x12, x14, x15, mc, ms, N => ∃ n106 f107, N x9 = some (eN 0 n106 f107) ∧ (vp_in x14 n106 ∧ ((((f107 x14.toNatClampNeg) ≤ x15) → (∃ a109, x8 = some a109 ∧ (∃ f112, N a109 = some (eO 7 [va_rf f112]) ∧ (∃ a113, f112 = some a113 ∧ (∃ n116 f117, N a113 = some (eR 5 n116 f117) ∧ (vp_in x14 n116 ∧ (vp_in x14 n106 ∧ (∃ a118, (f117 x14.toNatClampNeg) = some a118 ∧ (∃ f123 f124 f125 f126, N a118 = some (eO 6 [.int f123, .int f124, .int f125, va_rf f126]) ∧ (wX4_value K (fun r120 N121 => K68 x0 x8 x9 (x10 - r120) x12 (x14 + (1 : Int32)) mc ms N121) N a118 ((f107 x14.toNatClampNeg).toInt64))))))))))) ∧ (¬ ((f107 x14.toNatClampNeg) ≤ x15) → (∃ a127, x8 = some a127 ∧ (∃ f130, N a127 = some (eO 7 [va_rf f130]) ∧ (∃ a131, f130 = some a131 ∧ (∃ n134 f135, N a131 = some (eR 5 n134 f135) ∧ (vp_in x14 n134 ∧ (∃ a136, (f135 x14.toNatClampNeg) = some a136 ∧ (∃ f141 f142 f143 f144, N a136 = some (eO 6 [.int f141, .int f142, .int f143, va_rf f144]) ∧ (wX4_value K (fun r138 N139 => ∃ f148 f149 f150 f151 f152 f153 f154 f155 f156 f157 f158 f159 f160 f161 f162 f163 f164 f165 f166, N139 x0 = some (eO 1 [va_rf f148, va_rf f149, va_rf f150, va_rf f151, va_rf f152, va_rf f153, va_rf f154, va_rf f155, va_rf f156, .int f157, .int f158, va_rf f159, va_rf f160, .int f161, va_rf f162, va_rf f163, va_rf f164, va_rf f165, va_rf f166]) ∧ (wX0_rest K (fun r145 N146 => wX0_number_131 K K68 post n x0 x8 x9 x10 (x12 + r145) x14 (x15 + (1 : Int32)) mc ms N146) N139 x0 x14 (x10 - r138))) N a136 x15.toInt64)))))))))))
def wX0_number_68 (K : Nat → Nat → Nat) (post : Int64 → NM → Prop) : Nat → Nat → Option Nat → Nat → Int64 → Int64 → Int32 → Nat → Nat → NM → Prop
  | 0, _, _, _, _, _, _, _, _, _ => False
  | n + 1, x0, x8, x9, x10, x12, x14, mc, ms, N => ∃ a78, x8 = some a78 ∧ (∃ f83, N a78 = some (eO 7 [va_rf f83]) ∧ (wX6_many K (fun r80 N81 => ((r80 ≤ x14) → (((x10 = (0 : Int64)) → (post x12 N81)) ∧ (¬ (x10 = (0 : Int64)) → (post (-1 : Int64) N81)))) ∧ (¬ (r80 ≤ x14) → (∃ n87 f88, N81 x9 = some (eN 0 n87 f88) ∧ (vp_in x14 n87 ∧ (∃ f90, N81 a78 = some (eO 7 [va_rf f90]) ∧ (∃ a91, f90 = some a91 ∧ (∃ n94 f95, N81 a91 = some (eR 5 n94 f95) ∧ (vp_in x14 n94 ∧ (∃ a96, (f95 x14.toNatClampNeg) = some a96 ∧ (∃ f99 f100 f101 f102, N81 a96 = some (eO 6 [.int f99, .int f100, .int f101, va_rf f102]) ∧ (vp_in x14 n94 ∧ (wX0_isIn (fun r103 => ((r103 = (0 : Int32)) → (post (-1 : Int64) N81)) ∧ (¬ (r103 = (0 : Int32)) → (vp_in x14 n94 ∧ ((∃ k, wX0_number_131 K (fun x0 x8 x9 x10 x12 x14 mc ms N => wX0_number_68 K post n x0 x8 x9 x10 x12 x14 mc ms N) post k x0 x8 x9 x10 x12 x14 f100 mc ms N81))))) ((f88 x14.toNatClampNeg).toInt64) f100.toInt64 f101.toInt64)))))))))))) N a78))
def wX0_number (K : Nat → Nat → Nat) (post : Int64 → NM → Prop) (MC MS : Nat) (N : NM) (x0 : Nat) (x1 : Int32) (x2 : Int32) (x3 : Int32) (x4 : Int32) (x5 : Int32) (x6 : Int32) (x7 : Int32) : Prop :=
  ∃ f8 f9 f10 f11 f12 f13 f14 f15 f16 f17 f18 f19 f20 f21 f22 f23 f24 f25 f26, N x0 = some (eO 1 [va_rf f8, va_rf f9, va_rf f10, va_rf f11, va_rf f12, va_rf f13, va_rf f14, va_rf f15, va_rf f16, .int f17, .int f18, va_rf f19, va_rf f20, .int f21, va_rf f22, va_rf f23, va_rf f24, va_rf f25, va_rf f26]) ∧ (∃ mc3 ms4, mc3 ≤ MC ∧ ms4 ≤ MS ∧ wX0_at K (fun r1 N2 => (r1 = none → (post (-1 : Int64) N2)) ∧ (∀ a28, r1 = some a28 → (wX0_isNumber (fun r30 => ((r30 = (0 : Int32)) → (post (-1 : Int64) N2)) ∧ (¬ (r30 = (0 : Int32)) → (∃ f35 f36 f37 f38 f39 f40 f41 f42 f43 f44 f45 f46 f47 f48 f49 f50 f51 f52 f53, N2 x0 = some (eO 1 [va_rf f35, va_rf f36, va_rf f37, va_rf f38, va_rf f39, va_rf f40, va_rf f41, va_rf f42, va_rf f43, .int f44, .int f45, va_rf f46, va_rf f47, .int f48, va_rf f49, va_rf f50, va_rf f51, va_rf f52, va_rf f53]) ∧ (wX0_laysWays K (fun _ N33 => ¬ (5 : Int32) < 0 ∧ (5 : Int32).toNatClampNeg ≤ 65536 ∧ 1 ≤ (MC - mc3) ∧ (5 : Int32).toNatClampNeg ≤ (MS - ms4) ∧ (∀ nq58, N33 nq58 = none → (∀ N60, N60 = va_up N33 nq58 (some (eN 0 ((5 : Int32).toNatClampNeg) (fun _ => (0 : Int32)))) → (vp_in (0 : Int32) ((5 : Int32).toNatClampNeg) ∧ (∀ N63, N63 = va_up N60 nq58 (some (eN 0 ((5 : Int32).toNatClampNeg) (upd (fun _ => (0 : Int32)) (0 : Int32).toNatClampNeg x3))) → (vp_in (1 : Int32) ((5 : Int32).toNatClampNeg) ∧ (∀ N66, N66 = va_up N63 nq58 (some (eN 0 ((5 : Int32).toNatClampNeg) (upd (upd (fun _ => (0 : Int32)) (0 : Int32).toNatClampNeg x3) (1 : Int32).toNatClampNeg x4))) → (vp_in (2 : Int32) ((5 : Int32).toNatClampNeg) ∧ (∀ N69, N69 = va_up N66 nq58 (some (eN 0 ((5 : Int32).toNatClampNeg) (upd (upd (upd (fun _ => (0 : Int32)) (0 : Int32).toNatClampNeg x3) (1 : Int32).toNatClampNeg x4) (2 : Int32).toNatClampNeg x5))) → (vp_in (3 : Int32) ((5 : Int32).toNatClampNeg) ∧ (∀ N72, N72 = va_up N69 nq58 (some (eN 0 ((5 : Int32).toNatClampNeg) (upd (upd (upd (upd (fun _ => (0 : Int32)) (0 : Int32).toNatClampNeg x3) (1 : Int32).toNatClampNeg x4) (2 : Int32).toNatClampNeg x5) (3 : Int32).toNatClampNeg x6))) → (vp_in (4 : Int32) ((5 : Int32).toNatClampNeg) ∧ (∀ N75, N75 = va_up N72 nq58 (some (eN 0 ((5 : Int32).toNatClampNeg) (upd (upd (upd (upd (upd (fun _ => (0 : Int32)) (0 : Int32).toNatClampNeg x3) (1 : Int32).toNatClampNeg x4) (2 : Int32).toNatClampNeg x5) (3 : Int32).toNatClampNeg x6) (4 : Int32).toNatClampNeg x7))) → ((∃ k, wX0_number_68 K post k x0 r1 nq58 x2.toInt64 (0 : Int64) (0 : Int32) ((MC - mc3) - 1) ((MS - ms4) - (5 : Int32).toNatClampNeg) N75))))))))))))))) N2 x0 r1)))) x2))) mc3 ms4 N x0 x1)
theorem kX0_number_131 {p : Program} {l : Launch} {e : Env} {s : State} {m : MethodId} {args : Array Value} {below : List Frame} {meth : Method} {c : Code} {G : gG} {A : Nat → Prop} {MC MS : Nat} {K68 : Nat → Option Nat → Nat → Int64 → Int64 → Int32 → Nat → Nat → NM → Prop} {post : Int64 → NM → Prop} (X : cX G A RX0 p s m args c cX0_number 16) (hr : meth.sig.returnType = (some .long)) (hlk : meth.locks = false) (hL : l.stackTraces = false) (hT : c.exceptionTable.toList = tableOf []) (hK68 : ∀ (x0 : Nat) (x8 : Option Nat) (x9 : Nat) (x10 : Int64) (x12 : Int64) (x14 : Int32) (mc ms : Nat) (N : NM) (H : Heap) (locs : List Loc) (ls : Array Slot) (cells slots : Nat), K68 x0 x8 x9 x10 x12 x14 mc ms N → (cH G A s [] N H locs ∧ cells + mc ≤ MC ∧ slots + ms ≤ MS) → lv_has ls 16 [(0, .ref x0), (8, va_rf x8), (9, .ref x9), (10, .long x10), (12, .long x12), (14, .int x14)] → W p l e ⟨10, MC, MS, 10322⟩ s m args below meth c H locs cells slots (cx_MQ below (gQ vL post (fun u H => cBw G A (jW u).1 (jW u).2 H) A) (cXC G A [] (fun _ _ _ => False)) args s MC MS A) (F0 m 68 ls [])) : ∀ (n : Nat) (x0 : Nat) (x8 : Option Nat) (x9 : Nat) (x10 : Int64) (x12 : Int64) (x14 : Int32) (x15 : Int32) (mc ms : Nat) (N : NM) (H : Heap) (locs : List Loc) (ls : Array Slot) (cells slots : Nat), wX0_number_131 (gC G) K68 post n x0 x8 x9 x10 x12 x14 x15 mc ms N → (cH G A s [] N H locs ∧ cells + mc ≤ MC ∧ slots + ms ≤ MS) → lv_has ls 16 [(0, .ref x0), (8, va_rf x8), (9, .ref x9), (10, .long x10), (12, .long x12), (14, .int x14), (15, .int x15)] → W p l e ⟨10, MC, MS, 10322⟩ s m args below meth c H locs cells slots (cx_MQ below (gQ vL post (fun u H => cBw G A (jW u).1 (jW u).2 H) A) (cXC G A [] (fun _ _ _ => False)) args s MC MS A) (F0 m 131 ls []) := by
  have hx := X.1.1
  have hb := X.1.2.1
  have hml := X.1.2.2.1
  have hown := X.1.2.2.2.1
  have hts := X.1.2.2.2.2
  intro n
  induction n with
  | zero =>
    intro x0 x8 x9 x10 x12 x14 x15 mc ms N H locs ls cells slots h
    exact False.elim h
  | succ n ih =>
    intro x0 x8 x9 x10 x12 x14 x15 mc ms N H locs ls cells slots h hw0 hl
    obtain ⟨hw, hbud⟩ := hw0
    unfold wX0_number_131 at h
    refine lv_iload (pc := 131) hx hb dX0_number_131 (lv_at hl 6 rfl) ?_
    refine lv_aload (pc := 133) hx hb dX0_number_133 (lv_at hl 2 rfl) ?_
    refine lv_iload (pc := 135) hx hb dX0_number_135 (lv_at hl 5 rfl) ?_
    obtain ⟨n106, f107, hN105, h⟩ := h
    obtain ⟨hi, h⟩ := h
    refine c_iald (pc := 137) X hw hN105 hi dX0_number_137 ?_
    refine lv_icmp_ge (pc := 138) (tgt := 175) hx hb dX0_number_138 rfl (fun c108 => ?_) (fun c108 => ?_)
    · have h := h.1 c108
      refine lv_lload (pc := 175) hx hb dX0_number_175 (lv_at hl 3 rfl) ?_
      refine lq_aload (pc := 177) hx hb dX0_number_177 (lv_at hl 1 rfl) ?_
      obtain ⟨a109, hr110, h⟩ := h
      refine W.eq (g2 := F0 m 179 ls [.ref a109, .long x10]) (by rw [hr110]; rfl) ?_
      obtain ⟨f112, hN111, h⟩ := h
      refine c_getN (pc := 179) X hw hN111 in_X6 rfl 0 (by decide) q885 rfl rfl dX0_number_179 ?_
      refine lv_iload (pc := 182) hx hb dX0_number_182 (lv_at hl 5 rfl) ?_
      obtain ⟨a113, hr114, h⟩ := h
      refine W.eq (g2 := F0 m 184 ls [.int x14, .ref a113, .long x10]) (by rw [hr114]; rfl) ?_
      obtain ⟨n116, f117, hN115, h⟩ := h
      obtain ⟨hi, h⟩ := h
      refine c_aald (pc := 184) X hw 5 hN115 rfl hi dX0_number_184 ?_
      refine lv_aload (pc := 185) hx hb dX0_number_185 (lv_at hl 2 rfl) ?_
      refine lv_iload (pc := 187) hx hb dX0_number_187 (lv_at hl 5 rfl) ?_
      obtain ⟨hi, h⟩ := h
      refine c_iald (pc := 189) X hw hN105 hi dX0_number_189 ?_
      refine lv_i2l (pc := 190) hx hb dX0_number_190 rfl ?_
      obtain ⟨a118, hr119, h⟩ := h
      refine W.eq (g2 := F0 m 191 ls [.long ((f107 x14.toNatClampNeg).toInt64), .ref a118, .long x10]) (by rw [hr119]; rfl) ?_
      obtain ⟨f123, f124, f125, f126, hN122, h⟩ := h
      refine c_callJ (pc := 191) (val := vL) X hw (va_runV (C := RX4) (As := [.long ((f107 x14.toNatClampNeg).toInt64)]) (rest := [.long x10]) X.1 (tX4_value X.2.2.1 (sz := H.size) h) (cwV 1 hts (lw_V q1383 q738 q739 q126 q740) rfl rfl rfl ⟨rfl, by decide, by decide, (by decide +kernel : (parseMethodDescriptor yX4_value.desc).map (fun d => d.parameters.length) = some 1)⟩ ⟨Nat.le_of_ble_eq_true rfl, Nat.le_of_ble_eq_true rfl⟩) ⟨cPre_blind, c_recv X hw hN122 rfl, fun U hU hW => ⟨rfl, X.preJ hw hU hW⟩⟩ rfl rfl hl.1 rfl (lv_room (Nat.le_of_ble_eq_true rfl)) dX0_number_191 ⟨show cells + 0 ≤ MC by omega, show slots + 0 ≤ MS by omega⟩) (fun r120 N121 H locs h hw => ?_)
      refine W.eq (g2 := F0 m 194 ls (.long r120 :: [.long x10])) rfl ?_
      refine lv_lsub (pc := 194) hx hb dX0_number_194 ?_
      refine lv_lstore (pc := 195) (lv' := [(10, .long (x10 - r120)), (0, .ref x0), (8, va_rf x8), (9, .ref x9), (12, .long x12), (14, .int x14), (15, .int x15)]) hx hb dX0_number_195 hl (by decide) rfl (fun ls hl => ?_)
      refine lv_iinc (pc := 197) (v := x14 + (1 : Int32)) (lv' := [(14, .int (x14 + (1 : Int32))), (10, .long (x10 - r120)), (0, .ref x0), (8, va_rf x8), (9, .ref x9), (12, .long x12), (15, .int x15)]) hx hb dX0_number_197 hl (k := 5) rfl rfl (by decide) rfl (fun ls hl => ?_)
      refine lv_goto (pc := 200) (tgt := 68) hx hb dX0_number_200 rfl ?_
      exact hK68 _ _ _ _ _ _ _ _ _ _ _ _ _ _ h ⟨hw, by omega⟩ (lv_sub hl [2, 3, 4, 1, 5, 0] rfl)
    · have h := h.2 c108
      refine lv_lload (pc := 141) hx hb dX0_number_141 (lv_at hl 4 rfl) ?_
      refine lv_aload_n (pc := 143) hx hb dX0_number_143 rfl (lv_at hl 0 rfl) ?_
      refine lv_iload (pc := 144) hx hb dX0_number_144 (lv_at hl 5 rfl) ?_
      refine lv_lload (pc := 146) hx hb dX0_number_146 (lv_at hl 3 rfl) ?_
      refine lq_aload (pc := 148) hx hb dX0_number_148 (lv_at hl 1 rfl) ?_
      obtain ⟨a127, hr128, h⟩ := h
      refine W.eq (g2 := F0 m 150 ls [.ref a127, .long x10, .int x14, .ref x0, .long x12]) (by rw [hr128]; rfl) ?_
      obtain ⟨f130, hN129, h⟩ := h
      refine c_getN (pc := 150) X hw hN129 in_X6 rfl 0 (by decide) q885 rfl rfl dX0_number_150 ?_
      refine lv_iload (pc := 153) hx hb dX0_number_153 (lv_at hl 5 rfl) ?_
      obtain ⟨a131, hr132, h⟩ := h
      refine W.eq (g2 := F0 m 155 ls [.int x14, .ref a131, .long x10, .int x14, .ref x0, .long x12]) (by rw [hr132]; rfl) ?_
      obtain ⟨n134, f135, hN133, h⟩ := h
      obtain ⟨hi, h⟩ := h
      refine c_aald (pc := 155) X hw 5 hN133 rfl hi dX0_number_155 ?_
      refine lv_iload (pc := 156) hx hb dX0_number_156 (lv_at hl 6 rfl) ?_
      refine lv_i2l (pc := 158) hx hb dX0_number_158 rfl ?_
      obtain ⟨a136, hr137, h⟩ := h
      refine W.eq (g2 := F0 m 159 ls [.long x15.toInt64, .ref a136, .long x10, .int x14, .ref x0, .long x12]) (by rw [hr137]; rfl) ?_
      obtain ⟨f141, f142, f143, f144, hN140, h⟩ := h
      refine c_callJ (pc := 159) (val := vL) X hw (va_runV (C := RX4) (As := [.long x15.toInt64]) (rest := [.long x10, .int x14, .ref x0, .long x12]) X.1 (tX4_value X.2.2.1 (sz := H.size) h) (cwV 1 hts (lw_V q1383 q738 q739 q126 q740) rfl rfl rfl ⟨rfl, by decide, by decide, (by decide +kernel : (parseMethodDescriptor yX4_value.desc).map (fun d => d.parameters.length) = some 1)⟩ ⟨Nat.le_of_ble_eq_true rfl, Nat.le_of_ble_eq_true rfl⟩) ⟨cPre_blind, c_recv X hw hN140 rfl, fun U hU hW => ⟨rfl, X.preJ hw hU hW⟩⟩ rfl rfl hl.1 rfl (lv_room (Nat.le_of_ble_eq_true rfl)) dX0_number_159 ⟨show cells + 0 ≤ MC by omega, show slots + 0 ≤ MS by omega⟩) (fun r138 N139 H locs h hw => ?_)
      refine W.eq (g2 := F0 m 162 ls (.long r138 :: [.long x10, .int x14, .ref x0, .long x12])) rfl ?_
      refine lv_lsub (pc := 162) hx hb dX0_number_162 ?_
      obtain ⟨f148, f149, f150, f151, f152, f153, f154, f155, f156, f157, f158, f159, f160, f161, f162, f163, f164, f165, f166, hN147, h⟩ := h
      refine c_callJ (pc := 163) (val := vL) X hw (va_runV (C := RX0) (As := [.int x14, .long (x10 - r138)]) (rest := [.long x12]) X.1 (tX0_rest X.2.2.1 (sz := H.size) h) (cwV 2 hts (lw_V q1578 q1580 qs37 q102 q1581) rfl rfl rfl ⟨rfl, by decide, by decide, (by decide +kernel : (parseMethodDescriptor yX0_rest.desc).map (fun d => d.parameters.length) = some 2)⟩ ⟨Nat.le_of_ble_eq_true rfl, Nat.le_of_ble_eq_true rfl⟩) ⟨cPre_blind, c_recv X hw hN147 rfl, fun U hU hW => ⟨rfl, X.preJ hw hU hW⟩⟩ rfl rfl hl.1 rfl (lv_room (Nat.le_of_ble_eq_true rfl)) dX0_number_163 ⟨show cells + 0 + 0 ≤ MC by omega, show slots + 0 + 0 ≤ MS by omega⟩) (fun r145 N146 H locs h hw => ?_)
      refine W.eq (g2 := F0 m 166 ls (.long r145 :: [.long x12])) rfl ?_
      refine lv_ladd (pc := 166) hx hb dX0_number_166 ?_
      refine lv_lstore (pc := 167) (lv' := [(12, .long (x12 + r145)), (0, .ref x0), (8, va_rf x8), (9, .ref x9), (10, .long x10), (14, .int x14), (15, .int x15)]) hx hb dX0_number_167 hl (by decide) rfl (fun ls hl => ?_)
      refine lv_iinc (pc := 169) (v := x15 + (1 : Int32)) (lv' := [(15, .int (x15 + (1 : Int32))), (12, .long (x12 + r145)), (0, .ref x0), (8, va_rf x8), (9, .ref x9), (10, .long x10), (14, .int x14)]) hx hb dX0_number_169 hl (k := 6) rfl rfl (by decide) rfl (fun ls hl => ?_)
      refine lv_goto (pc := 172) (tgt := 131) hx hb dX0_number_172 rfl ?_
      exact ih _ _ _ _ _ _ _ _ _ _ _ _ _ _ _ h ⟨hw, by omega⟩ (lv_sub hl [2, 3, 4, 5, 1, 6, 0] rfl)
theorem kX0_number_68 {p : Program} {l : Launch} {e : Env} {s : State} {m : MethodId} {args : Array Value} {below : List Frame} {meth : Method} {c : Code} {G : gG} {A : Nat → Prop} {MC MS : Nat} {post : Int64 → NM → Prop} (X : cX G A RX0 p s m args c cX0_number 16) (hr : meth.sig.returnType = (some .long)) (hlk : meth.locks = false) (hL : l.stackTraces = false) (hT : c.exceptionTable.toList = tableOf []) : ∀ (n : Nat) (x0 : Nat) (x8 : Option Nat) (x9 : Nat) (x10 : Int64) (x12 : Int64) (x14 : Int32) (mc ms : Nat) (N : NM) (H : Heap) (locs : List Loc) (ls : Array Slot) (cells slots : Nat), wX0_number_68 (gC G) post n x0 x8 x9 x10 x12 x14 mc ms N → (cH G A s [] N H locs ∧ cells + mc ≤ MC ∧ slots + ms ≤ MS) → lv_has ls 16 [(0, .ref x0), (8, va_rf x8), (9, .ref x9), (10, .long x10), (12, .long x12), (14, .int x14)] → W p l e ⟨10, MC, MS, 10322⟩ s m args below meth c H locs cells slots (cx_MQ below (gQ vL post (fun u H => cBw G A (jW u).1 (jW u).2 H) A) (cXC G A [] (fun _ _ _ => False)) args s MC MS A) (F0 m 68 ls []) := by
  have hx := X.1.1
  have hb := X.1.2.1
  have hml := X.1.2.2.1
  have hown := X.1.2.2.2.1
  have hts := X.1.2.2.2.2
  intro n
  induction n with
  | zero =>
    intro x0 x8 x9 x10 x12 x14 mc ms N H locs ls cells slots h
    exact False.elim h
  | succ n ih =>
    intro x0 x8 x9 x10 x12 x14 mc ms N H locs ls cells slots h hw0 hl
    obtain ⟨hw, hbud⟩ := hw0
    unfold wX0_number_68 at h
    refine lv_iload (pc := 68) hx hb dX0_number_68 (lv_at hl 5 rfl) ?_
    refine lq_aload (pc := 70) hx hb dX0_number_70 (lv_at hl 1 rfl) ?_
    obtain ⟨a78, hr79, h⟩ := h
    refine W.eq (g2 := F0 m 72 ls [.ref a78, .int x14]) (by rw [hr79]; rfl) ?_
    obtain ⟨f83, hN82, h⟩ := h
    refine c_callJ (pc := 72) (val := vI) X hw (va_runV (C := RX6) (As := []) (rest := [.int x14]) X.1 (tX6_many X.2.2.1 (sz := H.size) h) (cwV 0 hts (lw_V q890 q891 q892 q129 q893) rfl rfl rfl ⟨rfl, by decide, by decide, (by decide +kernel : (parseMethodDescriptor yX6_many.desc).map (fun d => d.parameters.length) = some 0)⟩ ⟨Nat.le_of_ble_eq_true rfl, Nat.le_of_ble_eq_true rfl⟩) ⟨cPre_blind, c_recv X hw hN82 rfl, fun U hU hW => ⟨rfl, X.preJ hw hU hW⟩⟩ rfl rfl hl.1 rfl (lv_room (Nat.le_of_ble_eq_true rfl)) dX0_number_72 ⟨show cells + 0 ≤ MC by omega, show slots + 0 ≤ MS by omega⟩) (fun r80 N81 H locs h hw => ?_)
    refine W.eq (g2 := F0 m 75 ls (.int r80 :: [.int x14])) rfl ?_
    refine lv_icmp_ge (pc := 75) (tgt := 203) hx hb dX0_number_75 rfl (fun c84 => ?_) (fun c84 => ?_)
    · have h := h.1 c84
      refine lv_lload (pc := 203) hx hb dX0_number_203 (lv_at hl 3 rfl) ?_
      refine lv_lconst (pc := 205) (v := (0 : Int64)) hx hb dX0_number_205 (by decide) ?_
      refine W.lcmp (pc := 206) hx hb dX0_number_206 ?_
      refine lv_if_ne (pc := 207) (tgt := 215) hx hb dX0_number_207 rfl (fun c85 => ?_) (fun c85 => ?_)
      · have h := h.2 (fun z => c85 ((lg_cmp_eq _ _).mpr z))
        refine lv_ldc2 (pc := 215) hx hb hown (hts _ q1556) dX0_number_215 ?_
        refine W.widen (k := MC) (n := MS) (by omega) (by omega) ?_
        refine cx_ret ?_
        exact W.lret (pc := 218) hx hb hr (fun t ht hW => c_ret (val := vL) (lw := jW) (u := N81) hw h ht) hw.2.2.2 dX0_number_218 hlk
      · have h := h.1 ((lg_cmp_eq _ _).mp c85)
        refine lv_lload (pc := 210) hx hb dX0_number_210 (lv_at hl 4 rfl) ?_
        refine lv_goto (pc := 212) (tgt := 218) hx hb dX0_number_212 rfl ?_
        refine W.widen (k := MC) (n := MS) (by omega) (by omega) ?_
        refine cx_ret ?_
        exact W.lret (pc := 218) hx hb hr (fun t ht hW => c_ret (val := vL) (lw := jW) (u := N81) hw h ht) hw.2.2.2 dX0_number_218 hlk
    · have h := h.2 c84
      refine lv_aload (pc := 78) hx hb dX0_number_78 (lv_at hl 2 rfl) ?_
      refine lv_iload (pc := 80) hx hb dX0_number_80 (lv_at hl 5 rfl) ?_
      obtain ⟨n87, f88, hN86, h⟩ := h
      obtain ⟨hi, h⟩ := h
      refine c_iald (pc := 82) X hw hN86 hi dX0_number_82 ?_
      refine lv_i2l (pc := 83) hx hb dX0_number_83 rfl ?_
      refine lq_aload (pc := 84) hx hb dX0_number_84 (lv_at hl 1 rfl) ?_
      refine W.eq (g2 := F0 m 86 ls [.ref a78, .long ((f88 x14.toNatClampNeg).toInt64)]) (by rw [hr79]; rfl) ?_
      obtain ⟨f90, hN89, h⟩ := h
      refine c_getN (pc := 86) X hw hN89 in_X6 rfl 0 (by decide) q885 rfl rfl dX0_number_86 ?_
      refine lv_iload (pc := 89) hx hb dX0_number_89 (lv_at hl 5 rfl) ?_
      obtain ⟨a91, hr92, h⟩ := h
      refine W.eq (g2 := F0 m 91 ls [.int x14, .ref a91, .long ((f88 x14.toNatClampNeg).toInt64)]) (by rw [hr92]; rfl) ?_
      obtain ⟨n94, f95, hN93, h⟩ := h
      obtain ⟨hi, h⟩ := h
      refine c_aald (pc := 91) X hw 5 hN93 rfl hi dX0_number_91 ?_
      obtain ⟨a96, hr97, h⟩ := h
      refine W.eq (g2 := F0 m 92 ls [.ref a96, .long ((f88 x14.toNatClampNeg).toInt64)]) (by rw [hr97]; rfl) ?_
      obtain ⟨f99, f100, f101, f102, hN98, h⟩ := h
      refine c_getN (pc := 92) X hw hN98 in_X4 rfl 1 (by decide) q712 rfl rfl dX0_number_92 ?_
      refine lv_i2l (pc := 95) hx hb dX0_number_95 rfl ?_
      refine lq_aload (pc := 96) hx hb dX0_number_96 (lv_at hl 1 rfl) ?_
      refine W.eq (g2 := F0 m 98 ls [.ref a78, .long f100.toInt64, .long ((f88 x14.toNatClampNeg).toInt64)]) (by rw [hr79]; rfl) ?_
      refine c_getN (pc := 98) X hw hN89 in_X6 rfl 0 (by decide) q885 rfl rfl dX0_number_98 ?_
      refine lv_iload (pc := 101) hx hb dX0_number_101 (lv_at hl 5 rfl) ?_
      refine W.eq (g2 := F0 m 103 ls [.int x14, .ref a91, .long f100.toInt64, .long ((f88 x14.toNatClampNeg).toInt64)]) (by rw [hr92]; rfl) ?_
      obtain ⟨hi, h⟩ := h
      refine c_aald (pc := 103) X hw 5 hN93 rfl hi dX0_number_103 ?_
      refine W.eq (g2 := F0 m 104 ls [.ref a96, .long f100.toInt64, .long ((f88 x14.toNatClampNeg).toInt64)]) (by rw [hr97]; rfl) ?_
      refine c_getN (pc := 104) X hw hN98 in_X4 rfl 2 (by decide) q715 rfl rfl dX0_number_104 ?_
      refine lv_i2l (pc := 107) hx hb dX0_number_107 rfl ?_
      refine s_call (pc := 108) (val := vI) (As := [.long ((f88 x14.toNatClampNeg).toInt64), .long f100.toInt64, .long f101.toInt64]) (rest := []) X.1 (tX0_isIn h) (lw_S q380 q381 q102 q382) ⟨by decide, by decide, (by decide +kernel : (parseMethodDescriptor yX0_isIn.desc).map (fun d => d.parameters.length) = some 3)⟩ ⟨Nat.le_of_ble_eq_true rfl, Nat.le_of_ble_eq_true rfl⟩ hl.1 (Nat.le_of_ble_eq_true rfl) ⟨show cells + 0 ≤ MC by omega, show slots + 0 ≤ MS by omega⟩ dX0_number_108 rfl (fun r103 h => ?_)
      refine W.eq (g2 := F0 m 111 ls (.int r103 :: [])) rfl ?_
      refine lv_if_ne (pc := 111) (tgt := 118) hx hb dX0_number_111 rfl (fun c104 => ?_) (fun c104 => ?_)
      · have h := h.2 c104
        refine lq_aload (pc := 118) hx hb dX0_number_118 (lv_at hl 1 rfl) ?_
        refine W.eq (g2 := F0 m 120 ls [.ref a78]) (by rw [hr79]; rfl) ?_
        refine c_getN (pc := 120) X hw hN89 in_X6 rfl 0 (by decide) q885 rfl rfl dX0_number_120 ?_
        refine lv_iload (pc := 123) hx hb dX0_number_123 (lv_at hl 5 rfl) ?_
        refine W.eq (g2 := F0 m 125 ls [.int x14, .ref a91]) (by rw [hr92]; rfl) ?_
        obtain ⟨hi, h⟩ := h
        refine c_aald (pc := 125) X hw 5 hN93 rfl hi dX0_number_125 ?_
        refine W.eq (g2 := F0 m 126 ls [.ref a96]) (by rw [hr97]; rfl) ?_
        refine c_getN (pc := 126) X hw hN98 in_X4 rfl 1 (by decide) q712 rfl rfl dX0_number_126 ?_
        refine lv_istore (pc := 129) (lv' := [(15, .int f100), (0, .ref x0), (8, va_rf x8), (9, .ref x9), (10, .long x10), (12, .long x12), (14, .int x14)]) hx hb dX0_number_129 hl (by decide) rfl (fun ls hl => ?_)
        obtain ⟨k, h⟩ := h
        exact kX0_number_131 X hr hlk hL hT ih k _ _ _ _ _ _ _ _ _ _ _ _ _ _ _ h ⟨hw, by omega⟩ (lv_sub hl [1, 2, 3, 4, 5, 6, 0] rfl)
      · have h := h.1 c104
        refine lv_ldc2 (pc := 114) hx hb hown (hts _ q1556) dX0_number_114 ?_
        refine W.widen (k := MC) (n := MS) (by omega) (by omega) ?_
        refine cx_ret ?_
        exact W.lret (pc := 117) hx hb hr (fun t ht hW => c_ret (val := vL) (lw := jW) (u := N81) hw h ht) hw.2.2.2 dX0_number_117 hlk
theorem txX0_number {l : Launch} (hL : l.stackTraces = false) {G : gG} (hO : gOk G) {post : Int64 → NM → Prop} {MC MS : Nat} {N : NM} {x0 : Nat} {x1 : Int32} {x2 : Int32} {x3 : Int32} {x4 : Int32} {x5 : Int32} {x6 : Int32} {x7 : Int32} {sz : Nat} (h : wX0_number (gC G) post MC MS N x0 x1 x2 x3 x4 x5 x6 x7) : cx_Met l yX0_number (ws_ yX0_number cX0_number 16 (some .long)) ⟨10, MC, MS, 10322⟩ (va_Pc [.ref x0, .int x1, .int x2, .int x3, .int x4, .int x5, .int x6, .int x7] (cPre G [] N sz)) (gQ vL post (fun u H => cBw G (cA [] N sz) (jW u).1 (jW u).2 H) (cA [] N sz)) (cXC G (cA [] N sz) [] (fun _ _ _ => False)) MC MS (cA [] N sz) := by
  refine c_ofX (B := fun A u H => cBw G A (jW u).1 (jW u).2 H) (by decide) hO (Nat.le_of_ble_eq_true rfl) (fun p e s m below meth c ls A X hr hlk hT hw hl => ?_)
  have hl : lv_has ls 16 [(0, .ref x0), (1, .int x1), (2, .int x2), (3, .int x3), (4, .int x4), (5, .int x5), (6, .int x6), (7, .int x7)] := hl
  have hx := X.1.1
  have hb := X.1.2.1
  have hml := X.1.2.2.1
  have hown := X.1.2.2.2.1
  have hts := X.1.2.2.2.2
  obtain ⟨H, eH⟩ : ∃ z, z = s.heap := ⟨_, rfl⟩
  rw [← eH] at hw ⊢
  obtain ⟨locs, eLo⟩ : ∃ z : List Loc, z = [] := ⟨_, rfl⟩
  rw [← eLo] at hw ⊢
  have hbud : 0 + MC ≤ MC ∧ 0 + MS ≤ MS := by omega
  unfold wX0_number at h
  refine lv_aload_n (pc := 0) hx hb dX0_number_0 rfl (lv_at hl 0 rfl) ?_
  refine lv_iload_n (pc := 1) hx hb dX0_number_1 rfl (lv_at hl 1 rfl) ?_
  obtain ⟨f8, f9, f10, f11, f12, f13, f14, f15, f16, f17, f18, f19, f20, f21, f22, f23, f24, f25, f26, hN7, h⟩ := h
  obtain ⟨mc3, ms4, hm5, hm6, h⟩ := h
  refine c_callJ (pc := 2) (val := vQ) X hw (vx_runVW (C := RX0) (As := [.int x1]) (rest := []) X.1 (tX0_at hL X.2.2.1 (sz := H.size) h) (vx_cwVW 1 hts (lw_VW q898 q900 qs20 q102 q901) rfl rfl rfl ⟨rfl, by decide, by decide, (by decide +kernel : (parseMethodDescriptor yX0_at.desc).map (fun d => d.parameters.length) = some 1)⟩ ⟨Nat.le_of_ble_eq_true rfl, Nat.le_of_ble_eq_true rfl⟩) ⟨cPre_blind, c_recv X hw hN7 rfl, fun U hU hW => ⟨rfl, X.preJ hw hU hW⟩⟩ rfl rfl hl.1 rfl (lv_room (Nat.le_of_ble_eq_true rfl)) dX0_number_2 ⟨show 0 + mc3 ≤ MC by omega, show 0 + ms4 ≤ MS by omega⟩) (fun r1 N2 H locs h hw => ?_)
  refine W.eq (g2 := F0 m 5 ls (va_rf r1 :: [])) rfl ?_
  refine lq_astore (pc := 5) (lv' := [(8, va_rf r1), (0, .ref x0), (1, .int x1), (2, .int x2), (3, .int x3), (4, .int x4), (5, .int x5), (6, .int x6), (7, .int x7)]) hx hb dX0_number_5 hl (by decide) rfl (fun ls hl => ?_)
  refine lq_aload (pc := 7) hx hb dX0_number_7 (lv_at hl 0 rfl) ?_
  refine lq_ifnull (pc := 9) (tgt := 19) hx hb dX0_number_9 rfl (fun hz27 => ?_) (fun a28 hr29 => ?_)
  · have h := h.1 hz27
    refine lv_ldc2 (pc := 19) hx hb hown (hts _ q1556) dX0_number_19 ?_
    refine W.widen (k := MC) (n := MS) (by omega) (by omega) ?_
    refine cx_ret ?_
    exact W.lret (pc := 22) hx hb hr (fun t ht hW => c_ret (val := vL) (lw := jW) (u := N2) hw h ht) hw.2.2.2 dX0_number_22 hlk
  · have h := h.2 a28 hr29
    refine lv_iload_n (pc := 12) hx hb dX0_number_12 rfl (lv_at hl 3 rfl) ?_
    refine s_call (pc := 13) (val := vI) (As := [.int x2]) (rest := []) X.1 (tX0_isNumber h) (lw_S q1555 q976 q102 q977) ⟨by decide, by decide, (by decide +kernel : (parseMethodDescriptor yX0_isNumber.desc).map (fun d => d.parameters.length) = some 1)⟩ ⟨Nat.le_of_ble_eq_true rfl, Nat.le_of_ble_eq_true rfl⟩ hl.1 (Nat.le_of_ble_eq_true rfl) ⟨show 0 + mc3 ≤ MC by omega, show 0 + ms4 ≤ MS by omega⟩ dX0_number_13 rfl (fun r30 h => ?_)
    refine W.eq (g2 := F0 m 16 ls (.int r30 :: [])) rfl ?_
    refine lv_if_ne (pc := 16) (tgt := 23) hx hb dX0_number_16 rfl (fun c31 => ?_) (fun c31 => ?_)
    · have h := h.2 c31
      refine lv_aload_n (pc := 23) hx hb dX0_number_23 rfl (lv_at hl 1 rfl) ?_
      refine lq_aload (pc := 24) hx hb dX0_number_24 (lv_at hl 0 rfl) ?_
      obtain ⟨f35, f36, f37, f38, f39, f40, f41, f42, f43, f44, f45, f46, f47, f48, f49, f50, f51, f52, f53, hN34, h⟩ := h
      refine c_callJ (pc := 26) (val := vV) X hw (va_runV (C := RX0) (As := [va_rf r1]) (rest := []) X.1 (tX0_laysWays X.2.2.1 (sz := H.size) h) (cwV 1 hts (lw_V q1376 q1378 qs29 q102 q1379) rfl rfl rfl ⟨rfl, by decide, by decide, (by decide +kernel : (parseMethodDescriptor yX0_laysWays.desc).map (fun d => d.parameters.length) = some 1)⟩ ⟨Nat.le_of_ble_eq_true rfl, Nat.le_of_ble_eq_true rfl⟩) ⟨cPre_blind, c_recv X hw hN34 rfl, fun U hU hW => ⟨rfl, X.preJ hw hU hW⟩⟩ rfl rfl hl.1 rfl (lv_room (Nat.le_of_ble_eq_true rfl)) dX0_number_26 ⟨show 0 + mc3 + 0 ≤ MC by omega, show 0 + ms4 + 0 ≤ MS by omega⟩) (fun _ N33 H locs h hw => ?_)
      refine W.eq (g2 := F0 m 29 ls ([])) rfl ?_
      refine lv_iconst (pc := 29) (v := (5 : Int32)) hx hb dX0_number_29 (by decide) ?_
      obtain ⟨hm54, hm55, hm56, hm57, h⟩ := h
      refine c_newa (pc := 30) (atype := .int) (ty := .int) (a0 := ((5 : Int32).toNatClampNeg, .inl (fun _ => (0 : Int32)))) X hw rfl q375 0 rfl (fun _ => rfl) hm54 rfl (Nat.le_trans (Nat.mul_le_mul_right _ hm55) (Nat.le_of_ble_eq_true rfl)) (show 0 + mc3 + 0 + 1 ≤ MC by omega) (show 0 + ms4 + 0 + (5 : Int32).toNatClampNeg ≤ MS by omega) dX0_number_30 (fun nq58 H hq59 _ hw => ?_)
      have h := h nq58 hq59
      obtain ⟨N60, e61⟩ : ∃ z, z = va_up N33 nq58 (some (eN 0 ((5 : Int32).toNatClampNeg) (fun _ => (0 : Int32)))) := ⟨_, rfl⟩
      have hw : cH G A s [] N60 H locs := by rw [e61]; exact hw
      have h := h N60 e61
      have hN62 : N60 nq58 = some (eN 0 ((5 : Int32).toNatClampNeg) (fun _ => (0 : Int32))) := by rw [e61]; exact up_s
      refine lv_dup (pc := 32) hx hb dX0_number_32 rfl ?_
      refine lv_iconst (pc := 33) (v := (0 : Int32)) hx hb dX0_number_33 (by decide) ?_
      refine lv_iload_n (pc := 34) hx hb dX0_number_34 rfl (lv_at hl 4 rfl) ?_
      obtain ⟨hi, h⟩ := h
      refine c_iast (pc := 35) X hw hN62 hi dX0_number_35 (fun H locs hw => ?_)
      obtain ⟨N63, e64⟩ : ∃ z, z = va_up N60 nq58 (some (eN 0 ((5 : Int32).toNatClampNeg) (upd (fun _ => (0 : Int32)) (0 : Int32).toNatClampNeg x3))) := ⟨_, rfl⟩
      have hw : cH G A s [] N63 H locs := by rw [e64]; exact hw
      have h := h N63 e64
      have hN65 : N63 nq58 = some (eN 0 ((5 : Int32).toNatClampNeg) (upd (fun _ => (0 : Int32)) (0 : Int32).toNatClampNeg x3)) := by rw [e64]; exact up_s
      refine lv_dup (pc := 36) hx hb dX0_number_36 rfl ?_
      refine lv_iconst (pc := 37) (v := (1 : Int32)) hx hb dX0_number_37 (by decide) ?_
      refine lv_iload (pc := 38) hx hb dX0_number_38 (lv_at hl 5 rfl) ?_
      obtain ⟨hi, h⟩ := h
      refine c_iast (pc := 40) X hw hN65 hi dX0_number_40 (fun H locs hw => ?_)
      obtain ⟨N66, e67⟩ : ∃ z, z = va_up N63 nq58 (some (eN 0 ((5 : Int32).toNatClampNeg) (upd (upd (fun _ => (0 : Int32)) (0 : Int32).toNatClampNeg x3) (1 : Int32).toNatClampNeg x4))) := ⟨_, rfl⟩
      have hw : cH G A s [] N66 H locs := by rw [e67]; exact hw
      have h := h N66 e67
      have hN68 : N66 nq58 = some (eN 0 ((5 : Int32).toNatClampNeg) (upd (upd (fun _ => (0 : Int32)) (0 : Int32).toNatClampNeg x3) (1 : Int32).toNatClampNeg x4)) := by rw [e67]; exact up_s
      refine lv_dup (pc := 41) hx hb dX0_number_41 rfl ?_
      refine lv_iconst (pc := 42) (v := (2 : Int32)) hx hb dX0_number_42 (by decide) ?_
      refine lv_iload (pc := 43) hx hb dX0_number_43 (lv_at hl 6 rfl) ?_
      obtain ⟨hi, h⟩ := h
      refine c_iast (pc := 45) X hw hN68 hi dX0_number_45 (fun H locs hw => ?_)
      obtain ⟨N69, e70⟩ : ∃ z, z = va_up N66 nq58 (some (eN 0 ((5 : Int32).toNatClampNeg) (upd (upd (upd (fun _ => (0 : Int32)) (0 : Int32).toNatClampNeg x3) (1 : Int32).toNatClampNeg x4) (2 : Int32).toNatClampNeg x5))) := ⟨_, rfl⟩
      have hw : cH G A s [] N69 H locs := by rw [e70]; exact hw
      have h := h N69 e70
      have hN71 : N69 nq58 = some (eN 0 ((5 : Int32).toNatClampNeg) (upd (upd (upd (fun _ => (0 : Int32)) (0 : Int32).toNatClampNeg x3) (1 : Int32).toNatClampNeg x4) (2 : Int32).toNatClampNeg x5)) := by rw [e70]; exact up_s
      refine lv_dup (pc := 46) hx hb dX0_number_46 rfl ?_
      refine lv_iconst (pc := 47) (v := (3 : Int32)) hx hb dX0_number_47 (by decide) ?_
      refine lv_iload (pc := 48) hx hb dX0_number_48 (lv_at hl 7 rfl) ?_
      obtain ⟨hi, h⟩ := h
      refine c_iast (pc := 50) X hw hN71 hi dX0_number_50 (fun H locs hw => ?_)
      obtain ⟨N72, e73⟩ : ∃ z, z = va_up N69 nq58 (some (eN 0 ((5 : Int32).toNatClampNeg) (upd (upd (upd (upd (fun _ => (0 : Int32)) (0 : Int32).toNatClampNeg x3) (1 : Int32).toNatClampNeg x4) (2 : Int32).toNatClampNeg x5) (3 : Int32).toNatClampNeg x6))) := ⟨_, rfl⟩
      have hw : cH G A s [] N72 H locs := by rw [e73]; exact hw
      have h := h N72 e73
      have hN74 : N72 nq58 = some (eN 0 ((5 : Int32).toNatClampNeg) (upd (upd (upd (upd (fun _ => (0 : Int32)) (0 : Int32).toNatClampNeg x3) (1 : Int32).toNatClampNeg x4) (2 : Int32).toNatClampNeg x5) (3 : Int32).toNatClampNeg x6)) := by rw [e73]; exact up_s
      refine lv_dup (pc := 51) hx hb dX0_number_51 rfl ?_
      refine lv_iconst (pc := 52) (v := (4 : Int32)) hx hb dX0_number_52 (by decide) ?_
      refine lv_iload (pc := 53) hx hb dX0_number_53 (lv_at hl 8 rfl) ?_
      obtain ⟨hi, h⟩ := h
      refine c_iast (pc := 55) X hw hN74 hi dX0_number_55 (fun H locs hw => ?_)
      obtain ⟨N75, e76⟩ : ∃ z, z = va_up N72 nq58 (some (eN 0 ((5 : Int32).toNatClampNeg) (upd (upd (upd (upd (upd (fun _ => (0 : Int32)) (0 : Int32).toNatClampNeg x3) (1 : Int32).toNatClampNeg x4) (2 : Int32).toNatClampNeg x5) (3 : Int32).toNatClampNeg x6) (4 : Int32).toNatClampNeg x7))) := ⟨_, rfl⟩
      have hw : cH G A s [] N75 H locs := by rw [e76]; exact hw
      have h := h N75 e76
      have hN77 : N75 nq58 = some (eN 0 ((5 : Int32).toNatClampNeg) (upd (upd (upd (upd (upd (fun _ => (0 : Int32)) (0 : Int32).toNatClampNeg x3) (1 : Int32).toNatClampNeg x4) (2 : Int32).toNatClampNeg x5) (3 : Int32).toNatClampNeg x6) (4 : Int32).toNatClampNeg x7)) := by rw [e76]; exact up_s
      refine lv_astore (pc := 56) (i := 9) (lv' := [(9, .ref nq58), (8, va_rf r1), (0, .ref x0), (1, .int x1), (2, .int x2), (3, .int x3), (4, .int x4), (5, .int x5), (6, .int x6), (7, .int x7)]) hx hb dX0_number_56 hl (by decide) (by simp [rf_c]) (fun ls hl => ?_)
      refine lv_iload_n (pc := 58) hx hb dX0_number_58 rfl (lv_at hl 4 rfl) ?_
      refine lv_i2l (pc := 59) hx hb dX0_number_59 rfl ?_
      refine lv_lstore (pc := 60) (lv' := [(10, .long x2.toInt64), (9, .ref nq58), (8, va_rf r1), (0, .ref x0), (1, .int x1), (2, .int x2), (3, .int x3), (4, .int x4), (5, .int x5), (6, .int x6), (7, .int x7)]) hx hb dX0_number_60 hl (by decide) rfl (fun ls hl => ?_)
      refine lv_lconst (pc := 62) (v := (0 : Int64)) hx hb dX0_number_62 (by decide) ?_
      refine lv_lstore (pc := 63) (lv' := [(12, .long (0 : Int64)), (10, .long x2.toInt64), (9, .ref nq58), (8, va_rf r1), (0, .ref x0), (1, .int x1), (2, .int x2), (3, .int x3), (4, .int x4), (5, .int x5), (6, .int x6), (7, .int x7)]) hx hb dX0_number_63 hl (by decide) rfl (fun ls hl => ?_)
      refine lv_iconst (pc := 65) (v := (0 : Int32)) hx hb dX0_number_65 (by decide) ?_
      refine lv_istore (pc := 66) (lv' := [(14, .int (0 : Int32)), (12, .long (0 : Int64)), (10, .long x2.toInt64), (9, .ref nq58), (8, va_rf r1), (0, .ref x0), (1, .int x1), (2, .int x2), (3, .int x3), (4, .int x4), (5, .int x5), (6, .int x6), (7, .int x7)]) hx hb dX0_number_66 hl (by decide) rfl (fun ls hl => ?_)
      obtain ⟨k, h⟩ := h
      exact kX0_number_68 X hr hlk hL hT  k _ _ _ _ _ _ _ _ _ _ _ _ _ _ h ⟨hw, by omega⟩ (lv_sub hl [5, 4, 3, 2, 1, 0] rfl)
    · have h := h.1 c31
      refine lv_ldc2 (pc := 19) hx hb hown (hts _ q1556) dX0_number_19 ?_
      refine W.widen (k := MC) (n := MS) (by omega) (by omega) ?_
      refine cx_ret ?_
      exact W.lret (pc := 22) hx hb hr (fun t ht hW => c_ret (val := vL) (lw := jW) (u := N2) hw h ht) hw.2.2.2 dX0_number_22 hlk
theorem tX0_number {l : Launch} (hL : l.stackTraces = false) {G : gG} (hO : gOk G) {post : Int64 → NM → Prop} {MC MS : Nat} {N : NM} {x0 : Nat} {x1 : Int32} {x2 : Int32} {x3 : Int32} {x4 : Int32} {x5 : Int32} {x6 : Int32} {x7 : Int32} {sz : Nat} (h : wX0_number (gC G) post MC MS N x0 x1 x2 x3 x4 x5 x6 x7) : Met l yX0_number (ws_ yX0_number cX0_number 16 (some .long)) ⟨10, MC, MS, 10322⟩ (va_Pc [.ref x0, .int x1, .int x2, .int x3, .int x4, .int x5, .int x6, .int x7] (cPre G [] N sz)) (gQ vL post (fun u H => cBw G (cA [] N sz) (jW u).1 (jW u).2 H) (cA [] N sz)) MC MS (cA [] N sz) := cx_toMet (txX0_number hL hO h)

def wX0_missed_65 (K : Nat → Nat → Nat) (K30 : Nat → Int32 → Int32 → Option Nat → Int32 → Int32 → Nat → Nat → NM → Prop) (post : Int32 → NM → Prop) (x0 : Nat) (x3 : Int32) (x4 : Int32) (x5 : Option Nat) (x6 : Int32) (x7 : Int32) (mc ms : Nat) (N : NM) : Prop :=
  K30 x0 x3 x4 x5 x6 (x7 + (1 : Int32)) mc ms N
def wX0_missed_30 (K : Nat → Nat → Nat) (post : Int32 → NM → Prop) : Nat → Nat → Int32 → Int32 → Option Nat → Int32 → Int32 → Nat → Nat → NM → Prop
  | 0, _, _, _, _, _, _, _, _, _ => False
  | n + 1, x0, x3, x4, x5, x6, x7, mc, ms, N => ((x3 < x7) → (((x4 = (-1 : Int32)) → (post x6 N)) ∧ (¬ (x4 = (-1 : Int32)) → (post (-100000 : Int32) N)))) ∧ (¬ (x3 < x7) → (∃ f37 f38 f39 f40 f41 f42 f43 f44 f45 f46 f47 f48 f49 f50 f51 f52 f53 f54 f55, N x0 = some (eO 1 [va_rf f37, va_rf f38, va_rf f39, va_rf f40, va_rf f41, va_rf f42, va_rf f43, va_rf f44, va_rf f45, .int f46, .int f47, va_rf f48, va_rf f49, .int f50, va_rf f51, va_rf f52, va_rf f53, va_rf f54, va_rf f55]) ∧ (wX0_waysOf K (fun r34 N35 => ((r34 ≤ (0 : Int64)) → (((x6 = x4) → (post x7 N35)) ∧ (¬ (x6 = x4) → (wX0_missed_65 K (fun x0 x3 x4 x5 x6 x7 mc ms N => wX0_missed_30 K post n x0 x3 x4 x5 x6 x7 mc ms N) post x0 x3 x4 x5 (x6 + (1 : Int32)) x7 mc ms N35)))) ∧ (¬ (r34 ≤ (0 : Int64)) → (wX0_missed_65 K (fun x0 x3 x4 x5 x6 x7 mc ms N => wX0_missed_30 K post n x0 x3 x4 x5 x6 x7 mc ms N) post x0 x3 x4 x5 x6 x7 mc ms N35))) N x0 x5 x7)))
def wX0_missed (K : Nat → Nat → Nat) (post : Int32 → NM → Prop) (MC MS : Nat) (N : NM) (x0 : Nat) (x1 : Int32) (x2 : Int32) (x3 : Int32) (x4 : Int32) : Prop :=
  ∃ f8 f9 f10 f11 f12 f13 f14 f15 f16 f17 f18 f19 f20 f21 f22 f23 f24 f25 f26, N x0 = some (eO 1 [va_rf f8, va_rf f9, va_rf f10, va_rf f11, va_rf f12, va_rf f13, va_rf f14, va_rf f15, va_rf f16, .int f17, .int f18, va_rf f19, va_rf f20, .int f21, va_rf f22, va_rf f23, va_rf f24, va_rf f25, va_rf f26]) ∧ (∃ mc3 ms4, mc3 ≤ MC ∧ ms4 ≤ MS ∧ wX0_at K (fun r1 N2 => (r1 = none → (post (-100000 : Int32) N2)) ∧ (∀ a28, r1 = some a28 → (wX0_isSpan (fun r30 => ((r30 = (0 : Int32)) → (post (-100000 : Int32) N2)) ∧ (¬ (r30 = (0 : Int32)) → ((∃ k, wX0_missed_30 K post k x0 x3 x4 r1 (0 : Int32) x2 (MC - mc3) (MS - ms4) N2)))) x2 x3))) mc3 ms4 N x0 x1)
theorem kX0_missed_65 {p : Program} {l : Launch} {e : Env} {s : State} {m : MethodId} {args : Array Value} {below : List Frame} {meth : Method} {c : Code} {G : gG} {A : Nat → Prop} {MC MS : Nat} {K30 : Nat → Int32 → Int32 → Option Nat → Int32 → Int32 → Nat → Nat → NM → Prop} {post : Int32 → NM → Prop} (X : cX G A RX0 p s m args c cX0_missed 8) (hr : meth.sig.returnType = (some .int)) (hlk : meth.locks = false) (hL : l.stackTraces = false) (hT : c.exceptionTable.toList = tableOf []) (hK30 : ∀ (x0 : Nat) (x3 : Int32) (x4 : Int32) (x5 : Option Nat) (x6 : Int32) (x7 : Int32) (mc ms : Nat) (N : NM) (H : Heap) (locs : List Loc) (ls : Array Slot) (cells slots : Nat), K30 x0 x3 x4 x5 x6 x7 mc ms N → (cH G A s [] N H locs ∧ cells + mc ≤ MC ∧ slots + ms ≤ MS) → lv_has ls 8 [(0, .ref x0), (3, .int x3), (4, .int x4), (5, va_rf x5), (6, .int x6), (7, .int x7)] → W p l e ⟨10, MC, MS, 10322⟩ s m args below meth c H locs cells slots (cx_MQ below (gQ vI post (fun u H => cBw G A (jW u).1 (jW u).2 H) A) (cXC G A [] (fun _ _ _ => False)) args s MC MS A) (F0 m 30 ls [])) : ∀ (x0 : Nat) (x3 : Int32) (x4 : Int32) (x5 : Option Nat) (x6 : Int32) (x7 : Int32) (mc ms : Nat) (N : NM) (H : Heap) (locs : List Loc) (ls : Array Slot) (cells slots : Nat), wX0_missed_65 (gC G) K30 post x0 x3 x4 x5 x6 x7 mc ms N → (cH G A s [] N H locs ∧ cells + mc ≤ MC ∧ slots + ms ≤ MS) → lv_has ls 8 [(0, .ref x0), (3, .int x3), (4, .int x4), (5, va_rf x5), (6, .int x6), (7, .int x7)] → W p l e ⟨10, MC, MS, 10322⟩ s m args below meth c H locs cells slots (cx_MQ below (gQ vI post (fun u H => cBw G A (jW u).1 (jW u).2 H) A) (cXC G A [] (fun _ _ _ => False)) args s MC MS A) (F0 m 65 ls []) := by
  have hx := X.1.1
  have hb := X.1.2.1
  have hml := X.1.2.2.1
  have hown := X.1.2.2.2.1
  have hts := X.1.2.2.2.2
  intro x0 x3 x4 x5 x6 x7 mc ms N H locs ls cells slots h hw0 hl
  obtain ⟨hw, hbud⟩ := hw0
  unfold wX0_missed_65 at h
  refine lv_iinc (pc := 65) (v := x7 + (1 : Int32)) (lv' := [(7, .int (x7 + (1 : Int32))), (0, .ref x0), (3, .int x3), (4, .int x4), (5, va_rf x5), (6, .int x6)]) hx hb dX0_missed_65 hl (k := 5) rfl rfl (by decide) rfl (fun ls hl => ?_)
  refine lv_goto (pc := 68) (tgt := 30) hx hb dX0_missed_68 rfl ?_
  exact hK30 _ _ _ _ _ _ _ _ _ _ _ _ _ _ h ⟨hw, by omega⟩ (lv_sub hl [1, 2, 3, 4, 5, 0] rfl)
theorem kX0_missed_30 {p : Program} {l : Launch} {e : Env} {s : State} {m : MethodId} {args : Array Value} {below : List Frame} {meth : Method} {c : Code} {G : gG} {A : Nat → Prop} {MC MS : Nat} {post : Int32 → NM → Prop} (X : cX G A RX0 p s m args c cX0_missed 8) (hr : meth.sig.returnType = (some .int)) (hlk : meth.locks = false) (hL : l.stackTraces = false) (hT : c.exceptionTable.toList = tableOf []) : ∀ (n : Nat) (x0 : Nat) (x3 : Int32) (x4 : Int32) (x5 : Option Nat) (x6 : Int32) (x7 : Int32) (mc ms : Nat) (N : NM) (H : Heap) (locs : List Loc) (ls : Array Slot) (cells slots : Nat), wX0_missed_30 (gC G) post n x0 x3 x4 x5 x6 x7 mc ms N → (cH G A s [] N H locs ∧ cells + mc ≤ MC ∧ slots + ms ≤ MS) → lv_has ls 8 [(0, .ref x0), (3, .int x3), (4, .int x4), (5, va_rf x5), (6, .int x6), (7, .int x7)] → W p l e ⟨10, MC, MS, 10322⟩ s m args below meth c H locs cells slots (cx_MQ below (gQ vI post (fun u H => cBw G A (jW u).1 (jW u).2 H) A) (cXC G A [] (fun _ _ _ => False)) args s MC MS A) (F0 m 30 ls []) := by
  have hx := X.1.1
  have hb := X.1.2.1
  have hml := X.1.2.2.1
  have hown := X.1.2.2.2.1
  have hts := X.1.2.2.2.2
  intro n
  induction n with
  | zero =>
    intro x0 x3 x4 x5 x6 x7 mc ms N H locs ls cells slots h
    exact False.elim h
  | succ n ih =>
    intro x0 x3 x4 x5 x6 x7 mc ms N H locs ls cells slots h hw0 hl
    obtain ⟨hw, hbud⟩ := hw0
    unfold wX0_missed_30 at h
    refine lv_iload (pc := 30) hx hb dX0_missed_30 (lv_at hl 5 rfl) ?_
    refine lv_iload_n (pc := 32) hx hb dX0_missed_32 rfl (lv_at hl 1 rfl) ?_
    refine lv_icmp_gt (pc := 33) (tgt := 71) hx hb dX0_missed_33 rfl (fun c32 => ?_) (fun c32 => ?_)
    · have h := h.1 c32
      refine lv_iload (pc := 71) hx hb dX0_missed_71 (lv_at hl 2 rfl) ?_
      refine lv_iconst (pc := 73) (v := (-1 : Int32)) hx hb dX0_missed_73 (by decide) ?_
      refine lv_icmp_ne (pc := 74) (tgt := 82) hx hb dX0_missed_74 rfl (fun c33 => ?_) (fun c33 => ?_)
      · have h := h.2 c33
        refine lv_ldcw (pc := 82) hx hb hown (hts _ q1540) dX0_missed_82 ?_
        refine W.widen (k := MC) (n := MS) (by omega) (by omega) ?_
        refine cx_ret ?_
        exact W.iret (pc := 85) hx hb hr (fun t ht hW => c_ret (val := vI) (lw := jW) (u := N) hw h ht) hw.2.2.2 dX0_missed_85 hlk
      · have h := h.1 c33
        refine lv_iload (pc := 77) hx hb dX0_missed_77 (lv_at hl 4 rfl) ?_
        refine lv_goto (pc := 79) (tgt := 85) hx hb dX0_missed_79 rfl ?_
        refine W.widen (k := MC) (n := MS) (by omega) (by omega) ?_
        refine cx_ret ?_
        exact W.iret (pc := 85) hx hb hr (fun t ht hW => c_ret (val := vI) (lw := jW) (u := N) hw h ht) hw.2.2.2 dX0_missed_85 hlk
    · have h := h.2 c32
      refine lv_aload_n (pc := 36) hx hb dX0_missed_36 rfl (lv_at hl 0 rfl) ?_
      refine lq_aload (pc := 37) hx hb dX0_missed_37 (lv_at hl 3 rfl) ?_
      refine lv_iload (pc := 39) hx hb dX0_missed_39 (lv_at hl 5 rfl) ?_
      obtain ⟨f37, f38, f39, f40, f41, f42, f43, f44, f45, f46, f47, f48, f49, f50, f51, f52, f53, f54, f55, hN36, h⟩ := h
      refine c_callJ (pc := 41) (val := vL) X hw (va_runV (C := RX0) (As := [va_rf x5, .int x7]) (rest := []) X.1 (tX0_waysOf X.2.2.1 (sz := H.size) h) (cwV 2 hts (lw_V q1557 q1374 qs28 q102 q1375) rfl rfl rfl ⟨rfl, by decide, by decide, (by decide +kernel : (parseMethodDescriptor yX0_waysOf.desc).map (fun d => d.parameters.length) = some 2)⟩ ⟨Nat.le_of_ble_eq_true rfl, Nat.le_of_ble_eq_true rfl⟩) ⟨cPre_blind, c_recv X hw hN36 rfl, fun U hU hW => ⟨rfl, X.preJ hw hU hW⟩⟩ rfl rfl hl.1 rfl (lv_room (Nat.le_of_ble_eq_true rfl)) dX0_missed_41 ⟨show cells + 0 ≤ MC by omega, show slots + 0 ≤ MS by omega⟩) (fun r34 N35 H locs h hw => ?_)
      refine W.eq (g2 := F0 m 44 ls (.long r34 :: [])) rfl ?_
      refine lv_lconst (pc := 44) (v := (0 : Int64)) hx hb dX0_missed_44 (by decide) ?_
      refine W.lcmp (pc := 45) hx hb dX0_missed_45 ?_
      refine lv_if_le (pc := 46) (tgt := 52) hx hb dX0_missed_46 rfl (fun c56 => ?_) (fun c56 => ?_)
      · have h := h.1 ((lg_cmp_le _ _).mp c56)
        refine lv_iload (pc := 52) hx hb dX0_missed_52 (lv_at hl 4 rfl) ?_
        refine lv_iload (pc := 54) hx hb dX0_missed_54 (lv_at hl 2 rfl) ?_
        refine lv_icmp_ne (pc := 56) (tgt := 62) hx hb dX0_missed_56 rfl (fun c57 => ?_) (fun c57 => ?_)
        · have h := h.2 c57
          refine lv_iinc (pc := 62) (v := x6 + (1 : Int32)) (lv' := [(6, .int (x6 + (1 : Int32))), (0, .ref x0), (3, .int x3), (4, .int x4), (5, va_rf x5), (7, .int x7)]) hx hb dX0_missed_62 hl (k := 4) rfl rfl (by decide) (by simp [rf_c]) (fun ls hl => ?_)
          exact kX0_missed_65 X hr hlk hL hT ih _ _ _ _ _ _ _ _ _ _ _ _ _ _ h ⟨hw, by omega⟩ (lv_sub hl [1, 2, 3, 4, 0, 5] rfl)
        · have h := h.1 c57
          refine lv_iload (pc := 59) hx hb dX0_missed_59 (lv_at hl 5 rfl) ?_
          refine W.widen (k := MC) (n := MS) (by omega) (by omega) ?_
          refine cx_ret ?_
          exact W.iret (pc := 61) hx hb hr (fun t ht hW => c_ret (val := vI) (lw := jW) (u := N35) hw h ht) hw.2.2.2 dX0_missed_61 hlk
      · have h := h.2 (fun z => c56 ((lg_cmp_le _ _).mpr z))
        refine lv_goto (pc := 49) (tgt := 65) hx hb dX0_missed_49 rfl ?_
        exact kX0_missed_65 X hr hlk hL hT ih _ _ _ _ _ _ _ _ _ _ _ _ _ _ h ⟨hw, by omega⟩ (lv_sub hl [0, 1, 2, 3, 4, 5] rfl)
theorem txX0_missed {l : Launch} (hL : l.stackTraces = false) {G : gG} (hO : gOk G) {post : Int32 → NM → Prop} {MC MS : Nat} {N : NM} {x0 : Nat} {x1 : Int32} {x2 : Int32} {x3 : Int32} {x4 : Int32} {sz : Nat} (h : wX0_missed (gC G) post MC MS N x0 x1 x2 x3 x4) : cx_Met l yX0_missed (ws_ yX0_missed cX0_missed 8 (some .int)) ⟨10, MC, MS, 10322⟩ (va_Pc [.ref x0, .int x1, .int x2, .int x3, .int x4] (cPre G [] N sz)) (gQ vI post (fun u H => cBw G (cA [] N sz) (jW u).1 (jW u).2 H) (cA [] N sz)) (cXC G (cA [] N sz) [] (fun _ _ _ => False)) MC MS (cA [] N sz) := by
  refine c_ofX (B := fun A u H => cBw G A (jW u).1 (jW u).2 H) (by decide) hO (Nat.le_of_ble_eq_true rfl) (fun p e s m below meth c ls A X hr hlk hT hw hl => ?_)
  have hl : lv_has ls 8 [(0, .ref x0), (1, .int x1), (2, .int x2), (3, .int x3), (4, .int x4)] := hl
  have hx := X.1.1
  have hb := X.1.2.1
  have hml := X.1.2.2.1
  have hown := X.1.2.2.2.1
  have hts := X.1.2.2.2.2
  obtain ⟨H, eH⟩ : ∃ z, z = s.heap := ⟨_, rfl⟩
  rw [← eH] at hw ⊢
  obtain ⟨locs, eLo⟩ : ∃ z : List Loc, z = [] := ⟨_, rfl⟩
  rw [← eLo] at hw ⊢
  have hbud : 0 + MC ≤ MC ∧ 0 + MS ≤ MS := by omega
  unfold wX0_missed at h
  refine lv_aload_n (pc := 0) hx hb dX0_missed_0 rfl (lv_at hl 0 rfl) ?_
  refine lv_iload_n (pc := 1) hx hb dX0_missed_1 rfl (lv_at hl 1 rfl) ?_
  obtain ⟨f8, f9, f10, f11, f12, f13, f14, f15, f16, f17, f18, f19, f20, f21, f22, f23, f24, f25, f26, hN7, h⟩ := h
  obtain ⟨mc3, ms4, hm5, hm6, h⟩ := h
  refine c_callJ (pc := 2) (val := vQ) X hw (vx_runVW (C := RX0) (As := [.int x1]) (rest := []) X.1 (tX0_at hL X.2.2.1 (sz := H.size) h) (vx_cwVW 1 hts (lw_VW q898 q900 qs20 q102 q901) rfl rfl rfl ⟨rfl, by decide, by decide, (by decide +kernel : (parseMethodDescriptor yX0_at.desc).map (fun d => d.parameters.length) = some 1)⟩ ⟨Nat.le_of_ble_eq_true rfl, Nat.le_of_ble_eq_true rfl⟩) ⟨cPre_blind, c_recv X hw hN7 rfl, fun U hU hW => ⟨rfl, X.preJ hw hU hW⟩⟩ rfl rfl hl.1 rfl (lv_room (Nat.le_of_ble_eq_true rfl)) dX0_missed_2 ⟨show 0 + mc3 ≤ MC by omega, show 0 + ms4 ≤ MS by omega⟩) (fun r1 N2 H locs h hw => ?_)
  refine W.eq (g2 := F0 m 5 ls (va_rf r1 :: [])) rfl ?_
  refine lq_astore (pc := 5) (lv' := [(5, va_rf r1), (0, .ref x0), (1, .int x1), (2, .int x2), (3, .int x3), (4, .int x4)]) hx hb dX0_missed_5 hl (by decide) rfl (fun ls hl => ?_)
  refine lq_aload (pc := 7) hx hb dX0_missed_7 (lv_at hl 0 rfl) ?_
  refine lq_ifnull (pc := 9) (tgt := 20) hx hb dX0_missed_9 rfl (fun hz27 => ?_) (fun a28 hr29 => ?_)
  · have h := h.1 hz27
    refine lv_ldcw (pc := 20) hx hb hown (hts _ q1540) dX0_missed_20 ?_
    refine W.widen (k := MC) (n := MS) (by omega) (by omega) ?_
    refine cx_ret ?_
    exact W.iret (pc := 23) hx hb hr (fun t ht hW => c_ret (val := vI) (lw := jW) (u := N2) hw h ht) hw.2.2.2 dX0_missed_23 hlk
  · have h := h.2 a28 hr29
    refine lv_iload_n (pc := 12) hx hb dX0_missed_12 rfl (lv_at hl 3 rfl) ?_
    refine lv_iload_n (pc := 13) hx hb dX0_missed_13 rfl (lv_at hl 4 rfl) ?_
    refine s_call (pc := 14) (val := vI) (As := [.int x2, .int x3]) (rest := []) X.1 (tX0_isSpan h) (lw_S q1592 q1593 q102 q1594) ⟨by decide, by decide, (by decide +kernel : (parseMethodDescriptor yX0_isSpan.desc).map (fun d => d.parameters.length) = some 2)⟩ ⟨Nat.le_of_ble_eq_true rfl, Nat.le_of_ble_eq_true rfl⟩ hl.1 (Nat.le_of_ble_eq_true rfl) ⟨show 0 + mc3 ≤ MC by omega, show 0 + ms4 ≤ MS by omega⟩ dX0_missed_14 rfl (fun r30 h => ?_)
    refine W.eq (g2 := F0 m 17 ls (.int r30 :: [])) rfl ?_
    refine lv_if_ne (pc := 17) (tgt := 24) hx hb dX0_missed_17 rfl (fun c31 => ?_) (fun c31 => ?_)
    · have h := h.2 c31
      refine lv_iconst (pc := 24) (v := (0 : Int32)) hx hb dX0_missed_24 (by decide) ?_
      refine lv_istore (pc := 25) (i := 6) (lv' := [(6, .int (0 : Int32)), (5, va_rf r1), (0, .ref x0), (1, .int x1), (2, .int x2), (3, .int x3), (4, .int x4)]) hx hb dX0_missed_25 hl (by decide) (by simp [rf_c]) (fun ls hl => ?_)
      refine lv_iload_n (pc := 27) hx hb dX0_missed_27 rfl (lv_at hl 4 rfl) ?_
      refine lv_istore (pc := 28) (lv' := [(7, .int x2), (6, .int (0 : Int32)), (5, va_rf r1), (0, .ref x0), (1, .int x1), (2, .int x2), (3, .int x3), (4, .int x4)]) hx hb dX0_missed_28 hl (by decide) rfl (fun ls hl => ?_)
      obtain ⟨k, h⟩ := h
      exact kX0_missed_30 X hr hlk hL hT  k _ _ _ _ _ _ _ _ _ _ _ _ _ _ h ⟨hw, by omega⟩ (lv_sub hl [3, 6, 7, 2, 1, 0] rfl)
    · have h := h.1 c31
      refine lv_ldcw (pc := 20) hx hb hown (hts _ q1540) dX0_missed_20 ?_
      refine W.widen (k := MC) (n := MS) (by omega) (by omega) ?_
      refine cx_ret ?_
      exact W.iret (pc := 23) hx hb hr (fun t ht hW => c_ret (val := vI) (lw := jW) (u := N2) hw h ht) hw.2.2.2 dX0_missed_23 hlk
theorem tX0_missed {l : Launch} (hL : l.stackTraces = false) {G : gG} (hO : gOk G) {post : Int32 → NM → Prop} {MC MS : Nat} {N : NM} {x0 : Nat} {x1 : Int32} {x2 : Int32} {x3 : Int32} {x4 : Int32} {sz : Nat} (h : wX0_missed (gC G) post MC MS N x0 x1 x2 x3 x4) : Met l yX0_missed (ws_ yX0_missed cX0_missed 8 (some .int)) ⟨10, MC, MS, 10322⟩ (va_Pc [.ref x0, .int x1, .int x2, .int x3, .int x4] (cPre G [] N sz)) (gQ vI post (fun u H => cBw G (cA [] N sz) (jW u).1 (jW u).2 H) (cA [] N sz)) MC MS (cA [] N sz) := cx_toMet (txX0_missed hL hO h)

def wX0_explained_87 (K : Nat → Nat → Nat) (K44 : Nat → Int32 → Int32 → Option Nat → Int32 → Int32 → Nat → Nat → NM → Prop) (post : Int32 → NM → Prop) (x0 : Nat) (x3 : Int32) (x4 : Int32) (x5 : Option Nat) (x7 : Int32) (v0 : Int32) (v1 : Int32) (mc ms : Nat) (N : NM) : Prop :=
  K44 x0 x3 x4 x5 (v1 + v0) (x7 + (1 : Int32)) mc ms N
def wX0_explained_86 (K : Nat → Nat → Nat) (K44 : Nat → Int32 → Int32 → Option Nat → Int32 → Int32 → Nat → Nat → NM → Prop) (post : Int32 → NM → Prop) (x0 : Nat) (x3 : Int32) (x4 : Int32) (x5 : Option Nat) (x7 : Int32) (v0 : Int32) (mc ms : Nat) (N : NM) : Prop :=
  wX0_explained_87 K K44 post x0 x3 x4 x5 x7 (0 : Int32) v0 mc ms N
def wX0_explained_44 (K : Nat → Nat → Nat) (post : Int32 → NM → Prop) : Nat → Nat → Int32 → Int32 → Option Nat → Int32 → Int32 → Nat → Nat → NM → Prop
  | 0, _, _, _, _, _, _, _, _, _ => False
  | n + 1, x0, x3, x4, x5, x6, x7, mc, ms, N => ((x3 < x7) → (post x6 N)) ∧ (¬ (x3 < x7) → (∃ f60 f61 f62 f63 f64 f65 f66 f67 f68 f69 f70 f71 f72 f73 f74 f75 f76 f77 f78, N x0 = some (eO 1 [va_rf f60, va_rf f61, va_rf f62, va_rf f63, va_rf f64, va_rf f65, va_rf f66, va_rf f67, va_rf f68, .int f69, .int f70, va_rf f71, va_rf f72, .int f73, va_rf f74, va_rf f75, va_rf f76, va_rf f77, va_rf f78]) ∧ (wX0_waysOf K (fun r57 N58 => ((r57 = (0 : Int64)) → (∃ f81 f82 f83 f84 f85 f86 f87 f88 f89 f90 f91 f92 f93 f94 f95 f96 f97 f98 f99, N58 x0 = some (eO 1 [va_rf f81, va_rf f82, va_rf f83, va_rf f84, va_rf f85, va_rf f86, va_rf f87, va_rf f88, va_rf f89, .int f90, .int f91, va_rf f92, va_rf f93, .int f94, va_rf f95, va_rf f96, va_rf f97, va_rf f98, va_rf f99]) ∧ (wJ14_floorMod (fun r100 => ∃ a101, f95 = some a101 ∧ (∃ n104 f105, N58 a101 = some (eL 1 n104 f105) ∧ (vp_in r100 n104 ∧ ((((f105 r100.toNatClampNeg) = (0 : Int64)) → (wX0_explained_87 K (fun x0 x3 x4 x5 x6 x7 mc ms N => wX0_explained_44 K post n x0 x3 x4 x5 x6 x7 mc ms N) post x0 x3 x4 x5 x7 (1 : Int32) x6 mc ms N58)) ∧ (¬ ((f105 r100.toNatClampNeg) = (0 : Int64)) → (wX0_explained_86 K (fun x0 x3 x4 x5 x6 x7 mc ms N => wX0_explained_44 K post n x0 x3 x4 x5 x6 x7 mc ms N) post x0 x3 x4 x5 x7 x6 mc ms N58)))))) x7 x4))) ∧ (¬ (r57 = (0 : Int64)) → (wX0_explained_86 K (fun x0 x3 x4 x5 x6 x7 mc ms N => wX0_explained_44 K post n x0 x3 x4 x5 x6 x7 mc ms N) post x0 x3 x4 x5 x7 x6 mc ms N58))) N x0 x5 x7)))
def wX0_explained (K : Nat → Nat → Nat) (post : Int32 → NM → Prop) (MC MS : Nat) (N : NM) (x0 : Nat) (x1 : Int32) (x2 : Int32) (x3 : Int32) (x4 : Int32) : Prop :=
  ∃ f8 f9 f10 f11 f12 f13 f14 f15 f16 f17 f18 f19 f20 f21 f22 f23 f24 f25 f26, N x0 = some (eO 1 [va_rf f8, va_rf f9, va_rf f10, va_rf f11, va_rf f12, va_rf f13, va_rf f14, va_rf f15, va_rf f16, .int f17, .int f18, va_rf f19, va_rf f20, .int f21, va_rf f22, va_rf f23, va_rf f24, va_rf f25, va_rf f26]) ∧ (∃ mc3 ms4, mc3 ≤ MC ∧ ms4 ≤ MS ∧ wX0_at K (fun r1 N2 => (r1 = none → (post (-1 : Int32) N2)) ∧ (∀ a28, r1 = some a28 → (wX0_isSpan (fun r30 => ((r30 = (0 : Int32)) → (post (-1 : Int32) N2)) ∧ (¬ (r30 = (0 : Int32)) → (wX0_isModulus (fun r32 => ((r32 = (0 : Int32)) → (post (-1 : Int32) N2)) ∧ (¬ (r32 = (0 : Int32)) → (∃ f37 f38 f39 f40 f41 f42 f43 f44 f45 f46 f47 f48 f49 f50 f51 f52 f53 f54 f55, N2 x0 = some (eO 1 [va_rf f37, va_rf f38, va_rf f39, va_rf f40, va_rf f41, va_rf f42, va_rf f43, va_rf f44, va_rf f45, .int f46, .int f47, va_rf f48, va_rf f49, .int f50, va_rf f51, va_rf f52, va_rf f53, va_rf f54, va_rf f55]) ∧ (wX0_laysClasses K (fun _ N35 => (∃ k, wX0_explained_44 K post k x0 x3 x4 r1 (0 : Int32) x2 (MC - mc3) (MS - ms4) N35)) N2 x0 r1 x4)))) x4))) x2 x3))) mc3 ms4 N x0 x1)
theorem kX0_explained_87 {p : Program} {l : Launch} {e : Env} {s : State} {m : MethodId} {args : Array Value} {below : List Frame} {meth : Method} {c : Code} {G : gG} {A : Nat → Prop} {MC MS : Nat} {K44 : Nat → Int32 → Int32 → Option Nat → Int32 → Int32 → Nat → Nat → NM → Prop} {post : Int32 → NM → Prop} (X : cX G A RX0 p s m args c cX0_explained 8) (hr : meth.sig.returnType = (some .int)) (hlk : meth.locks = false) (hL : l.stackTraces = false) (hT : c.exceptionTable.toList = tableOf []) (hK44 : ∀ (x0 : Nat) (x3 : Int32) (x4 : Int32) (x5 : Option Nat) (x6 : Int32) (x7 : Int32) (mc ms : Nat) (N : NM) (H : Heap) (locs : List Loc) (ls : Array Slot) (cells slots : Nat), K44 x0 x3 x4 x5 x6 x7 mc ms N → (cH G A s [] N H locs ∧ cells + mc ≤ MC ∧ slots + ms ≤ MS) → lv_has ls 8 [(0, .ref x0), (3, .int x3), (4, .int x4), (5, va_rf x5), (6, .int x6), (7, .int x7)] → W p l e ⟨10, MC, MS, 10322⟩ s m args below meth c H locs cells slots (cx_MQ below (gQ vI post (fun u H => cBw G A (jW u).1 (jW u).2 H) A) (cXC G A [] (fun _ _ _ => False)) args s MC MS A) (F0 m 44 ls [])) : ∀ (x0 : Nat) (x3 : Int32) (x4 : Int32) (x5 : Option Nat) (x7 : Int32) (v0 : Int32) (v1 : Int32) (mc ms : Nat) (N : NM) (H : Heap) (locs : List Loc) (ls : Array Slot) (cells slots : Nat), wX0_explained_87 (gC G) K44 post x0 x3 x4 x5 x7 v0 v1 mc ms N → (cH G A s [] N H locs ∧ cells + mc ≤ MC ∧ slots + ms ≤ MS) → lv_has ls 8 [(0, .ref x0), (3, .int x3), (4, .int x4), (5, va_rf x5), (7, .int x7)] → W p l e ⟨10, MC, MS, 10322⟩ s m args below meth c H locs cells slots (cx_MQ below (gQ vI post (fun u H => cBw G A (jW u).1 (jW u).2 H) A) (cXC G A [] (fun _ _ _ => False)) args s MC MS A) (F0 m 87 ls [.int v0, .int v1]) := by
  have hx := X.1.1
  have hb := X.1.2.1
  have hml := X.1.2.2.1
  have hown := X.1.2.2.2.1
  have hts := X.1.2.2.2.2
  intro x0 x3 x4 x5 x7 v0 v1 mc ms N H locs ls cells slots h hw0 hl
  obtain ⟨hw, hbud⟩ := hw0
  unfold wX0_explained_87 at h
  refine lv_iadd (pc := 87) hx hb dX0_explained_87 ?_
  refine lv_istore (pc := 88) (i := 6) (lv' := [(6, .int (v1 + v0)), (0, .ref x0), (3, .int x3), (4, .int x4), (5, va_rf x5), (7, .int x7)]) hx hb dX0_explained_88 hl (by decide) (by simp [rf_c]) (fun ls hl => ?_)
  refine lv_iinc (pc := 90) (v := x7 + (1 : Int32)) (lv' := [(7, .int (x7 + (1 : Int32))), (6, .int (v1 + v0)), (0, .ref x0), (3, .int x3), (4, .int x4), (5, va_rf x5)]) hx hb dX0_explained_90 hl (k := 5) rfl rfl (by decide) rfl (fun ls hl => ?_)
  refine lv_goto (pc := 93) (tgt := 44) hx hb dX0_explained_93 rfl ?_
  exact hK44 _ _ _ _ _ _ _ _ _ _ _ _ _ _ h ⟨hw, by omega⟩ (lv_sub hl [2, 3, 4, 5, 1, 0] rfl)
theorem kX0_explained_86 {p : Program} {l : Launch} {e : Env} {s : State} {m : MethodId} {args : Array Value} {below : List Frame} {meth : Method} {c : Code} {G : gG} {A : Nat → Prop} {MC MS : Nat} {K44 : Nat → Int32 → Int32 → Option Nat → Int32 → Int32 → Nat → Nat → NM → Prop} {post : Int32 → NM → Prop} (X : cX G A RX0 p s m args c cX0_explained 8) (hr : meth.sig.returnType = (some .int)) (hlk : meth.locks = false) (hL : l.stackTraces = false) (hT : c.exceptionTable.toList = tableOf []) (hK44 : ∀ (x0 : Nat) (x3 : Int32) (x4 : Int32) (x5 : Option Nat) (x6 : Int32) (x7 : Int32) (mc ms : Nat) (N : NM) (H : Heap) (locs : List Loc) (ls : Array Slot) (cells slots : Nat), K44 x0 x3 x4 x5 x6 x7 mc ms N → (cH G A s [] N H locs ∧ cells + mc ≤ MC ∧ slots + ms ≤ MS) → lv_has ls 8 [(0, .ref x0), (3, .int x3), (4, .int x4), (5, va_rf x5), (6, .int x6), (7, .int x7)] → W p l e ⟨10, MC, MS, 10322⟩ s m args below meth c H locs cells slots (cx_MQ below (gQ vI post (fun u H => cBw G A (jW u).1 (jW u).2 H) A) (cXC G A [] (fun _ _ _ => False)) args s MC MS A) (F0 m 44 ls [])) : ∀ (x0 : Nat) (x3 : Int32) (x4 : Int32) (x5 : Option Nat) (x7 : Int32) (v0 : Int32) (mc ms : Nat) (N : NM) (H : Heap) (locs : List Loc) (ls : Array Slot) (cells slots : Nat), wX0_explained_86 (gC G) K44 post x0 x3 x4 x5 x7 v0 mc ms N → (cH G A s [] N H locs ∧ cells + mc ≤ MC ∧ slots + ms ≤ MS) → lv_has ls 8 [(0, .ref x0), (3, .int x3), (4, .int x4), (5, va_rf x5), (7, .int x7)] → W p l e ⟨10, MC, MS, 10322⟩ s m args below meth c H locs cells slots (cx_MQ below (gQ vI post (fun u H => cBw G A (jW u).1 (jW u).2 H) A) (cXC G A [] (fun _ _ _ => False)) args s MC MS A) (F0 m 86 ls [.int v0]) := by
  have hx := X.1.1
  have hb := X.1.2.1
  have hml := X.1.2.2.1
  have hown := X.1.2.2.2.1
  have hts := X.1.2.2.2.2
  intro x0 x3 x4 x5 x7 v0 mc ms N H locs ls cells slots h hw0 hl
  obtain ⟨hw, hbud⟩ := hw0
  unfold wX0_explained_86 at h
  refine lv_iconst (pc := 86) (v := (0 : Int32)) hx hb dX0_explained_86 (by decide) ?_
  exact kX0_explained_87 X hr hlk hL hT hK44 _ _ _ _ _ _ _ _ _ _ _ _ _ _ _ h ⟨hw, by omega⟩ (lv_sub hl [0, 1, 2, 3, 4] rfl)
theorem kX0_explained_44 {p : Program} {l : Launch} {e : Env} {s : State} {m : MethodId} {args : Array Value} {below : List Frame} {meth : Method} {c : Code} {G : gG} {A : Nat → Prop} {MC MS : Nat} {post : Int32 → NM → Prop} (X : cX G A RX0 p s m args c cX0_explained 8) (hr : meth.sig.returnType = (some .int)) (hlk : meth.locks = false) (hL : l.stackTraces = false) (hT : c.exceptionTable.toList = tableOf []) : ∀ (n : Nat) (x0 : Nat) (x3 : Int32) (x4 : Int32) (x5 : Option Nat) (x6 : Int32) (x7 : Int32) (mc ms : Nat) (N : NM) (H : Heap) (locs : List Loc) (ls : Array Slot) (cells slots : Nat), wX0_explained_44 (gC G) post n x0 x3 x4 x5 x6 x7 mc ms N → (cH G A s [] N H locs ∧ cells + mc ≤ MC ∧ slots + ms ≤ MS) → lv_has ls 8 [(0, .ref x0), (3, .int x3), (4, .int x4), (5, va_rf x5), (6, .int x6), (7, .int x7)] → W p l e ⟨10, MC, MS, 10322⟩ s m args below meth c H locs cells slots (cx_MQ below (gQ vI post (fun u H => cBw G A (jW u).1 (jW u).2 H) A) (cXC G A [] (fun _ _ _ => False)) args s MC MS A) (F0 m 44 ls []) := by
  have hx := X.1.1
  have hb := X.1.2.1
  have hml := X.1.2.2.1
  have hown := X.1.2.2.2.1
  have hts := X.1.2.2.2.2
  intro n
  induction n with
  | zero =>
    intro x0 x3 x4 x5 x6 x7 mc ms N H locs ls cells slots h
    exact False.elim h
  | succ n ih =>
    intro x0 x3 x4 x5 x6 x7 mc ms N H locs ls cells slots h hw0 hl
    obtain ⟨hw, hbud⟩ := hw0
    unfold wX0_explained_44 at h
    refine lv_iload (pc := 44) hx hb dX0_explained_44 (lv_at hl 5 rfl) ?_
    refine lv_iload_n (pc := 46) hx hb dX0_explained_46 rfl (lv_at hl 1 rfl) ?_
    refine lv_icmp_gt (pc := 47) (tgt := 96) hx hb dX0_explained_47 rfl (fun c56 => ?_) (fun c56 => ?_)
    · have h := h.1 c56
      refine lv_iload (pc := 96) hx hb dX0_explained_96 (lv_at hl 4 rfl) ?_
      refine W.widen (k := MC) (n := MS) (by omega) (by omega) ?_
      refine cx_ret ?_
      exact W.iret (pc := 98) hx hb hr (fun t ht hW => c_ret (val := vI) (lw := jW) (u := N) hw h ht) hw.2.2.2 dX0_explained_98 hlk
    · have h := h.2 c56
      refine lv_iload (pc := 50) hx hb dX0_explained_50 (lv_at hl 4 rfl) ?_
      refine lv_aload_n (pc := 52) hx hb dX0_explained_52 rfl (lv_at hl 0 rfl) ?_
      refine lq_aload (pc := 53) hx hb dX0_explained_53 (lv_at hl 3 rfl) ?_
      refine lv_iload (pc := 55) hx hb dX0_explained_55 (lv_at hl 5 rfl) ?_
      obtain ⟨f60, f61, f62, f63, f64, f65, f66, f67, f68, f69, f70, f71, f72, f73, f74, f75, f76, f77, f78, hN59, h⟩ := h
      refine c_callJ (pc := 57) (val := vL) X hw (va_runV (C := RX0) (As := [va_rf x5, .int x7]) (rest := [.int x6]) X.1 (tX0_waysOf X.2.2.1 (sz := H.size) h) (cwV 2 hts (lw_V q1557 q1374 qs28 q102 q1375) rfl rfl rfl ⟨rfl, by decide, by decide, (by decide +kernel : (parseMethodDescriptor yX0_waysOf.desc).map (fun d => d.parameters.length) = some 2)⟩ ⟨Nat.le_of_ble_eq_true rfl, Nat.le_of_ble_eq_true rfl⟩) ⟨cPre_blind, c_recv X hw hN59 rfl, fun U hU hW => ⟨rfl, X.preJ hw hU hW⟩⟩ rfl rfl hl.1 rfl (lv_room (Nat.le_of_ble_eq_true rfl)) dX0_explained_57 ⟨show cells + 0 ≤ MC by omega, show slots + 0 ≤ MS by omega⟩) (fun r57 N58 H locs h hw => ?_)
      refine W.eq (g2 := F0 m 60 ls (.long r57 :: [.int x6])) rfl ?_
      refine lv_lconst (pc := 60) (v := (0 : Int64)) hx hb dX0_explained_60 (by decide) ?_
      refine W.lcmp (pc := 61) hx hb dX0_explained_61 ?_
      refine lv_if_ne (pc := 62) (tgt := 86) hx hb dX0_explained_62 rfl (fun c79 => ?_) (fun c79 => ?_)
      · have h := h.2 (fun z => c79 ((lg_cmp_eq _ _).mpr z))
        exact kX0_explained_86 X hr hlk hL hT ih _ _ _ _ _ _ _ _ _ _ _ _ _ _ h ⟨hw, by omega⟩ (lv_sub hl [0, 1, 2, 3, 5] rfl)
      · have h := h.1 ((lg_cmp_eq _ _).mp c79)
        refine lv_aload_n (pc := 65) hx hb dX0_explained_65 rfl (lv_at hl 0 rfl) ?_
        obtain ⟨f81, f82, f83, f84, f85, f86, f87, f88, f89, f90, f91, f92, f93, f94, f95, f96, f97, f98, f99, hN80, h⟩ := h
        refine c_get (pc := 66) X hw hN80 in_X0 rfl 14 (by decide) q231 rfl rfl dX0_explained_66 ?_
        refine lv_iload (pc := 69) hx hb dX0_explained_69 (lv_at hl 5 rfl) ?_
        refine lv_iload (pc := 71) hx hb dX0_explained_71 (lv_at hl 2 rfl) ?_
        refine s_call (pc := 73) (val := vI) (As := [.int x7, .int x4]) (rest := [va_rf f95, .int x6]) X.1 (tJ14_floorMod h) (lw_S q1612 q1613 q121 q1614) ⟨by decide, by decide, (by decide +kernel : (parseMethodDescriptor yJ14_floorMod.desc).map (fun d => d.parameters.length) = some 2)⟩ ⟨Nat.le_of_ble_eq_true rfl, Nat.le_of_ble_eq_true rfl⟩ hl.1 (rsum_le (Nat.le_of_ble_eq_true rfl)) ⟨show cells + 0 ≤ MC by omega, show slots + 0 ≤ MS by omega⟩ dX0_explained_73 rfl (fun r100 h => ?_)
        refine W.eq (g2 := F0 m 76 ls (.int r100 :: [va_rf f95, .int x6])) rfl ?_
        obtain ⟨a101, hr102, h⟩ := h
        refine W.eq (g2 := F0 m 76 ls [.int r100, .ref a101, .int x6]) (by rw [hr102]; rfl) ?_
        obtain ⟨n104, f105, hN103, h⟩ := h
        obtain ⟨hi, h⟩ := h
        refine c_lald (pc := 76) X hw hN103 hi dX0_explained_76 ?_
        refine lv_lconst (pc := 77) (v := (0 : Int64)) hx hb dX0_explained_77 (by decide) ?_
        refine W.lcmp (pc := 78) hx hb dX0_explained_78 ?_
        refine lv_if_ne (pc := 79) (tgt := 86) hx hb dX0_explained_79 rfl (fun c106 => ?_) (fun c106 => ?_)
        · have h := h.2 (fun z => c106 ((lg_cmp_eq _ _).mpr z))
          exact kX0_explained_86 X hr hlk hL hT ih _ _ _ _ _ _ _ _ _ _ _ _ _ _ h ⟨hw, by omega⟩ (lv_sub hl [0, 1, 2, 3, 5] rfl)
        · have h := h.1 ((lg_cmp_eq _ _).mp c106)
          refine lv_iconst (pc := 82) (v := (1 : Int32)) hx hb dX0_explained_82 (by decide) ?_
          refine lv_goto (pc := 83) (tgt := 87) hx hb dX0_explained_83 rfl ?_
          exact kX0_explained_87 X hr hlk hL hT ih _ _ _ _ _ _ _ _ _ _ _ _ _ _ _ h ⟨hw, by omega⟩ (lv_sub hl [0, 1, 2, 3, 5] rfl)
theorem txX0_explained {l : Launch} (hL : l.stackTraces = false) {G : gG} (hO : gOk G) {post : Int32 → NM → Prop} {MC MS : Nat} {N : NM} {x0 : Nat} {x1 : Int32} {x2 : Int32} {x3 : Int32} {x4 : Int32} {sz : Nat} (h : wX0_explained (gC G) post MC MS N x0 x1 x2 x3 x4) : cx_Met l yX0_explained (ws_ yX0_explained cX0_explained 8 (some .int)) ⟨10, MC, MS, 10322⟩ (va_Pc [.ref x0, .int x1, .int x2, .int x3, .int x4] (cPre G [] N sz)) (gQ vI post (fun u H => cBw G (cA [] N sz) (jW u).1 (jW u).2 H) (cA [] N sz)) (cXC G (cA [] N sz) [] (fun _ _ _ => False)) MC MS (cA [] N sz) := by
  refine c_ofX (B := fun A u H => cBw G A (jW u).1 (jW u).2 H) (by decide) hO (Nat.le_of_ble_eq_true rfl) (fun p e s m below meth c ls A X hr hlk hT hw hl => ?_)
  have hl : lv_has ls 8 [(0, .ref x0), (1, .int x1), (2, .int x2), (3, .int x3), (4, .int x4)] := hl
  have hx := X.1.1
  have hb := X.1.2.1
  have hml := X.1.2.2.1
  have hown := X.1.2.2.2.1
  have hts := X.1.2.2.2.2
  obtain ⟨H, eH⟩ : ∃ z, z = s.heap := ⟨_, rfl⟩
  rw [← eH] at hw ⊢
  obtain ⟨locs, eLo⟩ : ∃ z : List Loc, z = [] := ⟨_, rfl⟩
  rw [← eLo] at hw ⊢
  have hbud : 0 + MC ≤ MC ∧ 0 + MS ≤ MS := by omega
  unfold wX0_explained at h
  refine lv_aload_n (pc := 0) hx hb dX0_explained_0 rfl (lv_at hl 0 rfl) ?_
  refine lv_iload_n (pc := 1) hx hb dX0_explained_1 rfl (lv_at hl 1 rfl) ?_
  obtain ⟨f8, f9, f10, f11, f12, f13, f14, f15, f16, f17, f18, f19, f20, f21, f22, f23, f24, f25, f26, hN7, h⟩ := h
  obtain ⟨mc3, ms4, hm5, hm6, h⟩ := h
  refine c_callJ (pc := 2) (val := vQ) X hw (vx_runVW (C := RX0) (As := [.int x1]) (rest := []) X.1 (tX0_at hL X.2.2.1 (sz := H.size) h) (vx_cwVW 1 hts (lw_VW q898 q900 qs20 q102 q901) rfl rfl rfl ⟨rfl, by decide, by decide, (by decide +kernel : (parseMethodDescriptor yX0_at.desc).map (fun d => d.parameters.length) = some 1)⟩ ⟨Nat.le_of_ble_eq_true rfl, Nat.le_of_ble_eq_true rfl⟩) ⟨cPre_blind, c_recv X hw hN7 rfl, fun U hU hW => ⟨rfl, X.preJ hw hU hW⟩⟩ rfl rfl hl.1 rfl (lv_room (Nat.le_of_ble_eq_true rfl)) dX0_explained_2 ⟨show 0 + mc3 ≤ MC by omega, show 0 + ms4 ≤ MS by omega⟩) (fun r1 N2 H locs h hw => ?_)
  refine W.eq (g2 := F0 m 5 ls (va_rf r1 :: [])) rfl ?_
  refine lq_astore (pc := 5) (lv' := [(5, va_rf r1), (0, .ref x0), (1, .int x1), (2, .int x2), (3, .int x3), (4, .int x4)]) hx hb dX0_explained_5 hl (by decide) rfl (fun ls hl => ?_)
  refine lq_aload (pc := 7) hx hb dX0_explained_7 (lv_at hl 0 rfl) ?_
  refine lq_ifnull (pc := 9) (tgt := 28) hx hb dX0_explained_9 rfl (fun hz27 => ?_) (fun a28 hr29 => ?_)
  · have h := h.1 hz27
    refine lv_iconst (pc := 28) (v := (-1 : Int32)) hx hb dX0_explained_28 (by decide) ?_
    refine W.widen (k := MC) (n := MS) (by omega) (by omega) ?_
    refine cx_ret ?_
    exact W.iret (pc := 29) hx hb hr (fun t ht hW => c_ret (val := vI) (lw := jW) (u := N2) hw h ht) hw.2.2.2 dX0_explained_29 hlk
  · have h := h.2 a28 hr29
    refine lv_iload_n (pc := 12) hx hb dX0_explained_12 rfl (lv_at hl 3 rfl) ?_
    refine lv_iload_n (pc := 13) hx hb dX0_explained_13 rfl (lv_at hl 4 rfl) ?_
    refine s_call (pc := 14) (val := vI) (As := [.int x2, .int x3]) (rest := []) X.1 (tX0_isSpan h) (lw_S q1592 q1593 q102 q1594) ⟨by decide, by decide, (by decide +kernel : (parseMethodDescriptor yX0_isSpan.desc).map (fun d => d.parameters.length) = some 2)⟩ ⟨Nat.le_of_ble_eq_true rfl, Nat.le_of_ble_eq_true rfl⟩ hl.1 (Nat.le_of_ble_eq_true rfl) ⟨show 0 + mc3 ≤ MC by omega, show 0 + ms4 ≤ MS by omega⟩ dX0_explained_14 rfl (fun r30 h => ?_)
    refine W.eq (g2 := F0 m 17 ls (.int r30 :: [])) rfl ?_
    refine lv_if_eq (pc := 17) (tgt := 28) hx hb dX0_explained_17 rfl (fun c31 => ?_) (fun c31 => ?_)
    · have h := h.1 c31
      refine lv_iconst (pc := 28) (v := (-1 : Int32)) hx hb dX0_explained_28 (by decide) ?_
      refine W.widen (k := MC) (n := MS) (by omega) (by omega) ?_
      refine cx_ret ?_
      exact W.iret (pc := 29) hx hb hr (fun t ht hW => c_ret (val := vI) (lw := jW) (u := N2) hw h ht) hw.2.2.2 dX0_explained_29 hlk
    · have h := h.2 c31
      refine lv_iload (pc := 20) hx hb dX0_explained_20 (lv_at hl 5 rfl) ?_
      refine s_call (pc := 22) (val := vI) (As := [.int x4]) (rest := []) X.1 (tX0_isModulus h) (lw_S q1599 q1600 q102 q1601) ⟨by decide, by decide, (by decide +kernel : (parseMethodDescriptor yX0_isModulus.desc).map (fun d => d.parameters.length) = some 1)⟩ ⟨Nat.le_of_ble_eq_true rfl, Nat.le_of_ble_eq_true rfl⟩ hl.1 (Nat.le_of_ble_eq_true rfl) ⟨show 0 + mc3 ≤ MC by omega, show 0 + ms4 ≤ MS by omega⟩ dX0_explained_22 rfl (fun r32 h => ?_)
      refine W.eq (g2 := F0 m 25 ls (.int r32 :: [])) rfl ?_
      refine lv_if_ne (pc := 25) (tgt := 30) hx hb dX0_explained_25 rfl (fun c33 => ?_) (fun c33 => ?_)
      · have h := h.2 c33
        refine lv_aload_n (pc := 30) hx hb dX0_explained_30 rfl (lv_at hl 1 rfl) ?_
        refine lq_aload (pc := 31) hx hb dX0_explained_31 (lv_at hl 0 rfl) ?_
        refine lv_iload (pc := 33) hx hb dX0_explained_33 (lv_at hl 5 rfl) ?_
        obtain ⟨f37, f38, f39, f40, f41, f42, f43, f44, f45, f46, f47, f48, f49, f50, f51, f52, f53, f54, f55, hN36, h⟩ := h
        refine c_callJ (pc := 35) (val := vV) X hw (va_runV (C := RX0) (As := [va_rf r1, .int x4]) (rest := []) X.1 (tX0_laysClasses X.2.2.1 (sz := H.size) h) (cwV 2 hts (lw_V q1603 q1605 qs38 q102 q1606) rfl rfl rfl ⟨rfl, by decide, by decide, (by decide +kernel : (parseMethodDescriptor yX0_laysClasses.desc).map (fun d => d.parameters.length) = some 2)⟩ ⟨Nat.le_of_ble_eq_true rfl, Nat.le_of_ble_eq_true rfl⟩) ⟨cPre_blind, c_recv X hw hN36 rfl, fun U hU hW => ⟨rfl, X.preJ hw hU hW⟩⟩ rfl rfl hl.1 rfl (lv_room (Nat.le_of_ble_eq_true rfl)) dX0_explained_35 ⟨show 0 + mc3 + 0 ≤ MC by omega, show 0 + ms4 + 0 ≤ MS by omega⟩) (fun _ N35 H locs h hw => ?_)
        refine W.eq (g2 := F0 m 38 ls ([])) rfl ?_
        refine lv_iconst (pc := 38) (v := (0 : Int32)) hx hb dX0_explained_38 (by decide) ?_
        refine lv_istore (pc := 39) (i := 6) (lv' := [(6, .int (0 : Int32)), (5, va_rf r1), (0, .ref x0), (1, .int x1), (2, .int x2), (3, .int x3), (4, .int x4)]) hx hb dX0_explained_39 hl (by decide) (by simp [rf_c]) (fun ls hl => ?_)
        refine lv_iload_n (pc := 41) hx hb dX0_explained_41 rfl (lv_at hl 4 rfl) ?_
        refine lv_istore (pc := 42) (lv' := [(7, .int x2), (6, .int (0 : Int32)), (5, va_rf r1), (0, .ref x0), (1, .int x1), (2, .int x2), (3, .int x3), (4, .int x4)]) hx hb dX0_explained_42 hl (by decide) rfl (fun ls hl => ?_)
        obtain ⟨k, h⟩ := h
        exact kX0_explained_44 X hr hlk hL hT  k _ _ _ _ _ _ _ _ _ _ _ _ _ _ h ⟨hw, by omega⟩ (lv_sub hl [3, 6, 7, 2, 1, 0] rfl)
      · have h := h.1 c33
        refine lv_iconst (pc := 28) (v := (-1 : Int32)) hx hb dX0_explained_28 (by decide) ?_
        refine W.widen (k := MC) (n := MS) (by omega) (by omega) ?_
        refine cx_ret ?_
        exact W.iret (pc := 29) hx hb hr (fun t ht hW => c_ret (val := vI) (lw := jW) (u := N2) hw h ht) hw.2.2.2 dX0_explained_29 hlk
theorem tX0_explained {l : Launch} (hL : l.stackTraces = false) {G : gG} (hO : gOk G) {post : Int32 → NM → Prop} {MC MS : Nat} {N : NM} {x0 : Nat} {x1 : Int32} {x2 : Int32} {x3 : Int32} {x4 : Int32} {sz : Nat} (h : wX0_explained (gC G) post MC MS N x0 x1 x2 x3 x4) : Met l yX0_explained (ws_ yX0_explained cX0_explained 8 (some .int)) ⟨10, MC, MS, 10322⟩ (va_Pc [.ref x0, .int x1, .int x2, .int x3, .int x4] (cPre G [] N sz)) (gQ vI post (fun u H => cBw G (cA [] N sz) (jW u).1 (jW u).2 H) (cA [] N sz)) MC MS (cA [] N sz) := cx_toMet (txX0_explained hL hO h)

def wX0_full_29 (K : Nat → Nat → Nat) (post : Int32 → NM → Prop) : Nat → Nat → Option Nat → Int32 → Nat → Nat → NM → Prop
  | 0, _, _, _, _, _, _ => False
  | n + 1, x0, x2, x3, mc, ms, N => ((x3 ≤ (0 : Int32)) → (post x3 N)) ∧ (¬ (x3 ≤ (0 : Int32)) → (∃ f57 f58 f59 f60 f61 f62 f63 f64 f65 f66 f67 f68 f69 f70 f71 f72 f73 f74 f75, N x0 = some (eO 1 [va_rf f57, va_rf f58, va_rf f59, va_rf f60, va_rf f61, va_rf f62, va_rf f63, va_rf f64, va_rf f65, .int f66, .int f67, va_rf f68, va_rf f69, .int f70, va_rf f71, va_rf f72, va_rf f73, va_rf f74, va_rf f75]) ∧ (wX0_waysOf K (fun r54 N55 => ((r54 ≤ (0 : Int64)) → (post x3 N55)) ∧ (¬ (r54 ≤ (0 : Int64)) → (wX0_full_29 K post n x0 x2 (x3 + (-1 : Int32)) mc ms N55))) N x0 x2 (x3 - (1 : Int32)))))
def wX0_full (K : Nat → Nat → Nat) (post : Int32 → NM → Prop) (MC MS : Nat) (N : NM) (x0 : Nat) (x1 : Int32) : Prop :=
  ∃ f8 f9 f10 f11 f12 f13 f14 f15 f16 f17 f18 f19 f20 f21 f22 f23 f24 f25 f26, N x0 = some (eO 1 [va_rf f8, va_rf f9, va_rf f10, va_rf f11, va_rf f12, va_rf f13, va_rf f14, va_rf f15, va_rf f16, .int f17, .int f18, va_rf f19, va_rf f20, .int f21, va_rf f22, va_rf f23, va_rf f24, va_rf f25, va_rf f26]) ∧ (∃ mc3 ms4, mc3 ≤ MC ∧ ms4 ≤ MS ∧ wX0_at K (fun r1 N2 => (r1 = none → (post (-1 : Int32) N2)) ∧ (∀ a28, r1 = some a28 → (∃ f33 f34 f35 f36 f37 f38 f39 f40 f41 f42 f43 f44 f45 f46 f47 f48 f49 f50 f51, N2 x0 = some (eO 1 [va_rf f33, va_rf f34, va_rf f35, va_rf f36, va_rf f37, va_rf f38, va_rf f39, va_rf f40, va_rf f41, .int f42, .int f43, va_rf f44, va_rf f45, .int f46, va_rf f47, va_rf f48, va_rf f49, va_rf f50, va_rf f51]) ∧ (wX0_waysOf K (fun r30 N31 => ((r30 = (0 : Int64)) → (post (-1 : Int32) N31)) ∧ (¬ (r30 = (0 : Int64)) → ((∃ k, wX0_full_29 K post k x0 r1 (3000 : Int32) (MC - mc3) (MS - ms4) N31)))) N2 x0 r1 (3000 : Int32))))) mc3 ms4 N x0 x1)
theorem kX0_full_29 {p : Program} {l : Launch} {e : Env} {s : State} {m : MethodId} {args : Array Value} {below : List Frame} {meth : Method} {c : Code} {G : gG} {A : Nat → Prop} {MC MS : Nat} {post : Int32 → NM → Prop} (X : cX G A RX0 p s m args c cX0_full 4) (hr : meth.sig.returnType = (some .int)) (hlk : meth.locks = false) (hL : l.stackTraces = false) (hT : c.exceptionTable.toList = tableOf []) : ∀ (n : Nat) (x0 : Nat) (x2 : Option Nat) (x3 : Int32) (mc ms : Nat) (N : NM) (H : Heap) (locs : List Loc) (ls : Array Slot) (cells slots : Nat), wX0_full_29 (gC G) post n x0 x2 x3 mc ms N → (cH G A s [] N H locs ∧ cells + mc ≤ MC ∧ slots + ms ≤ MS) → lv_has ls 4 [(0, .ref x0), (2, va_rf x2), (3, .int x3)] → W p l e ⟨10, MC, MS, 10322⟩ s m args below meth c H locs cells slots (cx_MQ below (gQ vI post (fun u H => cBw G A (jW u).1 (jW u).2 H) A) (cXC G A [] (fun _ _ _ => False)) args s MC MS A) (F0 m 29 ls []) := by
  have hx := X.1.1
  have hb := X.1.2.1
  have hml := X.1.2.2.1
  have hown := X.1.2.2.2.1
  have hts := X.1.2.2.2.2
  intro n
  induction n with
  | zero =>
    intro x0 x2 x3 mc ms N H locs ls cells slots h
    exact False.elim h
  | succ n ih =>
    intro x0 x2 x3 mc ms N H locs ls cells slots h hw0 hl
    obtain ⟨hw, hbud⟩ := hw0
    unfold wX0_full_29 at h
    refine lv_iload_n (pc := 29) hx hb dX0_full_29 rfl (lv_at hl 2 rfl) ?_
    refine lv_if_le (pc := 30) (tgt := 52) hx hb dX0_full_30 rfl (fun c53 => ?_) (fun c53 => ?_)
    · have h := h.1 c53
      refine lv_iload_n (pc := 52) hx hb dX0_full_52 rfl (lv_at hl 2 rfl) ?_
      refine W.widen (k := MC) (n := MS) (by omega) (by omega) ?_
      refine cx_ret ?_
      exact W.iret (pc := 53) hx hb hr (fun t ht hW => c_ret (val := vI) (lw := jW) (u := N) hw h ht) hw.2.2.2 dX0_full_53 hlk
    · have h := h.2 c53
      refine lv_aload_n (pc := 33) hx hb dX0_full_33 rfl (lv_at hl 0 rfl) ?_
      refine lq_aload_n (pc := 34) hx hb dX0_full_34 rfl (lv_at hl 1 rfl) ?_
      refine lv_iload_n (pc := 35) hx hb dX0_full_35 rfl (lv_at hl 2 rfl) ?_
      refine lv_iconst (pc := 36) (v := (1 : Int32)) hx hb dX0_full_36 (by decide) ?_
      refine lv_isub (pc := 37) hx hb dX0_full_37 ?_
      obtain ⟨f57, f58, f59, f60, f61, f62, f63, f64, f65, f66, f67, f68, f69, f70, f71, f72, f73, f74, f75, hN56, h⟩ := h
      refine c_callJ (pc := 38) (val := vL) X hw (va_runV (C := RX0) (As := [va_rf x2, .int (x3 - (1 : Int32))]) (rest := []) X.1 (tX0_waysOf X.2.2.1 (sz := H.size) h) (cwV 2 hts (lw_V q1557 q1374 qs28 q102 q1375) rfl rfl rfl ⟨rfl, by decide, by decide, (by decide +kernel : (parseMethodDescriptor yX0_waysOf.desc).map (fun d => d.parameters.length) = some 2)⟩ ⟨Nat.le_of_ble_eq_true rfl, Nat.le_of_ble_eq_true rfl⟩) ⟨cPre_blind, c_recv X hw hN56 rfl, fun U hU hW => ⟨rfl, X.preJ hw hU hW⟩⟩ rfl rfl hl.1 rfl (lv_room (Nat.le_of_ble_eq_true rfl)) dX0_full_38 ⟨show cells + 0 ≤ MC by omega, show slots + 0 ≤ MS by omega⟩) (fun r54 N55 H locs h hw => ?_)
      refine W.eq (g2 := F0 m 41 ls (.long r54 :: [])) rfl ?_
      refine lv_lconst (pc := 41) (v := (0 : Int64)) hx hb dX0_full_41 (by decide) ?_
      refine W.lcmp (pc := 42) hx hb dX0_full_42 ?_
      refine lv_if_le (pc := 43) (tgt := 52) hx hb dX0_full_43 rfl (fun c76 => ?_) (fun c76 => ?_)
      · have h := h.1 ((lg_cmp_le _ _).mp c76)
        refine lv_iload_n (pc := 52) hx hb dX0_full_52 rfl (lv_at hl 2 rfl) ?_
        refine W.widen (k := MC) (n := MS) (by omega) (by omega) ?_
        refine cx_ret ?_
        exact W.iret (pc := 53) hx hb hr (fun t ht hW => c_ret (val := vI) (lw := jW) (u := N55) hw h ht) hw.2.2.2 dX0_full_53 hlk
      · have h := h.2 (fun z => c76 ((lg_cmp_le _ _).mpr z))
        refine lv_iinc (pc := 46) (v := x3 + (-1 : Int32)) (lv' := [(3, .int (x3 + (-1 : Int32))), (0, .ref x0), (2, va_rf x2)]) hx hb dX0_full_46 hl (k := 2) rfl rfl (by decide) (by simp [rf_c]) (fun ls hl => ?_)
        refine lv_goto (pc := 49) (tgt := 29) hx hb dX0_full_49 rfl ?_
        exact ih _ _ _ _ _ _ _ _ _ _ _ h ⟨hw, by omega⟩ (lv_sub hl [1, 2, 0] rfl)
theorem txX0_full {l : Launch} (hL : l.stackTraces = false) {G : gG} (hO : gOk G) {post : Int32 → NM → Prop} {MC MS : Nat} {N : NM} {x0 : Nat} {x1 : Int32} {sz : Nat} (h : wX0_full (gC G) post MC MS N x0 x1) : cx_Met l yX0_full (ws_ yX0_full cX0_full 4 (some .int)) ⟨10, MC, MS, 10322⟩ (va_Pc [.ref x0, .int x1] (cPre G [] N sz)) (gQ vI post (fun u H => cBw G (cA [] N sz) (jW u).1 (jW u).2 H) (cA [] N sz)) (cXC G (cA [] N sz) [] (fun _ _ _ => False)) MC MS (cA [] N sz) := by
  refine c_ofX (B := fun A u H => cBw G A (jW u).1 (jW u).2 H) (by decide) hO (Nat.le_of_ble_eq_true rfl) (fun p e s m below meth c ls A X hr hlk hT hw hl => ?_)
  have hl : lv_has ls 4 [(0, .ref x0), (1, .int x1)] := hl
  have hx := X.1.1
  have hb := X.1.2.1
  have hml := X.1.2.2.1
  have hown := X.1.2.2.2.1
  have hts := X.1.2.2.2.2
  obtain ⟨H, eH⟩ : ∃ z, z = s.heap := ⟨_, rfl⟩
  rw [← eH] at hw ⊢
  obtain ⟨locs, eLo⟩ : ∃ z : List Loc, z = [] := ⟨_, rfl⟩
  rw [← eLo] at hw ⊢
  have hbud : 0 + MC ≤ MC ∧ 0 + MS ≤ MS := by omega
  unfold wX0_full at h
  refine lv_aload_n (pc := 0) hx hb dX0_full_0 rfl (lv_at hl 0 rfl) ?_
  refine lv_iload_n (pc := 1) hx hb dX0_full_1 rfl (lv_at hl 1 rfl) ?_
  obtain ⟨f8, f9, f10, f11, f12, f13, f14, f15, f16, f17, f18, f19, f20, f21, f22, f23, f24, f25, f26, hN7, h⟩ := h
  obtain ⟨mc3, ms4, hm5, hm6, h⟩ := h
  refine c_callJ (pc := 2) (val := vQ) X hw (vx_runVW (C := RX0) (As := [.int x1]) (rest := []) X.1 (tX0_at hL X.2.2.1 (sz := H.size) h) (vx_cwVW 1 hts (lw_VW q898 q900 qs20 q102 q901) rfl rfl rfl ⟨rfl, by decide, by decide, (by decide +kernel : (parseMethodDescriptor yX0_at.desc).map (fun d => d.parameters.length) = some 1)⟩ ⟨Nat.le_of_ble_eq_true rfl, Nat.le_of_ble_eq_true rfl⟩) ⟨cPre_blind, c_recv X hw hN7 rfl, fun U hU hW => ⟨rfl, X.preJ hw hU hW⟩⟩ rfl rfl hl.1 rfl (lv_room (Nat.le_of_ble_eq_true rfl)) dX0_full_2 ⟨show 0 + mc3 ≤ MC by omega, show 0 + ms4 ≤ MS by omega⟩) (fun r1 N2 H locs h hw => ?_)
  refine W.eq (g2 := F0 m 5 ls (va_rf r1 :: [])) rfl ?_
  refine lq_astore_n (pc := 5) (lv' := [(2, va_rf r1), (0, .ref x0), (1, .int x1)]) hx hb dX0_full_5 rfl hl (by decide) rfl (fun ls hl => ?_)
  refine lq_aload_n (pc := 6) hx hb dX0_full_6 rfl (lv_at hl 0 rfl) ?_
  refine lq_ifnull (pc := 7) (tgt := 23) hx hb dX0_full_7 rfl (fun hz27 => ?_) (fun a28 hr29 => ?_)
  · have h := h.1 hz27
    refine lv_iconst (pc := 23) (v := (-1 : Int32)) hx hb dX0_full_23 (by decide) ?_
    refine W.widen (k := MC) (n := MS) (by omega) (by omega) ?_
    refine cx_ret ?_
    exact W.iret (pc := 24) hx hb hr (fun t ht hW => c_ret (val := vI) (lw := jW) (u := N2) hw h ht) hw.2.2.2 dX0_full_24 hlk
  · have h := h.2 a28 hr29
    refine lv_aload_n (pc := 10) hx hb dX0_full_10 rfl (lv_at hl 1 rfl) ?_
    refine lq_aload_n (pc := 11) hx hb dX0_full_11 rfl (lv_at hl 0 rfl) ?_
    refine lv_sipush (pc := 12) (v := (3000 : Int32)) hx hb dX0_full_12 (by decide) ?_
    obtain ⟨f33, f34, f35, f36, f37, f38, f39, f40, f41, f42, f43, f44, f45, f46, f47, f48, f49, f50, f51, hN32, h⟩ := h
    refine c_callJ (pc := 15) (val := vL) X hw (va_runV (C := RX0) (As := [va_rf r1, .int (3000 : Int32)]) (rest := []) X.1 (tX0_waysOf X.2.2.1 (sz := H.size) h) (cwV 2 hts (lw_V q1557 q1374 qs28 q102 q1375) rfl rfl rfl ⟨rfl, by decide, by decide, (by decide +kernel : (parseMethodDescriptor yX0_waysOf.desc).map (fun d => d.parameters.length) = some 2)⟩ ⟨Nat.le_of_ble_eq_true rfl, Nat.le_of_ble_eq_true rfl⟩) ⟨cPre_blind, c_recv X hw hN32 rfl, fun U hU hW => ⟨rfl, X.preJ hw hU hW⟩⟩ rfl rfl hl.1 rfl (lv_room (Nat.le_of_ble_eq_true rfl)) dX0_full_15 ⟨show 0 + mc3 + 0 ≤ MC by omega, show 0 + ms4 + 0 ≤ MS by omega⟩) (fun r30 N31 H locs h hw => ?_)
    refine W.eq (g2 := F0 m 18 ls (.long r30 :: [])) rfl ?_
    refine lv_lconst (pc := 18) (v := (0 : Int64)) hx hb dX0_full_18 (by decide) ?_
    refine W.lcmp (pc := 19) hx hb dX0_full_19 ?_
    refine lv_if_ne (pc := 20) (tgt := 25) hx hb dX0_full_20 rfl (fun c52 => ?_) (fun c52 => ?_)
    · have h := h.2 (fun z => c52 ((lg_cmp_eq _ _).mpr z))
      refine lv_sipush (pc := 25) (v := (3000 : Int32)) hx hb dX0_full_25 (by decide) ?_
      refine lv_istore_n (pc := 28) (i := 3) (lv' := [(3, .int (3000 : Int32)), (2, va_rf r1), (0, .ref x0), (1, .int x1)]) hx hb dX0_full_28 rfl hl (by decide) (by simp [rf_c]) (fun ls hl => ?_)
      obtain ⟨k, h⟩ := h
      exact kX0_full_29 X hr hlk hL hT  k _ _ _ _ _ _ _ _ _ _ _ h ⟨hw, by omega⟩ (lv_sub hl [2, 1, 0] rfl)
    · have h := h.1 ((lg_cmp_eq _ _).mp c52)
      refine lv_iconst (pc := 23) (v := (-1 : Int32)) hx hb dX0_full_23 (by decide) ?_
      refine W.widen (k := MC) (n := MS) (by omega) (by omega) ?_
      refine cx_ret ?_
      exact W.iret (pc := 24) hx hb hr (fun t ht hW => c_ret (val := vI) (lw := jW) (u := N31) hw h ht) hw.2.2.2 dX0_full_24 hlk
theorem tX0_full {l : Launch} (hL : l.stackTraces = false) {G : gG} (hO : gOk G) {post : Int32 → NM → Prop} {MC MS : Nat} {N : NM} {x0 : Nat} {x1 : Int32} {sz : Nat} (h : wX0_full (gC G) post MC MS N x0 x1) : Met l yX0_full (ws_ yX0_full cX0_full 4 (some .int)) ⟨10, MC, MS, 10322⟩ (va_Pc [.ref x0, .int x1] (cPre G [] N sz)) (gQ vI post (fun u H => cBw G (cA [] N sz) (jW u).1 (jW u).2 H) (cA [] N sz)) MC MS (cA [] N sz) := cx_toMet (txX0_full hL hO h)

def wX0_met (K : Nat → Nat → Nat) (post : Int64 → NM → Prop) (MC MS : Nat) (N : NM) (x0 : Nat) (x1 : Int32) (x2 : Int32) (x3 : Int32) : Prop :=
  ∃ f8 f9 f10 f11 f12 f13 f14 f15 f16 f17 f18 f19 f20 f21 f22 f23 f24 f25 f26, N x0 = some (eO 1 [va_rf f8, va_rf f9, va_rf f10, va_rf f11, va_rf f12, va_rf f13, va_rf f14, va_rf f15, va_rf f16, .int f17, .int f18, va_rf f19, va_rf f20, .int f21, va_rf f22, va_rf f23, va_rf f24, va_rf f25, va_rf f26]) ∧ (∃ mc3 ms4, mc3 ≤ MC ∧ ms4 ≤ MS ∧ wX0_at K (fun r1 N2 => (r1 = none → (post (-1 : Int64) N2)) ∧ (∀ a28, r1 = some a28 → (wX0_isModulus (fun r30 => ((r30 = (0 : Int32)) → (post (-1 : Int64) N2)) ∧ (¬ (r30 = (0 : Int32)) → (wX0_isIn (fun r32 => ((r32 = (0 : Int32)) → (post (-1 : Int64) N2)) ∧ (¬ (r32 = (0 : Int32)) → (∃ f37 f38 f39 f40 f41 f42 f43 f44 f45 f46 f47 f48 f49 f50 f51 f52 f53 f54 f55, N2 x0 = some (eO 1 [va_rf f37, va_rf f38, va_rf f39, va_rf f40, va_rf f41, va_rf f42, va_rf f43, va_rf f44, va_rf f45, .int f46, .int f47, va_rf f48, va_rf f49, .int f50, va_rf f51, va_rf f52, va_rf f53, va_rf f54, va_rf f55]) ∧ (wX0_laysClasses K (fun _ N35 => ∃ f57 f58 f59 f60 f61 f62 f63 f64 f65 f66 f67 f68 f69 f70 f71 f72 f73 f74 f75, N35 x0 = some (eO 1 [va_rf f57, va_rf f58, va_rf f59, va_rf f60, va_rf f61, va_rf f62, va_rf f63, va_rf f64, va_rf f65, .int f66, .int f67, va_rf f68, va_rf f69, .int f70, va_rf f71, va_rf f72, va_rf f73, va_rf f74, va_rf f75]) ∧ (∃ a76, f71 = some a76 ∧ (∃ n79 f80, N35 a76 = some (eL 1 n79 f80) ∧ (vp_in x3 n79 ∧ (post (f80 x3.toNatClampNeg) N35))))) N2 x0 r1 x2)))) x3.toInt64 (0 : Int64) ((x2 - (1 : Int32)).toInt64)))) x2))) mc3 ms4 N x0 x1)
theorem txX0_met {l : Launch} (hL : l.stackTraces = false) {G : gG} (hO : gOk G) {post : Int64 → NM → Prop} {MC MS : Nat} {N : NM} {x0 : Nat} {x1 : Int32} {x2 : Int32} {x3 : Int32} {sz : Nat} (h : wX0_met (gC G) post MC MS N x0 x1 x2 x3) : cx_Met l yX0_met (ws_ yX0_met cX0_met 5 (some .long)) ⟨10, MC, MS, 10322⟩ (va_Pc [.ref x0, .int x1, .int x2, .int x3] (cPre G [] N sz)) (gQ vL post (fun u H => cBw G (cA [] N sz) (jW u).1 (jW u).2 H) (cA [] N sz)) (cXC G (cA [] N sz) [] (fun _ _ _ => False)) MC MS (cA [] N sz) := by
  refine c_ofX (B := fun A u H => cBw G A (jW u).1 (jW u).2 H) (by decide) hO (Nat.le_of_ble_eq_true rfl) (fun p e s m below meth c ls A X hr hlk hT hw hl => ?_)
  have hl : lv_has ls 5 [(0, .ref x0), (1, .int x1), (2, .int x2), (3, .int x3)] := hl
  have hx := X.1.1
  have hb := X.1.2.1
  have hml := X.1.2.2.1
  have hown := X.1.2.2.2.1
  have hts := X.1.2.2.2.2
  obtain ⟨H, eH⟩ : ∃ z, z = s.heap := ⟨_, rfl⟩
  rw [← eH] at hw ⊢
  obtain ⟨locs, eLo⟩ : ∃ z : List Loc, z = [] := ⟨_, rfl⟩
  rw [← eLo] at hw ⊢
  have hbud : 0 + MC ≤ MC ∧ 0 + MS ≤ MS := by omega
  unfold wX0_met at h
  refine lv_aload_n (pc := 0) hx hb dX0_met_0 rfl (lv_at hl 0 rfl) ?_
  refine lv_iload_n (pc := 1) hx hb dX0_met_1 rfl (lv_at hl 1 rfl) ?_
  obtain ⟨f8, f9, f10, f11, f12, f13, f14, f15, f16, f17, f18, f19, f20, f21, f22, f23, f24, f25, f26, hN7, h⟩ := h
  obtain ⟨mc3, ms4, hm5, hm6, h⟩ := h
  refine c_callJ (pc := 2) (val := vQ) X hw (vx_runVW (C := RX0) (As := [.int x1]) (rest := []) X.1 (tX0_at hL X.2.2.1 (sz := H.size) h) (vx_cwVW 1 hts (lw_VW q898 q900 qs20 q102 q901) rfl rfl rfl ⟨rfl, by decide, by decide, (by decide +kernel : (parseMethodDescriptor yX0_at.desc).map (fun d => d.parameters.length) = some 1)⟩ ⟨Nat.le_of_ble_eq_true rfl, Nat.le_of_ble_eq_true rfl⟩) ⟨cPre_blind, c_recv X hw hN7 rfl, fun U hU hW => ⟨rfl, X.preJ hw hU hW⟩⟩ rfl rfl hl.1 rfl (lv_room (Nat.le_of_ble_eq_true rfl)) dX0_met_2 ⟨show 0 + mc3 ≤ MC by omega, show 0 + ms4 ≤ MS by omega⟩) (fun r1 N2 H locs h hw => ?_)
  refine W.eq (g2 := F0 m 5 ls (va_rf r1 :: [])) rfl ?_
  refine lq_astore (pc := 5) (lv' := [(4, va_rf r1), (0, .ref x0), (1, .int x1), (2, .int x2), (3, .int x3)]) hx hb dX0_met_5 hl (by decide) rfl (fun ls hl => ?_)
  refine lq_aload (pc := 7) hx hb dX0_met_7 (lv_at hl 0 rfl) ?_
  refine lq_ifnull (pc := 9) (tgt := 32) hx hb dX0_met_9 rfl (fun hz27 => ?_) (fun a28 hr29 => ?_)
  · have h := h.1 hz27
    refine lv_ldc2 (pc := 32) hx hb hown (hts _ q1556) dX0_met_32 ?_
    refine W.widen (k := MC) (n := MS) (by omega) (by omega) ?_
    refine cx_ret ?_
    exact W.lret (pc := 35) hx hb hr (fun t ht hW => c_ret (val := vL) (lw := jW) (u := N2) hw h ht) hw.2.2.2 dX0_met_35 hlk
  · have h := h.2 a28 hr29
    refine lv_iload_n (pc := 12) hx hb dX0_met_12 rfl (lv_at hl 3 rfl) ?_
    refine s_call (pc := 13) (val := vI) (As := [.int x2]) (rest := []) X.1 (tX0_isModulus h) (lw_S q1599 q1600 q102 q1601) ⟨by decide, by decide, (by decide +kernel : (parseMethodDescriptor yX0_isModulus.desc).map (fun d => d.parameters.length) = some 1)⟩ ⟨Nat.le_of_ble_eq_true rfl, Nat.le_of_ble_eq_true rfl⟩ hl.1 (Nat.le_of_ble_eq_true rfl) ⟨show 0 + mc3 ≤ MC by omega, show 0 + ms4 ≤ MS by omega⟩ dX0_met_13 rfl (fun r30 h => ?_)
    refine W.eq (g2 := F0 m 16 ls (.int r30 :: [])) rfl ?_
    refine lv_if_eq (pc := 16) (tgt := 32) hx hb dX0_met_16 rfl (fun c31 => ?_) (fun c31 => ?_)
    · have h := h.1 c31
      refine lv_ldc2 (pc := 32) hx hb hown (hts _ q1556) dX0_met_32 ?_
      refine W.widen (k := MC) (n := MS) (by omega) (by omega) ?_
      refine cx_ret ?_
      exact W.lret (pc := 35) hx hb hr (fun t ht hW => c_ret (val := vL) (lw := jW) (u := N2) hw h ht) hw.2.2.2 dX0_met_35 hlk
    · have h := h.2 c31
      refine lv_iload_n (pc := 19) hx hb dX0_met_19 rfl (lv_at hl 4 rfl) ?_
      refine lv_i2l (pc := 20) hx hb dX0_met_20 rfl ?_
      refine lv_lconst (pc := 21) (v := (0 : Int64)) hx hb dX0_met_21 (by decide) ?_
      refine lv_iload_n (pc := 22) hx hb dX0_met_22 rfl (lv_at hl 3 rfl) ?_
      refine lv_iconst (pc := 23) (v := (1 : Int32)) hx hb dX0_met_23 (by decide) ?_
      refine lv_isub (pc := 24) hx hb dX0_met_24 ?_
      refine lv_i2l (pc := 25) hx hb dX0_met_25 rfl ?_
      refine s_call (pc := 26) (val := vI) (As := [.long x3.toInt64, .long (0 : Int64), .long ((x2 - (1 : Int32)).toInt64)]) (rest := []) X.1 (tX0_isIn h) (lw_S q380 q381 q102 q382) ⟨by decide, by decide, (by decide +kernel : (parseMethodDescriptor yX0_isIn.desc).map (fun d => d.parameters.length) = some 3)⟩ ⟨Nat.le_of_ble_eq_true rfl, Nat.le_of_ble_eq_true rfl⟩ hl.1 (Nat.le_of_ble_eq_true rfl) ⟨show 0 + mc3 ≤ MC by omega, show 0 + ms4 ≤ MS by omega⟩ dX0_met_26 rfl (fun r32 h => ?_)
      refine W.eq (g2 := F0 m 29 ls (.int r32 :: [])) rfl ?_
      refine lv_if_ne (pc := 29) (tgt := 36) hx hb dX0_met_29 rfl (fun c33 => ?_) (fun c33 => ?_)
      · have h := h.2 c33
        refine lv_aload_n (pc := 36) hx hb dX0_met_36 rfl (lv_at hl 1 rfl) ?_
        refine lq_aload (pc := 37) hx hb dX0_met_37 (lv_at hl 0 rfl) ?_
        refine lv_iload_n (pc := 39) hx hb dX0_met_39 rfl (lv_at hl 3 rfl) ?_
        obtain ⟨f37, f38, f39, f40, f41, f42, f43, f44, f45, f46, f47, f48, f49, f50, f51, f52, f53, f54, f55, hN36, h⟩ := h
        refine c_callJ (pc := 40) (val := vV) X hw (va_runV (C := RX0) (As := [va_rf r1, .int x2]) (rest := []) X.1 (tX0_laysClasses X.2.2.1 (sz := H.size) h) (cwV 2 hts (lw_V q1603 q1605 qs38 q102 q1606) rfl rfl rfl ⟨rfl, by decide, by decide, (by decide +kernel : (parseMethodDescriptor yX0_laysClasses.desc).map (fun d => d.parameters.length) = some 2)⟩ ⟨Nat.le_of_ble_eq_true rfl, Nat.le_of_ble_eq_true rfl⟩) ⟨cPre_blind, c_recv X hw hN36 rfl, fun U hU hW => ⟨rfl, X.preJ hw hU hW⟩⟩ rfl rfl hl.1 rfl (lv_room (Nat.le_of_ble_eq_true rfl)) dX0_met_40 ⟨show 0 + mc3 + 0 ≤ MC by omega, show 0 + ms4 + 0 ≤ MS by omega⟩) (fun _ N35 H locs h hw => ?_)
        refine W.eq (g2 := F0 m 43 ls ([])) rfl ?_
        refine lv_aload_n (pc := 43) hx hb dX0_met_43 rfl (lv_at hl 1 rfl) ?_
        obtain ⟨f57, f58, f59, f60, f61, f62, f63, f64, f65, f66, f67, f68, f69, f70, f71, f72, f73, f74, f75, hN56, h⟩ := h
        refine c_get (pc := 44) X hw hN56 in_X0 rfl 14 (by decide) q231 rfl rfl dX0_met_44 ?_
        refine lv_iload_n (pc := 47) hx hb dX0_met_47 rfl (lv_at hl 4 rfl) ?_
        obtain ⟨a76, hr77, h⟩ := h
        refine W.eq (g2 := F0 m 48 ls [.int x3, .ref a76]) (by rw [hr77]; rfl) ?_
        obtain ⟨n79, f80, hN78, h⟩ := h
        obtain ⟨hi, h⟩ := h
        refine c_lald (pc := 48) X hw hN78 hi dX0_met_48 ?_
        refine W.widen (k := MC) (n := MS) (by omega) (by omega) ?_
        refine cx_ret ?_
        exact W.lret (pc := 49) hx hb hr (fun t ht hW => c_ret (val := vL) (lw := jW) (u := N35) hw h ht) hw.2.2.2 dX0_met_49 hlk
      · have h := h.1 c33
        refine lv_ldc2 (pc := 32) hx hb hown (hts _ q1556) dX0_met_32 ?_
        refine W.widen (k := MC) (n := MS) (by omega) (by omega) ?_
        refine cx_ret ?_
        exact W.lret (pc := 35) hx hb hr (fun t ht hW => c_ret (val := vL) (lw := jW) (u := N2) hw h ht) hw.2.2.2 dX0_met_35 hlk
theorem tX0_met {l : Launch} (hL : l.stackTraces = false) {G : gG} (hO : gOk G) {post : Int64 → NM → Prop} {MC MS : Nat} {N : NM} {x0 : Nat} {x1 : Int32} {x2 : Int32} {x3 : Int32} {sz : Nat} (h : wX0_met (gC G) post MC MS N x0 x1 x2 x3) : Met l yX0_met (ws_ yX0_met cX0_met 5 (some .long)) ⟨10, MC, MS, 10322⟩ (va_Pc [.ref x0, .int x1, .int x2, .int x3] (cPre G [] N sz)) (gQ vL post (fun u H => cBw G (cA [] N sz) (jW u).1 (jW u).2 H) (cA [] N sz)) MC MS (cA [] N sz) := cx_toMet (txX0_met hL hO h)

def wX0_meets_173 (K : Nat → Nat → Nat) (K65 : Nat → Int32 → Int32 → Option Nat → Int32 → Int32 → Nat → Nat → NM → Prop) (post : Int32 → NM → Prop) (x0 : Nat) (x2 : Int32) (x4 : Int32) (x5 : Option Nat) (x6 : Int32) (x7 : Int32) (mc ms : Nat) (N : NM) : Prop :=
  K65 x0 x2 x4 x5 x6 (x7 + (1 : Int32)) mc ms N
def wX0_meets_88 (K : Nat → Nat → Nat) (K65 : Nat → Int32 → Int32 → Option Nat → Int32 → Int32 → Nat → Nat → NM → Prop) (post : Int32 → NM → Prop) : Nat → Nat → Int32 → Int32 → Option Nat → Int32 → Int32 → Int32 → Nat → Nat → NM → Prop
  | 0, _, _, _, _, _, _, _, _, _, _ => False
  | n + 1, x0, x2, x4, x5, x6, x7, x8, mc, ms, N => ∃ a94, x5 = some a94 ∧ (∃ f97, N a94 = some (eO 7 [va_rf f97]) ∧ (∃ a98, f97 = some a98 ∧ (∃ n101 f102, N a98 = some (eR 5 n101 f102) ∧ (vp_in x7 n101 ∧ (∃ a103, (f102 x7.toNatClampNeg) = some a103 ∧ (∃ f108 f109 f110 f111, N a103 = some (eO 6 [.int f108, .int f109, .int f110, va_rf f111]) ∧ (wX4_rounds K (fun r105 N106 => ((r105 ≤ x8) → (wX0_meets_173 K K65 post x0 x2 x4 x5 x6 x7 mc ms N106)) ∧ (¬ (r105 ≤ x8) → (∃ f114, N106 a94 = some (eO 7 [va_rf f114]) ∧ (∃ a115, f114 = some a115 ∧ (∃ n118 f119, N106 a115 = some (eR 5 n118 f119) ∧ (vp_in x7 n118 ∧ (∃ a120, (f119 x7.toNatClampNeg) = some a120 ∧ (∃ f125 f126 f127 f128, N106 a120 = some (eO 6 [.int f125, .int f126, .int f127, va_rf f128]) ∧ (wX4_value K (fun r122 N123 => ¬ x2.toInt64 = 0 ∧ (wJ14_floorMod (fun r129 => ∃ f131 f132 f133 f134 f135 f136 f137 f138 f139 f140 f141 f142 f143 f144 f145 f146 f147 f148 f149, N123 x0 = some (eO 1 [va_rf f131, va_rf f132, va_rf f133, va_rf f134, va_rf f135, va_rf f136, va_rf f137, va_rf f138, va_rf f139, .int f140, .int f141, va_rf f142, va_rf f143, .int f144, va_rf f145, va_rf f146, va_rf f147, va_rf f148, va_rf f149]) ∧ (∃ a150, f147 = some a150 ∧ (∃ n153 f154, N123 a150 = some (eR 7 n153 f154) ∧ (vp_in (x7 + (1 : Int32)) n153 ∧ (∃ a155, (f154 (x7 + (1 : Int32)).toNatClampNeg) = some a155 ∧ (∃ n158 f159, N123 a155 = some (eN 2 n158 f159) ∧ (vp_in r129 n158 ∧ ((((f159 r129.toNatClampNeg) = (0 : Int32)) → (wX0_meets_88 K K65 post n x0 x2 x4 x5 x6 x7 (x8 + (1 : Int32)) mc ms N123)) ∧ (¬ ((f159 r129.toNatClampNeg) = (0 : Int32)) → (((x7 = x4) → (post x8 N123)) ∧ (¬ (x7 = x4) → (wX0_meets_173 K K65 post x0 x2 x4 x5 r129 x7 mc ms N123)))))))))))) (x6 - ((r122 - r122 / x2.toInt64 * x2.toInt64).toInt32)) x2)) N106 a120 x8.toInt64))))))))) N a103 x2)))))))
def wX0_meets_65 (K : Nat → Nat → Nat) (post : Int32 → NM → Prop) : Nat → Nat → Int32 → Int32 → Option Nat → Int32 → Int32 → Nat → Nat → NM → Prop
  | 0, _, _, _, _, _, _, _, _, _ => False
  | n + 1, x0, x2, x4, x5, x6, x7, mc, ms, N => ((x4 < x7) → (post (-1 : Int32) N)) ∧ (¬ (x4 < x7) → (∃ f64 f65 f66 f67 f68 f69 f70 f71 f72 f73 f74 f75 f76 f77 f78 f79 f80 f81 f82, N x0 = some (eO 1 [va_rf f64, va_rf f65, va_rf f66, va_rf f67, va_rf f68, va_rf f69, va_rf f70, va_rf f71, va_rf f72, .int f73, .int f74, va_rf f75, va_rf f76, .int f77, va_rf f78, va_rf f79, va_rf f80, va_rf f81, va_rf f82]) ∧ (∃ a83, f80 = some a83 ∧ (∃ n86 f87, N a83 = some (eR 7 n86 f87) ∧ (vp_in x7 n86 ∧ (∃ a88, (f87 x7.toNatClampNeg) = some a88 ∧ (∃ n91 f92, N a88 = some (eN 2 n91 f92) ∧ (vp_in x6 n91 ∧ ((((f92 x6.toNatClampNeg) = (0 : Int32)) → (post (-1 : Int32) N)) ∧ (¬ ((f92 x6.toNatClampNeg) = (0 : Int32)) → ((∃ k, wX0_meets_88 K (fun x0 x2 x4 x5 x6 x7 mc ms N => wX0_meets_65 K post n x0 x2 x4 x5 x6 x7 mc ms N) post k x0 x2 x4 x5 x6 x7 (0 : Int32) mc ms N))))))))))))
def wX0_meets (K : Nat → Nat → Nat) (post : Int32 → NM → Prop) (MC MS : Nat) (N : NM) (x0 : Nat) (x1 : Int32) (x2 : Int32) (x3 : Int32) (x4 : Int32) : Prop :=
  ∃ f8 f9 f10 f11 f12 f13 f14 f15 f16 f17 f18 f19 f20 f21 f22 f23 f24 f25 f26, N x0 = some (eO 1 [va_rf f8, va_rf f9, va_rf f10, va_rf f11, va_rf f12, va_rf f13, va_rf f14, va_rf f15, va_rf f16, .int f17, .int f18, va_rf f19, va_rf f20, .int f21, va_rf f22, va_rf f23, va_rf f24, va_rf f25, va_rf f26]) ∧ (∃ mc3 ms4, mc3 ≤ MC ∧ ms4 ≤ MS ∧ wX0_at K (fun r1 N2 => (r1 = none → (post (-1 : Int32) N2)) ∧ (∀ a28, r1 = some a28 → (wX0_isModulus (fun r30 => ((r30 = (0 : Int32)) → (post (-1 : Int32) N2)) ∧ (¬ (r30 = (0 : Int32)) → (wX0_isIn (fun r32 => ((r32 = (0 : Int32)) → (post (-1 : Int32) N2)) ∧ (¬ (r32 = (0 : Int32)) → (∃ f37, N2 a28 = some (eO 7 [va_rf f37]) ∧ (wX6_many K (fun r34 N35 => wX0_isIn (fun r38 => ((r38 = (0 : Int32)) → (post (-1 : Int32) N35)) ∧ (¬ (r38 = (0 : Int32)) → (∃ f43 f44 f45 f46 f47 f48 f49 f50 f51 f52 f53 f54 f55 f56 f57 f58 f59 f60 f61, N35 x0 = some (eO 1 [va_rf f43, va_rf f44, va_rf f45, va_rf f46, va_rf f47, va_rf f48, va_rf f49, va_rf f50, va_rf f51, .int f52, .int f53, va_rf f54, va_rf f55, .int f56, va_rf f57, va_rf f58, va_rf f59, va_rf f60, va_rf f61]) ∧ (wX0_laysCan K (fun _ N41 => (∃ k, wX0_meets_65 K post k x0 x2 x4 r1 x3 (0 : Int32) (MC - mc3) (MS - ms4) N41)) N35 x0 r1 x2)))) x4.toInt64 (0 : Int64) ((r34 - (1 : Int32)).toInt64)) N2 a28)))) x3.toInt64 (0 : Int64) ((x2 - (1 : Int32)).toInt64)))) x2))) mc3 ms4 N x0 x1)
theorem kX0_meets_173 {p : Program} {l : Launch} {e : Env} {s : State} {m : MethodId} {args : Array Value} {below : List Frame} {meth : Method} {c : Code} {G : gG} {A : Nat → Prop} {MC MS : Nat} {K65 : Nat → Int32 → Int32 → Option Nat → Int32 → Int32 → Nat → Nat → NM → Prop} {post : Int32 → NM → Prop} (X : cX G A RX0 p s m args c cX0_meets 10) (hr : meth.sig.returnType = (some .int)) (hlk : meth.locks = false) (hL : l.stackTraces = false) (hT : c.exceptionTable.toList = tableOf []) (hK65 : ∀ (x0 : Nat) (x2 : Int32) (x4 : Int32) (x5 : Option Nat) (x6 : Int32) (x7 : Int32) (mc ms : Nat) (N : NM) (H : Heap) (locs : List Loc) (ls : Array Slot) (cells slots : Nat), K65 x0 x2 x4 x5 x6 x7 mc ms N → (cH G A s [] N H locs ∧ cells + mc ≤ MC ∧ slots + ms ≤ MS) → lv_has ls 10 [(0, .ref x0), (2, .int x2), (4, .int x4), (5, va_rf x5), (6, .int x6), (7, .int x7)] → W p l e ⟨10, MC, MS, 10322⟩ s m args below meth c H locs cells slots (cx_MQ below (gQ vI post (fun u H => cBw G A (jW u).1 (jW u).2 H) A) (cXC G A [] (fun _ _ _ => False)) args s MC MS A) (F0 m 65 ls [])) : ∀ (x0 : Nat) (x2 : Int32) (x4 : Int32) (x5 : Option Nat) (x6 : Int32) (x7 : Int32) (mc ms : Nat) (N : NM) (H : Heap) (locs : List Loc) (ls : Array Slot) (cells slots : Nat), wX0_meets_173 (gC G) K65 post x0 x2 x4 x5 x6 x7 mc ms N → (cH G A s [] N H locs ∧ cells + mc ≤ MC ∧ slots + ms ≤ MS) → lv_has ls 10 [(0, .ref x0), (2, .int x2), (4, .int x4), (5, va_rf x5), (6, .int x6), (7, .int x7)] → W p l e ⟨10, MC, MS, 10322⟩ s m args below meth c H locs cells slots (cx_MQ below (gQ vI post (fun u H => cBw G A (jW u).1 (jW u).2 H) A) (cXC G A [] (fun _ _ _ => False)) args s MC MS A) (F0 m 173 ls []) := by
  have hx := X.1.1
  have hb := X.1.2.1
  have hml := X.1.2.2.1
  have hown := X.1.2.2.2.1
  have hts := X.1.2.2.2.2
  intro x0 x2 x4 x5 x6 x7 mc ms N H locs ls cells slots h hw0 hl
  obtain ⟨hw, hbud⟩ := hw0
  unfold wX0_meets_173 at h
  refine lv_iinc (pc := 173) (v := x7 + (1 : Int32)) (lv' := [(7, .int (x7 + (1 : Int32))), (0, .ref x0), (2, .int x2), (4, .int x4), (5, va_rf x5), (6, .int x6)]) hx hb dX0_meets_173 hl (k := 5) rfl rfl (by decide) rfl (fun ls hl => ?_)
  refine lv_goto (pc := 176) (tgt := 65) hx hb dX0_meets_176 rfl ?_
  exact hK65 _ _ _ _ _ _ _ _ _ _ _ _ _ _ h ⟨hw, by omega⟩ (lv_sub hl [1, 2, 3, 4, 5, 0] rfl)
theorem kX0_meets_88 {p : Program} {l : Launch} {e : Env} {s : State} {m : MethodId} {args : Array Value} {below : List Frame} {meth : Method} {c : Code} {G : gG} {A : Nat → Prop} {MC MS : Nat} {K65 : Nat → Int32 → Int32 → Option Nat → Int32 → Int32 → Nat → Nat → NM → Prop} {post : Int32 → NM → Prop} (X : cX G A RX0 p s m args c cX0_meets 10) (hr : meth.sig.returnType = (some .int)) (hlk : meth.locks = false) (hL : l.stackTraces = false) (hT : c.exceptionTable.toList = tableOf []) (hK65 : ∀ (x0 : Nat) (x2 : Int32) (x4 : Int32) (x5 : Option Nat) (x6 : Int32) (x7 : Int32) (mc ms : Nat) (N : NM) (H : Heap) (locs : List Loc) (ls : Array Slot) (cells slots : Nat), K65 x0 x2 x4 x5 x6 x7 mc ms N → (cH G A s [] N H locs ∧ cells + mc ≤ MC ∧ slots + ms ≤ MS) → lv_has ls 10 [(0, .ref x0), (2, .int x2), (4, .int x4), (5, va_rf x5), (6, .int x6), (7, .int x7)] → W p l e ⟨10, MC, MS, 10322⟩ s m args below meth c H locs cells slots (cx_MQ below (gQ vI post (fun u H => cBw G A (jW u).1 (jW u).2 H) A) (cXC G A [] (fun _ _ _ => False)) args s MC MS A) (F0 m 65 ls [])) : ∀ (n : Nat) (x0 : Nat) (x2 : Int32) (x4 : Int32) (x5 : Option Nat) (x6 : Int32) (x7 : Int32) (x8 : Int32) (mc ms : Nat) (N : NM) (H : Heap) (locs : List Loc) (ls : Array Slot) (cells slots : Nat), wX0_meets_88 (gC G) K65 post n x0 x2 x4 x5 x6 x7 x8 mc ms N → (cH G A s [] N H locs ∧ cells + mc ≤ MC ∧ slots + ms ≤ MS) → lv_has ls 10 [(0, .ref x0), (2, .int x2), (4, .int x4), (5, va_rf x5), (6, .int x6), (7, .int x7), (8, .int x8)] → W p l e ⟨10, MC, MS, 10322⟩ s m args below meth c H locs cells slots (cx_MQ below (gQ vI post (fun u H => cBw G A (jW u).1 (jW u).2 H) A) (cXC G A [] (fun _ _ _ => False)) args s MC MS A) (F0 m 88 ls []) := by
  have hx := X.1.1
  have hb := X.1.2.1
  have hml := X.1.2.2.1
  have hown := X.1.2.2.2.1
  have hts := X.1.2.2.2.2
  intro n
  induction n with
  | zero =>
    intro x0 x2 x4 x5 x6 x7 x8 mc ms N H locs ls cells slots h
    exact False.elim h
  | succ n ih =>
    intro x0 x2 x4 x5 x6 x7 x8 mc ms N H locs ls cells slots h hw0 hl
    obtain ⟨hw, hbud⟩ := hw0
    unfold wX0_meets_88 at h
    refine lv_iload (pc := 88) hx hb dX0_meets_88 (lv_at hl 6 rfl) ?_
    refine lq_aload (pc := 90) hx hb dX0_meets_90 (lv_at hl 3 rfl) ?_
    obtain ⟨a94, hr95, h⟩ := h
    refine W.eq (g2 := F0 m 92 ls [.ref a94, .int x8]) (by rw [hr95]; rfl) ?_
    obtain ⟨f97, hN96, h⟩ := h
    refine c_getN (pc := 92) X hw hN96 in_X6 rfl 0 (by decide) q885 rfl rfl dX0_meets_92 ?_
    refine lv_iload (pc := 95) hx hb dX0_meets_95 (lv_at hl 5 rfl) ?_
    obtain ⟨a98, hr99, h⟩ := h
    refine W.eq (g2 := F0 m 97 ls [.int x7, .ref a98, .int x8]) (by rw [hr99]; rfl) ?_
    obtain ⟨n101, f102, hN100, h⟩ := h
    obtain ⟨hi, h⟩ := h
    refine c_aald (pc := 97) X hw 5 hN100 rfl hi dX0_meets_97 ?_
    refine lv_iload_n (pc := 98) hx hb dX0_meets_98 rfl (lv_at hl 1 rfl) ?_
    obtain ⟨a103, hr104, h⟩ := h
    refine W.eq (g2 := F0 m 99 ls [.int x2, .ref a103, .int x8]) (by rw [hr104]; rfl) ?_
    obtain ⟨f108, f109, f110, f111, hN107, h⟩ := h
    refine c_callJ (pc := 99) (val := vI) X hw (va_runV (C := RX4) (As := [.int x2]) (rest := [.int x8]) X.1 (tX4_rounds X.2.2.1 (sz := H.size) h) (cwV 1 hts (lw_V q1607 q1608 q1609 q126 q1610) rfl rfl rfl ⟨rfl, by decide, by decide, (by decide +kernel : (parseMethodDescriptor yX4_rounds.desc).map (fun d => d.parameters.length) = some 1)⟩ ⟨Nat.le_of_ble_eq_true rfl, Nat.le_of_ble_eq_true rfl⟩) ⟨cPre_blind, c_recv X hw hN107 rfl, fun U hU hW => ⟨rfl, X.preJ hw hU hW⟩⟩ rfl rfl hl.1 rfl (lv_room (Nat.le_of_ble_eq_true rfl)) dX0_meets_99 ⟨show cells + 0 ≤ MC by omega, show slots + 0 ≤ MS by omega⟩) (fun r105 N106 H locs h hw => ?_)
    refine W.eq (g2 := F0 m 102 ls (.int r105 :: [.int x8])) rfl ?_
    refine lv_icmp_ge (pc := 102) (tgt := 173) hx hb dX0_meets_102 rfl (fun c112 => ?_) (fun c112 => ?_)
    · have h := h.1 c112
      exact kX0_meets_173 X hr hlk hL hT hK65 _ _ _ _ _ _ _ _ _ _ _ _ _ _ h ⟨hw, by omega⟩ (lv_sub hl [0, 1, 2, 3, 4, 5] rfl)
    · have h := h.2 c112
      refine lv_iload (pc := 105) hx hb dX0_meets_105 (lv_at hl 4 rfl) ?_
      refine lq_aload (pc := 107) hx hb dX0_meets_107 (lv_at hl 3 rfl) ?_
      refine W.eq (g2 := F0 m 109 ls [.ref a94, .int x6]) (by rw [hr95]; rfl) ?_
      obtain ⟨f114, hN113, h⟩ := h
      refine c_getN (pc := 109) X hw hN113 in_X6 rfl 0 (by decide) q885 rfl rfl dX0_meets_109 ?_
      refine lv_iload (pc := 112) hx hb dX0_meets_112 (lv_at hl 5 rfl) ?_
      obtain ⟨a115, hr116, h⟩ := h
      refine W.eq (g2 := F0 m 114 ls [.int x7, .ref a115, .int x6]) (by rw [hr116]; rfl) ?_
      obtain ⟨n118, f119, hN117, h⟩ := h
      obtain ⟨hi, h⟩ := h
      refine c_aald (pc := 114) X hw 5 hN117 rfl hi dX0_meets_114 ?_
      refine lv_iload (pc := 115) hx hb dX0_meets_115 (lv_at hl 6 rfl) ?_
      refine lv_i2l (pc := 117) hx hb dX0_meets_117 rfl ?_
      obtain ⟨a120, hr121, h⟩ := h
      refine W.eq (g2 := F0 m 118 ls [.long x8.toInt64, .ref a120, .int x6]) (by rw [hr121]; rfl) ?_
      obtain ⟨f125, f126, f127, f128, hN124, h⟩ := h
      refine c_callJ (pc := 118) (val := vL) X hw (va_runV (C := RX4) (As := [.long x8.toInt64]) (rest := [.int x6]) X.1 (tX4_value X.2.2.1 (sz := H.size) h) (cwV 1 hts (lw_V q1383 q738 q739 q126 q740) rfl rfl rfl ⟨rfl, by decide, by decide, (by decide +kernel : (parseMethodDescriptor yX4_value.desc).map (fun d => d.parameters.length) = some 1)⟩ ⟨Nat.le_of_ble_eq_true rfl, Nat.le_of_ble_eq_true rfl⟩) ⟨cPre_blind, c_recv X hw hN124 rfl, fun U hU hW => ⟨rfl, X.preJ hw hU hW⟩⟩ rfl rfl hl.1 rfl (lv_room (Nat.le_of_ble_eq_true rfl)) dX0_meets_118 ⟨show cells + 0 + 0 ≤ MC by omega, show slots + 0 + 0 ≤ MS by omega⟩) (fun r122 N123 H locs h hw => ?_)
      refine W.eq (g2 := F0 m 121 ls (.long r122 :: [.int x6])) rfl ?_
      refine lv_iload_n (pc := 121) hx hb dX0_meets_121 rfl (lv_at hl 1 rfl) ?_
      refine lv_i2l (pc := 122) hx hb dX0_meets_122 rfl ?_
      obtain ⟨hne, h⟩ := h
      refine lv_lrem (pc := 123) hx hb dX0_meets_123 hne ?_
      refine lv_l2i (pc := 124) hx hb dX0_meets_124 rfl ?_
      refine lv_isub (pc := 125) hx hb dX0_meets_125 ?_
      refine lv_iload_n (pc := 126) hx hb dX0_meets_126 rfl (lv_at hl 1 rfl) ?_
      refine s_call (pc := 127) (val := vI) (As := [.int (x6 - ((r122 - r122 / x2.toInt64 * x2.toInt64).toInt32)), .int x2]) (rest := []) X.1 (tJ14_floorMod h) (lw_S q1612 q1613 q121 q1614) ⟨by decide, by decide, (by decide +kernel : (parseMethodDescriptor yJ14_floorMod.desc).map (fun d => d.parameters.length) = some 2)⟩ ⟨Nat.le_of_ble_eq_true rfl, Nat.le_of_ble_eq_true rfl⟩ hl.1 (Nat.le_of_ble_eq_true rfl) ⟨show cells + 0 + 0 ≤ MC by omega, show slots + 0 + 0 ≤ MS by omega⟩ dX0_meets_127 rfl (fun r129 h => ?_)
      refine W.eq (g2 := F0 m 130 ls (.int r129 :: [])) rfl ?_
      refine lv_istore (pc := 130) (lv' := [(9, .int r129), (0, .ref x0), (2, .int x2), (4, .int x4), (5, va_rf x5), (6, .int x6), (7, .int x7), (8, .int x8)]) hx hb dX0_meets_130 hl (by decide) rfl (fun ls hl => ?_)
      refine lv_aload_n (pc := 132) hx hb dX0_meets_132 rfl (lv_at hl 1 rfl) ?_
      obtain ⟨f131, f132, f133, f134, f135, f136, f137, f138, f139, f140, f141, f142, f143, f144, f145, f146, f147, f148, f149, hN130, h⟩ := h
      refine c_get (pc := 133) X hw hN130 in_X0 rfl 16 (by decide) q233 rfl rfl dX0_meets_133 ?_
      refine lv_iload (pc := 136) hx hb dX0_meets_136 (lv_at hl 6 rfl) ?_
      refine lv_iconst (pc := 138) (v := (1 : Int32)) hx hb dX0_meets_138 (by decide) ?_
      refine lv_iadd (pc := 139) hx hb dX0_meets_139 ?_
      obtain ⟨a150, hr151, h⟩ := h
      refine W.eq (g2 := F0 m 140 ls [.int (x7 + (1 : Int32)), .ref a150]) (by rw [hr151]; rfl) ?_
      obtain ⟨n153, f154, hN152, h⟩ := h
      obtain ⟨hi, h⟩ := h
      refine c_aaldT (pc := 140) X hw 7 hN152 rfl hi dX0_meets_140 ?_
      refine lv_iload (pc := 141) hx hb dX0_meets_141 (lv_at hl 0 rfl) ?_
      obtain ⟨a155, hr156, h⟩ := h
      refine W.eq (g2 := F0 m 143 ls [.int r129, .ref a155]) (by rw [hr156]; rfl) ?_
      obtain ⟨n158, f159, hN157, h⟩ := h
      obtain ⟨hi, h⟩ := h
      refine c_zald (pc := 143) X hw hN157 hi dX0_meets_143 ?_
      refine lv_if_ne (pc := 144) (tgt := 150) hx hb dX0_meets_144 rfl (fun c160 => ?_) (fun c160 => ?_)
      · have h := h.2 c160
        refine lv_iload (pc := 150) hx hb dX0_meets_150 (lv_at hl 6 rfl) ?_
        refine lv_iload (pc := 152) hx hb dX0_meets_152 (lv_at hl 3 rfl) ?_
        refine lv_icmp_ne (pc := 154) (tgt := 160) hx hb dX0_meets_154 rfl (fun c161 => ?_) (fun c161 => ?_)
        · have h := h.2 c161
          refine lv_iload (pc := 160) hx hb dX0_meets_160 (lv_at hl 0 rfl) ?_
          refine lv_istore (pc := 162) (i := 6) (lv' := [(6, .int r129), (9, .int r129), (0, .ref x0), (2, .int x2), (4, .int x4), (5, va_rf x5), (7, .int x7), (8, .int x8)]) hx hb dX0_meets_162 hl (by decide) (by simp [rf_c]) (fun ls hl => ?_)
          refine lv_goto (pc := 164) (tgt := 173) hx hb dX0_meets_164 rfl ?_
          exact kX0_meets_173 X hr hlk hL hT hK65 _ _ _ _ _ _ _ _ _ _ _ _ _ _ h ⟨hw, by omega⟩ (lv_sub hl [2, 3, 4, 5, 0, 6] rfl)
        · have h := h.1 c161
          refine lv_iload (pc := 157) hx hb dX0_meets_157 (lv_at hl 7 rfl) ?_
          refine W.widen (k := MC) (n := MS) (by omega) (by omega) ?_
          refine cx_ret ?_
          exact W.iret (pc := 159) hx hb hr (fun t ht hW => c_ret (val := vI) (lw := jW) (u := N123) hw h ht) hw.2.2.2 dX0_meets_159 hlk
      · have h := h.1 c160
        refine lv_goto (pc := 147) (tgt := 167) hx hb dX0_meets_147 rfl ?_
        refine lv_iinc (pc := 167) (v := x8 + (1 : Int32)) (lv' := [(8, .int (x8 + (1 : Int32))), (9, .int r129), (0, .ref x0), (2, .int x2), (4, .int x4), (5, va_rf x5), (6, .int x6), (7, .int x7)]) hx hb dX0_meets_167 hl (k := 7) rfl rfl (by decide) rfl (fun ls hl => ?_)
        refine lv_goto (pc := 170) (tgt := 88) hx hb dX0_meets_170 rfl ?_
        exact ih _ _ _ _ _ _ _ _ _ _ _ _ _ _ _ h ⟨hw, by omega⟩ (lv_sub hl [2, 3, 4, 5, 6, 7, 0] rfl)
theorem kX0_meets_65 {p : Program} {l : Launch} {e : Env} {s : State} {m : MethodId} {args : Array Value} {below : List Frame} {meth : Method} {c : Code} {G : gG} {A : Nat → Prop} {MC MS : Nat} {post : Int32 → NM → Prop} (X : cX G A RX0 p s m args c cX0_meets 10) (hr : meth.sig.returnType = (some .int)) (hlk : meth.locks = false) (hL : l.stackTraces = false) (hT : c.exceptionTable.toList = tableOf []) : ∀ (n : Nat) (x0 : Nat) (x2 : Int32) (x4 : Int32) (x5 : Option Nat) (x6 : Int32) (x7 : Int32) (mc ms : Nat) (N : NM) (H : Heap) (locs : List Loc) (ls : Array Slot) (cells slots : Nat), wX0_meets_65 (gC G) post n x0 x2 x4 x5 x6 x7 mc ms N → (cH G A s [] N H locs ∧ cells + mc ≤ MC ∧ slots + ms ≤ MS) → lv_has ls 10 [(0, .ref x0), (2, .int x2), (4, .int x4), (5, va_rf x5), (6, .int x6), (7, .int x7)] → W p l e ⟨10, MC, MS, 10322⟩ s m args below meth c H locs cells slots (cx_MQ below (gQ vI post (fun u H => cBw G A (jW u).1 (jW u).2 H) A) (cXC G A [] (fun _ _ _ => False)) args s MC MS A) (F0 m 65 ls []) := by
  have hx := X.1.1
  have hb := X.1.2.1
  have hml := X.1.2.2.1
  have hown := X.1.2.2.2.1
  have hts := X.1.2.2.2.2
  intro n
  induction n with
  | zero =>
    intro x0 x2 x4 x5 x6 x7 mc ms N H locs ls cells slots h
    exact False.elim h
  | succ n ih =>
    intro x0 x2 x4 x5 x6 x7 mc ms N H locs ls cells slots h hw0 hl
    obtain ⟨hw, hbud⟩ := hw0
    unfold wX0_meets_65 at h
    refine lv_iload (pc := 65) hx hb dX0_meets_65 (lv_at hl 5 rfl) ?_
    refine lv_iload (pc := 67) hx hb dX0_meets_67 (lv_at hl 2 rfl) ?_
    refine lv_icmp_gt (pc := 69) (tgt := 179) hx hb dX0_meets_69 rfl (fun c62 => ?_) (fun c62 => ?_)
    · have h := h.1 c62
      refine lv_iconst (pc := 179) (v := (-1 : Int32)) hx hb dX0_meets_179 (by decide) ?_
      refine W.widen (k := MC) (n := MS) (by omega) (by omega) ?_
      refine cx_ret ?_
      exact W.iret (pc := 180) hx hb hr (fun t ht hW => c_ret (val := vI) (lw := jW) (u := N) hw h ht) hw.2.2.2 dX0_meets_180 hlk
    · have h := h.2 c62
      refine lv_aload_n (pc := 72) hx hb dX0_meets_72 rfl (lv_at hl 0 rfl) ?_
      obtain ⟨f64, f65, f66, f67, f68, f69, f70, f71, f72, f73, f74, f75, f76, f77, f78, f79, f80, f81, f82, hN63, h⟩ := h
      refine c_get (pc := 73) X hw hN63 in_X0 rfl 16 (by decide) q233 rfl rfl dX0_meets_73 ?_
      refine lv_iload (pc := 76) hx hb dX0_meets_76 (lv_at hl 5 rfl) ?_
      obtain ⟨a83, hr84, h⟩ := h
      refine W.eq (g2 := F0 m 78 ls [.int x7, .ref a83]) (by rw [hr84]; rfl) ?_
      obtain ⟨n86, f87, hN85, h⟩ := h
      obtain ⟨hi, h⟩ := h
      refine c_aaldT (pc := 78) X hw 7 hN85 rfl hi dX0_meets_78 ?_
      refine lv_iload (pc := 79) hx hb dX0_meets_79 (lv_at hl 4 rfl) ?_
      obtain ⟨a88, hr89, h⟩ := h
      refine W.eq (g2 := F0 m 81 ls [.int x6, .ref a88]) (by rw [hr89]; rfl) ?_
      obtain ⟨n91, f92, hN90, h⟩ := h
      obtain ⟨hi, h⟩ := h
      refine c_zald (pc := 81) X hw hN90 hi dX0_meets_81 ?_
      refine lv_if_eq (pc := 82) (tgt := 179) hx hb dX0_meets_82 rfl (fun c93 => ?_) (fun c93 => ?_)
      · have h := h.1 c93
        refine lv_iconst (pc := 179) (v := (-1 : Int32)) hx hb dX0_meets_179 (by decide) ?_
        refine W.widen (k := MC) (n := MS) (by omega) (by omega) ?_
        refine cx_ret ?_
        exact W.iret (pc := 180) hx hb hr (fun t ht hW => c_ret (val := vI) (lw := jW) (u := N) hw h ht) hw.2.2.2 dX0_meets_180 hlk
      · have h := h.2 c93
        refine lv_iconst (pc := 85) (v := (0 : Int32)) hx hb dX0_meets_85 (by decide) ?_
        refine lv_istore (pc := 86) (lv' := [(8, .int (0 : Int32)), (0, .ref x0), (2, .int x2), (4, .int x4), (5, va_rf x5), (6, .int x6), (7, .int x7)]) hx hb dX0_meets_86 hl (by decide) rfl (fun ls hl => ?_)
        obtain ⟨k, h⟩ := h
        exact kX0_meets_88 X hr hlk hL hT ih k _ _ _ _ _ _ _ _ _ _ _ _ _ _ _ h ⟨hw, by omega⟩ (lv_sub hl [1, 2, 3, 4, 5, 6, 0] rfl)
theorem txX0_meets {l : Launch} (hL : l.stackTraces = false) {G : gG} (hO : gOk G) {post : Int32 → NM → Prop} {MC MS : Nat} {N : NM} {x0 : Nat} {x1 : Int32} {x2 : Int32} {x3 : Int32} {x4 : Int32} {sz : Nat} (h : wX0_meets (gC G) post MC MS N x0 x1 x2 x3 x4) : cx_Met l yX0_meets (ws_ yX0_meets cX0_meets 10 (some .int)) ⟨10, MC, MS, 10322⟩ (va_Pc [.ref x0, .int x1, .int x2, .int x3, .int x4] (cPre G [] N sz)) (gQ vI post (fun u H => cBw G (cA [] N sz) (jW u).1 (jW u).2 H) (cA [] N sz)) (cXC G (cA [] N sz) [] (fun _ _ _ => False)) MC MS (cA [] N sz) := by
  refine c_ofX (B := fun A u H => cBw G A (jW u).1 (jW u).2 H) (by decide) hO (Nat.le_of_ble_eq_true rfl) (fun p e s m below meth c ls A X hr hlk hT hw hl => ?_)
  have hl : lv_has ls 10 [(0, .ref x0), (1, .int x1), (2, .int x2), (3, .int x3), (4, .int x4)] := hl
  have hx := X.1.1
  have hb := X.1.2.1
  have hml := X.1.2.2.1
  have hown := X.1.2.2.2.1
  have hts := X.1.2.2.2.2
  obtain ⟨H, eH⟩ : ∃ z, z = s.heap := ⟨_, rfl⟩
  rw [← eH] at hw ⊢
  obtain ⟨locs, eLo⟩ : ∃ z : List Loc, z = [] := ⟨_, rfl⟩
  rw [← eLo] at hw ⊢
  have hbud : 0 + MC ≤ MC ∧ 0 + MS ≤ MS := by omega
  unfold wX0_meets at h
  refine lv_aload_n (pc := 0) hx hb dX0_meets_0 rfl (lv_at hl 0 rfl) ?_
  refine lv_iload_n (pc := 1) hx hb dX0_meets_1 rfl (lv_at hl 1 rfl) ?_
  obtain ⟨f8, f9, f10, f11, f12, f13, f14, f15, f16, f17, f18, f19, f20, f21, f22, f23, f24, f25, f26, hN7, h⟩ := h
  obtain ⟨mc3, ms4, hm5, hm6, h⟩ := h
  refine c_callJ (pc := 2) (val := vQ) X hw (vx_runVW (C := RX0) (As := [.int x1]) (rest := []) X.1 (tX0_at hL X.2.2.1 (sz := H.size) h) (vx_cwVW 1 hts (lw_VW q898 q900 qs20 q102 q901) rfl rfl rfl ⟨rfl, by decide, by decide, (by decide +kernel : (parseMethodDescriptor yX0_at.desc).map (fun d => d.parameters.length) = some 1)⟩ ⟨Nat.le_of_ble_eq_true rfl, Nat.le_of_ble_eq_true rfl⟩) ⟨cPre_blind, c_recv X hw hN7 rfl, fun U hU hW => ⟨rfl, X.preJ hw hU hW⟩⟩ rfl rfl hl.1 rfl (lv_room (Nat.le_of_ble_eq_true rfl)) dX0_meets_2 ⟨show 0 + mc3 ≤ MC by omega, show 0 + ms4 ≤ MS by omega⟩) (fun r1 N2 H locs h hw => ?_)
  refine W.eq (g2 := F0 m 5 ls (va_rf r1 :: [])) rfl ?_
  refine lq_astore (pc := 5) (lv' := [(5, va_rf r1), (0, .ref x0), (1, .int x1), (2, .int x2), (3, .int x3), (4, .int x4)]) hx hb dX0_meets_5 hl (by decide) rfl (fun ls hl => ?_)
  refine lq_aload (pc := 7) hx hb dX0_meets_7 (lv_at hl 0 rfl) ?_
  refine lq_ifnull (pc := 9) (tgt := 50) hx hb dX0_meets_9 rfl (fun hz27 => ?_) (fun a28 hr29 => ?_)
  · have h := h.1 hz27
    refine lv_iconst (pc := 50) (v := (-1 : Int32)) hx hb dX0_meets_50 (by decide) ?_
    refine W.widen (k := MC) (n := MS) (by omega) (by omega) ?_
    refine cx_ret ?_
    exact W.iret (pc := 51) hx hb hr (fun t ht hW => c_ret (val := vI) (lw := jW) (u := N2) hw h ht) hw.2.2.2 dX0_meets_51 hlk
  · have h := h.2 a28 hr29
    refine lv_iload_n (pc := 12) hx hb dX0_meets_12 rfl (lv_at hl 3 rfl) ?_
    refine s_call (pc := 13) (val := vI) (As := [.int x2]) (rest := []) X.1 (tX0_isModulus h) (lw_S q1599 q1600 q102 q1601) ⟨by decide, by decide, (by decide +kernel : (parseMethodDescriptor yX0_isModulus.desc).map (fun d => d.parameters.length) = some 1)⟩ ⟨Nat.le_of_ble_eq_true rfl, Nat.le_of_ble_eq_true rfl⟩ hl.1 (Nat.le_of_ble_eq_true rfl) ⟨show 0 + mc3 ≤ MC by omega, show 0 + ms4 ≤ MS by omega⟩ dX0_meets_13 rfl (fun r30 h => ?_)
    refine W.eq (g2 := F0 m 16 ls (.int r30 :: [])) rfl ?_
    refine lv_if_eq (pc := 16) (tgt := 50) hx hb dX0_meets_16 rfl (fun c31 => ?_) (fun c31 => ?_)
    · have h := h.1 c31
      refine lv_iconst (pc := 50) (v := (-1 : Int32)) hx hb dX0_meets_50 (by decide) ?_
      refine W.widen (k := MC) (n := MS) (by omega) (by omega) ?_
      refine cx_ret ?_
      exact W.iret (pc := 51) hx hb hr (fun t ht hW => c_ret (val := vI) (lw := jW) (u := N2) hw h ht) hw.2.2.2 dX0_meets_51 hlk
    · have h := h.2 c31
      refine lv_iload_n (pc := 19) hx hb dX0_meets_19 rfl (lv_at hl 4 rfl) ?_
      refine lv_i2l (pc := 20) hx hb dX0_meets_20 rfl ?_
      refine lv_lconst (pc := 21) (v := (0 : Int64)) hx hb dX0_meets_21 (by decide) ?_
      refine lv_iload_n (pc := 22) hx hb dX0_meets_22 rfl (lv_at hl 3 rfl) ?_
      refine lv_iconst (pc := 23) (v := (1 : Int32)) hx hb dX0_meets_23 (by decide) ?_
      refine lv_isub (pc := 24) hx hb dX0_meets_24 ?_
      refine lv_i2l (pc := 25) hx hb dX0_meets_25 rfl ?_
      refine s_call (pc := 26) (val := vI) (As := [.long x3.toInt64, .long (0 : Int64), .long ((x2 - (1 : Int32)).toInt64)]) (rest := []) X.1 (tX0_isIn h) (lw_S q380 q381 q102 q382) ⟨by decide, by decide, (by decide +kernel : (parseMethodDescriptor yX0_isIn.desc).map (fun d => d.parameters.length) = some 3)⟩ ⟨Nat.le_of_ble_eq_true rfl, Nat.le_of_ble_eq_true rfl⟩ hl.1 (Nat.le_of_ble_eq_true rfl) ⟨show 0 + mc3 ≤ MC by omega, show 0 + ms4 ≤ MS by omega⟩ dX0_meets_26 rfl (fun r32 h => ?_)
      refine W.eq (g2 := F0 m 29 ls (.int r32 :: [])) rfl ?_
      refine lv_if_eq (pc := 29) (tgt := 50) hx hb dX0_meets_29 rfl (fun c33 => ?_) (fun c33 => ?_)
      · have h := h.1 c33
        refine lv_iconst (pc := 50) (v := (-1 : Int32)) hx hb dX0_meets_50 (by decide) ?_
        refine W.widen (k := MC) (n := MS) (by omega) (by omega) ?_
        refine cx_ret ?_
        exact W.iret (pc := 51) hx hb hr (fun t ht hW => c_ret (val := vI) (lw := jW) (u := N2) hw h ht) hw.2.2.2 dX0_meets_51 hlk
      · have h := h.2 c33
        refine lv_iload (pc := 32) hx hb dX0_meets_32 (lv_at hl 5 rfl) ?_
        refine lv_i2l (pc := 34) hx hb dX0_meets_34 rfl ?_
        refine lv_lconst (pc := 35) (v := (0 : Int64)) hx hb dX0_meets_35 (by decide) ?_
        refine lq_aload (pc := 36) hx hb dX0_meets_36 (lv_at hl 0 rfl) ?_
        refine W.eq (g2 := F0 m 38 ls [.ref a28, .long (0 : Int64), .long x4.toInt64]) (by rw [hr29]; rfl) ?_
        obtain ⟨f37, hN36, h⟩ := h
        refine c_callJ (pc := 38) (val := vI) X hw (va_runV (C := RX6) (As := []) (rest := [.long (0 : Int64), .long x4.toInt64]) X.1 (tX6_many X.2.2.1 (sz := H.size) h) (cwV 0 hts (lw_V q890 q891 q892 q129 q893) rfl rfl rfl ⟨rfl, by decide, by decide, (by decide +kernel : (parseMethodDescriptor yX6_many.desc).map (fun d => d.parameters.length) = some 0)⟩ ⟨Nat.le_of_ble_eq_true rfl, Nat.le_of_ble_eq_true rfl⟩) ⟨cPre_blind, c_recv X hw hN36 rfl, fun U hU hW => ⟨rfl, X.preJ hw hU hW⟩⟩ rfl rfl hl.1 rfl (lv_room (Nat.le_of_ble_eq_true rfl)) dX0_meets_38 ⟨show 0 + mc3 + 0 ≤ MC by omega, show 0 + ms4 + 0 ≤ MS by omega⟩) (fun r34 N35 H locs h hw => ?_)
        refine W.eq (g2 := F0 m 41 ls (.int r34 :: [.long (0 : Int64), .long x4.toInt64])) rfl ?_
        refine lv_iconst (pc := 41) (v := (1 : Int32)) hx hb dX0_meets_41 (by decide) ?_
        refine lv_isub (pc := 42) hx hb dX0_meets_42 ?_
        refine lv_i2l (pc := 43) hx hb dX0_meets_43 rfl ?_
        refine s_call (pc := 44) (val := vI) (As := [.long x4.toInt64, .long (0 : Int64), .long ((r34 - (1 : Int32)).toInt64)]) (rest := []) X.1 (tX0_isIn h) (lw_S q380 q381 q102 q382) ⟨by decide, by decide, (by decide +kernel : (parseMethodDescriptor yX0_isIn.desc).map (fun d => d.parameters.length) = some 3)⟩ ⟨Nat.le_of_ble_eq_true rfl, Nat.le_of_ble_eq_true rfl⟩ hl.1 (Nat.le_of_ble_eq_true rfl) ⟨show 0 + mc3 + 0 ≤ MC by omega, show 0 + ms4 + 0 ≤ MS by omega⟩ dX0_meets_44 rfl (fun r38 h => ?_)
        refine W.eq (g2 := F0 m 47 ls (.int r38 :: [])) rfl ?_
        refine lv_if_ne (pc := 47) (tgt := 52) hx hb dX0_meets_47 rfl (fun c39 => ?_) (fun c39 => ?_)
        · have h := h.2 c39
          refine lv_aload_n (pc := 52) hx hb dX0_meets_52 rfl (lv_at hl 1 rfl) ?_
          refine lq_aload (pc := 53) hx hb dX0_meets_53 (lv_at hl 0 rfl) ?_
          refine lv_iload_n (pc := 55) hx hb dX0_meets_55 rfl (lv_at hl 3 rfl) ?_
          obtain ⟨f43, f44, f45, f46, f47, f48, f49, f50, f51, f52, f53, f54, f55, f56, f57, f58, f59, f60, f61, hN42, h⟩ := h
          refine c_callJ (pc := 56) (val := vV) X hw (va_runV (C := RX0) (As := [va_rf r1, .int x2]) (rest := []) X.1 (tX0_laysCan X.2.2.1 (sz := H.size) h) (cwV 2 hts (lw_V q1627 q1629 qs39 q102 q1630) rfl rfl rfl ⟨rfl, by decide, by decide, (by decide +kernel : (parseMethodDescriptor yX0_laysCan.desc).map (fun d => d.parameters.length) = some 2)⟩ ⟨Nat.le_of_ble_eq_true rfl, Nat.le_of_ble_eq_true rfl⟩) ⟨cPre_blind, c_recv X hw hN42 rfl, fun U hU hW => ⟨rfl, X.preJ hw hU hW⟩⟩ rfl rfl hl.1 rfl (lv_room (Nat.le_of_ble_eq_true rfl)) dX0_meets_56 ⟨show 0 + mc3 + 0 + 0 ≤ MC by omega, show 0 + ms4 + 0 + 0 ≤ MS by omega⟩) (fun _ N41 H locs h hw => ?_)
          refine W.eq (g2 := F0 m 59 ls ([])) rfl ?_
          refine lv_iload_n (pc := 59) hx hb dX0_meets_59 rfl (lv_at hl 4 rfl) ?_
          refine lv_istore (pc := 60) (i := 6) (lv' := [(6, .int x3), (5, va_rf r1), (0, .ref x0), (1, .int x1), (2, .int x2), (3, .int x3), (4, .int x4)]) hx hb dX0_meets_60 hl (by decide) (by simp [rf_c]) (fun ls hl => ?_)
          refine lv_iconst (pc := 62) (v := (0 : Int32)) hx hb dX0_meets_62 (by decide) ?_
          refine lv_istore (pc := 63) (lv' := [(7, .int (0 : Int32)), (6, .int x3), (5, va_rf r1), (0, .ref x0), (1, .int x1), (2, .int x2), (3, .int x3), (4, .int x4)]) hx hb dX0_meets_63 hl (by decide) rfl (fun ls hl => ?_)
          obtain ⟨k, h⟩ := h
          exact kX0_meets_65 X hr hlk hL hT  k _ _ _ _ _ _ _ _ _ _ _ _ _ _ h ⟨hw, by omega⟩ (lv_sub hl [3, 5, 7, 2, 1, 0] rfl)
        · have h := h.1 c39
          refine lv_iconst (pc := 50) (v := (-1 : Int32)) hx hb dX0_meets_50 (by decide) ?_
          refine W.widen (k := MC) (n := MS) (by omega) (by omega) ?_
          refine cx_ret ?_
          exact W.iret (pc := 51) hx hb hr (fun t ht hW => c_ret (val := vI) (lw := jW) (u := N35) hw h ht) hw.2.2.2 dX0_meets_51 hlk
theorem tX0_meets {l : Launch} (hL : l.stackTraces = false) {G : gG} (hO : gOk G) {post : Int32 → NM → Prop} {MC MS : Nat} {N : NM} {x0 : Nat} {x1 : Int32} {x2 : Int32} {x3 : Int32} {x4 : Int32} {sz : Nat} (h : wX0_meets (gC G) post MC MS N x0 x1 x2 x3 x4) : Met l yX0_meets (ws_ yX0_meets cX0_meets 10 (some .int)) ⟨10, MC, MS, 10322⟩ (va_Pc [.ref x0, .int x1, .int x2, .int x3, .int x4] (cPre G [] N sz)) (gQ vI post (fun u H => cBw G (cA [] N sz) (jW u).1 (jW u).2 H) (cA [] N sz)) MC MS (cA [] N sz) := cx_toMet (txX0_meets hL hO h)

def wX0_never_67 (K : Nat → Nat → Nat) (K34 : Nat → Int32 → Int32 → Int32 → Int32 → Nat → Nat → NM → Prop) (post : Int32 → NM → Prop) (x0 : Nat) (x2 : Int32) (x3 : Int32) (x5 : Int32) (x6 : Int32) (mc ms : Nat) (N : NM) : Prop :=
  K34 x0 x2 x3 x5 (x6 + (1 : Int32)) mc ms N
def wX0_never_34 (K : Nat → Nat → Nat) (post : Int32 → NM → Prop) : Nat → Nat → Int32 → Int32 → Int32 → Int32 → Nat → Nat → NM → Prop
  | 0, _, _, _, _, _, _, _, _ => False
  | n + 1, x0, x2, x3, x5, x6, mc, ms, N => ((x2 ≤ x6) → (((x3 = (-1 : Int32)) → (post x5 N)) ∧ (¬ (x3 = (-1 : Int32)) → (post (-1 : Int32) N)))) ∧ (¬ (x2 ≤ x6) → (∃ f57 f58 f59 f60 f61 f62 f63 f64 f65 f66 f67 f68 f69 f70 f71 f72 f73 f74 f75, N x0 = some (eO 1 [va_rf f57, va_rf f58, va_rf f59, va_rf f60, va_rf f61, va_rf f62, va_rf f63, va_rf f64, va_rf f65, .int f66, .int f67, va_rf f68, va_rf f69, .int f70, va_rf f71, va_rf f72, va_rf f73, va_rf f74, va_rf f75]) ∧ (∃ a76, f71 = some a76 ∧ (∃ n79 f80, N a76 = some (eL 1 n79 f80) ∧ (vp_in x6 n79 ∧ ((((f80 x6.toNatClampNeg) ≤ (0 : Int64)) → (((x5 = x3) → (post x6 N)) ∧ (¬ (x5 = x3) → (wX0_never_67 K (fun x0 x2 x3 x5 x6 mc ms N => wX0_never_34 K post n x0 x2 x3 x5 x6 mc ms N) post x0 x2 x3 (x5 + (1 : Int32)) x6 mc ms N)))) ∧ (¬ ((f80 x6.toNatClampNeg) ≤ (0 : Int64)) → (wX0_never_67 K (fun x0 x2 x3 x5 x6 mc ms N => wX0_never_34 K post n x0 x2 x3 x5 x6 mc ms N) post x0 x2 x3 x5 x6 mc ms N))))))))
def wX0_never (K : Nat → Nat → Nat) (post : Int32 → NM → Prop) (MC MS : Nat) (N : NM) (x0 : Nat) (x1 : Int32) (x2 : Int32) (x3 : Int32) : Prop :=
  ∃ f8 f9 f10 f11 f12 f13 f14 f15 f16 f17 f18 f19 f20 f21 f22 f23 f24 f25 f26, N x0 = some (eO 1 [va_rf f8, va_rf f9, va_rf f10, va_rf f11, va_rf f12, va_rf f13, va_rf f14, va_rf f15, va_rf f16, .int f17, .int f18, va_rf f19, va_rf f20, .int f21, va_rf f22, va_rf f23, va_rf f24, va_rf f25, va_rf f26]) ∧ (∃ mc3 ms4, mc3 ≤ MC ∧ ms4 ≤ MS ∧ wX0_at K (fun r1 N2 => (r1 = none → (post (-1 : Int32) N2)) ∧ (∀ a28, r1 = some a28 → (wX0_isModulus (fun r30 => ((r30 = (0 : Int32)) → (post (-1 : Int32) N2)) ∧ (¬ (r30 = (0 : Int32)) → (∃ f35 f36 f37 f38 f39 f40 f41 f42 f43 f44 f45 f46 f47 f48 f49 f50 f51 f52 f53, N2 x0 = some (eO 1 [va_rf f35, va_rf f36, va_rf f37, va_rf f38, va_rf f39, va_rf f40, va_rf f41, va_rf f42, va_rf f43, .int f44, .int f45, va_rf f46, va_rf f47, .int f48, va_rf f49, va_rf f50, va_rf f51, va_rf f52, va_rf f53]) ∧ (wX0_laysClasses K (fun _ N33 => (∃ k, wX0_never_34 K post k x0 x2 x3 (0 : Int32) (0 : Int32) (MC - mc3) (MS - ms4) N33)) N2 x0 r1 x2)))) x2))) mc3 ms4 N x0 x1)
theorem kX0_never_67 {p : Program} {l : Launch} {e : Env} {s : State} {m : MethodId} {args : Array Value} {below : List Frame} {meth : Method} {c : Code} {G : gG} {A : Nat → Prop} {MC MS : Nat} {K34 : Nat → Int32 → Int32 → Int32 → Int32 → Nat → Nat → NM → Prop} {post : Int32 → NM → Prop} (X : cX G A RX0 p s m args c cX0_never 7) (hr : meth.sig.returnType = (some .int)) (hlk : meth.locks = false) (hL : l.stackTraces = false) (hT : c.exceptionTable.toList = tableOf []) (hK34 : ∀ (x0 : Nat) (x2 : Int32) (x3 : Int32) (x5 : Int32) (x6 : Int32) (mc ms : Nat) (N : NM) (H : Heap) (locs : List Loc) (ls : Array Slot) (cells slots : Nat), K34 x0 x2 x3 x5 x6 mc ms N → (cH G A s [] N H locs ∧ cells + mc ≤ MC ∧ slots + ms ≤ MS) → lv_has ls 7 [(0, .ref x0), (2, .int x2), (3, .int x3), (5, .int x5), (6, .int x6)] → W p l e ⟨10, MC, MS, 10322⟩ s m args below meth c H locs cells slots (cx_MQ below (gQ vI post (fun u H => cBw G A (jW u).1 (jW u).2 H) A) (cXC G A [] (fun _ _ _ => False)) args s MC MS A) (F0 m 34 ls [])) : ∀ (x0 : Nat) (x2 : Int32) (x3 : Int32) (x5 : Int32) (x6 : Int32) (mc ms : Nat) (N : NM) (H : Heap) (locs : List Loc) (ls : Array Slot) (cells slots : Nat), wX0_never_67 (gC G) K34 post x0 x2 x3 x5 x6 mc ms N → (cH G A s [] N H locs ∧ cells + mc ≤ MC ∧ slots + ms ≤ MS) → lv_has ls 7 [(0, .ref x0), (2, .int x2), (3, .int x3), (5, .int x5), (6, .int x6)] → W p l e ⟨10, MC, MS, 10322⟩ s m args below meth c H locs cells slots (cx_MQ below (gQ vI post (fun u H => cBw G A (jW u).1 (jW u).2 H) A) (cXC G A [] (fun _ _ _ => False)) args s MC MS A) (F0 m 67 ls []) := by
  have hx := X.1.1
  have hb := X.1.2.1
  have hml := X.1.2.2.1
  have hown := X.1.2.2.2.1
  have hts := X.1.2.2.2.2
  intro x0 x2 x3 x5 x6 mc ms N H locs ls cells slots h hw0 hl
  obtain ⟨hw, hbud⟩ := hw0
  unfold wX0_never_67 at h
  refine lv_iinc (pc := 67) (v := x6 + (1 : Int32)) (lv' := [(6, .int (x6 + (1 : Int32))), (0, .ref x0), (2, .int x2), (3, .int x3), (5, .int x5)]) hx hb dX0_never_67 hl (k := 4) rfl rfl (by decide) rfl (fun ls hl => ?_)
  refine lv_goto (pc := 70) (tgt := 34) hx hb dX0_never_70 rfl ?_
  exact hK34 _ _ _ _ _ _ _ _ _ _ _ _ _ h ⟨hw, by omega⟩ (lv_sub hl [1, 2, 3, 4, 0] rfl)
theorem kX0_never_34 {p : Program} {l : Launch} {e : Env} {s : State} {m : MethodId} {args : Array Value} {below : List Frame} {meth : Method} {c : Code} {G : gG} {A : Nat → Prop} {MC MS : Nat} {post : Int32 → NM → Prop} (X : cX G A RX0 p s m args c cX0_never 7) (hr : meth.sig.returnType = (some .int)) (hlk : meth.locks = false) (hL : l.stackTraces = false) (hT : c.exceptionTable.toList = tableOf []) : ∀ (n : Nat) (x0 : Nat) (x2 : Int32) (x3 : Int32) (x5 : Int32) (x6 : Int32) (mc ms : Nat) (N : NM) (H : Heap) (locs : List Loc) (ls : Array Slot) (cells slots : Nat), wX0_never_34 (gC G) post n x0 x2 x3 x5 x6 mc ms N → (cH G A s [] N H locs ∧ cells + mc ≤ MC ∧ slots + ms ≤ MS) → lv_has ls 7 [(0, .ref x0), (2, .int x2), (3, .int x3), (5, .int x5), (6, .int x6)] → W p l e ⟨10, MC, MS, 10322⟩ s m args below meth c H locs cells slots (cx_MQ below (gQ vI post (fun u H => cBw G A (jW u).1 (jW u).2 H) A) (cXC G A [] (fun _ _ _ => False)) args s MC MS A) (F0 m 34 ls []) := by
  have hx := X.1.1
  have hb := X.1.2.1
  have hml := X.1.2.2.1
  have hown := X.1.2.2.2.1
  have hts := X.1.2.2.2.2
  intro n
  induction n with
  | zero =>
    intro x0 x2 x3 x5 x6 mc ms N H locs ls cells slots h
    exact False.elim h
  | succ n ih =>
    intro x0 x2 x3 x5 x6 mc ms N H locs ls cells slots h hw0 hl
    obtain ⟨hw, hbud⟩ := hw0
    unfold wX0_never_34 at h
    refine lv_iload (pc := 34) hx hb dX0_never_34 (lv_at hl 4 rfl) ?_
    refine lv_iload_n (pc := 36) hx hb dX0_never_36 rfl (lv_at hl 1 rfl) ?_
    refine lv_icmp_ge (pc := 37) (tgt := 73) hx hb dX0_never_37 rfl (fun c54 => ?_) (fun c54 => ?_)
    · have h := h.1 c54
      refine lv_iload_n (pc := 73) hx hb dX0_never_73 rfl (lv_at hl 2 rfl) ?_
      refine lv_iconst (pc := 74) (v := (-1 : Int32)) hx hb dX0_never_74 (by decide) ?_
      refine lv_icmp_ne (pc := 75) (tgt := 83) hx hb dX0_never_75 rfl (fun c55 => ?_) (fun c55 => ?_)
      · have h := h.2 c55
        refine lv_iconst (pc := 83) (v := (-1 : Int32)) hx hb dX0_never_83 (by decide) ?_
        refine W.widen (k := MC) (n := MS) (by omega) (by omega) ?_
        refine cx_ret ?_
        exact W.iret (pc := 84) hx hb hr (fun t ht hW => c_ret (val := vI) (lw := jW) (u := N) hw h ht) hw.2.2.2 dX0_never_84 hlk
      · have h := h.1 c55
        refine lv_iload (pc := 78) hx hb dX0_never_78 (lv_at hl 3 rfl) ?_
        refine lv_goto (pc := 80) (tgt := 84) hx hb dX0_never_80 rfl ?_
        refine W.widen (k := MC) (n := MS) (by omega) (by omega) ?_
        refine cx_ret ?_
        exact W.iret (pc := 84) hx hb hr (fun t ht hW => c_ret (val := vI) (lw := jW) (u := N) hw h ht) hw.2.2.2 dX0_never_84 hlk
    · have h := h.2 c54
      refine lv_aload_n (pc := 40) hx hb dX0_never_40 rfl (lv_at hl 0 rfl) ?_
      obtain ⟨f57, f58, f59, f60, f61, f62, f63, f64, f65, f66, f67, f68, f69, f70, f71, f72, f73, f74, f75, hN56, h⟩ := h
      refine c_get (pc := 41) X hw hN56 in_X0 rfl 14 (by decide) q231 rfl rfl dX0_never_41 ?_
      refine lv_iload (pc := 44) hx hb dX0_never_44 (lv_at hl 4 rfl) ?_
      obtain ⟨a76, hr77, h⟩ := h
      refine W.eq (g2 := F0 m 46 ls [.int x6, .ref a76]) (by rw [hr77]; rfl) ?_
      obtain ⟨n79, f80, hN78, h⟩ := h
      obtain ⟨hi, h⟩ := h
      refine c_lald (pc := 46) X hw hN78 hi dX0_never_46 ?_
      refine lv_lconst (pc := 47) (v := (0 : Int64)) hx hb dX0_never_47 (by decide) ?_
      refine W.lcmp (pc := 48) hx hb dX0_never_48 ?_
      refine lv_if_le (pc := 49) (tgt := 55) hx hb dX0_never_49 rfl (fun c81 => ?_) (fun c81 => ?_)
      · have h := h.1 ((lg_cmp_le _ _).mp c81)
        refine lv_iload (pc := 55) hx hb dX0_never_55 (lv_at hl 3 rfl) ?_
        refine lv_iload_n (pc := 57) hx hb dX0_never_57 rfl (lv_at hl 2 rfl) ?_
        refine lv_icmp_ne (pc := 58) (tgt := 64) hx hb dX0_never_58 rfl (fun c82 => ?_) (fun c82 => ?_)
        · have h := h.2 c82
          refine lv_iinc (pc := 64) (v := x5 + (1 : Int32)) (lv' := [(5, .int (x5 + (1 : Int32))), (0, .ref x0), (2, .int x2), (3, .int x3), (6, .int x6)]) hx hb dX0_never_64 hl (k := 3) rfl rfl (by decide) rfl (fun ls hl => ?_)
          exact kX0_never_67 X hr hlk hL hT ih _ _ _ _ _ _ _ _ _ _ _ _ _ h ⟨hw, by omega⟩ (lv_sub hl [1, 2, 3, 0, 4] rfl)
        · have h := h.1 c82
          refine lv_iload (pc := 61) hx hb dX0_never_61 (lv_at hl 4 rfl) ?_
          refine W.widen (k := MC) (n := MS) (by omega) (by omega) ?_
          refine cx_ret ?_
          exact W.iret (pc := 63) hx hb hr (fun t ht hW => c_ret (val := vI) (lw := jW) (u := N) hw h ht) hw.2.2.2 dX0_never_63 hlk
      · have h := h.2 (fun z => c81 ((lg_cmp_le _ _).mpr z))
        refine lv_goto (pc := 52) (tgt := 67) hx hb dX0_never_52 rfl ?_
        exact kX0_never_67 X hr hlk hL hT ih _ _ _ _ _ _ _ _ _ _ _ _ _ h ⟨hw, by omega⟩ (lv_sub hl [0, 1, 2, 3, 4] rfl)
theorem txX0_never {l : Launch} (hL : l.stackTraces = false) {G : gG} (hO : gOk G) {post : Int32 → NM → Prop} {MC MS : Nat} {N : NM} {x0 : Nat} {x1 : Int32} {x2 : Int32} {x3 : Int32} {sz : Nat} (h : wX0_never (gC G) post MC MS N x0 x1 x2 x3) : cx_Met l yX0_never (ws_ yX0_never cX0_never 7 (some .int)) ⟨10, MC, MS, 10322⟩ (va_Pc [.ref x0, .int x1, .int x2, .int x3] (cPre G [] N sz)) (gQ vI post (fun u H => cBw G (cA [] N sz) (jW u).1 (jW u).2 H) (cA [] N sz)) (cXC G (cA [] N sz) [] (fun _ _ _ => False)) MC MS (cA [] N sz) := by
  refine c_ofX (B := fun A u H => cBw G A (jW u).1 (jW u).2 H) (by decide) hO (Nat.le_of_ble_eq_true rfl) (fun p e s m below meth c ls A X hr hlk hT hw hl => ?_)
  have hl : lv_has ls 7 [(0, .ref x0), (1, .int x1), (2, .int x2), (3, .int x3)] := hl
  have hx := X.1.1
  have hb := X.1.2.1
  have hml := X.1.2.2.1
  have hown := X.1.2.2.2.1
  have hts := X.1.2.2.2.2
  obtain ⟨H, eH⟩ : ∃ z, z = s.heap := ⟨_, rfl⟩
  rw [← eH] at hw ⊢
  obtain ⟨locs, eLo⟩ : ∃ z : List Loc, z = [] := ⟨_, rfl⟩
  rw [← eLo] at hw ⊢
  have hbud : 0 + MC ≤ MC ∧ 0 + MS ≤ MS := by omega
  unfold wX0_never at h
  refine lv_aload_n (pc := 0) hx hb dX0_never_0 rfl (lv_at hl 0 rfl) ?_
  refine lv_iload_n (pc := 1) hx hb dX0_never_1 rfl (lv_at hl 1 rfl) ?_
  obtain ⟨f8, f9, f10, f11, f12, f13, f14, f15, f16, f17, f18, f19, f20, f21, f22, f23, f24, f25, f26, hN7, h⟩ := h
  obtain ⟨mc3, ms4, hm5, hm6, h⟩ := h
  refine c_callJ (pc := 2) (val := vQ) X hw (vx_runVW (C := RX0) (As := [.int x1]) (rest := []) X.1 (tX0_at hL X.2.2.1 (sz := H.size) h) (vx_cwVW 1 hts (lw_VW q898 q900 qs20 q102 q901) rfl rfl rfl ⟨rfl, by decide, by decide, (by decide +kernel : (parseMethodDescriptor yX0_at.desc).map (fun d => d.parameters.length) = some 1)⟩ ⟨Nat.le_of_ble_eq_true rfl, Nat.le_of_ble_eq_true rfl⟩) ⟨cPre_blind, c_recv X hw hN7 rfl, fun U hU hW => ⟨rfl, X.preJ hw hU hW⟩⟩ rfl rfl hl.1 rfl (lv_room (Nat.le_of_ble_eq_true rfl)) dX0_never_2 ⟨show 0 + mc3 ≤ MC by omega, show 0 + ms4 ≤ MS by omega⟩) (fun r1 N2 H locs h hw => ?_)
  refine W.eq (g2 := F0 m 5 ls (va_rf r1 :: [])) rfl ?_
  refine lq_astore (pc := 5) (lv' := [(4, va_rf r1), (0, .ref x0), (1, .int x1), (2, .int x2), (3, .int x3)]) hx hb dX0_never_5 hl (by decide) rfl (fun ls hl => ?_)
  refine lq_aload (pc := 7) hx hb dX0_never_7 (lv_at hl 0 rfl) ?_
  refine lq_ifnull (pc := 9) (tgt := 19) hx hb dX0_never_9 rfl (fun hz27 => ?_) (fun a28 hr29 => ?_)
  · have h := h.1 hz27
    refine lv_iconst (pc := 19) (v := (-1 : Int32)) hx hb dX0_never_19 (by decide) ?_
    refine W.widen (k := MC) (n := MS) (by omega) (by omega) ?_
    refine cx_ret ?_
    exact W.iret (pc := 20) hx hb hr (fun t ht hW => c_ret (val := vI) (lw := jW) (u := N2) hw h ht) hw.2.2.2 dX0_never_20 hlk
  · have h := h.2 a28 hr29
    refine lv_iload_n (pc := 12) hx hb dX0_never_12 rfl (lv_at hl 3 rfl) ?_
    refine s_call (pc := 13) (val := vI) (As := [.int x2]) (rest := []) X.1 (tX0_isModulus h) (lw_S q1599 q1600 q102 q1601) ⟨by decide, by decide, (by decide +kernel : (parseMethodDescriptor yX0_isModulus.desc).map (fun d => d.parameters.length) = some 1)⟩ ⟨Nat.le_of_ble_eq_true rfl, Nat.le_of_ble_eq_true rfl⟩ hl.1 (Nat.le_of_ble_eq_true rfl) ⟨show 0 + mc3 ≤ MC by omega, show 0 + ms4 ≤ MS by omega⟩ dX0_never_13 rfl (fun r30 h => ?_)
    refine W.eq (g2 := F0 m 16 ls (.int r30 :: [])) rfl ?_
    refine lv_if_ne (pc := 16) (tgt := 21) hx hb dX0_never_16 rfl (fun c31 => ?_) (fun c31 => ?_)
    · have h := h.2 c31
      refine lv_aload_n (pc := 21) hx hb dX0_never_21 rfl (lv_at hl 1 rfl) ?_
      refine lq_aload (pc := 22) hx hb dX0_never_22 (lv_at hl 0 rfl) ?_
      refine lv_iload_n (pc := 24) hx hb dX0_never_24 rfl (lv_at hl 3 rfl) ?_
      obtain ⟨f35, f36, f37, f38, f39, f40, f41, f42, f43, f44, f45, f46, f47, f48, f49, f50, f51, f52, f53, hN34, h⟩ := h
      refine c_callJ (pc := 25) (val := vV) X hw (va_runV (C := RX0) (As := [va_rf r1, .int x2]) (rest := []) X.1 (tX0_laysClasses X.2.2.1 (sz := H.size) h) (cwV 2 hts (lw_V q1603 q1605 qs38 q102 q1606) rfl rfl rfl ⟨rfl, by decide, by decide, (by decide +kernel : (parseMethodDescriptor yX0_laysClasses.desc).map (fun d => d.parameters.length) = some 2)⟩ ⟨Nat.le_of_ble_eq_true rfl, Nat.le_of_ble_eq_true rfl⟩) ⟨cPre_blind, c_recv X hw hN34 rfl, fun U hU hW => ⟨rfl, X.preJ hw hU hW⟩⟩ rfl rfl hl.1 rfl (lv_room (Nat.le_of_ble_eq_true rfl)) dX0_never_25 ⟨show 0 + mc3 + 0 ≤ MC by omega, show 0 + ms4 + 0 ≤ MS by omega⟩) (fun _ N33 H locs h hw => ?_)
      refine W.eq (g2 := F0 m 28 ls ([])) rfl ?_
      refine lv_iconst (pc := 28) (v := (0 : Int32)) hx hb dX0_never_28 (by decide) ?_
      refine lv_istore (pc := 29) (i := 5) (lv' := [(5, .int (0 : Int32)), (4, va_rf r1), (0, .ref x0), (1, .int x1), (2, .int x2), (3, .int x3)]) hx hb dX0_never_29 hl (by decide) (by simp [rf_c]) (fun ls hl => ?_)
      refine lv_iconst (pc := 31) (v := (0 : Int32)) hx hb dX0_never_31 (by decide) ?_
      refine lv_istore (pc := 32) (lv' := [(6, .int (0 : Int32)), (5, .int (0 : Int32)), (4, va_rf r1), (0, .ref x0), (1, .int x1), (2, .int x2), (3, .int x3)]) hx hb dX0_never_32 hl (by decide) rfl (fun ls hl => ?_)
      obtain ⟨k, h⟩ := h
      exact kX0_never_34 X hr hlk hL hT  k _ _ _ _ _ _ _ _ _ _ _ _ _ h ⟨hw, by omega⟩ (lv_sub hl [3, 5, 6, 1, 0] rfl)
    · have h := h.1 c31
      refine lv_iconst (pc := 19) (v := (-1 : Int32)) hx hb dX0_never_19 (by decide) ?_
      refine W.widen (k := MC) (n := MS) (by omega) (by omega) ?_
      refine cx_ret ?_
      exact W.iret (pc := 20) hx hb hr (fun t ht hW => c_ret (val := vI) (lw := jW) (u := N2) hw h ht) hw.2.2.2 dX0_never_20 hlk
theorem tX0_never {l : Launch} (hL : l.stackTraces = false) {G : gG} (hO : gOk G) {post : Int32 → NM → Prop} {MC MS : Nat} {N : NM} {x0 : Nat} {x1 : Int32} {x2 : Int32} {x3 : Int32} {sz : Nat} (h : wX0_never (gC G) post MC MS N x0 x1 x2 x3) : Met l yX0_never (ws_ yX0_never cX0_never 7 (some .int)) ⟨10, MC, MS, 10322⟩ (va_Pc [.ref x0, .int x1, .int x2, .int x3] (cPre G [] N sz)) (gQ vI post (fun u H => cBw G (cA [] N sz) (jW u).1 (jW u).2 H) (cA [] N sz)) MC MS (cA [] N sz) := cx_toMet (txX0_never hL hO h)

def wX0_bars_2 (K : Nat → Nat → Nat) (post : Int32 → NM → Prop) : Nat → Nat → Int32 → Int32 → Nat → Nat → NM → Prop
  | 0, _, _, _, _, _, _ => False
  | n + 1, x0, x1, x2, mc, ms, N => (((60 : Int32) < x2) → (post (-1 : Int32) N)) ∧ (¬ ((60 : Int32) < x2) → (∃ f9 f10 f11 f12 f13 f14 f15 f16 f17 f18 f19 f20 f21 f22 f23 f24 f25 f26 f27, N x0 = some (eO 1 [va_rf f9, va_rf f10, va_rf f11, va_rf f12, va_rf f13, va_rf f14, va_rf f15, va_rf f16, va_rf f17, .int f18, .int f19, va_rf f20, va_rf f21, .int f22, va_rf f23, va_rf f24, va_rf f25, va_rf f26, va_rf f27]) ∧ (∃ mc4 ms5, mc4 ≤ mc ∧ ms5 ≤ ms ∧ wX0_never K (fun r2 N3 => ((r2 ≤ (0 : Int32)) → (wX0_bars_2 K post n x0 x1 (x2 + (1 : Int32)) (mc - mc4) (ms - ms5) N3)) ∧ (¬ (r2 ≤ (0 : Int32)) → (post x2 N3))) mc4 ms5 N x0 x1 x2 (-1 : Int32))))
def wX0_bars (K : Nat → Nat → Nat) (post : Int32 → NM → Prop) (MC MS : Nat) (N : NM) (x0 : Nat) (x1 : Int32) : Prop :=
  (∃ k, wX0_bars_2 K post k x0 x1 (1 : Int32) MC MS N)
theorem kX0_bars_2 {p : Program} {l : Launch} {e : Env} {s : State} {m : MethodId} {args : Array Value} {below : List Frame} {meth : Method} {c : Code} {G : gG} {A : Nat → Prop} {MC MS : Nat} {post : Int32 → NM → Prop} (X : cX G A RX0 p s m args c cX0_bars 3) (hr : meth.sig.returnType = (some .int)) (hlk : meth.locks = false) (hL : l.stackTraces = false) (hT : c.exceptionTable.toList = tableOf []) : ∀ (n : Nat) (x0 : Nat) (x1 : Int32) (x2 : Int32) (mc ms : Nat) (N : NM) (H : Heap) (locs : List Loc) (ls : Array Slot) (cells slots : Nat), wX0_bars_2 (gC G) post n x0 x1 x2 mc ms N → (cH G A s [] N H locs ∧ cells + mc ≤ MC ∧ slots + ms ≤ MS) → lv_has ls 3 [(0, .ref x0), (1, .int x1), (2, .int x2)] → W p l e ⟨11, MC, MS, 10348⟩ s m args below meth c H locs cells slots (cx_MQ below (gQ vI post (fun u H => cBw G A (jW u).1 (jW u).2 H) A) (cXC G A [] (fun _ _ _ => False)) args s MC MS A) (F0 m 2 ls []) := by
  have hx := X.1.1
  have hb := X.1.2.1
  have hml := X.1.2.2.1
  have hown := X.1.2.2.2.1
  have hts := X.1.2.2.2.2
  intro n
  induction n with
  | zero =>
    intro x0 x1 x2 mc ms N H locs ls cells slots h
    exact False.elim h
  | succ n ih =>
    intro x0 x1 x2 mc ms N H locs ls cells slots h hw0 hl
    obtain ⟨hw, hbud⟩ := hw0
    unfold wX0_bars_2 at h
    refine lv_iload_n (pc := 2) hx hb dX0_bars_2 rfl (lv_at hl 2 rfl) ?_
    refine lv_bipush (pc := 3) (v := (60 : Int32)) hx hb dX0_bars_3 (by decide) ?_
    refine lv_icmp_gt (pc := 5) (tgt := 26) hx hb dX0_bars_5 rfl (fun c1 => ?_) (fun c1 => ?_)
    · have h := h.1 c1
      refine lv_iconst (pc := 26) (v := (-1 : Int32)) hx hb dX0_bars_26 (by decide) ?_
      refine W.widen (k := MC) (n := MS) (by omega) (by omega) ?_
      refine cx_ret ?_
      exact W.iret (pc := 27) hx hb hr (fun t ht hW => c_ret (val := vI) (lw := jW) (u := N) hw h ht) hw.2.2.2 dX0_bars_27 hlk
    · have h := h.2 c1
      refine lv_aload_n (pc := 8) hx hb dX0_bars_8 rfl (lv_at hl 0 rfl) ?_
      refine lv_iload_n (pc := 9) hx hb dX0_bars_9 rfl (lv_at hl 1 rfl) ?_
      refine lv_iload_n (pc := 10) hx hb dX0_bars_10 rfl (lv_at hl 2 rfl) ?_
      refine lv_iconst (pc := 11) (v := (-1 : Int32)) hx hb dX0_bars_11 (by decide) ?_
      obtain ⟨f9, f10, f11, f12, f13, f14, f15, f16, f17, f18, f19, f20, f21, f22, f23, f24, f25, f26, f27, hN8, h⟩ := h
      obtain ⟨mc4, ms5, hm6, hm7, h⟩ := h
      refine c_callJ (pc := 12) (val := vI) X hw (va_runV (C := RX0) (As := [.int x1, .int x2, .int (-1 : Int32)]) (rest := []) X.1 (tX0_never hL X.2.2.1 (sz := H.size) h) (cwV 3 hts (lw_V q1642 q1635 q1636 q102 q1637) rfl rfl rfl ⟨rfl, by decide, by decide, (by decide +kernel : (parseMethodDescriptor yX0_never.desc).map (fun d => d.parameters.length) = some 3)⟩ ⟨Nat.le_of_ble_eq_true rfl, Nat.le_of_ble_eq_true rfl⟩) ⟨cPre_blind, c_recv X hw hN8 rfl, fun U hU hW => ⟨rfl, X.preJ hw hU hW⟩⟩ rfl rfl hl.1 rfl (lv_room (Nat.le_of_ble_eq_true rfl)) dX0_bars_12 ⟨show cells + mc4 ≤ MC by omega, show slots + ms5 ≤ MS by omega⟩) (fun r2 N3 H locs h hw => ?_)
      refine W.eq (g2 := F0 m 15 ls (.int r2 :: [])) rfl ?_
      refine lv_if_le (pc := 15) (tgt := 20) hx hb dX0_bars_15 rfl (fun c28 => ?_) (fun c28 => ?_)
      · have h := h.1 c28
        refine lv_iinc (pc := 20) (v := x2 + (1 : Int32)) (lv' := [(2, .int (x2 + (1 : Int32))), (0, .ref x0), (1, .int x1)]) hx hb dX0_bars_20 hl (k := 2) rfl rfl (by decide) rfl (fun ls hl => ?_)
        refine lv_goto (pc := 23) (tgt := 2) hx hb dX0_bars_23 rfl ?_
        exact ih _ _ _ _ _ _ _ _ _ _ _ h ⟨hw, by omega⟩ (lv_sub hl [1, 2, 0] rfl)
      · have h := h.2 c28
        refine lv_iload_n (pc := 18) hx hb dX0_bars_18 rfl (lv_at hl 2 rfl) ?_
        refine W.widen (k := MC) (n := MS) (by omega) (by omega) ?_
        refine cx_ret ?_
        exact W.iret (pc := 19) hx hb hr (fun t ht hW => c_ret (val := vI) (lw := jW) (u := N3) hw h ht) hw.2.2.2 dX0_bars_19 hlk
theorem txX0_bars {l : Launch} (hL : l.stackTraces = false) {G : gG} (hO : gOk G) {post : Int32 → NM → Prop} {MC MS : Nat} {N : NM} {x0 : Nat} {x1 : Int32} {sz : Nat} (h : wX0_bars (gC G) post MC MS N x0 x1) : cx_Met l yX0_bars (ws_ yX0_bars cX0_bars 3 (some .int)) ⟨11, MC, MS, 10348⟩ (va_Pc [.ref x0, .int x1] (cPre G [] N sz)) (gQ vI post (fun u H => cBw G (cA [] N sz) (jW u).1 (jW u).2 H) (cA [] N sz)) (cXC G (cA [] N sz) [] (fun _ _ _ => False)) MC MS (cA [] N sz) := by
  refine c_ofX (B := fun A u H => cBw G A (jW u).1 (jW u).2 H) (by decide) hO (Nat.le_of_ble_eq_true rfl) (fun p e s m below meth c ls A X hr hlk hT hw hl => ?_)
  have hl : lv_has ls 3 [(0, .ref x0), (1, .int x1)] := hl
  have hx := X.1.1
  have hb := X.1.2.1
  have hml := X.1.2.2.1
  have hown := X.1.2.2.2.1
  have hts := X.1.2.2.2.2
  obtain ⟨H, eH⟩ : ∃ z, z = s.heap := ⟨_, rfl⟩
  rw [← eH] at hw ⊢
  obtain ⟨locs, eLo⟩ : ∃ z : List Loc, z = [] := ⟨_, rfl⟩
  rw [← eLo] at hw ⊢
  have hbud : 0 + MC ≤ MC ∧ 0 + MS ≤ MS := by omega
  unfold wX0_bars at h
  refine lv_iconst (pc := 0) (v := (1 : Int32)) hx hb dX0_bars_0 (by decide) ?_
  refine lv_istore_n (pc := 1) (lv' := [(2, .int (1 : Int32)), (0, .ref x0), (1, .int x1)]) hx hb dX0_bars_1 rfl hl (by decide) rfl (fun ls hl => ?_)
  obtain ⟨k, h⟩ := h
  exact kX0_bars_2 X hr hlk hL hT  k _ _ _ _ _ _ _ _ _ _ _ h ⟨hw, by omega⟩ (lv_sub hl [1, 2, 0] rfl)
theorem tX0_bars {l : Launch} (hL : l.stackTraces = false) {G : gG} (hO : gOk G) {post : Int32 → NM → Prop} {MC MS : Nat} {N : NM} {x0 : Nat} {x1 : Int32} {sz : Nat} (h : wX0_bars (gC G) post MC MS N x0 x1) : Met l yX0_bars (ws_ yX0_bars cX0_bars 3 (some .int)) ⟨11, MC, MS, 10348⟩ (va_Pc [.ref x0, .int x1] (cPre G [] N sz)) (gQ vI post (fun u H => cBw G (cA [] N sz) (jW u).1 (jW u).2 H) (cA [] N sz)) MC MS (cA [] N sz) := cx_toMet (txX0_bars hL hO h)

def wX0_many_85 (K : Nat → Nat → Nat) (K38 : Nat → Int32 → Int32 → Option Nat → Int32 → Nat → Nat → NM → Prop) (post : Int32 → NM → Prop) (x0 : Nat) (x3 : Int32) (x4 : Int32) (x5 : Option Nat) (x6 : Int32) (mc ms : Nat) (N : NM) : Prop :=
  K38 x0 x3 x4 x5 (x6 + (1 : Int32)) mc ms N
def wX0_many_38 (K : Nat → Nat → Nat) (post : Int32 → NM → Prop) : Nat → Nat → Int32 → Int32 → Option Nat → Int32 → Nat → Nat → NM → Prop
  | 0, _, _, _, _, _, _, _, _ => False
  | n + 1, x0, x3, x4, x5, x6, mc, ms, N => (((3000 : Int32) < x6) → (post (-100000 : Int32) N)) ∧ (¬ ((3000 : Int32) < x6) → (((x4 = (0 : Int32)) → (∃ f39 f40 f41 f42 f43 f44 f45 f46 f47 f48 f49 f50 f51 f52 f53 f54 f55 f56 f57, N x0 = some (eO 1 [va_rf f39, va_rf f40, va_rf f41, va_rf f42, va_rf f43, va_rf f44, va_rf f45, va_rf f46, va_rf f47, .int f48, .int f49, va_rf f50, va_rf f51, .int f52, va_rf f53, va_rf f54, va_rf f55, va_rf f56, va_rf f57]) ∧ (wX0_unlikeOf K (fun r36 N37 => ((r36 < x3.toInt64) → (wX0_many_85 K (fun x0 x3 x4 x5 x6 mc ms N => wX0_many_38 K post n x0 x3 x4 x5 x6 mc ms N) post x0 x3 x4 x5 x6 mc ms N37)) ∧ (¬ (r36 < x3.toInt64) → (post x6 N37))) N x0 x5 x6))) ∧ (¬ (x4 = (0 : Int32)) → (∃ f62 f63 f64 f65 f66 f67 f68 f69 f70 f71 f72 f73 f74 f75 f76 f77 f78 f79 f80, N x0 = some (eO 1 [va_rf f62, va_rf f63, va_rf f64, va_rf f65, va_rf f66, va_rf f67, va_rf f68, va_rf f69, va_rf f70, .int f71, .int f72, va_rf f73, va_rf f74, .int f75, va_rf f76, va_rf f77, va_rf f78, va_rf f79, va_rf f80]) ∧ (wX0_unlikeOf K (fun r59 N60 => ((r59 = x3.toInt64) → (post x6 N60)) ∧ (¬ (r59 = x3.toInt64) → (wX0_many_85 K (fun x0 x3 x4 x5 x6 mc ms N => wX0_many_38 K post n x0 x3 x4 x5 x6 mc ms N) post x0 x3 x4 x5 x6 mc ms N60))) N x0 x5 x6)))))
def wX0_many (K : Nat → Nat → Nat) (post : Int32 → NM → Prop) (MC MS : Nat) (N : NM) (x0 : Nat) (x1 : Int32) (x2 : Int32) (x3 : Int32) (x4 : Int32) : Prop :=
  ∃ f8 f9 f10 f11 f12 f13 f14 f15 f16 f17 f18 f19 f20 f21 f22 f23 f24 f25 f26, N x0 = some (eO 1 [va_rf f8, va_rf f9, va_rf f10, va_rf f11, va_rf f12, va_rf f13, va_rf f14, va_rf f15, va_rf f16, .int f17, .int f18, va_rf f19, va_rf f20, .int f21, va_rf f22, va_rf f23, va_rf f24, va_rf f25, va_rf f26]) ∧ (∃ mc3 ms4, mc3 ≤ MC ∧ ms4 ≤ MS ∧ wX0_at K (fun r1 N2 => (r1 = none → (post (-100000 : Int32) N2)) ∧ (∀ a28, r1 = some a28 → (wX0_isNumber (fun r30 => ((r30 = (0 : Int32)) → (post (-100000 : Int32) N2)) ∧ (¬ (r30 = (0 : Int32)) → (wX0_isIn (fun r32 => ((r32 = (0 : Int32)) → (post (-100000 : Int32) N2)) ∧ (¬ (r32 = (0 : Int32)) → ((∃ k, wX0_many_38 K post k x0 x3 x4 r1 x2 (MC - mc3) (MS - ms4) N2)))) x3.toInt64 (1 : Int64) (1000000 : Int64)))) x2))) mc3 ms4 N x0 x1)
theorem kX0_many_85 {p : Program} {l : Launch} {e : Env} {s : State} {m : MethodId} {args : Array Value} {below : List Frame} {meth : Method} {c : Code} {G : gG} {A : Nat → Prop} {MC MS : Nat} {K38 : Nat → Int32 → Int32 → Option Nat → Int32 → Nat → Nat → NM → Prop} {post : Int32 → NM → Prop} (X : cX G A RX0 p s m args c cX0_many 7) (hr : meth.sig.returnType = (some .int)) (hlk : meth.locks = false) (hL : l.stackTraces = false) (hT : c.exceptionTable.toList = tableOf []) (hK38 : ∀ (x0 : Nat) (x3 : Int32) (x4 : Int32) (x5 : Option Nat) (x6 : Int32) (mc ms : Nat) (N : NM) (H : Heap) (locs : List Loc) (ls : Array Slot) (cells slots : Nat), K38 x0 x3 x4 x5 x6 mc ms N → (cH G A s [] N H locs ∧ cells + mc ≤ MC ∧ slots + ms ≤ MS) → lv_has ls 7 [(0, .ref x0), (3, .int x3), (4, .int x4), (5, va_rf x5), (6, .int x6)] → W p l e ⟨10, MC, MS, 10322⟩ s m args below meth c H locs cells slots (cx_MQ below (gQ vI post (fun u H => cBw G A (jW u).1 (jW u).2 H) A) (cXC G A [] (fun _ _ _ => False)) args s MC MS A) (F0 m 38 ls [])) : ∀ (x0 : Nat) (x3 : Int32) (x4 : Int32) (x5 : Option Nat) (x6 : Int32) (mc ms : Nat) (N : NM) (H : Heap) (locs : List Loc) (ls : Array Slot) (cells slots : Nat), wX0_many_85 (gC G) K38 post x0 x3 x4 x5 x6 mc ms N → (cH G A s [] N H locs ∧ cells + mc ≤ MC ∧ slots + ms ≤ MS) → lv_has ls 7 [(0, .ref x0), (3, .int x3), (4, .int x4), (5, va_rf x5), (6, .int x6)] → W p l e ⟨10, MC, MS, 10322⟩ s m args below meth c H locs cells slots (cx_MQ below (gQ vI post (fun u H => cBw G A (jW u).1 (jW u).2 H) A) (cXC G A [] (fun _ _ _ => False)) args s MC MS A) (F0 m 85 ls []) := by
  have hx := X.1.1
  have hb := X.1.2.1
  have hml := X.1.2.2.1
  have hown := X.1.2.2.2.1
  have hts := X.1.2.2.2.2
  intro x0 x3 x4 x5 x6 mc ms N H locs ls cells slots h hw0 hl
  obtain ⟨hw, hbud⟩ := hw0
  unfold wX0_many_85 at h
  refine lv_iinc (pc := 85) (v := x6 + (1 : Int32)) (lv' := [(6, .int (x6 + (1 : Int32))), (0, .ref x0), (3, .int x3), (4, .int x4), (5, va_rf x5)]) hx hb dX0_many_85 hl (k := 4) rfl rfl (by decide) (by simp [rf_c]) (fun ls hl => ?_)
  refine lv_goto (pc := 88) (tgt := 38) hx hb dX0_many_88 rfl ?_
  exact hK38 _ _ _ _ _ _ _ _ _ _ _ _ _ h ⟨hw, by omega⟩ (lv_sub hl [1, 2, 3, 4, 0] rfl)
theorem kX0_many_38 {p : Program} {l : Launch} {e : Env} {s : State} {m : MethodId} {args : Array Value} {below : List Frame} {meth : Method} {c : Code} {G : gG} {A : Nat → Prop} {MC MS : Nat} {post : Int32 → NM → Prop} (X : cX G A RX0 p s m args c cX0_many 7) (hr : meth.sig.returnType = (some .int)) (hlk : meth.locks = false) (hL : l.stackTraces = false) (hT : c.exceptionTable.toList = tableOf []) : ∀ (n : Nat) (x0 : Nat) (x3 : Int32) (x4 : Int32) (x5 : Option Nat) (x6 : Int32) (mc ms : Nat) (N : NM) (H : Heap) (locs : List Loc) (ls : Array Slot) (cells slots : Nat), wX0_many_38 (gC G) post n x0 x3 x4 x5 x6 mc ms N → (cH G A s [] N H locs ∧ cells + mc ≤ MC ∧ slots + ms ≤ MS) → lv_has ls 7 [(0, .ref x0), (3, .int x3), (4, .int x4), (5, va_rf x5), (6, .int x6)] → W p l e ⟨10, MC, MS, 10322⟩ s m args below meth c H locs cells slots (cx_MQ below (gQ vI post (fun u H => cBw G A (jW u).1 (jW u).2 H) A) (cXC G A [] (fun _ _ _ => False)) args s MC MS A) (F0 m 38 ls []) := by
  have hx := X.1.1
  have hb := X.1.2.1
  have hml := X.1.2.2.1
  have hown := X.1.2.2.2.1
  have hts := X.1.2.2.2.2
  intro n
  induction n with
  | zero =>
    intro x0 x3 x4 x5 x6 mc ms N H locs ls cells slots h
    exact False.elim h
  | succ n ih =>
    intro x0 x3 x4 x5 x6 mc ms N H locs ls cells slots h hw0 hl
    obtain ⟨hw, hbud⟩ := hw0
    unfold wX0_many_38 at h
    refine lv_iload (pc := 38) hx hb dX0_many_38 (lv_at hl 4 rfl) ?_
    refine lv_sipush (pc := 40) (v := (3000 : Int32)) hx hb dX0_many_40 (by decide) ?_
    refine lv_icmp_gt (pc := 43) (tgt := 91) hx hb dX0_many_43 rfl (fun c34 => ?_) (fun c34 => ?_)
    · have h := h.1 c34
      refine lv_ldcw (pc := 91) hx hb hown (hts _ q1540) dX0_many_91 ?_
      refine W.widen (k := MC) (n := MS) (by omega) (by omega) ?_
      refine cx_ret ?_
      exact W.iret (pc := 94) hx hb hr (fun t ht hW => c_ret (val := vI) (lw := jW) (u := N) hw h ht) hw.2.2.2 dX0_many_94 hlk
    · have h := h.2 c34
      refine lv_iload (pc := 46) hx hb dX0_many_46 (lv_at hl 2 rfl) ?_
      refine lv_if_eq (pc := 48) (tgt := 68) hx hb dX0_many_48 rfl (fun c35 => ?_) (fun c35 => ?_)
      · have h := h.1 c35
        refine lv_aload_n (pc := 68) hx hb dX0_many_68 rfl (lv_at hl 0 rfl) ?_
        refine lq_aload (pc := 69) hx hb dX0_many_69 (lv_at hl 3 rfl) ?_
        refine lv_iload (pc := 71) hx hb dX0_many_71 (lv_at hl 4 rfl) ?_
        obtain ⟨f39, f40, f41, f42, f43, f44, f45, f46, f47, f48, f49, f50, f51, f52, f53, f54, f55, f56, f57, hN38, h⟩ := h
        refine c_callJ (pc := 73) (val := vL) X hw (va_runV (C := RX0) (As := [va_rf x5, .int x6]) (rest := []) X.1 (tX0_unlikeOf X.2.2.1 (sz := H.size) h) (cwV 2 hts (lw_V q1562 q1564 qs35 q102 q1565) rfl rfl rfl ⟨rfl, by decide, by decide, (by decide +kernel : (parseMethodDescriptor yX0_unlikeOf.desc).map (fun d => d.parameters.length) = some 2)⟩ ⟨Nat.le_of_ble_eq_true rfl, Nat.le_of_ble_eq_true rfl⟩) ⟨cPre_blind, c_recv X hw hN38 rfl, fun U hU hW => ⟨rfl, X.preJ hw hU hW⟩⟩ rfl rfl hl.1 rfl (lv_room (Nat.le_of_ble_eq_true rfl)) dX0_many_73 ⟨show cells + 0 ≤ MC by omega, show slots + 0 ≤ MS by omega⟩) (fun r36 N37 H locs h hw => ?_)
        refine W.eq (g2 := F0 m 76 ls (.long r36 :: [])) rfl ?_
        refine lv_iload_n (pc := 76) hx hb dX0_many_76 rfl (lv_at hl 1 rfl) ?_
        refine lv_i2l (pc := 77) hx hb dX0_many_77 rfl ?_
        refine W.lcmp (pc := 78) hx hb dX0_many_78 ?_
        refine lv_if_lt (pc := 79) (tgt := 85) hx hb dX0_many_79 rfl (fun c58 => ?_) (fun c58 => ?_)
        · have h := h.1 ((lg_cmp_lt _ _).mp c58)
          exact kX0_many_85 X hr hlk hL hT ih _ _ _ _ _ _ _ _ _ _ _ _ _ h ⟨hw, by omega⟩ (lv_sub hl [0, 1, 2, 3, 4] rfl)
        · have h := h.2 (fun z => c58 ((lg_cmp_lt _ _).mpr z))
          refine lv_iload (pc := 82) hx hb dX0_many_82 (lv_at hl 4 rfl) ?_
          refine W.widen (k := MC) (n := MS) (by omega) (by omega) ?_
          refine cx_ret ?_
          exact W.iret (pc := 84) hx hb hr (fun t ht hW => c_ret (val := vI) (lw := jW) (u := N37) hw h ht) hw.2.2.2 dX0_many_84 hlk
      · have h := h.2 c35
        refine lv_aload_n (pc := 51) hx hb dX0_many_51 rfl (lv_at hl 0 rfl) ?_
        refine lq_aload (pc := 52) hx hb dX0_many_52 (lv_at hl 3 rfl) ?_
        refine lv_iload (pc := 54) hx hb dX0_many_54 (lv_at hl 4 rfl) ?_
        obtain ⟨f62, f63, f64, f65, f66, f67, f68, f69, f70, f71, f72, f73, f74, f75, f76, f77, f78, f79, f80, hN61, h⟩ := h
        refine c_callJ (pc := 56) (val := vL) X hw (va_runV (C := RX0) (As := [va_rf x5, .int x6]) (rest := []) X.1 (tX0_unlikeOf X.2.2.1 (sz := H.size) h) (cwV 2 hts (lw_V q1562 q1564 qs35 q102 q1565) rfl rfl rfl ⟨rfl, by decide, by decide, (by decide +kernel : (parseMethodDescriptor yX0_unlikeOf.desc).map (fun d => d.parameters.length) = some 2)⟩ ⟨Nat.le_of_ble_eq_true rfl, Nat.le_of_ble_eq_true rfl⟩) ⟨cPre_blind, c_recv X hw hN61 rfl, fun U hU hW => ⟨rfl, X.preJ hw hU hW⟩⟩ rfl rfl hl.1 rfl (lv_room (Nat.le_of_ble_eq_true rfl)) dX0_many_56 ⟨show cells + 0 ≤ MC by omega, show slots + 0 ≤ MS by omega⟩) (fun r59 N60 H locs h hw => ?_)
        refine W.eq (g2 := F0 m 59 ls (.long r59 :: [])) rfl ?_
        refine lv_iload_n (pc := 59) hx hb dX0_many_59 rfl (lv_at hl 1 rfl) ?_
        refine lv_i2l (pc := 60) hx hb dX0_many_60 rfl ?_
        refine W.lcmp (pc := 61) hx hb dX0_many_61 ?_
        refine lv_if_ne (pc := 62) (tgt := 85) hx hb dX0_many_62 rfl (fun c81 => ?_) (fun c81 => ?_)
        · have h := h.2 (fun z => c81 ((lg_cmp_eq _ _).mpr z))
          exact kX0_many_85 X hr hlk hL hT ih _ _ _ _ _ _ _ _ _ _ _ _ _ h ⟨hw, by omega⟩ (lv_sub hl [0, 1, 2, 3, 4] rfl)
        · have h := h.1 ((lg_cmp_eq _ _).mp c81)
          refine lv_goto (pc := 65) (tgt := 82) hx hb dX0_many_65 rfl ?_
          refine lv_iload (pc := 82) hx hb dX0_many_82 (lv_at hl 4 rfl) ?_
          refine W.widen (k := MC) (n := MS) (by omega) (by omega) ?_
          refine cx_ret ?_
          exact W.iret (pc := 84) hx hb hr (fun t ht hW => c_ret (val := vI) (lw := jW) (u := N60) hw h ht) hw.2.2.2 dX0_many_84 hlk
theorem txX0_many {l : Launch} (hL : l.stackTraces = false) {G : gG} (hO : gOk G) {post : Int32 → NM → Prop} {MC MS : Nat} {N : NM} {x0 : Nat} {x1 : Int32} {x2 : Int32} {x3 : Int32} {x4 : Int32} {sz : Nat} (h : wX0_many (gC G) post MC MS N x0 x1 x2 x3 x4) : cx_Met l yX0_many (ws_ yX0_many cX0_many 7 (some .int)) ⟨10, MC, MS, 10322⟩ (va_Pc [.ref x0, .int x1, .int x2, .int x3, .int x4] (cPre G [] N sz)) (gQ vI post (fun u H => cBw G (cA [] N sz) (jW u).1 (jW u).2 H) (cA [] N sz)) (cXC G (cA [] N sz) [] (fun _ _ _ => False)) MC MS (cA [] N sz) := by
  refine c_ofX (B := fun A u H => cBw G A (jW u).1 (jW u).2 H) (by decide) hO (Nat.le_of_ble_eq_true rfl) (fun p e s m below meth c ls A X hr hlk hT hw hl => ?_)
  have hl : lv_has ls 7 [(0, .ref x0), (1, .int x1), (2, .int x2), (3, .int x3), (4, .int x4)] := hl
  have hx := X.1.1
  have hb := X.1.2.1
  have hml := X.1.2.2.1
  have hown := X.1.2.2.2.1
  have hts := X.1.2.2.2.2
  obtain ⟨H, eH⟩ : ∃ z, z = s.heap := ⟨_, rfl⟩
  rw [← eH] at hw ⊢
  obtain ⟨locs, eLo⟩ : ∃ z : List Loc, z = [] := ⟨_, rfl⟩
  rw [← eLo] at hw ⊢
  have hbud : 0 + MC ≤ MC ∧ 0 + MS ≤ MS := by omega
  unfold wX0_many at h
  refine lv_aload_n (pc := 0) hx hb dX0_many_0 rfl (lv_at hl 0 rfl) ?_
  refine lv_iload_n (pc := 1) hx hb dX0_many_1 rfl (lv_at hl 1 rfl) ?_
  obtain ⟨f8, f9, f10, f11, f12, f13, f14, f15, f16, f17, f18, f19, f20, f21, f22, f23, f24, f25, f26, hN7, h⟩ := h
  obtain ⟨mc3, ms4, hm5, hm6, h⟩ := h
  refine c_callJ (pc := 2) (val := vQ) X hw (vx_runVW (C := RX0) (As := [.int x1]) (rest := []) X.1 (tX0_at hL X.2.2.1 (sz := H.size) h) (vx_cwVW 1 hts (lw_VW q898 q900 qs20 q102 q901) rfl rfl rfl ⟨rfl, by decide, by decide, (by decide +kernel : (parseMethodDescriptor yX0_at.desc).map (fun d => d.parameters.length) = some 1)⟩ ⟨Nat.le_of_ble_eq_true rfl, Nat.le_of_ble_eq_true rfl⟩) ⟨cPre_blind, c_recv X hw hN7 rfl, fun U hU hW => ⟨rfl, X.preJ hw hU hW⟩⟩ rfl rfl hl.1 rfl (lv_room (Nat.le_of_ble_eq_true rfl)) dX0_many_2 ⟨show 0 + mc3 ≤ MC by omega, show 0 + ms4 ≤ MS by omega⟩) (fun r1 N2 H locs h hw => ?_)
  refine W.eq (g2 := F0 m 5 ls (va_rf r1 :: [])) rfl ?_
  refine lq_astore (pc := 5) (lv' := [(5, va_rf r1), (0, .ref x0), (1, .int x1), (2, .int x2), (3, .int x3), (4, .int x4)]) hx hb dX0_many_5 hl (by decide) rfl (fun ls hl => ?_)
  refine lq_aload (pc := 7) hx hb dX0_many_7 (lv_at hl 0 rfl) ?_
  refine lq_ifnull (pc := 9) (tgt := 31) hx hb dX0_many_9 rfl (fun hz27 => ?_) (fun a28 hr29 => ?_)
  · have h := h.1 hz27
    refine lv_ldcw (pc := 31) hx hb hown (hts _ q1540) dX0_many_31 ?_
    refine W.widen (k := MC) (n := MS) (by omega) (by omega) ?_
    refine cx_ret ?_
    exact W.iret (pc := 34) hx hb hr (fun t ht hW => c_ret (val := vI) (lw := jW) (u := N2) hw h ht) hw.2.2.2 dX0_many_34 hlk
  · have h := h.2 a28 hr29
    refine lv_iload_n (pc := 12) hx hb dX0_many_12 rfl (lv_at hl 3 rfl) ?_
    refine s_call (pc := 13) (val := vI) (As := [.int x2]) (rest := []) X.1 (tX0_isNumber h) (lw_S q1555 q976 q102 q977) ⟨by decide, by decide, (by decide +kernel : (parseMethodDescriptor yX0_isNumber.desc).map (fun d => d.parameters.length) = some 1)⟩ ⟨Nat.le_of_ble_eq_true rfl, Nat.le_of_ble_eq_true rfl⟩ hl.1 (Nat.le_of_ble_eq_true rfl) ⟨show 0 + mc3 ≤ MC by omega, show 0 + ms4 ≤ MS by omega⟩ dX0_many_13 rfl (fun r30 h => ?_)
    refine W.eq (g2 := F0 m 16 ls (.int r30 :: [])) rfl ?_
    refine lv_if_eq (pc := 16) (tgt := 31) hx hb dX0_many_16 rfl (fun c31 => ?_) (fun c31 => ?_)
    · have h := h.1 c31
      refine lv_ldcw (pc := 31) hx hb hown (hts _ q1540) dX0_many_31 ?_
      refine W.widen (k := MC) (n := MS) (by omega) (by omega) ?_
      refine cx_ret ?_
      exact W.iret (pc := 34) hx hb hr (fun t ht hW => c_ret (val := vI) (lw := jW) (u := N2) hw h ht) hw.2.2.2 dX0_many_34 hlk
    · have h := h.2 c31
      refine lv_iload_n (pc := 19) hx hb dX0_many_19 rfl (lv_at hl 4 rfl) ?_
      refine lv_i2l (pc := 20) hx hb dX0_many_20 rfl ?_
      refine lv_lconst (pc := 21) (v := (1 : Int64)) hx hb dX0_many_21 (by decide) ?_
      refine lv_ldc2 (pc := 22) hx hb hown (hts _ q1647) dX0_many_22 ?_
      refine s_call (pc := 25) (val := vI) (As := [.long x3.toInt64, .long (1 : Int64), .long (1000000 : Int64)]) (rest := []) X.1 (tX0_isIn h) (lw_S q380 q381 q102 q382) ⟨by decide, by decide, (by decide +kernel : (parseMethodDescriptor yX0_isIn.desc).map (fun d => d.parameters.length) = some 3)⟩ ⟨Nat.le_of_ble_eq_true rfl, Nat.le_of_ble_eq_true rfl⟩ hl.1 (Nat.le_of_ble_eq_true rfl) ⟨show 0 + mc3 ≤ MC by omega, show 0 + ms4 ≤ MS by omega⟩ dX0_many_25 rfl (fun r32 h => ?_)
      refine W.eq (g2 := F0 m 28 ls (.int r32 :: [])) rfl ?_
      refine lv_if_ne (pc := 28) (tgt := 35) hx hb dX0_many_28 rfl (fun c33 => ?_) (fun c33 => ?_)
      · have h := h.2 c33
        refine lv_iload_n (pc := 35) hx hb dX0_many_35 rfl (lv_at hl 3 rfl) ?_
        refine lv_istore (pc := 36) (i := 6) (lv' := [(6, .int x2), (5, va_rf r1), (0, .ref x0), (1, .int x1), (2, .int x2), (3, .int x3), (4, .int x4)]) hx hb dX0_many_36 hl (by decide) (by simp [rf_c]) (fun ls hl => ?_)
        obtain ⟨k, h⟩ := h
        exact kX0_many_38 X hr hlk hL hT  k _ _ _ _ _ _ _ _ _ _ _ _ _ h ⟨hw, by omega⟩ (lv_sub hl [2, 5, 6, 1, 0] rfl)
      · have h := h.1 c33
        refine lv_ldcw (pc := 31) hx hb hown (hts _ q1540) dX0_many_31 ?_
        refine W.widen (k := MC) (n := MS) (by omega) (by omega) ?_
        refine cx_ret ?_
        exact W.iret (pc := 34) hx hb hr (fun t ht hW => c_ret (val := vI) (lw := jW) (u := N2) hw h ht) hw.2.2.2 dX0_many_34 hlk
theorem tX0_many {l : Launch} (hL : l.stackTraces = false) {G : gG} (hO : gOk G) {post : Int32 → NM → Prop} {MC MS : Nat} {N : NM} {x0 : Nat} {x1 : Int32} {x2 : Int32} {x3 : Int32} {x4 : Int32} {sz : Nat} (h : wX0_many (gC G) post MC MS N x0 x1 x2 x3 x4) : Met l yX0_many (ws_ yX0_many cX0_many 7 (some .int)) ⟨10, MC, MS, 10322⟩ (va_Pc [.ref x0, .int x1, .int x2, .int x3, .int x4] (cPre G [] N sz)) (gQ vI post (fun u H => cBw G (cA [] N sz) (jW u).1 (jW u).2 H) (cA [] N sz)) MC MS (cA [] N sz) := cx_toMet (txX0_many hL hO h)

def wX0_greed_49 (K : Nat → Nat → Nat) (post : Int32 → NM → Prop) : Nat → Int32 → Option Nat → Int64 → Int32 → Nat → Nat → NM → Prop
  | 0, _, _, _, _, _, _, _ => False
  | n + 1, x3, x4, x5, x7, mc, ms, N => ∃ a38, x4 = some a38 ∧ (∃ f43, N a38 = some (eO 7 [va_rf f43]) ∧ (wX6_many K (fun r40 N41 => ((r40 ≤ x7) → (post x5.toInt32 N41)) ∧ (¬ (r40 ≤ x7) → (∃ f46, N41 a38 = some (eO 7 [va_rf f46]) ∧ (∃ a47, f46 = some a47 ∧ (∃ n50 f51, N41 a47 = some (eR 5 n50 f51) ∧ (vp_in x7 n50 ∧ (wX0_greedyOf K (fun r52 N53 => ((x7 = x3) → (post r52 N53)) ∧ (¬ (x7 = x3) → (∃ f56, N53 a38 = some (eO 7 [va_rf f56]) ∧ (∃ a57, f56 = some a57 ∧ (∃ n60 f61, N53 a57 = some (eR 5 n60 f61) ∧ (vp_in x7 n60 ∧ (∃ a62, (f61 x7.toNatClampNeg) = some a62 ∧ (∃ f67 f68 f69 f70, N53 a62 = some (eO 6 [.int f67, .int f68, .int f69, va_rf f70]) ∧ (wX4_value K (fun r64 N65 => wX0_greed_49 K post n x3 x4 (x5 - r64) (x7 + (1 : Int32)) mc ms N65) N53 a62 r52.toInt64))))))))) N41 (f51 x7.toNatClampNeg) x5))))))) N a38))
def wX0_greed (K : Nat → Nat → Nat) (post : Int32 → NM → Prop) (MC MS : Nat) (N : NM) (x0 : Nat) (x1 : Int32) (x2 : Int32) (x3 : Int32) : Prop :=
  ∃ f8 f9 f10 f11 f12 f13 f14 f15 f16 f17 f18 f19 f20 f21 f22 f23 f24 f25 f26, N x0 = some (eO 1 [va_rf f8, va_rf f9, va_rf f10, va_rf f11, va_rf f12, va_rf f13, va_rf f14, va_rf f15, va_rf f16, .int f17, .int f18, va_rf f19, va_rf f20, .int f21, va_rf f22, va_rf f23, va_rf f24, va_rf f25, va_rf f26]) ∧ (∃ mc3 ms4, mc3 ≤ MC ∧ ms4 ≤ MS ∧ wX0_at K (fun r1 N2 => (r1 = none → (post (-100000 : Int32) N2)) ∧ (∀ a28, r1 = some a28 → (wX0_isNumber (fun r30 => ((r30 = (0 : Int32)) → (post (-100000 : Int32) N2)) ∧ (¬ (r30 = (0 : Int32)) → (∃ f35, N2 a28 = some (eO 7 [va_rf f35]) ∧ (wX6_many K (fun r32 N33 => wX0_isIn (fun r36 => ((r36 = (0 : Int32)) → (post (-100000 : Int32) N33)) ∧ (¬ (r36 = (0 : Int32)) → ((∃ k, wX0_greed_49 K post k x3 r1 x2.toInt64 (0 : Int32) (MC - mc3) (MS - ms4) N33)))) x3.toInt64 (-1 : Int64) ((r32 - (1 : Int32)).toInt64)) N2 a28)))) x2))) mc3 ms4 N x0 x1)
theorem kX0_greed_49 {p : Program} {l : Launch} {e : Env} {s : State} {m : MethodId} {args : Array Value} {below : List Frame} {meth : Method} {c : Code} {G : gG} {A : Nat → Prop} {MC MS : Nat} {post : Int32 → NM → Prop} (X : cX G A RX0 p s m args c cX0_greed 9) (hr : meth.sig.returnType = (some .int)) (hlk : meth.locks = false) (hL : l.stackTraces = false) (hT : c.exceptionTable.toList = tableOf []) : ∀ (n : Nat) (x3 : Int32) (x4 : Option Nat) (x5 : Int64) (x7 : Int32) (mc ms : Nat) (N : NM) (H : Heap) (locs : List Loc) (ls : Array Slot) (cells slots : Nat), wX0_greed_49 (gC G) post n x3 x4 x5 x7 mc ms N → (cH G A s [] N H locs ∧ cells + mc ≤ MC ∧ slots + ms ≤ MS) → lv_has ls 9 [(3, .int x3), (4, va_rf x4), (5, .long x5), (7, .int x7)] → W p l e ⟨10, MC, MS, 10322⟩ s m args below meth c H locs cells slots (cx_MQ below (gQ vI post (fun u H => cBw G A (jW u).1 (jW u).2 H) A) (cXC G A [] (fun _ _ _ => False)) args s MC MS A) (F0 m 49 ls []) := by
  have hx := X.1.1
  have hb := X.1.2.1
  have hml := X.1.2.2.1
  have hown := X.1.2.2.2.1
  have hts := X.1.2.2.2.2
  intro n
  induction n with
  | zero =>
    intro x3 x4 x5 x7 mc ms N H locs ls cells slots h
    exact False.elim h
  | succ n ih =>
    intro x3 x4 x5 x7 mc ms N H locs ls cells slots h hw0 hl
    obtain ⟨hw, hbud⟩ := hw0
    unfold wX0_greed_49 at h
    refine lv_iload (pc := 49) hx hb dX0_greed_49 (lv_at hl 3 rfl) ?_
    refine lq_aload (pc := 51) hx hb dX0_greed_51 (lv_at hl 1 rfl) ?_
    obtain ⟨a38, hr39, h⟩ := h
    refine W.eq (g2 := F0 m 53 ls [.ref a38, .int x7]) (by rw [hr39]; rfl) ?_
    obtain ⟨f43, hN42, h⟩ := h
    refine c_callJ (pc := 53) (val := vI) X hw (va_runV (C := RX6) (As := []) (rest := [.int x7]) X.1 (tX6_many X.2.2.1 (sz := H.size) h) (cwV 0 hts (lw_V q890 q891 q892 q129 q893) rfl rfl rfl ⟨rfl, by decide, by decide, (by decide +kernel : (parseMethodDescriptor yX6_many.desc).map (fun d => d.parameters.length) = some 0)⟩ ⟨Nat.le_of_ble_eq_true rfl, Nat.le_of_ble_eq_true rfl⟩) ⟨cPre_blind, c_recv X hw hN42 rfl, fun U hU hW => ⟨rfl, X.preJ hw hU hW⟩⟩ rfl rfl hl.1 rfl (lv_room (Nat.le_of_ble_eq_true rfl)) dX0_greed_53 ⟨show cells + 0 ≤ MC by omega, show slots + 0 ≤ MS by omega⟩) (fun r40 N41 H locs h hw => ?_)
    refine W.eq (g2 := F0 m 56 ls (.int r40 :: [.int x7])) rfl ?_
    refine lv_icmp_ge (pc := 56) (tgt := 108) hx hb dX0_greed_56 rfl (fun c44 => ?_) (fun c44 => ?_)
    · have h := h.1 c44
      refine lv_lload (pc := 108) hx hb dX0_greed_108 (lv_at hl 2 rfl) ?_
      refine lv_l2i (pc := 110) hx hb dX0_greed_110 rfl ?_
      refine W.widen (k := MC) (n := MS) (by omega) (by omega) ?_
      refine cx_ret ?_
      exact W.iret (pc := 111) hx hb hr (fun t ht hW => c_ret (val := vI) (lw := jW) (u := N41) hw h ht) hw.2.2.2 dX0_greed_111 hlk
    · have h := h.2 c44
      refine lq_aload (pc := 59) hx hb dX0_greed_59 (lv_at hl 1 rfl) ?_
      refine W.eq (g2 := F0 m 61 ls [.ref a38]) (by rw [hr39]; rfl) ?_
      obtain ⟨f46, hN45, h⟩ := h
      refine c_getN (pc := 61) X hw hN45 in_X6 rfl 0 (by decide) q885 rfl rfl dX0_greed_61 ?_
      refine lv_iload (pc := 64) hx hb dX0_greed_64 (lv_at hl 3 rfl) ?_
      obtain ⟨a47, hr48, h⟩ := h
      refine W.eq (g2 := F0 m 66 ls [.int x7, .ref a47]) (by rw [hr48]; rfl) ?_
      obtain ⟨n50, f51, hN49, h⟩ := h
      obtain ⟨hi, h⟩ := h
      refine c_aald (pc := 66) X hw 5 hN49 rfl hi dX0_greed_66 ?_
      refine lv_lload (pc := 67) hx hb dX0_greed_67 (lv_at hl 2 rfl) ?_
      refine c_callJ (pc := 69) (val := vI) X hw (va_runS (g := F0 m 69 ls _) (As := [va_rf (f51 x7.toNatClampNeg), .long x5]) (rest := []) X.1 (tX0_greedyOf X.2.2.1 (sz := H.size) h) (va_cwS 2 hts (lw_S q1652 q1653 q102 q1654) rfl rfl rfl ⟨by decide, by decide, (by decide +kernel : (parseMethodDescriptor yX0_greedyOf.desc).map (fun d => d.parameters.length) = some 2)⟩ ⟨Nat.le_of_ble_eq_true rfl, Nat.le_of_ble_eq_true rfl⟩) ⟨cPre_blind, fun U hU hW => ⟨rfl, X.preJ hw hU hW⟩⟩ rfl rfl hl.1 rfl (lv_room (Nat.le_of_ble_eq_true rfl)) dX0_greed_69 ⟨show cells + 0 + 0 ≤ MC by omega, show slots + 0 + 0 ≤ MS by omega⟩) (fun r52 N53 H locs h hw => ?_)
      refine W.eq (g2 := F0 m 72 ls (.int r52 :: [])) rfl ?_
      refine lv_istore (pc := 72) (lv' := [(8, .int r52), (3, .int x3), (4, va_rf x4), (5, .long x5), (7, .int x7)]) hx hb dX0_greed_72 hl (by decide) rfl (fun ls hl => ?_)
      refine lv_iload (pc := 74) hx hb dX0_greed_74 (lv_at hl 4 rfl) ?_
      refine lv_iload_n (pc := 76) hx hb dX0_greed_76 rfl (lv_at hl 1 rfl) ?_
      refine lv_icmp_ne (pc := 77) (tgt := 83) hx hb dX0_greed_77 rfl (fun c54 => ?_) (fun c54 => ?_)
      · have h := h.2 c54
        refine lv_lload (pc := 83) hx hb dX0_greed_83 (lv_at hl 3 rfl) ?_
        refine lq_aload (pc := 85) hx hb dX0_greed_85 (lv_at hl 2 rfl) ?_
        refine W.eq (g2 := F0 m 87 ls [.ref a38, .long x5]) (by rw [hr39]; rfl) ?_
        obtain ⟨f56, hN55, h⟩ := h
        refine c_getN (pc := 87) X hw hN55 in_X6 rfl 0 (by decide) q885 rfl rfl dX0_greed_87 ?_
        refine lv_iload (pc := 90) hx hb dX0_greed_90 (lv_at hl 4 rfl) ?_
        obtain ⟨a57, hr58, h⟩ := h
        refine W.eq (g2 := F0 m 92 ls [.int x7, .ref a57, .long x5]) (by rw [hr58]; rfl) ?_
        obtain ⟨n60, f61, hN59, h⟩ := h
        obtain ⟨hi, h⟩ := h
        refine c_aald (pc := 92) X hw 5 hN59 rfl hi dX0_greed_92 ?_
        refine lv_iload (pc := 93) hx hb dX0_greed_93 (lv_at hl 0 rfl) ?_
        refine lv_i2l (pc := 95) hx hb dX0_greed_95 rfl ?_
        obtain ⟨a62, hr63, h⟩ := h
        refine W.eq (g2 := F0 m 96 ls [.long r52.toInt64, .ref a62, .long x5]) (by rw [hr63]; rfl) ?_
        obtain ⟨f67, f68, f69, f70, hN66, h⟩ := h
        refine c_callJ (pc := 96) (val := vL) X hw (va_runV (C := RX4) (As := [.long r52.toInt64]) (rest := [.long x5]) X.1 (tX4_value X.2.2.1 (sz := H.size) h) (cwV 1 hts (lw_V q1383 q738 q739 q126 q740) rfl rfl rfl ⟨rfl, by decide, by decide, (by decide +kernel : (parseMethodDescriptor yX4_value.desc).map (fun d => d.parameters.length) = some 1)⟩ ⟨Nat.le_of_ble_eq_true rfl, Nat.le_of_ble_eq_true rfl⟩) ⟨cPre_blind, c_recv X hw hN66 rfl, fun U hU hW => ⟨rfl, X.preJ hw hU hW⟩⟩ rfl rfl hl.1 rfl (lv_room (Nat.le_of_ble_eq_true rfl)) dX0_greed_96 ⟨show cells + 0 + 0 + 0 ≤ MC by omega, show slots + 0 + 0 + 0 ≤ MS by omega⟩) (fun r64 N65 H locs h hw => ?_)
        refine W.eq (g2 := F0 m 99 ls (.long r64 :: [.long x5])) rfl ?_
        refine lv_lsub (pc := 99) hx hb dX0_greed_99 ?_
        refine lv_lstore (pc := 100) (i := 5) (lv' := [(5, .long (x5 - r64)), (8, .int r52), (3, .int x3), (4, va_rf x4), (7, .int x7)]) hx hb dX0_greed_100 hl (by decide) (by simp [rf_c]) (fun ls hl => ?_)
        refine lv_iinc (pc := 102) (v := x7 + (1 : Int32)) (lv' := [(7, .int (x7 + (1 : Int32))), (5, .long (x5 - r64)), (8, .int r52), (3, .int x3), (4, va_rf x4)]) hx hb dX0_greed_102 hl (k := 4) rfl rfl (by decide) rfl (fun ls hl => ?_)
        refine lv_goto (pc := 105) (tgt := 49) hx hb dX0_greed_105 rfl ?_
        exact ih _ _ _ _ _ _ _ _ _ _ _ _ h ⟨hw, by omega⟩ (lv_sub hl [3, 4, 1, 0] rfl)
      · have h := h.1 c54
        refine lv_iload (pc := 80) hx hb dX0_greed_80 (lv_at hl 0 rfl) ?_
        refine W.widen (k := MC) (n := MS) (by omega) (by omega) ?_
        refine cx_ret ?_
        exact W.iret (pc := 82) hx hb hr (fun t ht hW => c_ret (val := vI) (lw := jW) (u := N53) hw h ht) hw.2.2.2 dX0_greed_82 hlk
theorem txX0_greed {l : Launch} (hL : l.stackTraces = false) {G : gG} (hO : gOk G) {post : Int32 → NM → Prop} {MC MS : Nat} {N : NM} {x0 : Nat} {x1 : Int32} {x2 : Int32} {x3 : Int32} {sz : Nat} (h : wX0_greed (gC G) post MC MS N x0 x1 x2 x3) : cx_Met l yX0_greed (ws_ yX0_greed cX0_greed 9 (some .int)) ⟨10, MC, MS, 10322⟩ (va_Pc [.ref x0, .int x1, .int x2, .int x3] (cPre G [] N sz)) (gQ vI post (fun u H => cBw G (cA [] N sz) (jW u).1 (jW u).2 H) (cA [] N sz)) (cXC G (cA [] N sz) [] (fun _ _ _ => False)) MC MS (cA [] N sz) := by
  refine c_ofX (B := fun A u H => cBw G A (jW u).1 (jW u).2 H) (by decide) hO (Nat.le_of_ble_eq_true rfl) (fun p e s m below meth c ls A X hr hlk hT hw hl => ?_)
  have hl : lv_has ls 9 [(0, .ref x0), (1, .int x1), (2, .int x2), (3, .int x3)] := hl
  have hx := X.1.1
  have hb := X.1.2.1
  have hml := X.1.2.2.1
  have hown := X.1.2.2.2.1
  have hts := X.1.2.2.2.2
  obtain ⟨H, eH⟩ : ∃ z, z = s.heap := ⟨_, rfl⟩
  rw [← eH] at hw ⊢
  obtain ⟨locs, eLo⟩ : ∃ z : List Loc, z = [] := ⟨_, rfl⟩
  rw [← eLo] at hw ⊢
  have hbud : 0 + MC ≤ MC ∧ 0 + MS ≤ MS := by omega
  unfold wX0_greed at h
  refine lv_aload_n (pc := 0) hx hb dX0_greed_0 rfl (lv_at hl 0 rfl) ?_
  refine lv_iload_n (pc := 1) hx hb dX0_greed_1 rfl (lv_at hl 1 rfl) ?_
  obtain ⟨f8, f9, f10, f11, f12, f13, f14, f15, f16, f17, f18, f19, f20, f21, f22, f23, f24, f25, f26, hN7, h⟩ := h
  obtain ⟨mc3, ms4, hm5, hm6, h⟩ := h
  refine c_callJ (pc := 2) (val := vQ) X hw (vx_runVW (C := RX0) (As := [.int x1]) (rest := []) X.1 (tX0_at hL X.2.2.1 (sz := H.size) h) (vx_cwVW 1 hts (lw_VW q898 q900 qs20 q102 q901) rfl rfl rfl ⟨rfl, by decide, by decide, (by decide +kernel : (parseMethodDescriptor yX0_at.desc).map (fun d => d.parameters.length) = some 1)⟩ ⟨Nat.le_of_ble_eq_true rfl, Nat.le_of_ble_eq_true rfl⟩) ⟨cPre_blind, c_recv X hw hN7 rfl, fun U hU hW => ⟨rfl, X.preJ hw hU hW⟩⟩ rfl rfl hl.1 rfl (lv_room (Nat.le_of_ble_eq_true rfl)) dX0_greed_2 ⟨show 0 + mc3 ≤ MC by omega, show 0 + ms4 ≤ MS by omega⟩) (fun r1 N2 H locs h hw => ?_)
  refine W.eq (g2 := F0 m 5 ls (va_rf r1 :: [])) rfl ?_
  refine lq_astore (pc := 5) (lv' := [(4, va_rf r1), (0, .ref x0), (1, .int x1), (2, .int x2), (3, .int x3)]) hx hb dX0_greed_5 hl (by decide) rfl (fun ls hl => ?_)
  refine lq_aload (pc := 7) hx hb dX0_greed_7 (lv_at hl 0 rfl) ?_
  refine lq_ifnull (pc := 9) (tgt := 38) hx hb dX0_greed_9 rfl (fun hz27 => ?_) (fun a28 hr29 => ?_)
  · have h := h.1 hz27
    refine lv_ldcw (pc := 38) hx hb hown (hts _ q1540) dX0_greed_38 ?_
    refine W.widen (k := MC) (n := MS) (by omega) (by omega) ?_
    refine cx_ret ?_
    exact W.iret (pc := 41) hx hb hr (fun t ht hW => c_ret (val := vI) (lw := jW) (u := N2) hw h ht) hw.2.2.2 dX0_greed_41 hlk
  · have h := h.2 a28 hr29
    refine lv_iload_n (pc := 12) hx hb dX0_greed_12 rfl (lv_at hl 3 rfl) ?_
    refine s_call (pc := 13) (val := vI) (As := [.int x2]) (rest := []) X.1 (tX0_isNumber h) (lw_S q1555 q976 q102 q977) ⟨by decide, by decide, (by decide +kernel : (parseMethodDescriptor yX0_isNumber.desc).map (fun d => d.parameters.length) = some 1)⟩ ⟨Nat.le_of_ble_eq_true rfl, Nat.le_of_ble_eq_true rfl⟩ hl.1 (Nat.le_of_ble_eq_true rfl) ⟨show 0 + mc3 ≤ MC by omega, show 0 + ms4 ≤ MS by omega⟩ dX0_greed_13 rfl (fun r30 h => ?_)
    refine W.eq (g2 := F0 m 16 ls (.int r30 :: [])) rfl ?_
    refine lv_if_eq (pc := 16) (tgt := 38) hx hb dX0_greed_16 rfl (fun c31 => ?_) (fun c31 => ?_)
    · have h := h.1 c31
      refine lv_ldcw (pc := 38) hx hb hown (hts _ q1540) dX0_greed_38 ?_
      refine W.widen (k := MC) (n := MS) (by omega) (by omega) ?_
      refine cx_ret ?_
      exact W.iret (pc := 41) hx hb hr (fun t ht hW => c_ret (val := vI) (lw := jW) (u := N2) hw h ht) hw.2.2.2 dX0_greed_41 hlk
    · have h := h.2 c31
      refine lv_iload_n (pc := 19) hx hb dX0_greed_19 rfl (lv_at hl 4 rfl) ?_
      refine lv_i2l (pc := 20) hx hb dX0_greed_20 rfl ?_
      refine lv_ldc2 (pc := 21) hx hb hown (hts _ q1556) dX0_greed_21 ?_
      refine lq_aload (pc := 24) hx hb dX0_greed_24 (lv_at hl 0 rfl) ?_
      refine W.eq (g2 := F0 m 26 ls [.ref a28, .long (-1 : Int64), .long x3.toInt64]) (by rw [hr29]; rfl) ?_
      obtain ⟨f35, hN34, h⟩ := h
      refine c_callJ (pc := 26) (val := vI) X hw (va_runV (C := RX6) (As := []) (rest := [.long (-1 : Int64), .long x3.toInt64]) X.1 (tX6_many X.2.2.1 (sz := H.size) h) (cwV 0 hts (lw_V q890 q891 q892 q129 q893) rfl rfl rfl ⟨rfl, by decide, by decide, (by decide +kernel : (parseMethodDescriptor yX6_many.desc).map (fun d => d.parameters.length) = some 0)⟩ ⟨Nat.le_of_ble_eq_true rfl, Nat.le_of_ble_eq_true rfl⟩) ⟨cPre_blind, c_recv X hw hN34 rfl, fun U hU hW => ⟨rfl, X.preJ hw hU hW⟩⟩ rfl rfl hl.1 rfl (lv_room (Nat.le_of_ble_eq_true rfl)) dX0_greed_26 ⟨show 0 + mc3 + 0 ≤ MC by omega, show 0 + ms4 + 0 ≤ MS by omega⟩) (fun r32 N33 H locs h hw => ?_)
      refine W.eq (g2 := F0 m 29 ls (.int r32 :: [.long (-1 : Int64), .long x3.toInt64])) rfl ?_
      refine lv_iconst (pc := 29) (v := (1 : Int32)) hx hb dX0_greed_29 (by decide) ?_
      refine lv_isub (pc := 30) hx hb dX0_greed_30 ?_
      refine lv_i2l (pc := 31) hx hb dX0_greed_31 rfl ?_
      refine s_call (pc := 32) (val := vI) (As := [.long x3.toInt64, .long (-1 : Int64), .long ((r32 - (1 : Int32)).toInt64)]) (rest := []) X.1 (tX0_isIn h) (lw_S q380 q381 q102 q382) ⟨by decide, by decide, (by decide +kernel : (parseMethodDescriptor yX0_isIn.desc).map (fun d => d.parameters.length) = some 3)⟩ ⟨Nat.le_of_ble_eq_true rfl, Nat.le_of_ble_eq_true rfl⟩ hl.1 (Nat.le_of_ble_eq_true rfl) ⟨show 0 + mc3 + 0 ≤ MC by omega, show 0 + ms4 + 0 ≤ MS by omega⟩ dX0_greed_32 rfl (fun r36 h => ?_)
      refine W.eq (g2 := F0 m 35 ls (.int r36 :: [])) rfl ?_
      refine lv_if_ne (pc := 35) (tgt := 42) hx hb dX0_greed_35 rfl (fun c37 => ?_) (fun c37 => ?_)
      · have h := h.2 c37
        refine lv_iload_n (pc := 42) hx hb dX0_greed_42 rfl (lv_at hl 3 rfl) ?_
        refine lv_i2l (pc := 43) hx hb dX0_greed_43 rfl ?_
        refine lv_lstore (pc := 44) (i := 5) (lv' := [(5, .long x2.toInt64), (4, va_rf r1), (0, .ref x0), (1, .int x1), (2, .int x2), (3, .int x3)]) hx hb dX0_greed_44 hl (by decide) (by simp [rf_c]) (fun ls hl => ?_)
        refine lv_iconst (pc := 46) (v := (0 : Int32)) hx hb dX0_greed_46 (by decide) ?_
        refine lv_istore (pc := 47) (lv' := [(7, .int (0 : Int32)), (5, .long x2.toInt64), (4, va_rf r1), (0, .ref x0), (1, .int x1), (2, .int x2), (3, .int x3)]) hx hb dX0_greed_47 hl (by decide) rfl (fun ls hl => ?_)
        obtain ⟨k, h⟩ := h
        exact kX0_greed_49 X hr hlk hL hT  k _ _ _ _ _ _ _ _ _ _ _ _ h ⟨hw, by omega⟩ (lv_sub hl [6, 2, 1, 0] rfl)
      · have h := h.1 c37
        refine lv_ldcw (pc := 38) hx hb hown (hts _ q1540) dX0_greed_38 ?_
        refine W.widen (k := MC) (n := MS) (by omega) (by omega) ?_
        refine cx_ret ?_
        exact W.iret (pc := 41) hx hb hr (fun t ht hW => c_ret (val := vI) (lw := jW) (u := N33) hw h ht) hw.2.2.2 dX0_greed_41 hlk
theorem tX0_greed {l : Launch} (hL : l.stackTraces = false) {G : gG} (hO : gOk G) {post : Int32 → NM → Prop} {MC MS : Nat} {N : NM} {x0 : Nat} {x1 : Int32} {x2 : Int32} {x3 : Int32} {sz : Nat} (h : wX0_greed (gC G) post MC MS N x0 x1 x2 x3) : Met l yX0_greed (ws_ yX0_greed cX0_greed 9 (some .int)) ⟨10, MC, MS, 10322⟩ (va_Pc [.ref x0, .int x1, .int x2, .int x3] (cPre G [] N sz)) (gQ vI post (fun u H => cBw G (cA [] N sz) (jW u).1 (jW u).2 H) (cA [] N sz)) MC MS (cA [] N sz) := cx_toMet (txX0_greed hL hO h)

def wX0_nearest_153 (K : Nat → Nat → Nat) (post : Int32 → NM → Prop) (x4 : Nat) (mc ms : Nat) (N : NM) : Prop :=
  ∃ f74 f75 f76 f77, N x4 = some (eO 21 [va_rf f74, .int f75, va_rf f76, .int f77]) ∧ (wJ7_isEmpty K (fun r71 N72 => ((r71 = (0 : Int32)) → (∃ f82 f83 f84 f85, N72 x4 = some (eO 21 [va_rf f82, .int f83, va_rf f84, .int f85]) ∧ (wJ28_poll_n K (fun r79 N80 => ∃ a86, r79 = some a86 ∧ (∃ f89 f90, N80 a86 = some (eO 14 [.int f89, .int f90]) ∧ (post f89 N80))) N72 x4))) ∧ (¬ (r71 = (0 : Int32)) → (post (-100000 : Int32) N72))) N x4)
def wX0_nearest_129 (K : Nat → Nat → Nat) (post : Int32 → NM → Prop) (x2 : Int32) (x4 : Nat) (x6 : Int32) (mc ms : Nat) (N : NM) : Prop :=
  ((x6 < (-15000 : Int32)) → (wX0_nearest_153 K post x4 mc ms N)) ∧ (¬ (x6 < (-15000 : Int32)) → (1 ≤ mc ∧ 2 ≤ ms ∧ (∀ nq93, N nq93 = none → (∀ N95, N95 = va_up N nq93 (some (eO 14 [.int (0 : Int32), .int (0 : Int32)])) → (wX15_init K (fun _ N99 => ∃ f107 f108 f109 f110, N99 x4 = some (eO 21 [va_rf f107, .int f108, va_rf f109, .int f110]) ∧ (∃ mc102 ms103, mc102 ≤ (mc - 1) ∧ ms103 ≤ (ms - 2) ∧ wJ28_add_n K (fun r100 N101 => wX0_nearest_153 K post x4 ((mc - 1) - mc102) ((ms - 2) - ms103) N101) mc102 ms103 N99 x4 nq93)) N95 nq93 x6 x2)))))
def wX0_nearest_105 (K : Nat → Nat → Nat) (post : Int32 → NM → Prop) (x2 : Int32) (x4 : Nat) (x5 : Int32) (x6 : Int32) (mc ms : Nat) (N : NM) : Prop :=
  (((15000 : Int32) < x5) → (wX0_nearest_129 K post x2 x4 x6 mc ms N)) ∧ (¬ ((15000 : Int32) < x5) → (1 ≤ mc ∧ 2 ≤ ms ∧ (∀ nq113, N nq113 = none → (∀ N115, N115 = va_up N nq113 (some (eO 14 [.int (0 : Int32), .int (0 : Int32)])) → (wX15_init K (fun _ N119 => ∃ f127 f128 f129 f130, N119 x4 = some (eO 21 [va_rf f127, .int f128, va_rf f129, .int f130]) ∧ (∃ mc122 ms123, mc122 ≤ (mc - 1) ∧ ms123 ≤ (ms - 2) ∧ wJ28_add_n K (fun r120 N121 => wX0_nearest_129 K post x2 x4 x6 ((mc - 1) - mc122) ((ms - 2) - ms123) N121) mc122 ms123 N119 x4 nq113)) N115 nq113 x5 x2)))))
def wX0_nearest_73 (K : Nat → Nat → Nat) (post : Int32 → NM → Prop) : Nat → Nat → Int32 → Nat → Int32 → Int32 → Nat → Nat → NM → Prop
  | 0, _, _, _, _, _, _, _, _ => False
  | n + 1, x0, x2, x4, x5, x6, mc, ms, N => ((x6 < (-15000 : Int32)) → (wX0_nearest_105 K post x2 x4 x5 x6 mc ms N)) ∧ (¬ (x6 < (-15000 : Int32)) → (∃ f132 f133 f134 f135 f136 f137 f138 f139 f140 f141 f142 f143 f144 f145 f146 f147 f148 f149 f150, N x0 = some (eO 1 [va_rf f132, va_rf f133, va_rf f134, va_rf f135, va_rf f136, va_rf f137, va_rf f138, va_rf f139, va_rf f140, .int f141, .int f142, va_rf f143, va_rf f144, .int f145, va_rf f146, va_rf f147, va_rf f148, va_rf f149, va_rf f150]) ∧ (∃ a151, f135 = some a151 ∧ (∃ n154 f155, N a151 = some (eR 6 n154 f155) ∧ (vp_in (0 : Int32) n154 ∧ (∃ a156, (f155 (0 : Int32).toNatClampNeg) = some a156 ∧ (∃ n159 f160, N a156 = some (eL 1 n159 f160) ∧ (vp_in ((15000 : Int32) + x6) n159 ∧ ((((f160 ((15000 : Int32) + x6).toNatClampNeg) = (0 : Int64)) → (wX0_nearest_73 K post n x0 x2 x4 x5 (x6 + (-1 : Int32)) mc ms N)) ∧ (¬ ((f160 ((15000 : Int32) + x6).toNatClampNeg) = (0 : Int64)) → (wX0_nearest_105 K post x2 x4 x5 x6 mc ms N)))))))))))
def wX0_nearest_70 (K : Nat → Nat → Nat) (post : Int32 → NM → Prop) (x0 : Nat) (x2 : Int32) (x4 : Nat) (x5 : Int32) (mc ms : Nat) (N : NM) : Prop :=
  (∃ k, wX0_nearest_73 K post k x0 x2 x4 x5 x2 mc ms N)
def wX0_nearest_38 (K : Nat → Nat → Nat) (post : Int32 → NM → Prop) : Nat → Nat → Int32 → Nat → Int32 → Nat → Nat → NM → Prop
  | 0, _, _, _, _, _, _, _ => False
  | n + 1, x0, x2, x4, x5, mc, ms, N => (((15000 : Int32) < x5) → (wX0_nearest_70 K post x0 x2 x4 x5 mc ms N)) ∧ (¬ ((15000 : Int32) < x5) → (∃ f163 f164 f165 f166 f167 f168 f169 f170 f171 f172 f173 f174 f175 f176 f177 f178 f179 f180 f181, N x0 = some (eO 1 [va_rf f163, va_rf f164, va_rf f165, va_rf f166, va_rf f167, va_rf f168, va_rf f169, va_rf f170, va_rf f171, .int f172, .int f173, va_rf f174, va_rf f175, .int f176, va_rf f177, va_rf f178, va_rf f179, va_rf f180, va_rf f181]) ∧ (∃ a182, f166 = some a182 ∧ (∃ n185 f186, N a182 = some (eR 6 n185 f186) ∧ (vp_in (0 : Int32) n185 ∧ (∃ a187, (f186 (0 : Int32).toNatClampNeg) = some a187 ∧ (∃ n190 f191, N a187 = some (eL 1 n190 f191) ∧ (vp_in ((15000 : Int32) + x5) n190 ∧ ((((f191 ((15000 : Int32) + x5).toNatClampNeg) = (0 : Int64)) → (wX0_nearest_38 K post n x0 x2 x4 (x5 + (1 : Int32)) mc ms N)) ∧ (¬ ((f191 ((15000 : Int32) + x5).toNatClampNeg) = (0 : Int64)) → (wX0_nearest_70 K post x0 x2 x4 x5 mc ms N)))))))))))
def wX0_nearest (K : Nat → Nat → Nat) (post : Int32 → NM → Prop) (MC MS : Nat) (N : NM) (x0 : Nat) (x1 : Int32) (x2 : Int32) : Prop :=
  ∃ f8 f9 f10 f11 f12 f13 f14 f15 f16 f17 f18 f19 f20 f21 f22 f23 f24 f25 f26, N x0 = some (eO 1 [va_rf f8, va_rf f9, va_rf f10, va_rf f11, va_rf f12, va_rf f13, va_rf f14, va_rf f15, va_rf f16, .int f17, .int f18, va_rf f19, va_rf f20, .int f21, va_rf f22, va_rf f23, va_rf f24, va_rf f25, va_rf f26]) ∧ (∃ mc3 ms4, mc3 ≤ MC ∧ ms4 ≤ MS ∧ wX0_at K (fun r1 N2 => (r1 = none → (post (-100000 : Int32) N2)) ∧ (∀ a28, r1 = some a28 → (wX0_isNumber (fun r30 => ((r30 = (0 : Int32)) → (post (-100000 : Int32) N2)) ∧ (¬ (r30 = (0 : Int32)) → (∃ f35 f36 f37 f38 f39 f40 f41 f42 f43 f44 f45 f46 f47 f48 f49 f50 f51 f52 f53, N2 x0 = some (eO 1 [va_rf f35, va_rf f36, va_rf f37, va_rf f38, va_rf f39, va_rf f40, va_rf f41, va_rf f42, va_rf f43, .int f44, .int f45, va_rf f46, va_rf f47, .int f48, va_rf f49, va_rf f50, va_rf f51, va_rf f52, va_rf f53]) ∧ (wX0_laysWays K (fun _ N33 => 1 ≤ (MC - mc3) ∧ 4 ≤ (MS - ms4) ∧ (∀ nq56, N33 nq56 = none → (∀ N58, N58 = va_up N33 nq56 (some (eO 21 [va_rf none, .int (0 : Int32), va_rf none, .int (0 : Int32)])) → (∃ mc63 ms64, mc63 ≤ ((MC - mc3) - 1) ∧ ms64 ≤ ((MS - ms4) - 4) ∧ wJ28_init K (fun _ N62 => (∃ k, wX0_nearest_38 K post k x0 x2 nq56 x2 (((MC - mc3) - 1) - mc63) (((MS - ms4) - 4) - ms64) N62)) mc63 ms64 N58 nq56)))) N2 x0 r1)))) x2))) mc3 ms4 N x0 x1)
theorem kX0_nearest_153 {p : Program} {l : Launch} {e : Env} {s : State} {m : MethodId} {args : Array Value} {below : List Frame} {meth : Method} {c : Code} {G : gG} {A : Nat → Prop} {MC MS : Nat} {post : Int32 → NM → Prop} (X : cX G A RX0 p s m args c cX0_nearest 7) (hr : meth.sig.returnType = (some .int)) (hlk : meth.locks = false) (hL : l.stackTraces = false) (hT : c.exceptionTable.toList = tableOf []) : ∀ (x4 : Nat) (mc ms : Nat) (N : NM) (H : Heap) (locs : List Loc) (ls : Array Slot) (cells slots : Nat), wX0_nearest_153 (gC G) post x4 mc ms N → (cH G A s [] N H locs ∧ cells + mc ≤ MC ∧ slots + ms ≤ MS) → lv_has ls 7 [(4, .ref x4)] → W p l e ⟨10, MC, MS, 10322⟩ s m args below meth c H locs cells slots (cx_MQ below (gQ vI post (fun u H => cBw G A (jW u).1 (jW u).2 H) A) (cXC G A [] (fun _ _ _ => False)) args s MC MS A) (F0 m 153 ls []) := by
  have hx := X.1.1
  have hb := X.1.2.1
  have hml := X.1.2.2.1
  have hown := X.1.2.2.2.1
  have hts := X.1.2.2.2.2
  intro x4 mc ms N H locs ls cells slots h hw0 hl
  obtain ⟨hw, hbud⟩ := hw0
  unfold wX0_nearest_153 at h
  refine lv_aload (pc := 153) hx hb dX0_nearest_153 (lv_at hl 0 rfl) ?_
  obtain ⟨f74, f75, f76, f77, hN73, h⟩ := h
  refine c_callJ (pc := 155) (val := vI) X hw (va_runU (C := RJ28) (As := []) (rest := []) X.1 (tJ7_isEmpty X.2.2.1 (sz := H.size) h) (cu_mk (x := ⟨"java/util/PriorityQueue", "isEmpty", "()Z"⟩) (owner := "java/util/AbstractCollection") hts (lw_meth q1738) rfl rfl rfl ⟨Nat.le_of_ble_eq_true rfl, Nat.le_of_ble_eq_true rfl⟩ (hts _ q114) ⟨by decide, by decide⟩ (by decide +kernel : (parseMethodDescriptor "()Z").map (fun d => d.parameters.length) = some 0) (hts _ q1733) (hts _ q1734) (va_Decl.of (hts _ q1737) (hts _ q1738)) (hts _ q1736) (hts _ q1737)) ⟨cPre_blind, c_recv X hw hN73 rfl, fun U hU hW => ⟨rfl, X.preJ hw hU hW⟩⟩ rfl rfl hl.1 rfl (lv_room (Nat.le_of_ble_eq_true rfl)) dX0_nearest_155 ⟨show cells + 0 ≤ MC by omega, show slots + 0 ≤ MS by omega⟩) (fun r71 N72 H locs h hw => ?_)
  refine W.eq (g2 := F0 m 158 ls (.int r71 :: [])) rfl ?_
  refine lv_if_eq (pc := 158) (tgt := 167) hx hb dX0_nearest_158 rfl (fun c78 => ?_) (fun c78 => ?_)
  · have h := h.1 c78
    refine lv_aload (pc := 167) hx hb dX0_nearest_167 (lv_at hl 0 rfl) ?_
    obtain ⟨f82, f83, f84, f85, hN81, h⟩ := h
    refine c_callJ (pc := 169) (val := vQ) X hw (va_runV (C := RJ28) (As := []) (rest := []) X.1 (tJ28_poll_n X.2.2.1 (sz := H.size) h) (cwV 0 hts (lw_V q1746 q1747 q1748 q149 q1749) rfl rfl rfl ⟨rfl, by decide, by decide, (by decide +kernel : (parseMethodDescriptor yJ28_poll.desc).map (fun d => d.parameters.length) = some 0)⟩ ⟨Nat.le_of_ble_eq_true rfl, Nat.le_of_ble_eq_true rfl⟩) ⟨cPre_blind, c_recv X hw hN81 rfl, fun U hU hW => ⟨rfl, X.preJ hw hU hW⟩⟩ rfl rfl hl.1 rfl (lv_room (Nat.le_of_ble_eq_true rfl)) dX0_nearest_169 ⟨show cells + 0 + 0 ≤ MC by omega, show slots + 0 + 0 ≤ MS by omega⟩) (fun r79 N80 H locs h hw => ?_)
    refine W.eq (g2 := F0 m 172 ls (va_rf r79 :: [])) rfl ?_
    obtain ⟨a86, hr87, h⟩ := h
    refine W.eq (g2 := F0 m 172 ls [.ref a86]) (by rw [hr87]; rfl) ?_
    obtain ⟨f89, f90, hN88, h⟩ := h
    refine c_castS (pc := 172) X hw hN88 rfl q1685 dX0_nearest_172 ?_
    refine c_getN (pc := 175) X hw hN88 in_X15 rfl 0 (by decide) q1695 rfl rfl dX0_nearest_175 ?_
    refine W.widen (k := MC) (n := MS) (by omega) (by omega) ?_
    refine cx_ret ?_
    exact W.iret (pc := 178) hx hb hr (fun t ht hW => c_ret (val := vI) (lw := jW) (u := N80) hw h ht) hw.2.2.2 dX0_nearest_178 hlk
  · have h := h.2 c78
    refine lv_ldcw (pc := 161) hx hb hown (hts _ q1540) dX0_nearest_161 ?_
    refine lv_goto (pc := 164) (tgt := 178) hx hb dX0_nearest_164 rfl ?_
    refine W.widen (k := MC) (n := MS) (by omega) (by omega) ?_
    refine cx_ret ?_
    exact W.iret (pc := 178) hx hb hr (fun t ht hW => c_ret (val := vI) (lw := jW) (u := N72) hw h ht) hw.2.2.2 dX0_nearest_178 hlk
theorem kX0_nearest_129 {p : Program} {l : Launch} {e : Env} {s : State} {m : MethodId} {args : Array Value} {below : List Frame} {meth : Method} {c : Code} {G : gG} {A : Nat → Prop} {MC MS : Nat} {post : Int32 → NM → Prop} (X : cX G A RX0 p s m args c cX0_nearest 7) (hr : meth.sig.returnType = (some .int)) (hlk : meth.locks = false) (hL : l.stackTraces = false) (hT : c.exceptionTable.toList = tableOf []) : ∀ (x2 : Int32) (x4 : Nat) (x6 : Int32) (mc ms : Nat) (N : NM) (H : Heap) (locs : List Loc) (ls : Array Slot) (cells slots : Nat), wX0_nearest_129 (gC G) post x2 x4 x6 mc ms N → (cH G A s [] N H locs ∧ cells + mc ≤ MC ∧ slots + ms ≤ MS) → lv_has ls 7 [(2, .int x2), (4, .ref x4), (6, .int x6)] → W p l e ⟨10, MC, MS, 10322⟩ s m args below meth c H locs cells slots (cx_MQ below (gQ vI post (fun u H => cBw G A (jW u).1 (jW u).2 H) A) (cXC G A [] (fun _ _ _ => False)) args s MC MS A) (F0 m 129 ls []) := by
  have hx := X.1.1
  have hb := X.1.2.1
  have hml := X.1.2.2.1
  have hown := X.1.2.2.2.1
  have hts := X.1.2.2.2.2
  intro x2 x4 x6 mc ms N H locs ls cells slots h hw0 hl
  obtain ⟨hw, hbud⟩ := hw0
  unfold wX0_nearest_129 at h
  refine lv_iload (pc := 129) hx hb dX0_nearest_129 (lv_at hl 2 rfl) ?_
  refine lv_sipush (pc := 131) (v := (-15000 : Int32)) hx hb dX0_nearest_131 (by decide) ?_
  refine lv_icmp_lt (pc := 134) (tgt := 153) hx hb dX0_nearest_134 rfl (fun c70 => ?_) (fun c70 => ?_)
  · have h := h.1 c70
    exact kX0_nearest_153 X hr hlk hL hT  _ _ _ _ _ _ _ _ _ h ⟨hw, by omega⟩ (lv_sub hl [1] rfl)
  · have h := h.2 c70
    refine lv_aload (pc := 137) hx hb dX0_nearest_137 (lv_at hl 1 rfl) ?_
    obtain ⟨hm91, hm92, h⟩ := h
    refine c_new (pc := 139) (ci := 14) (fs := [.int (0 : Int32), .int (0 : Int32)]) X hw in_X15 tyX15 tyX15_ok q1685 q1686 q150 rfl nf_X15 (show cells + 1 ≤ MC by omega) (show slots + 2 ≤ MS by omega) dX0_nearest_139 (fun nq93 H hq94 _ hw => ?_)
    have h := h nq93 hq94
    obtain ⟨N95, e96⟩ : ∃ z, z = va_up N nq93 (some (eO 14 [.int (0 : Int32), .int (0 : Int32)])) := ⟨_, rfl⟩
    have hw : cH G A s [] N95 H locs := by rw [e96]; exact hw
    have h := h N95 e96
    have hN97 : N95 nq93 = some (eO 14 [.int (0 : Int32), .int (0 : Int32)]) := by rw [e96]; exact up_s
    refine lv_dup (pc := 142) hx hb dX0_nearest_142 rfl ?_
    refine lv_iload (pc := 143) hx hb dX0_nearest_143 (lv_at hl 2 rfl) ?_
    refine lv_iload_n (pc := 145) hx hb dX0_nearest_145 rfl (lv_at hl 0 rfl) ?_
    refine c_callJ (pc := 146) (val := vV) X hw (va_runI (As := [.int x6, .int x2]) (rest := [.ref nq93, .ref x4]) X.1 (tX15_init X.2.2.1 (sz := H.size) h) (cwI 2 hts (lw_meth q1689) rfl rfl rfl (hts _ q150) (hts _ q1687) (hts _ q1688) rfl ⟨by decide, by decide, (by decide +kernel : (parseMethodDescriptor yX15_init.desc).map (fun d => d.parameters.length) = some 2)⟩ ⟨Nat.le_of_ble_eq_true rfl, Nat.le_of_ble_eq_true rfl⟩) ⟨cPre_blind, fun U hU hW => ⟨rfl, X.preJ hw hU hW⟩⟩ rfl rfl hl.1 rfl (lv_room (Nat.le_of_ble_eq_true rfl)) dX0_nearest_146 ⟨show cells + 1 + 0 ≤ MC by omega, show slots + 2 + 0 ≤ MS by omega⟩) (fun _ N99 H locs h hw => ?_)
    refine W.eq (g2 := F0 m 149 ls ([.ref nq93, .ref x4])) rfl ?_
    obtain ⟨f107, f108, f109, f110, hN106, h⟩ := h
    obtain ⟨mc102, ms103, hm104, hm105, h⟩ := h
    refine c_callJ (pc := 149) (val := vI) X hw (va_runV (C := RJ28) (As := [.ref nq93]) (rest := []) X.1 (tJ28_add_n X.2.2.1 (sz := H.size) h) (cwV 1 hts (lw_V q1702 q1703 q1704 q149 q1705) rfl rfl rfl ⟨rfl, by decide, by decide, (by decide +kernel : (parseMethodDescriptor yJ28_add.desc).map (fun d => d.parameters.length) = some 1)⟩ ⟨Nat.le_of_ble_eq_true rfl, Nat.le_of_ble_eq_true rfl⟩) ⟨cPre_blind, c_recv X hw hN106 rfl, fun U hU hW => ⟨rfl, X.preJ hw hU hW⟩⟩ rfl rfl hl.1 rfl (lv_room (Nat.le_of_ble_eq_true rfl)) dX0_nearest_149 ⟨show cells + 1 + 0 + mc102 ≤ MC by omega, show slots + 2 + 0 + ms103 ≤ MS by omega⟩) (fun r100 N101 H locs h hw => ?_)
    refine W.eq (g2 := F0 m 152 ls (.int r100 :: [])) rfl ?_
    refine lv_pop (pc := 152) hx hb dX0_nearest_152 rfl ?_
    exact kX0_nearest_153 X hr hlk hL hT  _ _ _ _ _ _ _ _ _ h ⟨hw, by omega⟩ (lv_sub hl [1] rfl)
theorem kX0_nearest_105 {p : Program} {l : Launch} {e : Env} {s : State} {m : MethodId} {args : Array Value} {below : List Frame} {meth : Method} {c : Code} {G : gG} {A : Nat → Prop} {MC MS : Nat} {post : Int32 → NM → Prop} (X : cX G A RX0 p s m args c cX0_nearest 7) (hr : meth.sig.returnType = (some .int)) (hlk : meth.locks = false) (hL : l.stackTraces = false) (hT : c.exceptionTable.toList = tableOf []) : ∀ (x2 : Int32) (x4 : Nat) (x5 : Int32) (x6 : Int32) (mc ms : Nat) (N : NM) (H : Heap) (locs : List Loc) (ls : Array Slot) (cells slots : Nat), wX0_nearest_105 (gC G) post x2 x4 x5 x6 mc ms N → (cH G A s [] N H locs ∧ cells + mc ≤ MC ∧ slots + ms ≤ MS) → lv_has ls 7 [(2, .int x2), (4, .ref x4), (5, .int x5), (6, .int x6)] → W p l e ⟨10, MC, MS, 10322⟩ s m args below meth c H locs cells slots (cx_MQ below (gQ vI post (fun u H => cBw G A (jW u).1 (jW u).2 H) A) (cXC G A [] (fun _ _ _ => False)) args s MC MS A) (F0 m 105 ls []) := by
  have hx := X.1.1
  have hb := X.1.2.1
  have hml := X.1.2.2.1
  have hown := X.1.2.2.2.1
  have hts := X.1.2.2.2.2
  intro x2 x4 x5 x6 mc ms N H locs ls cells slots h hw0 hl
  obtain ⟨hw, hbud⟩ := hw0
  unfold wX0_nearest_105 at h
  refine lv_iload (pc := 105) hx hb dX0_nearest_105 (lv_at hl 2 rfl) ?_
  refine lv_sipush (pc := 107) (v := (15000 : Int32)) hx hb dX0_nearest_107 (by decide) ?_
  refine lv_icmp_gt (pc := 110) (tgt := 129) hx hb dX0_nearest_110 rfl (fun c69 => ?_) (fun c69 => ?_)
  · have h := h.1 c69
    exact kX0_nearest_129 X hr hlk hL hT  _ _ _ _ _ _ _ _ _ _ _ h ⟨hw, by omega⟩ (lv_sub hl [0, 1, 3] rfl)
  · have h := h.2 c69
    refine lv_aload (pc := 113) hx hb dX0_nearest_113 (lv_at hl 1 rfl) ?_
    obtain ⟨hm111, hm112, h⟩ := h
    refine c_new (pc := 115) (ci := 14) (fs := [.int (0 : Int32), .int (0 : Int32)]) X hw in_X15 tyX15 tyX15_ok q1685 q1686 q150 rfl nf_X15 (show cells + 1 ≤ MC by omega) (show slots + 2 ≤ MS by omega) dX0_nearest_115 (fun nq113 H hq114 _ hw => ?_)
    have h := h nq113 hq114
    obtain ⟨N115, e116⟩ : ∃ z, z = va_up N nq113 (some (eO 14 [.int (0 : Int32), .int (0 : Int32)])) := ⟨_, rfl⟩
    have hw : cH G A s [] N115 H locs := by rw [e116]; exact hw
    have h := h N115 e116
    have hN117 : N115 nq113 = some (eO 14 [.int (0 : Int32), .int (0 : Int32)]) := by rw [e116]; exact up_s
    refine lv_dup (pc := 118) hx hb dX0_nearest_118 rfl ?_
    refine lv_iload (pc := 119) hx hb dX0_nearest_119 (lv_at hl 2 rfl) ?_
    refine lv_iload_n (pc := 121) hx hb dX0_nearest_121 rfl (lv_at hl 0 rfl) ?_
    refine c_callJ (pc := 122) (val := vV) X hw (va_runI (As := [.int x5, .int x2]) (rest := [.ref nq113, .ref x4]) X.1 (tX15_init X.2.2.1 (sz := H.size) h) (cwI 2 hts (lw_meth q1689) rfl rfl rfl (hts _ q150) (hts _ q1687) (hts _ q1688) rfl ⟨by decide, by decide, (by decide +kernel : (parseMethodDescriptor yX15_init.desc).map (fun d => d.parameters.length) = some 2)⟩ ⟨Nat.le_of_ble_eq_true rfl, Nat.le_of_ble_eq_true rfl⟩) ⟨cPre_blind, fun U hU hW => ⟨rfl, X.preJ hw hU hW⟩⟩ rfl rfl hl.1 rfl (lv_room (Nat.le_of_ble_eq_true rfl)) dX0_nearest_122 ⟨show cells + 1 + 0 ≤ MC by omega, show slots + 2 + 0 ≤ MS by omega⟩) (fun _ N119 H locs h hw => ?_)
    refine W.eq (g2 := F0 m 125 ls ([.ref nq113, .ref x4])) rfl ?_
    obtain ⟨f127, f128, f129, f130, hN126, h⟩ := h
    obtain ⟨mc122, ms123, hm124, hm125, h⟩ := h
    refine c_callJ (pc := 125) (val := vI) X hw (va_runV (C := RJ28) (As := [.ref nq113]) (rest := []) X.1 (tJ28_add_n X.2.2.1 (sz := H.size) h) (cwV 1 hts (lw_V q1702 q1703 q1704 q149 q1705) rfl rfl rfl ⟨rfl, by decide, by decide, (by decide +kernel : (parseMethodDescriptor yJ28_add.desc).map (fun d => d.parameters.length) = some 1)⟩ ⟨Nat.le_of_ble_eq_true rfl, Nat.le_of_ble_eq_true rfl⟩) ⟨cPre_blind, c_recv X hw hN126 rfl, fun U hU hW => ⟨rfl, X.preJ hw hU hW⟩⟩ rfl rfl hl.1 rfl (lv_room (Nat.le_of_ble_eq_true rfl)) dX0_nearest_125 ⟨show cells + 1 + 0 + mc122 ≤ MC by omega, show slots + 2 + 0 + ms123 ≤ MS by omega⟩) (fun r120 N121 H locs h hw => ?_)
    refine W.eq (g2 := F0 m 128 ls (.int r120 :: [])) rfl ?_
    refine lv_pop (pc := 128) hx hb dX0_nearest_128 rfl ?_
    exact kX0_nearest_129 X hr hlk hL hT  _ _ _ _ _ _ _ _ _ _ _ h ⟨hw, by omega⟩ (lv_sub hl [0, 1, 3] rfl)
theorem kX0_nearest_73 {p : Program} {l : Launch} {e : Env} {s : State} {m : MethodId} {args : Array Value} {below : List Frame} {meth : Method} {c : Code} {G : gG} {A : Nat → Prop} {MC MS : Nat} {post : Int32 → NM → Prop} (X : cX G A RX0 p s m args c cX0_nearest 7) (hr : meth.sig.returnType = (some .int)) (hlk : meth.locks = false) (hL : l.stackTraces = false) (hT : c.exceptionTable.toList = tableOf []) : ∀ (n : Nat) (x0 : Nat) (x2 : Int32) (x4 : Nat) (x5 : Int32) (x6 : Int32) (mc ms : Nat) (N : NM) (H : Heap) (locs : List Loc) (ls : Array Slot) (cells slots : Nat), wX0_nearest_73 (gC G) post n x0 x2 x4 x5 x6 mc ms N → (cH G A s [] N H locs ∧ cells + mc ≤ MC ∧ slots + ms ≤ MS) → lv_has ls 7 [(0, .ref x0), (2, .int x2), (4, .ref x4), (5, .int x5), (6, .int x6)] → W p l e ⟨10, MC, MS, 10322⟩ s m args below meth c H locs cells slots (cx_MQ below (gQ vI post (fun u H => cBw G A (jW u).1 (jW u).2 H) A) (cXC G A [] (fun _ _ _ => False)) args s MC MS A) (F0 m 73 ls []) := by
  have hx := X.1.1
  have hb := X.1.2.1
  have hml := X.1.2.2.1
  have hown := X.1.2.2.2.1
  have hts := X.1.2.2.2.2
  intro n
  induction n with
  | zero =>
    intro x0 x2 x4 x5 x6 mc ms N H locs ls cells slots h
    exact False.elim h
  | succ n ih =>
    intro x0 x2 x4 x5 x6 mc ms N H locs ls cells slots h hw0 hl
    obtain ⟨hw, hbud⟩ := hw0
    unfold wX0_nearest_73 at h
    refine lv_iload (pc := 73) hx hb dX0_nearest_73 (lv_at hl 4 rfl) ?_
    refine lv_sipush (pc := 75) (v := (-15000 : Int32)) hx hb dX0_nearest_75 (by decide) ?_
    refine lv_icmp_lt (pc := 78) (tgt := 105) hx hb dX0_nearest_78 rfl (fun c68 => ?_) (fun c68 => ?_)
    · have h := h.1 c68
      exact kX0_nearest_105 X hr hlk hL hT  _ _ _ _ _ _ _ _ _ _ _ _ h ⟨hw, by omega⟩ (lv_sub hl [1, 2, 3, 4] rfl)
    · have h := h.2 c68
      refine lv_aload_n (pc := 81) hx hb dX0_nearest_81 rfl (lv_at hl 0 rfl) ?_
      obtain ⟨f132, f133, f134, f135, f136, f137, f138, f139, f140, f141, f142, f143, f144, f145, f146, f147, f148, f149, f150, hN131, h⟩ := h
      refine c_get (pc := 82) X hw hN131 in_X0 rfl 3 (by decide) q214 rfl rfl dX0_nearest_82 ?_
      refine lv_iconst (pc := 85) (v := (0 : Int32)) hx hb dX0_nearest_85 (by decide) ?_
      obtain ⟨a151, hr152, h⟩ := h
      refine W.eq (g2 := F0 m 86 ls [.int (0 : Int32), .ref a151]) (by rw [hr152]; rfl) ?_
      obtain ⟨n154, f155, hN153, h⟩ := h
      obtain ⟨hi, h⟩ := h
      refine c_aaldT (pc := 86) X hw 6 hN153 rfl hi dX0_nearest_86 ?_
      refine lv_sipush (pc := 87) (v := (15000 : Int32)) hx hb dX0_nearest_87 (by decide) ?_
      refine lv_iload (pc := 90) hx hb dX0_nearest_90 (lv_at hl 4 rfl) ?_
      refine lv_iadd (pc := 92) hx hb dX0_nearest_92 ?_
      obtain ⟨a156, hr157, h⟩ := h
      refine W.eq (g2 := F0 m 93 ls [.int ((15000 : Int32) + x6), .ref a156]) (by rw [hr157]; rfl) ?_
      obtain ⟨n159, f160, hN158, h⟩ := h
      obtain ⟨hi, h⟩ := h
      refine c_lald (pc := 93) X hw hN158 hi dX0_nearest_93 ?_
      refine lv_lconst (pc := 94) (v := (0 : Int64)) hx hb dX0_nearest_94 (by decide) ?_
      refine W.lcmp (pc := 95) hx hb dX0_nearest_95 ?_
      refine lv_if_ne (pc := 96) (tgt := 105) hx hb dX0_nearest_96 rfl (fun c161 => ?_) (fun c161 => ?_)
      · have h := h.2 (fun z => c161 ((lg_cmp_eq _ _).mpr z))
        exact kX0_nearest_105 X hr hlk hL hT  _ _ _ _ _ _ _ _ _ _ _ _ h ⟨hw, by omega⟩ (lv_sub hl [1, 2, 3, 4] rfl)
      · have h := h.1 ((lg_cmp_eq _ _).mp c161)
        refine lv_iinc (pc := 99) (v := x6 + (-1 : Int32)) (lv' := [(6, .int (x6 + (-1 : Int32))), (0, .ref x0), (2, .int x2), (4, .ref x4), (5, .int x5)]) hx hb dX0_nearest_99 hl (k := 4) rfl rfl (by decide) rfl (fun ls hl => ?_)
        refine lv_goto (pc := 102) (tgt := 73) hx hb dX0_nearest_102 rfl ?_
        exact ih _ _ _ _ _ _ _ _ _ _ _ _ _ h ⟨hw, by omega⟩ (lv_sub hl [1, 2, 3, 4, 0] rfl)
theorem kX0_nearest_70 {p : Program} {l : Launch} {e : Env} {s : State} {m : MethodId} {args : Array Value} {below : List Frame} {meth : Method} {c : Code} {G : gG} {A : Nat → Prop} {MC MS : Nat} {post : Int32 → NM → Prop} (X : cX G A RX0 p s m args c cX0_nearest 7) (hr : meth.sig.returnType = (some .int)) (hlk : meth.locks = false) (hL : l.stackTraces = false) (hT : c.exceptionTable.toList = tableOf []) : ∀ (x0 : Nat) (x2 : Int32) (x4 : Nat) (x5 : Int32) (mc ms : Nat) (N : NM) (H : Heap) (locs : List Loc) (ls : Array Slot) (cells slots : Nat), wX0_nearest_70 (gC G) post x0 x2 x4 x5 mc ms N → (cH G A s [] N H locs ∧ cells + mc ≤ MC ∧ slots + ms ≤ MS) → lv_has ls 7 [(0, .ref x0), (2, .int x2), (4, .ref x4), (5, .int x5)] → W p l e ⟨10, MC, MS, 10322⟩ s m args below meth c H locs cells slots (cx_MQ below (gQ vI post (fun u H => cBw G A (jW u).1 (jW u).2 H) A) (cXC G A [] (fun _ _ _ => False)) args s MC MS A) (F0 m 70 ls []) := by
  have hx := X.1.1
  have hb := X.1.2.1
  have hml := X.1.2.2.1
  have hown := X.1.2.2.2.1
  have hts := X.1.2.2.2.2
  intro x0 x2 x4 x5 mc ms N H locs ls cells slots h hw0 hl
  obtain ⟨hw, hbud⟩ := hw0
  unfold wX0_nearest_70 at h
  refine lv_iload_n (pc := 70) hx hb dX0_nearest_70 rfl (lv_at hl 1 rfl) ?_
  refine lv_istore (pc := 71) (lv' := [(6, .int x2), (0, .ref x0), (2, .int x2), (4, .ref x4), (5, .int x5)]) hx hb dX0_nearest_71 hl (by decide) rfl (fun ls hl => ?_)
  obtain ⟨k, h⟩ := h
  exact kX0_nearest_73 X hr hlk hL hT  k _ _ _ _ _ _ _ _ _ _ _ _ _ h ⟨hw, by omega⟩ (lv_sub hl [1, 2, 3, 4, 0] rfl)
theorem kX0_nearest_38 {p : Program} {l : Launch} {e : Env} {s : State} {m : MethodId} {args : Array Value} {below : List Frame} {meth : Method} {c : Code} {G : gG} {A : Nat → Prop} {MC MS : Nat} {post : Int32 → NM → Prop} (X : cX G A RX0 p s m args c cX0_nearest 7) (hr : meth.sig.returnType = (some .int)) (hlk : meth.locks = false) (hL : l.stackTraces = false) (hT : c.exceptionTable.toList = tableOf []) : ∀ (n : Nat) (x0 : Nat) (x2 : Int32) (x4 : Nat) (x5 : Int32) (mc ms : Nat) (N : NM) (H : Heap) (locs : List Loc) (ls : Array Slot) (cells slots : Nat), wX0_nearest_38 (gC G) post n x0 x2 x4 x5 mc ms N → (cH G A s [] N H locs ∧ cells + mc ≤ MC ∧ slots + ms ≤ MS) → lv_has ls 7 [(0, .ref x0), (2, .int x2), (4, .ref x4), (5, .int x5)] → W p l e ⟨10, MC, MS, 10322⟩ s m args below meth c H locs cells slots (cx_MQ below (gQ vI post (fun u H => cBw G A (jW u).1 (jW u).2 H) A) (cXC G A [] (fun _ _ _ => False)) args s MC MS A) (F0 m 38 ls []) := by
  have hx := X.1.1
  have hb := X.1.2.1
  have hml := X.1.2.2.1
  have hown := X.1.2.2.2.1
  have hts := X.1.2.2.2.2
  intro n
  induction n with
  | zero =>
    intro x0 x2 x4 x5 mc ms N H locs ls cells slots h
    exact False.elim h
  | succ n ih =>
    intro x0 x2 x4 x5 mc ms N H locs ls cells slots h hw0 hl
    obtain ⟨hw, hbud⟩ := hw0
    unfold wX0_nearest_38 at h
    refine lv_iload (pc := 38) hx hb dX0_nearest_38 (lv_at hl 3 rfl) ?_
    refine lv_sipush (pc := 40) (v := (15000 : Int32)) hx hb dX0_nearest_40 (by decide) ?_
    refine lv_icmp_gt (pc := 43) (tgt := 70) hx hb dX0_nearest_43 rfl (fun c67 => ?_) (fun c67 => ?_)
    · have h := h.1 c67
      exact kX0_nearest_70 X hr hlk hL hT  _ _ _ _ _ _ _ _ _ _ _ _ h ⟨hw, by omega⟩ (lv_sub hl [0, 1, 2, 3] rfl)
    · have h := h.2 c67
      refine lv_aload_n (pc := 46) hx hb dX0_nearest_46 rfl (lv_at hl 0 rfl) ?_
      obtain ⟨f163, f164, f165, f166, f167, f168, f169, f170, f171, f172, f173, f174, f175, f176, f177, f178, f179, f180, f181, hN162, h⟩ := h
      refine c_get (pc := 47) X hw hN162 in_X0 rfl 3 (by decide) q214 rfl rfl dX0_nearest_47 ?_
      refine lv_iconst (pc := 50) (v := (0 : Int32)) hx hb dX0_nearest_50 (by decide) ?_
      obtain ⟨a182, hr183, h⟩ := h
      refine W.eq (g2 := F0 m 51 ls [.int (0 : Int32), .ref a182]) (by rw [hr183]; rfl) ?_
      obtain ⟨n185, f186, hN184, h⟩ := h
      obtain ⟨hi, h⟩ := h
      refine c_aaldT (pc := 51) X hw 6 hN184 rfl hi dX0_nearest_51 ?_
      refine lv_sipush (pc := 52) (v := (15000 : Int32)) hx hb dX0_nearest_52 (by decide) ?_
      refine lv_iload (pc := 55) hx hb dX0_nearest_55 (lv_at hl 3 rfl) ?_
      refine lv_iadd (pc := 57) hx hb dX0_nearest_57 ?_
      obtain ⟨a187, hr188, h⟩ := h
      refine W.eq (g2 := F0 m 58 ls [.int ((15000 : Int32) + x5), .ref a187]) (by rw [hr188]; rfl) ?_
      obtain ⟨n190, f191, hN189, h⟩ := h
      obtain ⟨hi, h⟩ := h
      refine c_lald (pc := 58) X hw hN189 hi dX0_nearest_58 ?_
      refine lv_lconst (pc := 59) (v := (0 : Int64)) hx hb dX0_nearest_59 (by decide) ?_
      refine W.lcmp (pc := 60) hx hb dX0_nearest_60 ?_
      refine lv_if_ne (pc := 61) (tgt := 70) hx hb dX0_nearest_61 rfl (fun c192 => ?_) (fun c192 => ?_)
      · have h := h.2 (fun z => c192 ((lg_cmp_eq _ _).mpr z))
        exact kX0_nearest_70 X hr hlk hL hT  _ _ _ _ _ _ _ _ _ _ _ _ h ⟨hw, by omega⟩ (lv_sub hl [0, 1, 2, 3] rfl)
      · have h := h.1 ((lg_cmp_eq _ _).mp c192)
        refine lv_iinc (pc := 64) (v := x5 + (1 : Int32)) (lv' := [(5, .int (x5 + (1 : Int32))), (0, .ref x0), (2, .int x2), (4, .ref x4)]) hx hb dX0_nearest_64 hl (k := 3) rfl rfl (by decide) rfl (fun ls hl => ?_)
        refine lv_goto (pc := 67) (tgt := 38) hx hb dX0_nearest_67 rfl ?_
        exact ih _ _ _ _ _ _ _ _ _ _ _ _ h ⟨hw, by omega⟩ (lv_sub hl [1, 2, 3, 0] rfl)
theorem txX0_nearest {l : Launch} (hL : l.stackTraces = false) {G : gG} (hO : gOk G) {post : Int32 → NM → Prop} {MC MS : Nat} {N : NM} {x0 : Nat} {x1 : Int32} {x2 : Int32} {sz : Nat} (h : wX0_nearest (gC G) post MC MS N x0 x1 x2) : cx_Met l yX0_nearest (ws_ yX0_nearest cX0_nearest 7 (some .int)) ⟨10, MC, MS, 10322⟩ (va_Pc [.ref x0, .int x1, .int x2] (cPre G [] N sz)) (gQ vI post (fun u H => cBw G (cA [] N sz) (jW u).1 (jW u).2 H) (cA [] N sz)) (cXC G (cA [] N sz) [] (fun _ _ _ => False)) MC MS (cA [] N sz) := by
  refine c_ofX (B := fun A u H => cBw G A (jW u).1 (jW u).2 H) (by decide) hO (Nat.le_of_ble_eq_true rfl) (fun p e s m below meth c ls A X hr hlk hT hw hl => ?_)
  have hl : lv_has ls 7 [(0, .ref x0), (1, .int x1), (2, .int x2)] := hl
  have hx := X.1.1
  have hb := X.1.2.1
  have hml := X.1.2.2.1
  have hown := X.1.2.2.2.1
  have hts := X.1.2.2.2.2
  obtain ⟨H, eH⟩ : ∃ z, z = s.heap := ⟨_, rfl⟩
  rw [← eH] at hw ⊢
  obtain ⟨locs, eLo⟩ : ∃ z : List Loc, z = [] := ⟨_, rfl⟩
  rw [← eLo] at hw ⊢
  have hbud : 0 + MC ≤ MC ∧ 0 + MS ≤ MS := by omega
  unfold wX0_nearest at h
  refine lv_aload_n (pc := 0) hx hb dX0_nearest_0 rfl (lv_at hl 0 rfl) ?_
  refine lv_iload_n (pc := 1) hx hb dX0_nearest_1 rfl (lv_at hl 1 rfl) ?_
  obtain ⟨f8, f9, f10, f11, f12, f13, f14, f15, f16, f17, f18, f19, f20, f21, f22, f23, f24, f25, f26, hN7, h⟩ := h
  obtain ⟨mc3, ms4, hm5, hm6, h⟩ := h
  refine c_callJ (pc := 2) (val := vQ) X hw (vx_runVW (C := RX0) (As := [.int x1]) (rest := []) X.1 (tX0_at hL X.2.2.1 (sz := H.size) h) (vx_cwVW 1 hts (lw_VW q898 q900 qs20 q102 q901) rfl rfl rfl ⟨rfl, by decide, by decide, (by decide +kernel : (parseMethodDescriptor yX0_at.desc).map (fun d => d.parameters.length) = some 1)⟩ ⟨Nat.le_of_ble_eq_true rfl, Nat.le_of_ble_eq_true rfl⟩) ⟨cPre_blind, c_recv X hw hN7 rfl, fun U hU hW => ⟨rfl, X.preJ hw hU hW⟩⟩ rfl rfl hl.1 rfl (lv_room (Nat.le_of_ble_eq_true rfl)) dX0_nearest_2 ⟨show 0 + mc3 ≤ MC by omega, show 0 + ms4 ≤ MS by omega⟩) (fun r1 N2 H locs h hw => ?_)
  refine W.eq (g2 := F0 m 5 ls (va_rf r1 :: [])) rfl ?_
  refine lq_astore_n (pc := 5) (lv' := [(3, va_rf r1), (0, .ref x0), (1, .int x1), (2, .int x2)]) hx hb dX0_nearest_5 rfl hl (by decide) rfl (fun ls hl => ?_)
  refine lq_aload_n (pc := 6) hx hb dX0_nearest_6 rfl (lv_at hl 0 rfl) ?_
  refine lq_ifnull (pc := 7) (tgt := 17) hx hb dX0_nearest_7 rfl (fun hz27 => ?_) (fun a28 hr29 => ?_)
  · have h := h.1 hz27
    refine lv_ldcw (pc := 17) hx hb hown (hts _ q1540) dX0_nearest_17 ?_
    refine W.widen (k := MC) (n := MS) (by omega) (by omega) ?_
    refine cx_ret ?_
    exact W.iret (pc := 20) hx hb hr (fun t ht hW => c_ret (val := vI) (lw := jW) (u := N2) hw h ht) hw.2.2.2 dX0_nearest_20 hlk
  · have h := h.2 a28 hr29
    refine lv_iload_n (pc := 10) hx hb dX0_nearest_10 rfl (lv_at hl 3 rfl) ?_
    refine s_call (pc := 11) (val := vI) (As := [.int x2]) (rest := []) X.1 (tX0_isNumber h) (lw_S q1555 q976 q102 q977) ⟨by decide, by decide, (by decide +kernel : (parseMethodDescriptor yX0_isNumber.desc).map (fun d => d.parameters.length) = some 1)⟩ ⟨Nat.le_of_ble_eq_true rfl, Nat.le_of_ble_eq_true rfl⟩ hl.1 (Nat.le_of_ble_eq_true rfl) ⟨show 0 + mc3 ≤ MC by omega, show 0 + ms4 ≤ MS by omega⟩ dX0_nearest_11 rfl (fun r30 h => ?_)
    refine W.eq (g2 := F0 m 14 ls (.int r30 :: [])) rfl ?_
    refine lv_if_ne (pc := 14) (tgt := 21) hx hb dX0_nearest_14 rfl (fun c31 => ?_) (fun c31 => ?_)
    · have h := h.2 c31
      refine lv_aload_n (pc := 21) hx hb dX0_nearest_21 rfl (lv_at hl 1 rfl) ?_
      refine lq_aload_n (pc := 22) hx hb dX0_nearest_22 rfl (lv_at hl 0 rfl) ?_
      obtain ⟨f35, f36, f37, f38, f39, f40, f41, f42, f43, f44, f45, f46, f47, f48, f49, f50, f51, f52, f53, hN34, h⟩ := h
      refine c_callJ (pc := 23) (val := vV) X hw (va_runV (C := RX0) (As := [va_rf r1]) (rest := []) X.1 (tX0_laysWays X.2.2.1 (sz := H.size) h) (cwV 1 hts (lw_V q1376 q1378 qs29 q102 q1379) rfl rfl rfl ⟨rfl, by decide, by decide, (by decide +kernel : (parseMethodDescriptor yX0_laysWays.desc).map (fun d => d.parameters.length) = some 1)⟩ ⟨Nat.le_of_ble_eq_true rfl, Nat.le_of_ble_eq_true rfl⟩) ⟨cPre_blind, c_recv X hw hN34 rfl, fun U hU hW => ⟨rfl, X.preJ hw hU hW⟩⟩ rfl rfl hl.1 rfl (lv_room (Nat.le_of_ble_eq_true rfl)) dX0_nearest_23 ⟨show 0 + mc3 + 0 ≤ MC by omega, show 0 + ms4 + 0 ≤ MS by omega⟩) (fun _ N33 H locs h hw => ?_)
      refine W.eq (g2 := F0 m 26 ls ([])) rfl ?_
      obtain ⟨hm54, hm55, h⟩ := h
      refine c_new (pc := 26) (ci := 21) (fs := [va_rf none, .int (0 : Int32), va_rf none, .int (0 : Int32)]) X hw in_J28 tyJ28 tyJ28_ok q1659 q1660 q149 rfl nf_J28 (show 0 + mc3 + 0 + 1 ≤ MC by omega) (show 0 + ms4 + 0 + 4 ≤ MS by omega) dX0_nearest_26 (fun nq56 H hq57 _ hw => ?_)
      have h := h nq56 hq57
      obtain ⟨N58, e59⟩ : ∃ z, z = va_up N33 nq56 (some (eO 21 [va_rf none, .int (0 : Int32), va_rf none, .int (0 : Int32)])) := ⟨_, rfl⟩
      have hw : cH G A s [] N58 H locs := by rw [e59]; exact hw
      have h := h N58 e59
      have hN60 : N58 nq56 = some (eO 21 [va_rf none, .int (0 : Int32), va_rf none, .int (0 : Int32)]) := by rw [e59]; exact up_s
      refine lv_dup (pc := 29) hx hb dX0_nearest_29 rfl ?_
      obtain ⟨mc63, ms64, hm65, hm66, h⟩ := h
      refine c_callJ (pc := 30) (val := vV) X hw (va_runI (As := []) (rest := [.ref nq56]) X.1 (tJ28_init X.2.2.1 (sz := H.size) h) (cwI 0 hts (lw_meth q1663) rfl rfl rfl (hts _ q149) (hts _ q1661) (hts _ q1662) rfl ⟨by decide, by decide, (by decide +kernel : (parseMethodDescriptor yJ28_init.desc).map (fun d => d.parameters.length) = some 0)⟩ ⟨Nat.le_of_ble_eq_true rfl, Nat.le_of_ble_eq_true rfl⟩) ⟨cPre_blind, fun U hU hW => ⟨rfl, X.preJ hw hU hW⟩⟩ rfl rfl hl.1 rfl (lv_room (Nat.le_of_ble_eq_true rfl)) dX0_nearest_30 ⟨show 0 + mc3 + 0 + 1 + mc63 ≤ MC by omega, show 0 + ms4 + 0 + 4 + ms64 ≤ MS by omega⟩) (fun _ N62 H locs h hw => ?_)
      refine W.eq (g2 := F0 m 33 ls ([.ref nq56])) rfl ?_
      refine lv_astore (pc := 33) (i := 4) (lv' := [(4, .ref nq56), (3, va_rf r1), (0, .ref x0), (1, .int x1), (2, .int x2)]) hx hb dX0_nearest_33 hl (by decide) (by simp [rf_c]) (fun ls hl => ?_)
      refine lv_iload_n (pc := 35) hx hb dX0_nearest_35 rfl (lv_at hl 4 rfl) ?_
      refine lv_istore (pc := 36) (lv' := [(5, .int x2), (4, .ref nq56), (3, va_rf r1), (0, .ref x0), (1, .int x1), (2, .int x2)]) hx hb dX0_nearest_36 hl (by decide) rfl (fun ls hl => ?_)
      obtain ⟨k, h⟩ := h
      exact kX0_nearest_38 X hr hlk hL hT  k _ _ _ _ _ _ _ _ _ _ _ _ h ⟨hw, by omega⟩ (lv_sub hl [3, 5, 1, 0] rfl)
    · have h := h.1 c31
      refine lv_ldcw (pc := 17) hx hb hown (hts _ q1540) dX0_nearest_17 ?_
      refine W.widen (k := MC) (n := MS) (by omega) (by omega) ?_
      refine cx_ret ?_
      exact W.iret (pc := 20) hx hb hr (fun t ht hW => c_ret (val := vI) (lw := jW) (u := N2) hw h ht) hw.2.2.2 dX0_nearest_20 hlk
theorem tX0_nearest {l : Launch} (hL : l.stackTraces = false) {G : gG} (hO : gOk G) {post : Int32 → NM → Prop} {MC MS : Nat} {N : NM} {x0 : Nat} {x1 : Int32} {x2 : Int32} {sz : Nat} (h : wX0_nearest (gC G) post MC MS N x0 x1 x2) : Met l yX0_nearest (ws_ yX0_nearest cX0_nearest 7 (some .int)) ⟨10, MC, MS, 10322⟩ (va_Pc [.ref x0, .int x1, .int x2] (cPre G [] N sz)) (gQ vI post (fun u H => cBw G (cA [] N sz) (jW u).1 (jW u).2 H) (cA [] N sz)) MC MS (cA [] N sz) := cx_toMet (txX0_nearest hL hO h)

def wX0_enough_79 (K : Nat → Nat → Nat) (K48 : Nat → Int32 → Option Nat → Int32 → Nat → Nat → NM → Prop) (post : Int32 → NM → Prop) : Nat → Nat → Int32 → Option Nat → Int32 → Int32 → Nat → Nat → NM → Prop
  | 0, _, _, _, _, _, _, _, _ => False
  | n + 1, x0, x2, x3, x4, x5, mc, ms, N => ∃ a149, x3 = some a149 ∧ (∃ f152, N a149 = some (eO 7 [va_rf f152]) ∧ (∃ a153, f152 = some a153 ∧ (∃ n156 f157, N a153 = some (eR 5 n156 f157) ∧ (vp_in x4 n156 ∧ (∃ a158, (f157 x4.toNatClampNeg) = some a158 ∧ (∃ f161 f162 f163 f164, N a158 = some (eO 6 [.int f161, .int f162, .int f163, va_rf f164]) ∧ (((f163 < x5) → (∃ f167 f168 f169 f170 f171 f172 f173 f174 f175 f176 f177 f178 f179 f180 f181 f182 f183 f184 f185, N x0 = some (eO 1 [va_rf f167, va_rf f168, va_rf f169, va_rf f170, va_rf f171, va_rf f172, va_rf f173, va_rf f174, va_rf f175, .int f176, .int f177, va_rf f178, va_rf f179, .int f180, va_rf f181, va_rf f182, va_rf f183, va_rf f184, va_rf f185]) ∧ (∃ a186, f171 = some a186 ∧ (∃ n189 f190, N a186 = some (eR 6 n189 f190) ∧ (vp_in (1 : Int32) n189 ∧ (vp_in (0 : Int32) n189 ∧ (∃ a191, (f190 (0 : Int32).toNatClampNeg) = some a191 ∧ (∃ a193, (f190 (1 : Int32).toNatClampNeg) = some a193 ∧ (∃ n196 f197, N a191 = some (eL 1 n196 f197) ∧ (∃ n205 f206, N a193 = some (eL 1 n205 f206) ∧ (¬ (0 : Int32) < 0 ∧ ¬ (0 : Int32) < 0 ∧ ¬ (30001 : Int32) < 0 ∧ (0 : Int32).toNatClampNeg + (30001 : Int32).toNatClampNeg ≤ n205 ∧ (0 : Int32).toNatClampNeg + (30001 : Int32).toNatClampNeg ≤ n196 ∧ (∀ N213, N213 = va_up N a191 (some (eL 1 n196 (va_cpy f206 f197 (0 : Int32).toNatClampNeg (0 : Int32).toNatClampNeg (30001 : Int32).toNatClampNeg))) → (vp_in (0 : Int32) n189 ∧ (vp_in ((15000 : Int32) + x2) n196 ∧ (((((va_cpy f206 f197 (0 : Int32).toNatClampNeg (0 : Int32).toNatClampNeg (30001 : Int32).toNatClampNeg) ((15000 : Int32) + x2).toNatClampNeg) ≤ (0 : Int64)) → (K48 x0 x2 x3 (x4 + (1 : Int32)) mc ms N213)) ∧ (¬ (((va_cpy f206 f197 (0 : Int32).toNatClampNeg (0 : Int32).toNatClampNeg (30001 : Int32).toNatClampNeg) ((15000 : Int32) + x2).toNatClampNeg) ≤ (0 : Int64)) → (post (x4 + (1 : Int32)) N213))))))))))))))))) ∧ (¬ (f163 < x5) → (∃ f223 f224 f225 f226 f227 f228 f229 f230 f231 f232 f233 f234 f235 f236 f237 f238 f239 f240 f241, N x0 = some (eO 1 [va_rf f223, va_rf f224, va_rf f225, va_rf f226, va_rf f227, va_rf f228, va_rf f229, va_rf f230, va_rf f231, .int f232, .int f233, va_rf f234, va_rf f235, .int f236, va_rf f237, va_rf f238, va_rf f239, va_rf f240, va_rf f241]) ∧ (∃ a242, f227 = some a242 ∧ (∃ n245 f246, N a242 = some (eR 6 n245 f246) ∧ (vp_in (1 : Int32) n245 ∧ (vp_in (0 : Int32) n245 ∧ (vp_in x4 n156 ∧ (wX4_value K (fun r247 N248 => ∃ a249, (f246 (1 : Int32).toNatClampNeg) = some a249 ∧ (∃ a251, (f246 (0 : Int32).toNatClampNeg) = some a251 ∧ (wX0_adds K (fun _ N254 => wX0_enough_79 K K48 post n x0 x2 x3 x4 (x5 + (1 : Int32)) mc ms N254) N248 a249 a251 r247.toInt32))) N a158 x5.toInt64)))))))))))))))
def wX0_enough_48 (K : Nat → Nat → Nat) (post : Int32 → NM → Prop) : Nat → Nat → Int32 → Option Nat → Int32 → Nat → Nat → NM → Prop
  | 0, _, _, _, _, _, _, _ => False
  | n + 1, x0, x2, x3, x4, mc, ms, N => ∃ a99, x3 = some a99 ∧ (∃ f104, N a99 = some (eO 7 [va_rf f104]) ∧ (wX6_many K (fun r101 N102 => ((r101 ≤ x4) → (post (-1 : Int32) N102)) ∧ (¬ (r101 ≤ x4) → (∃ f107 f108 f109 f110 f111 f112 f113 f114 f115 f116 f117 f118 f119 f120 f121 f122 f123 f124 f125, N102 x0 = some (eO 1 [va_rf f107, va_rf f108, va_rf f109, va_rf f110, va_rf f111, va_rf f112, va_rf f113, va_rf f114, va_rf f115, .int f116, .int f117, va_rf f118, va_rf f119, .int f120, va_rf f121, va_rf f122, va_rf f123, va_rf f124, va_rf f125]) ∧ (∃ a126, f111 = some a126 ∧ (∃ n129 f130, N102 a126 = some (eR 6 n129 f130) ∧ (vp_in (1 : Int32) n129 ∧ (∃ a131, (f130 (1 : Int32).toNatClampNeg) = some a131 ∧ (wJ15_fill K (fun _ N134 => ∃ f136, N134 a99 = some (eO 7 [va_rf f136]) ∧ (∃ a137, f136 = some a137 ∧ (∃ n140 f141, N134 a137 = some (eR 5 n140 f141) ∧ (vp_in x4 n140 ∧ (∃ a142, (f141 x4.toNatClampNeg) = some a142 ∧ (∃ f145 f146 f147 f148, N134 a142 = some (eO 6 [.int f145, .int f146, .int f147, va_rf f148]) ∧ ((∃ k, wX0_enough_79 K (fun x0 x2 x3 x4 mc ms N => wX0_enough_48 K post n x0 x2 x3 x4 mc ms N) post k x0 x2 x3 x4 f146 mc ms N134)))))))) N102 a131 (0 : Int64))))))))) N a99))
def wX0_enough (K : Nat → Nat → Nat) (post : Int32 → NM → Prop) (MC MS : Nat) (N : NM) (x0 : Nat) (x1 : Int32) (x2 : Int32) : Prop :=
  ∃ f8 f9 f10 f11 f12 f13 f14 f15 f16 f17 f18 f19 f20 f21 f22 f23 f24 f25 f26, N x0 = some (eO 1 [va_rf f8, va_rf f9, va_rf f10, va_rf f11, va_rf f12, va_rf f13, va_rf f14, va_rf f15, va_rf f16, .int f17, .int f18, va_rf f19, va_rf f20, .int f21, va_rf f22, va_rf f23, va_rf f24, va_rf f25, va_rf f26]) ∧ (∃ mc3 ms4, mc3 ≤ MC ∧ ms4 ≤ MS ∧ wX0_at K (fun r1 N2 => (r1 = none → (post (-1 : Int32) N2)) ∧ (∀ a28, r1 = some a28 → (wX0_isNumber (fun r30 => ((r30 = (0 : Int32)) → (post (-1 : Int32) N2)) ∧ (¬ (r30 = (0 : Int32)) → (∃ f33 f34 f35 f36 f37 f38 f39 f40 f41 f42 f43 f44 f45 f46 f47 f48 f49 f50 f51, N2 x0 = some (eO 1 [va_rf f33, va_rf f34, va_rf f35, va_rf f36, va_rf f37, va_rf f38, va_rf f39, va_rf f40, va_rf f41, .int f42, .int f43, va_rf f44, va_rf f45, .int f46, va_rf f47, va_rf f48, va_rf f49, va_rf f50, va_rf f51]) ∧ (∃ a52, f37 = some a52 ∧ (∃ n55 f56, N2 a52 = some (eR 6 n55 f56) ∧ (vp_in (0 : Int32) n55 ∧ (∃ a57, (f56 (0 : Int32).toNatClampNeg) = some a57 ∧ (wJ15_fill K (fun _ N60 => ∃ f62 f63 f64 f65 f66 f67 f68 f69 f70 f71 f72 f73 f74 f75 f76 f77 f78 f79 f80, N60 x0 = some (eO 1 [va_rf f62, va_rf f63, va_rf f64, va_rf f65, va_rf f66, va_rf f67, va_rf f68, va_rf f69, va_rf f70, .int f71, .int f72, va_rf f73, va_rf f74, .int f75, va_rf f76, va_rf f77, va_rf f78, va_rf f79, va_rf f80]) ∧ (∀ N81, N81 = va_up N60 x0 (some (eO 1 [va_rf f62, va_rf f63, va_rf f64, va_rf f65, va_rf f66, va_rf f67, va_rf none, va_rf f69, va_rf f70, .int f71, .int f72, va_rf f73, va_rf f74, .int f75, va_rf f76, va_rf f77, va_rf f78, va_rf f79, va_rf f80])) → (∃ a84, f66 = some a84 ∧ (∃ n87 f88, N81 a84 = some (eR 6 n87 f88) ∧ (vp_in (0 : Int32) n87 ∧ (∃ a89, (f88 (0 : Int32).toNatClampNeg) = some a89 ∧ (∃ n92 f93, N81 a89 = some (eL 1 n92 f93) ∧ (vp_in (15000 : Int32) n92 ∧ (∀ N94, N94 = va_up N81 a89 (some (eL 1 n92 (vp_updL f93 (15000 : Int32).toNatClampNeg (1 : Int64)))) → ((∃ k, wX0_enough_48 K post k x0 x2 r1 (0 : Int32) (MC - mc3) (MS - ms4) N94))))))))))) N2 a57 (0 : Int64))))))))) x2))) mc3 ms4 N x0 x1)
theorem kX0_enough_79 {p : Program} {l : Launch} {e : Env} {s : State} {m : MethodId} {args : Array Value} {below : List Frame} {meth : Method} {c : Code} {G : gG} {A : Nat → Prop} {MC MS : Nat} {K48 : Nat → Int32 → Option Nat → Int32 → Nat → Nat → NM → Prop} {post : Int32 → NM → Prop} (X : cX G A RX0 p s m args c cX0_enough 6) (hr : meth.sig.returnType = (some .int)) (hlk : meth.locks = false) (hL : l.stackTraces = false) (hT : c.exceptionTable.toList = tableOf []) (hK48 : ∀ (x0 : Nat) (x2 : Int32) (x3 : Option Nat) (x4 : Int32) (mc ms : Nat) (N : NM) (H : Heap) (locs : List Loc) (ls : Array Slot) (cells slots : Nat), K48 x0 x2 x3 x4 mc ms N → (cH G A s [] N H locs ∧ cells + mc ≤ MC ∧ slots + ms ≤ MS) → lv_has ls 6 [(0, .ref x0), (2, .int x2), (3, va_rf x3), (4, .int x4)] → W p l e ⟨10, MC, MS, 10322⟩ s m args below meth c H locs cells slots (cx_MQ below (gQ vI post (fun u H => cBw G A (jW u).1 (jW u).2 H) A) (cXC G A [] (fun _ _ _ => False)) args s MC MS A) (F0 m 48 ls [])) : ∀ (n : Nat) (x0 : Nat) (x2 : Int32) (x3 : Option Nat) (x4 : Int32) (x5 : Int32) (mc ms : Nat) (N : NM) (H : Heap) (locs : List Loc) (ls : Array Slot) (cells slots : Nat), wX0_enough_79 (gC G) K48 post n x0 x2 x3 x4 x5 mc ms N → (cH G A s [] N H locs ∧ cells + mc ≤ MC ∧ slots + ms ≤ MS) → lv_has ls 6 [(0, .ref x0), (2, .int x2), (3, va_rf x3), (4, .int x4), (5, .int x5)] → W p l e ⟨10, MC, MS, 10322⟩ s m args below meth c H locs cells slots (cx_MQ below (gQ vI post (fun u H => cBw G A (jW u).1 (jW u).2 H) A) (cXC G A [] (fun _ _ _ => False)) args s MC MS A) (F0 m 79 ls []) := by
  have hx := X.1.1
  have hb := X.1.2.1
  have hml := X.1.2.2.1
  have hown := X.1.2.2.2.1
  have hts := X.1.2.2.2.2
  intro n
  induction n with
  | zero =>
    intro x0 x2 x3 x4 x5 mc ms N H locs ls cells slots h
    exact False.elim h
  | succ n ih =>
    intro x0 x2 x3 x4 x5 mc ms N H locs ls cells slots h hw0 hl
    obtain ⟨hw, hbud⟩ := hw0
    unfold wX0_enough_79 at h
    refine lv_iload (pc := 79) hx hb dX0_enough_79 (lv_at hl 4 rfl) ?_
    refine lq_aload_n (pc := 81) hx hb dX0_enough_81 rfl (lv_at hl 2 rfl) ?_
    obtain ⟨a149, hr150, h⟩ := h
    refine W.eq (g2 := F0 m 82 ls [.ref a149, .int x5]) (by rw [hr150]; rfl) ?_
    obtain ⟨f152, hN151, h⟩ := h
    refine c_getN (pc := 82) X hw hN151 in_X6 rfl 0 (by decide) q885 rfl rfl dX0_enough_82 ?_
    refine lv_iload (pc := 85) hx hb dX0_enough_85 (lv_at hl 3 rfl) ?_
    obtain ⟨a153, hr154, h⟩ := h
    refine W.eq (g2 := F0 m 87 ls [.int x4, .ref a153, .int x5]) (by rw [hr154]; rfl) ?_
    obtain ⟨n156, f157, hN155, h⟩ := h
    obtain ⟨hi, h⟩ := h
    refine c_aald (pc := 87) X hw 5 hN155 rfl hi dX0_enough_87 ?_
    obtain ⟨a158, hr159, h⟩ := h
    refine W.eq (g2 := F0 m 88 ls [.ref a158, .int x5]) (by rw [hr159]; rfl) ?_
    obtain ⟨f161, f162, f163, f164, hN160, h⟩ := h
    refine c_getN (pc := 88) X hw hN160 in_X4 rfl 2 (by decide) q715 rfl rfl dX0_enough_88 ?_
    refine lv_icmp_gt (pc := 91) (tgt := 129) hx hb dX0_enough_91 rfl (fun c165 => ?_) (fun c165 => ?_)
    · have h := h.1 c165
      refine lv_aload_n (pc := 129) hx hb dX0_enough_129 rfl (lv_at hl 0 rfl) ?_
      obtain ⟨f167, f168, f169, f170, f171, f172, f173, f174, f175, f176, f177, f178, f179, f180, f181, f182, f183, f184, f185, hN166, h⟩ := h
      refine c_get (pc := 130) X hw hN166 in_X0 rfl 4 (by decide) q215 rfl rfl dX0_enough_130 ?_
      refine lv_iconst (pc := 133) (v := (1 : Int32)) hx hb dX0_enough_133 (by decide) ?_
      obtain ⟨a186, hr187, h⟩ := h
      refine W.eq (g2 := F0 m 134 ls [.int (1 : Int32), .ref a186]) (by rw [hr187]; rfl) ?_
      obtain ⟨n189, f190, hN188, h⟩ := h
      obtain ⟨hi, h⟩ := h
      refine c_aaldT (pc := 134) X hw 6 hN188 rfl hi dX0_enough_134 ?_
      refine lv_iconst (pc := 135) (v := (0 : Int32)) hx hb dX0_enough_135 (by decide) ?_
      refine lv_aload_n (pc := 136) hx hb dX0_enough_136 rfl (lv_at hl 0 rfl) ?_
      refine c_get (pc := 137) X hw hN166 in_X0 rfl 4 (by decide) q215 rfl rfl dX0_enough_137 ?_
      refine lv_iconst (pc := 140) (v := (0 : Int32)) hx hb dX0_enough_140 (by decide) ?_
      refine W.eq (g2 := F0 m 141 ls [.int (0 : Int32), .ref a186, .int (0 : Int32), va_rf (f190 (1 : Int32).toNatClampNeg)]) (by rw [hr187]; rfl) ?_
      obtain ⟨hi, h⟩ := h
      refine c_aaldT (pc := 141) X hw 6 hN188 rfl hi dX0_enough_141 ?_
      refine lv_iconst (pc := 142) (v := (0 : Int32)) hx hb dX0_enough_142 (by decide) ?_
      refine lv_sipush (pc := 143) (v := (30001 : Int32)) hx hb dX0_enough_143 (by decide) ?_
      obtain ⟨a191, hr192, h⟩ := h
      refine W.eq (g2 := F0 m 146 ls [.int (30001 : Int32), .int (0 : Int32), .ref a191, .int (0 : Int32), va_rf (f190 (1 : Int32).toNatClampNeg)]) (by rw [hr192]; rfl) ?_
      obtain ⟨a193, hr194, h⟩ := h
      refine W.eq (g2 := F0 m 146 ls [.int (30001 : Int32), .int (0 : Int32), .ref a191, .int (0 : Int32), .ref a193]) (by rw [hr194]; rfl) ?_
      obtain ⟨n196, f197, hN195, h⟩ := h
      obtain ⟨n205, f206, hN204, h⟩ := h
      obtain ⟨hm207, hm208, hm209, hm210, hm211, h⟩ := h
      refine c_copyl (pc := 146) (rest := []) X hw hl.1 q372 q374 q373 q112 hN204 hN195 hm207 hm208 hm209 hm210 hm211 (Nat.le_of_ble_eq_true rfl) (Nat.le_of_ble_eq_true rfl) dX0_enough_146 (fun H locs hw => ?_)
      obtain ⟨N213, e214⟩ : ∃ z, z = va_up N a191 (some (eL 1 n196 (va_cpy f206 f197 (0 : Int32).toNatClampNeg (0 : Int32).toNatClampNeg (30001 : Int32).toNatClampNeg))) := ⟨_, rfl⟩
      have hw : cH G A s [] N213 H locs := by rw [e214]; exact hw
      have h := h N213 e214
      have hN215 : N213 a191 = some (eL 1 n196 (va_cpy f206 f197 (0 : Int32).toNatClampNeg (0 : Int32).toNatClampNeg (30001 : Int32).toNatClampNeg)) := by rw [e214]; exact up_s
      have hN216 := up_k (x := some (eL 1 n196 (va_cpy f206 f197 (0 : Int32).toNatClampNeg (0 : Int32).toNatClampNeg (30001 : Int32).toNatClampNeg))) hN195 hN151 (show (3 : Nat) ≠ 14 by decide)
      rw [← e214] at hN216
      have hN217 := up_k (x := some (eL 1 n196 (va_cpy f206 f197 (0 : Int32).toNatClampNeg (0 : Int32).toNatClampNeg (30001 : Int32).toNatClampNeg))) hN195 hN155 (show (3 : Nat) ≠ 11 by decide)
      rw [← e214] at hN217
      have hN218 := up_k (x := some (eL 1 n196 (va_cpy f206 f197 (0 : Int32).toNatClampNeg (0 : Int32).toNatClampNeg (30001 : Int32).toNatClampNeg))) hN195 hN160 (show (3 : Nat) ≠ 12 by decide)
      rw [← e214] at hN218
      have hN219 := up_k (x := some (eL 1 n196 (va_cpy f206 f197 (0 : Int32).toNatClampNeg (0 : Int32).toNatClampNeg (30001 : Int32).toNatClampNeg))) hN195 hN166 (show (3 : Nat) ≠ 2 by decide)
      rw [← e214] at hN219
      have hN220 := up_k (x := some (eL 1 n196 (va_cpy f206 f197 (0 : Int32).toNatClampNeg (0 : Int32).toNatClampNeg (30001 : Int32).toNatClampNeg))) hN195 hN188 (show (3 : Nat) ≠ 13 by decide)
      rw [← e214] at hN220
      refine lv_aload_n (pc := 149) hx hb dX0_enough_149 rfl (lv_at hl 0 rfl) ?_
      refine c_get (pc := 150) X hw hN219 in_X0 rfl 4 (by decide) q215 rfl rfl dX0_enough_150 ?_
      refine lv_iconst (pc := 153) (v := (0 : Int32)) hx hb dX0_enough_153 (by decide) ?_
      refine W.eq (g2 := F0 m 154 ls [.int (0 : Int32), .ref a186]) (by rw [hr187]; rfl) ?_
      obtain ⟨hi, h⟩ := h
      refine c_aaldT (pc := 154) X hw 6 hN220 rfl hi dX0_enough_154 ?_
      refine lv_sipush (pc := 155) (v := (15000 : Int32)) hx hb dX0_enough_155 (by decide) ?_
      refine lv_iload_n (pc := 158) hx hb dX0_enough_158 rfl (lv_at hl 1 rfl) ?_
      refine lv_iadd (pc := 159) hx hb dX0_enough_159 ?_
      refine W.eq (g2 := F0 m 160 ls [.int ((15000 : Int32) + x2), .ref a191]) (by rw [hr192]; rfl) ?_
      obtain ⟨hi, h⟩ := h
      refine c_lald (pc := 160) X hw hN215 hi dX0_enough_160 ?_
      refine lv_lconst (pc := 161) (v := (0 : Int64)) hx hb dX0_enough_161 (by decide) ?_
      refine W.lcmp (pc := 162) hx hb dX0_enough_162 ?_
      refine lv_if_le (pc := 163) (tgt := 171) hx hb dX0_enough_163 rfl (fun c221 => ?_) (fun c221 => ?_)
      · have h := h.1 ((lg_cmp_le _ _).mp c221)
        refine lv_iinc (pc := 171) (v := x4 + (1 : Int32)) (lv' := [(4, .int (x4 + (1 : Int32))), (0, .ref x0), (2, .int x2), (3, va_rf x3), (5, .int x5)]) hx hb dX0_enough_171 hl (k := 3) rfl rfl (by decide) (by simp [rf_c]) (fun ls hl => ?_)
        refine lv_goto (pc := 174) (tgt := 48) hx hb dX0_enough_174 rfl ?_
        exact hK48 _ _ _ _ _ _ _ _ _ _ _ _ h ⟨hw, by omega⟩ (lv_sub hl [1, 2, 3, 0] rfl)
      · have h := h.2 (fun z => c221 ((lg_cmp_le _ _).mpr z))
        refine lv_iload (pc := 166) hx hb dX0_enough_166 (lv_at hl 3 rfl) ?_
        refine lv_iconst (pc := 168) (v := (1 : Int32)) hx hb dX0_enough_168 (by decide) ?_
        refine lv_iadd (pc := 169) hx hb dX0_enough_169 ?_
        refine W.widen (k := MC) (n := MS) (by omega) (by omega) ?_
        refine cx_ret ?_
        exact W.iret (pc := 170) hx hb hr (fun t ht hW => c_ret (val := vI) (lw := jW) (u := N213) hw h ht) hw.2.2.2 dX0_enough_170 hlk
    · have h := h.2 c165
      refine lv_aload_n (pc := 94) hx hb dX0_enough_94 rfl (lv_at hl 0 rfl) ?_
      obtain ⟨f223, f224, f225, f226, f227, f228, f229, f230, f231, f232, f233, f234, f235, f236, f237, f238, f239, f240, f241, hN222, h⟩ := h
      refine c_get (pc := 95) X hw hN222 in_X0 rfl 4 (by decide) q215 rfl rfl dX0_enough_95 ?_
      refine lv_iconst (pc := 98) (v := (1 : Int32)) hx hb dX0_enough_98 (by decide) ?_
      obtain ⟨a242, hr243, h⟩ := h
      refine W.eq (g2 := F0 m 99 ls [.int (1 : Int32), .ref a242]) (by rw [hr243]; rfl) ?_
      obtain ⟨n245, f246, hN244, h⟩ := h
      obtain ⟨hi, h⟩ := h
      refine c_aaldT (pc := 99) X hw 6 hN244 rfl hi dX0_enough_99 ?_
      refine lv_aload_n (pc := 100) hx hb dX0_enough_100 rfl (lv_at hl 0 rfl) ?_
      refine c_get (pc := 101) X hw hN222 in_X0 rfl 4 (by decide) q215 rfl rfl dX0_enough_101 ?_
      refine lv_iconst (pc := 104) (v := (0 : Int32)) hx hb dX0_enough_104 (by decide) ?_
      refine W.eq (g2 := F0 m 105 ls [.int (0 : Int32), .ref a242, va_rf (f246 (1 : Int32).toNatClampNeg)]) (by rw [hr243]; rfl) ?_
      obtain ⟨hi, h⟩ := h
      refine c_aaldT (pc := 105) X hw 6 hN244 rfl hi dX0_enough_105 ?_
      refine lq_aload_n (pc := 106) hx hb dX0_enough_106 rfl (lv_at hl 2 rfl) ?_
      refine W.eq (g2 := F0 m 107 ls [.ref a149, va_rf (f246 (0 : Int32).toNatClampNeg), va_rf (f246 (1 : Int32).toNatClampNeg)]) (by rw [hr150]; rfl) ?_
      refine c_getN (pc := 107) X hw hN151 in_X6 rfl 0 (by decide) q885 rfl rfl dX0_enough_107 ?_
      refine lv_iload (pc := 110) hx hb dX0_enough_110 (lv_at hl 3 rfl) ?_
      refine W.eq (g2 := F0 m 112 ls [.int x4, .ref a153, va_rf (f246 (0 : Int32).toNatClampNeg), va_rf (f246 (1 : Int32).toNatClampNeg)]) (by rw [hr154]; rfl) ?_
      obtain ⟨hi, h⟩ := h
      refine c_aald (pc := 112) X hw 5 hN155 rfl hi dX0_enough_112 ?_
      refine lv_iload (pc := 113) hx hb dX0_enough_113 (lv_at hl 4 rfl) ?_
      refine lv_i2l (pc := 115) hx hb dX0_enough_115 rfl ?_
      refine W.eq (g2 := F0 m 116 ls [.long x5.toInt64, .ref a158, va_rf (f246 (0 : Int32).toNatClampNeg), va_rf (f246 (1 : Int32).toNatClampNeg)]) (by rw [hr159]; rfl) ?_
      refine c_callJ (pc := 116) (val := vL) X hw (va_runV (C := RX4) (As := [.long x5.toInt64]) (rest := [va_rf (f246 (0 : Int32).toNatClampNeg), va_rf (f246 (1 : Int32).toNatClampNeg)]) X.1 (tX4_value X.2.2.1 (sz := H.size) h) (cwV 1 hts (lw_V q1383 q738 q739 q126 q740) rfl rfl rfl ⟨rfl, by decide, by decide, (by decide +kernel : (parseMethodDescriptor yX4_value.desc).map (fun d => d.parameters.length) = some 1)⟩ ⟨Nat.le_of_ble_eq_true rfl, Nat.le_of_ble_eq_true rfl⟩) ⟨cPre_blind, c_recv X hw hN160 rfl, fun U hU hW => ⟨rfl, X.preJ hw hU hW⟩⟩ rfl rfl hl.1 rfl (lv_room (rsum_le (Nat.le_of_ble_eq_true rfl))) dX0_enough_116 ⟨show cells + 0 ≤ MC by omega, show slots + 0 ≤ MS by omega⟩) (fun r247 N248 H locs h hw => ?_)
      refine W.eq (g2 := F0 m 119 ls (.long r247 :: [va_rf (f246 (0 : Int32).toNatClampNeg), va_rf (f246 (1 : Int32).toNatClampNeg)])) rfl ?_
      refine lv_l2i (pc := 119) hx hb dX0_enough_119 rfl ?_
      obtain ⟨a249, hr250, h⟩ := h
      refine W.eq (g2 := F0 m 120 ls [.int r247.toInt32, va_rf (f246 (0 : Int32).toNatClampNeg), .ref a249]) (by rw [hr250]; rfl) ?_
      obtain ⟨a251, hr252, h⟩ := h
      refine W.eq (g2 := F0 m 120 ls [.int r247.toInt32, .ref a251, .ref a249]) (by rw [hr252]; rfl) ?_
      refine c_callJ (pc := 120) (val := vV) X hw (va_runS (g := F0 m 120 ls _) (As := [.ref a249, .ref a251, .int r247.toInt32]) (rest := []) X.1 (tX0_adds X.2.2.1 (sz := H.size) h) (va_cwS 3 hts (lw_S q1384 q1385 q102 q1386) rfl rfl rfl ⟨by decide, by decide, (by decide +kernel : (parseMethodDescriptor yX0_adds.desc).map (fun d => d.parameters.length) = some 3)⟩ ⟨Nat.le_of_ble_eq_true rfl, Nat.le_of_ble_eq_true rfl⟩) ⟨cPre_blind, fun U hU hW => ⟨rfl, X.preJ hw hU hW⟩⟩ rfl rfl hl.1 rfl (lv_room (Nat.le_of_ble_eq_true rfl)) dX0_enough_120 ⟨show cells + 0 + 0 ≤ MC by omega, show slots + 0 + 0 ≤ MS by omega⟩) (fun _ N254 H locs h hw => ?_)
      refine W.eq (g2 := F0 m 123 ls ([])) rfl ?_
      refine lv_iinc (pc := 123) (v := x5 + (1 : Int32)) (lv' := [(5, .int (x5 + (1 : Int32))), (0, .ref x0), (2, .int x2), (3, va_rf x3), (4, .int x4)]) hx hb dX0_enough_123 hl (k := 4) rfl rfl (by decide) rfl (fun ls hl => ?_)
      refine lv_goto (pc := 126) (tgt := 79) hx hb dX0_enough_126 rfl ?_
      exact ih _ _ _ _ _ _ _ _ _ _ _ _ _ h ⟨hw, by omega⟩ (lv_sub hl [1, 2, 3, 4, 0] rfl)
theorem kX0_enough_48 {p : Program} {l : Launch} {e : Env} {s : State} {m : MethodId} {args : Array Value} {below : List Frame} {meth : Method} {c : Code} {G : gG} {A : Nat → Prop} {MC MS : Nat} {post : Int32 → NM → Prop} (X : cX G A RX0 p s m args c cX0_enough 6) (hr : meth.sig.returnType = (some .int)) (hlk : meth.locks = false) (hL : l.stackTraces = false) (hT : c.exceptionTable.toList = tableOf []) : ∀ (n : Nat) (x0 : Nat) (x2 : Int32) (x3 : Option Nat) (x4 : Int32) (mc ms : Nat) (N : NM) (H : Heap) (locs : List Loc) (ls : Array Slot) (cells slots : Nat), wX0_enough_48 (gC G) post n x0 x2 x3 x4 mc ms N → (cH G A s [] N H locs ∧ cells + mc ≤ MC ∧ slots + ms ≤ MS) → lv_has ls 6 [(0, .ref x0), (2, .int x2), (3, va_rf x3), (4, .int x4)] → W p l e ⟨10, MC, MS, 10322⟩ s m args below meth c H locs cells slots (cx_MQ below (gQ vI post (fun u H => cBw G A (jW u).1 (jW u).2 H) A) (cXC G A [] (fun _ _ _ => False)) args s MC MS A) (F0 m 48 ls []) := by
  have hx := X.1.1
  have hb := X.1.2.1
  have hml := X.1.2.2.1
  have hown := X.1.2.2.2.1
  have hts := X.1.2.2.2.2
  intro n
  induction n with
  | zero =>
    intro x0 x2 x3 x4 mc ms N H locs ls cells slots h
    exact False.elim h
  | succ n ih =>
    intro x0 x2 x3 x4 mc ms N H locs ls cells slots h hw0 hl
    obtain ⟨hw, hbud⟩ := hw0
    unfold wX0_enough_48 at h
    refine lv_iload (pc := 48) hx hb dX0_enough_48 (lv_at hl 3 rfl) ?_
    refine lq_aload_n (pc := 50) hx hb dX0_enough_50 rfl (lv_at hl 2 rfl) ?_
    obtain ⟨a99, hr100, h⟩ := h
    refine W.eq (g2 := F0 m 51 ls [.ref a99, .int x4]) (by rw [hr100]; rfl) ?_
    obtain ⟨f104, hN103, h⟩ := h
    refine c_callJ (pc := 51) (val := vI) X hw (va_runV (C := RX6) (As := []) (rest := [.int x4]) X.1 (tX6_many X.2.2.1 (sz := H.size) h) (cwV 0 hts (lw_V q890 q891 q892 q129 q893) rfl rfl rfl ⟨rfl, by decide, by decide, (by decide +kernel : (parseMethodDescriptor yX6_many.desc).map (fun d => d.parameters.length) = some 0)⟩ ⟨Nat.le_of_ble_eq_true rfl, Nat.le_of_ble_eq_true rfl⟩) ⟨cPre_blind, c_recv X hw hN103 rfl, fun U hU hW => ⟨rfl, X.preJ hw hU hW⟩⟩ rfl rfl hl.1 rfl (lv_room (Nat.le_of_ble_eq_true rfl)) dX0_enough_51 ⟨show cells + 0 ≤ MC by omega, show slots + 0 ≤ MS by omega⟩) (fun r101 N102 H locs h hw => ?_)
    refine W.eq (g2 := F0 m 54 ls (.int r101 :: [.int x4])) rfl ?_
    refine lv_icmp_ge (pc := 54) (tgt := 177) hx hb dX0_enough_54 rfl (fun c105 => ?_) (fun c105 => ?_)
    · have h := h.1 c105
      refine lv_iconst (pc := 177) (v := (-1 : Int32)) hx hb dX0_enough_177 (by decide) ?_
      refine W.widen (k := MC) (n := MS) (by omega) (by omega) ?_
      refine cx_ret ?_
      exact W.iret (pc := 178) hx hb hr (fun t ht hW => c_ret (val := vI) (lw := jW) (u := N102) hw h ht) hw.2.2.2 dX0_enough_178 hlk
    · have h := h.2 c105
      refine lv_aload_n (pc := 57) hx hb dX0_enough_57 rfl (lv_at hl 0 rfl) ?_
      obtain ⟨f107, f108, f109, f110, f111, f112, f113, f114, f115, f116, f117, f118, f119, f120, f121, f122, f123, f124, f125, hN106, h⟩ := h
      refine c_get (pc := 58) X hw hN106 in_X0 rfl 4 (by decide) q215 rfl rfl dX0_enough_58 ?_
      refine lv_iconst (pc := 61) (v := (1 : Int32)) hx hb dX0_enough_61 (by decide) ?_
      obtain ⟨a126, hr127, h⟩ := h
      refine W.eq (g2 := F0 m 62 ls [.int (1 : Int32), .ref a126]) (by rw [hr127]; rfl) ?_
      obtain ⟨n129, f130, hN128, h⟩ := h
      obtain ⟨hi, h⟩ := h
      refine c_aaldT (pc := 62) X hw 6 hN128 rfl hi dX0_enough_62 ?_
      refine lv_lconst (pc := 63) (v := (0 : Int64)) hx hb dX0_enough_63 (by decide) ?_
      obtain ⟨a131, hr132, h⟩ := h
      refine W.eq (g2 := F0 m 64 ls [.long (0 : Int64), .ref a131]) (by rw [hr132]; rfl) ?_
      refine c_callJ (pc := 64) (val := vV) X hw (va_runS (g := F0 m 64 ls _) (As := [.ref a131, .long (0 : Int64)]) (rest := []) X.1 (tJ15_fill X.2.2.1 (sz := H.size) h) (va_cwS 2 hts (lw_S q1380 q1381 q122 q1382) rfl rfl rfl ⟨by decide, by decide, (by decide +kernel : (parseMethodDescriptor yJ15_fill.desc).map (fun d => d.parameters.length) = some 2)⟩ ⟨Nat.le_of_ble_eq_true rfl, Nat.le_of_ble_eq_true rfl⟩) ⟨cPre_blind, fun U hU hW => ⟨rfl, X.preJ hw hU hW⟩⟩ rfl rfl hl.1 rfl (lv_room (Nat.le_of_ble_eq_true rfl)) dX0_enough_64 ⟨show cells + 0 + 0 ≤ MC by omega, show slots + 0 + 0 ≤ MS by omega⟩) (fun _ N134 H locs h hw => ?_)
      refine W.eq (g2 := F0 m 67 ls ([])) rfl ?_
      refine lq_aload_n (pc := 67) hx hb dX0_enough_67 rfl (lv_at hl 2 rfl) ?_
      refine W.eq (g2 := F0 m 68 ls [.ref a99]) (by rw [hr100]; rfl) ?_
      obtain ⟨f136, hN135, h⟩ := h
      refine c_getN (pc := 68) X hw hN135 in_X6 rfl 0 (by decide) q885 rfl rfl dX0_enough_68 ?_
      refine lv_iload (pc := 71) hx hb dX0_enough_71 (lv_at hl 3 rfl) ?_
      obtain ⟨a137, hr138, h⟩ := h
      refine W.eq (g2 := F0 m 73 ls [.int x4, .ref a137]) (by rw [hr138]; rfl) ?_
      obtain ⟨n140, f141, hN139, h⟩ := h
      obtain ⟨hi, h⟩ := h
      refine c_aald (pc := 73) X hw 5 hN139 rfl hi dX0_enough_73 ?_
      obtain ⟨a142, hr143, h⟩ := h
      refine W.eq (g2 := F0 m 74 ls [.ref a142]) (by rw [hr143]; rfl) ?_
      obtain ⟨f145, f146, f147, f148, hN144, h⟩ := h
      refine c_getN (pc := 74) X hw hN144 in_X4 rfl 1 (by decide) q712 rfl rfl dX0_enough_74 ?_
      refine lv_istore (pc := 77) (lv' := [(5, .int f146), (0, .ref x0), (2, .int x2), (3, va_rf x3), (4, .int x4)]) hx hb dX0_enough_77 hl (by decide) rfl (fun ls hl => ?_)
      obtain ⟨k, h⟩ := h
      exact kX0_enough_79 X hr hlk hL hT ih k _ _ _ _ _ _ _ _ _ _ _ _ _ h ⟨hw, by omega⟩ (lv_sub hl [1, 2, 3, 4, 0] rfl)
theorem txX0_enough {l : Launch} (hL : l.stackTraces = false) {G : gG} (hO : gOk G) {post : Int32 → NM → Prop} {MC MS : Nat} {N : NM} {x0 : Nat} {x1 : Int32} {x2 : Int32} {sz : Nat} (h : wX0_enough (gC G) post MC MS N x0 x1 x2) : cx_Met l yX0_enough (ws_ yX0_enough cX0_enough 6 (some .int)) ⟨10, MC, MS, 10322⟩ (va_Pc [.ref x0, .int x1, .int x2] (cPre G [] N sz)) (gQ vI post (fun u H => cBw G (cA [] N sz) (jW u).1 (jW u).2 H) (cA [] N sz)) (cXC G (cA [] N sz) [] (fun _ _ _ => False)) MC MS (cA [] N sz) := by
  refine c_ofX (B := fun A u H => cBw G A (jW u).1 (jW u).2 H) (by decide) hO (Nat.le_of_ble_eq_true rfl) (fun p e s m below meth c ls A X hr hlk hT hw hl => ?_)
  have hl : lv_has ls 6 [(0, .ref x0), (1, .int x1), (2, .int x2)] := hl
  have hx := X.1.1
  have hb := X.1.2.1
  have hml := X.1.2.2.1
  have hown := X.1.2.2.2.1
  have hts := X.1.2.2.2.2
  obtain ⟨H, eH⟩ : ∃ z, z = s.heap := ⟨_, rfl⟩
  rw [← eH] at hw ⊢
  obtain ⟨locs, eLo⟩ : ∃ z : List Loc, z = [] := ⟨_, rfl⟩
  rw [← eLo] at hw ⊢
  have hbud : 0 + MC ≤ MC ∧ 0 + MS ≤ MS := by omega
  unfold wX0_enough at h
  refine lv_aload_n (pc := 0) hx hb dX0_enough_0 rfl (lv_at hl 0 rfl) ?_
  refine lv_iload_n (pc := 1) hx hb dX0_enough_1 rfl (lv_at hl 1 rfl) ?_
  obtain ⟨f8, f9, f10, f11, f12, f13, f14, f15, f16, f17, f18, f19, f20, f21, f22, f23, f24, f25, f26, hN7, h⟩ := h
  obtain ⟨mc3, ms4, hm5, hm6, h⟩ := h
  refine c_callJ (pc := 2) (val := vQ) X hw (vx_runVW (C := RX0) (As := [.int x1]) (rest := []) X.1 (tX0_at hL X.2.2.1 (sz := H.size) h) (vx_cwVW 1 hts (lw_VW q898 q900 qs20 q102 q901) rfl rfl rfl ⟨rfl, by decide, by decide, (by decide +kernel : (parseMethodDescriptor yX0_at.desc).map (fun d => d.parameters.length) = some 1)⟩ ⟨Nat.le_of_ble_eq_true rfl, Nat.le_of_ble_eq_true rfl⟩) ⟨cPre_blind, c_recv X hw hN7 rfl, fun U hU hW => ⟨rfl, X.preJ hw hU hW⟩⟩ rfl rfl hl.1 rfl (lv_room (Nat.le_of_ble_eq_true rfl)) dX0_enough_2 ⟨show 0 + mc3 ≤ MC by omega, show 0 + ms4 ≤ MS by omega⟩) (fun r1 N2 H locs h hw => ?_)
  refine W.eq (g2 := F0 m 5 ls (va_rf r1 :: [])) rfl ?_
  refine lq_astore_n (pc := 5) (lv' := [(3, va_rf r1), (0, .ref x0), (1, .int x1), (2, .int x2)]) hx hb dX0_enough_5 rfl hl (by decide) rfl (fun ls hl => ?_)
  refine lq_aload_n (pc := 6) hx hb dX0_enough_6 rfl (lv_at hl 0 rfl) ?_
  refine lq_ifnull (pc := 7) (tgt := 17) hx hb dX0_enough_7 rfl (fun hz27 => ?_) (fun a28 hr29 => ?_)
  · have h := h.1 hz27
    refine lv_iconst (pc := 17) (v := (-1 : Int32)) hx hb dX0_enough_17 (by decide) ?_
    refine W.widen (k := MC) (n := MS) (by omega) (by omega) ?_
    refine cx_ret ?_
    exact W.iret (pc := 18) hx hb hr (fun t ht hW => c_ret (val := vI) (lw := jW) (u := N2) hw h ht) hw.2.2.2 dX0_enough_18 hlk
  · have h := h.2 a28 hr29
    refine lv_iload_n (pc := 10) hx hb dX0_enough_10 rfl (lv_at hl 3 rfl) ?_
    refine s_call (pc := 11) (val := vI) (As := [.int x2]) (rest := []) X.1 (tX0_isNumber h) (lw_S q1555 q976 q102 q977) ⟨by decide, by decide, (by decide +kernel : (parseMethodDescriptor yX0_isNumber.desc).map (fun d => d.parameters.length) = some 1)⟩ ⟨Nat.le_of_ble_eq_true rfl, Nat.le_of_ble_eq_true rfl⟩ hl.1 (Nat.le_of_ble_eq_true rfl) ⟨show 0 + mc3 ≤ MC by omega, show 0 + ms4 ≤ MS by omega⟩ dX0_enough_11 rfl (fun r30 h => ?_)
    refine W.eq (g2 := F0 m 14 ls (.int r30 :: [])) rfl ?_
    refine lv_if_ne (pc := 14) (tgt := 19) hx hb dX0_enough_14 rfl (fun c31 => ?_) (fun c31 => ?_)
    · have h := h.2 c31
      refine lv_aload_n (pc := 19) hx hb dX0_enough_19 rfl (lv_at hl 1 rfl) ?_
      obtain ⟨f33, f34, f35, f36, f37, f38, f39, f40, f41, f42, f43, f44, f45, f46, f47, f48, f49, f50, f51, hN32, h⟩ := h
      refine c_get (pc := 20) X hw hN32 in_X0 rfl 4 (by decide) q215 rfl rfl dX0_enough_20 ?_
      refine lv_iconst (pc := 23) (v := (0 : Int32)) hx hb dX0_enough_23 (by decide) ?_
      obtain ⟨a52, hr53, h⟩ := h
      refine W.eq (g2 := F0 m 24 ls [.int (0 : Int32), .ref a52]) (by rw [hr53]; rfl) ?_
      obtain ⟨n55, f56, hN54, h⟩ := h
      obtain ⟨hi, h⟩ := h
      refine c_aaldT (pc := 24) X hw 6 hN54 rfl hi dX0_enough_24 ?_
      refine lv_lconst (pc := 25) (v := (0 : Int64)) hx hb dX0_enough_25 (by decide) ?_
      obtain ⟨a57, hr58, h⟩ := h
      refine W.eq (g2 := F0 m 26 ls [.long (0 : Int64), .ref a57]) (by rw [hr58]; rfl) ?_
      refine c_callJ (pc := 26) (val := vV) X hw (va_runS (g := F0 m 26 ls _) (As := [.ref a57, .long (0 : Int64)]) (rest := []) X.1 (tJ15_fill X.2.2.1 (sz := H.size) h) (va_cwS 2 hts (lw_S q1380 q1381 q122 q1382) rfl rfl rfl ⟨by decide, by decide, (by decide +kernel : (parseMethodDescriptor yJ15_fill.desc).map (fun d => d.parameters.length) = some 2)⟩ ⟨Nat.le_of_ble_eq_true rfl, Nat.le_of_ble_eq_true rfl⟩) ⟨cPre_blind, fun U hU hW => ⟨rfl, X.preJ hw hU hW⟩⟩ rfl rfl hl.1 rfl (lv_room (Nat.le_of_ble_eq_true rfl)) dX0_enough_26 ⟨show 0 + mc3 + 0 ≤ MC by omega, show 0 + ms4 + 0 ≤ MS by omega⟩) (fun _ N60 H locs h hw => ?_)
      refine W.eq (g2 := F0 m 29 ls ([])) rfl ?_
      refine lv_aload_n (pc := 29) hx hb dX0_enough_29 rfl (lv_at hl 1 rfl) ?_
      refine lv_null (pc := 30) hx hb dX0_enough_30 ?_
      obtain ⟨f62, f63, f64, f65, f66, f67, f68, f69, f70, f71, f72, f73, f74, f75, f76, f77, f78, f79, f80, hN61, h⟩ := h
      refine c_put (pc := 31) (v := va_rf none) X hw hN61 in_X0 tyX0 tyX0_ok nmX0 rfl 6 (by decide) q217 rfl rfl rfl (rf_n none _) (rf_f none _) (Nat.le_of_ble_eq_true rfl) dX0_enough_31 (fun H locs hw => ?_)
      obtain ⟨N81, e82⟩ : ∃ z, z = va_up N60 x0 (some (eO 1 [va_rf f62, va_rf f63, va_rf f64, va_rf f65, va_rf f66, va_rf f67, va_rf none, va_rf f69, va_rf f70, .int f71, .int f72, va_rf f73, va_rf f74, .int f75, va_rf f76, va_rf f77, va_rf f78, va_rf f79, va_rf f80])) := ⟨_, rfl⟩
      have hw : cH G A s [] N81 H locs := by rw [e82]; exact hw
      have h := h N81 e82
      have hN83 : N81 x0 = some (eO 1 [va_rf f62, va_rf f63, va_rf f64, va_rf f65, va_rf f66, va_rf f67, va_rf none, va_rf f69, va_rf f70, .int f71, .int f72, va_rf f73, va_rf f74, .int f75, va_rf f76, va_rf f77, va_rf f78, va_rf f79, va_rf f80]) := by rw [e82]; exact up_s
      refine lv_aload_n (pc := 34) hx hb dX0_enough_34 rfl (lv_at hl 1 rfl) ?_
      refine c_get (pc := 35) X hw hN83 in_X0 rfl 4 (by decide) q215 rfl rfl dX0_enough_35 ?_
      refine lv_iconst (pc := 38) (v := (0 : Int32)) hx hb dX0_enough_38 (by decide) ?_
      obtain ⟨a84, hr85, h⟩ := h
      refine W.eq (g2 := F0 m 39 ls [.int (0 : Int32), .ref a84]) (by rw [hr85]; rfl) ?_
      obtain ⟨n87, f88, hN86, h⟩ := h
      obtain ⟨hi, h⟩ := h
      refine c_aaldT (pc := 39) X hw 6 hN86 rfl hi dX0_enough_39 ?_
      refine lv_sipush (pc := 40) (v := (15000 : Int32)) hx hb dX0_enough_40 (by decide) ?_
      refine lv_lconst (pc := 43) (v := (1 : Int64)) hx hb dX0_enough_43 (by decide) ?_
      obtain ⟨a89, hr90, h⟩ := h
      refine W.eq (g2 := F0 m 44 ls [.long (1 : Int64), .int (15000 : Int32), .ref a89]) (by rw [hr90]; rfl) ?_
      obtain ⟨n92, f93, hN91, h⟩ := h
      obtain ⟨hi, h⟩ := h
      refine c_last (pc := 44) X hw hN91 hi dX0_enough_44 (fun H locs hw => ?_)
      obtain ⟨N94, e95⟩ : ∃ z, z = va_up N81 a89 (some (eL 1 n92 (vp_updL f93 (15000 : Int32).toNatClampNeg (1 : Int64)))) := ⟨_, rfl⟩
      have hw : cH G A s [] N94 H locs := by rw [e95]; exact hw
      have h := h N94 e95
      have hN96 : N94 a89 = some (eL 1 n92 (vp_updL f93 (15000 : Int32).toNatClampNeg (1 : Int64))) := by rw [e95]; exact up_s
      have hN97 := up_k (x := some (eL 1 n92 (vp_updL f93 (15000 : Int32).toNatClampNeg (1 : Int64)))) hN91 hN83 (show (3 : Nat) ≠ 2 by decide)
      rw [← e95] at hN97
      have hN98 := up_k (x := some (eL 1 n92 (vp_updL f93 (15000 : Int32).toNatClampNeg (1 : Int64)))) hN91 hN86 (show (3 : Nat) ≠ 13 by decide)
      rw [← e95] at hN98
      refine lv_iconst (pc := 45) (v := (0 : Int32)) hx hb dX0_enough_45 (by decide) ?_
      refine lv_istore (pc := 46) (i := 4) (lv' := [(4, .int (0 : Int32)), (3, va_rf r1), (0, .ref x0), (1, .int x1), (2, .int x2)]) hx hb dX0_enough_46 hl (by decide) (by simp [rf_c]) (fun ls hl => ?_)
      obtain ⟨k, h⟩ := h
      exact kX0_enough_48 X hr hlk hL hT  k _ _ _ _ _ _ _ _ _ _ _ _ h ⟨hw, by omega⟩ (lv_sub hl [2, 4, 1, 0] rfl)
    · have h := h.1 c31
      refine lv_iconst (pc := 17) (v := (-1 : Int32)) hx hb dX0_enough_17 (by decide) ?_
      refine W.widen (k := MC) (n := MS) (by omega) (by omega) ?_
      refine cx_ret ?_
      exact W.iret (pc := 18) hx hb hr (fun t ht hW => c_ret (val := vI) (lw := jW) (u := N2) hw h ht) hw.2.2.2 dX0_enough_18 hlk
theorem tX0_enough {l : Launch} (hL : l.stackTraces = false) {G : gG} (hO : gOk G) {post : Int32 → NM → Prop} {MC MS : Nat} {N : NM} {x0 : Nat} {x1 : Int32} {x2 : Int32} {sz : Nat} (h : wX0_enough (gC G) post MC MS N x0 x1 x2) : Met l yX0_enough (ws_ yX0_enough cX0_enough 6 (some .int)) ⟨10, MC, MS, 10322⟩ (va_Pc [.ref x0, .int x1, .int x2] (cPre G [] N sz)) (gQ vI post (fun u H => cBw G (cA [] N sz) (jW u).1 (jW u).2 H) (cA [] N sz)) MC MS (cA [] N sz) := cx_toMet (txX0_enough hL hO h)

def wX0_join_120 (K : Nat → Nat → Nat) (post : Int32 → NM → Prop) (x0 : Nat) (x3 : Int32) (x7 : Int32) (x8 : Nat) (mc ms : Nat) (N : NM) : Prop :=
  ((x7 = (0 : Int32)) → (post (0 : Int32) N)) ∧ (¬ (x7 = (0 : Int32)) → (∃ f82 f83 f84 f85 f86 f87 f88 f89 f90 f91 f92 f93 f94 f95 f96 f97 f98 f99 f100, N x0 = some (eO 1 [va_rf f82, va_rf f83, va_rf f84, va_rf f85, va_rf f86, va_rf f87, va_rf f88, va_rf f89, va_rf f90, .int f91, .int f92, va_rf f93, va_rf f94, .int f95, va_rf f96, va_rf f97, va_rf f98, va_rf f99, va_rf f100]) ∧ (∃ mc103 ms104, mc103 ≤ mc ∧ ms104 ≤ ms ∧ wX0_formOf K (fun r101 N102 => ∃ a107, f84 = some a107 ∧ (∃ n110 f111, N102 a107 = some (eR 4 n110 f111) ∧ (vp_in x3 n110 ∧ (∃ a112, r101 = some a112 ∧ (∃ f115, N102 a112 = some (eO 7 [va_rf f115]) ∧ (∀ N116, N116 = va_up N102 a107 (some (eR 4 n110 (va_up f111 x3.toNatClampNeg (some a112)))) → (post (1 : Int32) N116))))))) mc103 ms104 N x8 x7)))
def wX0_join_97 (K : Nat → Nat → Nat) (post : Int32 → NM → Prop) (x0 : Nat) (x3 : Int32) (x5 : Option Nat) (x6 : Int32) (x7 : Int32) (x8 : Nat) (mc ms : Nat) (N : NM) : Prop :=
  (x5 = none → (wX0_join_120 K post x0 x3 x7 x8 mc ms N)) ∧ (∀ a78, x5 = some a78 → (∃ f121, N a78 = some (eO 7 [va_rf f121]) ∧ (wX6_many K (fun r122 N123 => ∃ a124, f121 = some a124 ∧ (∃ n127 f128, N123 x8 = some (eR 5 n127 f128) ∧ (∃ n130 f131, N123 a124 = some (eR 5 n130 f131) ∧ (¬ (0 : Int32) < 0 ∧ ¬ x6 < 0 ∧ ¬ r122 < 0 ∧ (0 : Int32).toNatClampNeg + r122.toNatClampNeg ≤ n130 ∧ ((x6.toNatClampNeg + r122.toNatClampNeg ≤ n127 → ((∀ i, i < r122.toNatClampNeg → ∀ y, f131 ((0 : Int32).toNatClampNeg + i) = some y → ∃ fs, N123 y = some (eO 6 fs)) ∧ (∀ N141, N141 = va_up N123 x8 (some (eR 5 n127 (va_cpy f131 f128 (0 : Int32).toNatClampNeg x6.toNatClampNeg r122.toNatClampNeg))) → (wX0_join_120 K post x0 x3 x7 x8 mc ms N141)))) ∧ (¬ x6.toNatClampNeg + r122.toNatClampNeg ≤ n127 → n127 < 1000 ∧ 3 ≤ mc ∧ 410 ≤ ms ∧ ∀ q144 : Nat, (post (0 : Int32) N123))))))) N a78)))
def wX0_join_69 (K : Nat → Nat → Nat) (post : Int32 → NM → Prop) (x0 : Nat) (x3 : Int32) (x4 : Option Nat) (x5 : Option Nat) (x6 : Int32) (v0 : Int32) (v1 : Int32) (mc ms : Nat) (N : NM) : Prop :=
  ¬ (5 : Int32) < 0 ∧ (5 : Int32).toNatClampNeg ≤ 65536 ∧ 1 ≤ mc ∧ (5 : Int32).toNatClampNeg ≤ ms ∧ (∀ nq69, N nq69 = none → (∀ N71, N71 = va_up N nq69 (some (eR 5 ((5 : Int32).toNatClampNeg) (fun _ => (none : Option Nat)))) → ((x4 = none → (wX0_join_97 K post x0 x3 x5 x6 (v1 + v0) nq69 (mc - 1) (ms - (5 : Int32).toNatClampNeg) N71)) ∧ (∀ a75, x4 = some a75 → (∃ f147, N71 a75 = some (eO 7 [va_rf f147]) ∧ (∃ a148, f147 = some a148 ∧ (∃ n151 f152, N71 a148 = some (eR 5 n151 f152) ∧ (¬ (0 : Int32) < 0 ∧ ¬ (0 : Int32) < 0 ∧ ¬ x6 < 0 ∧ (0 : Int32).toNatClampNeg + x6.toNatClampNeg ≤ n151 ∧ (((0 : Int32).toNatClampNeg + x6.toNatClampNeg ≤ ((5 : Int32).toNatClampNeg) → ((∀ i, i < x6.toNatClampNeg → ∀ y, f152 ((0 : Int32).toNatClampNeg + i) = some y → ∃ fs, N71 y = some (eO 6 fs)) ∧ (∀ N162, N162 = va_up N71 nq69 (some (eR 5 ((5 : Int32).toNatClampNeg) (va_cpy f152 (fun _ => (none : Option Nat)) (0 : Int32).toNatClampNeg (0 : Int32).toNatClampNeg x6.toNatClampNeg))) → (wX0_join_97 K post x0 x3 x5 x6 (v1 + v0) nq69 (mc - 1) (ms - (5 : Int32).toNatClampNeg) N162)))) ∧ (¬ (0 : Int32).toNatClampNeg + x6.toNatClampNeg ≤ ((5 : Int32).toNatClampNeg) → ((5 : Int32).toNatClampNeg) < 1000 ∧ 3 ≤ (mc - 1) ∧ 410 ≤ (ms - (5 : Int32).toNatClampNeg) ∧ ∀ q166 : Nat, (post (0 : Int32) N71)))))))))))
def wX0_join_51 (K : Nat → Nat → Nat) (post : Int32 → NM → Prop) (x0 : Nat) (x3 : Int32) (x4 : Option Nat) (x5 : Option Nat) (v0 : Int32) (mc ms : Nat) (N : NM) : Prop :=
  (x5 = none → (wX0_join_69 K post x0 x3 x4 x5 v0 (0 : Int32) v0 mc ms N)) ∧ (∀ a63, x5 = some a63 → (∃ f171, N a63 = some (eO 7 [va_rf f171]) ∧ (wX6_many K (fun r168 N169 => wX0_join_69 K post x0 x3 x4 x5 v0 r168 v0 mc ms N169) N a63)))
def wX0_join (K : Nat → Nat → Nat) (post : Int32 → NM → Prop) (MC MS : Nat) (N : NM) (x0 : Nat) (x1 : Int32) (x2 : Int32) (x3 : Int32) : Prop :=
  wX0_isSlot (fun r1 => ((r1 = (0 : Int32)) → (post (0 : Int32) N)) ∧ (¬ (r1 = (0 : Int32)) → (wX0_isSlot (fun r3 => ((r3 = (0 : Int32)) → (post (0 : Int32) N)) ∧ (¬ (r3 = (0 : Int32)) → (wX0_isSlot (fun r5 => ((r5 = (0 : Int32)) → (post (0 : Int32) N)) ∧ (¬ (r5 = (0 : Int32)) → (∃ f14 f15 f16 f17 f18 f19 f20 f21 f22 f23 f24 f25 f26 f27 f28 f29 f30 f31 f32, N x0 = some (eO 1 [va_rf f14, va_rf f15, va_rf f16, va_rf f17, va_rf f18, va_rf f19, va_rf f20, va_rf f21, va_rf f22, .int f23, .int f24, va_rf f25, va_rf f26, .int f27, va_rf f28, va_rf f29, va_rf f30, va_rf f31, va_rf f32]) ∧ (∃ mc9 ms10, mc9 ≤ MC ∧ ms10 ≤ MS ∧ wX0_at K (fun r7 N8 => ∃ f40 f41 f42 f43 f44 f45 f46 f47 f48 f49 f50 f51 f52 f53 f54 f55 f56 f57 f58, N8 x0 = some (eO 1 [va_rf f40, va_rf f41, va_rf f42, va_rf f43, va_rf f44, va_rf f45, va_rf f46, va_rf f47, va_rf f48, .int f49, .int f50, va_rf f51, va_rf f52, .int f53, va_rf f54, va_rf f55, va_rf f56, va_rf f57, va_rf f58]) ∧ (∃ mc35 ms36, mc35 ≤ (MC - mc9) ∧ ms36 ≤ (MS - ms10) ∧ wX0_at K (fun r33 N34 => (r7 = none → (wX0_join_51 K post x0 x3 r7 r33 (0 : Int32) ((MC - mc9) - mc35) ((MS - ms10) - ms36) N34)) ∧ (∀ a60, r7 = some a60 → (∃ f175, N34 a60 = some (eO 7 [va_rf f175]) ∧ (wX6_many K (fun r172 N173 => wX0_join_51 K post x0 x3 r7 r33 r172 ((MC - mc9) - mc35) ((MS - ms10) - ms36) N173) N34 a60)))) mc35 ms36 N8 x0 x2)) mc9 ms10 N x0 x1)))) x3))) x2))) x1
theorem kX0_join_120 {p : Program} {l : Launch} {e : Env} {s : State} {m : MethodId} {args : Array Value} {below : List Frame} {meth : Method} {c : Code} {G : gG} {A : Nat → Prop} {MC MS : Nat} {post : Int32 → NM → Prop} (X : cX G A RX0 p s m args c cX0_join 10) (hr : meth.sig.returnType = (some .boolean)) (hlk : meth.locks = false) (hL : l.stackTraces = false) (hT : c.exceptionTable.toList = tableOf [(78, 120, 123, 15)]) : ∀ (x0 : Nat) (x3 : Int32) (x7 : Int32) (x8 : Nat) (mc ms : Nat) (N : NM) (H : Heap) (locs : List Loc) (ls : Array Slot) (cells slots : Nat), wX0_join_120 (gC G) post x0 x3 x7 x8 mc ms N → (cH G A s [] N H locs ∧ cells + mc ≤ MC ∧ slots + ms ≤ MS) → lv_has ls 10 [(0, .ref x0), (3, .int x3), (7, .int x7), (8, .ref x8)] → W p l e ⟨10, MC, MS, 10322⟩ s m args below meth c H locs cells slots (cx_MQ below (gQ vI post (fun u H => cBw G A (jW u).1 (jW u).2 H) A) (cXC G A [] (fun _ _ _ => False)) args s MC MS A) (F0 m 120 ls []) := by
  have hx := X.1.1
  have hb := X.1.2.1
  have hml := X.1.2.2.1
  have hown := X.1.2.2.2.1
  have hts := X.1.2.2.2.2
  intro x0 x3 x7 x8 mc ms N H locs ls cells slots h hw0 hl
  obtain ⟨hw, hbud⟩ := hw0
  unfold wX0_join_120 at h
  refine lv_goto (pc := 120) (tgt := 127) hx hb dX0_join_120 rfl ?_
  refine lv_iload (pc := 127) hx hb dX0_join_127 (lv_at hl 2 rfl) ?_
  refine lv_if_ne (pc := 129) (tgt := 134) hx hb dX0_join_129 rfl (fun c80 => ?_) (fun c80 => ?_)
  · have h := h.2 c80
    refine lv_aload_n (pc := 134) hx hb dX0_join_134 rfl (lv_at hl 0 rfl) ?_
    obtain ⟨f82, f83, f84, f85, f86, f87, f88, f89, f90, f91, f92, f93, f94, f95, f96, f97, f98, f99, f100, hN81, h⟩ := h
    refine c_get (pc := 135) X hw hN81 in_X0 rfl 2 (by decide) q213 rfl rfl dX0_join_135 ?_
    refine lv_iload_n (pc := 138) hx hb dX0_join_138 rfl (lv_at hl 1 rfl) ?_
    refine lv_aload (pc := 139) hx hb dX0_join_139 (lv_at hl 3 rfl) ?_
    refine lv_iload (pc := 141) hx hb dX0_join_141 (lv_at hl 2 rfl) ?_
    obtain ⟨mc103, ms104, hm105, hm106, h⟩ := h
    refine c_callJ (pc := 143) (val := vQ) X hw (va_runS (g := F0 m 143 ls _) (As := [.ref x8, .int x7]) (rest := [.int x3, va_rf f84]) X.1 (tX0_formOf X.2.2.1 (sz := H.size) h) (va_cwS 2 hts (lw_S q1765 q1766 q102 q1767) rfl rfl rfl ⟨by decide, by decide, (by decide +kernel : (parseMethodDescriptor yX0_formOf.desc).map (fun d => d.parameters.length) = some 2)⟩ ⟨Nat.le_of_ble_eq_true rfl, Nat.le_of_ble_eq_true rfl⟩) ⟨cPre_blind, fun U hU hW => ⟨rfl, X.preJ hw hU hW⟩⟩ rfl rfl hl.1 rfl (lv_room (rsum_le (Nat.le_of_ble_eq_true rfl))) dX0_join_143 ⟨show cells + mc103 ≤ MC by omega, show slots + ms104 ≤ MS by omega⟩) (fun r101 N102 H locs h hw => ?_)
    refine W.eq (g2 := F0 m 146 ls (va_rf r101 :: [.int x3, va_rf f84])) rfl ?_
    obtain ⟨a107, hr108, h⟩ := h
    refine W.eq (g2 := F0 m 146 ls [va_rf r101, .int x3, .ref a107]) (by rw [hr108]; rfl) ?_
    obtain ⟨n110, f111, hN109, h⟩ := h
    obtain ⟨hi, h⟩ := h
    obtain ⟨a112, hr113, h⟩ := h
    refine W.eq (g2 := F0 m 146 ls [.ref a112, .int x3, .ref a107]) (by rw [hr113]; rfl) ?_
    obtain ⟨f115, hN114, h⟩ := h
    refine c_aast (pc := 146) X hw 4 hN109 rfl (c_anyS X hw hN114 rfl) hi dX0_join_146 (fun H locs hw => ?_)
    obtain ⟨N116, e117⟩ : ∃ z, z = va_up N102 a107 (some (eR 4 n110 (va_up f111 x3.toNatClampNeg (some a112)))) := ⟨_, rfl⟩
    have hw : cH G A s [] N116 H locs := by rw [e117]; exact hw
    have h := h N116 e117
    have hN118 : N116 a107 = some (eR 4 n110 (va_up f111 x3.toNatClampNeg (some a112))) := by rw [e117]; exact up_s
    have hN119 := up_k (x := some (eR 4 n110 (va_up f111 x3.toNatClampNeg (some a112)))) hN109 hN114 (show (9 : Nat) ≠ 14 by decide)
    rw [← e117] at hN119
    refine lv_iconst (pc := 147) (v := (1 : Int32)) hx hb dX0_join_147 (by decide) ?_
    refine W.widen (k := MC) (n := MS) (by omega) (by omega) ?_
    refine cx_ret ?_
    exact W.zret (pc := 148) hx hb hr rfl (fun t ht hW => c_ret (val := vI) (lw := jW) (u := N116) hw h ht) hw.2.2.2 dX0_join_148 hlk
  · have h := h.1 c80
    refine lv_iconst (pc := 132) (v := (0 : Int32)) hx hb dX0_join_132 (by decide) ?_
    refine W.widen (k := MC) (n := MS) (by omega) (by omega) ?_
    refine cx_ret ?_
    exact W.zret (pc := 133) hx hb hr rfl (fun t ht hW => c_ret (val := vI) (lw := jW) (u := N) hw h ht) hw.2.2.2 dX0_join_133 hlk
theorem kX0_join_97 {p : Program} {l : Launch} {e : Env} {s : State} {m : MethodId} {args : Array Value} {below : List Frame} {meth : Method} {c : Code} {G : gG} {A : Nat → Prop} {MC MS : Nat} {post : Int32 → NM → Prop} (X : cX G A RX0 p s m args c cX0_join 10) (hr : meth.sig.returnType = (some .boolean)) (hlk : meth.locks = false) (hL : l.stackTraces = false) (hT : c.exceptionTable.toList = tableOf [(78, 120, 123, 15)]) : ∀ (x0 : Nat) (x3 : Int32) (x5 : Option Nat) (x6 : Int32) (x7 : Int32) (x8 : Nat) (mc ms : Nat) (N : NM) (H : Heap) (locs : List Loc) (ls : Array Slot) (cells slots : Nat), wX0_join_97 (gC G) post x0 x3 x5 x6 x7 x8 mc ms N → (cH G A s [] N H locs ∧ cells + mc ≤ MC ∧ slots + ms ≤ MS) → lv_has ls 10 [(0, .ref x0), (3, .int x3), (5, va_rf x5), (6, .int x6), (7, .int x7), (8, .ref x8)] → W p l e ⟨10, MC, MS, 10322⟩ s m args below meth c H locs cells slots (cx_MQ below (gQ vI post (fun u H => cBw G A (jW u).1 (jW u).2 H) A) (cXC G A [] (fun _ _ _ => False)) args s MC MS A) (F0 m 97 ls []) := by
  have hx := X.1.1
  have hb := X.1.2.1
  have hml := X.1.2.2.1
  have hown := X.1.2.2.2.1
  have hts := X.1.2.2.2.2
  intro x0 x3 x5 x6 x7 x8 mc ms N H locs ls cells slots h hw0 hl
  obtain ⟨hw, hbud⟩ := hw0
  unfold wX0_join_97 at h
  refine lq_aload (pc := 97) hx hb dX0_join_97 (lv_at hl 2 rfl) ?_
  refine lq_ifnull (pc := 99) (tgt := 120) hx hb dX0_join_99 rfl (fun hz77 => ?_) (fun a78 hr79 => ?_)
  · have h := h.1 hz77
    exact kX0_join_120 X hr hlk hL hT  _ _ _ _ _ _ _ _ _ _ _ _ h ⟨hw, by omega⟩ (lv_sub hl [0, 1, 4, 5] rfl)
  · have h := h.2 a78 hr79
    refine lq_aload (pc := 102) hx hb dX0_join_102 (lv_at hl 2 rfl) ?_
    refine W.eq (g2 := F0 m 104 ls [.ref a78]) (by rw [hr79]; rfl) ?_
    obtain ⟨f121, hN120, h⟩ := h
    refine c_getN (pc := 104) X hw hN120 in_X6 rfl 0 (by decide) q885 rfl rfl dX0_join_104 ?_
    refine lv_iconst (pc := 107) (v := (0 : Int32)) hx hb dX0_join_107 (by decide) ?_
    refine lv_aload (pc := 108) hx hb dX0_join_108 (lv_at hl 5 rfl) ?_
    refine lv_iload (pc := 110) hx hb dX0_join_110 (lv_at hl 3 rfl) ?_
    refine lq_aload (pc := 112) hx hb dX0_join_112 (lv_at hl 2 rfl) ?_
    refine W.eq (g2 := F0 m 114 ls [.ref a78, .int x6, .ref x8, .int (0 : Int32), va_rf f121]) (by rw [hr79]; rfl) ?_
    refine c_callJ (pc := 114) (val := vI) X hw (va_runV (C := RX6) (As := []) (rest := [.int x6, .ref x8, .int (0 : Int32), va_rf f121]) X.1 (tX6_many X.2.2.1 (sz := H.size) h) (cwV 0 hts (lw_V q890 q891 q892 q129 q893) rfl rfl rfl ⟨rfl, by decide, by decide, (by decide +kernel : (parseMethodDescriptor yX6_many.desc).map (fun d => d.parameters.length) = some 0)⟩ ⟨Nat.le_of_ble_eq_true rfl, Nat.le_of_ble_eq_true rfl⟩) ⟨cPre_blind, c_recv X hw hN120 rfl, fun U hU hW => ⟨rfl, X.preJ hw hU hW⟩⟩ rfl rfl hl.1 rfl (lv_room (rsum_le (Nat.le_of_ble_eq_true rfl))) dX0_join_114 ⟨show cells + 0 ≤ MC by omega, show slots + 0 ≤ MS by omega⟩) (fun r122 N123 H locs h hw => ?_)
    refine W.eq (g2 := F0 m 117 ls (.int r122 :: [.int x6, .ref x8, .int (0 : Int32), va_rf f121])) rfl ?_
    obtain ⟨a124, hr125, h⟩ := h
    refine W.eq (g2 := F0 m 117 ls [.int r122, .int x6, .ref x8, .int (0 : Int32), .ref a124]) (by rw [hr125]; rfl) ?_
    obtain ⟨n127, f128, hN126, h⟩ := h
    obtain ⟨n130, f131, hN129, h⟩ := h
    obtain ⟨hm132, hm133, hm134, hm135, h⟩ := h
    by_cases hm136 : x6.toNatClampNeg + r122.toNatClampNeg ≤ n127
    · have h := h.1 hm136
      obtain ⟨hm137, h⟩ := h
      refine c_copyM (pc := 117) (rest := []) X hw hl.1 q372 q374 q373 q112 5 hN129 hN126 rfl hm132 hm133 hm134 hm135 hm136 (fun i hi y hy => by obtain ⟨fs, hfs⟩ := hm137 i hi y hy; exact c_anyS X hw hfs rfl) (Nat.le_of_ble_eq_true rfl) (Nat.le_of_ble_eq_true rfl) dX0_join_117 (fun H locs hw => ?_)
      obtain ⟨N141, e142⟩ : ∃ z, z = va_up N123 x8 (some (eR 5 n127 (va_cpy f131 f128 (0 : Int32).toNatClampNeg x6.toNatClampNeg r122.toNatClampNeg))) := ⟨_, rfl⟩
      have hw : cH G A s [] N141 H locs := by rw [e142]; exact hw
      have h := h N141 e142
      have hN143 : N141 x8 = some (eR 5 n127 (va_cpy f131 f128 (0 : Int32).toNatClampNeg x6.toNatClampNeg r122.toNatClampNeg)) := by rw [e142]; exact up_s
      exact kX0_join_120 X hr hlk hL hT  _ _ _ _ _ _ _ _ _ _ _ _ h ⟨hw, by omega⟩ (lv_sub hl [0, 1, 4, 5] rfl)
    · obtain ⟨hm138, hm139, hm140, h⟩ := h.2 hm136
      refine c_copyZ (pc := 117) (rest := []) (f0 := fun j => va_rf (f131 j)) (f1 := fun j => va_rf (f128 j)) X hw hL hl.1 q372 q374 q373 q112 5 hN129 hN126 rfl rfl rfl (by decide) (by decide) hm132 hm133 hm134 hm135 hm136 hm138 (Nat.le_of_ble_eq_true rfl) (Nat.le_trans (Nat.add_le_add_right (show _ ≤ 8 from (Nat.le_of_ble_eq_true rfl)) 10240) (Nat.le_of_ble_eq_true rfl)) (show cells + 0 + 3 ≤ MC by omega) (show slots + 0 + 410 ≤ MS by omega) dX0_join_117 (fun H q144 hw hq145 => ?_)
      have h := h q144
      refine cx_catchM (pc := 117) X hq145 [] ⟨78, 120, 123, 15⟩ [] (by rw [hT]; rfl) ep_n rfl (by decide) q282 q348 ?_
      refine lv_astore (pc := 123) (lv' := [(9, .ref q144), (0, .ref x0), (3, .int x3), (5, va_rf x5), (6, .int x6), (7, .int x7), (8, .ref x8)]) hx hb dX0_join_123 hl (by decide) rfl (fun ls hl => ?_)
      refine lv_iconst (pc := 125) (v := (0 : Int32)) hx hb dX0_join_125 (by decide) ?_
      refine W.widen (k := MC) (n := MS) (by omega) (by omega) ?_
      refine cx_ret ?_
      exact W.zret (pc := 126) hx hb hr rfl (fun t ht hW => c_ret (val := vI) (lw := jW) (u := N123) hw h ht) hw.2.2.2 dX0_join_126 hlk
theorem kX0_join_69 {p : Program} {l : Launch} {e : Env} {s : State} {m : MethodId} {args : Array Value} {below : List Frame} {meth : Method} {c : Code} {G : gG} {A : Nat → Prop} {MC MS : Nat} {post : Int32 → NM → Prop} (X : cX G A RX0 p s m args c cX0_join 10) (hr : meth.sig.returnType = (some .boolean)) (hlk : meth.locks = false) (hL : l.stackTraces = false) (hT : c.exceptionTable.toList = tableOf [(78, 120, 123, 15)]) : ∀ (x0 : Nat) (x3 : Int32) (x4 : Option Nat) (x5 : Option Nat) (x6 : Int32) (v0 : Int32) (v1 : Int32) (mc ms : Nat) (N : NM) (H : Heap) (locs : List Loc) (ls : Array Slot) (cells slots : Nat), wX0_join_69 (gC G) post x0 x3 x4 x5 x6 v0 v1 mc ms N → (cH G A s [] N H locs ∧ cells + mc ≤ MC ∧ slots + ms ≤ MS) → lv_has ls 10 [(0, .ref x0), (3, .int x3), (4, va_rf x4), (5, va_rf x5), (6, .int x6)] → W p l e ⟨10, MC, MS, 10322⟩ s m args below meth c H locs cells slots (cx_MQ below (gQ vI post (fun u H => cBw G A (jW u).1 (jW u).2 H) A) (cXC G A [] (fun _ _ _ => False)) args s MC MS A) (F0 m 69 ls [.int v0, .int v1]) := by
  have hx := X.1.1
  have hb := X.1.2.1
  have hml := X.1.2.2.1
  have hown := X.1.2.2.2.1
  have hts := X.1.2.2.2.2
  intro x0 x3 x4 x5 x6 v0 v1 mc ms N H locs ls cells slots h hw0 hl
  obtain ⟨hw, hbud⟩ := hw0
  unfold wX0_join_69 at h
  refine lv_iadd (pc := 69) hx hb dX0_join_69 ?_
  refine lv_istore (pc := 70) (lv' := [(7, .int (v1 + v0)), (0, .ref x0), (3, .int x3), (4, va_rf x4), (5, va_rf x5), (6, .int x6)]) hx hb dX0_join_70 hl (by decide) rfl (fun ls hl => ?_)
  refine lv_iconst (pc := 72) (v := (5 : Int32)) hx hb dX0_join_72 (by decide) ?_
  obtain ⟨hm65, hm66, hm67, hm68, h⟩ := h
  refine c_newq (pc := 73) X hw q1764 q865 5 rfl hm65 rfl (Nat.le_trans (Nat.mul_le_mul_right _ hm66) (Nat.le_of_ble_eq_true rfl)) (show cells + 1 ≤ MC by omega) (show slots + (5 : Int32).toNatClampNeg ≤ MS by omega) dX0_join_73 (fun nq69 H hq70 _ hw => ?_)
  have h := h nq69 hq70
  obtain ⟨N71, e72⟩ : ∃ z, z = va_up N nq69 (some (eR 5 ((5 : Int32).toNatClampNeg) (fun _ => (none : Option Nat)))) := ⟨_, rfl⟩
  have hw : cH G A s [] N71 H locs := by rw [e72]; exact hw
  have h := h N71 e72
  have hN73 : N71 nq69 = some (eR 5 ((5 : Int32).toNatClampNeg) (fun _ => (none : Option Nat))) := by rw [e72]; exact up_s
  refine lv_astore (pc := 76) (lv' := [(8, .ref nq69), (7, .int (v1 + v0)), (0, .ref x0), (3, .int x3), (4, va_rf x4), (5, va_rf x5), (6, .int x6)]) hx hb dX0_join_76 hl (by decide) rfl (fun ls hl => ?_)
  refine lq_aload (pc := 78) hx hb dX0_join_78 (lv_at hl 4 rfl) ?_
  refine lq_ifnull (pc := 80) (tgt := 97) hx hb dX0_join_80 rfl (fun hz74 => ?_) (fun a75 hr76 => ?_)
  · have h := h.1 hz74
    exact kX0_join_97 X hr hlk hL hT  _ _ _ _ _ _ _ _ _ _ _ _ _ _ h ⟨hw, by omega⟩ (lv_sub hl [2, 3, 5, 6, 1, 0] rfl)
  · have h := h.2 a75 hr76
    refine lq_aload (pc := 83) hx hb dX0_join_83 (lv_at hl 4 rfl) ?_
    refine W.eq (g2 := F0 m 85 ls [.ref a75]) (by rw [hr76]; rfl) ?_
    obtain ⟨f147, hN146, h⟩ := h
    refine c_getN (pc := 85) X hw hN146 in_X6 rfl 0 (by decide) q885 rfl rfl dX0_join_85 ?_
    refine lv_iconst (pc := 88) (v := (0 : Int32)) hx hb dX0_join_88 (by decide) ?_
    refine lv_aload (pc := 89) hx hb dX0_join_89 (lv_at hl 0 rfl) ?_
    refine lv_iconst (pc := 91) (v := (0 : Int32)) hx hb dX0_join_91 (by decide) ?_
    refine lv_iload (pc := 92) hx hb dX0_join_92 (lv_at hl 6 rfl) ?_
    obtain ⟨a148, hr149, h⟩ := h
    refine W.eq (g2 := F0 m 94 ls [.int x6, .int (0 : Int32), .ref nq69, .int (0 : Int32), .ref a148]) (by rw [hr149]; rfl) ?_
    obtain ⟨n151, f152, hN150, h⟩ := h
    obtain ⟨hm153, hm154, hm155, hm156, h⟩ := h
    by_cases hm157 : (0 : Int32).toNatClampNeg + x6.toNatClampNeg ≤ ((5 : Int32).toNatClampNeg)
    · have h := h.1 hm157
      obtain ⟨hm158, h⟩ := h
      refine c_copyM (pc := 94) (rest := []) X hw hl.1 q372 q374 q373 q112 5 hN150 hN73 rfl hm153 hm154 hm155 hm156 hm157 (fun i hi y hy => by obtain ⟨fs, hfs⟩ := hm158 i hi y hy; exact c_anyS X hw hfs rfl) (Nat.le_of_ble_eq_true rfl) (Nat.le_of_ble_eq_true rfl) dX0_join_94 (fun H locs hw => ?_)
      obtain ⟨N162, e163⟩ : ∃ z, z = va_up N71 nq69 (some (eR 5 ((5 : Int32).toNatClampNeg) (va_cpy f152 (fun _ => (none : Option Nat)) (0 : Int32).toNatClampNeg (0 : Int32).toNatClampNeg x6.toNatClampNeg))) := ⟨_, rfl⟩
      have hw : cH G A s [] N162 H locs := by rw [e163]; exact hw
      have h := h N162 e163
      have hN164 : N162 nq69 = some (eR 5 ((5 : Int32).toNatClampNeg) (va_cpy f152 (fun _ => (none : Option Nat)) (0 : Int32).toNatClampNeg (0 : Int32).toNatClampNeg x6.toNatClampNeg)) := by rw [e163]; exact up_s
      have hN165 := up_k (x := some (eR 5 ((5 : Int32).toNatClampNeg) (va_cpy f152 (fun _ => (none : Option Nat)) (0 : Int32).toNatClampNeg (0 : Int32).toNatClampNeg x6.toNatClampNeg))) hN73 hN146 (show (11 : Nat) ≠ 14 by decide)
      rw [← e163] at hN165
      exact kX0_join_97 X hr hlk hL hT  _ _ _ _ _ _ _ _ _ _ _ _ _ _ h ⟨hw, by omega⟩ (lv_sub hl [2, 3, 5, 6, 1, 0] rfl)
    · obtain ⟨hm159, hm160, hm161, h⟩ := h.2 hm157
      refine c_copyZ (pc := 94) (rest := []) (f0 := fun j => va_rf (f152 j)) (f1 := fun j => va_rf ((fun _ => (none : Option Nat)) j)) X hw hL hl.1 q372 q374 q373 q112 5 hN150 hN73 rfl rfl rfl (by decide) (by decide) hm153 hm154 hm155 hm156 hm157 hm159 (Nat.le_of_ble_eq_true rfl) (Nat.le_trans (Nat.add_le_add_right (show _ ≤ 8 from (Nat.le_of_ble_eq_true rfl)) 10240) (Nat.le_of_ble_eq_true rfl)) (show cells + 1 + 3 ≤ MC by omega) (show slots + (5 : Int32).toNatClampNeg + 410 ≤ MS by omega) dX0_join_94 (fun H q166 hw hq167 => ?_)
      have h := h q166
      refine cx_catchM (pc := 94) X hq167 [] ⟨78, 120, 123, 15⟩ [] (by rw [hT]; rfl) ep_n rfl (by decide) q282 q348 ?_
      refine lv_astore (pc := 123) (lv' := [(9, .ref q166), (8, .ref nq69), (7, .int (v1 + v0)), (0, .ref x0), (3, .int x3), (4, va_rf x4), (5, va_rf x5), (6, .int x6)]) hx hb dX0_join_123 hl (by decide) rfl (fun ls hl => ?_)
      refine lv_iconst (pc := 125) (v := (0 : Int32)) hx hb dX0_join_125 (by decide) ?_
      refine W.widen (k := MC) (n := MS) (by omega) (by omega) ?_
      refine cx_ret ?_
      exact W.zret (pc := 126) hx hb hr rfl (fun t ht hW => c_ret (val := vI) (lw := jW) (u := N71) hw h ht) hw.2.2.2 dX0_join_126 hlk
theorem kX0_join_51 {p : Program} {l : Launch} {e : Env} {s : State} {m : MethodId} {args : Array Value} {below : List Frame} {meth : Method} {c : Code} {G : gG} {A : Nat → Prop} {MC MS : Nat} {post : Int32 → NM → Prop} (X : cX G A RX0 p s m args c cX0_join 10) (hr : meth.sig.returnType = (some .boolean)) (hlk : meth.locks = false) (hL : l.stackTraces = false) (hT : c.exceptionTable.toList = tableOf [(78, 120, 123, 15)]) : ∀ (x0 : Nat) (x3 : Int32) (x4 : Option Nat) (x5 : Option Nat) (v0 : Int32) (mc ms : Nat) (N : NM) (H : Heap) (locs : List Loc) (ls : Array Slot) (cells slots : Nat), wX0_join_51 (gC G) post x0 x3 x4 x5 v0 mc ms N → (cH G A s [] N H locs ∧ cells + mc ≤ MC ∧ slots + ms ≤ MS) → lv_has ls 10 [(0, .ref x0), (3, .int x3), (4, va_rf x4), (5, va_rf x5)] → W p l e ⟨10, MC, MS, 10322⟩ s m args below meth c H locs cells slots (cx_MQ below (gQ vI post (fun u H => cBw G A (jW u).1 (jW u).2 H) A) (cXC G A [] (fun _ _ _ => False)) args s MC MS A) (F0 m 51 ls [.int v0]) := by
  have hx := X.1.1
  have hb := X.1.2.1
  have hml := X.1.2.2.1
  have hown := X.1.2.2.2.1
  have hts := X.1.2.2.2.2
  intro x0 x3 x4 x5 v0 mc ms N H locs ls cells slots h hw0 hl
  obtain ⟨hw, hbud⟩ := hw0
  unfold wX0_join_51 at h
  refine lv_istore (pc := 51) (i := 6) (lv' := [(6, .int v0), (0, .ref x0), (3, .int x3), (4, va_rf x4), (5, va_rf x5)]) hx hb dX0_join_51 hl (by decide) (by simp [rf_c]) (fun ls hl => ?_)
  refine lv_iload (pc := 53) hx hb dX0_join_53 (lv_at hl 0 rfl) ?_
  refine lq_aload (pc := 55) hx hb dX0_join_55 (lv_at hl 4 rfl) ?_
  refine lq_ifnonnull (pc := 57) (tgt := 64) hx hb dX0_join_57 rfl (fun hz62 => ?_) (fun a63 hr64 => ?_)
  · have h := h.1 hz62
    refine lv_iconst (pc := 60) (v := (0 : Int32)) hx hb dX0_join_60 (by decide) ?_
    refine lv_goto (pc := 61) (tgt := 69) hx hb dX0_join_61 rfl ?_
    exact kX0_join_69 X hr hlk hL hT  _ _ _ _ _ _ _ _ _ _ _ _ _ _ _ h ⟨hw, by omega⟩ (lv_sub hl [1, 2, 3, 4, 0] rfl)
  · have h := h.2 a63 hr64
    refine lq_aload (pc := 64) hx hb dX0_join_64 (lv_at hl 4 rfl) ?_
    refine W.eq (g2 := F0 m 66 ls [.ref a63, .int v0]) (by rw [hr64]; rfl) ?_
    obtain ⟨f171, hN170, h⟩ := h
    refine c_callJ (pc := 66) (val := vI) X hw (va_runV (C := RX6) (As := []) (rest := [.int v0]) X.1 (tX6_many X.2.2.1 (sz := H.size) h) (cwV 0 hts (lw_V q890 q891 q892 q129 q893) rfl rfl rfl ⟨rfl, by decide, by decide, (by decide +kernel : (parseMethodDescriptor yX6_many.desc).map (fun d => d.parameters.length) = some 0)⟩ ⟨Nat.le_of_ble_eq_true rfl, Nat.le_of_ble_eq_true rfl⟩) ⟨cPre_blind, c_recv X hw hN170 rfl, fun U hU hW => ⟨rfl, X.preJ hw hU hW⟩⟩ rfl rfl hl.1 rfl (lv_room (Nat.le_of_ble_eq_true rfl)) dX0_join_66 ⟨show cells + 0 ≤ MC by omega, show slots + 0 ≤ MS by omega⟩) (fun r168 N169 H locs h hw => ?_)
    refine W.eq (g2 := F0 m 69 ls (.int r168 :: [.int v0])) rfl ?_
    exact kX0_join_69 X hr hlk hL hT  _ _ _ _ _ _ _ _ _ _ _ _ _ _ _ h ⟨hw, by omega⟩ (lv_sub hl [1, 2, 3, 4, 0] rfl)
theorem txX0_join {l : Launch} (hL : l.stackTraces = false) {G : gG} (hO : gOk G) {post : Int32 → NM → Prop} {MC MS : Nat} {N : NM} {x0 : Nat} {x1 : Int32} {x2 : Int32} {x3 : Int32} {sz : Nat} (h : wX0_join (gC G) post MC MS N x0 x1 x2 x3) : cx_Met l yX0_join (wsW_ yX0_join cX0_join 10 (some .boolean) [(78, 120, 123, 15)]) ⟨10, MC, MS, 10322⟩ (va_Pc [.ref x0, .int x1, .int x2, .int x3] (cPre G [] N sz)) (gQ vI post (fun u H => cBw G (cA [] N sz) (jW u).1 (jW u).2 H) (cA [] N sz)) (cXC G (cA [] N sz) [] (fun _ _ _ => False)) MC MS (cA [] N sz) := by
  refine c_ofXH (B := fun A u H => cBw G A (jW u).1 (jW u).2 H) (by decide) hO (Nat.le_of_ble_eq_true rfl) (fun p e s m below meth c ls A X hr hlk hT hw hl => ?_)
  have hl : lv_has ls 10 [(0, .ref x0), (1, .int x1), (2, .int x2), (3, .int x3)] := hl
  have hx := X.1.1
  have hb := X.1.2.1
  have hml := X.1.2.2.1
  have hown := X.1.2.2.2.1
  have hts := X.1.2.2.2.2
  obtain ⟨H, eH⟩ : ∃ z, z = s.heap := ⟨_, rfl⟩
  rw [← eH] at hw ⊢
  obtain ⟨locs, eLo⟩ : ∃ z : List Loc, z = [] := ⟨_, rfl⟩
  rw [← eLo] at hw ⊢
  have hbud : 0 + MC ≤ MC ∧ 0 + MS ≤ MS := by omega
  unfold wX0_join at h
  refine lv_iload_n (pc := 0) hx hb dX0_join_0 rfl (lv_at hl 1 rfl) ?_
  refine s_call (pc := 1) (val := vI) (As := [.int x1]) (rest := []) X.1 (tX0_isSlot h) (lw_S q388 q389 q102 q390) ⟨by decide, by decide, (by decide +kernel : (parseMethodDescriptor yX0_isSlot.desc).map (fun d => d.parameters.length) = some 1)⟩ ⟨Nat.le_of_ble_eq_true rfl, Nat.le_of_ble_eq_true rfl⟩ hl.1 (Nat.le_of_ble_eq_true rfl) ⟨show 0 ≤ MC by omega, show 0 ≤ MS by omega⟩ dX0_join_1 rfl (fun r1 h => ?_)
  refine W.eq (g2 := F0 m 4 ls (.int r1 :: [])) rfl ?_
  refine lv_if_eq (pc := 4) (tgt := 21) hx hb dX0_join_4 rfl (fun c2 => ?_) (fun c2 => ?_)
  · have h := h.1 c2
    refine lv_iconst (pc := 21) (v := (0 : Int32)) hx hb dX0_join_21 (by decide) ?_
    refine W.widen (k := MC) (n := MS) (by omega) (by omega) ?_
    refine cx_ret ?_
    exact W.zret (pc := 22) hx hb hr rfl (fun t ht hW => c_ret (val := vI) (lw := jW) (u := N) hw h ht) hw.2.2.2 dX0_join_22 hlk
  · have h := h.2 c2
    refine lv_iload_n (pc := 7) hx hb dX0_join_7 rfl (lv_at hl 2 rfl) ?_
    refine s_call (pc := 8) (val := vI) (As := [.int x2]) (rest := []) X.1 (tX0_isSlot h) (lw_S q388 q389 q102 q390) ⟨by decide, by decide, (by decide +kernel : (parseMethodDescriptor yX0_isSlot.desc).map (fun d => d.parameters.length) = some 1)⟩ ⟨Nat.le_of_ble_eq_true rfl, Nat.le_of_ble_eq_true rfl⟩ hl.1 (Nat.le_of_ble_eq_true rfl) ⟨show 0 ≤ MC by omega, show 0 ≤ MS by omega⟩ dX0_join_8 rfl (fun r3 h => ?_)
    refine W.eq (g2 := F0 m 11 ls (.int r3 :: [])) rfl ?_
    refine lv_if_eq (pc := 11) (tgt := 21) hx hb dX0_join_11 rfl (fun c4 => ?_) (fun c4 => ?_)
    · have h := h.1 c4
      refine lv_iconst (pc := 21) (v := (0 : Int32)) hx hb dX0_join_21 (by decide) ?_
      refine W.widen (k := MC) (n := MS) (by omega) (by omega) ?_
      refine cx_ret ?_
      exact W.zret (pc := 22) hx hb hr rfl (fun t ht hW => c_ret (val := vI) (lw := jW) (u := N) hw h ht) hw.2.2.2 dX0_join_22 hlk
    · have h := h.2 c4
      refine lv_iload_n (pc := 14) hx hb dX0_join_14 rfl (lv_at hl 3 rfl) ?_
      refine s_call (pc := 15) (val := vI) (As := [.int x3]) (rest := []) X.1 (tX0_isSlot h) (lw_S q388 q389 q102 q390) ⟨by decide, by decide, (by decide +kernel : (parseMethodDescriptor yX0_isSlot.desc).map (fun d => d.parameters.length) = some 1)⟩ ⟨Nat.le_of_ble_eq_true rfl, Nat.le_of_ble_eq_true rfl⟩ hl.1 (Nat.le_of_ble_eq_true rfl) ⟨show 0 ≤ MC by omega, show 0 ≤ MS by omega⟩ dX0_join_15 rfl (fun r5 h => ?_)
      refine W.eq (g2 := F0 m 18 ls (.int r5 :: [])) rfl ?_
      refine lv_if_ne (pc := 18) (tgt := 23) hx hb dX0_join_18 rfl (fun c6 => ?_) (fun c6 => ?_)
      · have h := h.2 c6
        refine lv_aload_n (pc := 23) hx hb dX0_join_23 rfl (lv_at hl 0 rfl) ?_
        refine lv_iload_n (pc := 24) hx hb dX0_join_24 rfl (lv_at hl 1 rfl) ?_
        obtain ⟨f14, f15, f16, f17, f18, f19, f20, f21, f22, f23, f24, f25, f26, f27, f28, f29, f30, f31, f32, hN13, h⟩ := h
        obtain ⟨mc9, ms10, hm11, hm12, h⟩ := h
        refine c_callJ (pc := 25) (val := vQ) X hw (vx_runVW (C := RX0) (As := [.int x1]) (rest := []) X.1 (tX0_at hL X.2.2.1 (sz := H.size) h) (vx_cwVW 1 hts (lw_VW q898 q900 qs20 q102 q901) rfl rfl rfl ⟨rfl, by decide, by decide, (by decide +kernel : (parseMethodDescriptor yX0_at.desc).map (fun d => d.parameters.length) = some 1)⟩ ⟨Nat.le_of_ble_eq_true rfl, Nat.le_of_ble_eq_true rfl⟩) ⟨cPre_blind, c_recv X hw hN13 rfl, fun U hU hW => ⟨rfl, X.preJ hw hU hW⟩⟩ rfl rfl hl.1 rfl (lv_room (Nat.le_of_ble_eq_true rfl)) dX0_join_25 ⟨show 0 + mc9 ≤ MC by omega, show 0 + ms10 ≤ MS by omega⟩) (fun r7 N8 H locs h hw => ?_)
        refine W.eq (g2 := F0 m 28 ls (va_rf r7 :: [])) rfl ?_
        refine lq_astore (pc := 28) (lv' := [(4, va_rf r7), (0, .ref x0), (1, .int x1), (2, .int x2), (3, .int x3)]) hx hb dX0_join_28 hl (by decide) rfl (fun ls hl => ?_)
        refine lv_aload_n (pc := 30) hx hb dX0_join_30 rfl (lv_at hl 1 rfl) ?_
        refine lv_iload_n (pc := 31) hx hb dX0_join_31 rfl (lv_at hl 3 rfl) ?_
        obtain ⟨f40, f41, f42, f43, f44, f45, f46, f47, f48, f49, f50, f51, f52, f53, f54, f55, f56, f57, f58, hN39, h⟩ := h
        obtain ⟨mc35, ms36, hm37, hm38, h⟩ := h
        refine c_callJ (pc := 32) (val := vQ) X hw (vx_runVW (C := RX0) (As := [.int x2]) (rest := []) X.1 (tX0_at hL X.2.2.1 (sz := H.size) h) (vx_cwVW 1 hts (lw_VW q898 q900 qs20 q102 q901) rfl rfl rfl ⟨rfl, by decide, by decide, (by decide +kernel : (parseMethodDescriptor yX0_at.desc).map (fun d => d.parameters.length) = some 1)⟩ ⟨Nat.le_of_ble_eq_true rfl, Nat.le_of_ble_eq_true rfl⟩) ⟨cPre_blind, c_recv X hw hN39 rfl, fun U hU hW => ⟨rfl, X.preJ hw hU hW⟩⟩ rfl rfl hl.1 rfl (lv_room (Nat.le_of_ble_eq_true rfl)) dX0_join_32 ⟨show 0 + mc9 + mc35 ≤ MC by omega, show 0 + ms10 + ms36 ≤ MS by omega⟩) (fun r33 N34 H locs h hw => ?_)
        refine W.eq (g2 := F0 m 35 ls (va_rf r33 :: [])) rfl ?_
        refine lq_astore (pc := 35) (i := 5) (lv' := [(5, va_rf r33), (4, va_rf r7), (0, .ref x0), (1, .int x1), (2, .int x2), (3, .int x3)]) hx hb dX0_join_35 hl (by decide) (by simp [rf_c]) (fun ls hl => ?_)
        refine lq_aload (pc := 37) hx hb dX0_join_37 (lv_at hl 1 rfl) ?_
        refine lq_ifnonnull (pc := 39) (tgt := 46) hx hb dX0_join_39 rfl (fun hz59 => ?_) (fun a60 hr61 => ?_)
        · have h := h.1 hz59
          refine lv_iconst (pc := 42) (v := (0 : Int32)) hx hb dX0_join_42 (by decide) ?_
          refine lv_goto (pc := 43) (tgt := 51) hx hb dX0_join_43 rfl ?_
          exact kX0_join_51 X hr hlk hL hT  _ _ _ _ _ _ _ _ _ _ _ _ _ h ⟨hw, by omega⟩ (lv_sub hl [2, 5, 1, 0] rfl)
        · have h := h.2 a60 hr61
          refine lq_aload (pc := 46) hx hb dX0_join_46 (lv_at hl 1 rfl) ?_
          refine W.eq (g2 := F0 m 48 ls [.ref a60]) (by rw [hr61]; rfl) ?_
          obtain ⟨f175, hN174, h⟩ := h
          refine c_callJ (pc := 48) (val := vI) X hw (va_runV (C := RX6) (As := []) (rest := []) X.1 (tX6_many X.2.2.1 (sz := H.size) h) (cwV 0 hts (lw_V q890 q891 q892 q129 q893) rfl rfl rfl ⟨rfl, by decide, by decide, (by decide +kernel : (parseMethodDescriptor yX6_many.desc).map (fun d => d.parameters.length) = some 0)⟩ ⟨Nat.le_of_ble_eq_true rfl, Nat.le_of_ble_eq_true rfl⟩) ⟨cPre_blind, c_recv X hw hN174 rfl, fun U hU hW => ⟨rfl, X.preJ hw hU hW⟩⟩ rfl rfl hl.1 rfl (lv_room (Nat.le_of_ble_eq_true rfl)) dX0_join_48 ⟨show 0 + mc9 + mc35 + 0 ≤ MC by omega, show 0 + ms10 + ms36 + 0 ≤ MS by omega⟩) (fun r172 N173 H locs h hw => ?_)
          refine W.eq (g2 := F0 m 51 ls (.int r172 :: [])) rfl ?_
          exact kX0_join_51 X hr hlk hL hT  _ _ _ _ _ _ _ _ _ _ _ _ _ h ⟨hw, by omega⟩ (lv_sub hl [2, 5, 1, 0] rfl)
      · have h := h.1 c6
        refine lv_iconst (pc := 21) (v := (0 : Int32)) hx hb dX0_join_21 (by decide) ?_
        refine W.widen (k := MC) (n := MS) (by omega) (by omega) ?_
        refine cx_ret ?_
        exact W.zret (pc := 22) hx hb hr rfl (fun t ht hW => c_ret (val := vI) (lw := jW) (u := N) hw h ht) hw.2.2.2 dX0_join_22 hlk
theorem tX0_join {l : Launch} (hL : l.stackTraces = false) {G : gG} (hO : gOk G) {post : Int32 → NM → Prop} {MC MS : Nat} {N : NM} {x0 : Nat} {x1 : Int32} {x2 : Int32} {x3 : Int32} {sz : Nat} (h : wX0_join (gC G) post MC MS N x0 x1 x2 x3) : Met l yX0_join (wsW_ yX0_join cX0_join 10 (some .boolean) [(78, 120, 123, 15)]) ⟨10, MC, MS, 10322⟩ (va_Pc [.ref x0, .int x1, .int x2, .int x3] (cPre G [] N sz)) (gQ vI post (fun u H => cBw G (cA [] N sz) (jW u).1 (jW u).2 H) (cA [] N sz)) MC MS (cA [] N sz) := cx_toMet (txX0_join hL hO h)

def wX0_drop (K : Nat → Nat → Nat) (post : Int32 → NM → Prop) (MC MS : Nat) (N : NM) (x0 : Nat) (x1 : Int32) (x2 : Int32) : Prop :=
  ∃ f8 f9 f10 f11 f12 f13 f14 f15 f16 f17 f18 f19 f20 f21 f22 f23 f24 f25 f26, N x0 = some (eO 1 [va_rf f8, va_rf f9, va_rf f10, va_rf f11, va_rf f12, va_rf f13, va_rf f14, va_rf f15, va_rf f16, .int f17, .int f18, va_rf f19, va_rf f20, .int f21, va_rf f22, va_rf f23, va_rf f24, va_rf f25, va_rf f26]) ∧ (∃ mc3 ms4, mc3 ≤ MC ∧ ms4 ≤ MS ∧ wX0_at K (fun r1 N2 => (r1 = none → (post (0 : Int32) N2)) ∧ (∀ a28, r1 = some a28 → (∃ f33, N2 a28 = some (eO 7 [va_rf f33]) ∧ (wX6_many K (fun r30 N31 => wX0_isIn (fun r34 => ((r34 = (0 : Int32)) → (post (0 : Int32) N31)) ∧ (¬ (r34 = (0 : Int32)) → (¬ (5 : Int32) < 0 ∧ (5 : Int32).toNatClampNeg ≤ 65536 ∧ 1 ≤ (MC - mc3) ∧ (5 : Int32).toNatClampNeg ≤ (MS - ms4) ∧ (∀ nq40, N31 nq40 = none → (∀ N42, N42 = va_up N31 nq40 (some (eR 5 ((5 : Int32).toNatClampNeg) (fun _ => (none : Option Nat)))) → (∃ f46, N42 a28 = some (eO 7 [va_rf f46]) ∧ (∃ a47, f46 = some a47 ∧ (∃ n56 f57, N42 a47 = some (eR 5 n56 f57) ∧ (¬ (0 : Int32) < 0 ∧ ¬ (0 : Int32) < 0 ∧ ¬ x2 < 0 ∧ (0 : Int32).toNatClampNeg + x2.toNatClampNeg ≤ n56 ∧ (0 : Int32).toNatClampNeg + x2.toNatClampNeg ≤ ((5 : Int32).toNatClampNeg) ∧ (∀ i, i < x2.toNatClampNeg → ∀ y, f57 ((0 : Int32).toNatClampNeg + i) = some y → ∃ fs, N42 y = some (eO 6 fs)) ∧ (∀ N64, N64 = va_up N42 nq40 (some (eR 5 ((5 : Int32).toNatClampNeg) (va_cpy f57 (fun _ => (none : Option Nat)) (0 : Int32).toNatClampNeg (0 : Int32).toNatClampNeg x2.toNatClampNeg))) → (wX6_many K (fun r68 N69 => ∃ n71 f72, N69 nq40 = some (eR 5 n71 f72) ∧ (∃ n80 f81, N69 a47 = some (eR 5 n80 f81) ∧ (¬ (x2 + (1 : Int32)) < 0 ∧ ¬ x2 < 0 ∧ ¬ ((r68 - x2) - (1 : Int32)) < 0 ∧ (x2 + (1 : Int32)).toNatClampNeg + ((r68 - x2) - (1 : Int32)).toNatClampNeg ≤ n80 ∧ x2.toNatClampNeg + ((r68 - x2) - (1 : Int32)).toNatClampNeg ≤ n71 ∧ (∀ i, i < ((r68 - x2) - (1 : Int32)).toNatClampNeg → ∀ y, f81 ((x2 + (1 : Int32)).toNatClampNeg + i) = some y → ∃ fs, N69 y = some (eO 6 fs)) ∧ (∀ N88, N88 = va_up N69 nq40 (some (eR 5 n71 (va_cpy f81 f72 (x2 + (1 : Int32)).toNatClampNeg x2.toNatClampNeg ((r68 - x2) - (1 : Int32)).toNatClampNeg))) → (∃ f92 f93 f94 f95 f96 f97 f98 f99 f100 f101 f102 f103 f104 f105 f106 f107 f108 f109 f110, N88 x0 = some (eO 1 [va_rf f92, va_rf f93, va_rf f94, va_rf f95, va_rf f96, va_rf f97, va_rf f98, va_rf f99, va_rf f100, .int f101, .int f102, va_rf f103, va_rf f104, .int f105, va_rf f106, va_rf f107, va_rf f108, va_rf f109, va_rf f110]) ∧ (∃ f114, N88 a28 = some (eO 7 [va_rf f114]) ∧ (wX6_many K (fun r111 N112 => ∃ mc117 ms118, mc117 ≤ ((MC - mc3) - 1) ∧ ms118 ≤ ((MS - ms4) - (5 : Int32).toNatClampNeg) ∧ wX0_formOf K (fun r115 N116 => ∃ a121, f94 = some a121 ∧ (∃ n124 f125, N116 a121 = some (eR 4 n124 f125) ∧ (vp_in x1 n124 ∧ (∃ a126, r115 = some a126 ∧ (∃ f129, N116 a126 = some (eO 7 [va_rf f129]) ∧ (∀ N130, N130 = va_up N116 a121 (some (eR 4 n124 (va_up f125 x1.toNatClampNeg (some a126)))) → (post (1 : Int32) N130))))))) mc117 ms118 N112 nq40 (r111 - (1 : Int32))) N88 a28))))))) N64 a28))))))))))) x2.toInt64 (0 : Int64) ((r30 - (1 : Int32)).toInt64)) N2 a28)))) mc3 ms4 N x0 x1)
theorem txX0_drop {l : Launch} (hL : l.stackTraces = false) {G : gG} (hO : gOk G) {post : Int32 → NM → Prop} {MC MS : Nat} {N : NM} {x0 : Nat} {x1 : Int32} {x2 : Int32} {sz : Nat} (h : wX0_drop (gC G) post MC MS N x0 x1 x2) : cx_Met l yX0_drop (ws_ yX0_drop cX0_drop 5 (some .boolean)) ⟨10, MC, MS, 10322⟩ (va_Pc [.ref x0, .int x1, .int x2] (cPre G [] N sz)) (gQ vI post (fun u H => cBw G (cA [] N sz) (jW u).1 (jW u).2 H) (cA [] N sz)) (cXC G (cA [] N sz) [] (fun _ _ _ => False)) MC MS (cA [] N sz) := by
  refine c_ofX (B := fun A u H => cBw G A (jW u).1 (jW u).2 H) (by decide) hO (Nat.le_of_ble_eq_true rfl) (fun p e s m below meth c ls A X hr hlk hT hw hl => ?_)
  have hl : lv_has ls 5 [(0, .ref x0), (1, .int x1), (2, .int x2)] := hl
  have hx := X.1.1
  have hb := X.1.2.1
  have hml := X.1.2.2.1
  have hown := X.1.2.2.2.1
  have hts := X.1.2.2.2.2
  obtain ⟨H, eH⟩ : ∃ z, z = s.heap := ⟨_, rfl⟩
  rw [← eH] at hw ⊢
  obtain ⟨locs, eLo⟩ : ∃ z : List Loc, z = [] := ⟨_, rfl⟩
  rw [← eLo] at hw ⊢
  have hbud : 0 + MC ≤ MC ∧ 0 + MS ≤ MS := by omega
  unfold wX0_drop at h
  refine lv_aload_n (pc := 0) hx hb dX0_drop_0 rfl (lv_at hl 0 rfl) ?_
  refine lv_iload_n (pc := 1) hx hb dX0_drop_1 rfl (lv_at hl 1 rfl) ?_
  obtain ⟨f8, f9, f10, f11, f12, f13, f14, f15, f16, f17, f18, f19, f20, f21, f22, f23, f24, f25, f26, hN7, h⟩ := h
  obtain ⟨mc3, ms4, hm5, hm6, h⟩ := h
  refine c_callJ (pc := 2) (val := vQ) X hw (vx_runVW (C := RX0) (As := [.int x1]) (rest := []) X.1 (tX0_at hL X.2.2.1 (sz := H.size) h) (vx_cwVW 1 hts (lw_VW q898 q900 qs20 q102 q901) rfl rfl rfl ⟨rfl, by decide, by decide, (by decide +kernel : (parseMethodDescriptor yX0_at.desc).map (fun d => d.parameters.length) = some 1)⟩ ⟨Nat.le_of_ble_eq_true rfl, Nat.le_of_ble_eq_true rfl⟩) ⟨cPre_blind, c_recv X hw hN7 rfl, fun U hU hW => ⟨rfl, X.preJ hw hU hW⟩⟩ rfl rfl hl.1 rfl (lv_room (Nat.le_of_ble_eq_true rfl)) dX0_drop_2 ⟨show 0 + mc3 ≤ MC by omega, show 0 + ms4 ≤ MS by omega⟩) (fun r1 N2 H locs h hw => ?_)
  refine W.eq (g2 := F0 m 5 ls (va_rf r1 :: [])) rfl ?_
  refine lq_astore_n (pc := 5) (lv' := [(3, va_rf r1), (0, .ref x0), (1, .int x1), (2, .int x2)]) hx hb dX0_drop_5 rfl hl (by decide) rfl (fun ls hl => ?_)
  refine lq_aload_n (pc := 6) hx hb dX0_drop_6 rfl (lv_at hl 0 rfl) ?_
  refine lq_ifnull (pc := 7) (tgt := 26) hx hb dX0_drop_7 rfl (fun hz27 => ?_) (fun a28 hr29 => ?_)
  · have h := h.1 hz27
    refine lv_iconst (pc := 26) (v := (0 : Int32)) hx hb dX0_drop_26 (by decide) ?_
    refine W.widen (k := MC) (n := MS) (by omega) (by omega) ?_
    refine cx_ret ?_
    exact W.zret (pc := 27) hx hb hr rfl (fun t ht hW => c_ret (val := vI) (lw := jW) (u := N2) hw h ht) hw.2.2.2 dX0_drop_27 hlk
  · have h := h.2 a28 hr29
    refine lv_iload_n (pc := 10) hx hb dX0_drop_10 rfl (lv_at hl 3 rfl) ?_
    refine lv_i2l (pc := 11) hx hb dX0_drop_11 rfl ?_
    refine lv_lconst (pc := 12) (v := (0 : Int64)) hx hb dX0_drop_12 (by decide) ?_
    refine lq_aload_n (pc := 13) hx hb dX0_drop_13 rfl (lv_at hl 0 rfl) ?_
    refine W.eq (g2 := F0 m 14 ls [.ref a28, .long (0 : Int64), .long x2.toInt64]) (by rw [hr29]; rfl) ?_
    obtain ⟨f33, hN32, h⟩ := h
    refine c_callJ (pc := 14) (val := vI) X hw (va_runV (C := RX6) (As := []) (rest := [.long (0 : Int64), .long x2.toInt64]) X.1 (tX6_many X.2.2.1 (sz := H.size) h) (cwV 0 hts (lw_V q890 q891 q892 q129 q893) rfl rfl rfl ⟨rfl, by decide, by decide, (by decide +kernel : (parseMethodDescriptor yX6_many.desc).map (fun d => d.parameters.length) = some 0)⟩ ⟨Nat.le_of_ble_eq_true rfl, Nat.le_of_ble_eq_true rfl⟩) ⟨cPre_blind, c_recv X hw hN32 rfl, fun U hU hW => ⟨rfl, X.preJ hw hU hW⟩⟩ rfl rfl hl.1 rfl (lv_room (Nat.le_of_ble_eq_true rfl)) dX0_drop_14 ⟨show 0 + mc3 + 0 ≤ MC by omega, show 0 + ms4 + 0 ≤ MS by omega⟩) (fun r30 N31 H locs h hw => ?_)
    refine W.eq (g2 := F0 m 17 ls (.int r30 :: [.long (0 : Int64), .long x2.toInt64])) rfl ?_
    refine lv_iconst (pc := 17) (v := (1 : Int32)) hx hb dX0_drop_17 (by decide) ?_
    refine lv_isub (pc := 18) hx hb dX0_drop_18 ?_
    refine lv_i2l (pc := 19) hx hb dX0_drop_19 rfl ?_
    refine s_call (pc := 20) (val := vI) (As := [.long x2.toInt64, .long (0 : Int64), .long ((r30 - (1 : Int32)).toInt64)]) (rest := []) X.1 (tX0_isIn h) (lw_S q380 q381 q102 q382) ⟨by decide, by decide, (by decide +kernel : (parseMethodDescriptor yX0_isIn.desc).map (fun d => d.parameters.length) = some 3)⟩ ⟨Nat.le_of_ble_eq_true rfl, Nat.le_of_ble_eq_true rfl⟩ hl.1 (Nat.le_of_ble_eq_true rfl) ⟨show 0 + mc3 + 0 ≤ MC by omega, show 0 + ms4 + 0 ≤ MS by omega⟩ dX0_drop_20 rfl (fun r34 h => ?_)
    refine W.eq (g2 := F0 m 23 ls (.int r34 :: [])) rfl ?_
    refine lv_if_ne (pc := 23) (tgt := 28) hx hb dX0_drop_23 rfl (fun c35 => ?_) (fun c35 => ?_)
    · have h := h.2 c35
      refine lv_iconst (pc := 28) (v := (5 : Int32)) hx hb dX0_drop_28 (by decide) ?_
      obtain ⟨hm36, hm37, hm38, hm39, h⟩ := h
      refine c_newq (pc := 29) X hw q1764 q865 5 rfl hm36 rfl (Nat.le_trans (Nat.mul_le_mul_right _ hm37) (Nat.le_of_ble_eq_true rfl)) (show 0 + mc3 + 0 + 1 ≤ MC by omega) (show 0 + ms4 + 0 + (5 : Int32).toNatClampNeg ≤ MS by omega) dX0_drop_29 (fun nq40 H hq41 _ hw => ?_)
      have h := h nq40 hq41
      obtain ⟨N42, e43⟩ : ∃ z, z = va_up N31 nq40 (some (eR 5 ((5 : Int32).toNatClampNeg) (fun _ => (none : Option Nat)))) := ⟨_, rfl⟩
      have hw : cH G A s [] N42 H locs := by rw [e43]; exact hw
      have h := h N42 e43
      have hN44 : N42 nq40 = some (eR 5 ((5 : Int32).toNatClampNeg) (fun _ => (none : Option Nat))) := by rw [e43]; exact up_s
      refine lv_astore (pc := 32) (i := 4) (lv' := [(4, .ref nq40), (3, va_rf r1), (0, .ref x0), (1, .int x1), (2, .int x2)]) hx hb dX0_drop_32 hl (by decide) (by simp [rf_c]) (fun ls hl => ?_)
      refine lq_aload_n (pc := 34) hx hb dX0_drop_34 rfl (lv_at hl 1 rfl) ?_
      refine W.eq (g2 := F0 m 35 ls [.ref a28]) (by rw [hr29]; rfl) ?_
      obtain ⟨f46, hN45, h⟩ := h
      refine c_getN (pc := 35) X hw hN45 in_X6 rfl 0 (by decide) q885 rfl rfl dX0_drop_35 ?_
      refine lv_iconst (pc := 38) (v := (0 : Int32)) hx hb dX0_drop_38 (by decide) ?_
      refine lv_aload (pc := 39) hx hb dX0_drop_39 (lv_at hl 0 rfl) ?_
      refine lv_iconst (pc := 41) (v := (0 : Int32)) hx hb dX0_drop_41 (by decide) ?_
      refine lv_iload_n (pc := 42) hx hb dX0_drop_42 rfl (lv_at hl 4 rfl) ?_
      obtain ⟨a47, hr48, h⟩ := h
      refine W.eq (g2 := F0 m 43 ls [.int x2, .int (0 : Int32), .ref nq40, .int (0 : Int32), .ref a47]) (by rw [hr48]; rfl) ?_
      obtain ⟨n56, f57, hN55, h⟩ := h
      obtain ⟨hm58, hm59, hm60, hm61, hm62, hm63, h⟩ := h
      refine c_copyM (pc := 43) (rest := []) X hw hl.1 q372 q374 q373 q112 5 hN55 hN44 rfl hm58 hm59 hm60 hm61 hm62 (fun i hi y hy => by obtain ⟨fs, hfs⟩ := hm63 i hi y hy; exact c_anyS X hw hfs rfl) (Nat.le_of_ble_eq_true rfl) (Nat.le_of_ble_eq_true rfl) dX0_drop_43 (fun H locs hw => ?_)
      obtain ⟨N64, e65⟩ : ∃ z, z = va_up N42 nq40 (some (eR 5 ((5 : Int32).toNatClampNeg) (va_cpy f57 (fun _ => (none : Option Nat)) (0 : Int32).toNatClampNeg (0 : Int32).toNatClampNeg x2.toNatClampNeg))) := ⟨_, rfl⟩
      have hw : cH G A s [] N64 H locs := by rw [e65]; exact hw
      have h := h N64 e65
      have hN66 : N64 nq40 = some (eR 5 ((5 : Int32).toNatClampNeg) (va_cpy f57 (fun _ => (none : Option Nat)) (0 : Int32).toNatClampNeg (0 : Int32).toNatClampNeg x2.toNatClampNeg)) := by rw [e65]; exact up_s
      have hN67 := up_k (x := some (eR 5 ((5 : Int32).toNatClampNeg) (va_cpy f57 (fun _ => (none : Option Nat)) (0 : Int32).toNatClampNeg (0 : Int32).toNatClampNeg x2.toNatClampNeg))) hN44 hN45 (show (11 : Nat) ≠ 14 by decide)
      rw [← e65] at hN67
      refine lq_aload_n (pc := 46) hx hb dX0_drop_46 rfl (lv_at hl 1 rfl) ?_
      refine W.eq (g2 := F0 m 47 ls [.ref a28]) (by rw [hr29]; rfl) ?_
      refine c_getN (pc := 47) X hw hN67 in_X6 rfl 0 (by decide) q885 rfl rfl dX0_drop_47 ?_
      refine lv_iload_n (pc := 50) hx hb dX0_drop_50 rfl (lv_at hl 4 rfl) ?_
      refine lv_iconst (pc := 51) (v := (1 : Int32)) hx hb dX0_drop_51 (by decide) ?_
      refine lv_iadd (pc := 52) hx hb dX0_drop_52 ?_
      refine lv_aload (pc := 53) hx hb dX0_drop_53 (lv_at hl 0 rfl) ?_
      refine lv_iload_n (pc := 55) hx hb dX0_drop_55 rfl (lv_at hl 4 rfl) ?_
      refine lq_aload_n (pc := 56) hx hb dX0_drop_56 rfl (lv_at hl 1 rfl) ?_
      refine W.eq (g2 := F0 m 57 ls [.ref a28, .int x2, .ref nq40, .int (x2 + (1 : Int32)), va_rf f46]) (by rw [hr29]; rfl) ?_
      refine c_callJ (pc := 57) (val := vI) X hw (va_runV (C := RX6) (As := []) (rest := [.int x2, .ref nq40, .int (x2 + (1 : Int32)), va_rf f46]) X.1 (tX6_many X.2.2.1 (sz := H.size) h) (cwV 0 hts (lw_V q890 q891 q892 q129 q893) rfl rfl rfl ⟨rfl, by decide, by decide, (by decide +kernel : (parseMethodDescriptor yX6_many.desc).map (fun d => d.parameters.length) = some 0)⟩ ⟨Nat.le_of_ble_eq_true rfl, Nat.le_of_ble_eq_true rfl⟩) ⟨cPre_blind, c_recv X hw hN67 rfl, fun U hU hW => ⟨rfl, X.preJ hw hU hW⟩⟩ rfl rfl hl.1 rfl (lv_room (rsum_le (Nat.le_of_ble_eq_true rfl))) dX0_drop_57 ⟨show 0 + mc3 + 0 + 1 + 0 ≤ MC by omega, show 0 + ms4 + 0 + (5 : Int32).toNatClampNeg + 0 ≤ MS by omega⟩) (fun r68 N69 H locs h hw => ?_)
      refine W.eq (g2 := F0 m 60 ls (.int r68 :: [.int x2, .ref nq40, .int (x2 + (1 : Int32)), va_rf f46])) rfl ?_
      refine lv_iload_n (pc := 60) hx hb dX0_drop_60 rfl (lv_at hl 4 rfl) ?_
      refine lv_isub (pc := 61) hx hb dX0_drop_61 ?_
      refine lv_iconst (pc := 62) (v := (1 : Int32)) hx hb dX0_drop_62 (by decide) ?_
      refine lv_isub (pc := 63) hx hb dX0_drop_63 ?_
      refine W.eq (g2 := F0 m 64 ls [.int ((r68 - x2) - (1 : Int32)), .int x2, .ref nq40, .int (x2 + (1 : Int32)), .ref a47]) (by rw [hr48]; rfl) ?_
      obtain ⟨n71, f72, hN70, h⟩ := h
      obtain ⟨n80, f81, hN79, h⟩ := h
      obtain ⟨hm82, hm83, hm84, hm85, hm86, hm87, h⟩ := h
      refine c_copyM (pc := 64) (rest := []) X hw hl.1 q372 q374 q373 q112 5 hN79 hN70 rfl hm82 hm83 hm84 hm85 hm86 (fun i hi y hy => by obtain ⟨fs, hfs⟩ := hm87 i hi y hy; exact c_anyS X hw hfs rfl) (Nat.le_of_ble_eq_true rfl) (Nat.le_of_ble_eq_true rfl) dX0_drop_64 (fun H locs hw => ?_)
      obtain ⟨N88, e89⟩ : ∃ z, z = va_up N69 nq40 (some (eR 5 n71 (va_cpy f81 f72 (x2 + (1 : Int32)).toNatClampNeg x2.toNatClampNeg ((r68 - x2) - (1 : Int32)).toNatClampNeg))) := ⟨_, rfl⟩
      have hw : cH G A s [] N88 H locs := by rw [e89]; exact hw
      have h := h N88 e89
      have hN90 : N88 nq40 = some (eR 5 n71 (va_cpy f81 f72 (x2 + (1 : Int32)).toNatClampNeg x2.toNatClampNeg ((r68 - x2) - (1 : Int32)).toNatClampNeg)) := by rw [e89]; exact up_s
      refine lv_aload_n (pc := 67) hx hb dX0_drop_67 rfl (lv_at hl 2 rfl) ?_
      obtain ⟨f92, f93, f94, f95, f96, f97, f98, f99, f100, f101, f102, f103, f104, f105, f106, f107, f108, f109, f110, hN91, h⟩ := h
      refine c_get (pc := 68) X hw hN91 in_X0 rfl 2 (by decide) q213 rfl rfl dX0_drop_68 ?_
      refine lv_iload_n (pc := 71) hx hb dX0_drop_71 rfl (lv_at hl 3 rfl) ?_
      refine lv_aload (pc := 72) hx hb dX0_drop_72 (lv_at hl 0 rfl) ?_
      refine lq_aload_n (pc := 74) hx hb dX0_drop_74 rfl (lv_at hl 1 rfl) ?_
      refine W.eq (g2 := F0 m 75 ls [.ref a28, .ref nq40, .int x1, va_rf f94]) (by rw [hr29]; rfl) ?_
      obtain ⟨f114, hN113, h⟩ := h
      refine c_callJ (pc := 75) (val := vI) X hw (va_runV (C := RX6) (As := []) (rest := [.ref nq40, .int x1, va_rf f94]) X.1 (tX6_many X.2.2.1 (sz := H.size) h) (cwV 0 hts (lw_V q890 q891 q892 q129 q893) rfl rfl rfl ⟨rfl, by decide, by decide, (by decide +kernel : (parseMethodDescriptor yX6_many.desc).map (fun d => d.parameters.length) = some 0)⟩ ⟨Nat.le_of_ble_eq_true rfl, Nat.le_of_ble_eq_true rfl⟩) ⟨cPre_blind, c_recv X hw hN113 rfl, fun U hU hW => ⟨rfl, X.preJ hw hU hW⟩⟩ rfl rfl hl.1 rfl (lv_room (rsum_le (Nat.le_of_ble_eq_true rfl))) dX0_drop_75 ⟨show 0 + mc3 + 0 + 1 + 0 + 0 ≤ MC by omega, show 0 + ms4 + 0 + (5 : Int32).toNatClampNeg + 0 + 0 ≤ MS by omega⟩) (fun r111 N112 H locs h hw => ?_)
      refine W.eq (g2 := F0 m 78 ls (.int r111 :: [.ref nq40, .int x1, va_rf f94])) rfl ?_
      refine lv_iconst (pc := 78) (v := (1 : Int32)) hx hb dX0_drop_78 (by decide) ?_
      refine lv_isub (pc := 79) hx hb dX0_drop_79 ?_
      obtain ⟨mc117, ms118, hm119, hm120, h⟩ := h
      refine c_callJ (pc := 80) (val := vQ) X hw (va_runS (g := F0 m 80 ls _) (As := [.ref nq40, .int (r111 - (1 : Int32))]) (rest := [.int x1, va_rf f94]) X.1 (tX0_formOf X.2.2.1 (sz := H.size) h) (va_cwS 2 hts (lw_S q1765 q1766 q102 q1767) rfl rfl rfl ⟨by decide, by decide, (by decide +kernel : (parseMethodDescriptor yX0_formOf.desc).map (fun d => d.parameters.length) = some 2)⟩ ⟨Nat.le_of_ble_eq_true rfl, Nat.le_of_ble_eq_true rfl⟩) ⟨cPre_blind, fun U hU hW => ⟨rfl, X.preJ hw hU hW⟩⟩ rfl rfl hl.1 rfl (lv_room (rsum_le (Nat.le_of_ble_eq_true rfl))) dX0_drop_80 ⟨show 0 + mc3 + 0 + 1 + 0 + 0 + mc117 ≤ MC by omega, show 0 + ms4 + 0 + (5 : Int32).toNatClampNeg + 0 + 0 + ms118 ≤ MS by omega⟩) (fun r115 N116 H locs h hw => ?_)
      refine W.eq (g2 := F0 m 83 ls (va_rf r115 :: [.int x1, va_rf f94])) rfl ?_
      obtain ⟨a121, hr122, h⟩ := h
      refine W.eq (g2 := F0 m 83 ls [va_rf r115, .int x1, .ref a121]) (by rw [hr122]; rfl) ?_
      obtain ⟨n124, f125, hN123, h⟩ := h
      obtain ⟨hi, h⟩ := h
      obtain ⟨a126, hr127, h⟩ := h
      refine W.eq (g2 := F0 m 83 ls [.ref a126, .int x1, .ref a121]) (by rw [hr127]; rfl) ?_
      obtain ⟨f129, hN128, h⟩ := h
      refine c_aast (pc := 83) X hw 4 hN123 rfl (c_anyS X hw hN128 rfl) hi dX0_drop_83 (fun H locs hw => ?_)
      obtain ⟨N130, e131⟩ : ∃ z, z = va_up N116 a121 (some (eR 4 n124 (va_up f125 x1.toNatClampNeg (some a126)))) := ⟨_, rfl⟩
      have hw : cH G A s [] N130 H locs := by rw [e131]; exact hw
      have h := h N130 e131
      have hN132 : N130 a121 = some (eR 4 n124 (va_up f125 x1.toNatClampNeg (some a126))) := by rw [e131]; exact up_s
      have hN133 := up_k (x := some (eR 4 n124 (va_up f125 x1.toNatClampNeg (some a126)))) hN123 hN128 (show (9 : Nat) ≠ 14 by decide)
      rw [← e131] at hN133
      refine lv_iconst (pc := 84) (v := (1 : Int32)) hx hb dX0_drop_84 (by decide) ?_
      refine W.widen (k := MC) (n := MS) (by omega) (by omega) ?_
      refine cx_ret ?_
      exact W.zret (pc := 85) hx hb hr rfl (fun t ht hW => c_ret (val := vI) (lw := jW) (u := N130) hw h ht) hw.2.2.2 dX0_drop_85 hlk
    · have h := h.1 c35
      refine lv_iconst (pc := 26) (v := (0 : Int32)) hx hb dX0_drop_26 (by decide) ?_
      refine W.widen (k := MC) (n := MS) (by omega) (by omega) ?_
      refine cx_ret ?_
      exact W.zret (pc := 27) hx hb hr rfl (fun t ht hW => c_ret (val := vI) (lw := jW) (u := N31) hw h ht) hw.2.2.2 dX0_drop_27 hlk
theorem tX0_drop {l : Launch} (hL : l.stackTraces = false) {G : gG} (hO : gOk G) {post : Int32 → NM → Prop} {MC MS : Nat} {N : NM} {x0 : Nat} {x1 : Int32} {x2 : Int32} {sz : Nat} (h : wX0_drop (gC G) post MC MS N x0 x1 x2) : Met l yX0_drop (ws_ yX0_drop cX0_drop 5 (some .boolean)) ⟨10, MC, MS, 10322⟩ (va_Pc [.ref x0, .int x1, .int x2] (cPre G [] N sz)) (gQ vI post (fun u H => cBw G (cA [] N sz) (jW u).1 (jW u).2 H) (cA [] N sz)) MC MS (cA [] N sz) := cx_toMet (txX0_drop hL hO h)

def wX0_lead_86 (K : Nat → Nat → Nat) (K50 : Nat → Int32 → Int32 → Option Nat → Nat → Int32 → Nat → Nat → NM → Prop) (post : Int32 → NM → Prop) (x0 : Nat) (x1 : Int32) (x2 : Int32) (x3 : Option Nat) (x4 : Nat) (x5 : Int32) (v0 : Int32) (v1 : Option Nat) (v2 : Int32) (v3 : Nat) (mc ms : Nat) (N : NM) : Prop :=
  ∃ a119, v1 = some a119 ∧ (∃ n122 f123, N a119 = some (eR 5 n122 f123) ∧ (vp_in v0 n122 ∧ (∃ n125 f126, N v3 = some (eR 5 n125 f126) ∧ (vp_in v2 n125 ∧ (∃ a127, (f123 v0.toNatClampNeg) = some a127 ∧ (∃ f130 f131 f132 f133, N a127 = some (eO 6 [.int f130, .int f131, .int f132, va_rf f133]) ∧ (∀ N134, N134 = va_up N v3 (some (eR 5 n125 (va_up f126 v2.toNatClampNeg (some a127)))) → (K50 x0 x1 x2 x3 x4 (x5 + (1 : Int32)) mc ms N134))))))))
def wX0_lead_50 (K : Nat → Nat → Nat) (post : Int32 → NM → Prop) : Nat → Nat → Int32 → Int32 → Option Nat → Nat → Int32 → Nat → Nat → NM → Prop
  | 0, _, _, _, _, _, _, _, _, _ => False
  | n + 1, x0, x1, x2, x3, x4, x5, mc, ms, N => ∃ a68, x3 = some a68 ∧ (∃ f73, N a68 = some (eO 7 [va_rf f73]) ∧ (wX6_many K (fun r70 N71 => (((r70 - (1 : Int32)) ≤ x5) → (∃ f76 f77 f78 f79 f80 f81 f82 f83 f84 f85 f86 f87 f88 f89 f90 f91 f92 f93 f94, N71 x0 = some (eO 1 [va_rf f76, va_rf f77, va_rf f78, va_rf f79, va_rf f80, va_rf f81, va_rf f82, va_rf f83, va_rf f84, .int f85, .int f86, va_rf f87, va_rf f88, .int f89, va_rf f90, va_rf f91, va_rf f92, va_rf f93, va_rf f94]) ∧ (1 ≤ mc ∧ 1 ≤ ms ∧ (∀ nq97, N71 nq97 = none → (∀ N99, N99 = va_up N71 nq97 (some (eO 7 [va_rf none])) → (wX6_init K (fun _ N104 => ∃ a105, f78 = some a105 ∧ (∃ n108 f109, N104 a105 = some (eR 4 n108 f109) ∧ (vp_in x1 n108 ∧ (∃ f111, N104 nq97 = some (eO 7 [va_rf f111]) ∧ (∀ N112, N112 = va_up N104 a105 (some (eR 4 n108 (va_up f109 x1.toNatClampNeg (some nq97)))) → (post (1 : Int32) N112)))))) N99 nq97 x4)))))) ∧ (¬ ((r70 - (1 : Int32)) ≤ x5) → (∃ f117, N71 a68 = some (eO 7 [va_rf f117]) ∧ (((x2 ≤ x5) → (wX0_lead_86 K (fun x0 x1 x2 x3 x4 x5 mc ms N => wX0_lead_50 K post n x0 x1 x2 x3 x4 x5 mc ms N) post x0 x1 x2 x3 x4 x5 (x5 + (1 : Int32)) f117 (x5 + (1 : Int32)) x4 mc ms N71)) ∧ (¬ (x2 ≤ x5) → (wX0_lead_86 K (fun x0 x1 x2 x3 x4 x5 mc ms N => wX0_lead_50 K post n x0 x1 x2 x3 x4 x5 mc ms N) post x0 x1 x2 x3 x4 x5 x5 f117 (x5 + (1 : Int32)) x4 mc ms N71)))))) N a68))
def wX0_lead (K : Nat → Nat → Nat) (post : Int32 → NM → Prop) (MC MS : Nat) (N : NM) (x0 : Nat) (x1 : Int32) (x2 : Int32) : Prop :=
  ∃ f8 f9 f10 f11 f12 f13 f14 f15 f16 f17 f18 f19 f20 f21 f22 f23 f24 f25 f26, N x0 = some (eO 1 [va_rf f8, va_rf f9, va_rf f10, va_rf f11, va_rf f12, va_rf f13, va_rf f14, va_rf f15, va_rf f16, .int f17, .int f18, va_rf f19, va_rf f20, .int f21, va_rf f22, va_rf f23, va_rf f24, va_rf f25, va_rf f26]) ∧ (∃ mc3 ms4, mc3 ≤ MC ∧ ms4 ≤ MS ∧ wX0_at K (fun r1 N2 => (r1 = none → (post (0 : Int32) N2)) ∧ (∀ a28, r1 = some a28 → (∃ f33, N2 a28 = some (eO 7 [va_rf f33]) ∧ (wX6_many K (fun r30 N31 => wX0_isIn (fun r34 => ((r34 = (0 : Int32)) → (post (0 : Int32) N31)) ∧ (¬ (r34 = (0 : Int32)) → (∃ f39, N31 a28 = some (eO 7 [va_rf f39]) ∧ (wX6_many K (fun r36 N37 => ¬ r36 < 0 ∧ r36.toNatClampNeg ≤ 65536 ∧ 1 ≤ (MC - mc3) ∧ r36.toNatClampNeg ≤ (MS - ms4) ∧ (∀ nq44, N37 nq44 = none → (∀ N46, N46 = va_up N37 nq44 (some (eR 5 r36.toNatClampNeg (fun _ => (none : Option Nat)))) → (∃ f50, N46 a28 = some (eO 7 [va_rf f50]) ∧ (∃ a51, f50 = some a51 ∧ (∃ n54 f55, N46 a51 = some (eR 5 n54 f55) ∧ (vp_in x2 n54 ∧ (vp_in (0 : Int32) r36.toNatClampNeg ∧ (∃ a56, (f55 x2.toNatClampNeg) = some a56 ∧ (∃ f59 f60 f61 f62, N46 a56 = some (eO 6 [.int f59, .int f60, .int f61, va_rf f62]) ∧ (∀ N63, N63 = va_up N46 nq44 (some (eR 5 r36.toNatClampNeg (va_up (fun _ => (none : Option Nat)) (0 : Int32).toNatClampNeg (some a56)))) → ((∃ k, wX0_lead_50 K post k x0 x1 x2 r1 nq44 (0 : Int32) ((MC - mc3) - 1) ((MS - ms4) - r36.toNatClampNeg) N63))))))))))))) N31 a28)))) x2.toInt64 (0 : Int64) ((r30 - (1 : Int32)).toInt64)) N2 a28)))) mc3 ms4 N x0 x1)
theorem kX0_lead_86 {p : Program} {l : Launch} {e : Env} {s : State} {m : MethodId} {args : Array Value} {below : List Frame} {meth : Method} {c : Code} {G : gG} {A : Nat → Prop} {MC MS : Nat} {K50 : Nat → Int32 → Int32 → Option Nat → Nat → Int32 → Nat → Nat → NM → Prop} {post : Int32 → NM → Prop} (X : cX G A RX0 p s m args c cX0_lead 6) (hr : meth.sig.returnType = (some .boolean)) (hlk : meth.locks = false) (hL : l.stackTraces = false) (hT : c.exceptionTable.toList = tableOf []) (hK50 : ∀ (x0 : Nat) (x1 : Int32) (x2 : Int32) (x3 : Option Nat) (x4 : Nat) (x5 : Int32) (mc ms : Nat) (N : NM) (H : Heap) (locs : List Loc) (ls : Array Slot) (cells slots : Nat), K50 x0 x1 x2 x3 x4 x5 mc ms N → (cH G A s [] N H locs ∧ cells + mc ≤ MC ∧ slots + ms ≤ MS) → lv_has ls 6 [(0, .ref x0), (1, .int x1), (2, .int x2), (3, va_rf x3), (4, .ref x4), (5, .int x5)] → W p l e ⟨10, MC, MS, 10322⟩ s m args below meth c H locs cells slots (cx_MQ below (gQ vI post (fun u H => cBw G A (jW u).1 (jW u).2 H) A) (cXC G A [] (fun _ _ _ => False)) args s MC MS A) (F0 m 50 ls [])) : ∀ (x0 : Nat) (x1 : Int32) (x2 : Int32) (x3 : Option Nat) (x4 : Nat) (x5 : Int32) (v0 : Int32) (v1 : Option Nat) (v2 : Int32) (v3 : Nat) (mc ms : Nat) (N : NM) (H : Heap) (locs : List Loc) (ls : Array Slot) (cells slots : Nat), wX0_lead_86 (gC G) K50 post x0 x1 x2 x3 x4 x5 v0 v1 v2 v3 mc ms N → (cH G A s [] N H locs ∧ cells + mc ≤ MC ∧ slots + ms ≤ MS) → lv_has ls 6 [(0, .ref x0), (1, .int x1), (2, .int x2), (3, va_rf x3), (4, .ref x4), (5, .int x5)] → W p l e ⟨10, MC, MS, 10322⟩ s m args below meth c H locs cells slots (cx_MQ below (gQ vI post (fun u H => cBw G A (jW u).1 (jW u).2 H) A) (cXC G A [] (fun _ _ _ => False)) args s MC MS A) (F0 m 86 ls [.int v0, va_rf v1, .int v2, .ref v3]) := by
  have hx := X.1.1
  have hb := X.1.2.1
  have hml := X.1.2.2.1
  have hown := X.1.2.2.2.1
  have hts := X.1.2.2.2.2
  intro x0 x1 x2 x3 x4 x5 v0 v1 v2 v3 mc ms N H locs ls cells slots h hw0 hl
  obtain ⟨hw, hbud⟩ := hw0
  unfold wX0_lead_86 at h
  obtain ⟨a119, hr120, h⟩ := h
  refine W.eq (g2 := F0 m 86 ls [.int v0, .ref a119, .int v2, .ref v3]) (by rw [hr120]; rfl) ?_
  obtain ⟨n122, f123, hN121, h⟩ := h
  obtain ⟨hi, h⟩ := h
  refine c_aald (pc := 86) X hw 5 hN121 rfl hi dX0_lead_86 ?_
  obtain ⟨n125, f126, hN124, h⟩ := h
  obtain ⟨hi, h⟩ := h
  obtain ⟨a127, hr128, h⟩ := h
  refine W.eq (g2 := F0 m 87 ls [.ref a127, .int v2, .ref v3]) (by rw [hr128]; rfl) ?_
  obtain ⟨f130, f131, f132, f133, hN129, h⟩ := h
  refine c_aast (pc := 87) X hw 5 hN124 rfl (c_anyS X hw hN129 rfl) hi dX0_lead_87 (fun H locs hw => ?_)
  obtain ⟨N134, e135⟩ : ∃ z, z = va_up N v3 (some (eR 5 n125 (va_up f126 v2.toNatClampNeg (some a127)))) := ⟨_, rfl⟩
  have hw : cH G A s [] N134 H locs := by rw [e135]; exact hw
  have h := h N134 e135
  have hN136 : N134 v3 = some (eR 5 n125 (va_up f126 v2.toNatClampNeg (some a127))) := by rw [e135]; exact up_s
  have hN137 := up_k (x := some (eR 5 n125 (va_up f126 v2.toNatClampNeg (some a127)))) hN124 hN129 (show (11 : Nat) ≠ 12 by decide)
  rw [← e135] at hN137
  refine lv_iinc (pc := 88) (v := x5 + (1 : Int32)) (lv' := [(5, .int (x5 + (1 : Int32))), (0, .ref x0), (1, .int x1), (2, .int x2), (3, va_rf x3), (4, .ref x4)]) hx hb dX0_lead_88 hl (k := 5) rfl rfl (by decide) rfl (fun ls hl => ?_)
  refine lv_goto (pc := 91) (tgt := 50) hx hb dX0_lead_91 rfl ?_
  exact hK50 _ _ _ _ _ _ _ _ _ _ _ _ _ _ h ⟨hw, by omega⟩ (lv_sub hl [1, 2, 3, 4, 5, 0] rfl)
theorem kX0_lead_50 {p : Program} {l : Launch} {e : Env} {s : State} {m : MethodId} {args : Array Value} {below : List Frame} {meth : Method} {c : Code} {G : gG} {A : Nat → Prop} {MC MS : Nat} {post : Int32 → NM → Prop} (X : cX G A RX0 p s m args c cX0_lead 6) (hr : meth.sig.returnType = (some .boolean)) (hlk : meth.locks = false) (hL : l.stackTraces = false) (hT : c.exceptionTable.toList = tableOf []) : ∀ (n : Nat) (x0 : Nat) (x1 : Int32) (x2 : Int32) (x3 : Option Nat) (x4 : Nat) (x5 : Int32) (mc ms : Nat) (N : NM) (H : Heap) (locs : List Loc) (ls : Array Slot) (cells slots : Nat), wX0_lead_50 (gC G) post n x0 x1 x2 x3 x4 x5 mc ms N → (cH G A s [] N H locs ∧ cells + mc ≤ MC ∧ slots + ms ≤ MS) → lv_has ls 6 [(0, .ref x0), (1, .int x1), (2, .int x2), (3, va_rf x3), (4, .ref x4), (5, .int x5)] → W p l e ⟨10, MC, MS, 10322⟩ s m args below meth c H locs cells slots (cx_MQ below (gQ vI post (fun u H => cBw G A (jW u).1 (jW u).2 H) A) (cXC G A [] (fun _ _ _ => False)) args s MC MS A) (F0 m 50 ls []) := by
  have hx := X.1.1
  have hb := X.1.2.1
  have hml := X.1.2.2.1
  have hown := X.1.2.2.2.1
  have hts := X.1.2.2.2.2
  intro n
  induction n with
  | zero =>
    intro x0 x1 x2 x3 x4 x5 mc ms N H locs ls cells slots h
    exact False.elim h
  | succ n ih =>
    intro x0 x1 x2 x3 x4 x5 mc ms N H locs ls cells slots h hw0 hl
    obtain ⟨hw, hbud⟩ := hw0
    unfold wX0_lead_50 at h
    refine lv_iload (pc := 50) hx hb dX0_lead_50 (lv_at hl 5 rfl) ?_
    refine lq_aload_n (pc := 52) hx hb dX0_lead_52 rfl (lv_at hl 3 rfl) ?_
    obtain ⟨a68, hr69, h⟩ := h
    refine W.eq (g2 := F0 m 53 ls [.ref a68, .int x5]) (by rw [hr69]; rfl) ?_
    obtain ⟨f73, hN72, h⟩ := h
    refine c_callJ (pc := 53) (val := vI) X hw (va_runV (C := RX6) (As := []) (rest := [.int x5]) X.1 (tX6_many X.2.2.1 (sz := H.size) h) (cwV 0 hts (lw_V q890 q891 q892 q129 q893) rfl rfl rfl ⟨rfl, by decide, by decide, (by decide +kernel : (parseMethodDescriptor yX6_many.desc).map (fun d => d.parameters.length) = some 0)⟩ ⟨Nat.le_of_ble_eq_true rfl, Nat.le_of_ble_eq_true rfl⟩) ⟨cPre_blind, c_recv X hw hN72 rfl, fun U hU hW => ⟨rfl, X.preJ hw hU hW⟩⟩ rfl rfl hl.1 rfl (lv_room (Nat.le_of_ble_eq_true rfl)) dX0_lead_53 ⟨show cells + 0 ≤ MC by omega, show slots + 0 ≤ MS by omega⟩) (fun r70 N71 H locs h hw => ?_)
    refine W.eq (g2 := F0 m 56 ls (.int r70 :: [.int x5])) rfl ?_
    refine lv_iconst (pc := 56) (v := (1 : Int32)) hx hb dX0_lead_56 (by decide) ?_
    refine lv_isub (pc := 57) hx hb dX0_lead_57 ?_
    refine lv_icmp_ge (pc := 58) (tgt := 94) hx hb dX0_lead_58 rfl (fun c74 => ?_) (fun c74 => ?_)
    · have h := h.1 c74
      refine lv_aload_n (pc := 94) hx hb dX0_lead_94 rfl (lv_at hl 0 rfl) ?_
      obtain ⟨f76, f77, f78, f79, f80, f81, f82, f83, f84, f85, f86, f87, f88, f89, f90, f91, f92, f93, f94, hN75, h⟩ := h
      refine c_get (pc := 95) X hw hN75 in_X0 rfl 2 (by decide) q213 rfl rfl dX0_lead_95 ?_
      refine lv_iload_n (pc := 98) hx hb dX0_lead_98 rfl (lv_at hl 1 rfl) ?_
      obtain ⟨hm95, hm96, h⟩ := h
      refine c_new (pc := 99) (ci := 7) (fs := [va_rf none]) X hw in_X6 tyX6 tyX6_ok q202 q879 q129 rfl nf_X6 (show cells + 0 + 1 ≤ MC by omega) (show slots + 0 + 1 ≤ MS by omega) dX0_lead_99 (fun nq97 H hq98 _ hw => ?_)
      have h := h nq97 hq98
      obtain ⟨N99, e100⟩ : ∃ z, z = va_up N71 nq97 (some (eO 7 [va_rf none])) := ⟨_, rfl⟩
      have hw : cH G A s [] N99 H locs := by rw [e100]; exact hw
      have h := h N99 e100
      have hN101 : N99 nq97 = some (eO 7 [va_rf none]) := by rw [e100]; exact up_s
      have hN102 := up_f (x := some (eO 7 [va_rf none])) hq98 hN75
      rw [← e100] at hN102
      refine lv_dup (pc := 102) hx hb dX0_lead_102 rfl ?_
      refine lv_aload (pc := 103) hx hb dX0_lead_103 (lv_at hl 4 rfl) ?_
      refine c_callJ (pc := 105) (val := vV) X hw (va_runI (As := [.ref x4]) (rest := [.ref nq97, .int x1, va_rf f78]) X.1 (tX6_init X.2.2.1 (sz := H.size) h) (cwI 1 hts (lw_meth q882) rfl rfl rfl (hts _ q129) (hts _ q1768) (hts _ q881) rfl ⟨by decide, by decide, (by decide +kernel : (parseMethodDescriptor yX6_init.desc).map (fun d => d.parameters.length) = some 1)⟩ ⟨Nat.le_of_ble_eq_true rfl, Nat.le_of_ble_eq_true rfl⟩) ⟨cPre_blind, fun U hU hW => ⟨rfl, X.preJ hw hU hW⟩⟩ rfl rfl hl.1 rfl (lv_room (rsum_le (Nat.le_of_ble_eq_true rfl))) dX0_lead_105 ⟨show cells + 0 + 1 + 0 ≤ MC by omega, show slots + 0 + 1 + 0 ≤ MS by omega⟩) (fun _ N104 H locs h hw => ?_)
      refine W.eq (g2 := F0 m 108 ls ([.ref nq97, .int x1, va_rf f78])) rfl ?_
      obtain ⟨a105, hr106, h⟩ := h
      refine W.eq (g2 := F0 m 108 ls [.ref nq97, .int x1, .ref a105]) (by rw [hr106]; rfl) ?_
      obtain ⟨n108, f109, hN107, h⟩ := h
      obtain ⟨hi, h⟩ := h
      obtain ⟨f111, hN110, h⟩ := h
      refine c_aast (pc := 108) X hw 4 hN107 rfl (c_anyS X hw hN110 rfl) hi dX0_lead_108 (fun H locs hw => ?_)
      obtain ⟨N112, e113⟩ : ∃ z, z = va_up N104 a105 (some (eR 4 n108 (va_up f109 x1.toNatClampNeg (some nq97)))) := ⟨_, rfl⟩
      have hw : cH G A s [] N112 H locs := by rw [e113]; exact hw
      have h := h N112 e113
      have hN114 : N112 a105 = some (eR 4 n108 (va_up f109 x1.toNatClampNeg (some nq97))) := by rw [e113]; exact up_s
      have hN115 := up_k (x := some (eR 4 n108 (va_up f109 x1.toNatClampNeg (some nq97)))) hN107 hN110 (show (9 : Nat) ≠ 14 by decide)
      rw [← e113] at hN115
      refine lv_iconst (pc := 109) (v := (1 : Int32)) hx hb dX0_lead_109 (by decide) ?_
      refine W.widen (k := MC) (n := MS) (by omega) (by omega) ?_
      refine cx_ret ?_
      exact W.zret (pc := 110) hx hb hr rfl (fun t ht hW => c_ret (val := vI) (lw := jW) (u := N112) hw h ht) hw.2.2.2 dX0_lead_110 hlk
    · have h := h.2 c74
      refine lv_aload (pc := 61) hx hb dX0_lead_61 (lv_at hl 4 rfl) ?_
      refine lv_iload (pc := 63) hx hb dX0_lead_63 (lv_at hl 5 rfl) ?_
      refine lv_iconst (pc := 65) (v := (1 : Int32)) hx hb dX0_lead_65 (by decide) ?_
      refine lv_iadd (pc := 66) hx hb dX0_lead_66 ?_
      refine lq_aload_n (pc := 67) hx hb dX0_lead_67 rfl (lv_at hl 3 rfl) ?_
      refine W.eq (g2 := F0 m 68 ls [.ref a68, .int (x5 + (1 : Int32)), .ref x4]) (by rw [hr69]; rfl) ?_
      obtain ⟨f117, hN116, h⟩ := h
      refine c_getN (pc := 68) X hw hN116 in_X6 rfl 0 (by decide) q885 rfl rfl dX0_lead_68 ?_
      refine lv_iload (pc := 71) hx hb dX0_lead_71 (lv_at hl 5 rfl) ?_
      refine lv_iload_n (pc := 73) hx hb dX0_lead_73 rfl (lv_at hl 2 rfl) ?_
      refine lv_icmp_ge (pc := 74) (tgt := 82) hx hb dX0_lead_74 rfl (fun c118 => ?_) (fun c118 => ?_)
      · have h := h.1 c118
        refine lv_iload (pc := 82) hx hb dX0_lead_82 (lv_at hl 5 rfl) ?_
        refine lv_iconst (pc := 84) (v := (1 : Int32)) hx hb dX0_lead_84 (by decide) ?_
        refine lv_iadd (pc := 85) hx hb dX0_lead_85 ?_
        exact kX0_lead_86 X hr hlk hL hT ih _ _ _ _ _ _ _ _ _ _ _ _ _ _ _ _ _ _ h ⟨hw, by omega⟩ (lv_sub hl [0, 1, 2, 3, 4, 5] rfl)
      · have h := h.2 c118
        refine lv_iload (pc := 77) hx hb dX0_lead_77 (lv_at hl 5 rfl) ?_
        refine lv_goto (pc := 79) (tgt := 86) hx hb dX0_lead_79 rfl ?_
        exact kX0_lead_86 X hr hlk hL hT ih _ _ _ _ _ _ _ _ _ _ _ _ _ _ _ _ _ _ h ⟨hw, by omega⟩ (lv_sub hl [0, 1, 2, 3, 4, 5] rfl)
theorem txX0_lead {l : Launch} (hL : l.stackTraces = false) {G : gG} (hO : gOk G) {post : Int32 → NM → Prop} {MC MS : Nat} {N : NM} {x0 : Nat} {x1 : Int32} {x2 : Int32} {sz : Nat} (h : wX0_lead (gC G) post MC MS N x0 x1 x2) : cx_Met l yX0_lead (ws_ yX0_lead cX0_lead 6 (some .boolean)) ⟨10, MC, MS, 10322⟩ (va_Pc [.ref x0, .int x1, .int x2] (cPre G [] N sz)) (gQ vI post (fun u H => cBw G (cA [] N sz) (jW u).1 (jW u).2 H) (cA [] N sz)) (cXC G (cA [] N sz) [] (fun _ _ _ => False)) MC MS (cA [] N sz) := by
  refine c_ofX (B := fun A u H => cBw G A (jW u).1 (jW u).2 H) (by decide) hO (Nat.le_of_ble_eq_true rfl) (fun p e s m below meth c ls A X hr hlk hT hw hl => ?_)
  have hl : lv_has ls 6 [(0, .ref x0), (1, .int x1), (2, .int x2)] := hl
  have hx := X.1.1
  have hb := X.1.2.1
  have hml := X.1.2.2.1
  have hown := X.1.2.2.2.1
  have hts := X.1.2.2.2.2
  obtain ⟨H, eH⟩ : ∃ z, z = s.heap := ⟨_, rfl⟩
  rw [← eH] at hw ⊢
  obtain ⟨locs, eLo⟩ : ∃ z : List Loc, z = [] := ⟨_, rfl⟩
  rw [← eLo] at hw ⊢
  have hbud : 0 + MC ≤ MC ∧ 0 + MS ≤ MS := by omega
  unfold wX0_lead at h
  refine lv_aload_n (pc := 0) hx hb dX0_lead_0 rfl (lv_at hl 0 rfl) ?_
  refine lv_iload_n (pc := 1) hx hb dX0_lead_1 rfl (lv_at hl 1 rfl) ?_
  obtain ⟨f8, f9, f10, f11, f12, f13, f14, f15, f16, f17, f18, f19, f20, f21, f22, f23, f24, f25, f26, hN7, h⟩ := h
  obtain ⟨mc3, ms4, hm5, hm6, h⟩ := h
  refine c_callJ (pc := 2) (val := vQ) X hw (vx_runVW (C := RX0) (As := [.int x1]) (rest := []) X.1 (tX0_at hL X.2.2.1 (sz := H.size) h) (vx_cwVW 1 hts (lw_VW q898 q900 qs20 q102 q901) rfl rfl rfl ⟨rfl, by decide, by decide, (by decide +kernel : (parseMethodDescriptor yX0_at.desc).map (fun d => d.parameters.length) = some 1)⟩ ⟨Nat.le_of_ble_eq_true rfl, Nat.le_of_ble_eq_true rfl⟩) ⟨cPre_blind, c_recv X hw hN7 rfl, fun U hU hW => ⟨rfl, X.preJ hw hU hW⟩⟩ rfl rfl hl.1 rfl (lv_room (Nat.le_of_ble_eq_true rfl)) dX0_lead_2 ⟨show 0 + mc3 ≤ MC by omega, show 0 + ms4 ≤ MS by omega⟩) (fun r1 N2 H locs h hw => ?_)
  refine W.eq (g2 := F0 m 5 ls (va_rf r1 :: [])) rfl ?_
  refine lq_astore_n (pc := 5) (lv' := [(3, va_rf r1), (0, .ref x0), (1, .int x1), (2, .int x2)]) hx hb dX0_lead_5 rfl hl (by decide) rfl (fun ls hl => ?_)
  refine lq_aload_n (pc := 6) hx hb dX0_lead_6 rfl (lv_at hl 0 rfl) ?_
  refine lq_ifnull (pc := 7) (tgt := 26) hx hb dX0_lead_7 rfl (fun hz27 => ?_) (fun a28 hr29 => ?_)
  · have h := h.1 hz27
    refine lv_iconst (pc := 26) (v := (0 : Int32)) hx hb dX0_lead_26 (by decide) ?_
    refine W.widen (k := MC) (n := MS) (by omega) (by omega) ?_
    refine cx_ret ?_
    exact W.zret (pc := 27) hx hb hr rfl (fun t ht hW => c_ret (val := vI) (lw := jW) (u := N2) hw h ht) hw.2.2.2 dX0_lead_27 hlk
  · have h := h.2 a28 hr29
    refine lv_iload_n (pc := 10) hx hb dX0_lead_10 rfl (lv_at hl 3 rfl) ?_
    refine lv_i2l (pc := 11) hx hb dX0_lead_11 rfl ?_
    refine lv_lconst (pc := 12) (v := (0 : Int64)) hx hb dX0_lead_12 (by decide) ?_
    refine lq_aload_n (pc := 13) hx hb dX0_lead_13 rfl (lv_at hl 0 rfl) ?_
    refine W.eq (g2 := F0 m 14 ls [.ref a28, .long (0 : Int64), .long x2.toInt64]) (by rw [hr29]; rfl) ?_
    obtain ⟨f33, hN32, h⟩ := h
    refine c_callJ (pc := 14) (val := vI) X hw (va_runV (C := RX6) (As := []) (rest := [.long (0 : Int64), .long x2.toInt64]) X.1 (tX6_many X.2.2.1 (sz := H.size) h) (cwV 0 hts (lw_V q890 q891 q892 q129 q893) rfl rfl rfl ⟨rfl, by decide, by decide, (by decide +kernel : (parseMethodDescriptor yX6_many.desc).map (fun d => d.parameters.length) = some 0)⟩ ⟨Nat.le_of_ble_eq_true rfl, Nat.le_of_ble_eq_true rfl⟩) ⟨cPre_blind, c_recv X hw hN32 rfl, fun U hU hW => ⟨rfl, X.preJ hw hU hW⟩⟩ rfl rfl hl.1 rfl (lv_room (Nat.le_of_ble_eq_true rfl)) dX0_lead_14 ⟨show 0 + mc3 + 0 ≤ MC by omega, show 0 + ms4 + 0 ≤ MS by omega⟩) (fun r30 N31 H locs h hw => ?_)
    refine W.eq (g2 := F0 m 17 ls (.int r30 :: [.long (0 : Int64), .long x2.toInt64])) rfl ?_
    refine lv_iconst (pc := 17) (v := (1 : Int32)) hx hb dX0_lead_17 (by decide) ?_
    refine lv_isub (pc := 18) hx hb dX0_lead_18 ?_
    refine lv_i2l (pc := 19) hx hb dX0_lead_19 rfl ?_
    refine s_call (pc := 20) (val := vI) (As := [.long x2.toInt64, .long (0 : Int64), .long ((r30 - (1 : Int32)).toInt64)]) (rest := []) X.1 (tX0_isIn h) (lw_S q380 q381 q102 q382) ⟨by decide, by decide, (by decide +kernel : (parseMethodDescriptor yX0_isIn.desc).map (fun d => d.parameters.length) = some 3)⟩ ⟨Nat.le_of_ble_eq_true rfl, Nat.le_of_ble_eq_true rfl⟩ hl.1 (Nat.le_of_ble_eq_true rfl) ⟨show 0 + mc3 + 0 ≤ MC by omega, show 0 + ms4 + 0 ≤ MS by omega⟩ dX0_lead_20 rfl (fun r34 h => ?_)
    refine W.eq (g2 := F0 m 23 ls (.int r34 :: [])) rfl ?_
    refine lv_if_ne (pc := 23) (tgt := 28) hx hb dX0_lead_23 rfl (fun c35 => ?_) (fun c35 => ?_)
    · have h := h.2 c35
      refine lq_aload_n (pc := 28) hx hb dX0_lead_28 rfl (lv_at hl 0 rfl) ?_
      refine W.eq (g2 := F0 m 29 ls [.ref a28]) (by rw [hr29]; rfl) ?_
      obtain ⟨f39, hN38, h⟩ := h
      refine c_callJ (pc := 29) (val := vI) X hw (va_runV (C := RX6) (As := []) (rest := []) X.1 (tX6_many X.2.2.1 (sz := H.size) h) (cwV 0 hts (lw_V q890 q891 q892 q129 q893) rfl rfl rfl ⟨rfl, by decide, by decide, (by decide +kernel : (parseMethodDescriptor yX6_many.desc).map (fun d => d.parameters.length) = some 0)⟩ ⟨Nat.le_of_ble_eq_true rfl, Nat.le_of_ble_eq_true rfl⟩) ⟨cPre_blind, c_recv X hw hN38 rfl, fun U hU hW => ⟨rfl, X.preJ hw hU hW⟩⟩ rfl rfl hl.1 rfl (lv_room (Nat.le_of_ble_eq_true rfl)) dX0_lead_29 ⟨show 0 + mc3 + 0 + 0 ≤ MC by omega, show 0 + ms4 + 0 + 0 ≤ MS by omega⟩) (fun r36 N37 H locs h hw => ?_)
      refine W.eq (g2 := F0 m 32 ls (.int r36 :: [])) rfl ?_
      obtain ⟨hm40, hm41, hm42, hm43, h⟩ := h
      refine c_newq (pc := 32) X hw q1764 q865 5 rfl hm40 rfl (Nat.le_trans (Nat.mul_le_mul_right _ hm41) (Nat.le_of_ble_eq_true rfl)) (show 0 + mc3 + 0 + 0 + 1 ≤ MC by omega) (show 0 + ms4 + 0 + 0 + r36.toNatClampNeg ≤ MS by omega) dX0_lead_32 (fun nq44 H hq45 _ hw => ?_)
      have h := h nq44 hq45
      obtain ⟨N46, e47⟩ : ∃ z, z = va_up N37 nq44 (some (eR 5 r36.toNatClampNeg (fun _ => (none : Option Nat)))) := ⟨_, rfl⟩
      have hw : cH G A s [] N46 H locs := by rw [e47]; exact hw
      have h := h N46 e47
      have hN48 : N46 nq44 = some (eR 5 r36.toNatClampNeg (fun _ => (none : Option Nat))) := by rw [e47]; exact up_s
      refine lv_astore (pc := 35) (i := 4) (lv' := [(4, .ref nq44), (3, va_rf r1), (0, .ref x0), (1, .int x1), (2, .int x2)]) hx hb dX0_lead_35 hl (by decide) (by simp [rf_c]) (fun ls hl => ?_)
      refine lv_aload (pc := 37) hx hb dX0_lead_37 (lv_at hl 0 rfl) ?_
      refine lv_iconst (pc := 39) (v := (0 : Int32)) hx hb dX0_lead_39 (by decide) ?_
      refine lq_aload_n (pc := 40) hx hb dX0_lead_40 rfl (lv_at hl 1 rfl) ?_
      refine W.eq (g2 := F0 m 41 ls [.ref a28, .int (0 : Int32), .ref nq44]) (by rw [hr29]; rfl) ?_
      obtain ⟨f50, hN49, h⟩ := h
      refine c_getN (pc := 41) X hw hN49 in_X6 rfl 0 (by decide) q885 rfl rfl dX0_lead_41 ?_
      refine lv_iload_n (pc := 44) hx hb dX0_lead_44 rfl (lv_at hl 4 rfl) ?_
      obtain ⟨a51, hr52, h⟩ := h
      refine W.eq (g2 := F0 m 45 ls [.int x2, .ref a51, .int (0 : Int32), .ref nq44]) (by rw [hr52]; rfl) ?_
      obtain ⟨n54, f55, hN53, h⟩ := h
      obtain ⟨hi, h⟩ := h
      refine c_aald (pc := 45) X hw 5 hN53 rfl hi dX0_lead_45 ?_
      obtain ⟨hi, h⟩ := h
      obtain ⟨a56, hr57, h⟩ := h
      refine W.eq (g2 := F0 m 46 ls [.ref a56, .int (0 : Int32), .ref nq44]) (by rw [hr57]; rfl) ?_
      obtain ⟨f59, f60, f61, f62, hN58, h⟩ := h
      refine c_aast (pc := 46) X hw 5 hN48 rfl (c_anyS X hw hN58 rfl) hi dX0_lead_46 (fun H locs hw => ?_)
      obtain ⟨N63, e64⟩ : ∃ z, z = va_up N46 nq44 (some (eR 5 r36.toNatClampNeg (va_up (fun _ => (none : Option Nat)) (0 : Int32).toNatClampNeg (some a56)))) := ⟨_, rfl⟩
      have hw : cH G A s [] N63 H locs := by rw [e64]; exact hw
      have h := h N63 e64
      have hN65 : N63 nq44 = some (eR 5 r36.toNatClampNeg (va_up (fun _ => (none : Option Nat)) (0 : Int32).toNatClampNeg (some a56))) := by rw [e64]; exact up_s
      have hN66 := up_k (x := some (eR 5 r36.toNatClampNeg (va_up (fun _ => (none : Option Nat)) (0 : Int32).toNatClampNeg (some a56)))) hN48 hN49 (show (11 : Nat) ≠ 14 by decide)
      rw [← e64] at hN66
      have hN67 := up_k (x := some (eR 5 r36.toNatClampNeg (va_up (fun _ => (none : Option Nat)) (0 : Int32).toNatClampNeg (some a56)))) hN48 hN58 (show (11 : Nat) ≠ 12 by decide)
      rw [← e64] at hN67
      refine lv_iconst (pc := 47) (v := (0 : Int32)) hx hb dX0_lead_47 (by decide) ?_
      refine lv_istore (pc := 48) (lv' := [(5, .int (0 : Int32)), (4, .ref nq44), (3, va_rf r1), (0, .ref x0), (1, .int x1), (2, .int x2)]) hx hb dX0_lead_48 hl (by decide) rfl (fun ls hl => ?_)
      obtain ⟨k, h⟩ := h
      exact kX0_lead_50 X hr hlk hL hT  k _ _ _ _ _ _ _ _ _ _ _ _ _ _ h ⟨hw, by omega⟩ (lv_sub hl [3, 4, 5, 2, 1, 0] rfl)
    · have h := h.1 c35
      refine lv_iconst (pc := 26) (v := (0 : Int32)) hx hb dX0_lead_26 (by decide) ?_
      refine W.widen (k := MC) (n := MS) (by omega) (by omega) ?_
      refine cx_ret ?_
      exact W.zret (pc := 27) hx hb hr rfl (fun t ht hW => c_ret (val := vI) (lw := jW) (u := N31) hw h ht) hw.2.2.2 dX0_lead_27 hlk
theorem tX0_lead {l : Launch} (hL : l.stackTraces = false) {G : gG} (hO : gOk G) {post : Int32 → NM → Prop} {MC MS : Nat} {N : NM} {x0 : Nat} {x1 : Int32} {x2 : Int32} {sz : Nat} (h : wX0_lead (gC G) post MC MS N x0 x1 x2) : Met l yX0_lead (ws_ yX0_lead cX0_lead 6 (some .boolean)) ⟨10, MC, MS, 10322⟩ (va_Pc [.ref x0, .int x1, .int x2] (cPre G [] N sz)) (gQ vI post (fun u H => cBw G (cA [] N sz) (jW u).1 (jW u).2 H) (cA [] N sz)) MC MS (cA [] N sz) := cx_toMet (txX0_lead hL hO h)
