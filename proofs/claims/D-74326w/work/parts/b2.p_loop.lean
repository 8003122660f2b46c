set_option maxRecDepth 100000
set_option maxHeartbeats 4000000
/-- the law's end -/
theorem lw_end {p : Program} {l : Launch} {e : Env} {m : MethodId} {below : List Frame} {meth : Method} {c : Code} {H : Heap} {locs : List Loc} {cells slots : Nat} {ls : Array Slot} {G : gG} {h0 : Nat} {ad : Nat → Nat} {b L : Nat} {xs : Nat → Int32} (C : LCx G h0 ad p m meth c b L xs) (hS : va_S (gAz G) (g0 G).heap H locs) (hc : cells ≤ 603072) (hs : slots ≤ 7186538) : W p l e room_1 (g0 G) m #[Value.ref b] below meth c H locs cells slots (lw_Z below #[Value.ref b] (g0 G)) (F0 m 1621 ls []) := by
  have hx := C.1.1.1
  have hb := C.1.1.2.1
  refine lv_iconst (pc := 1621) (v := 1) hx hb dL_law_1621 (by decide) ?_
  refine va_forget (fun q hq => hS.2.2 q hq) ?_
  refine W.widen (k := 603072) (n := 7186538) hc hs ?_
  exact lw_ret hx hb C.2.2.2.2.2.1 C.2.2.2.2.2.2 dL_law_1622
theorem sw_out34 {x : Int32} (c0 : ¬ x = (0 : Int32)) (c1 : ¬ x = (1 : Int32)) (c2 : ¬ x = (2 : Int32)) (c3 : ¬ x = (3 : Int32)) (c4 : ¬ x = (4 : Int32)) (c5 : ¬ x = (5 : Int32)) (c6 : ¬ x = (6 : Int32)) (c7 : ¬ x = (7 : Int32)) (c8 : ¬ x = (8 : Int32)) (c9 : ¬ x = (9 : Int32)) (c10 : ¬ x = (10 : Int32)) (c11 : ¬ x = (11 : Int32)) (c12 : ¬ x = (12 : Int32)) (c13 : ¬ x = (13 : Int32)) (c14 : ¬ x = (14 : Int32)) (c15 : ¬ x = (15 : Int32)) (c16 : ¬ x = (16 : Int32)) (c17 : ¬ x = (17 : Int32)) (c18 : ¬ x = (18 : Int32)) (c19 : ¬ x = (19 : Int32)) (c20 : ¬ x = (20 : Int32)) (c21 : ¬ x = (21 : Int32)) (c22 : ¬ x = (22 : Int32)) (c23 : ¬ x = (23 : Int32)) (c24 : ¬ x = (24 : Int32)) (c25 : ¬ x = (25 : Int32)) (c26 : ¬ x = (26 : Int32)) (c27 : ¬ x = (27 : Int32)) (c28 : ¬ x = (28 : Int32)) (c29 : ¬ x = (29 : Int32)) (c30 : ¬ x = (30 : Int32)) (c31 : ¬ x = (31 : Int32)) (c32 : ¬ x = (32 : Int32)) (c33 : ¬ x = (33 : Int32)) : x.toInt < 0 ∨ 33 < x.toInt := by
  have h0 : x.toInt ≠ 0 := fun z => c0 (Int32.toInt_inj.mp (z.trans (by decide)))
  have h1 : x.toInt ≠ 1 := fun z => c1 (Int32.toInt_inj.mp (z.trans (by decide)))
  have h2 : x.toInt ≠ 2 := fun z => c2 (Int32.toInt_inj.mp (z.trans (by decide)))
  have h3 : x.toInt ≠ 3 := fun z => c3 (Int32.toInt_inj.mp (z.trans (by decide)))
  have h4 : x.toInt ≠ 4 := fun z => c4 (Int32.toInt_inj.mp (z.trans (by decide)))
  have h5 : x.toInt ≠ 5 := fun z => c5 (Int32.toInt_inj.mp (z.trans (by decide)))
  have h6 : x.toInt ≠ 6 := fun z => c6 (Int32.toInt_inj.mp (z.trans (by decide)))
  have h7 : x.toInt ≠ 7 := fun z => c7 (Int32.toInt_inj.mp (z.trans (by decide)))
  have h8 : x.toInt ≠ 8 := fun z => c8 (Int32.toInt_inj.mp (z.trans (by decide)))
  have h9 : x.toInt ≠ 9 := fun z => c9 (Int32.toInt_inj.mp (z.trans (by decide)))
  have h10 : x.toInt ≠ 10 := fun z => c10 (Int32.toInt_inj.mp (z.trans (by decide)))
  have h11 : x.toInt ≠ 11 := fun z => c11 (Int32.toInt_inj.mp (z.trans (by decide)))
  have h12 : x.toInt ≠ 12 := fun z => c12 (Int32.toInt_inj.mp (z.trans (by decide)))
  have h13 : x.toInt ≠ 13 := fun z => c13 (Int32.toInt_inj.mp (z.trans (by decide)))
  have h14 : x.toInt ≠ 14 := fun z => c14 (Int32.toInt_inj.mp (z.trans (by decide)))
  have h15 : x.toInt ≠ 15 := fun z => c15 (Int32.toInt_inj.mp (z.trans (by decide)))
  have h16 : x.toInt ≠ 16 := fun z => c16 (Int32.toInt_inj.mp (z.trans (by decide)))
  have h17 : x.toInt ≠ 17 := fun z => c17 (Int32.toInt_inj.mp (z.trans (by decide)))
  have h18 : x.toInt ≠ 18 := fun z => c18 (Int32.toInt_inj.mp (z.trans (by decide)))
  have h19 : x.toInt ≠ 19 := fun z => c19 (Int32.toInt_inj.mp (z.trans (by decide)))
  have h20 : x.toInt ≠ 20 := fun z => c20 (Int32.toInt_inj.mp (z.trans (by decide)))
  have h21 : x.toInt ≠ 21 := fun z => c21 (Int32.toInt_inj.mp (z.trans (by decide)))
  have h22 : x.toInt ≠ 22 := fun z => c22 (Int32.toInt_inj.mp (z.trans (by decide)))
  have h23 : x.toInt ≠ 23 := fun z => c23 (Int32.toInt_inj.mp (z.trans (by decide)))
  have h24 : x.toInt ≠ 24 := fun z => c24 (Int32.toInt_inj.mp (z.trans (by decide)))
  have h25 : x.toInt ≠ 25 := fun z => c25 (Int32.toInt_inj.mp (z.trans (by decide)))
  have h26 : x.toInt ≠ 26 := fun z => c26 (Int32.toInt_inj.mp (z.trans (by decide)))
  have h27 : x.toInt ≠ 27 := fun z => c27 (Int32.toInt_inj.mp (z.trans (by decide)))
  have h28 : x.toInt ≠ 28 := fun z => c28 (Int32.toInt_inj.mp (z.trans (by decide)))
  have h29 : x.toInt ≠ 29 := fun z => c29 (Int32.toInt_inj.mp (z.trans (by decide)))
  have h30 : x.toInt ≠ 30 := fun z => c30 (Int32.toInt_inj.mp (z.trans (by decide)))
  have h31 : x.toInt ≠ 31 := fun z => c31 (Int32.toInt_inj.mp (z.trans (by decide)))
  have h32 : x.toInt ≠ 32 := fun z => c32 (Int32.toInt_inj.mp (z.trans (by decide)))
  have h33 : x.toInt ≠ 33 := fun z => c33 (Int32.toInt_inj.mp (z.trans (by decide)))
  omega
theorem lw_switch {p : Program} {l : Launch} {e : Env} {m : MethodId} {below : List Frame} {meth : Method} {c : Code} {H : Heap} {locs : List Loc} {cells slots : Nat} {ls : Array Slot} {G : gG} {a : Nat → Nat} {h0 : Nat} {ad : Nat → Nat} {b L : Nat} {xs : Nat → Int32} {i : Int32} {x : Int32} (hf : l.stackTraces = false) (C : LCx G h0 ad p m meth c b L xs) (hI : LIn G a h0 ad H locs) (hl : lv_has ls 4 [(0, .ref b), (1, .ref (a 0)), (2, .ref h0), (3, .int i)]) (hi : ∀ j : Int32, 0 ≤ j → j ≤ 7 → vp_in (i + j) L) (hc : cells + 9000 ≤ 603072) (hs : slots + 100000 ≤ 7186538) (kk : ∀ (H1 : Heap) (locs1 : List Loc), LIn G a h0 ad H1 locs1 → W p l e room_1 (g0 G) m #[Value.ref b] below meth c H1 locs1 (cells + 9000) (slots + 100000) (lw_Z below #[Value.ref b] (g0 G)) (F0 m 1615 ls [])) : W p l e room_1 (g0 G) m #[Value.ref b] below meth c H locs cells slots (lw_Z below #[Value.ref b] (g0 G)) (F0 m 33 ls [.int x]) := by
  have hx := C.1.1.1
  have hb := C.1.1.2.1
  by_cases c0 : x = (0 : Int32)
  · refine lv_tableIn (pc := 33) (tgt := 184) hx hb dL_law_33 (by rw [c0]; decide) (by rw [c0]; decide) (by rw [c0]; rfl) rfl ?_
    exact lw_c0 hf C hI hl hi hc hs kk
  by_cases c1 : x = (1 : Int32)
  · refine lv_tableIn (pc := 33) (tgt := 247) hx hb dL_law_33 (by rw [c1]; decide) (by rw [c1]; decide) (by rw [c1]; rfl) rfl ?_
    exact lw_c1 hf C hI hl hi hc hs kk
  by_cases c2 : x = (2 : Int32)
  · refine lv_tableIn (pc := 33) (tgt := 270) hx hb dL_law_33 (by rw [c2]; decide) (by rw [c2]; decide) (by rw [c2]; rfl) rfl ?_
    exact lw_c2 hf C hI hl hi hc hs kk
  by_cases c3 : x = (3 : Int32)
  · refine lv_tableIn (pc := 33) (tgt := 293) hx hb dL_law_33 (by rw [c3]; decide) (by rw [c3]; decide) (by rw [c3]; rfl) rfl ?_
    exact lw_c3 hf C hI hl hi hc hs kk
  by_cases c4 : x = (4 : Int32)
  · refine lv_tableIn (pc := 33) (tgt := 316) hx hb dL_law_33 (by rw [c4]; decide) (by rw [c4]; decide) (by rw [c4]; rfl) rfl ?_
    exact lw_c4 hf C hI hl hi hc hs kk
  by_cases c5 : x = (5 : Int32)
  · refine lv_tableIn (pc := 33) (tgt := 329) hx hb dL_law_33 (by rw [c5]; decide) (by rw [c5]; decide) (by rw [c5]; rfl) rfl ?_
    exact lw_c5 hf C hI hl hi hc hs kk
  by_cases c6 : x = (6 : Int32)
  · refine lv_tableIn (pc := 33) (tgt := 352) hx hb dL_law_33 (by rw [c6]; decide) (by rw [c6]; decide) (by rw [c6]; rfl) rfl ?_
    exact lw_c6 hf C hI hl hi hc hs kk
  by_cases c7 : x = (7 : Int32)
  · refine lv_tableIn (pc := 33) (tgt := 395) hx hb dL_law_33 (by rw [c7]; decide) (by rw [c7]; decide) (by rw [c7]; rfl) rfl ?_
    exact lw_c7 hf C hI hl hi hc hs kk
  by_cases c8 : x = (8 : Int32)
  · refine lv_tableIn (pc := 33) (tgt := 429) hx hb dL_law_33 (by rw [c8]; decide) (by rw [c8]; decide) (by rw [c8]; rfl) rfl ?_
    exact lw_c8 hf C hI hl hi hc hs kk
  by_cases c9 : x = (9 : Int32)
  · refine lv_tableIn (pc := 33) (tgt := 463) hx hb dL_law_33 (by rw [c9]; decide) (by rw [c9]; decide) (by rw [c9]; rfl) rfl ?_
    exact lw_c9 hf C hI hl hi hc hs kk
  by_cases c10 : x = (10 : Int32)
  · refine lv_tableIn (pc := 33) (tgt := 546) hx hb dL_law_33 (by rw [c10]; decide) (by rw [c10]; decide) (by rw [c10]; rfl) rfl ?_
    exact lw_c10 hf C hI hl hi hc hs kk
  by_cases c11 : x = (11 : Int32)
  · refine lv_tableIn (pc := 33) (tgt := 634) hx hb dL_law_33 (by rw [c11]; decide) (by rw [c11]; decide) (by rw [c11]; rfl) rfl ?_
    exact lw_c11 hf C hI hl hi hc hs kk
  by_cases c12 : x = (12 : Int32)
  · refine lv_tableIn (pc := 33) (tgt := 687) hx hb dL_law_33 (by rw [c12]; decide) (by rw [c12]; decide) (by rw [c12]; rfl) rfl ?_
    exact lw_c12 hf C hI hl hi hc hs kk
  by_cases c13 : x = (13 : Int32)
  · refine lv_tableIn (pc := 33) (tgt := 740) hx hb dL_law_33 (by rw [c13]; decide) (by rw [c13]; decide) (by rw [c13]; rfl) rfl ?_
    exact lw_c13 hf C hI hl hi hc hs kk
  by_cases c14 : x = (14 : Int32)
  · refine lv_tableIn (pc := 33) (tgt := 763) hx hb dL_law_33 (by rw [c14]; decide) (by rw [c14]; decide) (by rw [c14]; rfl) rfl ?_
    exact lw_c14 hf C hI hl hi hc hs kk
  by_cases c15 : x = (15 : Int32)
  · refine lv_tableIn (pc := 33) (tgt := 807) hx hb dL_law_33 (by rw [c15]; decide) (by rw [c15]; decide) (by rw [c15]; rfl) rfl ?_
    exact lw_c15 hf C hI hl hi hc hs kk
  by_cases c16 : x = (16 : Int32)
  · refine lv_tableIn (pc := 33) (tgt := 860) hx hb dL_law_33 (by rw [c16]; decide) (by rw [c16]; decide) (by rw [c16]; rfl) rfl ?_
    exact lw_c16 hf C hI hl hi hc hs kk
  by_cases c17 : x = (17 : Int32)
  · refine lv_tableIn (pc := 33) (tgt := 903) hx hb dL_law_33 (by rw [c17]; decide) (by rw [c17]; decide) (by rw [c17]; rfl) rfl ?_
    exact lw_c17 hf C hI hl hi hc hs kk
  by_cases c18 : x = (18 : Int32)
  · refine lv_tableIn (pc := 33) (tgt := 926) hx hb dL_law_33 (by rw [c18]; decide) (by rw [c18]; decide) (by rw [c18]; rfl) rfl ?_
    exact lw_c18 hf C hI hl hi hc hs kk
  by_cases c19 : x = (19 : Int32)
  · refine lv_tableIn (pc := 33) (tgt := 995) hx hb dL_law_33 (by rw [c19]; decide) (by rw [c19]; decide) (by rw [c19]; rfl) rfl ?_
    exact lw_c19 hf C hI hl hi hc hs kk
  by_cases c20 : x = (20 : Int32)
  · refine lv_tableIn (pc := 33) (tgt := 1038) hx hb dL_law_33 (by rw [c20]; decide) (by rw [c20]; decide) (by rw [c20]; rfl) rfl ?_
    exact lw_c20 hf C hI hl hi hc hs kk
  by_cases c21 : x = (21 : Int32)
  · refine lv_tableIn (pc := 33) (tgt := 1071) hx hb dL_law_33 (by rw [c21]; decide) (by rw [c21]; decide) (by rw [c21]; rfl) rfl ?_
    exact lw_c21 hf C hI hl hi hc hs kk
  by_cases c22 : x = (22 : Int32)
  · refine lv_tableIn (pc := 33) (tgt := 1104) hx hb dL_law_33 (by rw [c22]; decide) (by rw [c22]; decide) (by rw [c22]; rfl) rfl ?_
    exact lw_c22 hf C hI hl hi hc hs kk
  by_cases c23 : x = (23 : Int32)
  · refine lv_tableIn (pc := 33) (tgt := 1147) hx hb dL_law_33 (by rw [c23]; decide) (by rw [c23]; decide) (by rw [c23]; rfl) rfl ?_
    exact lw_c23 hf C hI hl hi hc hs kk
  by_cases c24 : x = (24 : Int32)
  · refine lv_tableIn (pc := 33) (tgt := 1180) hx hb dL_law_33 (by rw [c24]; decide) (by rw [c24]; decide) (by rw [c24]; rfl) rfl ?_
    exact lw_c24 hf C hI hl hi hc hs kk
  by_cases c25 : x = (25 : Int32)
  · refine lv_tableIn (pc := 33) (tgt := 1213) hx hb dL_law_33 (by rw [c25]; decide) (by rw [c25]; decide) (by rw [c25]; rfl) rfl ?_
    exact lw_c25 hf C hI hl hi hc hs kk
  by_cases c26 : x = (26 : Int32)
  · refine lv_tableIn (pc := 33) (tgt := 1276) hx hb dL_law_33 (by rw [c26]; decide) (by rw [c26]; decide) (by rw [c26]; rfl) rfl ?_
    exact lw_c26 hf C hI hl hi hc hs kk
  by_cases c27 : x = (27 : Int32)
  · refine lv_tableIn (pc := 33) (tgt := 1309) hx hb dL_law_33 (by rw [c27]; decide) (by rw [c27]; decide) (by rw [c27]; rfl) rfl ?_
    exact lw_c27 hf C hI hl hi hc hs kk
  by_cases c28 : x = (28 : Int32)
  · refine lv_tableIn (pc := 33) (tgt := 1397) hx hb dL_law_33 (by rw [c28]; decide) (by rw [c28]; decide) (by rw [c28]; rfl) rfl ?_
    exact lw_c28 hf C hI hl hi hc hs kk
  by_cases c29 : x = (29 : Int32)
  · refine lv_tableIn (pc := 33) (tgt := 1420) hx hb dL_law_33 (by rw [c29]; decide) (by rw [c29]; decide) (by rw [c29]; rfl) rfl ?_
    exact lw_c29 hf C hI hl hi hc hs kk
  by_cases c30 : x = (30 : Int32)
  · refine lv_tableIn (pc := 33) (tgt := 1463) hx hb dL_law_33 (by rw [c30]; decide) (by rw [c30]; decide) (by rw [c30]; rfl) rfl ?_
    exact lw_c30 hf C hI hl hi hc hs kk
  by_cases c31 : x = (31 : Int32)
  · refine lv_tableIn (pc := 33) (tgt := 1486) hx hb dL_law_33 (by rw [c31]; decide) (by rw [c31]; decide) (by rw [c31]; rfl) rfl ?_
    exact lw_c31 hf C hI hl hi hc hs kk
  by_cases c32 : x = (32 : Int32)
  · refine lv_tableIn (pc := 33) (tgt := 1539) hx hb dL_law_33 (by rw [c32]; decide) (by rw [c32]; decide) (by rw [c32]; rfl) rfl ?_
    exact lw_c32 hf C hI hl hi hc hs kk
  by_cases c33 : x = (33 : Int32)
  · refine lv_tableIn (pc := 33) (tgt := 1592) hx hb dL_law_33 (by rw [c33]; decide) (by rw [c33]; decide) (by rw [c33]; rfl) rfl ?_
    exact lw_c33 hf C hI hl hi hc hs kk
  refine lv_tableOut (pc := 33) (tgt := 1615) hx hb dL_law_33 (sw_out34 c0 c1 c2 c3 c4 c5 c6 c7 c8 c9 c10 c11 c12 c13 c14 c15 c16 c17 c18 c19 c20 c21 c22 c23 c24 c25 c26 c27 c28 c29 c30 c31 c32 c33) rfl ?_
  refine W.widen (k := cells + 9000) (n := slots + 100000) (by omega) (by omega) ?_
  exact kk _ _ hI
/-- the law's loop: at its head, both objects stand for one state -/
theorem lw_loop {p : Program} {l : Launch} {e : Env} {m : MethodId} {below : List Frame} {meth : Method} {c : Code} {G : gG} {a : Nat → Nat} {h0 : Nat} {ad : Nat → Nat} {b L : Nat} {xs : Nat → Int32} (hf : l.stackTraces = false) (C : LCx G h0 ad p m meth c b L xs) (hL : L ≤ 512) : ∀ (n k : Nat) (H : Heap) (locs : List Loc) (cells slots : Nat) (ls : Array Slot), L < 8 * (k + n) → 8 * k ≤ 520 → cells + 9000 * n ≤ 603072 → slots + 100000 * n ≤ 7186538 → LIn G a h0 ad H locs → lv_has ls 4 [(0, .ref b), (1, .ref (a 0)), (2, .ref h0), (3, .int (iI (8 * k : Nat)))] → W p l e room_1 (g0 G) m #[Value.ref b] below meth c H locs cells slots (lw_Z below #[Value.ref b] (g0 G)) (F0 m 18 ls []) := by
  have hx := C.1.1.1
  have hb := C.1.1.2.1
  have hbA : ¬ gAz G b := Nat.not_le.mpr C.2.2.2.2.1
  intro n
  induction n with
  | zero =>
    intro k H locs cells slots ls h1 h2 h3 h4 hI hl
    have hS := hI
    obtain ⟨σ, S, S0, N, ch, hw, -⟩ := hS
    refine lv_iload_n (pc := 18) hx hb dL_law_18 rfl (lv_at hl 3 rfl) ?_
    refine lv_aload_n (pc := 19) hx hb dL_law_19 rfl (lv_at hl 0 rfl) ?_
    refine va_slen (pc := 20) hx hb C.2.2.2.1 C.2.2.2.2.1 hbA hw.2 dL_law_20 ?_
    refine lv_bipush (pc := 21) (v := 8) hx hb dL_law_21 (by decide) ?_
    refine lv_isub (pc := 23) hx hb dL_law_23 ?_
    refine lv_icmp_gt (pc := 24) (tgt := 1621) hx hb dL_law_24 rfl (fun _ => ?_) (fun c => absurd (show iI (L : Int) - 8 < iI (8 * k : Nat) from ?_) c)
    · exact lw_end C hw.2 (by omega) (by omega)
    · rw [show (8 : Int32) = iI 8 from rfl, iI_sub, iI_lt (by omega) (by omega) (by omega) (by omega)]
      omega
  | succ n ih =>
    intro k H locs cells slots ls h1 h2 h3 h4 hI hl
    have hS := hI
    obtain ⟨σ, S, S0, N, ch, hw, -⟩ := hS
    refine lv_iload_n (pc := 18) hx hb dL_law_18 rfl (lv_at hl 3 rfl) ?_
    refine lv_aload_n (pc := 19) hx hb dL_law_19 rfl (lv_at hl 0 rfl) ?_
    refine va_slen (pc := 20) hx hb C.2.2.2.1 C.2.2.2.2.1 hbA hw.2 dL_law_20 ?_
    refine lv_bipush (pc := 21) (v := 8) hx hb dL_law_21 (by decide) ?_
    refine lv_isub (pc := 23) hx hb dL_law_23 ?_
    refine lv_icmp_gt (pc := 24) (tgt := 1621) hx hb dL_law_24 rfl (fun _ => lw_end C hw.2 (by omega) (by omega)) (fun c => ?_)
    have c : ¬ (iI (L : Int) - iI 8 < iI (8 * k : Nat)) := c
    rw [iI_sub, iI_lt (by omega) (by omega) (by omega) (by omega)] at c
    have hi : ∀ j : Int32, 0 ≤ j → j ≤ 7 → vp_in (iI (8 * k : Nat) + j) L := fun j j0 j7 => by
      obtain ⟨z, rfl, z1, z2⟩ := i32_ex j
      rw [show (0 : Int32) = iI 0 from rfl, iI_le (by omega) (by omega) (by omega) (by omega)] at j0
      rw [show (7 : Int32) = iI 7 from rfl, iI_le (by omega) (by omega) (by omega) (by omega)] at j7
      rw [iI_add]
      exact iI_in (by omega) (by omega) (by omega)
    refine lv_aload_n (pc := 27) hx hb dL_law_27 rfl (lv_at hl 0 rfl) ?_
    refine lv_iload_n (pc := 28) hx hb dL_law_28 rfl (lv_at hl 3 rfl) ?_
    refine va_sld (pc := 29) hx hb C.2.2.2.1 C.2.2.2.2.1 hbA hw.2 (iI_in (by omega) (by omega) (by omega)) dL_law_29 ?_
    refine lv_bipush (pc := 30) (v := 63) hx hb dL_law_30 (by decide) ?_
    refine lv_iand (pc := 32) hx hb dL_law_32 ?_
    have hc1 : cells + 9000 ≤ 603072 := Nat.le_trans (Nat.add_le_add_left (Nat.le_mul_of_pos_right 9000 (Nat.succ_pos n)) cells) h3
    have hs1 : slots + 100000 ≤ 7186538 := Nat.le_trans (Nat.add_le_add_left (Nat.le_mul_of_pos_right 100000 (Nat.succ_pos n)) slots) h4
    refine lw_switch hf C hI hl hi hc1 hs1 (fun H1 locs1 hI1 => ?_)
    refine lv_iinc (pc := 1615) (v := iI (8 * (k + 1) : Nat)) (lv' := [(3, .int (iI (8 * (k + 1) : Nat))), (0, .ref b), (1, .ref (a 0)), (2, .ref h0)]) hx hb dL_law_1615 hl (k := 3) rfl (by
      rw [show Int32.ofInt 8 = iI 8 from rfl, iI_add]
      exact congrArg iI (by omega)) (by decide) rfl (fun ls hl => ?_)
    refine lv_goto (pc := 1618) (tgt := 18) hx hb dL_law_1618 rfl ?_
    exact ih (k + 1) H1 locs1 _ _ ls (by omega) (by omega) (by rw [Nat.add_assoc, Nat.add_comm 9000, ← Nat.mul_succ]; exact h3) (by rw [Nat.add_assoc, Nat.add_comm 100000, ← Nat.mul_succ]; exact h4) hI1 (lv_sub hl [1, 2, 3, 0] rfl)
