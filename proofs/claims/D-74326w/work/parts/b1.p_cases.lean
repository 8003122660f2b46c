set_option maxRecDepth 100000
set_option maxHeartbeats 4000000
theorem lw_c0 {p : Program} {l : Launch} {e : Env} {m : MethodId} {below : List Frame} {meth : Method} {c : Code} {H : Heap} {locs : List Loc} {cells slots : Nat} {ls : Array Slot} {G : gG} {a : Nat → Nat} {h0 : Nat} {ad : Nat → Nat} {b L : Nat} {xs : Nat → Int32} {i : Int32} (hf : l.stackTraces = false) (C : LCx G h0 ad p m meth c b L xs) (hI : LIn G a h0 ad H locs) (hl : lv_has ls 4 [(0, .ref b), (1, .ref (a 0)), (2, .ref h0), (3, .int i)]) (hi : ∀ j : Int32, 0 ≤ j → j ≤ 7 → vp_in (i + j) L) (hc : cells + 9000 ≤ 603072) (hs : slots + 100000 ≤ 7186538) (kk : ∀ (H1 : Heap) (locs1 : List Loc), LIn G a h0 ad H1 locs1 → W p l e room_1 (g0 G) m #[Value.ref b] below meth c H1 locs1 (cells + 9000) (slots + 100000) (lw_Z below #[Value.ref b] (g0 G)) (F0 m 1615 ls [])) : W p l e room_1 (g0 G) m #[Value.ref b] below meth c H locs cells slots (lw_Z below #[Value.ref b] (g0 G)) (F0 m 184 ls []) := by
  obtain ⟨σ, S, S0, N, ch, hw, m0, c0, hM⟩ := hI
  have hx := C.1.1.1
  have hb := C.1.1.2.1
  obtain ⟨v, σ', hC, hD⟩ := p_feed (MC := 9000) (MS := 100000) C.2.2.1 m0 c0 (Nat.le_refl _) (Nat.le_refl _) (xs (i + 1).toNatClampNeg) (xs (i + 2).toNatClampNeg) (xs (i + 3).toNatClampNeg) (xs (i + 4).toNatClampNeg) (xs (i + 5).toNatClampNeg)
  refine lv_aload_n (pc := 184) hx hb dL_law_184 rfl (lv_at hl 1 rfl) ?_
  refine lw_ld (pc := 185) (j := 1) C hw.2 hl (hi 1 (by decide) (by decide)) dL_law_185 dL_law_186 dL_law_187 (by decide) dL_law_188 dL_law_189 ?_
  refine lw_ld (pc := 190) (j := 2) C hw.2 hl (hi 2 (by decide) (by decide)) dL_law_190 dL_law_191 dL_law_192 (by decide) dL_law_193 dL_law_194 ?_
  refine lw_ld (pc := 195) (j := 3) C hw.2 hl (hi 3 (by decide) (by decide)) dL_law_195 dL_law_196 dL_law_197 (by decide) dL_law_198 dL_law_199 ?_
  refine lw_ld (pc := 200) (j := 4) C hw.2 hl (hi 4 (by decide) (by decide)) dL_law_200 dL_law_201 dL_law_202 (by decide) dL_law_203 dL_law_204 ?_
  refine lw_ld (pc := 205) (j := 5) C hw.2 hl (hi 5 (by decide) (by decide)) dL_law_205 dL_law_206 dL_law_207 (by decide) dL_law_208 dL_law_209 ?_
  refine lw_comp (pc := 210) (val := vI) (v := v) (PN := cRs (gC G) a σ' ch) (ch := ch) (mc := 9000) (ms := 100000) (rest := []) C.1 hw hM ⟨show cells ≤ 603072 by omega, show slots ≤ 7186538 by omega⟩ (fun s X hw => by
    have hts := X.1.2.2.2.2
    exact vx_runVW (C := RX0) (As := [.int (xs (i + 1).toNatClampNeg), .int (xs (i + 2).toNatClampNeg), .int (xs (i + 3).toNatClampNeg), .int (xs (i + 4).toNatClampNeg), .int (xs (i + 5).toNatClampNeg)]) (rest := []) X.1 (tX0_feed hf X.2.2.1 (sz := H.size) hC) (vx_cwVW 5 hts (lw_VW q278 q279 q280 q102 q281) rfl rfl rfl ⟨rfl, by decide, by decide, (by decide +kernel : (parseMethodDescriptor yX0_feed.desc).map (fun d => d.parameters.length) = some 5)⟩ ⟨Nat.le_of_ble_eq_true rfl, Nat.le_of_ble_eq_true rfl⟩) ⟨cPre_blind, c_recv X hw c0.1.obj rfl, fun U hU hW => ⟨rfl, X.preJ hw hU hW⟩⟩ rfl rfl hl.1 rfl (lv_room (Nat.le_of_ble_eq_true rfl)) dL_law_210 ⟨show 0 + 9000 ≤ 603072 - cells by omega, show 0 + 100000 ≤ 7186538 - slots by omega⟩) (fun N1 H1 locs1 hP hw hM => ?_)
  refine W.eq (g2 := F0 m 213 ls [.int v]) rfl ?_
  refine lv_aload_n (pc := 213) hx hb dL_law_213 rfl (lv_at hl 2 rfl) ?_
  refine lw_ld (pc := 214) (j := 1) C hw.2 hl (hi 1 (by decide) (by decide)) dL_law_214 dL_law_215 dL_law_216 (by decide) dL_law_217 dL_law_218 ?_
  refine lw_ld (pc := 219) (j := 2) C hw.2 hl (hi 2 (by decide) (by decide)) dL_law_219 dL_law_220 dL_law_221 (by decide) dL_law_222 dL_law_223 ?_
  refine lw_ld (pc := 224) (j := 3) C hw.2 hl (hi 3 (by decide) (by decide)) dL_law_224 dL_law_225 dL_law_226 (by decide) dL_law_227 dL_law_228 ?_
  refine lw_ld (pc := 229) (j := 4) C hw.2 hl (hi 4 (by decide) (by decide)) dL_law_229 dL_law_230 dL_law_231 (by decide) dL_law_232 dL_law_233 ?_
  refine lw_ld (pc := 234) (j := 5) C hw.2 hl (hi 5 (by decide) (by decide)) dL_law_234 dL_law_235 dL_law_236 (by decide) dL_law_237 dL_law_238 ?_
  refine lw_mod (pc := 239) (val := vI) (v := v) (PS' := mRs σ') (ch := ch) (rest := [.int v]) C.1 hw hM ⟨show cells + 9000 ≤ 603072 by omega, show slots + 100000 ≤ 7186538 by omega⟩ (fun s X hw => by
    have hts := X.1.2.2.2.2
    exact va_runV (C := RX1) (As := [.int (xs (i + 1).toNatClampNeg), .int (xs (i + 2).toNatClampNeg), .int (xs (i + 3).toNatClampNeg), .int (xs (i + 4).toNatClampNeg), .int (xs (i + 5).toNatClampNeg)]) (rest := [.int v]) X.1 (tX1_feed C.2.1 hD) (cwV 5 hts (lw_V q2108 q2109 q2110 q105 q2111) rfl rfl rfl ⟨rfl, by decide, by decide, (by decide +kernel : (parseMethodDescriptor yX1_feed.desc).map (fun d => d.parameters.length) = some 5)⟩ ⟨Nat.le_of_ble_eq_true rfl, Nat.le_of_ble_eq_true rfl⟩) ⟨fun _ _ _ _ q => q, c_recvM X hw, fun U hU hW => ⟨rfl, by rw [hU]; exact hw.1.toM, X.go hw hU hW⟩⟩ rfl rfl hl.1 rfl (lv_room (Nat.le_of_ble_eq_true rfl)) dL_law_239 ⟨show 0 + 0 ≤ 603072 - (cells + 9000) by omega, show 0 + 0 ≤ 7186538 - (slots + 100000) by omega⟩) (fun S1 H2 locs2 m1 hw hM => ?_)
  refine W.eq (g2 := F0 m 242 ls [.int v, .int v]) rfl ?_
  refine lv_icmp_eq (pc := 242) (tgt := 1615) hx hb dL_law_242 rfl (fun _ => ?_) (fun c => absurd rfl c)
  obtain ⟨S0', c1⟩ := hP (fun s hs => (m1.1 s hs).2.1)
  exact kk _ _ ⟨σ', S1, S0', N1, ch, hw, m1, c1, hM⟩
theorem lw_c1 {p : Program} {l : Launch} {e : Env} {m : MethodId} {below : List Frame} {meth : Method} {c : Code} {H : Heap} {locs : List Loc} {cells slots : Nat} {ls : Array Slot} {G : gG} {a : Nat → Nat} {h0 : Nat} {ad : Nat → Nat} {b L : Nat} {xs : Nat → Int32} {i : Int32} (hf : l.stackTraces = false) (C : LCx G h0 ad p m meth c b L xs) (hI : LIn G a h0 ad H locs) (hl : lv_has ls 4 [(0, .ref b), (1, .ref (a 0)), (2, .ref h0), (3, .int i)]) (hi : ∀ j : Int32, 0 ≤ j → j ≤ 7 → vp_in (i + j) L) (hc : cells + 9000 ≤ 603072) (hs : slots + 100000 ≤ 7186538) (kk : ∀ (H1 : Heap) (locs1 : List Loc), LIn G a h0 ad H1 locs1 → W p l e room_1 (g0 G) m #[Value.ref b] below meth c H1 locs1 (cells + 9000) (slots + 100000) (lw_Z below #[Value.ref b] (g0 G)) (F0 m 1615 ls [])) : W p l e room_1 (g0 G) m #[Value.ref b] below meth c H locs cells slots (lw_Z below #[Value.ref b] (g0 G)) (F0 m 247 ls []) := by
  obtain ⟨σ, S, S0, N, ch, hw, m0, c0, hM⟩ := hI
  have hx := C.1.1.1
  have hb := C.1.1.2.1
  obtain ⟨v, σ', hC, hD⟩ := p_end m0 c0 (xs (i + 1).toNatClampNeg)
  refine lv_aload_n (pc := 247) hx hb dL_law_247 rfl (lv_at hl 1 rfl) ?_
  refine lw_ld (pc := 248) (j := 1) C hw.2 hl (hi 1 (by decide) (by decide)) dL_law_248 dL_law_249 dL_law_250 (by decide) dL_law_251 dL_law_252 ?_
  refine lw_comp (pc := 253) (val := vI) (v := v) (PN := cRs (gC G) a σ' ch) (ch := ch) (mc := 0) (ms := 0) (rest := []) C.1 hw hM ⟨show cells ≤ 603072 by omega, show slots ≤ 7186538 by omega⟩ (fun s X hw => by
    have hts := X.1.2.2.2.2
    exact va_runV (C := RX0) (As := [.int (xs (i + 1).toNatClampNeg)]) (rest := []) X.1 (tX0_end X.2.2.1 (sz := H.size) hC) (cwV 1 hts (lw_V q376 q377 q378 q102 q379) rfl rfl rfl ⟨rfl, by decide, by decide, (by decide +kernel : (parseMethodDescriptor yX0_end.desc).map (fun d => d.parameters.length) = some 1)⟩ ⟨Nat.le_of_ble_eq_true rfl, Nat.le_of_ble_eq_true rfl⟩) ⟨cPre_blind, c_recv X hw c0.1.obj rfl, fun U hU hW => ⟨rfl, X.preJ hw hU hW⟩⟩ rfl rfl hl.1 rfl (lv_room (Nat.le_of_ble_eq_true rfl)) dL_law_253 ⟨show 0 + 0 ≤ 603072 - cells by omega, show 0 + 0 ≤ 7186538 - slots by omega⟩) (fun N1 H1 locs1 hP hw hM => ?_)
  refine W.eq (g2 := F0 m 256 ls [.int v]) rfl ?_
  refine lv_aload_n (pc := 256) hx hb dL_law_256 rfl (lv_at hl 2 rfl) ?_
  refine lw_ld (pc := 257) (j := 1) C hw.2 hl (hi 1 (by decide) (by decide)) dL_law_257 dL_law_258 dL_law_259 (by decide) dL_law_260 dL_law_261 ?_
  refine lw_mod (pc := 262) (val := vI) (v := v) (PS' := mRs σ') (ch := ch) (rest := [.int v]) C.1 hw hM ⟨show cells + 0 ≤ 603072 by omega, show slots + 0 ≤ 7186538 by omega⟩ (fun s X hw => by
    have hts := X.1.2.2.2.2
    exact va_runV (C := RX1) (As := [.int (xs (i + 1).toNatClampNeg)]) (rest := [.int v]) X.1 (tX1_end C.2.1 hD) (cwV 1 hts (lw_V q2116 q2117 q2118 q105 q2119) rfl rfl rfl ⟨rfl, by decide, by decide, (by decide +kernel : (parseMethodDescriptor yX1_end.desc).map (fun d => d.parameters.length) = some 1)⟩ ⟨Nat.le_of_ble_eq_true rfl, Nat.le_of_ble_eq_true rfl⟩) ⟨fun _ _ _ _ q => q, c_recvM X hw, fun U hU hW => ⟨rfl, by rw [hU]; exact hw.1.toM, X.go hw hU hW⟩⟩ rfl rfl hl.1 rfl (lv_room (Nat.le_of_ble_eq_true rfl)) dL_law_262 ⟨show 0 + 0 ≤ 603072 - (cells + 0) by omega, show 0 + 0 ≤ 7186538 - (slots + 0) by omega⟩) (fun S1 H2 locs2 m1 hw hM => ?_)
  refine W.eq (g2 := F0 m 265 ls [.int v, .int v]) rfl ?_
  refine lv_icmp_eq (pc := 265) (tgt := 1615) hx hb dL_law_265 rfl (fun _ => ?_) (fun c => absurd rfl c)
  refine W.widen (k := cells + 9000) (n := slots + 100000) (show cells + 0 + 0 ≤ cells + 9000 by omega) (show slots + 0 + 0 ≤ slots + 100000 by omega) ?_
  obtain ⟨S0', c1⟩ := hP (fun s hs => (m1.1 s hs).2.1)
  exact kk _ _ ⟨σ', S1, S0', N1, ch, hw, m1, c1, hM⟩
theorem lw_c2 {p : Program} {l : Launch} {e : Env} {m : MethodId} {below : List Frame} {meth : Method} {c : Code} {H : Heap} {locs : List Loc} {cells slots : Nat} {ls : Array Slot} {G : gG} {a : Nat → Nat} {h0 : Nat} {ad : Nat → Nat} {b L : Nat} {xs : Nat → Int32} {i : Int32} (hf : l.stackTraces = false) (C : LCx G h0 ad p m meth c b L xs) (hI : LIn G a h0 ad H locs) (hl : lv_has ls 4 [(0, .ref b), (1, .ref (a 0)), (2, .ref h0), (3, .int i)]) (hi : ∀ j : Int32, 0 ≤ j → j ≤ 7 → vp_in (i + j) L) (hc : cells + 9000 ≤ 603072) (hs : slots + 100000 ≤ 7186538) (kk : ∀ (H1 : Heap) (locs1 : List Loc), LIn G a h0 ad H1 locs1 → W p l e room_1 (g0 G) m #[Value.ref b] below meth c H1 locs1 (cells + 9000) (slots + 100000) (lw_Z below #[Value.ref b] (g0 G)) (F0 m 1615 ls [])) : W p l e room_1 (g0 G) m #[Value.ref b] below meth c H locs cells slots (lw_Z below #[Value.ref b] (g0 G)) (F0 m 270 ls []) := by
  obtain ⟨σ, S, S0, N, ch, hw, m0, c0, hM⟩ := hI
  have hx := C.1.1.1
  have hb := C.1.1.2.1
  obtain ⟨v, σ', hC, hD⟩ := p_form (MC := 9000) (MS := 100000) m0 c0 (Nat.le_refl _) (Nat.le_refl _) (xs (i + 1).toNatClampNeg)
  refine lv_aload_n (pc := 270) hx hb dL_law_270 rfl (lv_at hl 1 rfl) ?_
  refine lw_ld (pc := 271) (j := 1) C hw.2 hl (hi 1 (by decide) (by decide)) dL_law_271 dL_law_272 dL_law_273 (by decide) dL_law_274 dL_law_275 ?_
  have hts := C.1.1.2.2.2.2
  refine lw_compK (pc := 276) (val := vI) (v := v) (PN := fun ch' N' => cRs (gC G) a σ' ch' N') (mc := 9000) (ms := 100000) (rest := []) C.1 hw (vx_runVW (C := RX0) (As := [.int (xs (i + 1).toNatClampNeg)]) (rest := []) C.1.1 (tX0_form hf C.1.2.2.1 (sz := H.size) hC) (vx_cwVW 1 hts (lw_VW q383 q384 q385 q102 q386) rfl rfl rfl ⟨rfl, by decide, by decide, (by decide +kernel : (parseMethodDescriptor yX0_form.desc).map (fun d => d.parameters.length) = some 1)⟩ ⟨Nat.le_of_ble_eq_true rfl, Nat.le_of_ble_eq_true rfl⟩) ⟨cPre_blind, c_recv C.1 hw c0.1.obj rfl, fun U hU hW => ⟨rfl, C.1.preJ hw hU hW⟩⟩ rfl rfl hl.1 rfl (lv_room (Nat.le_of_ble_eq_true rfl)) dL_law_276 ⟨show cells + 9000 ≤ 603072 by omega, show slots + 100000 ≤ 7186538 by omega⟩) (fun ch N1 H1 locs1 hP hw hM => ?_)
  refine W.eq (g2 := F0 m 279 ls [.int v]) rfl ?_
  refine lv_aload_n (pc := 279) hx hb dL_law_279 rfl (lv_at hl 2 rfl) ?_
  refine lw_ld (pc := 280) (j := 1) C hw.2 hl (hi 1 (by decide) (by decide)) dL_law_280 dL_law_281 dL_law_282 (by decide) dL_law_283 dL_law_284 ?_
  refine lw_mod (pc := 285) (val := vI) (v := v) (PS' := mRs σ') (ch := ch) (rest := [.int v]) C.1 hw hM ⟨show cells + 9000 ≤ 603072 by omega, show slots + 100000 ≤ 7186538 by omega⟩ (fun s X hw => by
    have hts := X.1.2.2.2.2
    exact va_runV (C := RX1) (As := [.int (xs (i + 1).toNatClampNeg)]) (rest := [.int v]) X.1 (tX1_form C.2.1 hD) (cwV 1 hts (lw_V q2127 q2128 q2129 q105 q2130) rfl rfl rfl ⟨rfl, by decide, by decide, (by decide +kernel : (parseMethodDescriptor yX1_form.desc).map (fun d => d.parameters.length) = some 1)⟩ ⟨Nat.le_of_ble_eq_true rfl, Nat.le_of_ble_eq_true rfl⟩) ⟨fun _ _ _ _ q => q, c_recvM X hw, fun U hU hW => ⟨rfl, by rw [hU]; exact hw.1.toM, X.go hw hU hW⟩⟩ rfl rfl hl.1 rfl (lv_room (Nat.le_of_ble_eq_true rfl)) dL_law_285 ⟨show 0 + 0 ≤ 603072 - (cells + 9000) by omega, show 0 + 0 ≤ 7186538 - (slots + 100000) by omega⟩) (fun S1 H2 locs2 m1 hw hM => ?_)
  refine W.eq (g2 := F0 m 288 ls [.int v, .int v]) rfl ?_
  refine lv_icmp_eq (pc := 288) (tgt := 1615) hx hb dL_law_288 rfl (fun _ => ?_) (fun c => absurd rfl c)
  obtain ⟨S0', c1⟩ := hP (fun s hs => (m1.1 s hs).2.1)
  exact kk _ _ ⟨σ', S1, S0', N1, ch, hw, m1, c1, hM⟩
theorem lw_c3 {p : Program} {l : Launch} {e : Env} {m : MethodId} {below : List Frame} {meth : Method} {c : Code} {H : Heap} {locs : List Loc} {cells slots : Nat} {ls : Array Slot} {G : gG} {a : Nat → Nat} {h0 : Nat} {ad : Nat → Nat} {b L : Nat} {xs : Nat → Int32} {i : Int32} (hf : l.stackTraces = false) (C : LCx G h0 ad p m meth c b L xs) (hI : LIn G a h0 ad H locs) (hl : lv_has ls 4 [(0, .ref b), (1, .ref (a 0)), (2, .ref h0), (3, .int i)]) (hi : ∀ j : Int32, 0 ≤ j → j ≤ 7 → vp_in (i + j) L) (hc : cells + 9000 ≤ 603072) (hs : slots + 100000 ≤ 7186538) (kk : ∀ (H1 : Heap) (locs1 : List Loc), LIn G a h0 ad H1 locs1 → W p l e room_1 (g0 G) m #[Value.ref b] below meth c H1 locs1 (cells + 9000) (slots + 100000) (lw_Z below #[Value.ref b] (g0 G)) (F0 m 1615 ls [])) : W p l e room_1 (g0 G) m #[Value.ref b] below meth c H locs cells slots (lw_Z below #[Value.ref b] (g0 G)) (F0 m 293 ls []) := by
  obtain ⟨σ, S, S0, N, ch, hw, m0, c0, hM⟩ := hI
  have hx := C.1.1.1
  have hb := C.1.1.2.1
  obtain ⟨v, σ', hC, hD⟩ := p_prove (MC := 9000) (MS := 100000) C.2.2.1 m0 c0 (Nat.le_refl _) (Nat.le_refl _) (xs (i + 1).toNatClampNeg)
  refine lv_aload_n (pc := 293) hx hb dL_law_293 rfl (lv_at hl 1 rfl) ?_
  refine lw_ld (pc := 294) (j := 1) C hw.2 hl (hi 1 (by decide) (by decide)) dL_law_294 dL_law_295 dL_law_296 (by decide) dL_law_297 dL_law_298 ?_
  have hts := C.1.1.2.2.2.2
  refine lw_compK (pc := 299) (val := vI) (v := v) (PN := fun ch' N' => cRs (gC G) a σ' ch' N') (mc := 9000) (ms := 100000) (rest := []) C.1 hw (vx_runVW (C := RX0) (As := [.int (xs (i + 1).toNatClampNeg)]) (rest := []) C.1.1 (tX0_prove hf C.1.2.2.1 (sz := H.size) hC) (vx_cwVW 1 hts (lw_VW q894 q895 q896 q102 q897) rfl rfl rfl ⟨rfl, by decide, by decide, (by decide +kernel : (parseMethodDescriptor yX0_prove.desc).map (fun d => d.parameters.length) = some 1)⟩ ⟨Nat.le_of_ble_eq_true rfl, Nat.le_of_ble_eq_true rfl⟩) ⟨cPre_blind, c_recv C.1 hw c0.1.obj rfl, fun U hU hW => ⟨rfl, C.1.preJ hw hU hW⟩⟩ rfl rfl hl.1 rfl (lv_room (Nat.le_of_ble_eq_true rfl)) dL_law_299 ⟨show cells + 9000 ≤ 603072 by omega, show slots + 100000 ≤ 7186538 by omega⟩) (fun ch N1 H1 locs1 hP hw hM => ?_)
  refine W.eq (g2 := F0 m 302 ls [.int v]) rfl ?_
  refine lv_aload_n (pc := 302) hx hb dL_law_302 rfl (lv_at hl 2 rfl) ?_
  refine lw_ld (pc := 303) (j := 1) C hw.2 hl (hi 1 (by decide) (by decide)) dL_law_303 dL_law_304 dL_law_305 (by decide) dL_law_306 dL_law_307 ?_
  refine lw_mod (pc := 308) (val := vI) (v := v) (PS' := mRs σ') (ch := ch) (rest := [.int v]) C.1 hw hM ⟨show cells + 9000 ≤ 603072 by omega, show slots + 100000 ≤ 7186538 by omega⟩ (fun s X hw => by
    have hts := X.1.2.2.2.2
    exact va_runV (C := RX1) (As := [.int (xs (i + 1).toNatClampNeg)]) (rest := [.int v]) X.1 (tX1_prove C.2.1 hD) (cwV 1 hts (lw_V q2311 q2312 q2313 q105 q2314) rfl rfl rfl ⟨rfl, by decide, by decide, (by decide +kernel : (parseMethodDescriptor yX1_prove.desc).map (fun d => d.parameters.length) = some 1)⟩ ⟨Nat.le_of_ble_eq_true rfl, Nat.le_of_ble_eq_true rfl⟩) ⟨fun _ _ _ _ q => q, c_recvM X hw, fun U hU hW => ⟨rfl, by rw [hU]; exact hw.1.toM, X.go hw hU hW⟩⟩ rfl rfl hl.1 rfl (lv_room (Nat.le_of_ble_eq_true rfl)) dL_law_308 ⟨show 0 + 0 ≤ 603072 - (cells + 9000) by omega, show 0 + 0 ≤ 7186538 - (slots + 100000) by omega⟩) (fun S1 H2 locs2 m1 hw hM => ?_)
  refine W.eq (g2 := F0 m 311 ls [.int v, .int v]) rfl ?_
  refine lv_icmp_eq (pc := 311) (tgt := 1615) hx hb dL_law_311 rfl (fun _ => ?_) (fun c => absurd rfl c)
  obtain ⟨S0', c1⟩ := hP (fun s hs => (m1.1 s hs).2.1)
  exact kk _ _ ⟨σ', S1, S0', N1, ch, hw, m1, c1, hM⟩
theorem lw_c4 {p : Program} {l : Launch} {e : Env} {m : MethodId} {below : List Frame} {meth : Method} {c : Code} {H : Heap} {locs : List Loc} {cells slots : Nat} {ls : Array Slot} {G : gG} {a : Nat → Nat} {h0 : Nat} {ad : Nat → Nat} {b L : Nat} {xs : Nat → Int32} {i : Int32} (hf : l.stackTraces = false) (C : LCx G h0 ad p m meth c b L xs) (hI : LIn G a h0 ad H locs) (hl : lv_has ls 4 [(0, .ref b), (1, .ref (a 0)), (2, .ref h0), (3, .int i)]) (hi : ∀ j : Int32, 0 ≤ j → j ≤ 7 → vp_in (i + j) L) (hc : cells + 9000 ≤ 603072) (hs : slots + 100000 ≤ 7186538) (kk : ∀ (H1 : Heap) (locs1 : List Loc), LIn G a h0 ad H1 locs1 → W p l e room_1 (g0 G) m #[Value.ref b] below meth c H1 locs1 (cells + 9000) (slots + 100000) (lw_Z below #[Value.ref b] (g0 G)) (F0 m 1615 ls [])) : W p l e room_1 (g0 G) m #[Value.ref b] below meth c H locs cells slots (lw_Z below #[Value.ref b] (g0 G)) (F0 m 316 ls []) := by
  obtain ⟨σ, S, S0, N, ch, hw, m0, c0, hM⟩ := hI
  have hx := C.1.1.1
  have hb := C.1.1.2.1
  obtain ⟨v, σ', hC, hD⟩ := p_identity (MC := 9000) (MS := 100000) m0 c0 (Nat.le_refl _) (Nat.le_refl _) 
  refine lv_aload_n (pc := 316) hx hb dL_law_316 rfl (lv_at hl 1 rfl) ?_
  have hts := C.1.1.2.2.2.2
  refine lw_compK (pc := 317) (val := vI) (v := v) (PN := fun ch' N' => cRs (gC G) a σ' ch' N') (mc := 9000) (ms := 100000) (rest := []) C.1 hw (vx_runVW (C := RX0) (As := []) (rest := []) C.1.1 (tX0_identity hf C.1.2.2.1 (sz := H.size) hC) (vx_cwVW 0 hts (lw_VW q1411 q1412 q1413 q102 q1414) rfl rfl rfl ⟨rfl, by decide, by decide, (by decide +kernel : (parseMethodDescriptor yX0_identity.desc).map (fun d => d.parameters.length) = some 0)⟩ ⟨Nat.le_of_ble_eq_true rfl, Nat.le_of_ble_eq_true rfl⟩) ⟨cPre_blind, c_recv C.1 hw c0.1.obj rfl, fun U hU hW => ⟨rfl, C.1.preJ hw hU hW⟩⟩ rfl rfl hl.1 rfl (lv_room (Nat.le_of_ble_eq_true rfl)) dL_law_317 ⟨show cells + 9000 ≤ 603072 by omega, show slots + 100000 ≤ 7186538 by omega⟩) (fun ch N1 H1 locs1 hP hw hM => ?_)
  refine W.eq (g2 := F0 m 320 ls [.int v]) rfl ?_
  refine lv_aload_n (pc := 320) hx hb dL_law_320 rfl (lv_at hl 2 rfl) ?_
  refine lw_mod (pc := 321) (val := vI) (v := v) (PS' := mRs σ') (ch := ch) (rest := [.int v]) C.1 hw hM ⟨show cells + 9000 ≤ 603072 by omega, show slots + 100000 ≤ 7186538 by omega⟩ (fun s X hw => by
    have hts := X.1.2.2.2.2
    exact va_runV (C := RX1) (As := []) (rest := [.int v]) X.1 (tX1_identity C.2.1 hD) (cwV 0 hts (lw_V q2328 q2329 q2330 q105 q2331) rfl rfl rfl ⟨rfl, by decide, by decide, (by decide +kernel : (parseMethodDescriptor yX1_identity.desc).map (fun d => d.parameters.length) = some 0)⟩ ⟨Nat.le_of_ble_eq_true rfl, Nat.le_of_ble_eq_true rfl⟩) ⟨fun _ _ _ _ q => q, c_recvM X hw, fun U hU hW => ⟨rfl, by rw [hU]; exact hw.1.toM, X.go hw hU hW⟩⟩ rfl rfl hl.1 rfl (lv_room (Nat.le_of_ble_eq_true rfl)) dL_law_321 ⟨show 0 + 0 ≤ 603072 - (cells + 9000) by omega, show 0 + 0 ≤ 7186538 - (slots + 100000) by omega⟩) (fun S1 H2 locs2 m1 hw hM => ?_)
  refine W.eq (g2 := F0 m 324 ls [.int v, .int v]) rfl ?_
  refine lv_icmp_eq (pc := 324) (tgt := 1615) hx hb dL_law_324 rfl (fun _ => ?_) (fun c => absurd rfl c)
  obtain ⟨S0', c1⟩ := hP (fun s hs => (m1.1 s hs).2.1)
  exact kk _ _ ⟨σ', S1, S0', N1, ch, hw, m1, c1, hM⟩
theorem lw_c5 {p : Program} {l : Launch} {e : Env} {m : MethodId} {below : List Frame} {meth : Method} {c : Code} {H : Heap} {locs : List Loc} {cells slots : Nat} {ls : Array Slot} {G : gG} {a : Nat → Nat} {h0 : Nat} {ad : Nat → Nat} {b L : Nat} {xs : Nat → Int32} {i : Int32} (hf : l.stackTraces = false) (C : LCx G h0 ad p m meth c b L xs) (hI : LIn G a h0 ad H locs) (hl : lv_has ls 4 [(0, .ref b), (1, .ref (a 0)), (2, .ref h0), (3, .int i)]) (hi : ∀ j : Int32, 0 ≤ j → j ≤ 7 → vp_in (i + j) L) (hc : cells + 9000 ≤ 603072) (hs : slots + 100000 ≤ 7186538) (kk : ∀ (H1 : Heap) (locs1 : List Loc), LIn G a h0 ad H1 locs1 → W p l e room_1 (g0 G) m #[Value.ref b] below meth c H1 locs1 (cells + 9000) (slots + 100000) (lw_Z below #[Value.ref b] (g0 G)) (F0 m 1615 ls [])) : W p l e room_1 (g0 G) m #[Value.ref b] below meth c H locs cells slots (lw_Z below #[Value.ref b] (g0 G)) (F0 m 329 ls []) := by
  obtain ⟨σ, S, S0, N, ch, hw, m0, c0, hM⟩ := hI
  have hx := C.1.1.1
  have hb := C.1.1.2.1
  have hD := p_fault m0 (xs (i + 1).toNatClampNeg)
  refine lv_aload_n (pc := 329) hx hb dL_law_329 rfl (lv_at hl 1 rfl) ?_
  refine lw_ld (pc := 330) (j := 1) C hw.2 hl (hi 1 (by decide) (by decide)) dL_law_330 dL_law_331 dL_law_332 (by decide) dL_law_333 dL_law_334 ?_
  refine lw_comp (pc := 335) (val := vI) (v := fvI (xs (i + 1).toNatClampNeg) σ.2.2.1.1 σ.2.2.1.2.1 σ.2.2.1.2.2.1 σ.2.2.1.2.2.2) (PN := fun N' => N' = N) (ch := ch) (mc := 0) (ms := 0) (rest := []) C.1 hw hM ⟨show cells ≤ 603072 by omega, show slots ≤ 7186538 by omega⟩ (fun s X hw => by
    have hts := X.1.2.2.2.2
    exact va_runV (C := RX0) (As := [.int (xs (i + 1).toNatClampNeg)]) (rest := []) X.1 (tX0_fault X.2.2.1 (sz := H.size) c0.1.obj c0.2.2.2.2.2.1) (cwV 1 hts (lw_V q152 q153 q154 q102 q155) rfl rfl rfl ⟨rfl, by decide, by decide, (by decide +kernel : (parseMethodDescriptor yX0_fault.desc).map (fun d => d.parameters.length) = some 1)⟩ ⟨Nat.le_of_ble_eq_true rfl, Nat.le_of_ble_eq_true rfl⟩) ⟨fun _ _ _ _ q => q, c_recv X hw c0.1.obj rfl, fun U hU hW => ⟨rfl, X.preJ hw hU hW, by rw [hU]; exact hM⟩⟩ rfl rfl hl.1 rfl (lv_room (Nat.le_of_ble_eq_true rfl)) dL_law_335 ⟨show 0 + 0 ≤ 603072 - cells by omega, show 0 + 0 ≤ 7186538 - slots by omega⟩) (fun N1 H1 locs1 hP hw hM => ?_)
  refine W.eq (g2 := F0 m 338 ls [.int (fvI (xs (i + 1).toNatClampNeg) σ.2.2.1.1 σ.2.2.1.2.1 σ.2.2.1.2.2.1 σ.2.2.1.2.2.2)]) rfl ?_
  refine lv_aload_n (pc := 338) hx hb dL_law_338 rfl (lv_at hl 2 rfl) ?_
  refine lw_ld (pc := 339) (j := 1) C hw.2 hl (hi 1 (by decide) (by decide)) dL_law_339 dL_law_340 dL_law_341 (by decide) dL_law_342 dL_law_343 ?_
  refine lw_mod (pc := 344) (val := vI) (v := fvI (xs (i + 1).toNatClampNeg) σ.2.2.1.1 σ.2.2.1.2.1 σ.2.2.1.2.2.1 σ.2.2.1.2.2.2) (PS' := mRs σ) (ch := ch) (rest := [.int (fvI (xs (i + 1).toNatClampNeg) σ.2.2.1.1 σ.2.2.1.2.1 σ.2.2.1.2.2.1 σ.2.2.1.2.2.2)]) C.1 hw hM ⟨show cells + 0 ≤ 603072 by omega, show slots + 0 ≤ 7186538 by omega⟩ (fun s X hw => by
    have hts := X.1.2.2.2.2
    exact va_runV (C := RX1) (As := [.int (xs (i + 1).toNatClampNeg)]) (rest := [.int (fvI (xs (i + 1).toNatClampNeg) σ.2.2.1.1 σ.2.2.1.2.1 σ.2.2.1.2.2.1 σ.2.2.1.2.2.2)]) X.1 (tX1_fault C.2.1 hD) (cwV 1 hts (lw_V q2123 q2124 q2125 q105 q2126) rfl rfl rfl ⟨rfl, by decide, by decide, (by decide +kernel : (parseMethodDescriptor yX1_fault.desc).map (fun d => d.parameters.length) = some 1)⟩ ⟨Nat.le_of_ble_eq_true rfl, Nat.le_of_ble_eq_true rfl⟩) ⟨fun _ _ _ _ q => q, c_recvM X hw, fun U hU hW => ⟨rfl, by rw [hU]; exact hw.1.toM, X.go hw hU hW⟩⟩ rfl rfl hl.1 rfl (lv_room (Nat.le_of_ble_eq_true rfl)) dL_law_344 ⟨show 0 + 0 ≤ 603072 - (cells + 0) by omega, show 0 + 0 ≤ 7186538 - (slots + 0) by omega⟩) (fun S1 H2 locs2 m1 hw hM => ?_)
  refine W.eq (g2 := F0 m 347 ls [.int (fvI (xs (i + 1).toNatClampNeg) σ.2.2.1.1 σ.2.2.1.2.1 σ.2.2.1.2.2.1 σ.2.2.1.2.2.2), .int (fvI (xs (i + 1).toNatClampNeg) σ.2.2.1.1 σ.2.2.1.2.1 σ.2.2.1.2.2.1 σ.2.2.1.2.2.2)]) rfl ?_
  refine lv_icmp_eq (pc := 347) (tgt := 1615) hx hb dL_law_347 rfl (fun _ => ?_) (fun c => absurd rfl c)
  refine W.widen (k := cells + 9000) (n := slots + 100000) (show cells + 0 + 0 ≤ cells + 9000 by omega) (show slots + 0 + 0 ≤ slots + 100000 by omega) ?_
  rw [show N1 = N from hP] at hw
  exact kk _ _ ⟨σ, S1, S0, _, ch, hw, m1, c0, hM⟩
theorem lw_c6 {p : Program} {l : Launch} {e : Env} {m : MethodId} {below : List Frame} {meth : Method} {c : Code} {H : Heap} {locs : List Loc} {cells slots : Nat} {ls : Array Slot} {G : gG} {a : Nat → Nat} {h0 : Nat} {ad : Nat → Nat} {b L : Nat} {xs : Nat → Int32} {i : Int32} (hf : l.stackTraces = false) (C : LCx G h0 ad p m meth c b L xs) (hI : LIn G a h0 ad H locs) (hl : lv_has ls 4 [(0, .ref b), (1, .ref (a 0)), (2, .ref h0), (3, .int i)]) (hi : ∀ j : Int32, 0 ≤ j → j ≤ 7 → vp_in (i + j) L) (hc : cells + 9000 ≤ 603072) (hs : slots + 100000 ≤ 7186538) (kk : ∀ (H1 : Heap) (locs1 : List Loc), LIn G a h0 ad H1 locs1 → W p l e room_1 (g0 G) m #[Value.ref b] below meth c H1 locs1 (cells + 9000) (slots + 100000) (lw_Z below #[Value.ref b] (g0 G)) (F0 m 1615 ls [])) : W p l e room_1 (g0 G) m #[Value.ref b] below meth c H locs cells slots (lw_Z below #[Value.ref b] (g0 G)) (F0 m 352 ls []) := by
  obtain ⟨σ, S, S0, N, ch, hw, m0, c0, hM⟩ := hI
  have hx := C.1.1.1
  have hb := C.1.1.2.1
  obtain ⟨v, σ', hC, hD⟩ := p_term (MC := 9000) (MS := 100000) m0 c0 (Nat.le_refl _) (Nat.le_refl _) (xs (i + 1).toNatClampNeg) (xs (i + 2).toNatClampNeg) (xs (i + 3).toNatClampNeg)
  refine lv_aload_n (pc := 352) hx hb dL_law_352 rfl (lv_at hl 1 rfl) ?_
  refine lw_ld (pc := 353) (j := 1) C hw.2 hl (hi 1 (by decide) (by decide)) dL_law_353 dL_law_354 dL_law_355 (by decide) dL_law_356 dL_law_357 ?_
  refine lw_ld (pc := 358) (j := 2) C hw.2 hl (hi 2 (by decide) (by decide)) dL_law_358 dL_law_359 dL_law_360 (by decide) dL_law_361 dL_law_362 ?_
  refine lw_ld (pc := 363) (j := 3) C hw.2 hl (hi 3 (by decide) (by decide)) dL_law_363 dL_law_364 dL_law_365 (by decide) dL_law_366 dL_law_367 ?_
  refine lw_comp (pc := 368) (val := vI) (v := v) (PN := cRs (gC G) a σ' ch) (ch := ch) (mc := 9000) (ms := 100000) (rest := []) C.1 hw hM ⟨show cells ≤ 603072 by omega, show slots ≤ 7186538 by omega⟩ (fun s X hw => by
    have hts := X.1.2.2.2.2
    exact va_runV (C := RX0) (As := [.int (xs (i + 1).toNatClampNeg), .int (xs (i + 2).toNatClampNeg), .int (xs (i + 3).toNatClampNeg)]) (rest := []) X.1 (tX0_term hf X.2.2.1 (sz := H.size) hC) (cwV 3 hts (lw_V q1536 q1537 q1538 q102 q1539) rfl rfl rfl ⟨rfl, by decide, by decide, (by decide +kernel : (parseMethodDescriptor yX0_term.desc).map (fun d => d.parameters.length) = some 3)⟩ ⟨Nat.le_of_ble_eq_true rfl, Nat.le_of_ble_eq_true rfl⟩) ⟨cPre_blind, c_recv X hw c0.1.obj rfl, fun U hU hW => ⟨rfl, X.preJ hw hU hW⟩⟩ rfl rfl hl.1 rfl (lv_room (Nat.le_of_ble_eq_true rfl)) dL_law_368 ⟨show 0 + 9000 ≤ 603072 - cells by omega, show 0 + 100000 ≤ 7186538 - slots by omega⟩) (fun N1 H1 locs1 hP hw hM => ?_)
  refine W.eq (g2 := F0 m 371 ls [.int v]) rfl ?_
  refine lv_aload_n (pc := 371) hx hb dL_law_371 rfl (lv_at hl 2 rfl) ?_
  refine lw_ld (pc := 372) (j := 1) C hw.2 hl (hi 1 (by decide) (by decide)) dL_law_372 dL_law_373 dL_law_374 (by decide) dL_law_375 dL_law_376 ?_
  refine lw_ld (pc := 377) (j := 2) C hw.2 hl (hi 2 (by decide) (by decide)) dL_law_377 dL_law_378 dL_law_379 (by decide) dL_law_380 dL_law_381 ?_
  refine lw_ld (pc := 382) (j := 3) C hw.2 hl (hi 3 (by decide) (by decide)) dL_law_382 dL_law_383 dL_law_384 (by decide) dL_law_385 dL_law_386 ?_
  refine lw_mod (pc := 387) (val := vI) (v := v) (PS' := mRs σ') (ch := ch) (rest := [.int v]) C.1 hw hM ⟨show cells + 9000 ≤ 603072 by omega, show slots + 100000 ≤ 7186538 by omega⟩ (fun s X hw => by
    have hts := X.1.2.2.2.2
    exact va_runV (C := RX1) (As := [.int (xs (i + 1).toNatClampNeg), .int (xs (i + 2).toNatClampNeg), .int (xs (i + 3).toNatClampNeg)]) (rest := [.int v]) X.1 (tX1_term C.2.1 hD) (cwV 3 hts (lw_V q2403 q2404 q2405 q105 q2406) rfl rfl rfl ⟨rfl, by decide, by decide, (by decide +kernel : (parseMethodDescriptor yX1_term.desc).map (fun d => d.parameters.length) = some 3)⟩ ⟨Nat.le_of_ble_eq_true rfl, Nat.le_of_ble_eq_true rfl⟩) ⟨fun _ _ _ _ q => q, c_recvM X hw, fun U hU hW => ⟨rfl, by rw [hU]; exact hw.1.toM, X.go hw hU hW⟩⟩ rfl rfl hl.1 rfl (lv_room (Nat.le_of_ble_eq_true rfl)) dL_law_387 ⟨show 0 + 0 ≤ 603072 - (cells + 9000) by omega, show 0 + 0 ≤ 7186538 - (slots + 100000) by omega⟩) (fun S1 H2 locs2 m1 hw hM => ?_)
  refine W.eq (g2 := F0 m 390 ls [.int v, .int v]) rfl ?_
  refine lv_icmp_eq (pc := 390) (tgt := 1615) hx hb dL_law_390 rfl (fun _ => ?_) (fun c => absurd rfl c)
  obtain ⟨S0', c1⟩ := hP (fun s hs => (m1.1 s hs).2.1)
  exact kk _ _ ⟨σ', S1, S0', N1, ch, hw, m1, c1, hM⟩
theorem lw_c7 {p : Program} {l : Launch} {e : Env} {m : MethodId} {below : List Frame} {meth : Method} {c : Code} {H : Heap} {locs : List Loc} {cells slots : Nat} {ls : Array Slot} {G : gG} {a : Nat → Nat} {h0 : Nat} {ad : Nat → Nat} {b L : Nat} {xs : Nat → Int32} {i : Int32} (hf : l.stackTraces = false) (C : LCx G h0 ad p m meth c b L xs) (hI : LIn G a h0 ad H locs) (hl : lv_has ls 4 [(0, .ref b), (1, .ref (a 0)), (2, .ref h0), (3, .int i)]) (hi : ∀ j : Int32, 0 ≤ j → j ≤ 7 → vp_in (i + j) L) (hc : cells + 9000 ≤ 603072) (hs : slots + 100000 ≤ 7186538) (kk : ∀ (H1 : Heap) (locs1 : List Loc), LIn G a h0 ad H1 locs1 → W p l e room_1 (g0 G) m #[Value.ref b] below meth c H1 locs1 (cells + 9000) (slots + 100000) (lw_Z below #[Value.ref b] (g0 G)) (F0 m 1615 ls [])) : W p l e room_1 (g0 G) m #[Value.ref b] below meth c H locs cells slots (lw_Z below #[Value.ref b] (g0 G)) (F0 m 395 ls []) := by
  obtain ⟨σ, S, S0, N, ch, hw, m0, c0, hM⟩ := hI
  have hx := C.1.1.1
  have hb := C.1.1.2.1
  obtain ⟨v, σ', hC, hD⟩ := p_ways (MC := 9000) (MS := 100000) C.2.2.1 m0 c0 (Nat.le_refl _) (Nat.le_refl _) (xs (i + 1).toNatClampNeg) (xs (i + 2).toNatClampNeg)
  refine lv_aload_n (pc := 395) hx hb dL_law_395 rfl (lv_at hl 1 rfl) ?_
  refine lw_ld (pc := 396) (j := 1) C hw.2 hl (hi 1 (by decide) (by decide)) dL_law_396 dL_law_397 dL_law_398 (by decide) dL_law_399 dL_law_400 ?_
  refine lw_ld (pc := 401) (j := 2) C hw.2 hl (hi 2 (by decide) (by decide)) dL_law_401 dL_law_402 dL_law_403 (by decide) dL_law_404 dL_law_405 ?_
  refine lw_comp (pc := 406) (val := vL) (v := v) (PN := cRs (gC G) a σ' ch) (ch := ch) (mc := 9000) (ms := 100000) (rest := []) C.1 hw hM ⟨show cells ≤ 603072 by omega, show slots ≤ 7186538 by omega⟩ (fun s X hw => by
    have hts := X.1.2.2.2.2
    exact va_runV (C := RX0) (As := [.int (xs (i + 1).toNatClampNeg), .int (xs (i + 2).toNatClampNeg)]) (rest := []) X.1 (tX0_ways hf X.2.2.1 (sz := H.size) hC) (cwV 2 hts (lw_V q1551 q1552 q1553 q102 q1554) rfl rfl rfl ⟨rfl, by decide, by decide, (by decide +kernel : (parseMethodDescriptor yX0_ways.desc).map (fun d => d.parameters.length) = some 2)⟩ ⟨Nat.le_of_ble_eq_true rfl, Nat.le_of_ble_eq_true rfl⟩) ⟨cPre_blind, c_recv X hw c0.1.obj rfl, fun U hU hW => ⟨rfl, X.preJ hw hU hW⟩⟩ rfl rfl hl.1 rfl (lv_room (Nat.le_of_ble_eq_true rfl)) dL_law_406 ⟨show 0 + 9000 ≤ 603072 - cells by omega, show 0 + 100000 ≤ 7186538 - slots by omega⟩) (fun N1 H1 locs1 hP hw hM => ?_)
  refine W.eq (g2 := F0 m 409 ls [.long v]) rfl ?_
  refine lv_aload_n (pc := 409) hx hb dL_law_409 rfl (lv_at hl 2 rfl) ?_
  refine lw_ld (pc := 410) (j := 1) C hw.2 hl (hi 1 (by decide) (by decide)) dL_law_410 dL_law_411 dL_law_412 (by decide) dL_law_413 dL_law_414 ?_
  refine lw_ld (pc := 415) (j := 2) C hw.2 hl (hi 2 (by decide) (by decide)) dL_law_415 dL_law_416 dL_law_417 (by decide) dL_law_418 dL_law_419 ?_
  refine lw_mod (pc := 420) (val := vL) (v := v) (PS' := mRs σ') (ch := ch) (rest := [.long v]) C.1 hw hM ⟨show cells + 9000 ≤ 603072 by omega, show slots + 100000 ≤ 7186538 by omega⟩ (fun s X hw => by
    have hts := X.1.2.2.2.2
    exact va_runV (C := RX1) (As := [.int (xs (i + 1).toNatClampNeg), .int (xs (i + 2).toNatClampNeg)]) (rest := [.long v]) X.1 (tX1_ways C.2.1 hD) (cwV 2 hts (lw_V q2232 q2233 q2234 q105 q2235) rfl rfl rfl ⟨rfl, by decide, by decide, (by decide +kernel : (parseMethodDescriptor yX1_ways.desc).map (fun d => d.parameters.length) = some 2)⟩ ⟨Nat.le_of_ble_eq_true rfl, Nat.le_of_ble_eq_true rfl⟩) ⟨fun _ _ _ _ q => q, c_recvM X hw, fun U hU hW => ⟨rfl, by rw [hU]; exact hw.1.toM, X.go hw hU hW⟩⟩ rfl rfl hl.1 rfl (lv_room (Nat.le_of_ble_eq_true rfl)) dL_law_420 ⟨show 0 + 0 ≤ 603072 - (cells + 9000) by omega, show 0 + 0 ≤ 7186538 - (slots + 100000) by omega⟩) (fun S1 H2 locs2 m1 hw hM => ?_)
  refine W.eq (g2 := F0 m 423 ls [.long v, .long v]) rfl ?_
  refine W.lcmp (pc := 423) hx hb dL_law_423 ?_
  refine lv_if_eq (pc := 424) (tgt := 1615) hx hb dL_law_424 rfl (fun _ => ?_) (fun c => absurd ((lg_cmp_eq _ _).mpr rfl) c)
  obtain ⟨S0', c1⟩ := hP (fun s hs => (m1.1 s hs).2.1)
  exact kk _ _ ⟨σ', S1, S0', N1, ch, hw, m1, c1, hM⟩
theorem lw_c8 {p : Program} {l : Launch} {e : Env} {m : MethodId} {below : List Frame} {meth : Method} {c : Code} {H : Heap} {locs : List Loc} {cells slots : Nat} {ls : Array Slot} {G : gG} {a : Nat → Nat} {h0 : Nat} {ad : Nat → Nat} {b L : Nat} {xs : Nat → Int32} {i : Int32} (hf : l.stackTraces = false) (C : LCx G h0 ad p m meth c b L xs) (hI : LIn G a h0 ad H locs) (hl : lv_has ls 4 [(0, .ref b), (1, .ref (a 0)), (2, .ref h0), (3, .int i)]) (hi : ∀ j : Int32, 0 ≤ j → j ≤ 7 → vp_in (i + j) L) (hc : cells + 9000 ≤ 603072) (hs : slots + 100000 ≤ 7186538) (kk : ∀ (H1 : Heap) (locs1 : List Loc), LIn G a h0 ad H1 locs1 → W p l e room_1 (g0 G) m #[Value.ref b] below meth c H1 locs1 (cells + 9000) (slots + 100000) (lw_Z below #[Value.ref b] (g0 G)) (F0 m 1615 ls [])) : W p l e room_1 (g0 G) m #[Value.ref b] below meth c H locs cells slots (lw_Z below #[Value.ref b] (g0 G)) (F0 m 429 ls []) := by
  obtain ⟨σ, S, S0, N, ch, hw, m0, c0, hM⟩ := hI
  have hx := C.1.1.1
  have hb := C.1.1.2.1
  obtain ⟨v, σ', hC, hD⟩ := p_unlike (MC := 9000) (MS := 100000) C.2.2.1 m0 c0 (Nat.le_refl _) (Nat.le_refl _) (xs (i + 1).toNatClampNeg) (xs (i + 2).toNatClampNeg)
  refine lv_aload_n (pc := 429) hx hb dL_law_429 rfl (lv_at hl 1 rfl) ?_
  refine lw_ld (pc := 430) (j := 1) C hw.2 hl (hi 1 (by decide) (by decide)) dL_law_430 dL_law_431 dL_law_432 (by decide) dL_law_433 dL_law_434 ?_
  refine lw_ld (pc := 435) (j := 2) C hw.2 hl (hi 2 (by decide) (by decide)) dL_law_435 dL_law_436 dL_law_437 (by decide) dL_law_438 dL_law_439 ?_
  refine lw_comp (pc := 440) (val := vL) (v := v) (PN := cRs (gC G) a σ' ch) (ch := ch) (mc := 9000) (ms := 100000) (rest := []) C.1 hw hM ⟨show cells ≤ 603072 by omega, show slots ≤ 7186538 by omega⟩ (fun s X hw => by
    have hts := X.1.2.2.2.2
    exact va_runV (C := RX0) (As := [.int (xs (i + 1).toNatClampNeg), .int (xs (i + 2).toNatClampNeg)]) (rest := []) X.1 (tX0_unlike hf X.2.2.1 (sz := H.size) hC) (cwV 2 hts (lw_V q1558 q1559 q1560 q102 q1561) rfl rfl rfl ⟨rfl, by decide, by decide, (by decide +kernel : (parseMethodDescriptor yX0_unlike.desc).map (fun d => d.parameters.length) = some 2)⟩ ⟨Nat.le_of_ble_eq_true rfl, Nat.le_of_ble_eq_true rfl⟩) ⟨cPre_blind, c_recv X hw c0.1.obj rfl, fun U hU hW => ⟨rfl, X.preJ hw hU hW⟩⟩ rfl rfl hl.1 rfl (lv_room (Nat.le_of_ble_eq_true rfl)) dL_law_440 ⟨show 0 + 9000 ≤ 603072 - cells by omega, show 0 + 100000 ≤ 7186538 - slots by omega⟩) (fun N1 H1 locs1 hP hw hM => ?_)
  refine W.eq (g2 := F0 m 443 ls [.long v]) rfl ?_
  refine lv_aload_n (pc := 443) hx hb dL_law_443 rfl (lv_at hl 2 rfl) ?_
  refine lw_ld (pc := 444) (j := 1) C hw.2 hl (hi 1 (by decide) (by decide)) dL_law_444 dL_law_445 dL_law_446 (by decide) dL_law_447 dL_law_448 ?_
  refine lw_ld (pc := 449) (j := 2) C hw.2 hl (hi 2 (by decide) (by decide)) dL_law_449 dL_law_450 dL_law_451 (by decide) dL_law_452 dL_law_453 ?_
  refine lw_mod (pc := 454) (val := vL) (v := v) (PS' := mRs σ') (ch := ch) (rest := [.long v]) C.1 hw hM ⟨show cells + 9000 ≤ 603072 by omega, show slots + 100000 ≤ 7186538 by omega⟩ (fun s X hw => by
    have hts := X.1.2.2.2.2
    exact va_runV (C := RX1) (As := [.int (xs (i + 1).toNatClampNeg), .int (xs (i + 2).toNatClampNeg)]) (rest := [.long v]) X.1 (tX1_unlike C.2.1 hD) (cwV 2 hts (lw_V q2265 q2266 q2267 q105 q2268) rfl rfl rfl ⟨rfl, by decide, by decide, (by decide +kernel : (parseMethodDescriptor yX1_unlike.desc).map (fun d => d.parameters.length) = some 2)⟩ ⟨Nat.le_of_ble_eq_true rfl, Nat.le_of_ble_eq_true rfl⟩) ⟨fun _ _ _ _ q => q, c_recvM X hw, fun U hU hW => ⟨rfl, by rw [hU]; exact hw.1.toM, X.go hw hU hW⟩⟩ rfl rfl hl.1 rfl (lv_room (Nat.le_of_ble_eq_true rfl)) dL_law_454 ⟨show 0 + 0 ≤ 603072 - (cells + 9000) by omega, show 0 + 0 ≤ 7186538 - (slots + 100000) by omega⟩) (fun S1 H2 locs2 m1 hw hM => ?_)
  refine W.eq (g2 := F0 m 457 ls [.long v, .long v]) rfl ?_
  refine W.lcmp (pc := 457) hx hb dL_law_457 ?_
  refine lv_if_eq (pc := 458) (tgt := 1615) hx hb dL_law_458 rfl (fun _ => ?_) (fun c => absurd ((lg_cmp_eq _ _).mpr rfl) c)
  obtain ⟨S0', c1⟩ := hP (fun s hs => (m1.1 s hs).2.1)
  exact kk _ _ ⟨σ', S1, S0', N1, ch, hw, m1, c1, hM⟩
theorem lw_c9 {p : Program} {l : Launch} {e : Env} {m : MethodId} {below : List Frame} {meth : Method} {c : Code} {H : Heap} {locs : List Loc} {cells slots : Nat} {ls : Array Slot} {G : gG} {a : Nat → Nat} {h0 : Nat} {ad : Nat → Nat} {b L : Nat} {xs : Nat → Int32} {i : Int32} (hf : l.stackTraces = false) (C : LCx G h0 ad p m meth c b L xs) (hI : LIn G a h0 ad H locs) (hl : lv_has ls 4 [(0, .ref b), (1, .ref (a 0)), (2, .ref h0), (3, .int i)]) (hi : ∀ j : Int32, 0 ≤ j → j ≤ 7 → vp_in (i + j) L) (hc : cells + 9000 ≤ 603072) (hs : slots + 100000 ≤ 7186538) (kk : ∀ (H1 : Heap) (locs1 : List Loc), LIn G a h0 ad H1 locs1 → W p l e room_1 (g0 G) m #[Value.ref b] below meth c H1 locs1 (cells + 9000) (slots + 100000) (lw_Z below #[Value.ref b] (g0 G)) (F0 m 1615 ls [])) : W p l e room_1 (g0 G) m #[Value.ref b] below meth c H locs cells slots (lw_Z below #[Value.ref b] (g0 G)) (F0 m 463 ls []) := by
  obtain ⟨σ, S, S0, N, ch, hw, m0, c0, hM⟩ := hI
  have hx := C.1.1.1
  have hb := C.1.1.2.1
  obtain ⟨v, σ', hC, hD⟩ := p_way (MC := 9000) (MS := 100000) C.2.2.1 m0 c0 (Nat.le_refl _) (Nat.le_refl _) (xs (i + 1).toNatClampNeg) (xs (i + 2).toNatClampNeg) ((((xs (i + 3).toNatClampNeg).toInt64) <<< (((32 : Int32).toInt64) &&& 63)) ||| (((xs (i + 4).toNatClampNeg).toInt64) &&& 4294967295)) (xs (i + 5).toNatClampNeg)
  refine lv_aload_n (pc := 463) hx hb dL_law_463 rfl (lv_at hl 1 rfl) ?_
  refine lw_ld (pc := 464) (j := 1) C hw.2 hl (hi 1 (by decide) (by decide)) dL_law_464 dL_law_465 dL_law_466 (by decide) dL_law_467 dL_law_468 ?_
  refine lw_ld (pc := 469) (j := 2) C hw.2 hl (hi 2 (by decide) (by decide)) dL_law_469 dL_law_470 dL_law_471 (by decide) dL_law_472 dL_law_473 ?_
  refine lw_ld (pc := 474) (j := 3) C hw.2 hl (hi 3 (by decide) (by decide)) dL_law_474 dL_law_475 dL_law_476 (by decide) dL_law_477 dL_law_478 ?_
  refine lv_i2l (pc := 479) hx hb dL_law_479 rfl ?_
  refine lv_bipush (pc := 480) (v := 32) hx hb dL_law_480 (by decide) ?_
  refine lv_lshl (pc := 482) hx hb dL_law_482 rfl ?_
  refine lw_ld (pc := 483) (j := 4) C hw.2 hl (hi 4 (by decide) (by decide)) dL_law_483 dL_law_484 dL_law_485 (by decide) dL_law_486 dL_law_487 ?_
  refine lv_i2l (pc := 488) hx hb dL_law_488 rfl ?_
  refine lv_ldc2 (pc := 489) (v := 4294967295) hx hb C.1.1.2.2.2.1 (C.1.1.2.2.2.2 _ q2532) dL_law_489 ?_
  refine lv_land (pc := 492) hx hb dL_law_492 ?_
  refine lv_lor (pc := 493) hx hb dL_law_493 ?_
  refine lw_ld (pc := 494) (j := 5) C hw.2 hl (hi 5 (by decide) (by decide)) dL_law_494 dL_law_495 dL_law_496 (by decide) dL_law_497 dL_law_498 ?_
  refine lw_comp (pc := 499) (val := vI) (v := v) (PN := cRs (gC G) a σ' ch) (ch := ch) (mc := 9000) (ms := 100000) (rest := []) C.1 hw hM ⟨show cells ≤ 603072 by omega, show slots ≤ 7186538 by omega⟩ (fun s X hw => by
    have hts := X.1.2.2.2.2
    exact va_runV (C := RX0) (As := [.int (xs (i + 1).toNatClampNeg), .int (xs (i + 2).toNatClampNeg), .long ((((xs (i + 3).toNatClampNeg).toInt64) <<< (((32 : Int32).toInt64) &&& 63)) ||| (((xs (i + 4).toNatClampNeg).toInt64) &&& 4294967295)), .int (xs (i + 5).toNatClampNeg)]) (rest := []) X.1 (tX0_way hf X.2.2.1 (sz := H.size) hC) (cwV 4 hts (lw_V q1574 q1575 q1576 q102 q1577) rfl rfl rfl ⟨rfl, by decide, by decide, (by decide +kernel : (parseMethodDescriptor yX0_way.desc).map (fun d => d.parameters.length) = some 4)⟩ ⟨Nat.le_of_ble_eq_true rfl, Nat.le_of_ble_eq_true rfl⟩) ⟨cPre_blind, c_recv X hw c0.1.obj rfl, fun U hU hW => ⟨rfl, X.preJ hw hU hW⟩⟩ rfl rfl hl.1 rfl (lv_room (Nat.le_of_ble_eq_true rfl)) dL_law_499 ⟨show 0 + 9000 ≤ 603072 - cells by omega, show 0 + 100000 ≤ 7186538 - slots by omega⟩) (fun N1 H1 locs1 hP hw hM => ?_)
  refine W.eq (g2 := F0 m 502 ls [.int v]) rfl ?_
  refine lv_aload_n (pc := 502) hx hb dL_law_502 rfl (lv_at hl 2 rfl) ?_
  refine lw_ld (pc := 503) (j := 1) C hw.2 hl (hi 1 (by decide) (by decide)) dL_law_503 dL_law_504 dL_law_505 (by decide) dL_law_506 dL_law_507 ?_
  refine lw_ld (pc := 508) (j := 2) C hw.2 hl (hi 2 (by decide) (by decide)) dL_law_508 dL_law_509 dL_law_510 (by decide) dL_law_511 dL_law_512 ?_
  refine lw_ld (pc := 513) (j := 3) C hw.2 hl (hi 3 (by decide) (by decide)) dL_law_513 dL_law_514 dL_law_515 (by decide) dL_law_516 dL_law_517 ?_
  refine lv_i2l (pc := 518) hx hb dL_law_518 rfl ?_
  refine lv_bipush (pc := 519) (v := 32) hx hb dL_law_519 (by decide) ?_
  refine lv_lshl (pc := 521) hx hb dL_law_521 rfl ?_
  refine lw_ld (pc := 522) (j := 4) C hw.2 hl (hi 4 (by decide) (by decide)) dL_law_522 dL_law_523 dL_law_524 (by decide) dL_law_525 dL_law_526 ?_
  refine lv_i2l (pc := 527) hx hb dL_law_527 rfl ?_
  refine lv_ldc2 (pc := 528) (v := 4294967295) hx hb C.1.1.2.2.2.1 (C.1.1.2.2.2.2 _ q2532) dL_law_528 ?_
  refine lv_land (pc := 531) hx hb dL_law_531 ?_
  refine lv_lor (pc := 532) hx hb dL_law_532 ?_
  refine lw_ld (pc := 533) (j := 5) C hw.2 hl (hi 5 (by decide) (by decide)) dL_law_533 dL_law_534 dL_law_535 (by decide) dL_law_536 dL_law_537 ?_
  refine lw_mod (pc := 538) (val := vI) (v := v) (PS' := mRs σ') (ch := ch) (rest := [.int v]) C.1 hw hM ⟨show cells + 9000 ≤ 603072 by omega, show slots + 100000 ≤ 7186538 by omega⟩ (fun s X hw => by
    have hts := X.1.2.2.2.2
    exact va_runV (C := RX1) (As := [.int (xs (i + 1).toNatClampNeg), .int (xs (i + 2).toNatClampNeg), .long ((((xs (i + 3).toNatClampNeg).toInt64) <<< (((32 : Int32).toInt64) &&& 63)) ||| (((xs (i + 4).toNatClampNeg).toInt64) &&& 4294967295)), .int (xs (i + 5).toNatClampNeg)]) (rest := [.int v]) X.1 (tX1_way C.2.1 hD) (cwV 4 hts (lw_V q2293 q2294 q2295 q105 q2296) rfl rfl rfl ⟨rfl, by decide, by decide, (by decide +kernel : (parseMethodDescriptor yX1_way.desc).map (fun d => d.parameters.length) = some 4)⟩ ⟨Nat.le_of_ble_eq_true rfl, Nat.le_of_ble_eq_true rfl⟩) ⟨fun _ _ _ _ q => q, c_recvM X hw, fun U hU hW => ⟨rfl, by rw [hU]; exact hw.1.toM, X.go hw hU hW⟩⟩ rfl rfl hl.1 rfl (lv_room (Nat.le_of_ble_eq_true rfl)) dL_law_538 ⟨show 0 + 0 ≤ 603072 - (cells + 9000) by omega, show 0 + 0 ≤ 7186538 - (slots + 100000) by omega⟩) (fun S1 H2 locs2 m1 hw hM => ?_)
  refine W.eq (g2 := F0 m 541 ls [.int v, .int v]) rfl ?_
  refine lv_icmp_eq (pc := 541) (tgt := 1615) hx hb dL_law_541 rfl (fun _ => ?_) (fun c => absurd rfl c)
  obtain ⟨S0', c1⟩ := hP (fun s hs => (m1.1 s hs).2.1)
  exact kk _ _ ⟨σ', S1, S0', N1, ch, hw, m1, c1, hM⟩
theorem lw_c10 {p : Program} {l : Launch} {e : Env} {m : MethodId} {below : List Frame} {meth : Method} {c : Code} {H : Heap} {locs : List Loc} {cells slots : Nat} {ls : Array Slot} {G : gG} {a : Nat → Nat} {h0 : Nat} {ad : Nat → Nat} {b L : Nat} {xs : Nat → Int32} {i : Int32} (hf : l.stackTraces = false) (C : LCx G h0 ad p m meth c b L xs) (hI : LIn G a h0 ad H locs) (hl : lv_has ls 4 [(0, .ref b), (1, .ref (a 0)), (2, .ref h0), (3, .int i)]) (hi : ∀ j : Int32, 0 ≤ j → j ≤ 7 → vp_in (i + j) L) (hc : cells + 9000 ≤ 603072) (hs : slots + 100000 ≤ 7186538) (kk : ∀ (H1 : Heap) (locs1 : List Loc), LIn G a h0 ad H1 locs1 → W p l e room_1 (g0 G) m #[Value.ref b] below meth c H1 locs1 (cells + 9000) (slots + 100000) (lw_Z below #[Value.ref b] (g0 G)) (F0 m 1615 ls [])) : W p l e room_1 (g0 G) m #[Value.ref b] below meth c H locs cells slots (lw_Z below #[Value.ref b] (g0 G)) (F0 m 546 ls []) := by
  obtain ⟨σ, S, S0, N, ch, hw, m0, c0, hM⟩ := hI
  have hx := C.1.1.1
  have hb := C.1.1.2.1
  obtain ⟨v, σ', hC, hD⟩ := p_number (MC := 9000) (MS := 100000) C.2.2.1 m0 c0 (Nat.le_refl _) (Nat.le_refl _) (xs (i + 1).toNatClampNeg) (xs (i + 2).toNatClampNeg) (xs (i + 3).toNatClampNeg) (xs (i + 4).toNatClampNeg) (xs (i + 5).toNatClampNeg) (xs (i + 6).toNatClampNeg) (xs (i + 7).toNatClampNeg)
  refine lv_aload_n (pc := 546) hx hb dL_law_546 rfl (lv_at hl 1 rfl) ?_
  refine lw_ld (pc := 547) (j := 1) C hw.2 hl (hi 1 (by decide) (by decide)) dL_law_547 dL_law_548 dL_law_549 (by decide) dL_law_550 dL_law_551 ?_
  refine lw_ld (pc := 552) (j := 2) C hw.2 hl (hi 2 (by decide) (by decide)) dL_law_552 dL_law_553 dL_law_554 (by decide) dL_law_555 dL_law_556 ?_
  refine lw_ld (pc := 557) (j := 3) C hw.2 hl (hi 3 (by decide) (by decide)) dL_law_557 dL_law_558 dL_law_559 (by decide) dL_law_560 dL_law_561 ?_
  refine lw_ld (pc := 562) (j := 4) C hw.2 hl (hi 4 (by decide) (by decide)) dL_law_562 dL_law_563 dL_law_564 (by decide) dL_law_565 dL_law_566 ?_
  refine lw_ld (pc := 567) (j := 5) C hw.2 hl (hi 5 (by decide) (by decide)) dL_law_567 dL_law_568 dL_law_569 (by decide) dL_law_570 dL_law_571 ?_
  refine lw_ldb (pc := 572) (j := 6) C hw.2 hl (hi 6 (by decide) (by decide)) dL_law_572 dL_law_573 dL_law_574 (by decide) dL_law_576 dL_law_577 ?_
  refine lw_ldb (pc := 578) (j := 7) C hw.2 hl (hi 7 (by decide) (by decide)) dL_law_578 dL_law_579 dL_law_580 (by decide) dL_law_582 dL_law_583 ?_
  refine lw_comp (pc := 584) (val := vL) (v := v) (PN := cRs (gC G) a σ' ch) (ch := ch) (mc := 9000) (ms := 100000) (rest := []) C.1 hw hM ⟨show cells ≤ 603072 by omega, show slots ≤ 7186538 by omega⟩ (fun s X hw => by
    have hts := X.1.2.2.2.2
    exact va_runV (C := RX0) (As := [.int (xs (i + 1).toNatClampNeg), .int (xs (i + 2).toNatClampNeg), .int (xs (i + 3).toNatClampNeg), .int (xs (i + 4).toNatClampNeg), .int (xs (i + 5).toNatClampNeg), .int (xs (i + 6).toNatClampNeg), .int (xs (i + 7).toNatClampNeg)]) (rest := []) X.1 (tX0_number hf X.2.2.1 (sz := H.size) hC) (cwV 7 hts (lw_V q1584 q1585 q1586 q102 q1587) rfl rfl rfl ⟨rfl, by decide, by decide, (by decide +kernel : (parseMethodDescriptor yX0_number.desc).map (fun d => d.parameters.length) = some 7)⟩ ⟨Nat.le_of_ble_eq_true rfl, Nat.le_of_ble_eq_true rfl⟩) ⟨cPre_blind, c_recv X hw c0.1.obj rfl, fun U hU hW => ⟨rfl, X.preJ hw hU hW⟩⟩ rfl rfl hl.1 rfl (lv_room (Nat.le_of_ble_eq_true rfl)) dL_law_584 ⟨show 0 + 9000 ≤ 603072 - cells by omega, show 0 + 100000 ≤ 7186538 - slots by omega⟩) (fun N1 H1 locs1 hP hw hM => ?_)
  refine W.eq (g2 := F0 m 587 ls [.long v]) rfl ?_
  refine lv_aload_n (pc := 587) hx hb dL_law_587 rfl (lv_at hl 2 rfl) ?_
  refine lw_ld (pc := 588) (j := 1) C hw.2 hl (hi 1 (by decide) (by decide)) dL_law_588 dL_law_589 dL_law_590 (by decide) dL_law_591 dL_law_592 ?_
  refine lw_ld (pc := 593) (j := 2) C hw.2 hl (hi 2 (by decide) (by decide)) dL_law_593 dL_law_594 dL_law_595 (by decide) dL_law_596 dL_law_597 ?_
  refine lw_ld (pc := 598) (j := 3) C hw.2 hl (hi 3 (by decide) (by decide)) dL_law_598 dL_law_599 dL_law_600 (by decide) dL_law_601 dL_law_602 ?_
  refine lw_ld (pc := 603) (j := 4) C hw.2 hl (hi 4 (by decide) (by decide)) dL_law_603 dL_law_604 dL_law_605 (by decide) dL_law_606 dL_law_607 ?_
  refine lw_ld (pc := 608) (j := 5) C hw.2 hl (hi 5 (by decide) (by decide)) dL_law_608 dL_law_609 dL_law_610 (by decide) dL_law_611 dL_law_612 ?_
  refine lw_ldb (pc := 613) (j := 6) C hw.2 hl (hi 6 (by decide) (by decide)) dL_law_613 dL_law_614 dL_law_615 (by decide) dL_law_617 dL_law_618 ?_
  refine lw_ldb (pc := 619) (j := 7) C hw.2 hl (hi 7 (by decide) (by decide)) dL_law_619 dL_law_620 dL_law_621 (by decide) dL_law_623 dL_law_624 ?_
  refine lw_mod (pc := 625) (val := vL) (v := v) (PS' := mRs σ') (ch := ch) (rest := [.long v]) C.1 hw hM ⟨show cells + 9000 ≤ 603072 by omega, show slots + 100000 ≤ 7186538 by omega⟩ (fun s X hw => by
    have hts := X.1.2.2.2.2
    exact va_runV (C := RX1) (As := [.int (xs (i + 1).toNatClampNeg), .int (xs (i + 2).toNatClampNeg), .int (xs (i + 3).toNatClampNeg), .int (xs (i + 4).toNatClampNeg), .int (xs (i + 5).toNatClampNeg), .int (xs (i + 6).toNatClampNeg), .int (xs (i + 7).toNatClampNeg)]) (rest := [.long v]) X.1 (tX1_number C.2.1 hD) (cwV 7 hts (lw_V q2306 q2307 q2308 q105 q2309) rfl rfl rfl ⟨rfl, by decide, by decide, (by decide +kernel : (parseMethodDescriptor yX1_number.desc).map (fun d => d.parameters.length) = some 7)⟩ ⟨Nat.le_of_ble_eq_true rfl, Nat.le_of_ble_eq_true rfl⟩) ⟨fun _ _ _ _ q => q, c_recvM X hw, fun U hU hW => ⟨rfl, by rw [hU]; exact hw.1.toM, X.go hw hU hW⟩⟩ rfl rfl hl.1 rfl (lv_room (Nat.le_of_ble_eq_true rfl)) dL_law_625 ⟨show 0 + 0 ≤ 603072 - (cells + 9000) by omega, show 0 + 0 ≤ 7186538 - (slots + 100000) by omega⟩) (fun S1 H2 locs2 m1 hw hM => ?_)
  refine W.eq (g2 := F0 m 628 ls [.long v, .long v]) rfl ?_
  refine W.lcmp (pc := 628) hx hb dL_law_628 ?_
  refine lv_if_eq (pc := 629) (tgt := 1615) hx hb dL_law_629 rfl (fun _ => ?_) (fun c => absurd ((lg_cmp_eq _ _).mpr rfl) c)
  obtain ⟨S0', c1⟩ := hP (fun s hs => (m1.1 s hs).2.1)
  exact kk _ _ ⟨σ', S1, S0', N1, ch, hw, m1, c1, hM⟩
theorem lw_c11 {p : Program} {l : Launch} {e : Env} {m : MethodId} {below : List Frame} {meth : Method} {c : Code} {H : Heap} {locs : List Loc} {cells slots : Nat} {ls : Array Slot} {G : gG} {a : Nat → Nat} {h0 : Nat} {ad : Nat → Nat} {b L : Nat} {xs : Nat → Int32} {i : Int32} (hf : l.stackTraces = false) (C : LCx G h0 ad p m meth c b L xs) (hI : LIn G a h0 ad H locs) (hl : lv_has ls 4 [(0, .ref b), (1, .ref (a 0)), (2, .ref h0), (3, .int i)]) (hi : ∀ j : Int32, 0 ≤ j → j ≤ 7 → vp_in (i + j) L) (hc : cells + 9000 ≤ 603072) (hs : slots + 100000 ≤ 7186538) (kk : ∀ (H1 : Heap) (locs1 : List Loc), LIn G a h0 ad H1 locs1 → W p l e room_1 (g0 G) m #[Value.ref b] below meth c H1 locs1 (cells + 9000) (slots + 100000) (lw_Z below #[Value.ref b] (g0 G)) (F0 m 1615 ls [])) : W p l e room_1 (g0 G) m #[Value.ref b] below meth c H locs cells slots (lw_Z below #[Value.ref b] (g0 G)) (F0 m 634 ls []) := by
  obtain ⟨σ, S, S0, N, ch, hw, m0, c0, hM⟩ := hI
  have hx := C.1.1.1
  have hb := C.1.1.2.1
  obtain ⟨v, σ', hC, hD⟩ := p_missed (MC := 9000) (MS := 100000) C.2.2.1 m0 c0 (Nat.le_refl _) (Nat.le_refl _) (xs (i + 1).toNatClampNeg) (xs (i + 2).toNatClampNeg) (xs (i + 3).toNatClampNeg) (xs (i + 4).toNatClampNeg)
  refine lv_aload_n (pc := 634) hx hb dL_law_634 rfl (lv_at hl 1 rfl) ?_
  refine lw_ld (pc := 635) (j := 1) C hw.2 hl (hi 1 (by decide) (by decide)) dL_law_635 dL_law_636 dL_law_637 (by decide) dL_law_638 dL_law_639 ?_
  refine lw_ld (pc := 640) (j := 2) C hw.2 hl (hi 2 (by decide) (by decide)) dL_law_640 dL_law_641 dL_law_642 (by decide) dL_law_643 dL_law_644 ?_
  refine lw_ld (pc := 645) (j := 3) C hw.2 hl (hi 3 (by decide) (by decide)) dL_law_645 dL_law_646 dL_law_647 (by decide) dL_law_648 dL_law_649 ?_
  refine lw_ld (pc := 650) (j := 4) C hw.2 hl (hi 4 (by decide) (by decide)) dL_law_650 dL_law_651 dL_law_652 (by decide) dL_law_653 dL_law_654 ?_
  refine lw_comp (pc := 655) (val := vI) (v := v) (PN := cRs (gC G) a σ' ch) (ch := ch) (mc := 9000) (ms := 100000) (rest := []) C.1 hw hM ⟨show cells ≤ 603072 by omega, show slots ≤ 7186538 by omega⟩ (fun s X hw => by
    have hts := X.1.2.2.2.2
    exact va_runV (C := RX0) (As := [.int (xs (i + 1).toNatClampNeg), .int (xs (i + 2).toNatClampNeg), .int (xs (i + 3).toNatClampNeg), .int (xs (i + 4).toNatClampNeg)]) (rest := []) X.1 (tX0_missed hf X.2.2.1 (sz := H.size) hC) (cwV 4 hts (lw_V q1588 q1589 q1590 q102 q1591) rfl rfl rfl ⟨rfl, by decide, by decide, (by decide +kernel : (parseMethodDescriptor yX0_missed.desc).map (fun d => d.parameters.length) = some 4)⟩ ⟨Nat.le_of_ble_eq_true rfl, Nat.le_of_ble_eq_true rfl⟩) ⟨cPre_blind, c_recv X hw c0.1.obj rfl, fun U hU hW => ⟨rfl, X.preJ hw hU hW⟩⟩ rfl rfl hl.1 rfl (lv_room (Nat.le_of_ble_eq_true rfl)) dL_law_655 ⟨show 0 + 9000 ≤ 603072 - cells by omega, show 0 + 100000 ≤ 7186538 - slots by omega⟩) (fun N1 H1 locs1 hP hw hM => ?_)
  refine W.eq (g2 := F0 m 658 ls [.int v]) rfl ?_
  refine lv_aload_n (pc := 658) hx hb dL_law_658 rfl (lv_at hl 2 rfl) ?_
  refine lw_ld (pc := 659) (j := 1) C hw.2 hl (hi 1 (by decide) (by decide)) dL_law_659 dL_law_660 dL_law_661 (by decide) dL_law_662 dL_law_663 ?_
  refine lw_ld (pc := 664) (j := 2) C hw.2 hl (hi 2 (by decide) (by decide)) dL_law_664 dL_law_665 dL_law_666 (by decide) dL_law_667 dL_law_668 ?_
  refine lw_ld (pc := 669) (j := 3) C hw.2 hl (hi 3 (by decide) (by decide)) dL_law_669 dL_law_670 dL_law_671 (by decide) dL_law_672 dL_law_673 ?_
  refine lw_ld (pc := 674) (j := 4) C hw.2 hl (hi 4 (by decide) (by decide)) dL_law_674 dL_law_675 dL_law_676 (by decide) dL_law_677 dL_law_678 ?_
  refine lw_mod (pc := 679) (val := vI) (v := v) (PS' := mRs σ') (ch := ch) (rest := [.int v]) C.1 hw hM ⟨show cells + 9000 ≤ 603072 by omega, show slots + 100000 ≤ 7186538 by omega⟩ (fun s X hw => by
    have hts := X.1.2.2.2.2
    exact va_runV (C := RX1) (As := [.int (xs (i + 1).toNatClampNeg), .int (xs (i + 2).toNatClampNeg), .int (xs (i + 3).toNatClampNeg), .int (xs (i + 4).toNatClampNeg)]) (rest := [.int v]) X.1 (tX1_missed C.2.1 hD) (cwV 4 hts (lw_V q2407 q2408 q2409 q105 q2410) rfl rfl rfl ⟨rfl, by decide, by decide, (by decide +kernel : (parseMethodDescriptor yX1_missed.desc).map (fun d => d.parameters.length) = some 4)⟩ ⟨Nat.le_of_ble_eq_true rfl, Nat.le_of_ble_eq_true rfl⟩) ⟨fun _ _ _ _ q => q, c_recvM X hw, fun U hU hW => ⟨rfl, by rw [hU]; exact hw.1.toM, X.go hw hU hW⟩⟩ rfl rfl hl.1 rfl (lv_room (Nat.le_of_ble_eq_true rfl)) dL_law_679 ⟨show 0 + 0 ≤ 603072 - (cells + 9000) by omega, show 0 + 0 ≤ 7186538 - (slots + 100000) by omega⟩) (fun S1 H2 locs2 m1 hw hM => ?_)
  refine W.eq (g2 := F0 m 682 ls [.int v, .int v]) rfl ?_
  refine lv_icmp_eq (pc := 682) (tgt := 1615) hx hb dL_law_682 rfl (fun _ => ?_) (fun c => absurd rfl c)
  obtain ⟨S0', c1⟩ := hP (fun s hs => (m1.1 s hs).2.1)
  exact kk _ _ ⟨σ', S1, S0', N1, ch, hw, m1, c1, hM⟩
theorem lw_c12 {p : Program} {l : Launch} {e : Env} {m : MethodId} {below : List Frame} {meth : Method} {c : Code} {H : Heap} {locs : List Loc} {cells slots : Nat} {ls : Array Slot} {G : gG} {a : Nat → Nat} {h0 : Nat} {ad : Nat → Nat} {b L : Nat} {xs : Nat → Int32} {i : Int32} (hf : l.stackTraces = false) (C : LCx G h0 ad p m meth c b L xs) (hI : LIn G a h0 ad H locs) (hl : lv_has ls 4 [(0, .ref b), (1, .ref (a 0)), (2, .ref h0), (3, .int i)]) (hi : ∀ j : Int32, 0 ≤ j → j ≤ 7 → vp_in (i + j) L) (hc : cells + 9000 ≤ 603072) (hs : slots + 100000 ≤ 7186538) (kk : ∀ (H1 : Heap) (locs1 : List Loc), LIn G a h0 ad H1 locs1 → W p l e room_1 (g0 G) m #[Value.ref b] below meth c H1 locs1 (cells + 9000) (slots + 100000) (lw_Z below #[Value.ref b] (g0 G)) (F0 m 1615 ls [])) : W p l e room_1 (g0 G) m #[Value.ref b] below meth c H locs cells slots (lw_Z below #[Value.ref b] (g0 G)) (F0 m 687 ls []) := by
  obtain ⟨σ, S, S0, N, ch, hw, m0, c0, hM⟩ := hI
  have hx := C.1.1.1
  have hb := C.1.1.2.1
  obtain ⟨v, σ', hC, hD⟩ := p_explained (MC := 9000) (MS := 100000) C.2.2.1 m0 c0 (Nat.le_refl _) (Nat.le_refl _) (xs (i + 1).toNatClampNeg) (xs (i + 2).toNatClampNeg) (xs (i + 3).toNatClampNeg) (xs (i + 4).toNatClampNeg)
  refine lv_aload_n (pc := 687) hx hb dL_law_687 rfl (lv_at hl 1 rfl) ?_
  refine lw_ld (pc := 688) (j := 1) C hw.2 hl (hi 1 (by decide) (by decide)) dL_law_688 dL_law_689 dL_law_690 (by decide) dL_law_691 dL_law_692 ?_
  refine lw_ld (pc := 693) (j := 2) C hw.2 hl (hi 2 (by decide) (by decide)) dL_law_693 dL_law_694 dL_law_695 (by decide) dL_law_696 dL_law_697 ?_
  refine lw_ld (pc := 698) (j := 3) C hw.2 hl (hi 3 (by decide) (by decide)) dL_law_698 dL_law_699 dL_law_700 (by decide) dL_law_701 dL_law_702 ?_
  refine lw_ld (pc := 703) (j := 4) C hw.2 hl (hi 4 (by decide) (by decide)) dL_law_703 dL_law_704 dL_law_705 (by decide) dL_law_706 dL_law_707 ?_
  refine lw_comp (pc := 708) (val := vI) (v := v) (PN := cRs (gC G) a σ' ch) (ch := ch) (mc := 9000) (ms := 100000) (rest := []) C.1 hw hM ⟨show cells ≤ 603072 by omega, show slots ≤ 7186538 by omega⟩ (fun s X hw => by
    have hts := X.1.2.2.2.2
    exact va_runV (C := RX0) (As := [.int (xs (i + 1).toNatClampNeg), .int (xs (i + 2).toNatClampNeg), .int (xs (i + 3).toNatClampNeg), .int (xs (i + 4).toNatClampNeg)]) (rest := []) X.1 (tX0_explained hf X.2.2.1 (sz := H.size) hC) (cwV 4 hts (lw_V q1595 q1596 q1597 q102 q1598) rfl rfl rfl ⟨rfl, by decide, by decide, (by decide +kernel : (parseMethodDescriptor yX0_explained.desc).map (fun d => d.parameters.length) = some 4)⟩ ⟨Nat.le_of_ble_eq_true rfl, Nat.le_of_ble_eq_true rfl⟩) ⟨cPre_blind, c_recv X hw c0.1.obj rfl, fun U hU hW => ⟨rfl, X.preJ hw hU hW⟩⟩ rfl rfl hl.1 rfl (lv_room (Nat.le_of_ble_eq_true rfl)) dL_law_708 ⟨show 0 + 9000 ≤ 603072 - cells by omega, show 0 + 100000 ≤ 7186538 - slots by omega⟩) (fun N1 H1 locs1 hP hw hM => ?_)
  refine W.eq (g2 := F0 m 711 ls [.int v]) rfl ?_
  refine lv_aload_n (pc := 711) hx hb dL_law_711 rfl (lv_at hl 2 rfl) ?_
  refine lw_ld (pc := 712) (j := 1) C hw.2 hl (hi 1 (by decide) (by decide)) dL_law_712 dL_law_713 dL_law_714 (by decide) dL_law_715 dL_law_716 ?_
  refine lw_ld (pc := 717) (j := 2) C hw.2 hl (hi 2 (by decide) (by decide)) dL_law_717 dL_law_718 dL_law_719 (by decide) dL_law_720 dL_law_721 ?_
  refine lw_ld (pc := 722) (j := 3) C hw.2 hl (hi 3 (by decide) (by decide)) dL_law_722 dL_law_723 dL_law_724 (by decide) dL_law_725 dL_law_726 ?_
  refine lw_ld (pc := 727) (j := 4) C hw.2 hl (hi 4 (by decide) (by decide)) dL_law_727 dL_law_728 dL_law_729 (by decide) dL_law_730 dL_law_731 ?_
  refine lw_mod (pc := 732) (val := vI) (v := v) (PS' := mRs σ') (ch := ch) (rest := [.int v]) C.1 hw hM ⟨show cells + 9000 ≤ 603072 by omega, show slots + 100000 ≤ 7186538 by omega⟩ (fun s X hw => by
    have hts := X.1.2.2.2.2
    exact va_runV (C := RX1) (As := [.int (xs (i + 1).toNatClampNeg), .int (xs (i + 2).toNatClampNeg), .int (xs (i + 3).toNatClampNeg), .int (xs (i + 4).toNatClampNeg)]) (rest := [.int v]) X.1 (tX1_explained C.2.1 hD) (cwV 4 hts (lw_V q2414 q2415 q2416 q105 q2417) rfl rfl rfl ⟨rfl, by decide, by decide, (by decide +kernel : (parseMethodDescriptor yX1_explained.desc).map (fun d => d.parameters.length) = some 4)⟩ ⟨Nat.le_of_ble_eq_true rfl, Nat.le_of_ble_eq_true rfl⟩) ⟨fun _ _ _ _ q => q, c_recvM X hw, fun U hU hW => ⟨rfl, by rw [hU]; exact hw.1.toM, X.go hw hU hW⟩⟩ rfl rfl hl.1 rfl (lv_room (Nat.le_of_ble_eq_true rfl)) dL_law_732 ⟨show 0 + 0 ≤ 603072 - (cells + 9000) by omega, show 0 + 0 ≤ 7186538 - (slots + 100000) by omega⟩) (fun S1 H2 locs2 m1 hw hM => ?_)
  refine W.eq (g2 := F0 m 735 ls [.int v, .int v]) rfl ?_
  refine lv_icmp_eq (pc := 735) (tgt := 1615) hx hb dL_law_735 rfl (fun _ => ?_) (fun c => absurd rfl c)
  obtain ⟨S0', c1⟩ := hP (fun s hs => (m1.1 s hs).2.1)
  exact kk _ _ ⟨σ', S1, S0', N1, ch, hw, m1, c1, hM⟩
theorem lw_c13 {p : Program} {l : Launch} {e : Env} {m : MethodId} {below : List Frame} {meth : Method} {c : Code} {H : Heap} {locs : List Loc} {cells slots : Nat} {ls : Array Slot} {G : gG} {a : Nat → Nat} {h0 : Nat} {ad : Nat → Nat} {b L : Nat} {xs : Nat → Int32} {i : Int32} (hf : l.stackTraces = false) (C : LCx G h0 ad p m meth c b L xs) (hI : LIn G a h0 ad H locs) (hl : lv_has ls 4 [(0, .ref b), (1, .ref (a 0)), (2, .ref h0), (3, .int i)]) (hi : ∀ j : Int32, 0 ≤ j → j ≤ 7 → vp_in (i + j) L) (hc : cells + 9000 ≤ 603072) (hs : slots + 100000 ≤ 7186538) (kk : ∀ (H1 : Heap) (locs1 : List Loc), LIn G a h0 ad H1 locs1 → W p l e room_1 (g0 G) m #[Value.ref b] below meth c H1 locs1 (cells + 9000) (slots + 100000) (lw_Z below #[Value.ref b] (g0 G)) (F0 m 1615 ls [])) : W p l e room_1 (g0 G) m #[Value.ref b] below meth c H locs cells slots (lw_Z below #[Value.ref b] (g0 G)) (F0 m 740 ls []) := by
  obtain ⟨σ, S, S0, N, ch, hw, m0, c0, hM⟩ := hI
  have hx := C.1.1.1
  have hb := C.1.1.2.1
  obtain ⟨v, σ', hC, hD⟩ := p_full (MC := 9000) (MS := 100000) C.2.2.1 m0 c0 (Nat.le_refl _) (Nat.le_refl _) (xs (i + 1).toNatClampNeg)
  refine lv_aload_n (pc := 740) hx hb dL_law_740 rfl (lv_at hl 1 rfl) ?_
  refine lw_ld (pc := 741) (j := 1) C hw.2 hl (hi 1 (by decide) (by decide)) dL_law_741 dL_law_742 dL_law_743 (by decide) dL_law_744 dL_law_745 ?_
  refine lw_comp (pc := 746) (val := vI) (v := v) (PN := cRs (gC G) a σ' ch) (ch := ch) (mc := 9000) (ms := 100000) (rest := []) C.1 hw hM ⟨show cells ≤ 603072 by omega, show slots ≤ 7186538 by omega⟩ (fun s X hw => by
    have hts := X.1.2.2.2.2
    exact va_runV (C := RX0) (As := [.int (xs (i + 1).toNatClampNeg)]) (rest := []) X.1 (tX0_full hf X.2.2.1 (sz := H.size) hC) (cwV 1 hts (lw_V q1615 q1616 q1617 q102 q1618) rfl rfl rfl ⟨rfl, by decide, by decide, (by decide +kernel : (parseMethodDescriptor yX0_full.desc).map (fun d => d.parameters.length) = some 1)⟩ ⟨Nat.le_of_ble_eq_true rfl, Nat.le_of_ble_eq_true rfl⟩) ⟨cPre_blind, c_recv X hw c0.1.obj rfl, fun U hU hW => ⟨rfl, X.preJ hw hU hW⟩⟩ rfl rfl hl.1 rfl (lv_room (Nat.le_of_ble_eq_true rfl)) dL_law_746 ⟨show 0 + 9000 ≤ 603072 - cells by omega, show 0 + 100000 ≤ 7186538 - slots by omega⟩) (fun N1 H1 locs1 hP hw hM => ?_)
  refine W.eq (g2 := F0 m 749 ls [.int v]) rfl ?_
  refine lv_aload_n (pc := 749) hx hb dL_law_749 rfl (lv_at hl 2 rfl) ?_
  refine lw_ld (pc := 750) (j := 1) C hw.2 hl (hi 1 (by decide) (by decide)) dL_law_750 dL_law_751 dL_law_752 (by decide) dL_law_753 dL_law_754 ?_
  refine lw_mod (pc := 755) (val := vI) (v := v) (PS' := mRs σ') (ch := ch) (rest := [.int v]) C.1 hw hM ⟨show cells + 9000 ≤ 603072 by omega, show slots + 100000 ≤ 7186538 by omega⟩ (fun s X hw => by
    have hts := X.1.2.2.2.2
    exact va_runV (C := RX1) (As := [.int (xs (i + 1).toNatClampNeg)]) (rest := [.int v]) X.1 (tX1_full C.2.1 hD) (cwV 1 hts (lw_V q2430 q2431 q2432 q105 q2433) rfl rfl rfl ⟨rfl, by decide, by decide, (by decide +kernel : (parseMethodDescriptor yX1_full.desc).map (fun d => d.parameters.length) = some 1)⟩ ⟨Nat.le_of_ble_eq_true rfl, Nat.le_of_ble_eq_true rfl⟩) ⟨fun _ _ _ _ q => q, c_recvM X hw, fun U hU hW => ⟨rfl, by rw [hU]; exact hw.1.toM, X.go hw hU hW⟩⟩ rfl rfl hl.1 rfl (lv_room (Nat.le_of_ble_eq_true rfl)) dL_law_755 ⟨show 0 + 0 ≤ 603072 - (cells + 9000) by omega, show 0 + 0 ≤ 7186538 - (slots + 100000) by omega⟩) (fun S1 H2 locs2 m1 hw hM => ?_)
  refine W.eq (g2 := F0 m 758 ls [.int v, .int v]) rfl ?_
  refine lv_icmp_eq (pc := 758) (tgt := 1615) hx hb dL_law_758 rfl (fun _ => ?_) (fun c => absurd rfl c)
  obtain ⟨S0', c1⟩ := hP (fun s hs => (m1.1 s hs).2.1)
  exact kk _ _ ⟨σ', S1, S0', N1, ch, hw, m1, c1, hM⟩
theorem lw_c14 {p : Program} {l : Launch} {e : Env} {m : MethodId} {below : List Frame} {meth : Method} {c : Code} {H : Heap} {locs : List Loc} {cells slots : Nat} {ls : Array Slot} {G : gG} {a : Nat → Nat} {h0 : Nat} {ad : Nat → Nat} {b L : Nat} {xs : Nat → Int32} {i : Int32} (hf : l.stackTraces = false) (C : LCx G h0 ad p m meth c b L xs) (hI : LIn G a h0 ad H locs) (hl : lv_has ls 4 [(0, .ref b), (1, .ref (a 0)), (2, .ref h0), (3, .int i)]) (hi : ∀ j : Int32, 0 ≤ j → j ≤ 7 → vp_in (i + j) L) (hc : cells + 9000 ≤ 603072) (hs : slots + 100000 ≤ 7186538) (kk : ∀ (H1 : Heap) (locs1 : List Loc), LIn G a h0 ad H1 locs1 → W p l e room_1 (g0 G) m #[Value.ref b] below meth c H1 locs1 (cells + 9000) (slots + 100000) (lw_Z below #[Value.ref b] (g0 G)) (F0 m 1615 ls [])) : W p l e room_1 (g0 G) m #[Value.ref b] below meth c H locs cells slots (lw_Z below #[Value.ref b] (g0 G)) (F0 m 763 ls []) := by
  obtain ⟨σ, S, S0, N, ch, hw, m0, c0, hM⟩ := hI
  have hx := C.1.1.1
  have hb := C.1.1.2.1
  obtain ⟨v, σ', hC, hD⟩ := p_met (MC := 9000) (MS := 100000) C.2.2.1 m0 c0 (Nat.le_refl _) (Nat.le_refl _) (xs (i + 1).toNatClampNeg) (xs (i + 2).toNatClampNeg) (xs (i + 3).toNatClampNeg)
  refine lv_aload_n (pc := 763) hx hb dL_law_763 rfl (lv_at hl 1 rfl) ?_
  refine lw_ld (pc := 764) (j := 1) C hw.2 hl (hi 1 (by decide) (by decide)) dL_law_764 dL_law_765 dL_law_766 (by decide) dL_law_767 dL_law_768 ?_
  refine lw_ld (pc := 769) (j := 2) C hw.2 hl (hi 2 (by decide) (by decide)) dL_law_769 dL_law_770 dL_law_771 (by decide) dL_law_772 dL_law_773 ?_
  refine lw_ld (pc := 774) (j := 3) C hw.2 hl (hi 3 (by decide) (by decide)) dL_law_774 dL_law_775 dL_law_776 (by decide) dL_law_777 dL_law_778 ?_
  refine lw_comp (pc := 779) (val := vL) (v := v) (PN := cRs (gC G) a σ' ch) (ch := ch) (mc := 9000) (ms := 100000) (rest := []) C.1 hw hM ⟨show cells ≤ 603072 by omega, show slots ≤ 7186538 by omega⟩ (fun s X hw => by
    have hts := X.1.2.2.2.2
    exact va_runV (C := RX0) (As := [.int (xs (i + 1).toNatClampNeg), .int (xs (i + 2).toNatClampNeg), .int (xs (i + 3).toNatClampNeg)]) (rest := []) X.1 (tX0_met hf X.2.2.1 (sz := H.size) hC) (cwV 3 hts (lw_V q1619 q1620 q1621 q102 q1622) rfl rfl rfl ⟨rfl, by decide, by decide, (by decide +kernel : (parseMethodDescriptor yX0_met.desc).map (fun d => d.parameters.length) = some 3)⟩ ⟨Nat.le_of_ble_eq_true rfl, Nat.le_of_ble_eq_true rfl⟩) ⟨cPre_blind, c_recv X hw c0.1.obj rfl, fun U hU hW => ⟨rfl, X.preJ hw hU hW⟩⟩ rfl rfl hl.1 rfl (lv_room (Nat.le_of_ble_eq_true rfl)) dL_law_779 ⟨show 0 + 9000 ≤ 603072 - cells by omega, show 0 + 100000 ≤ 7186538 - slots by omega⟩) (fun N1 H1 locs1 hP hw hM => ?_)
  refine W.eq (g2 := F0 m 782 ls [.long v]) rfl ?_
  refine lv_aload_n (pc := 782) hx hb dL_law_782 rfl (lv_at hl 2 rfl) ?_
  refine lw_ld (pc := 783) (j := 1) C hw.2 hl (hi 1 (by decide) (by decide)) dL_law_783 dL_law_784 dL_law_785 (by decide) dL_law_786 dL_law_787 ?_
  refine lw_ld (pc := 788) (j := 2) C hw.2 hl (hi 2 (by decide) (by decide)) dL_law_788 dL_law_789 dL_law_790 (by decide) dL_law_791 dL_law_792 ?_
  refine lw_ld (pc := 793) (j := 3) C hw.2 hl (hi 3 (by decide) (by decide)) dL_law_793 dL_law_794 dL_law_795 (by decide) dL_law_796 dL_law_797 ?_
  refine lw_mod (pc := 798) (val := vL) (v := v) (PS' := mRs σ') (ch := ch) (rest := [.long v]) C.1 hw hM ⟨show cells + 9000 ≤ 603072 by omega, show slots + 100000 ≤ 7186538 by omega⟩ (fun s X hw => by
    have hts := X.1.2.2.2.2
    exact va_runV (C := RX1) (As := [.int (xs (i + 1).toNatClampNeg), .int (xs (i + 2).toNatClampNeg), .int (xs (i + 3).toNatClampNeg)]) (rest := [.long v]) X.1 (tX1_met C.2.1 hD) (cwV 3 hts (lw_V q2434 q2435 q2436 q105 q2437) rfl rfl rfl ⟨rfl, by decide, by decide, (by decide +kernel : (parseMethodDescriptor yX1_met.desc).map (fun d => d.parameters.length) = some 3)⟩ ⟨Nat.le_of_ble_eq_true rfl, Nat.le_of_ble_eq_true rfl⟩) ⟨fun _ _ _ _ q => q, c_recvM X hw, fun U hU hW => ⟨rfl, by rw [hU]; exact hw.1.toM, X.go hw hU hW⟩⟩ rfl rfl hl.1 rfl (lv_room (Nat.le_of_ble_eq_true rfl)) dL_law_798 ⟨show 0 + 0 ≤ 603072 - (cells + 9000) by omega, show 0 + 0 ≤ 7186538 - (slots + 100000) by omega⟩) (fun S1 H2 locs2 m1 hw hM => ?_)
  refine W.eq (g2 := F0 m 801 ls [.long v, .long v]) rfl ?_
  refine W.lcmp (pc := 801) hx hb dL_law_801 ?_
  refine lv_if_eq (pc := 802) (tgt := 1615) hx hb dL_law_802 rfl (fun _ => ?_) (fun c => absurd ((lg_cmp_eq _ _).mpr rfl) c)
  obtain ⟨S0', c1⟩ := hP (fun s hs => (m1.1 s hs).2.1)
  exact kk _ _ ⟨σ', S1, S0', N1, ch, hw, m1, c1, hM⟩
theorem lw_c15 {p : Program} {l : Launch} {e : Env} {m : MethodId} {below : List Frame} {meth : Method} {c : Code} {H : Heap} {locs : List Loc} {cells slots : Nat} {ls : Array Slot} {G : gG} {a : Nat → Nat} {h0 : Nat} {ad : Nat → Nat} {b L : Nat} {xs : Nat → Int32} {i : Int32} (hf : l.stackTraces = false) (C : LCx G h0 ad p m meth c b L xs) (hI : LIn G a h0 ad H locs) (hl : lv_has ls 4 [(0, .ref b), (1, .ref (a 0)), (2, .ref h0), (3, .int i)]) (hi : ∀ j : Int32, 0 ≤ j → j ≤ 7 → vp_in (i + j) L) (hc : cells + 9000 ≤ 603072) (hs : slots + 100000 ≤ 7186538) (kk : ∀ (H1 : Heap) (locs1 : List Loc), LIn G a h0 ad H1 locs1 → W p l e room_1 (g0 G) m #[Value.ref b] below meth c H1 locs1 (cells + 9000) (slots + 100000) (lw_Z below #[Value.ref b] (g0 G)) (F0 m 1615 ls [])) : W p l e room_1 (g0 G) m #[Value.ref b] below meth c H locs cells slots (lw_Z below #[Value.ref b] (g0 G)) (F0 m 807 ls []) := by
  obtain ⟨σ, S, S0, N, ch, hw, m0, c0, hM⟩ := hI
  have hx := C.1.1.1
  have hb := C.1.1.2.1
  obtain ⟨v, σ', hC, hD⟩ := p_meets (MC := 9000) (MS := 100000) C.2.2.1 m0 c0 (Nat.le_refl _) (Nat.le_refl _) (xs (i + 1).toNatClampNeg) (xs (i + 2).toNatClampNeg) (xs (i + 3).toNatClampNeg) (xs (i + 4).toNatClampNeg)
  refine lv_aload_n (pc := 807) hx hb dL_law_807 rfl (lv_at hl 1 rfl) ?_
  refine lw_ld (pc := 808) (j := 1) C hw.2 hl (hi 1 (by decide) (by decide)) dL_law_808 dL_law_809 dL_law_810 (by decide) dL_law_811 dL_law_812 ?_
  refine lw_ld (pc := 813) (j := 2) C hw.2 hl (hi 2 (by decide) (by decide)) dL_law_813 dL_law_814 dL_law_815 (by decide) dL_law_816 dL_law_817 ?_
  refine lw_ld (pc := 818) (j := 3) C hw.2 hl (hi 3 (by decide) (by decide)) dL_law_818 dL_law_819 dL_law_820 (by decide) dL_law_821 dL_law_822 ?_
  refine lw_ld (pc := 823) (j := 4) C hw.2 hl (hi 4 (by decide) (by decide)) dL_law_823 dL_law_824 dL_law_825 (by decide) dL_law_826 dL_law_827 ?_
  refine lw_comp (pc := 828) (val := vI) (v := v) (PN := cRs (gC G) a σ' ch) (ch := ch) (mc := 9000) (ms := 100000) (rest := []) C.1 hw hM ⟨show cells ≤ 603072 by omega, show slots ≤ 7186538 by omega⟩ (fun s X hw => by
    have hts := X.1.2.2.2.2
    exact va_runV (C := RX0) (As := [.int (xs (i + 1).toNatClampNeg), .int (xs (i + 2).toNatClampNeg), .int (xs (i + 3).toNatClampNeg), .int (xs (i + 4).toNatClampNeg)]) (rest := []) X.1 (tX0_meets hf X.2.2.1 (sz := H.size) hC) (cwV 4 hts (lw_V q1623 q1624 q1625 q102 q1626) rfl rfl rfl ⟨rfl, by decide, by decide, (by decide +kernel : (parseMethodDescriptor yX0_meets.desc).map (fun d => d.parameters.length) = some 4)⟩ ⟨Nat.le_of_ble_eq_true rfl, Nat.le_of_ble_eq_true rfl⟩) ⟨cPre_blind, c_recv X hw c0.1.obj rfl, fun U hU hW => ⟨rfl, X.preJ hw hU hW⟩⟩ rfl rfl hl.1 rfl (lv_room (Nat.le_of_ble_eq_true rfl)) dL_law_828 ⟨show 0 + 9000 ≤ 603072 - cells by omega, show 0 + 100000 ≤ 7186538 - slots by omega⟩) (fun N1 H1 locs1 hP hw hM => ?_)
  refine W.eq (g2 := F0 m 831 ls [.int v]) rfl ?_
  refine lv_aload_n (pc := 831) hx hb dL_law_831 rfl (lv_at hl 2 rfl) ?_
  refine lw_ld (pc := 832) (j := 1) C hw.2 hl (hi 1 (by decide) (by decide)) dL_law_832 dL_law_833 dL_law_834 (by decide) dL_law_835 dL_law_836 ?_
  refine lw_ld (pc := 837) (j := 2) C hw.2 hl (hi 2 (by decide) (by decide)) dL_law_837 dL_law_838 dL_law_839 (by decide) dL_law_840 dL_law_841 ?_
  refine lw_ld (pc := 842) (j := 3) C hw.2 hl (hi 3 (by decide) (by decide)) dL_law_842 dL_law_843 dL_law_844 (by decide) dL_law_845 dL_law_846 ?_
  refine lw_ld (pc := 847) (j := 4) C hw.2 hl (hi 4 (by decide) (by decide)) dL_law_847 dL_law_848 dL_law_849 (by decide) dL_law_850 dL_law_851 ?_
  refine lw_mod (pc := 852) (val := vI) (v := v) (PS' := mRs σ') (ch := ch) (rest := [.int v]) C.1 hw hM ⟨show cells + 9000 ≤ 603072 by omega, show slots + 100000 ≤ 7186538 by omega⟩ (fun s X hw => by
    have hts := X.1.2.2.2.2
    exact va_runV (C := RX1) (As := [.int (xs (i + 1).toNatClampNeg), .int (xs (i + 2).toNatClampNeg), .int (xs (i + 3).toNatClampNeg), .int (xs (i + 4).toNatClampNeg)]) (rest := [.int v]) X.1 (tX1_meets C.2.1 hD) (cwV 4 hts (lw_V q2442 q2443 q2444 q105 q2445) rfl rfl rfl ⟨rfl, by decide, by decide, (by decide +kernel : (parseMethodDescriptor yX1_meets.desc).map (fun d => d.parameters.length) = some 4)⟩ ⟨Nat.le_of_ble_eq_true rfl, Nat.le_of_ble_eq_true rfl⟩) ⟨fun _ _ _ _ q => q, c_recvM X hw, fun U hU hW => ⟨rfl, by rw [hU]; exact hw.1.toM, X.go hw hU hW⟩⟩ rfl rfl hl.1 rfl (lv_room (Nat.le_of_ble_eq_true rfl)) dL_law_852 ⟨show 0 + 0 ≤ 603072 - (cells + 9000) by omega, show 0 + 0 ≤ 7186538 - (slots + 100000) by omega⟩) (fun S1 H2 locs2 m1 hw hM => ?_)
  refine W.eq (g2 := F0 m 855 ls [.int v, .int v]) rfl ?_
  refine lv_icmp_eq (pc := 855) (tgt := 1615) hx hb dL_law_855 rfl (fun _ => ?_) (fun c => absurd rfl c)
  obtain ⟨S0', c1⟩ := hP (fun s hs => (m1.1 s hs).2.1)
  exact kk _ _ ⟨σ', S1, S0', N1, ch, hw, m1, c1, hM⟩
theorem lw_c16 {p : Program} {l : Launch} {e : Env} {m : MethodId} {below : List Frame} {meth : Method} {c : Code} {H : Heap} {locs : List Loc} {cells slots : Nat} {ls : Array Slot} {G : gG} {a : Nat → Nat} {h0 : Nat} {ad : Nat → Nat} {b L : Nat} {xs : Nat → Int32} {i : Int32} (hf : l.stackTraces = false) (C : LCx G h0 ad p m meth c b L xs) (hI : LIn G a h0 ad H locs) (hl : lv_has ls 4 [(0, .ref b), (1, .ref (a 0)), (2, .ref h0), (3, .int i)]) (hi : ∀ j : Int32, 0 ≤ j → j ≤ 7 → vp_in (i + j) L) (hc : cells + 9000 ≤ 603072) (hs : slots + 100000 ≤ 7186538) (kk : ∀ (H1 : Heap) (locs1 : List Loc), LIn G a h0 ad H1 locs1 → W p l e room_1 (g0 G) m #[Value.ref b] below meth c H1 locs1 (cells + 9000) (slots + 100000) (lw_Z below #[Value.ref b] (g0 G)) (F0 m 1615 ls [])) : W p l e room_1 (g0 G) m #[Value.ref b] below meth c H locs cells slots (lw_Z below #[Value.ref b] (g0 G)) (F0 m 860 ls []) := by
  obtain ⟨σ, S, S0, N, ch, hw, m0, c0, hM⟩ := hI
  have hx := C.1.1.1
  have hb := C.1.1.2.1
  obtain ⟨v, σ', hC, hD⟩ := p_never (MC := 9000) (MS := 100000) C.2.2.1 m0 c0 (Nat.le_refl _) (Nat.le_refl _) (xs (i + 1).toNatClampNeg) (xs (i + 2).toNatClampNeg) (xs (i + 3).toNatClampNeg)
  refine lv_aload_n (pc := 860) hx hb dL_law_860 rfl (lv_at hl 1 rfl) ?_
  refine lw_ld (pc := 861) (j := 1) C hw.2 hl (hi 1 (by decide) (by decide)) dL_law_861 dL_law_862 dL_law_863 (by decide) dL_law_864 dL_law_865 ?_
  refine lw_ld (pc := 866) (j := 2) C hw.2 hl (hi 2 (by decide) (by decide)) dL_law_866 dL_law_867 dL_law_868 (by decide) dL_law_869 dL_law_870 ?_
  refine lw_ld (pc := 871) (j := 3) C hw.2 hl (hi 3 (by decide) (by decide)) dL_law_871 dL_law_872 dL_law_873 (by decide) dL_law_874 dL_law_875 ?_
  refine lw_comp (pc := 876) (val := vI) (v := v) (PN := cRs (gC G) a σ' ch) (ch := ch) (mc := 9000) (ms := 100000) (rest := []) C.1 hw hM ⟨show cells ≤ 603072 by omega, show slots ≤ 7186538 by omega⟩ (fun s X hw => by
    have hts := X.1.2.2.2.2
    exact va_runV (C := RX0) (As := [.int (xs (i + 1).toNatClampNeg), .int (xs (i + 2).toNatClampNeg), .int (xs (i + 3).toNatClampNeg)]) (rest := []) X.1 (tX0_never hf X.2.2.1 (sz := H.size) hC) (cwV 3 hts (lw_V q1634 q1635 q1636 q102 q1637) rfl rfl rfl ⟨rfl, by decide, by decide, (by decide +kernel : (parseMethodDescriptor yX0_never.desc).map (fun d => d.parameters.length) = some 3)⟩ ⟨Nat.le_of_ble_eq_true rfl, Nat.le_of_ble_eq_true rfl⟩) ⟨cPre_blind, c_recv X hw c0.1.obj rfl, fun U hU hW => ⟨rfl, X.preJ hw hU hW⟩⟩ rfl rfl hl.1 rfl (lv_room (Nat.le_of_ble_eq_true rfl)) dL_law_876 ⟨show 0 + 9000 ≤ 603072 - cells by omega, show 0 + 100000 ≤ 7186538 - slots by omega⟩) (fun N1 H1 locs1 hP hw hM => ?_)
  refine W.eq (g2 := F0 m 879 ls [.int v]) rfl ?_
  refine lv_aload_n (pc := 879) hx hb dL_law_879 rfl (lv_at hl 2 rfl) ?_
  refine lw_ld (pc := 880) (j := 1) C hw.2 hl (hi 1 (by decide) (by decide)) dL_law_880 dL_law_881 dL_law_882 (by decide) dL_law_883 dL_law_884 ?_
  refine lw_ld (pc := 885) (j := 2) C hw.2 hl (hi 2 (by decide) (by decide)) dL_law_885 dL_law_886 dL_law_887 (by decide) dL_law_888 dL_law_889 ?_
  refine lw_ld (pc := 890) (j := 3) C hw.2 hl (hi 3 (by decide) (by decide)) dL_law_890 dL_law_891 dL_law_892 (by decide) dL_law_893 dL_law_894 ?_
  refine lw_mod (pc := 895) (val := vI) (v := v) (PS' := mRs σ') (ch := ch) (rest := [.int v]) C.1 hw hM ⟨show cells + 9000 ≤ 603072 by omega, show slots + 100000 ≤ 7186538 by omega⟩ (fun s X hw => by
    have hts := X.1.2.2.2.2
    exact va_runV (C := RX1) (As := [.int (xs (i + 1).toNatClampNeg), .int (xs (i + 2).toNatClampNeg), .int (xs (i + 3).toNatClampNeg)]) (rest := [.int v]) X.1 (tX1_never C.2.1 hD) (cwV 3 hts (lw_V q2446 q2447 q2448 q105 q2449) rfl rfl rfl ⟨rfl, by decide, by decide, (by decide +kernel : (parseMethodDescriptor yX1_never.desc).map (fun d => d.parameters.length) = some 3)⟩ ⟨Nat.le_of_ble_eq_true rfl, Nat.le_of_ble_eq_true rfl⟩) ⟨fun _ _ _ _ q => q, c_recvM X hw, fun U hU hW => ⟨rfl, by rw [hU]; exact hw.1.toM, X.go hw hU hW⟩⟩ rfl rfl hl.1 rfl (lv_room (Nat.le_of_ble_eq_true rfl)) dL_law_895 ⟨show 0 + 0 ≤ 603072 - (cells + 9000) by omega, show 0 + 0 ≤ 7186538 - (slots + 100000) by omega⟩) (fun S1 H2 locs2 m1 hw hM => ?_)
  refine W.eq (g2 := F0 m 898 ls [.int v, .int v]) rfl ?_
  refine lv_icmp_eq (pc := 898) (tgt := 1615) hx hb dL_law_898 rfl (fun _ => ?_) (fun c => absurd rfl c)
  obtain ⟨S0', c1⟩ := hP (fun s hs => (m1.1 s hs).2.1)
  exact kk _ _ ⟨σ', S1, S0', N1, ch, hw, m1, c1, hM⟩
theorem lw_c17 {p : Program} {l : Launch} {e : Env} {m : MethodId} {below : List Frame} {meth : Method} {c : Code} {H : Heap} {locs : List Loc} {cells slots : Nat} {ls : Array Slot} {G : gG} {a : Nat → Nat} {h0 : Nat} {ad : Nat → Nat} {b L : Nat} {xs : Nat → Int32} {i : Int32} (hf : l.stackTraces = false) (C : LCx G h0 ad p m meth c b L xs) (hI : LIn G a h0 ad H locs) (hl : lv_has ls 4 [(0, .ref b), (1, .ref (a 0)), (2, .ref h0), (3, .int i)]) (hi : ∀ j : Int32, 0 ≤ j → j ≤ 7 → vp_in (i + j) L) (hc : cells + 9000 ≤ 603072) (hs : slots + 100000 ≤ 7186538) (kk : ∀ (H1 : Heap) (locs1 : List Loc), LIn G a h0 ad H1 locs1 → W p l e room_1 (g0 G) m #[Value.ref b] below meth c H1 locs1 (cells + 9000) (slots + 100000) (lw_Z below #[Value.ref b] (g0 G)) (F0 m 1615 ls [])) : W p l e room_1 (g0 G) m #[Value.ref b] below meth c H locs cells slots (lw_Z below #[Value.ref b] (g0 G)) (F0 m 903 ls []) := by
  obtain ⟨σ, S, S0, N, ch, hw, m0, c0, hM⟩ := hI
  have hx := C.1.1.1
  have hb := C.1.1.2.1
  obtain ⟨v, σ', hC, hD⟩ := p_bars (MC := 9000) (MS := 100000) C.2.2.1 m0 c0 (Nat.le_refl _) (Nat.le_refl _) (xs (i + 1).toNatClampNeg)
  refine lv_aload_n (pc := 903) hx hb dL_law_903 rfl (lv_at hl 1 rfl) ?_
  refine lw_ld (pc := 904) (j := 1) C hw.2 hl (hi 1 (by decide) (by decide)) dL_law_904 dL_law_905 dL_law_906 (by decide) dL_law_907 dL_law_908 ?_
  refine lw_comp (pc := 909) (val := vI) (v := v) (PN := cRs (gC G) a σ' ch) (ch := ch) (mc := 9000) (ms := 100000) (rest := []) C.1 hw hM ⟨show cells ≤ 603072 by omega, show slots ≤ 7186538 by omega⟩ (fun s X hw => by
    have hts := X.1.2.2.2.2
    exact va_runV (C := RX0) (As := [.int (xs (i + 1).toNatClampNeg)]) (rest := []) X.1 (tX0_bars hf X.2.2.1 (sz := H.size) hC) (cwV 1 hts (lw_V q1638 q1639 q1640 q102 q1641) rfl rfl rfl ⟨rfl, by decide, by decide, (by decide +kernel : (parseMethodDescriptor yX0_bars.desc).map (fun d => d.parameters.length) = some 1)⟩ ⟨Nat.le_of_ble_eq_true rfl, Nat.le_of_ble_eq_true rfl⟩) ⟨cPre_blind, c_recv X hw c0.1.obj rfl, fun U hU hW => ⟨rfl, X.preJ hw hU hW⟩⟩ rfl rfl hl.1 rfl (lv_room (Nat.le_of_ble_eq_true rfl)) dL_law_909 ⟨show 0 + 9000 ≤ 603072 - cells by omega, show 0 + 100000 ≤ 7186538 - slots by omega⟩) (fun N1 H1 locs1 hP hw hM => ?_)
  refine W.eq (g2 := F0 m 912 ls [.int v]) rfl ?_
  refine lv_aload_n (pc := 912) hx hb dL_law_912 rfl (lv_at hl 2 rfl) ?_
  refine lw_ld (pc := 913) (j := 1) C hw.2 hl (hi 1 (by decide) (by decide)) dL_law_913 dL_law_914 dL_law_915 (by decide) dL_law_916 dL_law_917 ?_
  refine lw_mod (pc := 918) (val := vI) (v := v) (PS' := mRs σ') (ch := ch) (rest := [.int v]) C.1 hw hM ⟨show cells + 9000 ≤ 603072 by omega, show slots + 100000 ≤ 7186538 by omega⟩ (fun s X hw => by
    have hts := X.1.2.2.2.2
    exact va_runV (C := RX1) (As := [.int (xs (i + 1).toNatClampNeg)]) (rest := [.int v]) X.1 (tX1_bars C.2.1 hD) (cwV 1 hts (lw_V q2450 q2451 q2452 q105 q2453) rfl rfl rfl ⟨rfl, by decide, by decide, (by decide +kernel : (parseMethodDescriptor yX1_bars.desc).map (fun d => d.parameters.length) = some 1)⟩ ⟨Nat.le_of_ble_eq_true rfl, Nat.le_of_ble_eq_true rfl⟩) ⟨fun _ _ _ _ q => q, c_recvM X hw, fun U hU hW => ⟨rfl, by rw [hU]; exact hw.1.toM, X.go hw hU hW⟩⟩ rfl rfl hl.1 rfl (lv_room (Nat.le_of_ble_eq_true rfl)) dL_law_918 ⟨show 0 + 0 ≤ 603072 - (cells + 9000) by omega, show 0 + 0 ≤ 7186538 - (slots + 100000) by omega⟩) (fun S1 H2 locs2 m1 hw hM => ?_)
  refine W.eq (g2 := F0 m 921 ls [.int v, .int v]) rfl ?_
  refine lv_icmp_eq (pc := 921) (tgt := 1615) hx hb dL_law_921 rfl (fun _ => ?_) (fun c => absurd rfl c)
  obtain ⟨S0', c1⟩ := hP (fun s hs => (m1.1 s hs).2.1)
  exact kk _ _ ⟨σ', S1, S0', N1, ch, hw, m1, c1, hM⟩
theorem lw_c18 {p : Program} {l : Launch} {e : Env} {m : MethodId} {below : List Frame} {meth : Method} {c : Code} {H : Heap} {locs : List Loc} {cells slots : Nat} {ls : Array Slot} {G : gG} {a : Nat → Nat} {h0 : Nat} {ad : Nat → Nat} {b L : Nat} {xs : Nat → Int32} {i : Int32} (hf : l.stackTraces = false) (C : LCx G h0 ad p m meth c b L xs) (hI : LIn G a h0 ad H locs) (hl : lv_has ls 4 [(0, .ref b), (1, .ref (a 0)), (2, .ref h0), (3, .int i)]) (hi : ∀ j : Int32, 0 ≤ j → j ≤ 7 → vp_in (i + j) L) (hc : cells + 9000 ≤ 603072) (hs : slots + 100000 ≤ 7186538) (kk : ∀ (H1 : Heap) (locs1 : List Loc), LIn G a h0 ad H1 locs1 → W p l e room_1 (g0 G) m #[Value.ref b] below meth c H1 locs1 (cells + 9000) (slots + 100000) (lw_Z below #[Value.ref b] (g0 G)) (F0 m 1615 ls [])) : W p l e room_1 (g0 G) m #[Value.ref b] below meth c H locs cells slots (lw_Z below #[Value.ref b] (g0 G)) (F0 m 926 ls []) := by
  obtain ⟨σ, S, S0, N, ch, hw, m0, c0, hM⟩ := hI
  have hx := C.1.1.1
  have hb := C.1.1.2.1
  by_cases hz : (xs (i + 4).toNatClampNeg) = 0
  · obtain ⟨v, σ', hC, hD⟩ := p_many (MC := 9000) (MS := 100000) C.2.2.1 m0 c0 (Nat.le_refl _) (Nat.le_refl _) (xs (i + 1).toNatClampNeg) (xs (i + 2).toNatClampNeg) (xs (i + 3).toNatClampNeg) (0 : Int32)
    refine lv_aload_n (pc := 926) hx hb dL_law_926 rfl (lv_at hl 1 rfl) ?_
    refine lw_ld (pc := 927) (j := 1) C hw.2 hl (hi 1 (by decide) (by decide)) dL_law_927 dL_law_928 dL_law_929 (by decide) dL_law_930 dL_law_931 ?_
    refine lw_ld (pc := 932) (j := 2) C hw.2 hl (hi 2 (by decide) (by decide)) dL_law_932 dL_law_933 dL_law_934 (by decide) dL_law_935 dL_law_936 ?_
    refine lw_ld (pc := 937) (j := 3) C hw.2 hl (hi 3 (by decide) (by decide)) dL_law_937 dL_law_938 dL_law_939 (by decide) dL_law_940 dL_law_941 ?_
    refine lw_ld (pc := 942) (j := 4) C hw.2 hl (hi 4 (by decide) (by decide)) dL_law_942 dL_law_943 dL_law_944 (by decide) dL_law_945 dL_law_946 ?_
    refine lv_if_eq (pc := 947) (tgt := 954) hx hb dL_law_947 rfl (fun _ => ?_) (fun c => absurd hz c)
    refine lv_iconst (pc := 954) (v := (0 : Int32)) hx hb dL_law_954 (by decide) ?_
    refine lw_comp (pc := 955) (val := vI) (v := v) (PN := cRs (gC G) a σ' ch) (ch := ch) (mc := 9000) (ms := 100000) (rest := []) C.1 hw hM ⟨show cells ≤ 603072 by omega, show slots ≤ 7186538 by omega⟩ (fun s X hw => by
      have hts := X.1.2.2.2.2
      exact va_runV (C := RX0) (As := [.int (xs (i + 1).toNatClampNeg), .int (xs (i + 2).toNatClampNeg), .int (xs (i + 3).toNatClampNeg), .int (0 : Int32)]) (rest := []) X.1 (tX0_many hf X.2.2.1 (sz := H.size) hC) (cwV 4 hts (lw_V q1643 q1644 q1645 q102 q1646) rfl rfl rfl ⟨rfl, by decide, by decide, (by decide +kernel : (parseMethodDescriptor yX0_many.desc).map (fun d => d.parameters.length) = some 4)⟩ ⟨Nat.le_of_ble_eq_true rfl, Nat.le_of_ble_eq_true rfl⟩) ⟨cPre_blind, c_recv X hw c0.1.obj rfl, fun U hU hW => ⟨rfl, X.preJ hw hU hW⟩⟩ rfl rfl hl.1 rfl (lv_room (Nat.le_of_ble_eq_true rfl)) dL_law_955 ⟨show 0 + 9000 ≤ 603072 - cells by omega, show 0 + 100000 ≤ 7186538 - slots by omega⟩) (fun N1 H1 locs1 hP hw hM => ?_)
    refine W.eq (g2 := F0 m 958 ls [.int v]) rfl ?_
    refine lv_aload_n (pc := 958) hx hb dL_law_958 rfl (lv_at hl 2 rfl) ?_
    refine lw_ld (pc := 959) (j := 1) C hw.2 hl (hi 1 (by decide) (by decide)) dL_law_959 dL_law_960 dL_law_961 (by decide) dL_law_962 dL_law_963 ?_
    refine lw_ld (pc := 964) (j := 2) C hw.2 hl (hi 2 (by decide) (by decide)) dL_law_964 dL_law_965 dL_law_966 (by decide) dL_law_967 dL_law_968 ?_
    refine lw_ld (pc := 969) (j := 3) C hw.2 hl (hi 3 (by decide) (by decide)) dL_law_969 dL_law_970 dL_law_971 (by decide) dL_law_972 dL_law_973 ?_
    refine lw_ld (pc := 974) (j := 4) C hw.2 hl (hi 4 (by decide) (by decide)) dL_law_974 dL_law_975 dL_law_976 (by decide) dL_law_977 dL_law_978 ?_
    refine lv_if_eq (pc := 979) (tgt := 986) hx hb dL_law_979 rfl (fun _ => ?_) (fun c => absurd hz c)
    refine lv_iconst (pc := 986) (v := (0 : Int32)) hx hb dL_law_986 (by decide) ?_
    refine lw_mod (pc := 987) (val := vI) (v := v) (PS' := mRs σ') (ch := ch) (rest := [.int v]) C.1 hw hM ⟨show cells + 9000 ≤ 603072 by omega, show slots + 100000 ≤ 7186538 by omega⟩ (fun s X hw => by
      have hts := X.1.2.2.2.2
      exact va_runV (C := RX1) (As := [.int (xs (i + 1).toNatClampNeg), .int (xs (i + 2).toNatClampNeg), .int (xs (i + 3).toNatClampNeg), .int (0 : Int32)]) (rest := [.int v]) X.1 (tX1_many C.2.1 hD) (cwV 4 hts (lw_V q2455 q2456 q2457 q105 q2458) rfl rfl rfl ⟨rfl, by decide, by decide, (by decide +kernel : (parseMethodDescriptor yX1_many.desc).map (fun d => d.parameters.length) = some 4)⟩ ⟨Nat.le_of_ble_eq_true rfl, Nat.le_of_ble_eq_true rfl⟩) ⟨fun _ _ _ _ q => q, c_recvM X hw, fun U hU hW => ⟨rfl, by rw [hU]; exact hw.1.toM, X.go hw hU hW⟩⟩ rfl rfl hl.1 rfl (lv_room (Nat.le_of_ble_eq_true rfl)) dL_law_987 ⟨show 0 + 0 ≤ 603072 - (cells + 9000) by omega, show 0 + 0 ≤ 7186538 - (slots + 100000) by omega⟩) (fun S1 H2 locs2 m1 hw hM => ?_)
    refine W.eq (g2 := F0 m 990 ls [.int v, .int v]) rfl ?_
    refine lv_icmp_eq (pc := 990) (tgt := 1615) hx hb dL_law_990 rfl (fun _ => ?_) (fun c => absurd rfl c)
    obtain ⟨S0', c1⟩ := hP (fun s hs => (m1.1 s hs).2.1)
    exact kk _ _ ⟨σ', S1, S0', N1, ch, hw, m1, c1, hM⟩
  · obtain ⟨v, σ', hC, hD⟩ := p_many (MC := 9000) (MS := 100000) C.2.2.1 m0 c0 (Nat.le_refl _) (Nat.le_refl _) (xs (i + 1).toNatClampNeg) (xs (i + 2).toNatClampNeg) (xs (i + 3).toNatClampNeg) (1 : Int32)
    refine lv_aload_n (pc := 926) hx hb dL_law_926 rfl (lv_at hl 1 rfl) ?_
    refine lw_ld (pc := 927) (j := 1) C hw.2 hl (hi 1 (by decide) (by decide)) dL_law_927 dL_law_928 dL_law_929 (by decide) dL_law_930 dL_law_931 ?_
    refine lw_ld (pc := 932) (j := 2) C hw.2 hl (hi 2 (by decide) (by decide)) dL_law_932 dL_law_933 dL_law_934 (by decide) dL_law_935 dL_law_936 ?_
    refine lw_ld (pc := 937) (j := 3) C hw.2 hl (hi 3 (by decide) (by decide)) dL_law_937 dL_law_938 dL_law_939 (by decide) dL_law_940 dL_law_941 ?_
    refine lw_ld (pc := 942) (j := 4) C hw.2 hl (hi 4 (by decide) (by decide)) dL_law_942 dL_law_943 dL_law_944 (by decide) dL_law_945 dL_law_946 ?_
    refine lv_if_eq (pc := 947) (tgt := 954) hx hb dL_law_947 rfl (fun c => absurd c hz) (fun _ => ?_)
    refine lv_iconst (pc := 950) (v := (1 : Int32)) hx hb dL_law_950 (by decide) ?_
    refine lv_goto (pc := 951) (tgt := 955) hx hb dL_law_951 rfl ?_
    refine lw_comp (pc := 955) (val := vI) (v := v) (PN := cRs (gC G) a σ' ch) (ch := ch) (mc := 9000) (ms := 100000) (rest := []) C.1 hw hM ⟨show cells ≤ 603072 by omega, show slots ≤ 7186538 by omega⟩ (fun s X hw => by
      have hts := X.1.2.2.2.2
      exact va_runV (C := RX0) (As := [.int (xs (i + 1).toNatClampNeg), .int (xs (i + 2).toNatClampNeg), .int (xs (i + 3).toNatClampNeg), .int (1 : Int32)]) (rest := []) X.1 (tX0_many hf X.2.2.1 (sz := H.size) hC) (cwV 4 hts (lw_V q1643 q1644 q1645 q102 q1646) rfl rfl rfl ⟨rfl, by decide, by decide, (by decide +kernel : (parseMethodDescriptor yX0_many.desc).map (fun d => d.parameters.length) = some 4)⟩ ⟨Nat.le_of_ble_eq_true rfl, Nat.le_of_ble_eq_true rfl⟩) ⟨cPre_blind, c_recv X hw c0.1.obj rfl, fun U hU hW => ⟨rfl, X.preJ hw hU hW⟩⟩ rfl rfl hl.1 rfl (lv_room (Nat.le_of_ble_eq_true rfl)) dL_law_955 ⟨show 0 + 9000 ≤ 603072 - cells by omega, show 0 + 100000 ≤ 7186538 - slots by omega⟩) (fun N1 H1 locs1 hP hw hM => ?_)
    refine W.eq (g2 := F0 m 958 ls [.int v]) rfl ?_
    refine lv_aload_n (pc := 958) hx hb dL_law_958 rfl (lv_at hl 2 rfl) ?_
    refine lw_ld (pc := 959) (j := 1) C hw.2 hl (hi 1 (by decide) (by decide)) dL_law_959 dL_law_960 dL_law_961 (by decide) dL_law_962 dL_law_963 ?_
    refine lw_ld (pc := 964) (j := 2) C hw.2 hl (hi 2 (by decide) (by decide)) dL_law_964 dL_law_965 dL_law_966 (by decide) dL_law_967 dL_law_968 ?_
    refine lw_ld (pc := 969) (j := 3) C hw.2 hl (hi 3 (by decide) (by decide)) dL_law_969 dL_law_970 dL_law_971 (by decide) dL_law_972 dL_law_973 ?_
    refine lw_ld (pc := 974) (j := 4) C hw.2 hl (hi 4 (by decide) (by decide)) dL_law_974 dL_law_975 dL_law_976 (by decide) dL_law_977 dL_law_978 ?_
    refine lv_if_eq (pc := 979) (tgt := 986) hx hb dL_law_979 rfl (fun c => absurd c hz) (fun _ => ?_)
    refine lv_iconst (pc := 982) (v := (1 : Int32)) hx hb dL_law_982 (by decide) ?_
    refine lv_goto (pc := 983) (tgt := 987) hx hb dL_law_983 rfl ?_
    refine lw_mod (pc := 987) (val := vI) (v := v) (PS' := mRs σ') (ch := ch) (rest := [.int v]) C.1 hw hM ⟨show cells + 9000 ≤ 603072 by omega, show slots + 100000 ≤ 7186538 by omega⟩ (fun s X hw => by
      have hts := X.1.2.2.2.2
      exact va_runV (C := RX1) (As := [.int (xs (i + 1).toNatClampNeg), .int (xs (i + 2).toNatClampNeg), .int (xs (i + 3).toNatClampNeg), .int (1 : Int32)]) (rest := [.int v]) X.1 (tX1_many C.2.1 hD) (cwV 4 hts (lw_V q2455 q2456 q2457 q105 q2458) rfl rfl rfl ⟨rfl, by decide, by decide, (by decide +kernel : (parseMethodDescriptor yX1_many.desc).map (fun d => d.parameters.length) = some 4)⟩ ⟨Nat.le_of_ble_eq_true rfl, Nat.le_of_ble_eq_true rfl⟩) ⟨fun _ _ _ _ q => q, c_recvM X hw, fun U hU hW => ⟨rfl, by rw [hU]; exact hw.1.toM, X.go hw hU hW⟩⟩ rfl rfl hl.1 rfl (lv_room (Nat.le_of_ble_eq_true rfl)) dL_law_987 ⟨show 0 + 0 ≤ 603072 - (cells + 9000) by omega, show 0 + 0 ≤ 7186538 - (slots + 100000) by omega⟩) (fun S1 H2 locs2 m1 hw hM => ?_)
    refine W.eq (g2 := F0 m 990 ls [.int v, .int v]) rfl ?_
    refine lv_icmp_eq (pc := 990) (tgt := 1615) hx hb dL_law_990 rfl (fun _ => ?_) (fun c => absurd rfl c)
    obtain ⟨S0', c1⟩ := hP (fun s hs => (m1.1 s hs).2.1)
    exact kk _ _ ⟨σ', S1, S0', N1, ch, hw, m1, c1, hM⟩
theorem lw_c19 {p : Program} {l : Launch} {e : Env} {m : MethodId} {below : List Frame} {meth : Method} {c : Code} {H : Heap} {locs : List Loc} {cells slots : Nat} {ls : Array Slot} {G : gG} {a : Nat → Nat} {h0 : Nat} {ad : Nat → Nat} {b L : Nat} {xs : Nat → Int32} {i : Int32} (hf : l.stackTraces = false) (C : LCx G h0 ad p m meth c b L xs) (hI : LIn G a h0 ad H locs) (hl : lv_has ls 4 [(0, .ref b), (1, .ref (a 0)), (2, .ref h0), (3, .int i)]) (hi : ∀ j : Int32, 0 ≤ j → j ≤ 7 → vp_in (i + j) L) (hc : cells + 9000 ≤ 603072) (hs : slots + 100000 ≤ 7186538) (kk : ∀ (H1 : Heap) (locs1 : List Loc), LIn G a h0 ad H1 locs1 → W p l e room_1 (g0 G) m #[Value.ref b] below meth c H1 locs1 (cells + 9000) (slots + 100000) (lw_Z below #[Value.ref b] (g0 G)) (F0 m 1615 ls [])) : W p l e room_1 (g0 G) m #[Value.ref b] below meth c H locs cells slots (lw_Z below #[Value.ref b] (g0 G)) (F0 m 995 ls []) := by
  obtain ⟨σ, S, S0, N, ch, hw, m0, c0, hM⟩ := hI
  have hx := C.1.1.1
  have hb := C.1.1.2.1
  obtain ⟨v, σ', hC, hD⟩ := p_greed (MC := 9000) (MS := 100000) C.2.2.1 m0 c0 (Nat.le_refl _) (Nat.le_refl _) (xs (i + 1).toNatClampNeg) (xs (i + 2).toNatClampNeg) (xs (i + 3).toNatClampNeg)
  refine lv_aload_n (pc := 995) hx hb dL_law_995 rfl (lv_at hl 1 rfl) ?_
  refine lw_ld (pc := 996) (j := 1) C hw.2 hl (hi 1 (by decide) (by decide)) dL_law_996 dL_law_997 dL_law_998 (by decide) dL_law_999 dL_law_1000 ?_
  refine lw_ld (pc := 1001) (j := 2) C hw.2 hl (hi 2 (by decide) (by decide)) dL_law_1001 dL_law_1002 dL_law_1003 (by decide) dL_law_1004 dL_law_1005 ?_
  refine lw_ld (pc := 1006) (j := 3) C hw.2 hl (hi 3 (by decide) (by decide)) dL_law_1006 dL_law_1007 dL_law_1008 (by decide) dL_law_1009 dL_law_1010 ?_
  refine lw_comp (pc := 1011) (val := vI) (v := v) (PN := cRs (gC G) a σ' ch) (ch := ch) (mc := 9000) (ms := 100000) (rest := []) C.1 hw hM ⟨show cells ≤ 603072 by omega, show slots ≤ 7186538 by omega⟩ (fun s X hw => by
    have hts := X.1.2.2.2.2
    exact va_runV (C := RX0) (As := [.int (xs (i + 1).toNatClampNeg), .int (xs (i + 2).toNatClampNeg), .int (xs (i + 3).toNatClampNeg)]) (rest := []) X.1 (tX0_greed hf X.2.2.1 (sz := H.size) hC) (cwV 3 hts (lw_V q1648 q1649 q1650 q102 q1651) rfl rfl rfl ⟨rfl, by decide, by decide, (by decide +kernel : (parseMethodDescriptor yX0_greed.desc).map (fun d => d.parameters.length) = some 3)⟩ ⟨Nat.le_of_ble_eq_true rfl, Nat.le_of_ble_eq_true rfl⟩) ⟨cPre_blind, c_recv X hw c0.1.obj rfl, fun U hU hW => ⟨rfl, X.preJ hw hU hW⟩⟩ rfl rfl hl.1 rfl (lv_room (Nat.le_of_ble_eq_true rfl)) dL_law_1011 ⟨show 0 + 9000 ≤ 603072 - cells by omega, show 0 + 100000 ≤ 7186538 - slots by omega⟩) (fun N1 H1 locs1 hP hw hM => ?_)
  refine W.eq (g2 := F0 m 1014 ls [.int v]) rfl ?_
  refine lv_aload_n (pc := 1014) hx hb dL_law_1014 rfl (lv_at hl 2 rfl) ?_
  refine lw_ld (pc := 1015) (j := 1) C hw.2 hl (hi 1 (by decide) (by decide)) dL_law_1015 dL_law_1016 dL_law_1017 (by decide) dL_law_1018 dL_law_1019 ?_
  refine lw_ld (pc := 1020) (j := 2) C hw.2 hl (hi 2 (by decide) (by decide)) dL_law_1020 dL_law_1021 dL_law_1022 (by decide) dL_law_1023 dL_law_1024 ?_
  refine lw_ld (pc := 1025) (j := 3) C hw.2 hl (hi 3 (by decide) (by decide)) dL_law_1025 dL_law_1026 dL_law_1027 (by decide) dL_law_1028 dL_law_1029 ?_
  refine lw_mod (pc := 1030) (val := vI) (v := v) (PS' := mRs σ') (ch := ch) (rest := [.int v]) C.1 hw hM ⟨show cells + 9000 ≤ 603072 by omega, show slots + 100000 ≤ 7186538 by omega⟩ (fun s X hw => by
    have hts := X.1.2.2.2.2
    exact va_runV (C := RX1) (As := [.int (xs (i + 1).toNatClampNeg), .int (xs (i + 2).toNatClampNeg), .int (xs (i + 3).toNatClampNeg)]) (rest := [.int v]) X.1 (tX1_greed C.2.1 hD) (cwV 3 hts (lw_V q2460 q2461 q2462 q105 q2463) rfl rfl rfl ⟨rfl, by decide, by decide, (by decide +kernel : (parseMethodDescriptor yX1_greed.desc).map (fun d => d.parameters.length) = some 3)⟩ ⟨Nat.le_of_ble_eq_true rfl, Nat.le_of_ble_eq_true rfl⟩) ⟨fun _ _ _ _ q => q, c_recvM X hw, fun U hU hW => ⟨rfl, by rw [hU]; exact hw.1.toM, X.go hw hU hW⟩⟩ rfl rfl hl.1 rfl (lv_room (Nat.le_of_ble_eq_true rfl)) dL_law_1030 ⟨show 0 + 0 ≤ 603072 - (cells + 9000) by omega, show 0 + 0 ≤ 7186538 - (slots + 100000) by omega⟩) (fun S1 H2 locs2 m1 hw hM => ?_)
  refine W.eq (g2 := F0 m 1033 ls [.int v, .int v]) rfl ?_
  refine lv_icmp_eq (pc := 1033) (tgt := 1615) hx hb dL_law_1033 rfl (fun _ => ?_) (fun c => absurd rfl c)
  obtain ⟨S0', c1⟩ := hP (fun s hs => (m1.1 s hs).2.1)
  exact kk _ _ ⟨σ', S1, S0', N1, ch, hw, m1, c1, hM⟩
theorem lw_c20 {p : Program} {l : Launch} {e : Env} {m : MethodId} {below : List Frame} {meth : Method} {c : Code} {H : Heap} {locs : List Loc} {cells slots : Nat} {ls : Array Slot} {G : gG} {a : Nat → Nat} {h0 : Nat} {ad : Nat → Nat} {b L : Nat} {xs : Nat → Int32} {i : Int32} (hf : l.stackTraces = false) (C : LCx G h0 ad p m meth c b L xs) (hI : LIn G a h0 ad H locs) (hl : lv_has ls 4 [(0, .ref b), (1, .ref (a 0)), (2, .ref h0), (3, .int i)]) (hi : ∀ j : Int32, 0 ≤ j → j ≤ 7 → vp_in (i + j) L) (hc : cells + 9000 ≤ 603072) (hs : slots + 100000 ≤ 7186538) (kk : ∀ (H1 : Heap) (locs1 : List Loc), LIn G a h0 ad H1 locs1 → W p l e room_1 (g0 G) m #[Value.ref b] below meth c H1 locs1 (cells + 9000) (slots + 100000) (lw_Z below #[Value.ref b] (g0 G)) (F0 m 1615 ls [])) : W p l e room_1 (g0 G) m #[Value.ref b] below meth c H locs cells slots (lw_Z below #[Value.ref b] (g0 G)) (F0 m 1038 ls []) := by
  obtain ⟨σ, S, S0, N, ch, hw, m0, c0, hM⟩ := hI
  have hx := C.1.1.1
  have hb := C.1.1.2.1
  obtain ⟨v, σ', hC, hD⟩ := p_nearest (MC := 9000) (MS := 100000) C.2.2.1 m0 c0 (Nat.le_refl _) (Nat.le_refl _) (xs (i + 1).toNatClampNeg) (xs (i + 2).toNatClampNeg)
  refine lv_aload_n (pc := 1038) hx hb dL_law_1038 rfl (lv_at hl 1 rfl) ?_
  refine lw_ld (pc := 1039) (j := 1) C hw.2 hl (hi 1 (by decide) (by decide)) dL_law_1039 dL_law_1040 dL_law_1041 (by decide) dL_law_1042 dL_law_1043 ?_
  refine lw_ld (pc := 1044) (j := 2) C hw.2 hl (hi 2 (by decide) (by decide)) dL_law_1044 dL_law_1045 dL_law_1046 (by decide) dL_law_1047 dL_law_1048 ?_
  refine lw_comp (pc := 1049) (val := vI) (v := v) (PN := cRs (gC G) a σ' ch) (ch := ch) (mc := 9000) (ms := 100000) (rest := []) C.1 hw hM ⟨show cells ≤ 603072 by omega, show slots ≤ 7186538 by omega⟩ (fun s X hw => by
    have hts := X.1.2.2.2.2
    exact va_runV (C := RX0) (As := [.int (xs (i + 1).toNatClampNeg), .int (xs (i + 2).toNatClampNeg)]) (rest := []) X.1 (tX0_nearest hf X.2.2.1 (sz := H.size) hC) (cwV 2 hts (lw_V q1655 q1656 q1657 q102 q1658) rfl rfl rfl ⟨rfl, by decide, by decide, (by decide +kernel : (parseMethodDescriptor yX0_nearest.desc).map (fun d => d.parameters.length) = some 2)⟩ ⟨Nat.le_of_ble_eq_true rfl, Nat.le_of_ble_eq_true rfl⟩) ⟨cPre_blind, c_recv X hw c0.1.obj rfl, fun U hU hW => ⟨rfl, X.preJ hw hU hW⟩⟩ rfl rfl hl.1 rfl (lv_room (Nat.le_of_ble_eq_true rfl)) dL_law_1049 ⟨show 0 + 9000 ≤ 603072 - cells by omega, show 0 + 100000 ≤ 7186538 - slots by omega⟩) (fun N1 H1 locs1 hP hw hM => ?_)
  refine W.eq (g2 := F0 m 1052 ls [.int v]) rfl ?_
  refine lv_aload_n (pc := 1052) hx hb dL_law_1052 rfl (lv_at hl 2 rfl) ?_
  refine lw_ld (pc := 1053) (j := 1) C hw.2 hl (hi 1 (by decide) (by decide)) dL_law_1053 dL_law_1054 dL_law_1055 (by decide) dL_law_1056 dL_law_1057 ?_
  refine lw_ld (pc := 1058) (j := 2) C hw.2 hl (hi 2 (by decide) (by decide)) dL_law_1058 dL_law_1059 dL_law_1060 (by decide) dL_law_1061 dL_law_1062 ?_
  refine lw_mod (pc := 1063) (val := vI) (v := v) (PS' := mRs σ') (ch := ch) (rest := [.int v]) C.1 hw hM ⟨show cells + 9000 ≤ 603072 by omega, show slots + 100000 ≤ 7186538 by omega⟩ (fun s X hw => by
    have hts := X.1.2.2.2.2
    exact va_runV (C := RX1) (As := [.int (xs (i + 1).toNatClampNeg), .int (xs (i + 2).toNatClampNeg)]) (rest := [.int v]) X.1 (tX1_nearest C.2.1 hD) (cwV 2 hts (lw_V q2464 q2465 q2466 q105 q2467) rfl rfl rfl ⟨rfl, by decide, by decide, (by decide +kernel : (parseMethodDescriptor yX1_nearest.desc).map (fun d => d.parameters.length) = some 2)⟩ ⟨Nat.le_of_ble_eq_true rfl, Nat.le_of_ble_eq_true rfl⟩) ⟨fun _ _ _ _ q => q, c_recvM X hw, fun U hU hW => ⟨rfl, by rw [hU]; exact hw.1.toM, X.go hw hU hW⟩⟩ rfl rfl hl.1 rfl (lv_room (Nat.le_of_ble_eq_true rfl)) dL_law_1063 ⟨show 0 + 0 ≤ 603072 - (cells + 9000) by omega, show 0 + 0 ≤ 7186538 - (slots + 100000) by omega⟩) (fun S1 H2 locs2 m1 hw hM => ?_)
  refine W.eq (g2 := F0 m 1066 ls [.int v, .int v]) rfl ?_
  refine lv_icmp_eq (pc := 1066) (tgt := 1615) hx hb dL_law_1066 rfl (fun _ => ?_) (fun c => absurd rfl c)
  obtain ⟨S0', c1⟩ := hP (fun s hs => (m1.1 s hs).2.1)
  exact kk _ _ ⟨σ', S1, S0', N1, ch, hw, m1, c1, hM⟩
theorem lw_c21 {p : Program} {l : Launch} {e : Env} {m : MethodId} {below : List Frame} {meth : Method} {c : Code} {H : Heap} {locs : List Loc} {cells slots : Nat} {ls : Array Slot} {G : gG} {a : Nat → Nat} {h0 : Nat} {ad : Nat → Nat} {b L : Nat} {xs : Nat → Int32} {i : Int32} (hf : l.stackTraces = false) (C : LCx G h0 ad p m meth c b L xs) (hI : LIn G a h0 ad H locs) (hl : lv_has ls 4 [(0, .ref b), (1, .ref (a 0)), (2, .ref h0), (3, .int i)]) (hi : ∀ j : Int32, 0 ≤ j → j ≤ 7 → vp_in (i + j) L) (hc : cells + 9000 ≤ 603072) (hs : slots + 100000 ≤ 7186538) (kk : ∀ (H1 : Heap) (locs1 : List Loc), LIn G a h0 ad H1 locs1 → W p l e room_1 (g0 G) m #[Value.ref b] below meth c H1 locs1 (cells + 9000) (slots + 100000) (lw_Z below #[Value.ref b] (g0 G)) (F0 m 1615 ls [])) : W p l e room_1 (g0 G) m #[Value.ref b] below meth c H locs cells slots (lw_Z below #[Value.ref b] (g0 G)) (F0 m 1071 ls []) := by
  obtain ⟨σ, S, S0, N, ch, hw, m0, c0, hM⟩ := hI
  have hx := C.1.1.1
  have hb := C.1.1.2.1
  obtain ⟨v, σ', hC, hD⟩ := p_enough (MC := 9000) (MS := 100000) C.2.2.1 m0 c0 (Nat.le_refl _) (Nat.le_refl _) (xs (i + 1).toNatClampNeg) (xs (i + 2).toNatClampNeg)
  refine lv_aload_n (pc := 1071) hx hb dL_law_1071 rfl (lv_at hl 1 rfl) ?_
  refine lw_ld (pc := 1072) (j := 1) C hw.2 hl (hi 1 (by decide) (by decide)) dL_law_1072 dL_law_1073 dL_law_1074 (by decide) dL_law_1075 dL_law_1076 ?_
  refine lw_ld (pc := 1077) (j := 2) C hw.2 hl (hi 2 (by decide) (by decide)) dL_law_1077 dL_law_1078 dL_law_1079 (by decide) dL_law_1080 dL_law_1081 ?_
  refine lw_comp (pc := 1082) (val := vI) (v := v) (PN := cRs (gC G) a σ' ch) (ch := ch) (mc := 9000) (ms := 100000) (rest := []) C.1 hw hM ⟨show cells ≤ 603072 by omega, show slots ≤ 7186538 by omega⟩ (fun s X hw => by
    have hts := X.1.2.2.2.2
    exact va_runV (C := RX0) (As := [.int (xs (i + 1).toNatClampNeg), .int (xs (i + 2).toNatClampNeg)]) (rest := []) X.1 (tX0_enough hf X.2.2.1 (sz := H.size) hC) (cwV 2 hts (lw_V q1756 q1757 q1758 q102 q1759) rfl rfl rfl ⟨rfl, by decide, by decide, (by decide +kernel : (parseMethodDescriptor yX0_enough.desc).map (fun d => d.parameters.length) = some 2)⟩ ⟨Nat.le_of_ble_eq_true rfl, Nat.le_of_ble_eq_true rfl⟩) ⟨cPre_blind, c_recv X hw c0.1.obj rfl, fun U hU hW => ⟨rfl, X.preJ hw hU hW⟩⟩ rfl rfl hl.1 rfl (lv_room (Nat.le_of_ble_eq_true rfl)) dL_law_1082 ⟨show 0 + 9000 ≤ 603072 - cells by omega, show 0 + 100000 ≤ 7186538 - slots by omega⟩) (fun N1 H1 locs1 hP hw hM => ?_)
  refine W.eq (g2 := F0 m 1085 ls [.int v]) rfl ?_
  refine lv_aload_n (pc := 1085) hx hb dL_law_1085 rfl (lv_at hl 2 rfl) ?_
  refine lw_ld (pc := 1086) (j := 1) C hw.2 hl (hi 1 (by decide) (by decide)) dL_law_1086 dL_law_1087 dL_law_1088 (by decide) dL_law_1089 dL_law_1090 ?_
  refine lw_ld (pc := 1091) (j := 2) C hw.2 hl (hi 2 (by decide) (by decide)) dL_law_1091 dL_law_1092 dL_law_1093 (by decide) dL_law_1094 dL_law_1095 ?_
  refine lw_mod (pc := 1096) (val := vI) (v := v) (PS' := mRs σ') (ch := ch) (rest := [.int v]) C.1 hw hM ⟨show cells + 9000 ≤ 603072 by omega, show slots + 100000 ≤ 7186538 by omega⟩ (fun s X hw => by
    have hts := X.1.2.2.2.2
    exact va_runV (C := RX1) (As := [.int (xs (i + 1).toNatClampNeg), .int (xs (i + 2).toNatClampNeg)]) (rest := [.int v]) X.1 (tX1_enough C.2.1 hD) (cwV 2 hts (lw_V q2468 q2469 q2470 q105 q2471) rfl rfl rfl ⟨rfl, by decide, by decide, (by decide +kernel : (parseMethodDescriptor yX1_enough.desc).map (fun d => d.parameters.length) = some 2)⟩ ⟨Nat.le_of_ble_eq_true rfl, Nat.le_of_ble_eq_true rfl⟩) ⟨fun _ _ _ _ q => q, c_recvM X hw, fun U hU hW => ⟨rfl, by rw [hU]; exact hw.1.toM, X.go hw hU hW⟩⟩ rfl rfl hl.1 rfl (lv_room (Nat.le_of_ble_eq_true rfl)) dL_law_1096 ⟨show 0 + 0 ≤ 603072 - (cells + 9000) by omega, show 0 + 0 ≤ 7186538 - (slots + 100000) by omega⟩) (fun S1 H2 locs2 m1 hw hM => ?_)
  refine W.eq (g2 := F0 m 1099 ls [.int v, .int v]) rfl ?_
  refine lv_icmp_eq (pc := 1099) (tgt := 1615) hx hb dL_law_1099 rfl (fun _ => ?_) (fun c => absurd rfl c)
  obtain ⟨S0', c1⟩ := hP (fun s hs => (m1.1 s hs).2.1)
  exact kk _ _ ⟨σ', S1, S0', N1, ch, hw, m1, c1, hM⟩
theorem lw_c22 {p : Program} {l : Launch} {e : Env} {m : MethodId} {below : List Frame} {meth : Method} {c : Code} {H : Heap} {locs : List Loc} {cells slots : Nat} {ls : Array Slot} {G : gG} {a : Nat → Nat} {h0 : Nat} {ad : Nat → Nat} {b L : Nat} {xs : Nat → Int32} {i : Int32} (hf : l.stackTraces = false) (C : LCx G h0 ad p m meth c b L xs) (hI : LIn G a h0 ad H locs) (hl : lv_has ls 4 [(0, .ref b), (1, .ref (a 0)), (2, .ref h0), (3, .int i)]) (hi : ∀ j : Int32, 0 ≤ j → j ≤ 7 → vp_in (i + j) L) (hc : cells + 9000 ≤ 603072) (hs : slots + 100000 ≤ 7186538) (kk : ∀ (H1 : Heap) (locs1 : List Loc), LIn G a h0 ad H1 locs1 → W p l e room_1 (g0 G) m #[Value.ref b] below meth c H1 locs1 (cells + 9000) (slots + 100000) (lw_Z below #[Value.ref b] (g0 G)) (F0 m 1615 ls [])) : W p l e room_1 (g0 G) m #[Value.ref b] below meth c H locs cells slots (lw_Z below #[Value.ref b] (g0 G)) (F0 m 1104 ls []) := by
  obtain ⟨σ, S, S0, N, ch, hw, m0, c0, hM⟩ := hI
  have hx := C.1.1.1
  have hb := C.1.1.2.1
  obtain ⟨v, σ', hC, hD⟩ := p_join (MC := 9000) (MS := 100000) m0 c0 (Nat.le_refl _) (Nat.le_refl _) (xs (i + 1).toNatClampNeg) (xs (i + 2).toNatClampNeg) (xs (i + 3).toNatClampNeg)
  refine lv_aload_n (pc := 1104) hx hb dL_law_1104 rfl (lv_at hl 1 rfl) ?_
  refine lw_ld (pc := 1105) (j := 1) C hw.2 hl (hi 1 (by decide) (by decide)) dL_law_1105 dL_law_1106 dL_law_1107 (by decide) dL_law_1108 dL_law_1109 ?_
  refine lw_ld (pc := 1110) (j := 2) C hw.2 hl (hi 2 (by decide) (by decide)) dL_law_1110 dL_law_1111 dL_law_1112 (by decide) dL_law_1113 dL_law_1114 ?_
  refine lw_ld (pc := 1115) (j := 3) C hw.2 hl (hi 3 (by decide) (by decide)) dL_law_1115 dL_law_1116 dL_law_1117 (by decide) dL_law_1118 dL_law_1119 ?_
  refine lw_comp (pc := 1120) (val := vI) (v := v) (PN := cRs (gC G) a σ' ch) (ch := ch) (mc := 9000) (ms := 100000) (rest := []) C.1 hw hM ⟨show cells ≤ 603072 by omega, show slots ≤ 7186538 by omega⟩ (fun s X hw => by
    have hts := X.1.2.2.2.2
    exact vx_runVW (C := RX0) (As := [.int (xs (i + 1).toNatClampNeg), .int (xs (i + 2).toNatClampNeg), .int (xs (i + 3).toNatClampNeg)]) (rest := []) X.1 (tX0_join hf X.2.2.1 (sz := H.size) hC) (vx_cwVW 3 hts (lw_VW q1760 q1761 q1762 q102 q1763) rfl rfl rfl ⟨rfl, by decide, by decide, (by decide +kernel : (parseMethodDescriptor yX0_join.desc).map (fun d => d.parameters.length) = some 3)⟩ ⟨Nat.le_of_ble_eq_true rfl, Nat.le_of_ble_eq_true rfl⟩) ⟨cPre_blind, c_recv X hw c0.1.obj rfl, fun U hU hW => ⟨rfl, X.preJ hw hU hW⟩⟩ rfl rfl hl.1 rfl (lv_room (Nat.le_of_ble_eq_true rfl)) dL_law_1120 ⟨show 0 + 9000 ≤ 603072 - cells by omega, show 0 + 100000 ≤ 7186538 - slots by omega⟩) (fun N1 H1 locs1 hP hw hM => ?_)
  refine W.eq (g2 := F0 m 1123 ls [.int v]) rfl ?_
  refine lv_aload_n (pc := 1123) hx hb dL_law_1123 rfl (lv_at hl 2 rfl) ?_
  refine lw_ld (pc := 1124) (j := 1) C hw.2 hl (hi 1 (by decide) (by decide)) dL_law_1124 dL_law_1125 dL_law_1126 (by decide) dL_law_1127 dL_law_1128 ?_
  refine lw_ld (pc := 1129) (j := 2) C hw.2 hl (hi 2 (by decide) (by decide)) dL_law_1129 dL_law_1130 dL_law_1131 (by decide) dL_law_1132 dL_law_1133 ?_
  refine lw_ld (pc := 1134) (j := 3) C hw.2 hl (hi 3 (by decide) (by decide)) dL_law_1134 dL_law_1135 dL_law_1136 (by decide) dL_law_1137 dL_law_1138 ?_
  refine lw_mod (pc := 1139) (val := vI) (v := v) (PS' := mRs σ') (ch := ch) (rest := [.int v]) C.1 hw hM ⟨show cells + 9000 ≤ 603072 by omega, show slots + 100000 ≤ 7186538 by omega⟩ (fun s X hw => by
    have hts := X.1.2.2.2.2
    exact va_runV (C := RX1) (As := [.int (xs (i + 1).toNatClampNeg), .int (xs (i + 2).toNatClampNeg), .int (xs (i + 3).toNatClampNeg)]) (rest := [.int v]) X.1 (tX1_join C.2.1 hD) (cwV 3 hts (lw_V q2472 q2473 q2474 q105 q2475) rfl rfl rfl ⟨rfl, by decide, by decide, (by decide +kernel : (parseMethodDescriptor yX1_join.desc).map (fun d => d.parameters.length) = some 3)⟩ ⟨Nat.le_of_ble_eq_true rfl, Nat.le_of_ble_eq_true rfl⟩) ⟨fun _ _ _ _ q => q, c_recvM X hw, fun U hU hW => ⟨rfl, by rw [hU]; exact hw.1.toM, X.go hw hU hW⟩⟩ rfl rfl hl.1 rfl (lv_room (Nat.le_of_ble_eq_true rfl)) dL_law_1139 ⟨show 0 + 0 ≤ 603072 - (cells + 9000) by omega, show 0 + 0 ≤ 7186538 - (slots + 100000) by omega⟩) (fun S1 H2 locs2 m1 hw hM => ?_)
  refine W.eq (g2 := F0 m 1142 ls [.int v, .int v]) rfl ?_
  refine lv_icmp_eq (pc := 1142) (tgt := 1615) hx hb dL_law_1142 rfl (fun _ => ?_) (fun c => absurd rfl c)
  obtain ⟨S0', c1⟩ := hP (fun s hs => (m1.1 s hs).2.1)
  exact kk _ _ ⟨σ', S1, S0', N1, ch, hw, m1, c1, hM⟩
theorem lw_c23 {p : Program} {l : Launch} {e : Env} {m : MethodId} {below : List Frame} {meth : Method} {c : Code} {H : Heap} {locs : List Loc} {cells slots : Nat} {ls : Array Slot} {G : gG} {a : Nat → Nat} {h0 : Nat} {ad : Nat → Nat} {b L : Nat} {xs : Nat → Int32} {i : Int32} (hf : l.stackTraces = false) (C : LCx G h0 ad p m meth c b L xs) (hI : LIn G a h0 ad H locs) (hl : lv_has ls 4 [(0, .ref b), (1, .ref (a 0)), (2, .ref h0), (3, .int i)]) (hi : ∀ j : Int32, 0 ≤ j → j ≤ 7 → vp_in (i + j) L) (hc : cells + 9000 ≤ 603072) (hs : slots + 100000 ≤ 7186538) (kk : ∀ (H1 : Heap) (locs1 : List Loc), LIn G a h0 ad H1 locs1 → W p l e room_1 (g0 G) m #[Value.ref b] below meth c H1 locs1 (cells + 9000) (slots + 100000) (lw_Z below #[Value.ref b] (g0 G)) (F0 m 1615 ls [])) : W p l e room_1 (g0 G) m #[Value.ref b] below meth c H locs cells slots (lw_Z below #[Value.ref b] (g0 G)) (F0 m 1147 ls []) := by
  obtain ⟨σ, S, S0, N, ch, hw, m0, c0, hM⟩ := hI
  have hx := C.1.1.1
  have hb := C.1.1.2.1
  obtain ⟨v, σ', hC, hD⟩ := p_drop (MC := 9000) (MS := 100000) m0 c0 (Nat.le_refl _) (Nat.le_refl _) (xs (i + 1).toNatClampNeg) (xs (i + 2).toNatClampNeg)
  refine lv_aload_n (pc := 1147) hx hb dL_law_1147 rfl (lv_at hl 1 rfl) ?_
  refine lw_ld (pc := 1148) (j := 1) C hw.2 hl (hi 1 (by decide) (by decide)) dL_law_1148 dL_law_1149 dL_law_1150 (by decide) dL_law_1151 dL_law_1152 ?_
  refine lw_ld (pc := 1153) (j := 2) C hw.2 hl (hi 2 (by decide) (by decide)) dL_law_1153 dL_law_1154 dL_law_1155 (by decide) dL_law_1156 dL_law_1157 ?_
  refine lw_comp (pc := 1158) (val := vI) (v := v) (PN := cRs (gC G) a σ' ch) (ch := ch) (mc := 9000) (ms := 100000) (rest := []) C.1 hw hM ⟨show cells ≤ 603072 by omega, show slots ≤ 7186538 by omega⟩ (fun s X hw => by
    have hts := X.1.2.2.2.2
    exact va_runV (C := RX0) (As := [.int (xs (i + 1).toNatClampNeg), .int (xs (i + 2).toNatClampNeg)]) (rest := []) X.1 (tX0_drop hf X.2.2.1 (sz := H.size) hC) (cwV 2 hts (lw_V q1769 q1770 q1771 q102 q1772) rfl rfl rfl ⟨rfl, by decide, by decide, (by decide +kernel : (parseMethodDescriptor yX0_drop.desc).map (fun d => d.parameters.length) = some 2)⟩ ⟨Nat.le_of_ble_eq_true rfl, Nat.le_of_ble_eq_true rfl⟩) ⟨cPre_blind, c_recv X hw c0.1.obj rfl, fun U hU hW => ⟨rfl, X.preJ hw hU hW⟩⟩ rfl rfl hl.1 rfl (lv_room (Nat.le_of_ble_eq_true rfl)) dL_law_1158 ⟨show 0 + 9000 ≤ 603072 - cells by omega, show 0 + 100000 ≤ 7186538 - slots by omega⟩) (fun N1 H1 locs1 hP hw hM => ?_)
  refine W.eq (g2 := F0 m 1161 ls [.int v]) rfl ?_
  refine lv_aload_n (pc := 1161) hx hb dL_law_1161 rfl (lv_at hl 2 rfl) ?_
  refine lw_ld (pc := 1162) (j := 1) C hw.2 hl (hi 1 (by decide) (by decide)) dL_law_1162 dL_law_1163 dL_law_1164 (by decide) dL_law_1165 dL_law_1166 ?_
  refine lw_ld (pc := 1167) (j := 2) C hw.2 hl (hi 2 (by decide) (by decide)) dL_law_1167 dL_law_1168 dL_law_1169 (by decide) dL_law_1170 dL_law_1171 ?_
  refine lw_mod (pc := 1172) (val := vI) (v := v) (PS' := mRs σ') (ch := ch) (rest := [.int v]) C.1 hw hM ⟨show cells + 9000 ≤ 603072 by omega, show slots + 100000 ≤ 7186538 by omega⟩ (fun s X hw => by
    have hts := X.1.2.2.2.2
    exact va_runV (C := RX1) (As := [.int (xs (i + 1).toNatClampNeg), .int (xs (i + 2).toNatClampNeg)]) (rest := [.int v]) X.1 (tX1_drop C.2.1 hD) (cwV 2 hts (lw_V q2477 q2478 q2479 q105 q2480) rfl rfl rfl ⟨rfl, by decide, by decide, (by decide +kernel : (parseMethodDescriptor yX1_drop.desc).map (fun d => d.parameters.length) = some 2)⟩ ⟨Nat.le_of_ble_eq_true rfl, Nat.le_of_ble_eq_true rfl⟩) ⟨fun _ _ _ _ q => q, c_recvM X hw, fun U hU hW => ⟨rfl, by rw [hU]; exact hw.1.toM, X.go hw hU hW⟩⟩ rfl rfl hl.1 rfl (lv_room (Nat.le_of_ble_eq_true rfl)) dL_law_1172 ⟨show 0 + 0 ≤ 603072 - (cells + 9000) by omega, show 0 + 0 ≤ 7186538 - (slots + 100000) by omega⟩) (fun S1 H2 locs2 m1 hw hM => ?_)
  refine W.eq (g2 := F0 m 1175 ls [.int v, .int v]) rfl ?_
  refine lv_icmp_eq (pc := 1175) (tgt := 1615) hx hb dL_law_1175 rfl (fun _ => ?_) (fun c => absurd rfl c)
  obtain ⟨S0', c1⟩ := hP (fun s hs => (m1.1 s hs).2.1)
  exact kk _ _ ⟨σ', S1, S0', N1, ch, hw, m1, c1, hM⟩
theorem lw_c24 {p : Program} {l : Launch} {e : Env} {m : MethodId} {below : List Frame} {meth : Method} {c : Code} {H : Heap} {locs : List Loc} {cells slots : Nat} {ls : Array Slot} {G : gG} {a : Nat → Nat} {h0 : Nat} {ad : Nat → Nat} {b L : Nat} {xs : Nat → Int32} {i : Int32} (hf : l.stackTraces = false) (C : LCx G h0 ad p m meth c b L xs) (hI : LIn G a h0 ad H locs) (hl : lv_has ls 4 [(0, .ref b), (1, .ref (a 0)), (2, .ref h0), (3, .int i)]) (hi : ∀ j : Int32, 0 ≤ j → j ≤ 7 → vp_in (i + j) L) (hc : cells + 9000 ≤ 603072) (hs : slots + 100000 ≤ 7186538) (kk : ∀ (H1 : Heap) (locs1 : List Loc), LIn G a h0 ad H1 locs1 → W p l e room_1 (g0 G) m #[Value.ref b] below meth c H1 locs1 (cells + 9000) (slots + 100000) (lw_Z below #[Value.ref b] (g0 G)) (F0 m 1615 ls [])) : W p l e room_1 (g0 G) m #[Value.ref b] below meth c H locs cells slots (lw_Z below #[Value.ref b] (g0 G)) (F0 m 1180 ls []) := by
  obtain ⟨σ, S, S0, N, ch, hw, m0, c0, hM⟩ := hI
  have hx := C.1.1.1
  have hb := C.1.1.2.1
  obtain ⟨v, σ', hC, hD⟩ := p_lead (MC := 9000) (MS := 100000) m0 c0 (Nat.le_refl _) (Nat.le_refl _) (xs (i + 1).toNatClampNeg) (xs (i + 2).toNatClampNeg)
  refine lv_aload_n (pc := 1180) hx hb dL_law_1180 rfl (lv_at hl 1 rfl) ?_
  refine lw_ld (pc := 1181) (j := 1) C hw.2 hl (hi 1 (by decide) (by decide)) dL_law_1181 dL_law_1182 dL_law_1183 (by decide) dL_law_1184 dL_law_1185 ?_
  refine lw_ld (pc := 1186) (j := 2) C hw.2 hl (hi 2 (by decide) (by decide)) dL_law_1186 dL_law_1187 dL_law_1188 (by decide) dL_law_1189 dL_law_1190 ?_
  refine lw_comp (pc := 1191) (val := vI) (v := v) (PN := cRs (gC G) a σ' ch) (ch := ch) (mc := 9000) (ms := 100000) (rest := []) C.1 hw hM ⟨show cells ≤ 603072 by omega, show slots ≤ 7186538 by omega⟩ (fun s X hw => by
    have hts := X.1.2.2.2.2
    exact va_runV (C := RX0) (As := [.int (xs (i + 1).toNatClampNeg), .int (xs (i + 2).toNatClampNeg)]) (rest := []) X.1 (tX0_lead hf X.2.2.1 (sz := H.size) hC) (cwV 2 hts (lw_V q1773 q1774 q1775 q102 q1776) rfl rfl rfl ⟨rfl, by decide, by decide, (by decide +kernel : (parseMethodDescriptor yX0_lead.desc).map (fun d => d.parameters.length) = some 2)⟩ ⟨Nat.le_of_ble_eq_true rfl, Nat.le_of_ble_eq_true rfl⟩) ⟨cPre_blind, c_recv X hw c0.1.obj rfl, fun U hU hW => ⟨rfl, X.preJ hw hU hW⟩⟩ rfl rfl hl.1 rfl (lv_room (Nat.le_of_ble_eq_true rfl)) dL_law_1191 ⟨show 0 + 9000 ≤ 603072 - cells by omega, show 0 + 100000 ≤ 7186538 - slots by omega⟩) (fun N1 H1 locs1 hP hw hM => ?_)
  refine W.eq (g2 := F0 m 1194 ls [.int v]) rfl ?_
  refine lv_aload_n (pc := 1194) hx hb dL_law_1194 rfl (lv_at hl 2 rfl) ?_
  refine lw_ld (pc := 1195) (j := 1) C hw.2 hl (hi 1 (by decide) (by decide)) dL_law_1195 dL_law_1196 dL_law_1197 (by decide) dL_law_1198 dL_law_1199 ?_
  refine lw_ld (pc := 1200) (j := 2) C hw.2 hl (hi 2 (by decide) (by decide)) dL_law_1200 dL_law_1201 dL_law_1202 (by decide) dL_law_1203 dL_law_1204 ?_
  refine lw_mod (pc := 1205) (val := vI) (v := v) (PS' := mRs σ') (ch := ch) (rest := [.int v]) C.1 hw hM ⟨show cells + 9000 ≤ 603072 by omega, show slots + 100000 ≤ 7186538 by omega⟩ (fun s X hw => by
    have hts := X.1.2.2.2.2
    exact va_runV (C := RX1) (As := [.int (xs (i + 1).toNatClampNeg), .int (xs (i + 2).toNatClampNeg)]) (rest := [.int v]) X.1 (tX1_lead C.2.1 hD) (cwV 2 hts (lw_V q2481 q2482 q2483 q105 q2484) rfl rfl rfl ⟨rfl, by decide, by decide, (by decide +kernel : (parseMethodDescriptor yX1_lead.desc).map (fun d => d.parameters.length) = some 2)⟩ ⟨Nat.le_of_ble_eq_true rfl, Nat.le_of_ble_eq_true rfl⟩) ⟨fun _ _ _ _ q => q, c_recvM X hw, fun U hU hW => ⟨rfl, by rw [hU]; exact hw.1.toM, X.go hw hU hW⟩⟩ rfl rfl hl.1 rfl (lv_room (Nat.le_of_ble_eq_true rfl)) dL_law_1205 ⟨show 0 + 0 ≤ 603072 - (cells + 9000) by omega, show 0 + 0 ≤ 7186538 - (slots + 100000) by omega⟩) (fun S1 H2 locs2 m1 hw hM => ?_)
  refine W.eq (g2 := F0 m 1208 ls [.int v, .int v]) rfl ?_
  refine lv_icmp_eq (pc := 1208) (tgt := 1615) hx hb dL_law_1208 rfl (fun _ => ?_) (fun c => absurd rfl c)
  obtain ⟨S0', c1⟩ := hP (fun s hs => (m1.1 s hs).2.1)
  exact kk _ _ ⟨σ', S1, S0', N1, ch, hw, m1, c1, hM⟩
theorem lw_c25 {p : Program} {l : Launch} {e : Env} {m : MethodId} {below : List Frame} {meth : Method} {c : Code} {H : Heap} {locs : List Loc} {cells slots : Nat} {ls : Array Slot} {G : gG} {a : Nat → Nat} {h0 : Nat} {ad : Nat → Nat} {b L : Nat} {xs : Nat → Int32} {i : Int32} (hf : l.stackTraces = false) (C : LCx G h0 ad p m meth c b L xs) (hI : LIn G a h0 ad H locs) (hl : lv_has ls 4 [(0, .ref b), (1, .ref (a 0)), (2, .ref h0), (3, .int i)]) (hi : ∀ j : Int32, 0 ≤ j → j ≤ 7 → vp_in (i + j) L) (hc : cells + 9000 ≤ 603072) (hs : slots + 100000 ≤ 7186538) (kk : ∀ (H1 : Heap) (locs1 : List Loc), LIn G a h0 ad H1 locs1 → W p l e room_1 (g0 G) m #[Value.ref b] below meth c H1 locs1 (cells + 9000) (slots + 100000) (lw_Z below #[Value.ref b] (g0 G)) (F0 m 1615 ls [])) : W p l e room_1 (g0 G) m #[Value.ref b] below meth c H locs cells slots (lw_Z below #[Value.ref b] (g0 G)) (F0 m 1213 ls []) := by
  obtain ⟨σ, S, S0, N, ch, hw, m0, c0, hM⟩ := hI
  have hx := C.1.1.1
  have hb := C.1.1.2.1
  obtain ⟨v, σ', hC, hD⟩ := p_common (MC := 9000) (MS := 100000) C.2.2.1 m0 c0 (Nat.le_refl _) (Nat.le_refl _) (xs (i + 1).toNatClampNeg) (xs (i + 2).toNatClampNeg) (xs (i + 3).toNatClampNeg) (xs (i + 4).toNatClampNeg) (xs (i + 5).toNatClampNeg)
  refine lv_aload_n (pc := 1213) hx hb dL_law_1213 rfl (lv_at hl 1 rfl) ?_
  refine lw_ld (pc := 1214) (j := 1) C hw.2 hl (hi 1 (by decide) (by decide)) dL_law_1214 dL_law_1215 dL_law_1216 (by decide) dL_law_1217 dL_law_1218 ?_
  refine lw_ld (pc := 1219) (j := 2) C hw.2 hl (hi 2 (by decide) (by decide)) dL_law_1219 dL_law_1220 dL_law_1221 (by decide) dL_law_1222 dL_law_1223 ?_
  refine lw_ld (pc := 1224) (j := 3) C hw.2 hl (hi 3 (by decide) (by decide)) dL_law_1224 dL_law_1225 dL_law_1226 (by decide) dL_law_1227 dL_law_1228 ?_
  refine lw_ld (pc := 1229) (j := 4) C hw.2 hl (hi 4 (by decide) (by decide)) dL_law_1229 dL_law_1230 dL_law_1231 (by decide) dL_law_1232 dL_law_1233 ?_
  refine lw_ld (pc := 1234) (j := 5) C hw.2 hl (hi 5 (by decide) (by decide)) dL_law_1234 dL_law_1235 dL_law_1236 (by decide) dL_law_1237 dL_law_1238 ?_
  refine lw_comp (pc := 1239) (val := vI) (v := v) (PN := cRs (gC G) a σ' ch) (ch := ch) (mc := 9000) (ms := 100000) (rest := []) C.1 hw hM ⟨show cells ≤ 603072 by omega, show slots ≤ 7186538 by omega⟩ (fun s X hw => by
    have hts := X.1.2.2.2.2
    exact va_runV (C := RX0) (As := [.int (xs (i + 1).toNatClampNeg), .int (xs (i + 2).toNatClampNeg), .int (xs (i + 3).toNatClampNeg), .int (xs (i + 4).toNatClampNeg), .int (xs (i + 5).toNatClampNeg)]) (rest := []) X.1 (tX0_common hf X.2.2.1 (sz := H.size) hC) (cwV 5 hts (lw_V q1777 q1778 q1779 q102 q1780) rfl rfl rfl ⟨rfl, by decide, by decide, (by decide +kernel : (parseMethodDescriptor yX0_common.desc).map (fun d => d.parameters.length) = some 5)⟩ ⟨Nat.le_of_ble_eq_true rfl, Nat.le_of_ble_eq_true rfl⟩) ⟨cPre_blind, c_recv X hw c0.1.obj rfl, fun U hU hW => ⟨rfl, X.preJ hw hU hW⟩⟩ rfl rfl hl.1 rfl (lv_room (Nat.le_of_ble_eq_true rfl)) dL_law_1239 ⟨show 0 + 9000 ≤ 603072 - cells by omega, show 0 + 100000 ≤ 7186538 - slots by omega⟩) (fun N1 H1 locs1 hP hw hM => ?_)
  refine W.eq (g2 := F0 m 1242 ls [.int v]) rfl ?_
  refine lv_aload_n (pc := 1242) hx hb dL_law_1242 rfl (lv_at hl 2 rfl) ?_
  refine lw_ld (pc := 1243) (j := 1) C hw.2 hl (hi 1 (by decide) (by decide)) dL_law_1243 dL_law_1244 dL_law_1245 (by decide) dL_law_1246 dL_law_1247 ?_
  refine lw_ld (pc := 1248) (j := 2) C hw.2 hl (hi 2 (by decide) (by decide)) dL_law_1248 dL_law_1249 dL_law_1250 (by decide) dL_law_1251 dL_law_1252 ?_
  refine lw_ld (pc := 1253) (j := 3) C hw.2 hl (hi 3 (by decide) (by decide)) dL_law_1253 dL_law_1254 dL_law_1255 (by decide) dL_law_1256 dL_law_1257 ?_
  refine lw_ld (pc := 1258) (j := 4) C hw.2 hl (hi 4 (by decide) (by decide)) dL_law_1258 dL_law_1259 dL_law_1260 (by decide) dL_law_1261 dL_law_1262 ?_
  refine lw_ld (pc := 1263) (j := 5) C hw.2 hl (hi 5 (by decide) (by decide)) dL_law_1263 dL_law_1264 dL_law_1265 (by decide) dL_law_1266 dL_law_1267 ?_
  refine lw_mod (pc := 1268) (val := vI) (v := v) (PS' := mRs σ') (ch := ch) (rest := [.int v]) C.1 hw hM ⟨show cells + 9000 ≤ 603072 by omega, show slots + 100000 ≤ 7186538 by omega⟩ (fun s X hw => by
    have hts := X.1.2.2.2.2
    exact va_runV (C := RX1) (As := [.int (xs (i + 1).toNatClampNeg), .int (xs (i + 2).toNatClampNeg), .int (xs (i + 3).toNatClampNeg), .int (xs (i + 4).toNatClampNeg), .int (xs (i + 5).toNatClampNeg)]) (rest := [.int v]) X.1 (tX1_common C.2.1 hD) (cwV 5 hts (lw_V q2485 q2486 q2487 q105 q2488) rfl rfl rfl ⟨rfl, by decide, by decide, (by decide +kernel : (parseMethodDescriptor yX1_common.desc).map (fun d => d.parameters.length) = some 5)⟩ ⟨Nat.le_of_ble_eq_true rfl, Nat.le_of_ble_eq_true rfl⟩) ⟨fun _ _ _ _ q => q, c_recvM X hw, fun U hU hW => ⟨rfl, by rw [hU]; exact hw.1.toM, X.go hw hU hW⟩⟩ rfl rfl hl.1 rfl (lv_room (Nat.le_of_ble_eq_true rfl)) dL_law_1268 ⟨show 0 + 0 ≤ 603072 - (cells + 9000) by omega, show 0 + 0 ≤ 7186538 - (slots + 100000) by omega⟩) (fun S1 H2 locs2 m1 hw hM => ?_)
  refine W.eq (g2 := F0 m 1271 ls [.int v, .int v]) rfl ?_
  refine lv_icmp_eq (pc := 1271) (tgt := 1615) hx hb dL_law_1271 rfl (fun _ => ?_) (fun c => absurd rfl c)
  obtain ⟨S0', c1⟩ := hP (fun s hs => (m1.1 s hs).2.1)
  exact kk _ _ ⟨σ', S1, S0', N1, ch, hw, m1, c1, hM⟩
theorem lw_c26 {p : Program} {l : Launch} {e : Env} {m : MethodId} {below : List Frame} {meth : Method} {c : Code} {H : Heap} {locs : List Loc} {cells slots : Nat} {ls : Array Slot} {G : gG} {a : Nat → Nat} {h0 : Nat} {ad : Nat → Nat} {b L : Nat} {xs : Nat → Int32} {i : Int32} (hf : l.stackTraces = false) (C : LCx G h0 ad p m meth c b L xs) (hI : LIn G a h0 ad H locs) (hl : lv_has ls 4 [(0, .ref b), (1, .ref (a 0)), (2, .ref h0), (3, .int i)]) (hi : ∀ j : Int32, 0 ≤ j → j ≤ 7 → vp_in (i + j) L) (hc : cells + 9000 ≤ 603072) (hs : slots + 100000 ≤ 7186538) (kk : ∀ (H1 : Heap) (locs1 : List Loc), LIn G a h0 ad H1 locs1 → W p l e room_1 (g0 G) m #[Value.ref b] below meth c H1 locs1 (cells + 9000) (slots + 100000) (lw_Z below #[Value.ref b] (g0 G)) (F0 m 1615 ls [])) : W p l e room_1 (g0 G) m #[Value.ref b] below meth c H locs cells slots (lw_Z below #[Value.ref b] (g0 G)) (F0 m 1276 ls []) := by
  obtain ⟨σ, S, S0, N, ch, hw, m0, c0, hM⟩ := hI
  have hx := C.1.1.1
  have hb := C.1.1.2.1
  obtain ⟨v, σ', hC, hD⟩ := p_tried (MC := 9000) (MS := 100000) m0 c0 (Nat.le_refl _) (Nat.le_refl _) (xs (i + 1).toNatClampNeg) (xs (i + 2).toNatClampNeg)
  refine lv_aload_n (pc := 1276) hx hb dL_law_1276 rfl (lv_at hl 1 rfl) ?_
  refine lw_ld (pc := 1277) (j := 1) C hw.2 hl (hi 1 (by decide) (by decide)) dL_law_1277 dL_law_1278 dL_law_1279 (by decide) dL_law_1280 dL_law_1281 ?_
  refine lw_ld (pc := 1282) (j := 2) C hw.2 hl (hi 2 (by decide) (by decide)) dL_law_1282 dL_law_1283 dL_law_1284 (by decide) dL_law_1285 dL_law_1286 ?_
  refine lw_comp (pc := 1287) (val := vI) (v := v) (PN := cRs (gC G) a σ' ch) (ch := ch) (mc := 9000) (ms := 100000) (rest := []) C.1 hw hM ⟨show cells ≤ 603072 by omega, show slots ≤ 7186538 by omega⟩ (fun s X hw => by
    have hts := X.1.2.2.2.2
    exact va_runV (C := RX0) (As := [.int (xs (i + 1).toNatClampNeg), .int (xs (i + 2).toNatClampNeg)]) (rest := []) X.1 (tX0_tried hf X.2.2.1 (sz := H.size) hC) (cwV 2 hts (lw_V q1894 q1895 q1896 q102 q1897) rfl rfl rfl ⟨rfl, by decide, by decide, (by decide +kernel : (parseMethodDescriptor yX0_tried.desc).map (fun d => d.parameters.length) = some 2)⟩ ⟨Nat.le_of_ble_eq_true rfl, Nat.le_of_ble_eq_true rfl⟩) ⟨cPre_blind, c_recv X hw c0.1.obj rfl, fun U hU hW => ⟨rfl, X.preJ hw hU hW⟩⟩ rfl rfl hl.1 rfl (lv_room (Nat.le_of_ble_eq_true rfl)) dL_law_1287 ⟨show 0 + 9000 ≤ 603072 - cells by omega, show 0 + 100000 ≤ 7186538 - slots by omega⟩) (fun N1 H1 locs1 hP hw hM => ?_)
  refine W.eq (g2 := F0 m 1290 ls [.int v]) rfl ?_
  refine lv_aload_n (pc := 1290) hx hb dL_law_1290 rfl (lv_at hl 2 rfl) ?_
  refine lw_ld (pc := 1291) (j := 1) C hw.2 hl (hi 1 (by decide) (by decide)) dL_law_1291 dL_law_1292 dL_law_1293 (by decide) dL_law_1294 dL_law_1295 ?_
  refine lw_ld (pc := 1296) (j := 2) C hw.2 hl (hi 2 (by decide) (by decide)) dL_law_1296 dL_law_1297 dL_law_1298 (by decide) dL_law_1299 dL_law_1300 ?_
  refine lw_mod (pc := 1301) (val := vI) (v := v) (PS' := mRs σ') (ch := ch) (rest := [.int v]) C.1 hw hM ⟨show cells + 9000 ≤ 603072 by omega, show slots + 100000 ≤ 7186538 by omega⟩ (fun s X hw => by
    have hts := X.1.2.2.2.2
    exact va_runV (C := RX1) (As := [.int (xs (i + 1).toNatClampNeg), .int (xs (i + 2).toNatClampNeg)]) (rest := [.int v]) X.1 (tX1_tried C.2.1 hD) (cwV 2 hts (lw_V q2360 q2361 q2362 q105 q2363) rfl rfl rfl ⟨rfl, by decide, by decide, (by decide +kernel : (parseMethodDescriptor yX1_tried.desc).map (fun d => d.parameters.length) = some 2)⟩ ⟨Nat.le_of_ble_eq_true rfl, Nat.le_of_ble_eq_true rfl⟩) ⟨fun _ _ _ _ q => q, c_recvM X hw, fun U hU hW => ⟨rfl, by rw [hU]; exact hw.1.toM, X.go hw hU hW⟩⟩ rfl rfl hl.1 rfl (lv_room (Nat.le_of_ble_eq_true rfl)) dL_law_1301 ⟨show 0 + 0 ≤ 603072 - (cells + 9000) by omega, show 0 + 0 ≤ 7186538 - (slots + 100000) by omega⟩) (fun S1 H2 locs2 m1 hw hM => ?_)
  refine W.eq (g2 := F0 m 1304 ls [.int v, .int v]) rfl ?_
  refine lv_icmp_eq (pc := 1304) (tgt := 1615) hx hb dL_law_1304 rfl (fun _ => ?_) (fun c => absurd rfl c)
  obtain ⟨S0', c1⟩ := hP (fun s hs => (m1.1 s hs).2.1)
  exact kk _ _ ⟨σ', S1, S0', N1, ch, hw, m1, c1, hM⟩
theorem lw_c27 {p : Program} {l : Launch} {e : Env} {m : MethodId} {below : List Frame} {meth : Method} {c : Code} {H : Heap} {locs : List Loc} {cells slots : Nat} {ls : Array Slot} {G : gG} {a : Nat → Nat} {h0 : Nat} {ad : Nat → Nat} {b L : Nat} {xs : Nat → Int32} {i : Int32} (hf : l.stackTraces = false) (C : LCx G h0 ad p m meth c b L xs) (hI : LIn G a h0 ad H locs) (hl : lv_has ls 4 [(0, .ref b), (1, .ref (a 0)), (2, .ref h0), (3, .int i)]) (hi : ∀ j : Int32, 0 ≤ j → j ≤ 7 → vp_in (i + j) L) (hc : cells + 9000 ≤ 603072) (hs : slots + 100000 ≤ 7186538) (kk : ∀ (H1 : Heap) (locs1 : List Loc), LIn G a h0 ad H1 locs1 → W p l e room_1 (g0 G) m #[Value.ref b] below meth c H1 locs1 (cells + 9000) (slots + 100000) (lw_Z below #[Value.ref b] (g0 G)) (F0 m 1615 ls [])) : W p l e room_1 (g0 G) m #[Value.ref b] below meth c H locs cells slots (lw_Z below #[Value.ref b] (g0 G)) (F0 m 1309 ls []) := by
  obtain ⟨σ, S, S0, N, ch, hw, m0, c0, hM⟩ := hI
  have hx := C.1.1.1
  have hb := C.1.1.2.1
  obtain ⟨v, σ', hC, hD⟩ := p_side (MC := 9000) (MS := 100000) m0 c0 (Nat.le_refl _) (Nat.le_refl _) (xs (i + 1).toNatClampNeg) (xs (i + 2).toNatClampNeg) (xs (i + 3).toNatClampNeg) (xs (i + 4).toNatClampNeg) (xs (i + 5).toNatClampNeg) (xs (i + 6).toNatClampNeg) (xs (i + 7).toNatClampNeg)
  refine lv_aload_n (pc := 1309) hx hb dL_law_1309 rfl (lv_at hl 1 rfl) ?_
  refine lw_ld (pc := 1310) (j := 1) C hw.2 hl (hi 1 (by decide) (by decide)) dL_law_1310 dL_law_1311 dL_law_1312 (by decide) dL_law_1313 dL_law_1314 ?_
  refine lw_ld (pc := 1315) (j := 2) C hw.2 hl (hi 2 (by decide) (by decide)) dL_law_1315 dL_law_1316 dL_law_1317 (by decide) dL_law_1318 dL_law_1319 ?_
  refine lw_ld (pc := 1320) (j := 3) C hw.2 hl (hi 3 (by decide) (by decide)) dL_law_1320 dL_law_1321 dL_law_1322 (by decide) dL_law_1323 dL_law_1324 ?_
  refine lw_ld (pc := 1325) (j := 4) C hw.2 hl (hi 4 (by decide) (by decide)) dL_law_1325 dL_law_1326 dL_law_1327 (by decide) dL_law_1328 dL_law_1329 ?_
  refine lw_ld (pc := 1330) (j := 5) C hw.2 hl (hi 5 (by decide) (by decide)) dL_law_1330 dL_law_1331 dL_law_1332 (by decide) dL_law_1333 dL_law_1334 ?_
  refine lw_ldb (pc := 1335) (j := 6) C hw.2 hl (hi 6 (by decide) (by decide)) dL_law_1335 dL_law_1336 dL_law_1337 (by decide) dL_law_1339 dL_law_1340 ?_
  refine lw_ldb (pc := 1341) (j := 7) C hw.2 hl (hi 7 (by decide) (by decide)) dL_law_1341 dL_law_1342 dL_law_1343 (by decide) dL_law_1345 dL_law_1346 ?_
  refine lw_comp (pc := 1347) (val := vL) (v := v) (PN := cRs (gC G) a σ' ch) (ch := ch) (mc := 9000) (ms := 100000) (rest := []) C.1 hw hM ⟨show cells ≤ 603072 by omega, show slots ≤ 7186538 by omega⟩ (fun s X hw => by
    have hts := X.1.2.2.2.2
    exact va_runV (C := RX0) (As := [.int (xs (i + 1).toNatClampNeg), .int (xs (i + 2).toNatClampNeg), .int (xs (i + 3).toNatClampNeg), .int (xs (i + 4).toNatClampNeg), .int (xs (i + 5).toNatClampNeg), .int (xs (i + 6).toNatClampNeg), .int (xs (i + 7).toNatClampNeg)]) (rest := []) X.1 (tX0_side hf X.2.2.1 (sz := H.size) hC) (cwV 7 hts (lw_V q1937 q1938 q1939 q102 q1940) rfl rfl rfl ⟨rfl, by decide, by decide, (by decide +kernel : (parseMethodDescriptor yX0_side.desc).map (fun d => d.parameters.length) = some 7)⟩ ⟨Nat.le_of_ble_eq_true rfl, Nat.le_of_ble_eq_true rfl⟩) ⟨cPre_blind, c_recv X hw c0.1.obj rfl, fun U hU hW => ⟨rfl, X.preJ hw hU hW⟩⟩ rfl rfl hl.1 rfl (lv_room (Nat.le_of_ble_eq_true rfl)) dL_law_1347 ⟨show 0 + 9000 ≤ 603072 - cells by omega, show 0 + 100000 ≤ 7186538 - slots by omega⟩) (fun N1 H1 locs1 hP hw hM => ?_)
  refine W.eq (g2 := F0 m 1350 ls [.long v]) rfl ?_
  refine lv_aload_n (pc := 1350) hx hb dL_law_1350 rfl (lv_at hl 2 rfl) ?_
  refine lw_ld (pc := 1351) (j := 1) C hw.2 hl (hi 1 (by decide) (by decide)) dL_law_1351 dL_law_1352 dL_law_1353 (by decide) dL_law_1354 dL_law_1355 ?_
  refine lw_ld (pc := 1356) (j := 2) C hw.2 hl (hi 2 (by decide) (by decide)) dL_law_1356 dL_law_1357 dL_law_1358 (by decide) dL_law_1359 dL_law_1360 ?_
  refine lw_ld (pc := 1361) (j := 3) C hw.2 hl (hi 3 (by decide) (by decide)) dL_law_1361 dL_law_1362 dL_law_1363 (by decide) dL_law_1364 dL_law_1365 ?_
  refine lw_ld (pc := 1366) (j := 4) C hw.2 hl (hi 4 (by decide) (by decide)) dL_law_1366 dL_law_1367 dL_law_1368 (by decide) dL_law_1369 dL_law_1370 ?_
  refine lw_ld (pc := 1371) (j := 5) C hw.2 hl (hi 5 (by decide) (by decide)) dL_law_1371 dL_law_1372 dL_law_1373 (by decide) dL_law_1374 dL_law_1375 ?_
  refine lw_ldb (pc := 1376) (j := 6) C hw.2 hl (hi 6 (by decide) (by decide)) dL_law_1376 dL_law_1377 dL_law_1378 (by decide) dL_law_1380 dL_law_1381 ?_
  refine lw_ldb (pc := 1382) (j := 7) C hw.2 hl (hi 7 (by decide) (by decide)) dL_law_1382 dL_law_1383 dL_law_1384 (by decide) dL_law_1386 dL_law_1387 ?_
  refine lw_mod (pc := 1388) (val := vL) (v := v) (PS' := mRs σ') (ch := ch) (rest := [.long v]) C.1 hw hM ⟨show cells + 9000 ≤ 603072 by omega, show slots + 100000 ≤ 7186538 by omega⟩ (fun s X hw => by
    have hts := X.1.2.2.2.2
    exact va_runV (C := RX1) (As := [.int (xs (i + 1).toNatClampNeg), .int (xs (i + 2).toNatClampNeg), .int (xs (i + 3).toNatClampNeg), .int (xs (i + 4).toNatClampNeg), .int (xs (i + 5).toNatClampNeg), .int (xs (i + 6).toNatClampNeg), .int (xs (i + 7).toNatClampNeg)]) (rest := [.long v]) X.1 (tX1_side C.2.1 hD) (cwV 7 hts (lw_V q2397 q2398 q2399 q105 q2400) rfl rfl rfl ⟨rfl, by decide, by decide, (by decide +kernel : (parseMethodDescriptor yX1_side.desc).map (fun d => d.parameters.length) = some 7)⟩ ⟨Nat.le_of_ble_eq_true rfl, Nat.le_of_ble_eq_true rfl⟩) ⟨fun _ _ _ _ q => q, c_recvM X hw, fun U hU hW => ⟨rfl, by rw [hU]; exact hw.1.toM, X.go hw hU hW⟩⟩ rfl rfl hl.1 rfl (lv_room (Nat.le_of_ble_eq_true rfl)) dL_law_1388 ⟨show 0 + 0 ≤ 603072 - (cells + 9000) by omega, show 0 + 0 ≤ 7186538 - (slots + 100000) by omega⟩) (fun S1 H2 locs2 m1 hw hM => ?_)
  refine W.eq (g2 := F0 m 1391 ls [.long v, .long v]) rfl ?_
  refine W.lcmp (pc := 1391) hx hb dL_law_1391 ?_
  refine lv_if_eq (pc := 1392) (tgt := 1615) hx hb dL_law_1392 rfl (fun _ => ?_) (fun c => absurd ((lg_cmp_eq _ _).mpr rfl) c)
  obtain ⟨S0', c1⟩ := hP (fun s hs => (m1.1 s hs).2.1)
  exact kk _ _ ⟨σ', S1, S0', N1, ch, hw, m1, c1, hM⟩
theorem lw_c28 {p : Program} {l : Launch} {e : Env} {m : MethodId} {below : List Frame} {meth : Method} {c : Code} {H : Heap} {locs : List Loc} {cells slots : Nat} {ls : Array Slot} {G : gG} {a : Nat → Nat} {h0 : Nat} {ad : Nat → Nat} {b L : Nat} {xs : Nat → Int32} {i : Int32} (hf : l.stackTraces = false) (C : LCx G h0 ad p m meth c b L xs) (hI : LIn G a h0 ad H locs) (hl : lv_has ls 4 [(0, .ref b), (1, .ref (a 0)), (2, .ref h0), (3, .int i)]) (hi : ∀ j : Int32, 0 ≤ j → j ≤ 7 → vp_in (i + j) L) (hc : cells + 9000 ≤ 603072) (hs : slots + 100000 ≤ 7186538) (kk : ∀ (H1 : Heap) (locs1 : List Loc), LIn G a h0 ad H1 locs1 → W p l e room_1 (g0 G) m #[Value.ref b] below meth c H1 locs1 (cells + 9000) (slots + 100000) (lw_Z below #[Value.ref b] (g0 G)) (F0 m 1615 ls [])) : W p l e room_1 (g0 G) m #[Value.ref b] below meth c H locs cells slots (lw_Z below #[Value.ref b] (g0 G)) (F0 m 1397 ls []) := by
  obtain ⟨σ, S, S0, N, ch, hw, m0, c0, hM⟩ := hI
  have hx := C.1.1.1
  have hb := C.1.1.2.1
  obtain ⟨v, σ', hC, hD⟩ := p_spell (MC := 9000) (MS := 100000) m0 c0 (Nat.le_refl _) (Nat.le_refl _) (xs (i + 1).toNatClampNeg)
  refine lv_aload_n (pc := 1397) hx hb dL_law_1397 rfl (lv_at hl 1 rfl) ?_
  refine lw_ld (pc := 1398) (j := 1) C hw.2 hl (hi 1 (by decide) (by decide)) dL_law_1398 dL_law_1399 dL_law_1400 (by decide) dL_law_1401 dL_law_1402 ?_
  refine lw_comp (pc := 1403) (val := vI) (v := v) (PN := cRs (gC G) a σ' ch) (ch := ch) (mc := 9000) (ms := 100000) (rest := []) C.1 hw hM ⟨show cells ≤ 603072 by omega, show slots ≤ 7186538 by omega⟩ (fun s X hw => by
    have hts := X.1.2.2.2.2
    exact va_runV (C := RX0) (As := [.int (xs (i + 1).toNatClampNeg)]) (rest := []) X.1 (tX0_spell hf X.2.2.1 (sz := H.size) hC) (cwV 1 hts (lw_V q1781 q1782 q1783 q102 q1784) rfl rfl rfl ⟨rfl, by decide, by decide, (by decide +kernel : (parseMethodDescriptor yX0_spell.desc).map (fun d => d.parameters.length) = some 1)⟩ ⟨Nat.le_of_ble_eq_true rfl, Nat.le_of_ble_eq_true rfl⟩) ⟨cPre_blind, c_recv X hw c0.1.obj rfl, fun U hU hW => ⟨rfl, X.preJ hw hU hW⟩⟩ rfl rfl hl.1 rfl (lv_room (Nat.le_of_ble_eq_true rfl)) dL_law_1403 ⟨show 0 + 9000 ≤ 603072 - cells by omega, show 0 + 100000 ≤ 7186538 - slots by omega⟩) (fun N1 H1 locs1 hP hw hM => ?_)
  refine W.eq (g2 := F0 m 1406 ls [.int v]) rfl ?_
  refine lv_aload_n (pc := 1406) hx hb dL_law_1406 rfl (lv_at hl 2 rfl) ?_
  refine lw_ld (pc := 1407) (j := 1) C hw.2 hl (hi 1 (by decide) (by decide)) dL_law_1407 dL_law_1408 dL_law_1409 (by decide) dL_law_1410 dL_law_1411 ?_
  refine lw_mod (pc := 1412) (val := vI) (v := v) (PS' := mRs σ') (ch := ch) (rest := [.int v]) C.1 hw hM ⟨show cells + 9000 ≤ 603072 by omega, show slots + 100000 ≤ 7186538 by omega⟩ (fun s X hw => by
    have hts := X.1.2.2.2.2
    exact va_runV (C := RX1) (As := [.int (xs (i + 1).toNatClampNeg)]) (rest := [.int v]) X.1 (tX1_spell C.2.1 hD) (cwV 1 hts (lw_V q2497 q2498 q2499 q105 q2500) rfl rfl rfl ⟨rfl, by decide, by decide, (by decide +kernel : (parseMethodDescriptor yX1_spell.desc).map (fun d => d.parameters.length) = some 1)⟩ ⟨Nat.le_of_ble_eq_true rfl, Nat.le_of_ble_eq_true rfl⟩) ⟨fun _ _ _ _ q => q, c_recvM X hw, fun U hU hW => ⟨rfl, by rw [hU]; exact hw.1.toM, X.go hw hU hW⟩⟩ rfl rfl hl.1 rfl (lv_room (Nat.le_of_ble_eq_true rfl)) dL_law_1412 ⟨show 0 + 0 ≤ 603072 - (cells + 9000) by omega, show 0 + 0 ≤ 7186538 - (slots + 100000) by omega⟩) (fun S1 H2 locs2 m1 hw hM => ?_)
  refine W.eq (g2 := F0 m 1415 ls [.int v, .int v]) rfl ?_
  refine lv_icmp_eq (pc := 1415) (tgt := 1615) hx hb dL_law_1415 rfl (fun _ => ?_) (fun c => absurd rfl c)
  obtain ⟨S0', c1⟩ := hP (fun s hs => (m1.1 s hs).2.1)
  exact kk _ _ ⟨σ', S1, S0', N1, ch, hw, m1, c1, hM⟩
theorem lw_c29 {p : Program} {l : Launch} {e : Env} {m : MethodId} {below : List Frame} {meth : Method} {c : Code} {H : Heap} {locs : List Loc} {cells slots : Nat} {ls : Array Slot} {G : gG} {a : Nat → Nat} {h0 : Nat} {ad : Nat → Nat} {b L : Nat} {xs : Nat → Int32} {i : Int32} (hf : l.stackTraces = false) (C : LCx G h0 ad p m meth c b L xs) (hI : LIn G a h0 ad H locs) (hl : lv_has ls 4 [(0, .ref b), (1, .ref (a 0)), (2, .ref h0), (3, .int i)]) (hi : ∀ j : Int32, 0 ≤ j → j ≤ 7 → vp_in (i + j) L) (hc : cells + 9000 ≤ 603072) (hs : slots + 100000 ≤ 7186538) (kk : ∀ (H1 : Heap) (locs1 : List Loc), LIn G a h0 ad H1 locs1 → W p l e room_1 (g0 G) m #[Value.ref b] below meth c H1 locs1 (cells + 9000) (slots + 100000) (lw_Z below #[Value.ref b] (g0 G)) (F0 m 1615 ls [])) : W p l e room_1 (g0 G) m #[Value.ref b] below meth c H locs cells slots (lw_Z below #[Value.ref b] (g0 G)) (F0 m 1420 ls []) := by
  obtain ⟨σ, S, S0, N, ch, hw, m0, c0, hM⟩ := hI
  have hx := C.1.1.1
  have hb := C.1.1.2.1
  obtain ⟨v, σ', hC, hD⟩ := p_write (MC := 9000) (MS := 100000) C.2.2.1 m0 c0 (Nat.le_refl _) (Nat.le_refl _) (xs (i + 1).toNatClampNeg) (xs (i + 2).toNatClampNeg) (xs (i + 3).toNatClampNeg)
  refine lv_aload_n (pc := 1420) hx hb dL_law_1420 rfl (lv_at hl 1 rfl) ?_
  refine lw_ld (pc := 1421) (j := 1) C hw.2 hl (hi 1 (by decide) (by decide)) dL_law_1421 dL_law_1422 dL_law_1423 (by decide) dL_law_1424 dL_law_1425 ?_
  refine lw_ld (pc := 1426) (j := 2) C hw.2 hl (hi 2 (by decide) (by decide)) dL_law_1426 dL_law_1427 dL_law_1428 (by decide) dL_law_1429 dL_law_1430 ?_
  refine lw_ld (pc := 1431) (j := 3) C hw.2 hl (hi 3 (by decide) (by decide)) dL_law_1431 dL_law_1432 dL_law_1433 (by decide) dL_law_1434 dL_law_1435 ?_
  refine lw_comp (pc := 1436) (val := vI) (v := v) (PN := cRs (gC G) a σ' ch) (ch := ch) (mc := 9000) (ms := 100000) (rest := []) C.1 hw hM ⟨show cells ≤ 603072 by omega, show slots ≤ 7186538 by omega⟩ (fun s X hw => by
    have hts := X.1.2.2.2.2
    exact va_runV (C := RX0) (As := [.int (xs (i + 1).toNatClampNeg), .int (xs (i + 2).toNatClampNeg), .int (xs (i + 3).toNatClampNeg)]) (rest := []) X.1 (tX0_write hf X.2.2.1 (sz := H.size) hC) (cwV 3 hts (lw_V q1857 q1858 q1859 q102 q1860) rfl rfl rfl ⟨rfl, by decide, by decide, (by decide +kernel : (parseMethodDescriptor yX0_write.desc).map (fun d => d.parameters.length) = some 3)⟩ ⟨Nat.le_of_ble_eq_true rfl, Nat.le_of_ble_eq_true rfl⟩) ⟨cPre_blind, c_recv X hw c0.1.obj rfl, fun U hU hW => ⟨rfl, X.preJ hw hU hW⟩⟩ rfl rfl hl.1 rfl (lv_room (Nat.le_of_ble_eq_true rfl)) dL_law_1436 ⟨show 0 + 9000 ≤ 603072 - cells by omega, show 0 + 100000 ≤ 7186538 - slots by omega⟩) (fun N1 H1 locs1 hP hw hM => ?_)
  refine W.eq (g2 := F0 m 1439 ls [.int v]) rfl ?_
  refine lv_aload_n (pc := 1439) hx hb dL_law_1439 rfl (lv_at hl 2 rfl) ?_
  refine lw_ld (pc := 1440) (j := 1) C hw.2 hl (hi 1 (by decide) (by decide)) dL_law_1440 dL_law_1441 dL_law_1442 (by decide) dL_law_1443 dL_law_1444 ?_
  refine lw_ld (pc := 1445) (j := 2) C hw.2 hl (hi 2 (by decide) (by decide)) dL_law_1445 dL_law_1446 dL_law_1447 (by decide) dL_law_1448 dL_law_1449 ?_
  refine lw_ld (pc := 1450) (j := 3) C hw.2 hl (hi 3 (by decide) (by decide)) dL_law_1450 dL_law_1451 dL_law_1452 (by decide) dL_law_1453 dL_law_1454 ?_
  refine lw_mod (pc := 1455) (val := vI) (v := v) (PS' := mRs σ') (ch := ch) (rest := [.int v]) C.1 hw hM ⟨show cells + 9000 ≤ 603072 by omega, show slots + 100000 ≤ 7186538 by omega⟩ (fun s X hw => by
    have hts := X.1.2.2.2.2
    exact va_runV (C := RX1) (As := [.int (xs (i + 1).toNatClampNeg), .int (xs (i + 2).toNatClampNeg), .int (xs (i + 3).toNatClampNeg)]) (rest := [.int v]) X.1 (tX1_write C.2.1 hD) (cwV 3 hts (lw_V q2519 q2520 q2521 q105 q2522) rfl rfl rfl ⟨rfl, by decide, by decide, (by decide +kernel : (parseMethodDescriptor yX1_write.desc).map (fun d => d.parameters.length) = some 3)⟩ ⟨Nat.le_of_ble_eq_true rfl, Nat.le_of_ble_eq_true rfl⟩) ⟨fun _ _ _ _ q => q, c_recvM X hw, fun U hU hW => ⟨rfl, by rw [hU]; exact hw.1.toM, X.go hw hU hW⟩⟩ rfl rfl hl.1 rfl (lv_room (Nat.le_of_ble_eq_true rfl)) dL_law_1455 ⟨show 0 + 0 ≤ 603072 - (cells + 9000) by omega, show 0 + 0 ≤ 7186538 - (slots + 100000) by omega⟩) (fun S1 H2 locs2 m1 hw hM => ?_)
  refine W.eq (g2 := F0 m 1458 ls [.int v, .int v]) rfl ?_
  refine lv_icmp_eq (pc := 1458) (tgt := 1615) hx hb dL_law_1458 rfl (fun _ => ?_) (fun c => absurd rfl c)
  obtain ⟨S0', c1⟩ := hP (fun s hs => (m1.1 s hs).2.1)
  exact kk _ _ ⟨σ', S1, S0', N1, ch, hw, m1, c1, hM⟩
theorem lw_c30 {p : Program} {l : Launch} {e : Env} {m : MethodId} {below : List Frame} {meth : Method} {c : Code} {H : Heap} {locs : List Loc} {cells slots : Nat} {ls : Array Slot} {G : gG} {a : Nat → Nat} {h0 : Nat} {ad : Nat → Nat} {b L : Nat} {xs : Nat → Int32} {i : Int32} (hf : l.stackTraces = false) (C : LCx G h0 ad p m meth c b L xs) (hI : LIn G a h0 ad H locs) (hl : lv_has ls 4 [(0, .ref b), (1, .ref (a 0)), (2, .ref h0), (3, .int i)]) (hi : ∀ j : Int32, 0 ≤ j → j ≤ 7 → vp_in (i + j) L) (hc : cells + 9000 ≤ 603072) (hs : slots + 100000 ≤ 7186538) (kk : ∀ (H1 : Heap) (locs1 : List Loc), LIn G a h0 ad H1 locs1 → W p l e room_1 (g0 G) m #[Value.ref b] below meth c H1 locs1 (cells + 9000) (slots + 100000) (lw_Z below #[Value.ref b] (g0 G)) (F0 m 1615 ls [])) : W p l e room_1 (g0 G) m #[Value.ref b] below meth c H locs cells slots (lw_Z below #[Value.ref b] (g0 G)) (F0 m 1463 ls []) := by
  obtain ⟨σ, S, S0, N, ch, hw, m0, c0, hM⟩ := hI
  have hx := C.1.1.1
  have hb := C.1.1.2.1
  obtain ⟨v, σ', hC, hD⟩ := p_out m0 c0 (xs (i + 1).toNatClampNeg)
  refine lv_aload_n (pc := 1463) hx hb dL_law_1463 rfl (lv_at hl 1 rfl) ?_
  refine lw_ld (pc := 1464) (j := 1) C hw.2 hl (hi 1 (by decide) (by decide)) dL_law_1464 dL_law_1465 dL_law_1466 (by decide) dL_law_1467 dL_law_1468 ?_
  refine lw_comp (pc := 1469) (val := vI) (v := v) (PN := cRs (gC G) a σ' ch) (ch := ch) (mc := 0) (ms := 0) (rest := []) C.1 hw hM ⟨show cells ≤ 603072 by omega, show slots ≤ 7186538 by omega⟩ (fun s X hw => by
    have hts := X.1.2.2.2.2
    exact va_runV (C := RX0) (As := [.int (xs (i + 1).toNatClampNeg)]) (rest := []) X.1 (tX0_out X.2.2.1 (sz := H.size) hC) (cwV 1 hts (lw_V q1863 q1864 q1865 q102 q1866) rfl rfl rfl ⟨rfl, by decide, by decide, (by decide +kernel : (parseMethodDescriptor yX0_out.desc).map (fun d => d.parameters.length) = some 1)⟩ ⟨Nat.le_of_ble_eq_true rfl, Nat.le_of_ble_eq_true rfl⟩) ⟨cPre_blind, c_recv X hw c0.1.obj rfl, fun U hU hW => ⟨rfl, X.preJ hw hU hW⟩⟩ rfl rfl hl.1 rfl (lv_room (Nat.le_of_ble_eq_true rfl)) dL_law_1469 ⟨show 0 + 0 ≤ 603072 - cells by omega, show 0 + 0 ≤ 7186538 - slots by omega⟩) (fun N1 H1 locs1 hP hw hM => ?_)
  refine W.eq (g2 := F0 m 1472 ls [.int v]) rfl ?_
  refine lv_aload_n (pc := 1472) hx hb dL_law_1472 rfl (lv_at hl 2 rfl) ?_
  refine lw_ld (pc := 1473) (j := 1) C hw.2 hl (hi 1 (by decide) (by decide)) dL_law_1473 dL_law_1474 dL_law_1475 (by decide) dL_law_1476 dL_law_1477 ?_
  refine lw_mod (pc := 1478) (val := vI) (v := v) (PS' := mRs σ') (ch := ch) (rest := [.int v]) C.1 hw hM ⟨show cells + 0 ≤ 603072 by omega, show slots + 0 ≤ 7186538 by omega⟩ (fun s X hw => by
    have hts := X.1.2.2.2.2
    exact va_runV (C := RX1) (As := [.int (xs (i + 1).toNatClampNeg)]) (rest := [.int v]) X.1 (tX1_out C.2.1 hD) (cwV 1 hts (lw_V q2524 q2525 q2526 q105 q2527) rfl rfl rfl ⟨rfl, by decide, by decide, (by decide +kernel : (parseMethodDescriptor yX1_out.desc).map (fun d => d.parameters.length) = some 1)⟩ ⟨Nat.le_of_ble_eq_true rfl, Nat.le_of_ble_eq_true rfl⟩) ⟨fun _ _ _ _ q => q, c_recvM X hw, fun U hU hW => ⟨rfl, by rw [hU]; exact hw.1.toM, X.go hw hU hW⟩⟩ rfl rfl hl.1 rfl (lv_room (Nat.le_of_ble_eq_true rfl)) dL_law_1478 ⟨show 0 + 0 ≤ 603072 - (cells + 0) by omega, show 0 + 0 ≤ 7186538 - (slots + 0) by omega⟩) (fun S1 H2 locs2 m1 hw hM => ?_)
  refine W.eq (g2 := F0 m 1481 ls [.int v, .int v]) rfl ?_
  refine lv_icmp_eq (pc := 1481) (tgt := 1615) hx hb dL_law_1481 rfl (fun _ => ?_) (fun c => absurd rfl c)
  refine W.widen (k := cells + 9000) (n := slots + 100000) (show cells + 0 + 0 ≤ cells + 9000 by omega) (show slots + 0 + 0 ≤ slots + 100000 by omega) ?_
  obtain ⟨S0', c1⟩ := hP (fun s hs => (m1.1 s hs).2.1)
  exact kk _ _ ⟨σ', S1, S0', N1, ch, hw, m1, c1, hM⟩
theorem lw_c31 {p : Program} {l : Launch} {e : Env} {m : MethodId} {below : List Frame} {meth : Method} {c : Code} {H : Heap} {locs : List Loc} {cells slots : Nat} {ls : Array Slot} {G : gG} {a : Nat → Nat} {h0 : Nat} {ad : Nat → Nat} {b L : Nat} {xs : Nat → Int32} {i : Int32} (hf : l.stackTraces = false) (C : LCx G h0 ad p m meth c b L xs) (hI : LIn G a h0 ad H locs) (hl : lv_has ls 4 [(0, .ref b), (1, .ref (a 0)), (2, .ref h0), (3, .int i)]) (hi : ∀ j : Int32, 0 ≤ j → j ≤ 7 → vp_in (i + j) L) (hc : cells + 9000 ≤ 603072) (hs : slots + 100000 ≤ 7186538) (kk : ∀ (H1 : Heap) (locs1 : List Loc), LIn G a h0 ad H1 locs1 → W p l e room_1 (g0 G) m #[Value.ref b] below meth c H1 locs1 (cells + 9000) (slots + 100000) (lw_Z below #[Value.ref b] (g0 G)) (F0 m 1615 ls [])) : W p l e room_1 (g0 G) m #[Value.ref b] below meth c H locs cells slots (lw_Z below #[Value.ref b] (g0 G)) (F0 m 1486 ls []) := by
  obtain ⟨σ, S, S0, N, ch, hw, m0, c0, hM⟩ := hI
  have hx := C.1.1.1
  have hb := C.1.1.2.1
  obtain ⟨v, σ', hC, hD⟩ := p_gap (MC := 9000) (MS := 100000) C.2.2.1 m0 c0 (Nat.le_refl _) (Nat.le_refl _) (xs (i + 1).toNatClampNeg) (xs (i + 2).toNatClampNeg) (xs (i + 3).toNatClampNeg) (xs (i + 4).toNatClampNeg)
  refine lv_aload_n (pc := 1486) hx hb dL_law_1486 rfl (lv_at hl 1 rfl) ?_
  refine lw_ld (pc := 1487) (j := 1) C hw.2 hl (hi 1 (by decide) (by decide)) dL_law_1487 dL_law_1488 dL_law_1489 (by decide) dL_law_1490 dL_law_1491 ?_
  refine lw_ld (pc := 1492) (j := 2) C hw.2 hl (hi 2 (by decide) (by decide)) dL_law_1492 dL_law_1493 dL_law_1494 (by decide) dL_law_1495 dL_law_1496 ?_
  refine lw_ld (pc := 1497) (j := 3) C hw.2 hl (hi 3 (by decide) (by decide)) dL_law_1497 dL_law_1498 dL_law_1499 (by decide) dL_law_1500 dL_law_1501 ?_
  refine lw_ld (pc := 1502) (j := 4) C hw.2 hl (hi 4 (by decide) (by decide)) dL_law_1502 dL_law_1503 dL_law_1504 (by decide) dL_law_1505 dL_law_1506 ?_
  refine lw_comp (pc := 1507) (val := vI) (v := v) (PN := cRs (gC G) a σ' ch) (ch := ch) (mc := 9000) (ms := 100000) (rest := []) C.1 hw hM ⟨show cells ≤ 603072 by omega, show slots ≤ 7186538 by omega⟩ (fun s X hw => by
    have hts := X.1.2.2.2.2
    exact va_runV (C := RX0) (As := [.int (xs (i + 1).toNatClampNeg), .int (xs (i + 2).toNatClampNeg), .int (xs (i + 3).toNatClampNeg), .int (xs (i + 4).toNatClampNeg)]) (rest := []) X.1 (tX0_gap hf X.2.2.1 (sz := H.size) hC) (cwV 4 hts (lw_V q1868 q1869 q1870 q102 q1871) rfl rfl rfl ⟨rfl, by decide, by decide, (by decide +kernel : (parseMethodDescriptor yX0_gap.desc).map (fun d => d.parameters.length) = some 4)⟩ ⟨Nat.le_of_ble_eq_true rfl, Nat.le_of_ble_eq_true rfl⟩) ⟨cPre_blind, c_recv X hw c0.1.obj rfl, fun U hU hW => ⟨rfl, X.preJ hw hU hW⟩⟩ rfl rfl hl.1 rfl (lv_room (Nat.le_of_ble_eq_true rfl)) dL_law_1507 ⟨show 0 + 9000 ≤ 603072 - cells by omega, show 0 + 100000 ≤ 7186538 - slots by omega⟩) (fun N1 H1 locs1 hP hw hM => ?_)
  refine W.eq (g2 := F0 m 1510 ls [.int v]) rfl ?_
  refine lv_aload_n (pc := 1510) hx hb dL_law_1510 rfl (lv_at hl 2 rfl) ?_
  refine lw_ld (pc := 1511) (j := 1) C hw.2 hl (hi 1 (by decide) (by decide)) dL_law_1511 dL_law_1512 dL_law_1513 (by decide) dL_law_1514 dL_law_1515 ?_
  refine lw_ld (pc := 1516) (j := 2) C hw.2 hl (hi 2 (by decide) (by decide)) dL_law_1516 dL_law_1517 dL_law_1518 (by decide) dL_law_1519 dL_law_1520 ?_
  refine lw_ld (pc := 1521) (j := 3) C hw.2 hl (hi 3 (by decide) (by decide)) dL_law_1521 dL_law_1522 dL_law_1523 (by decide) dL_law_1524 dL_law_1525 ?_
  refine lw_ld (pc := 1526) (j := 4) C hw.2 hl (hi 4 (by decide) (by decide)) dL_law_1526 dL_law_1527 dL_law_1528 (by decide) dL_law_1529 dL_law_1530 ?_
  refine lw_mod (pc := 1531) (val := vI) (v := v) (PS' := mRs σ') (ch := ch) (rest := [.int v]) C.1 hw hM ⟨show cells + 9000 ≤ 603072 by omega, show slots + 100000 ≤ 7186538 by omega⟩ (fun s X hw => by
    have hts := X.1.2.2.2.2
    exact va_runV (C := RX1) (As := [.int (xs (i + 1).toNatClampNeg), .int (xs (i + 2).toNatClampNeg), .int (xs (i + 3).toNatClampNeg), .int (xs (i + 4).toNatClampNeg)]) (rest := [.int v]) X.1 (tX1_gap C.2.1 hD) (cwV 4 hts (lw_V q2489 q2490 q2491 q105 q2492) rfl rfl rfl ⟨rfl, by decide, by decide, (by decide +kernel : (parseMethodDescriptor yX1_gap.desc).map (fun d => d.parameters.length) = some 4)⟩ ⟨Nat.le_of_ble_eq_true rfl, Nat.le_of_ble_eq_true rfl⟩) ⟨fun _ _ _ _ q => q, c_recvM X hw, fun U hU hW => ⟨rfl, by rw [hU]; exact hw.1.toM, X.go hw hU hW⟩⟩ rfl rfl hl.1 rfl (lv_room (Nat.le_of_ble_eq_true rfl)) dL_law_1531 ⟨show 0 + 0 ≤ 603072 - (cells + 9000) by omega, show 0 + 0 ≤ 7186538 - (slots + 100000) by omega⟩) (fun S1 H2 locs2 m1 hw hM => ?_)
  refine W.eq (g2 := F0 m 1534 ls [.int v, .int v]) rfl ?_
  refine lv_icmp_eq (pc := 1534) (tgt := 1615) hx hb dL_law_1534 rfl (fun _ => ?_) (fun c => absurd rfl c)
  obtain ⟨S0', c1⟩ := hP (fun s hs => (m1.1 s hs).2.1)
  exact kk _ _ ⟨σ', S1, S0', N1, ch, hw, m1, c1, hM⟩
theorem lw_c32 {p : Program} {l : Launch} {e : Env} {m : MethodId} {below : List Frame} {meth : Method} {c : Code} {H : Heap} {locs : List Loc} {cells slots : Nat} {ls : Array Slot} {G : gG} {a : Nat → Nat} {h0 : Nat} {ad : Nat → Nat} {b L : Nat} {xs : Nat → Int32} {i : Int32} (hf : l.stackTraces = false) (C : LCx G h0 ad p m meth c b L xs) (hI : LIn G a h0 ad H locs) (hl : lv_has ls 4 [(0, .ref b), (1, .ref (a 0)), (2, .ref h0), (3, .int i)]) (hi : ∀ j : Int32, 0 ≤ j → j ≤ 7 → vp_in (i + j) L) (hc : cells + 9000 ≤ 603072) (hs : slots + 100000 ≤ 7186538) (kk : ∀ (H1 : Heap) (locs1 : List Loc), LIn G a h0 ad H1 locs1 → W p l e room_1 (g0 G) m #[Value.ref b] below meth c H1 locs1 (cells + 9000) (slots + 100000) (lw_Z below #[Value.ref b] (g0 G)) (F0 m 1615 ls [])) : W p l e room_1 (g0 G) m #[Value.ref b] below meth c H locs cells slots (lw_Z below #[Value.ref b] (g0 G)) (F0 m 1539 ls []) := by
  obtain ⟨σ, S, S0, N, ch, hw, m0, c0, hM⟩ := hI
  have hx := C.1.1.1
  have hb := C.1.1.2.1
  obtain ⟨v, σ', hC, hD⟩ := p_rank (MC := 9000) (MS := 100000) C.2.2.1 m0 c0 (Nat.le_refl _) (Nat.le_refl _) (xs (i + 1).toNatClampNeg) (xs (i + 2).toNatClampNeg) (xs (i + 3).toNatClampNeg) (xs (i + 4).toNatClampNeg)
  refine lv_aload_n (pc := 1539) hx hb dL_law_1539 rfl (lv_at hl 1 rfl) ?_
  refine lw_ld (pc := 1540) (j := 1) C hw.2 hl (hi 1 (by decide) (by decide)) dL_law_1540 dL_law_1541 dL_law_1542 (by decide) dL_law_1543 dL_law_1544 ?_
  refine lw_ld (pc := 1545) (j := 2) C hw.2 hl (hi 2 (by decide) (by decide)) dL_law_1545 dL_law_1546 dL_law_1547 (by decide) dL_law_1548 dL_law_1549 ?_
  refine lw_ld (pc := 1550) (j := 3) C hw.2 hl (hi 3 (by decide) (by decide)) dL_law_1550 dL_law_1551 dL_law_1552 (by decide) dL_law_1553 dL_law_1554 ?_
  refine lw_ld (pc := 1555) (j := 4) C hw.2 hl (hi 4 (by decide) (by decide)) dL_law_1555 dL_law_1556 dL_law_1557 (by decide) dL_law_1558 dL_law_1559 ?_
  refine lw_comp (pc := 1560) (val := vI) (v := v) (PN := cRs (gC G) a σ' ch) (ch := ch) (mc := 9000) (ms := 100000) (rest := []) C.1 hw hM ⟨show cells ≤ 603072 by omega, show slots ≤ 7186538 by omega⟩ (fun s X hw => by
    have hts := X.1.2.2.2.2
    exact va_runV (C := RX0) (As := [.int (xs (i + 1).toNatClampNeg), .int (xs (i + 2).toNatClampNeg), .int (xs (i + 3).toNatClampNeg), .int (xs (i + 4).toNatClampNeg)]) (rest := []) X.1 (tX0_rank hf X.2.2.1 (sz := H.size) hC) (cwV 4 hts (lw_V q1872 q1873 q1874 q102 q1875) rfl rfl rfl ⟨rfl, by decide, by decide, (by decide +kernel : (parseMethodDescriptor yX0_rank.desc).map (fun d => d.parameters.length) = some 4)⟩ ⟨Nat.le_of_ble_eq_true rfl, Nat.le_of_ble_eq_true rfl⟩) ⟨cPre_blind, c_recv X hw c0.1.obj rfl, fun U hU hW => ⟨rfl, X.preJ hw hU hW⟩⟩ rfl rfl hl.1 rfl (lv_room (Nat.le_of_ble_eq_true rfl)) dL_law_1560 ⟨show 0 + 9000 ≤ 603072 - cells by omega, show 0 + 100000 ≤ 7186538 - slots by omega⟩) (fun N1 H1 locs1 hP hw hM => ?_)
  refine W.eq (g2 := F0 m 1563 ls [.int v]) rfl ?_
  refine lv_aload_n (pc := 1563) hx hb dL_law_1563 rfl (lv_at hl 2 rfl) ?_
  refine lw_ld (pc := 1564) (j := 1) C hw.2 hl (hi 1 (by decide) (by decide)) dL_law_1564 dL_law_1565 dL_law_1566 (by decide) dL_law_1567 dL_law_1568 ?_
  refine lw_ld (pc := 1569) (j := 2) C hw.2 hl (hi 2 (by decide) (by decide)) dL_law_1569 dL_law_1570 dL_law_1571 (by decide) dL_law_1572 dL_law_1573 ?_
  refine lw_ld (pc := 1574) (j := 3) C hw.2 hl (hi 3 (by decide) (by decide)) dL_law_1574 dL_law_1575 dL_law_1576 (by decide) dL_law_1577 dL_law_1578 ?_
  refine lw_ld (pc := 1579) (j := 4) C hw.2 hl (hi 4 (by decide) (by decide)) dL_law_1579 dL_law_1580 dL_law_1581 (by decide) dL_law_1582 dL_law_1583 ?_
  refine lw_mod (pc := 1584) (val := vI) (v := v) (PS' := mRs σ') (ch := ch) (rest := [.int v]) C.1 hw hM ⟨show cells + 9000 ≤ 603072 by omega, show slots + 100000 ≤ 7186538 by omega⟩ (fun s X hw => by
    have hts := X.1.2.2.2.2
    exact va_runV (C := RX1) (As := [.int (xs (i + 1).toNatClampNeg), .int (xs (i + 2).toNatClampNeg), .int (xs (i + 3).toNatClampNeg), .int (xs (i + 4).toNatClampNeg)]) (rest := [.int v]) X.1 (tX1_rank C.2.1 hD) (cwV 4 hts (lw_V q2493 q2494 q2495 q105 q2496) rfl rfl rfl ⟨rfl, by decide, by decide, (by decide +kernel : (parseMethodDescriptor yX1_rank.desc).map (fun d => d.parameters.length) = some 4)⟩ ⟨Nat.le_of_ble_eq_true rfl, Nat.le_of_ble_eq_true rfl⟩) ⟨fun _ _ _ _ q => q, c_recvM X hw, fun U hU hW => ⟨rfl, by rw [hU]; exact hw.1.toM, X.go hw hU hW⟩⟩ rfl rfl hl.1 rfl (lv_room (Nat.le_of_ble_eq_true rfl)) dL_law_1584 ⟨show 0 + 0 ≤ 603072 - (cells + 9000) by omega, show 0 + 0 ≤ 7186538 - (slots + 100000) by omega⟩) (fun S1 H2 locs2 m1 hw hM => ?_)
  refine W.eq (g2 := F0 m 1587 ls [.int v, .int v]) rfl ?_
  refine lv_icmp_eq (pc := 1587) (tgt := 1615) hx hb dL_law_1587 rfl (fun _ => ?_) (fun c => absurd rfl c)
  obtain ⟨S0', c1⟩ := hP (fun s hs => (m1.1 s hs).2.1)
  exact kk _ _ ⟨σ', S1, S0', N1, ch, hw, m1, c1, hM⟩
theorem lw_c33 {p : Program} {l : Launch} {e : Env} {m : MethodId} {below : List Frame} {meth : Method} {c : Code} {H : Heap} {locs : List Loc} {cells slots : Nat} {ls : Array Slot} {G : gG} {a : Nat → Nat} {h0 : Nat} {ad : Nat → Nat} {b L : Nat} {xs : Nat → Int32} {i : Int32} (hf : l.stackTraces = false) (C : LCx G h0 ad p m meth c b L xs) (hI : LIn G a h0 ad H locs) (hl : lv_has ls 4 [(0, .ref b), (1, .ref (a 0)), (2, .ref h0), (3, .int i)]) (hi : ∀ j : Int32, 0 ≤ j → j ≤ 7 → vp_in (i + j) L) (hc : cells + 9000 ≤ 603072) (hs : slots + 100000 ≤ 7186538) (kk : ∀ (H1 : Heap) (locs1 : List Loc), LIn G a h0 ad H1 locs1 → W p l e room_1 (g0 G) m #[Value.ref b] below meth c H1 locs1 (cells + 9000) (slots + 100000) (lw_Z below #[Value.ref b] (g0 G)) (F0 m 1615 ls [])) : W p l e room_1 (g0 G) m #[Value.ref b] below meth c H locs cells slots (lw_Z below #[Value.ref b] (g0 G)) (F0 m 1592 ls []) := by
  obtain ⟨σ, S, S0, N, ch, hw, m0, c0, hM⟩ := hI
  have hx := C.1.1.1
  have hb := C.1.1.2.1
  obtain ⟨v, σ', hC, hD⟩ := p_look (MC := 9000) (MS := 100000) m0 c0 (Nat.le_refl _) (Nat.le_refl _) (xs (i + 1).toNatClampNeg)
  refine lv_aload_n (pc := 1592) hx hb dL_law_1592 rfl (lv_at hl 1 rfl) ?_
  refine lw_ld (pc := 1593) (j := 1) C hw.2 hl (hi 1 (by decide) (by decide)) dL_law_1593 dL_law_1594 dL_law_1595 (by decide) dL_law_1596 dL_law_1597 ?_
  refine lw_comp (pc := 1598) (val := vI) (v := v) (PN := cRs (gC G) a σ' ch) (ch := ch) (mc := 9000) (ms := 100000) (rest := []) C.1 hw hM ⟨show cells ≤ 603072 by omega, show slots ≤ 7186538 by omega⟩ (fun s X hw => by
    have hts := X.1.2.2.2.2
    exact va_runV (C := RX0) (As := [.int (xs (i + 1).toNatClampNeg)]) (rest := []) X.1 (tX0_look hf X.2.2.1 (sz := H.size) hC) (cwV 1 hts (lw_V q1946 q1947 q1948 q102 q1949) rfl rfl rfl ⟨rfl, by decide, by decide, (by decide +kernel : (parseMethodDescriptor yX0_look.desc).map (fun d => d.parameters.length) = some 1)⟩ ⟨Nat.le_of_ble_eq_true rfl, Nat.le_of_ble_eq_true rfl⟩) ⟨cPre_blind, c_recv X hw c0.1.obj rfl, fun U hU hW => ⟨rfl, X.preJ hw hU hW⟩⟩ rfl rfl hl.1 rfl (lv_room (Nat.le_of_ble_eq_true rfl)) dL_law_1598 ⟨show 0 + 9000 ≤ 603072 - cells by omega, show 0 + 100000 ≤ 7186538 - slots by omega⟩) (fun N1 H1 locs1 hP hw hM => ?_)
  refine W.eq (g2 := F0 m 1601 ls [.int v]) rfl ?_
  refine lv_aload_n (pc := 1601) hx hb dL_law_1601 rfl (lv_at hl 2 rfl) ?_
  refine lw_ld (pc := 1602) (j := 1) C hw.2 hl (hi 1 (by decide) (by decide)) dL_law_1602 dL_law_1603 dL_law_1604 (by decide) dL_law_1605 dL_law_1606 ?_
  refine lw_mod (pc := 1607) (val := vI) (v := v) (PS' := mRs σ') (ch := ch) (rest := [.int v]) C.1 hw hM ⟨show cells + 9000 ≤ 603072 by omega, show slots + 100000 ≤ 7186538 by omega⟩ (fun s X hw => by
    have hts := X.1.2.2.2.2
    exact va_runV (C := RX1) (As := [.int (xs (i + 1).toNatClampNeg)]) (rest := [.int v]) X.1 (tX1_look C.2.1 hD) (cwV 1 hts (lw_V q2528 q2529 q2530 q105 q2531) rfl rfl rfl ⟨rfl, by decide, by decide, (by decide +kernel : (parseMethodDescriptor yX1_look.desc).map (fun d => d.parameters.length) = some 1)⟩ ⟨Nat.le_of_ble_eq_true rfl, Nat.le_of_ble_eq_true rfl⟩) ⟨fun _ _ _ _ q => q, c_recvM X hw, fun U hU hW => ⟨rfl, by rw [hU]; exact hw.1.toM, X.go hw hU hW⟩⟩ rfl rfl hl.1 rfl (lv_room (Nat.le_of_ble_eq_true rfl)) dL_law_1607 ⟨show 0 + 0 ≤ 603072 - (cells + 9000) by omega, show 0 + 0 ≤ 7186538 - (slots + 100000) by omega⟩) (fun S1 H2 locs2 m1 hw hM => ?_)
  refine W.eq (g2 := F0 m 1610 ls [.int v, .int v]) rfl ?_
  refine lv_icmp_eq (pc := 1610) (tgt := 1615) hx hb dL_law_1610 rfl (fun _ => ?_) (fun c => absurd rfl c)
  obtain ⟨S0', c1⟩ := hP (fun s hs => (m1.1 s hs).2.1)
  exact kk _ _ ⟨σ', S1, S0', N1, ch, hw, m1, c1, hM⟩
