set_option maxRecDepth 100000
set_option maxHeartbeats 4000000
def wX2_part_167 (K : Nat → Nat → Nat) (rc : (Option Nat → NM → Prop) → (Nat → List Nat → NM → Prop) → Nat → Nat → NM → Nat → Option Nat → Prop) (post : Option Nat → NM → Prop) (xp : Nat → List Nat → NM → Prop) (x0 : Nat) (x1 : Option Nat) (x2 : Int32) (x3 : Option Nat) (x4 : Int32) (v0 : Int32) (v1 : Nat) (mc ms : Nat) (N : NM) : Prop :=
  ∃ f85 f86 f87 f88, N v1 = some (eO 2 [.int f85, .int f86, .int f87, va_rf f88]) ∧ (∃ mc80 ms81, mc80 ≤ mc ∧ ms81 ≤ ms ∧ wX2_must K (fun _ N79 => ∃ a96, x1 = some a96 ∧ (∃ f99 f100, N79 a96 = some (eO 12 [.int f99, .int f100]) ∧ (∀ N101, N101 = va_up N79 a96 (some (eO 12 [.int (f99 + (1 : Int32)), .int f100])) → (∃ f105 f106 f107 f108, N101 x0 = some (eO 2 [.int f105, .int f106, .int f107, va_rf f108]) ∧ (∀ N109, N109 = va_up N101 x0 (some (eO 2 [.int (f105 + (1 : Int32)), .int f106, .int f107, va_rf f108])) → (wX2_skips K (fun _ N114 => ((x4 = (0 : Int32)) → (∃ f117 f118 f119 f120, N114 x0 = some (eO 2 [.int f117, .int f118, .int f119, va_rf f120]) ∧ (∀ N121, N121 = va_up N114 x0 (some (eO 2 [.int f117, .int f118, .int (f119 + (1 : Int32)), va_rf f120])) → (∃ mc126 ms127, mc126 ≤ (mc - mc80) ∧ ms127 ≤ (ms - ms81) ∧ rc (fun r124 N125 => ∃ f144 f145 f146 f147, N125 x0 = some (eO 2 [.int f144, .int f145, .int f146, va_rf f147]) ∧ (∃ mc139 ms140, mc139 ≤ ((mc - mc80) - mc126) ∧ ms140 ≤ ((ms - ms81) - ms127) ∧ wX2_asks K (fun _ N138 => ∃ f156 f157 f158 f159, N138 x0 = some (eO 2 [.int f156, .int f157, .int f158, va_rf f159]) ∧ (∀ N160, N160 = va_up N138 x0 (some (eO 2 [.int f156, .int f157, .int (f158 - (1 : Int32)), va_rf f159])) → (post r124 N160))) (fun q148 ch154 N149 => (∀ fs151, N149 q148 = some (eO 3 fs151) → (xp q148 ch154 N149))) mc139 ms140 N125 x0 (41 : Int32))) (fun q130 ch136 N131 => (∀ fs133, N131 q130 = some (eO 3 fs133) → (xp q130 ch136 N131))) mc126 ms127 N121 x0 x1)))) ∧ (¬ (x4 = (0 : Int32)) → (∃ f164 f165, N114 a96 = some (eO 12 [.int f164, .int f165]) ∧ (∃ a166, x3 = some a166 ∧ (∃ sv168 sn169 sf170, sKn K N114 a166 sv168 sn169 sf170 ∧ (vp_in (0 : Int32) sn169 ∧ (∀ N172, N172 = va_up N114 a96 (some (eO 12 [.int f164, .int (f165 ||| ((1 : Int32) <<< (((((sf170 (0 : Int32).toNatClampNeg &&& 255).toUInt32 % 65536).toInt32) - (97 : Int32)) &&& 31)))])) → (∃ sv175 sn176 sf177, sKn K N172 a166 sv175 sn176 sf177 ∧ (vp_in (0 : Int32) sn176 ∧ (∃ mc181 ms182, mc181 ≤ (mc - mc80) ∧ ms182 ≤ (ms - ms81) ∧ wX0_letter K (fun r179 N180 => post r179 N180) mc181 ms182 N172 ((((sf177 (0 : Int32).toNatClampNeg &&& 255).toUInt32 % 65536).toInt32) - (97 : Int32)))))))))))) N109 x0)))))) (fun q89 ch95 N90 => (∀ fs92, N90 q89 = some (eO 3 fs92) → (xp q89 ch95 N90))) mc80 ms81 N v1 v0 (12 : Int32) x2)
def wX2_part_146 (K : Nat → Nat → Nat) (rc : (Option Nat → NM → Prop) → (Nat → List Nat → NM → Prop) → Nat → Nat → NM → Nat → Option Nat → Prop) (post : Option Nat → NM → Prop) (xp : Nat → List Nat → NM → Prop) (x0 : Nat) (x1 : Option Nat) (x2 : Int32) (x3 : Option Nat) (x4 : Int32) (v0 : Int32) (v1 : Nat) (mc ms : Nat) (N : NM) : Prop :=
  ∃ f61 f62 f63 f64, N v1 = some (eO 2 [.int f61, .int f62, .int f63, va_rf f64]) ∧ (∃ mc56 ms57, mc56 ≤ mc ∧ ms57 ≤ ms ∧ wX2_must K (fun _ N55 => ∃ a72, x1 = some a72 ∧ (∃ f75 f76, N55 a72 = some (eO 12 [.int f75, .int f76]) ∧ ((((60 : Int32) ≤ f75) → (wX2_part_167 K rc post xp x0 x1 x2 x3 x4 (0 : Int32) x0 (mc - mc56) (ms - ms57) N55)) ∧ (¬ ((60 : Int32) ≤ f75) → (wX2_part_167 K rc post xp x0 x1 x2 x3 x4 (1 : Int32) x0 (mc - mc56) (ms - ms57) N55))))) (fun q65 ch71 N66 => (∀ fs68, N66 q65 = some (eO 3 fs68) → (xp q65 ch71 N66))) mc56 ms57 N v1 v0 (11 : Int32) x2)
def wX2_part_141 (K : Nat → Nat → Nat) (rc : (Option Nat → NM → Prop) → (Nat → List Nat → NM → Prop) → Nat → Nat → NM → Nat → Option Nat → Prop) (post : Option Nat → NM → Prop) (xp : Nat → List Nat → NM → Prop) (x0 : Nat) (x1 : Option Nat) (x2 : Int32) (x3 : Option Nat) (x4 : Int32) (v0 : Nat) (mc ms : Nat) (N : NM) : Prop :=
  wX2_part_146 K rc post xp x0 x1 x2 x3 x4 (1 : Int32) v0 mc ms N
def wX2_part_103 (K : Nat → Nat → Nat) (rc : (Option Nat → NM → Prop) → (Nat → List Nat → NM → Prop) → Nat → Nat → NM → Nat → Option Nat → Prop) (post : Option Nat → NM → Prop) (xp : Nat → List Nat → NM → Prop) (x1 : Option Nat) (x2 : Int32) (x5 : Int32) (v0 : Int32) (v1 : Nat) (mc ms : Nat) (N : NM) : Prop :=
  ∃ f222 f223 f224 f225, N v1 = some (eO 2 [.int f222, .int f223, .int f224, va_rf f225]) ∧ (∃ mc217 ms218, mc217 ≤ mc ∧ ms218 ≤ ms ∧ wX2_must K (fun _ N216 => ∃ a233, x1 = some a233 ∧ (∃ f236 f237, N216 a233 = some (eO 12 [.int f236, .int f237]) ∧ (∀ N238, N238 = va_up N216 a233 (some (eO 12 [.int (f236 + (1 : Int32)), .int f237])) → (∃ mc243 ms244, mc243 ≤ (mc - mc217) ∧ ms244 ≤ (ms - ms218) ∧ wX0_plain K (fun r241 N242 => post r241 N242) mc243 ms244 N238 x5.toInt64)))) (fun q226 ch232 N227 => (∀ fs229, N227 q226 = some (eO 3 fs229) → (xp q226 ch232 N227))) mc217 ms218 N v1 v0 (12 : Int32) x2)
def wX2_part_70 (K : Nat → Nat → Nat) (rc : (Option Nat → NM → Prop) → (Nat → List Nat → NM → Prop) → Nat → Nat → NM → Nat → Option Nat → Prop) (post : Option Nat → NM → Prop) (xp : Nat → List Nat → NM → Prop) (x0 : Nat) (x1 : Option Nat) (x2 : Int32) (x3 : Option Nat) (x4 : Int32) (v0 : Int32) (v1 : Nat) (mc ms : Nat) (N : NM) : Prop :=
  ∃ f34 f35 f36 f37, N v1 = some (eO 2 [.int f34, .int f35, .int f36, va_rf f37]) ∧ (∃ mc29 ms30, mc29 ≤ mc ∧ ms30 ≤ ms ∧ wX2_must K (fun _ N28 => ∃ f48 f49 f50 f51, N28 x0 = some (eO 2 [.int f48, .int f49, .int f50, va_rf f51]) ∧ (wX2_isDigit K (fun r45 N46 => ((r45 = (0 : Int32)) → (((x4 = (0 : Int32)) → (∃ f186 f187 f188 f189, N46 x0 = some (eO 2 [.int f186, .int f187, .int f188, va_rf f189]) ∧ ((((6 : Int32) ≤ f188) → (wX2_part_146 K rc post xp x0 x1 x2 x3 x4 (0 : Int32) x0 (mc - mc29) (ms - ms30) N46)) ∧ (¬ ((6 : Int32) ≤ f188) → (wX2_part_141 K rc post xp x0 x1 x2 x3 x4 x0 (mc - mc29) (ms - ms30) N46))))) ∧ (¬ (x4 = (0 : Int32)) → (wX2_part_141 K rc post xp x0 x1 x2 x3 x4 x0 (mc - mc29) (ms - ms30) N46)))) ∧ (¬ (r45 = (0 : Int32)) → (∃ f198 f199 f200 f201, N46 x0 = some (eO 2 [.int f198, .int f199, .int f200, va_rf f201]) ∧ (∃ mc193 ms194, mc193 ≤ (mc - mc29) ∧ ms194 ≤ (ms - ms30) ∧ wX2_number K (fun r191 N192 => ∃ a209, x1 = some a209 ∧ (∃ f212 f213, N192 a209 = some (eO 12 [.int f212, .int f213]) ∧ ((((60 : Int32) ≤ f212) → (wX2_part_103 K rc post xp x1 x2 r191 (0 : Int32) x0 ((mc - mc29) - mc193) ((ms - ms30) - ms194) N192)) ∧ (¬ ((60 : Int32) ≤ f212) → (wX2_part_103 K rc post xp x1 x2 r191 (1 : Int32) x0 ((mc - mc29) - mc193) ((ms - ms30) - ms194) N192))))) (fun q202 ch208 N203 => (∀ fs205, N203 q202 = some (eO 3 fs205) → (xp q202 ch208 N203))) mc193 ms194 N46 x0)))) N28 x0)) (fun q38 ch44 N39 => (∀ fs41, N39 q38 = some (eO 3 fs41) → (xp q38 ch44 N39))) mc29 ms30 N v1 v0 (1 : Int32) x2)
def wX2_part_65 (K : Nat → Nat → Nat) (rc : (Option Nat → NM → Prop) → (Nat → List Nat → NM → Prop) → Nat → Nat → NM → Nat → Option Nat → Prop) (post : Option Nat → NM → Prop) (xp : Nat → List Nat → NM → Prop) (x0 : Nat) (x1 : Option Nat) (x2 : Int32) (x3 : Option Nat) (x4 : Int32) (v0 : Nat) (mc ms : Nat) (N : NM) : Prop :=
  wX2_part_70 K rc post xp x0 x1 x2 x3 x4 (1 : Int32) v0 mc ms N
def wX2_part_41 (K : Nat → Nat → Nat) (rc : (Option Nat → NM → Prop) → (Nat → List Nat → NM → Prop) → Nat → Nat → NM → Nat → Option Nat → Prop) (post : Option Nat → NM → Prop) (xp : Nat → List Nat → NM → Prop) (x0 : Nat) (x1 : Option Nat) (x2 : Int32) (x3 : Option Nat) (v0 : Int32) (mc ms : Nat) (N : NM) : Prop :=
  ∃ f22 f23 f24 f25, N x0 = some (eO 2 [.int f22, .int f23, .int f24, va_rf f25]) ∧ (wX2_isDigit K (fun r19 N20 => ((r19 = (0 : Int32)) → (((v0 = (0 : Int32)) → (∃ f251 f252 f253 f254, N20 x0 = some (eO 2 [.int f251, .int f252, .int f253, va_rf f254]) ∧ (wX2_here K (fun r248 N249 => ((r248 = (40 : Int32)) → (wX2_part_65 K rc post xp x0 x1 x2 x3 v0 x0 mc ms N249)) ∧ (¬ (r248 = (40 : Int32)) → (wX2_part_70 K rc post xp x0 x1 x2 x3 v0 (0 : Int32) x0 mc ms N249))) N20 x0))) ∧ (¬ (v0 = (0 : Int32)) → (wX2_part_65 K rc post xp x0 x1 x2 x3 v0 x0 mc ms N20)))) ∧ (¬ (r19 = (0 : Int32)) → (wX2_part_65 K rc post xp x0 x1 x2 x3 v0 x0 mc ms N20))) N x0)
def wX2_part_40 (K : Nat → Nat → Nat) (rc : (Option Nat → NM → Prop) → (Nat → List Nat → NM → Prop) → Nat → Nat → NM → Nat → Option Nat → Prop) (post : Option Nat → NM → Prop) (xp : Nat → List Nat → NM → Prop) (x0 : Nat) (x1 : Option Nat) (x2 : Int32) (x3 : Option Nat) (mc ms : Nat) (N : NM) : Prop :=
  wX2_part_41 K rc post xp x0 x1 x2 x3 (0 : Int32) mc ms N
def wX2_part (K : Nat → Nat → Nat) (rc : (Option Nat → NM → Prop) → (Nat → List Nat → NM → Prop) → Nat → Nat → NM → Nat → Option Nat → Prop) (post : Option Nat → NM → Prop) (xp : Nat → List Nat → NM → Prop) (MC MS : Nat) (N : NM) (x0 : Nat) (x1 : Option Nat) : Prop :=
  ∃ f2 f3 f4 f5, N x0 = some (eO 2 [.int f2, .int f3, .int f4, va_rf f5]) ∧ (∃ mc8 ms9, mc8 ≤ MC ∧ ms9 ≤ MS ∧ wX2_seen K (fun r6 N7 => ∃ a12, r6 = some a12 ∧ (∃ sv14 sn15 sf16, sKn K N7 a12 sv14 sn15 sf16 ∧ ((((nI sn15) = (1 : Int32)) → (vp_in (0 : Int32) sn15 ∧ (wX0_isIn (fun r256 => ((r256 = (0 : Int32)) → (wX2_part_40 K rc post xp x0 x1 f2 r6 (MC - mc8) (MS - ms9) N7)) ∧ (¬ (r256 = (0 : Int32)) → (wX2_part_41 K rc post xp x0 x1 f2 r6 (1 : Int32) (MC - mc8) (MS - ms9) N7))) ((((sf16 (0 : Int32).toNatClampNeg &&& 255).toUInt32 % 65536).toInt32).toInt64) (97 : Int64) (102 : Int64)))) ∧ (¬ ((nI sn15) = (1 : Int32)) → (wX2_part_40 K rc post xp x0 x1 f2 r6 (MC - mc8) (MS - ms9) N7))))) mc8 ms9 N x0)
theorem kX2_part_167 {p : Program} {l : Launch} {e : Env} {s : State} {m : MethodId} {args : Array Value} {below : List Frame} {meth : Method} {c : Code} {G : gG} {A : Nat → Prop} {MC MS : Nat} {d : Nat} {rc : (Option Nat → NM → Prop) → (Nat → List Nat → NM → Prop) → Nat → Nat → NM → Nat → Option Nat → Prop} {post : Option Nat → NM → Prop} {xp : Nat → List Nat → NM → Prop} (X : cX G A RX2 p s m args c cX2_part 6) (hr : meth.sig.returnType = (some (.object "ToldPowers$Sum"))) (hlk : meth.locks = false) (hL : l.stackTraces = false) (hT : c.exceptionTable.toList = tableOf []) (hI : ∀ {post : Option Nat → NM → Prop} {xp : Nat → List Nat → NM → Prop} {MC MS : Nat} {N : NM} {x0 : Nat} {x1 : Option Nat} {sz : Nat}, rc post xp MC MS N x0 x1 → cx_Met l yX2_sum (ws_ yX2_sum cX2_sum 4 (some (.object "ToldPowers$Sum"))) ⟨14 + 4 * d, MC, MS, 400 + 140 * d⟩ (va_Pc [.ref x0, va_rf x1] (cPre G [] N sz)) (gQ vQ post (fun u H => cBw G (cA [] N sz) (jW u).1 (jW u).2 H) (cA [] N sz)) (cXC G (cA [] N sz) [3] xp) MC MS (cA [] N sz)) : ∀ (x0 : Nat) (x1 : Option Nat) (x2 : Int32) (x3 : Option Nat) (x4 : Int32) (v0 : Int32) (v1 : Nat) (mc ms : Nat) (N : NM) (H : Heap) (locs : List Loc) (ls : Array Slot) (cells slots : Nat), wX2_part_167 (gC G) rc post xp x0 x1 x2 x3 x4 v0 v1 mc ms N → (cH G A s [] N H locs ∧ cells + mc ≤ MC ∧ slots + ms ≤ MS) → lv_has ls 6 [(0, .ref x0), (1, va_rf x1), (2, .int x2), (3, va_rf x3), (4, .int x4)] → W p l e ⟨15 + 4 * d, MC, MS, 423 + 140 * d⟩ s m args below meth c H locs cells slots (cx_MQ below (gQ vQ post (fun u H => cBw G A (jW u).1 (jW u).2 H) A) (cXC G A [3] xp) args s MC MS A) (F0 m 167 ls [.int v0, .ref v1]) := by
  have hx := X.1.1
  have hb := X.1.2.1
  have hml := X.1.2.2.1
  have hown := X.1.2.2.2.1
  have hts := X.1.2.2.2.2
  intro x0 x1 x2 x3 x4 v0 v1 mc ms N H locs ls cells slots h hw0 hl
  obtain ⟨hw, hbud⟩ := hw0
  unfold wX2_part_167 at h
  refine lv_bipush (pc := 167) (v := (12 : Int32)) hx hb dX2_part_167 (by decide) ?_
  refine lv_iload_n (pc := 169) hx hb dX2_part_169 rfl (lv_at hl 2 rfl) ?_
  obtain ⟨f85, f86, f87, f88, hN84, h⟩ := h
  obtain ⟨mc80, ms81, hm82, hm83, h⟩ := h
  refine cx_callJ (pc := 170) (val := vV) X hw (cx_runV (C := RX2) (As := [.int v0, .int (12 : Int32), .int x2]) (rest := []) X.1 (tX2_must hL X.2.2.1 (sz := H.size) h) (cwV 3 hts (lw_V q659 q661 qs9 q113 q662) rfl rfl rfl ⟨rfl, by decide, by decide, (by decide +kernel : (parseMethodDescriptor yX2_must.desc).map (fun d => d.parameters.length) = some 3)⟩ ⟨(by first | exact Nat.le_of_ble_eq_true rfl | exact le_d rfl), (by first | exact Nat.le_of_ble_eq_true rfl | exact le_d rfl)⟩) ⟨cPre_blind, c_recv X hw hN84 rfl, fun U hU hW => ⟨rfl, X.preJ hw hU hW⟩⟩ rfl rfl hl.1 rfl (lv_room ((by first | exact Nat.le_of_ble_eq_true rfl | exact le_d rfl))) dX2_part_170 ⟨show cells + mc80 ≤ MC by omega, show slots + ms81 ≤ MS by omega⟩) (fun q89 N90 H locs ci91 fs92 ch95 hci93 hNq94 h hw hch => ?_) (fun _ N79 H locs h hw => ?_)
  · have hci93 := List.mem_singleton.mp hci93
    subst hci93
    have h := h fs92 hNq94
    exact cx_outJ (pc := 170) X hw hNq94 rfl (by decide) (by rw [hT]; intro x hx; cases hx) hlk hch h (by omega) (by omega)
  refine W.eq (g2 := F0 m 173 ls ([])) rfl ?_
  refine lq_aload_n (pc := 173) hx hb dX2_part_173 rfl (lv_at hl 1 rfl) ?_
  refine lv_dup (pc := 174) hx hb dX2_part_174 (rf_c _) ?_
  obtain ⟨a96, hr97, h⟩ := h
  refine W.eq (g2 := F0 m 175 ls [.ref a96, va_rf x1]) (by rw [hr97]; rfl) ?_
  obtain ⟨f99, f100, hN98, h⟩ := h
  refine c_getN (pc := 175) X hw hN98 in_X9 rfl 0 (by decide) q1427 rfl rfl dX2_part_175 ?_
  refine lv_iconst (pc := 178) (v := (1 : Int32)) hx hb dX2_part_178 (by decide) ?_
  refine lv_iadd (pc := 179) hx hb dX2_part_179 ?_
  refine W.eq (g2 := F0 m 180 ls [.int (f99 + (1 : Int32)), .ref a96]) (by rw [hr97]; rfl) ?_
  refine c_putN (pc := 180) X hw hN98 in_X9 tyX9 tyX9_ok nmX9 rfl 0 (by decide) q1427 rfl rfl rfl rfl rfl ((by first | exact Nat.le_of_ble_eq_true rfl | exact le_d rfl)) dX2_part_180 (fun H locs hw => ?_)
  obtain ⟨N101, e102⟩ : ∃ z, z = va_up N79 a96 (some (eO 12 [.int (f99 + (1 : Int32)), .int f100])) := ⟨_, rfl⟩
  have hw : cH G A s [] N101 H locs := by rw [e102]; exact hw
  have h := h N101 e102
  have hN103 : N101 a96 = some (eO 12 [.int (f99 + (1 : Int32)), .int f100]) := by rw [e102]; exact up_s
  refine lv_aload_n (pc := 183) hx hb dX2_part_183 rfl (lv_at hl 0 rfl) ?_
  refine lv_dup (pc := 184) hx hb dX2_part_184 rfl ?_
  obtain ⟨f105, f106, f107, f108, hN104, h⟩ := h
  refine c_get (pc := 185) X hw hN104 in_X2 rfl 0 (by decide) q406 rfl rfl dX2_part_185 ?_
  refine lv_iconst (pc := 188) (v := (1 : Int32)) hx hb dX2_part_188 (by decide) ?_
  refine lv_iadd (pc := 189) hx hb dX2_part_189 ?_
  refine c_put (pc := 190) X hw hN104 in_X2 tyX2 tyX2_ok nmX2 rfl 0 (by decide) q406 rfl rfl rfl rfl rfl ((by first | exact Nat.le_of_ble_eq_true rfl | exact le_d rfl)) dX2_part_190 (fun H locs hw => ?_)
  obtain ⟨N109, e110⟩ : ∃ z, z = va_up N101 x0 (some (eO 2 [.int (f105 + (1 : Int32)), .int f106, .int f107, va_rf f108])) := ⟨_, rfl⟩
  have hw : cH G A s [] N109 H locs := by rw [e110]; exact hw
  have h := h N109 e110
  have hN111 : N109 x0 = some (eO 2 [.int (f105 + (1 : Int32)), .int f106, .int f107, va_rf f108]) := by rw [e110]; exact up_s
  have hN112 := up_k (x := some (eO 2 [.int (f105 + (1 : Int32)), .int f106, .int f107, va_rf f108])) hN104 hN103 (show (4 : Nat) ≠ 24 by decide)
  rw [← e110] at hN112
  refine lv_aload_n (pc := 193) hx hb dX2_part_193 rfl (lv_at hl 0 rfl) ?_
  refine c_callJ (pc := 194) (val := vV) X hw (va_runV (C := RX2) (As := []) (rest := []) X.1 (tX2_skips X.2.2.1 (sz := H.size) h) (cwV 0 hts (lw_V q398 q400 qs3 q113 q401) rfl rfl rfl ⟨rfl, by decide, by decide, (by decide +kernel : (parseMethodDescriptor yX2_skips.desc).map (fun d => d.parameters.length) = some 0)⟩ ⟨(by first | exact Nat.le_of_ble_eq_true rfl | exact le_d rfl), (by first | exact Nat.le_of_ble_eq_true rfl | exact le_d rfl)⟩) ⟨cPre_blind, c_recv X hw hN111 rfl, fun U hU hW => ⟨rfl, X.preJ hw hU hW⟩⟩ rfl rfl hl.1 rfl (lv_room ((by first | exact Nat.le_of_ble_eq_true rfl | exact le_d rfl))) dX2_part_194 ⟨show cells + mc80 + 0 ≤ MC by omega, show slots + ms81 + 0 ≤ MS by omega⟩) (fun _ N114 H locs h hw => ?_)
  refine W.eq (g2 := F0 m 197 ls ([])) rfl ?_
  refine lv_iload (pc := 197) hx hb dX2_part_197 (lv_at hl 4 rfl) ?_
  refine lv_if_eq (pc := 199) (tgt := 233) hx hb dX2_part_199 rfl (fun c115 => ?_) (fun c115 => ?_)
  · have h := h.1 c115
    refine lv_aload_n (pc := 233) hx hb dX2_part_233 rfl (lv_at hl 0 rfl) ?_
    refine lv_dup (pc := 234) hx hb dX2_part_234 rfl ?_
    obtain ⟨f117, f118, f119, f120, hN116, h⟩ := h
    refine c_get (pc := 235) X hw hN116 in_X2 rfl 2 (by decide) q408 rfl rfl dX2_part_235 ?_
    refine lv_iconst (pc := 238) (v := (1 : Int32)) hx hb dX2_part_238 (by decide) ?_
    refine lv_iadd (pc := 239) hx hb dX2_part_239 ?_
    refine c_put (pc := 240) X hw hN116 in_X2 tyX2 tyX2_ok nmX2 rfl 2 (by decide) q408 rfl rfl rfl rfl rfl ((by first | exact Nat.le_of_ble_eq_true rfl | exact le_d rfl)) dX2_part_240 (fun H locs hw => ?_)
    obtain ⟨N121, e122⟩ : ∃ z, z = va_up N114 x0 (some (eO 2 [.int f117, .int f118, .int (f119 + (1 : Int32)), va_rf f120])) := ⟨_, rfl⟩
    have hw : cH G A s [] N121 H locs := by rw [e122]; exact hw
    have h := h N121 e122
    have hN123 : N121 x0 = some (eO 2 [.int f117, .int f118, .int (f119 + (1 : Int32)), va_rf f120]) := by rw [e122]; exact up_s
    refine lv_aload_n (pc := 243) hx hb dX2_part_243 rfl (lv_at hl 0 rfl) ?_
    refine lq_aload_n (pc := 244) hx hb dX2_part_244 rfl (lv_at hl 1 rfl) ?_
    obtain ⟨mc126, ms127, hm128, hm129, h⟩ := h
    refine cx_callJ (pc := 245) (val := vQ) X hw (cx_runV (C := RX2) (As := [va_rf x1]) (rest := []) X.1 (hI (sz := H.size) h) (cwV 1 hts (lw_V q1434 q1436 qs31 q113 q1437) rfl rfl rfl ⟨rfl, by decide, by decide, (by decide +kernel : (parseMethodDescriptor yX2_sum.desc).map (fun d => d.parameters.length) = some 1)⟩ ⟨show 14 + 4 * d + 1 ≤ 15 + 4 * d by omega, show 8 + (4 + 11) + (400 + 140 * d) ≤ 423 + 140 * d by omega⟩) ⟨cPre_blind, c_recv X hw hN123 rfl, fun U hU hW => ⟨rfl, X.preJ hw hU hW⟩⟩ rfl rfl hl.1 rfl (lv_room ((by first | exact Nat.le_of_ble_eq_true rfl | exact le_d rfl))) dX2_part_245 ⟨show cells + mc80 + 0 + mc126 ≤ MC by omega, show slots + ms81 + 0 + ms127 ≤ MS by omega⟩) (fun q130 N131 H locs ci132 fs133 ch136 hci134 hNq135 h hw hch => ?_) (fun r124 N125 H locs h hw => ?_)
    · have hci134 := List.mem_singleton.mp hci134
      subst hci134
      have h := h fs133 hNq135
      exact cx_outJ (pc := 245) X hw hNq135 rfl (by decide) (by rw [hT]; intro x hx; cases hx) hlk hch h (by omega) (by omega)
    refine W.eq (g2 := F0 m 248 ls (va_rf r124 :: [])) rfl ?_
    refine lq_astore (pc := 248) (lv' := [(5, va_rf r124), (0, .ref x0), (1, va_rf x1), (2, .int x2), (3, va_rf x3), (4, .int x4)]) hx hb dX2_part_248 hl (by decide) rfl (fun ls hl => ?_)
    refine lv_aload_n (pc := 250) hx hb dX2_part_250 rfl (lv_at hl 1 rfl) ?_
    refine lv_bipush (pc := 251) (v := (41 : Int32)) hx hb dX2_part_251 (by decide) ?_
    obtain ⟨f144, f145, f146, f147, hN143, h⟩ := h
    obtain ⟨mc139, ms140, hm141, hm142, h⟩ := h
    refine cx_callJ (pc := 253) (val := vV) X hw (cx_runV (C := RX2) (As := [.int (41 : Int32)]) (rest := []) X.1 (tX2_asks hL X.2.2.1 (sz := H.size) h) (cwV 1 hts (lw_V q838 q840 qs19 q113 q841) rfl rfl rfl ⟨rfl, by decide, by decide, (by decide +kernel : (parseMethodDescriptor yX2_asks.desc).map (fun d => d.parameters.length) = some 1)⟩ ⟨(by first | exact Nat.le_of_ble_eq_true rfl | exact le_d rfl), (by first | exact Nat.le_of_ble_eq_true rfl | exact le_d rfl)⟩) ⟨cPre_blind, c_recv X hw hN143 rfl, fun U hU hW => ⟨rfl, X.preJ hw hU hW⟩⟩ rfl rfl hl.1 rfl (lv_room ((by first | exact Nat.le_of_ble_eq_true rfl | exact le_d rfl))) dX2_part_253 ⟨show cells + mc80 + 0 + mc126 + mc139 ≤ MC by omega, show slots + ms81 + 0 + ms127 + ms140 ≤ MS by omega⟩) (fun q148 N149 H locs ci150 fs151 ch154 hci152 hNq153 h hw hch => ?_) (fun _ N138 H locs h hw => ?_)
    · have hci152 := List.mem_singleton.mp hci152
      subst hci152
      have h := h fs151 hNq153
      exact cx_outJ (pc := 253) X hw hNq153 rfl (by decide) (by rw [hT]; intro x hx; cases hx) hlk hch h (by omega) (by omega)
    refine W.eq (g2 := F0 m 256 ls ([])) rfl ?_
    refine lv_aload_n (pc := 256) hx hb dX2_part_256 rfl (lv_at hl 1 rfl) ?_
    refine lv_dup (pc := 257) hx hb dX2_part_257 rfl ?_
    obtain ⟨f156, f157, f158, f159, hN155, h⟩ := h
    refine c_get (pc := 258) X hw hN155 in_X2 rfl 2 (by decide) q408 rfl rfl dX2_part_258 ?_
    refine lv_iconst (pc := 261) (v := (1 : Int32)) hx hb dX2_part_261 (by decide) ?_
    refine lv_isub (pc := 262) hx hb dX2_part_262 ?_
    refine c_put (pc := 263) X hw hN155 in_X2 tyX2 tyX2_ok nmX2 rfl 2 (by decide) q408 rfl rfl rfl rfl rfl ((by first | exact Nat.le_of_ble_eq_true rfl | exact le_d rfl)) dX2_part_263 (fun H locs hw => ?_)
    obtain ⟨N160, e161⟩ : ∃ z, z = va_up N138 x0 (some (eO 2 [.int f156, .int f157, .int (f158 - (1 : Int32)), va_rf f159])) := ⟨_, rfl⟩
    have hw : cH G A s [] N160 H locs := by rw [e161]; exact hw
    have h := h N160 e161
    have hN162 : N160 x0 = some (eO 2 [.int f156, .int f157, .int (f158 - (1 : Int32)), va_rf f159]) := by rw [e161]; exact up_s
    refine lq_aload (pc := 266) hx hb dX2_part_266 (lv_at hl 0 rfl) ?_
    refine W.widen (k := MC) (n := MS) (by omega) (by omega) ?_
    refine cx_ret ?_
    exact W.aret (pc := 268) (v := va_rf r124) hx hb hr (Or.inl ⟨_, rfl⟩) (va_rf_or _) (fun t ht hW => c_ret (val := vQ) (lw := jW) (u := N160) hw h ht) hw.2.2.2 dX2_part_268 hlk
  · have h := h.2 c115
    refine lq_aload_n (pc := 202) hx hb dX2_part_202 rfl (lv_at hl 1 rfl) ?_
    refine lv_dup (pc := 203) hx hb dX2_part_203 (rf_c _) ?_
    refine W.eq (g2 := F0 m 204 ls [.ref a96, va_rf x1]) (by rw [hr97]; rfl) ?_
    obtain ⟨f164, f165, hN163, h⟩ := h
    refine c_getN (pc := 204) X hw hN163 in_X9 rfl 1 (by decide) q1428 rfl rfl dX2_part_204 ?_
    refine lv_iconst (pc := 207) (v := (1 : Int32)) hx hb dX2_part_207 (by decide) ?_
    refine lq_aload_n (pc := 208) hx hb dX2_part_208 rfl (lv_at hl 3 rfl) ?_
    refine lv_iconst (pc := 209) (v := (0 : Int32)) hx hb dX2_part_209 (by decide) ?_
    obtain ⟨a166, hr167, h⟩ := h
    refine W.eq (g2 := F0 m 210 ls [.int (0 : Int32), .ref a166, .int (1 : Int32), .int f165, va_rf x1]) (by rw [hr167]; rfl) ?_
    obtain ⟨sv168, sn169, sf170, hK171, h⟩ := h
    obtain ⟨hi, h⟩ := h
    refine str_charAt (pc := 210) (rest := [.int (1 : Int32), .int f165, va_rf x1]) X.1 X.2.2.1 (c_sk X hw hK171) hK171.1 (fun U hU hW => X.go hw hU hW) hi (lw_V q1450 q1451 q1452 q111 q1453) ⟨(by first | exact Nat.le_of_ble_eq_true rfl | exact le_d rfl), (by first | exact Nat.le_of_ble_eq_true rfl | exact le_d rfl)⟩ hl.1 (rsum_le ((by first | exact Nat.le_of_ble_eq_true rfl | exact le_d rfl))) ⟨show cells + mc80 + 0 ≤ MC by omega, show slots + ms81 + 0 ≤ MS by omega⟩ dX2_part_210 ?_
    refine lv_bipush (pc := 213) (v := (97 : Int32)) hx hb dX2_part_213 (by decide) ?_
    refine lv_isub (pc := 215) hx hb dX2_part_215 ?_
    refine lv_ishl (pc := 216) hx hb dX2_part_216 ?_
    refine lv_ior (pc := 217) hx hb dX2_part_217 ?_
    refine W.eq (g2 := F0 m 218 ls [.int (f165 ||| ((1 : Int32) <<< (((((sf170 (0 : Int32).toNatClampNeg &&& 255).toUInt32 % 65536).toInt32) - (97 : Int32)) &&& 31))), .ref a96]) (by rw [hr97]; rfl) ?_
    refine c_putN (pc := 218) X hw hN163 in_X9 tyX9 tyX9_ok nmX9 rfl 1 (by decide) q1428 rfl rfl rfl rfl rfl ((by first | exact Nat.le_of_ble_eq_true rfl | exact le_d rfl)) dX2_part_218 (fun H locs hw => ?_)
    obtain ⟨N172, e173⟩ : ∃ z, z = va_up N114 a96 (some (eO 12 [.int f164, .int (f165 ||| ((1 : Int32) <<< (((((sf170 (0 : Int32).toNatClampNeg &&& 255).toUInt32 % 65536).toInt32) - (97 : Int32)) &&& 31)))])) := ⟨_, rfl⟩
    have hw : cH G A s [] N172 H locs := by rw [e173]; exact hw
    have h := h N172 e173
    have hN174 : N172 a96 = some (eO 12 [.int f164, .int (f165 ||| ((1 : Int32) <<< (((((sf170 (0 : Int32).toNatClampNeg &&& 255).toUInt32 % 65536).toInt32) - (97 : Int32)) &&& 31)))]) := by rw [e173]; exact up_s
    refine lq_aload_n (pc := 221) hx hb dX2_part_221 rfl (lv_at hl 3 rfl) ?_
    refine lv_iconst (pc := 222) (v := (0 : Int32)) hx hb dX2_part_222 (by decide) ?_
    refine W.eq (g2 := F0 m 223 ls [.int (0 : Int32), .ref a166]) (by rw [hr167]; rfl) ?_
    obtain ⟨sv175, sn176, sf177, hK178, h⟩ := h
    obtain ⟨hi, h⟩ := h
    refine str_charAt (pc := 223) (rest := []) X.1 X.2.2.1 (c_sk X hw hK178) hK178.1 (fun U hU hW => X.go hw hU hW) hi (lw_V q1450 q1451 q1452 q111 q1453) ⟨(by first | exact Nat.le_of_ble_eq_true rfl | exact le_d rfl), (by first | exact Nat.le_of_ble_eq_true rfl | exact le_d rfl)⟩ hl.1 ((by first | exact Nat.le_of_ble_eq_true rfl | exact le_d rfl)) ⟨show cells + mc80 + 0 ≤ MC by omega, show slots + ms81 + 0 ≤ MS by omega⟩ dX2_part_223 ?_
    refine lv_bipush (pc := 226) (v := (97 : Int32)) hx hb dX2_part_226 (by decide) ?_
    refine lv_isub (pc := 228) hx hb dX2_part_228 ?_
    obtain ⟨mc181, ms182, hm183, hm184, h⟩ := h
    refine c_callJ (pc := 229) (val := vQ) X hw (va_runSN (As := [.int ((((sf177 (0 : Int32).toNatClampNeg &&& 255).toUInt32 % 65536).toInt32) - (97 : Int32))]) (rest := []) X.1 (tX0_letter X.2.2.1 (sz := H.size) h) ⟨va_cnB 1 hts (lw_meth q1484) rfl rfl rfl (X.nest q1482) (hts _ q102) ⟨by decide, by decide, (by decide +kernel : (parseMethodDescriptor yX0_letter.desc).map (fun d => d.parameters.length) = some 1)⟩ ⟨(by first | exact Nat.le_of_ble_eq_true rfl | exact le_d rfl), (by first | exact Nat.le_of_ble_eq_true rfl | exact le_d rfl)⟩, hts _ q1483, trivial⟩ ⟨cPre_blind, fun U hU hW => ⟨rfl, X.preJ hw hU hW⟩⟩ rfl rfl hl.1 rfl (lv_room ((by first | exact Nat.le_of_ble_eq_true rfl | exact le_d rfl))) dX2_part_229 ⟨show cells + mc80 + 0 + mc181 ≤ MC by omega, show slots + ms81 + 0 + ms182 ≤ MS by omega⟩) (fun r179 N180 H locs h hw => ?_)
    refine W.eq (g2 := F0 m 232 ls (va_rf r179 :: [])) rfl ?_
    refine W.widen (k := MC) (n := MS) (by omega) (by omega) ?_
    refine cx_ret ?_
    exact W.aret (pc := 232) (v := va_rf r179) hx hb hr (Or.inl ⟨_, rfl⟩) (va_rf_or _) (fun t ht hW => c_ret (val := vQ) (lw := jW) (u := N180) hw h ht) hw.2.2.2 dX2_part_232 hlk
theorem kX2_part_146 {p : Program} {l : Launch} {e : Env} {s : State} {m : MethodId} {args : Array Value} {below : List Frame} {meth : Method} {c : Code} {G : gG} {A : Nat → Prop} {MC MS : Nat} {d : Nat} {rc : (Option Nat → NM → Prop) → (Nat → List Nat → NM → Prop) → Nat → Nat → NM → Nat → Option Nat → Prop} {post : Option Nat → NM → Prop} {xp : Nat → List Nat → NM → Prop} (X : cX G A RX2 p s m args c cX2_part 6) (hr : meth.sig.returnType = (some (.object "ToldPowers$Sum"))) (hlk : meth.locks = false) (hL : l.stackTraces = false) (hT : c.exceptionTable.toList = tableOf []) (hI : ∀ {post : Option Nat → NM → Prop} {xp : Nat → List Nat → NM → Prop} {MC MS : Nat} {N : NM} {x0 : Nat} {x1 : Option Nat} {sz : Nat}, rc post xp MC MS N x0 x1 → cx_Met l yX2_sum (ws_ yX2_sum cX2_sum 4 (some (.object "ToldPowers$Sum"))) ⟨14 + 4 * d, MC, MS, 400 + 140 * d⟩ (va_Pc [.ref x0, va_rf x1] (cPre G [] N sz)) (gQ vQ post (fun u H => cBw G (cA [] N sz) (jW u).1 (jW u).2 H) (cA [] N sz)) (cXC G (cA [] N sz) [3] xp) MC MS (cA [] N sz)) : ∀ (x0 : Nat) (x1 : Option Nat) (x2 : Int32) (x3 : Option Nat) (x4 : Int32) (v0 : Int32) (v1 : Nat) (mc ms : Nat) (N : NM) (H : Heap) (locs : List Loc) (ls : Array Slot) (cells slots : Nat), wX2_part_146 (gC G) rc post xp x0 x1 x2 x3 x4 v0 v1 mc ms N → (cH G A s [] N H locs ∧ cells + mc ≤ MC ∧ slots + ms ≤ MS) → lv_has ls 6 [(0, .ref x0), (1, va_rf x1), (2, .int x2), (3, va_rf x3), (4, .int x4)] → W p l e ⟨15 + 4 * d, MC, MS, 423 + 140 * d⟩ s m args below meth c H locs cells slots (cx_MQ below (gQ vQ post (fun u H => cBw G A (jW u).1 (jW u).2 H) A) (cXC G A [3] xp) args s MC MS A) (F0 m 146 ls [.int v0, .ref v1]) := by
  have hx := X.1.1
  have hb := X.1.2.1
  have hml := X.1.2.2.1
  have hown := X.1.2.2.2.1
  have hts := X.1.2.2.2.2
  intro x0 x1 x2 x3 x4 v0 v1 mc ms N H locs ls cells slots h hw0 hl
  obtain ⟨hw, hbud⟩ := hw0
  unfold wX2_part_146 at h
  refine lv_bipush (pc := 146) (v := (11 : Int32)) hx hb dX2_part_146 (by decide) ?_
  refine lv_iload_n (pc := 148) hx hb dX2_part_148 rfl (lv_at hl 2 rfl) ?_
  obtain ⟨f61, f62, f63, f64, hN60, h⟩ := h
  obtain ⟨mc56, ms57, hm58, hm59, h⟩ := h
  refine cx_callJ (pc := 149) (val := vV) X hw (cx_runV (C := RX2) (As := [.int v0, .int (11 : Int32), .int x2]) (rest := []) X.1 (tX2_must hL X.2.2.1 (sz := H.size) h) (cwV 3 hts (lw_V q659 q661 qs9 q113 q662) rfl rfl rfl ⟨rfl, by decide, by decide, (by decide +kernel : (parseMethodDescriptor yX2_must.desc).map (fun d => d.parameters.length) = some 3)⟩ ⟨(by first | exact Nat.le_of_ble_eq_true rfl | exact le_d rfl), (by first | exact Nat.le_of_ble_eq_true rfl | exact le_d rfl)⟩) ⟨cPre_blind, c_recv X hw hN60 rfl, fun U hU hW => ⟨rfl, X.preJ hw hU hW⟩⟩ rfl rfl hl.1 rfl (lv_room ((by first | exact Nat.le_of_ble_eq_true rfl | exact le_d rfl))) dX2_part_149 ⟨show cells + mc56 ≤ MC by omega, show slots + ms57 ≤ MS by omega⟩) (fun q65 N66 H locs ci67 fs68 ch71 hci69 hNq70 h hw hch => ?_) (fun _ N55 H locs h hw => ?_)
  · have hci69 := List.mem_singleton.mp hci69
    subst hci69
    have h := h fs68 hNq70
    exact cx_outJ (pc := 149) X hw hNq70 rfl (by decide) (by rw [hT]; intro x hx; cases hx) hlk hch h (by omega) (by omega)
  refine W.eq (g2 := F0 m 152 ls ([])) rfl ?_
  refine lv_aload_n (pc := 152) hx hb dX2_part_152 rfl (lv_at hl 0 rfl) ?_
  refine lq_aload_n (pc := 153) hx hb dX2_part_153 rfl (lv_at hl 1 rfl) ?_
  obtain ⟨a72, hr73, h⟩ := h
  refine W.eq (g2 := F0 m 154 ls [.ref a72, .ref x0]) (by rw [hr73]; rfl) ?_
  obtain ⟨f75, f76, hN74, h⟩ := h
  refine c_getN (pc := 154) X hw hN74 in_X9 rfl 0 (by decide) q1427 rfl rfl dX2_part_154 ?_
  refine lv_bipush (pc := 157) (v := (60 : Int32)) hx hb dX2_part_157 (by decide) ?_
  refine lv_icmp_ge (pc := 159) (tgt := 166) hx hb dX2_part_159 rfl (fun c77 => ?_) (fun c77 => ?_)
  · have h := h.1 c77
    refine lv_iconst (pc := 166) (v := (0 : Int32)) hx hb dX2_part_166 (by decide) ?_
    exact kX2_part_167 X hr hlk hL hT hI  _ _ _ _ _ _ _ _ _ _ _ _ _ _ _ h ⟨hw, by omega⟩ (lv_sub hl [0, 1, 2, 3, 4] rfl)
  · have h := h.2 c77
    refine lv_iconst (pc := 162) (v := (1 : Int32)) hx hb dX2_part_162 (by decide) ?_
    refine lv_goto (pc := 163) (tgt := 167) hx hb dX2_part_163 rfl ?_
    exact kX2_part_167 X hr hlk hL hT hI  _ _ _ _ _ _ _ _ _ _ _ _ _ _ _ h ⟨hw, by omega⟩ (lv_sub hl [0, 1, 2, 3, 4] rfl)
theorem kX2_part_141 {p : Program} {l : Launch} {e : Env} {s : State} {m : MethodId} {args : Array Value} {below : List Frame} {meth : Method} {c : Code} {G : gG} {A : Nat → Prop} {MC MS : Nat} {d : Nat} {rc : (Option Nat → NM → Prop) → (Nat → List Nat → NM → Prop) → Nat → Nat → NM → Nat → Option Nat → Prop} {post : Option Nat → NM → Prop} {xp : Nat → List Nat → NM → Prop} (X : cX G A RX2 p s m args c cX2_part 6) (hr : meth.sig.returnType = (some (.object "ToldPowers$Sum"))) (hlk : meth.locks = false) (hL : l.stackTraces = false) (hT : c.exceptionTable.toList = tableOf []) (hI : ∀ {post : Option Nat → NM → Prop} {xp : Nat → List Nat → NM → Prop} {MC MS : Nat} {N : NM} {x0 : Nat} {x1 : Option Nat} {sz : Nat}, rc post xp MC MS N x0 x1 → cx_Met l yX2_sum (ws_ yX2_sum cX2_sum 4 (some (.object "ToldPowers$Sum"))) ⟨14 + 4 * d, MC, MS, 400 + 140 * d⟩ (va_Pc [.ref x0, va_rf x1] (cPre G [] N sz)) (gQ vQ post (fun u H => cBw G (cA [] N sz) (jW u).1 (jW u).2 H) (cA [] N sz)) (cXC G (cA [] N sz) [3] xp) MC MS (cA [] N sz)) : ∀ (x0 : Nat) (x1 : Option Nat) (x2 : Int32) (x3 : Option Nat) (x4 : Int32) (v0 : Nat) (mc ms : Nat) (N : NM) (H : Heap) (locs : List Loc) (ls : Array Slot) (cells slots : Nat), wX2_part_141 (gC G) rc post xp x0 x1 x2 x3 x4 v0 mc ms N → (cH G A s [] N H locs ∧ cells + mc ≤ MC ∧ slots + ms ≤ MS) → lv_has ls 6 [(0, .ref x0), (1, va_rf x1), (2, .int x2), (3, va_rf x3), (4, .int x4)] → W p l e ⟨15 + 4 * d, MC, MS, 423 + 140 * d⟩ s m args below meth c H locs cells slots (cx_MQ below (gQ vQ post (fun u H => cBw G A (jW u).1 (jW u).2 H) A) (cXC G A [3] xp) args s MC MS A) (F0 m 141 ls [.ref v0]) := by
  have hx := X.1.1
  have hb := X.1.2.1
  have hml := X.1.2.2.1
  have hown := X.1.2.2.2.1
  have hts := X.1.2.2.2.2
  intro x0 x1 x2 x3 x4 v0 mc ms N H locs ls cells slots h hw0 hl
  obtain ⟨hw, hbud⟩ := hw0
  unfold wX2_part_141 at h
  refine lv_iconst (pc := 141) (v := (1 : Int32)) hx hb dX2_part_141 (by decide) ?_
  refine lv_goto (pc := 142) (tgt := 146) hx hb dX2_part_142 rfl ?_
  exact kX2_part_146 X hr hlk hL hT hI  _ _ _ _ _ _ _ _ _ _ _ _ _ _ _ h ⟨hw, by omega⟩ (lv_sub hl [0, 1, 2, 3, 4] rfl)
theorem kX2_part_103 {p : Program} {l : Launch} {e : Env} {s : State} {m : MethodId} {args : Array Value} {below : List Frame} {meth : Method} {c : Code} {G : gG} {A : Nat → Prop} {MC MS : Nat} {d : Nat} {rc : (Option Nat → NM → Prop) → (Nat → List Nat → NM → Prop) → Nat → Nat → NM → Nat → Option Nat → Prop} {post : Option Nat → NM → Prop} {xp : Nat → List Nat → NM → Prop} (X : cX G A RX2 p s m args c cX2_part 6) (hr : meth.sig.returnType = (some (.object "ToldPowers$Sum"))) (hlk : meth.locks = false) (hL : l.stackTraces = false) (hT : c.exceptionTable.toList = tableOf []) (hI : ∀ {post : Option Nat → NM → Prop} {xp : Nat → List Nat → NM → Prop} {MC MS : Nat} {N : NM} {x0 : Nat} {x1 : Option Nat} {sz : Nat}, rc post xp MC MS N x0 x1 → cx_Met l yX2_sum (ws_ yX2_sum cX2_sum 4 (some (.object "ToldPowers$Sum"))) ⟨14 + 4 * d, MC, MS, 400 + 140 * d⟩ (va_Pc [.ref x0, va_rf x1] (cPre G [] N sz)) (gQ vQ post (fun u H => cBw G (cA [] N sz) (jW u).1 (jW u).2 H) (cA [] N sz)) (cXC G (cA [] N sz) [3] xp) MC MS (cA [] N sz)) : ∀ (x1 : Option Nat) (x2 : Int32) (x5 : Int32) (v0 : Int32) (v1 : Nat) (mc ms : Nat) (N : NM) (H : Heap) (locs : List Loc) (ls : Array Slot) (cells slots : Nat), wX2_part_103 (gC G) rc post xp x1 x2 x5 v0 v1 mc ms N → (cH G A s [] N H locs ∧ cells + mc ≤ MC ∧ slots + ms ≤ MS) → lv_has ls 6 [(1, va_rf x1), (2, .int x2), (5, .int x5)] → W p l e ⟨15 + 4 * d, MC, MS, 423 + 140 * d⟩ s m args below meth c H locs cells slots (cx_MQ below (gQ vQ post (fun u H => cBw G A (jW u).1 (jW u).2 H) A) (cXC G A [3] xp) args s MC MS A) (F0 m 103 ls [.int v0, .ref v1]) := by
  have hx := X.1.1
  have hb := X.1.2.1
  have hml := X.1.2.2.1
  have hown := X.1.2.2.2.1
  have hts := X.1.2.2.2.2
  intro x1 x2 x5 v0 v1 mc ms N H locs ls cells slots h hw0 hl
  obtain ⟨hw, hbud⟩ := hw0
  unfold wX2_part_103 at h
  refine lv_bipush (pc := 103) (v := (12 : Int32)) hx hb dX2_part_103 (by decide) ?_
  refine lv_iload_n (pc := 105) hx hb dX2_part_105 rfl (lv_at hl 1 rfl) ?_
  obtain ⟨f222, f223, f224, f225, hN221, h⟩ := h
  obtain ⟨mc217, ms218, hm219, hm220, h⟩ := h
  refine cx_callJ (pc := 106) (val := vV) X hw (cx_runV (C := RX2) (As := [.int v0, .int (12 : Int32), .int x2]) (rest := []) X.1 (tX2_must hL X.2.2.1 (sz := H.size) h) (cwV 3 hts (lw_V q659 q661 qs9 q113 q662) rfl rfl rfl ⟨rfl, by decide, by decide, (by decide +kernel : (parseMethodDescriptor yX2_must.desc).map (fun d => d.parameters.length) = some 3)⟩ ⟨(by first | exact Nat.le_of_ble_eq_true rfl | exact le_d rfl), (by first | exact Nat.le_of_ble_eq_true rfl | exact le_d rfl)⟩) ⟨cPre_blind, c_recv X hw hN221 rfl, fun U hU hW => ⟨rfl, X.preJ hw hU hW⟩⟩ rfl rfl hl.1 rfl (lv_room ((by first | exact Nat.le_of_ble_eq_true rfl | exact le_d rfl))) dX2_part_106 ⟨show cells + mc217 ≤ MC by omega, show slots + ms218 ≤ MS by omega⟩) (fun q226 N227 H locs ci228 fs229 ch232 hci230 hNq231 h hw hch => ?_) (fun _ N216 H locs h hw => ?_)
  · have hci230 := List.mem_singleton.mp hci230
    subst hci230
    have h := h fs229 hNq231
    exact cx_outJ (pc := 106) X hw hNq231 rfl (by decide) (by rw [hT]; intro x hx; cases hx) hlk hch h (by omega) (by omega)
  refine W.eq (g2 := F0 m 109 ls ([])) rfl ?_
  refine lq_aload_n (pc := 109) hx hb dX2_part_109 rfl (lv_at hl 0 rfl) ?_
  refine lv_dup (pc := 110) hx hb dX2_part_110 (rf_c _) ?_
  obtain ⟨a233, hr234, h⟩ := h
  refine W.eq (g2 := F0 m 111 ls [.ref a233, va_rf x1]) (by rw [hr234]; rfl) ?_
  obtain ⟨f236, f237, hN235, h⟩ := h
  refine c_getN (pc := 111) X hw hN235 in_X9 rfl 0 (by decide) q1427 rfl rfl dX2_part_111 ?_
  refine lv_iconst (pc := 114) (v := (1 : Int32)) hx hb dX2_part_114 (by decide) ?_
  refine lv_iadd (pc := 115) hx hb dX2_part_115 ?_
  refine W.eq (g2 := F0 m 116 ls [.int (f236 + (1 : Int32)), .ref a233]) (by rw [hr234]; rfl) ?_
  refine c_putN (pc := 116) X hw hN235 in_X9 tyX9 tyX9_ok nmX9 rfl 0 (by decide) q1427 rfl rfl rfl rfl rfl ((by first | exact Nat.le_of_ble_eq_true rfl | exact le_d rfl)) dX2_part_116 (fun H locs hw => ?_)
  obtain ⟨N238, e239⟩ : ∃ z, z = va_up N216 a233 (some (eO 12 [.int (f236 + (1 : Int32)), .int f237])) := ⟨_, rfl⟩
  have hw : cH G A s [] N238 H locs := by rw [e239]; exact hw
  have h := h N238 e239
  have hN240 : N238 a233 = some (eO 12 [.int (f236 + (1 : Int32)), .int f237]) := by rw [e239]; exact up_s
  refine lv_iload (pc := 119) hx hb dX2_part_119 (lv_at hl 2 rfl) ?_
  refine lv_i2l (pc := 121) hx hb dX2_part_121 rfl ?_
  obtain ⟨mc243, ms244, hm245, hm246, h⟩ := h
  refine c_callJ (pc := 122) (val := vQ) X hw (va_runSN (As := [.long x5.toInt64]) (rest := []) X.1 (tX0_plain X.2.2.1 (sz := H.size) h) ⟨va_cnB 1 hts (lw_meth q1468) rfl rfl rfl (X.nest q1466) (hts _ q102) ⟨by decide, by decide, (by decide +kernel : (parseMethodDescriptor yX0_plain.desc).map (fun d => d.parameters.length) = some 1)⟩ ⟨(by first | exact Nat.le_of_ble_eq_true rfl | exact le_d rfl), (by first | exact Nat.le_of_ble_eq_true rfl | exact le_d rfl)⟩, hts _ q1467, trivial⟩ ⟨cPre_blind, fun U hU hW => ⟨rfl, X.preJ hw hU hW⟩⟩ rfl rfl hl.1 rfl (lv_room ((by first | exact Nat.le_of_ble_eq_true rfl | exact le_d rfl))) dX2_part_122 ⟨show cells + mc217 + mc243 ≤ MC by omega, show slots + ms218 + ms244 ≤ MS by omega⟩) (fun r241 N242 H locs h hw => ?_)
  refine W.eq (g2 := F0 m 125 ls (va_rf r241 :: [])) rfl ?_
  refine W.widen (k := MC) (n := MS) (by omega) (by omega) ?_
  refine cx_ret ?_
  exact W.aret (pc := 125) (v := va_rf r241) hx hb hr (Or.inl ⟨_, rfl⟩) (va_rf_or _) (fun t ht hW => c_ret (val := vQ) (lw := jW) (u := N242) hw h ht) hw.2.2.2 dX2_part_125 hlk
theorem kX2_part_70 {p : Program} {l : Launch} {e : Env} {s : State} {m : MethodId} {args : Array Value} {below : List Frame} {meth : Method} {c : Code} {G : gG} {A : Nat → Prop} {MC MS : Nat} {d : Nat} {rc : (Option Nat → NM → Prop) → (Nat → List Nat → NM → Prop) → Nat → Nat → NM → Nat → Option Nat → Prop} {post : Option Nat → NM → Prop} {xp : Nat → List Nat → NM → Prop} (X : cX G A RX2 p s m args c cX2_part 6) (hr : meth.sig.returnType = (some (.object "ToldPowers$Sum"))) (hlk : meth.locks = false) (hL : l.stackTraces = false) (hT : c.exceptionTable.toList = tableOf []) (hI : ∀ {post : Option Nat → NM → Prop} {xp : Nat → List Nat → NM → Prop} {MC MS : Nat} {N : NM} {x0 : Nat} {x1 : Option Nat} {sz : Nat}, rc post xp MC MS N x0 x1 → cx_Met l yX2_sum (ws_ yX2_sum cX2_sum 4 (some (.object "ToldPowers$Sum"))) ⟨14 + 4 * d, MC, MS, 400 + 140 * d⟩ (va_Pc [.ref x0, va_rf x1] (cPre G [] N sz)) (gQ vQ post (fun u H => cBw G (cA [] N sz) (jW u).1 (jW u).2 H) (cA [] N sz)) (cXC G (cA [] N sz) [3] xp) MC MS (cA [] N sz)) : ∀ (x0 : Nat) (x1 : Option Nat) (x2 : Int32) (x3 : Option Nat) (x4 : Int32) (v0 : Int32) (v1 : Nat) (mc ms : Nat) (N : NM) (H : Heap) (locs : List Loc) (ls : Array Slot) (cells slots : Nat), wX2_part_70 (gC G) rc post xp x0 x1 x2 x3 x4 v0 v1 mc ms N → (cH G A s [] N H locs ∧ cells + mc ≤ MC ∧ slots + ms ≤ MS) → lv_has ls 6 [(0, .ref x0), (1, va_rf x1), (2, .int x2), (3, va_rf x3), (4, .int x4)] → W p l e ⟨15 + 4 * d, MC, MS, 423 + 140 * d⟩ s m args below meth c H locs cells slots (cx_MQ below (gQ vQ post (fun u H => cBw G A (jW u).1 (jW u).2 H) A) (cXC G A [3] xp) args s MC MS A) (F0 m 70 ls [.int v0, .ref v1]) := by
  have hx := X.1.1
  have hb := X.1.2.1
  have hml := X.1.2.2.1
  have hown := X.1.2.2.2.1
  have hts := X.1.2.2.2.2
  intro x0 x1 x2 x3 x4 v0 v1 mc ms N H locs ls cells slots h hw0 hl
  obtain ⟨hw, hbud⟩ := hw0
  unfold wX2_part_70 at h
  refine lv_iconst (pc := 70) (v := (1 : Int32)) hx hb dX2_part_70 (by decide) ?_
  refine lv_iload_n (pc := 71) hx hb dX2_part_71 rfl (lv_at hl 2 rfl) ?_
  obtain ⟨f34, f35, f36, f37, hN33, h⟩ := h
  obtain ⟨mc29, ms30, hm31, hm32, h⟩ := h
  refine cx_callJ (pc := 72) (val := vV) X hw (cx_runV (C := RX2) (As := [.int v0, .int (1 : Int32), .int x2]) (rest := []) X.1 (tX2_must hL X.2.2.1 (sz := H.size) h) (cwV 3 hts (lw_V q659 q661 qs9 q113 q662) rfl rfl rfl ⟨rfl, by decide, by decide, (by decide +kernel : (parseMethodDescriptor yX2_must.desc).map (fun d => d.parameters.length) = some 3)⟩ ⟨(by first | exact Nat.le_of_ble_eq_true rfl | exact le_d rfl), (by first | exact Nat.le_of_ble_eq_true rfl | exact le_d rfl)⟩) ⟨cPre_blind, c_recv X hw hN33 rfl, fun U hU hW => ⟨rfl, X.preJ hw hU hW⟩⟩ rfl rfl hl.1 rfl (lv_room ((by first | exact Nat.le_of_ble_eq_true rfl | exact le_d rfl))) dX2_part_72 ⟨show cells + mc29 ≤ MC by omega, show slots + ms30 ≤ MS by omega⟩) (fun q38 N39 H locs ci40 fs41 ch44 hci42 hNq43 h hw hch => ?_) (fun _ N28 H locs h hw => ?_)
  · have hci42 := List.mem_singleton.mp hci42
    subst hci42
    have h := h fs41 hNq43
    exact cx_outJ (pc := 72) X hw hNq43 rfl (by decide) (by rw [hT]; intro x hx; cases hx) hlk hch h (by omega) (by omega)
  refine W.eq (g2 := F0 m 75 ls ([])) rfl ?_
  refine lv_aload_n (pc := 75) hx hb dX2_part_75 rfl (lv_at hl 0 rfl) ?_
  obtain ⟨f48, f49, f50, f51, hN47, h⟩ := h
  refine c_callJ (pc := 76) (val := vI) X hw (va_runV (C := RX2) (As := []) (rest := []) X.1 (tX2_isDigit X.2.2.1 (sz := H.size) h) (cwV 0 hts (lw_V q454 q456 qs6 q113 q457) rfl rfl rfl ⟨rfl, by decide, by decide, (by decide +kernel : (parseMethodDescriptor yX2_isDigit.desc).map (fun d => d.parameters.length) = some 0)⟩ ⟨(by first | exact Nat.le_of_ble_eq_true rfl | exact le_d rfl), (by first | exact Nat.le_of_ble_eq_true rfl | exact le_d rfl)⟩) ⟨cPre_blind, c_recv X hw hN47 rfl, fun U hU hW => ⟨rfl, X.preJ hw hU hW⟩⟩ rfl rfl hl.1 rfl (lv_room ((by first | exact Nat.le_of_ble_eq_true rfl | exact le_d rfl))) dX2_part_76 ⟨show cells + mc29 + 0 ≤ MC by omega, show slots + ms30 + 0 ≤ MS by omega⟩) (fun r45 N46 H locs h hw => ?_)
  refine W.eq (g2 := F0 m 79 ls (.int r45 :: [])) rfl ?_
  refine lv_if_eq (pc := 79) (tgt := 126) hx hb dX2_part_79 rfl (fun c52 => ?_) (fun c52 => ?_)
  · have h := h.1 c52
    refine lv_aload_n (pc := 126) hx hb dX2_part_126 rfl (lv_at hl 0 rfl) ?_
    refine lv_iload (pc := 127) hx hb dX2_part_127 (lv_at hl 4 rfl) ?_
    refine lv_if_ne (pc := 129) (tgt := 141) hx hb dX2_part_129 rfl (fun c53 => ?_) (fun c53 => ?_)
    · have h := h.2 c53
      exact kX2_part_141 X hr hlk hL hT hI  _ _ _ _ _ _ _ _ _ _ _ _ _ _ h ⟨hw, by omega⟩ (lv_sub hl [0, 1, 2, 3, 4] rfl)
    · have h := h.1 c53
      refine lv_aload_n (pc := 132) hx hb dX2_part_132 rfl (lv_at hl 0 rfl) ?_
      obtain ⟨f186, f187, f188, f189, hN185, h⟩ := h
      refine c_get (pc := 133) X hw hN185 in_X2 rfl 2 (by decide) q408 rfl rfl dX2_part_133 ?_
      refine lv_bipush (pc := 136) (v := (6 : Int32)) hx hb dX2_part_136 (by decide) ?_
      refine lv_icmp_ge (pc := 138) (tgt := 145) hx hb dX2_part_138 rfl (fun c190 => ?_) (fun c190 => ?_)
      · have h := h.1 c190
        refine lv_iconst (pc := 145) (v := (0 : Int32)) hx hb dX2_part_145 (by decide) ?_
        exact kX2_part_146 X hr hlk hL hT hI  _ _ _ _ _ _ _ _ _ _ _ _ _ _ _ h ⟨hw, by omega⟩ (lv_sub hl [0, 1, 2, 3, 4] rfl)
      · have h := h.2 c190
        exact kX2_part_141 X hr hlk hL hT hI  _ _ _ _ _ _ _ _ _ _ _ _ _ _ h ⟨hw, by omega⟩ (lv_sub hl [0, 1, 2, 3, 4] rfl)
  · have h := h.2 c52
    refine lv_aload_n (pc := 82) hx hb dX2_part_82 rfl (lv_at hl 0 rfl) ?_
    obtain ⟨f198, f199, f200, f201, hN197, h⟩ := h
    obtain ⟨mc193, ms194, hm195, hm196, h⟩ := h
    refine cx_callJ (pc := 83) (val := vI) X hw (cx_runV (C := RX2) (As := []) (rest := []) X.1 (tX2_number hL X.2.2.1 (sz := H.size) h) (cwV 0 hts (lw_V q690 q692 qs10 q113 q693) rfl rfl rfl ⟨rfl, by decide, by decide, (by decide +kernel : (parseMethodDescriptor yX2_number.desc).map (fun d => d.parameters.length) = some 0)⟩ ⟨(by first | exact Nat.le_of_ble_eq_true rfl | exact le_d rfl), (by first | exact Nat.le_of_ble_eq_true rfl | exact le_d rfl)⟩) ⟨cPre_blind, c_recv X hw hN197 rfl, fun U hU hW => ⟨rfl, X.preJ hw hU hW⟩⟩ rfl rfl hl.1 rfl (lv_room ((by first | exact Nat.le_of_ble_eq_true rfl | exact le_d rfl))) dX2_part_83 ⟨show cells + mc29 + 0 + mc193 ≤ MC by omega, show slots + ms30 + 0 + ms194 ≤ MS by omega⟩) (fun q202 N203 H locs ci204 fs205 ch208 hci206 hNq207 h hw hch => ?_) (fun r191 N192 H locs h hw => ?_)
    · have hci206 := List.mem_singleton.mp hci206
      subst hci206
      have h := h fs205 hNq207
      exact cx_outJ (pc := 83) X hw hNq207 rfl (by decide) (by rw [hT]; intro x hx; cases hx) hlk hch h (by omega) (by omega)
    refine W.eq (g2 := F0 m 86 ls (.int r191 :: [])) rfl ?_
    refine lv_istore (pc := 86) (lv' := [(5, .int r191), (0, .ref x0), (1, va_rf x1), (2, .int x2), (3, va_rf x3), (4, .int x4)]) hx hb dX2_part_86 hl (by decide) rfl (fun ls hl => ?_)
    refine lv_aload_n (pc := 88) hx hb dX2_part_88 rfl (lv_at hl 1 rfl) ?_
    refine lq_aload_n (pc := 89) hx hb dX2_part_89 rfl (lv_at hl 2 rfl) ?_
    obtain ⟨a209, hr210, h⟩ := h
    refine W.eq (g2 := F0 m 90 ls [.ref a209, .ref x0]) (by rw [hr210]; rfl) ?_
    obtain ⟨f212, f213, hN211, h⟩ := h
    refine c_getN (pc := 90) X hw hN211 in_X9 rfl 0 (by decide) q1427 rfl rfl dX2_part_90 ?_
    refine lv_bipush (pc := 93) (v := (60 : Int32)) hx hb dX2_part_93 (by decide) ?_
    refine lv_icmp_ge (pc := 95) (tgt := 102) hx hb dX2_part_95 rfl (fun c214 => ?_) (fun c214 => ?_)
    · have h := h.1 c214
      refine lv_iconst (pc := 102) (v := (0 : Int32)) hx hb dX2_part_102 (by decide) ?_
      exact kX2_part_103 X hr hlk hL hT hI  _ _ _ _ _ _ _ _ _ _ _ _ _ h ⟨hw, by omega⟩ (lv_sub hl [2, 3, 0] rfl)
    · have h := h.2 c214
      refine lv_iconst (pc := 98) (v := (1 : Int32)) hx hb dX2_part_98 (by decide) ?_
      refine lv_goto (pc := 99) (tgt := 103) hx hb dX2_part_99 rfl ?_
      exact kX2_part_103 X hr hlk hL hT hI  _ _ _ _ _ _ _ _ _ _ _ _ _ h ⟨hw, by omega⟩ (lv_sub hl [2, 3, 0] rfl)
theorem kX2_part_65 {p : Program} {l : Launch} {e : Env} {s : State} {m : MethodId} {args : Array Value} {below : List Frame} {meth : Method} {c : Code} {G : gG} {A : Nat → Prop} {MC MS : Nat} {d : Nat} {rc : (Option Nat → NM → Prop) → (Nat → List Nat → NM → Prop) → Nat → Nat → NM → Nat → Option Nat → Prop} {post : Option Nat → NM → Prop} {xp : Nat → List Nat → NM → Prop} (X : cX G A RX2 p s m args c cX2_part 6) (hr : meth.sig.returnType = (some (.object "ToldPowers$Sum"))) (hlk : meth.locks = false) (hL : l.stackTraces = false) (hT : c.exceptionTable.toList = tableOf []) (hI : ∀ {post : Option Nat → NM → Prop} {xp : Nat → List Nat → NM → Prop} {MC MS : Nat} {N : NM} {x0 : Nat} {x1 : Option Nat} {sz : Nat}, rc post xp MC MS N x0 x1 → cx_Met l yX2_sum (ws_ yX2_sum cX2_sum 4 (some (.object "ToldPowers$Sum"))) ⟨14 + 4 * d, MC, MS, 400 + 140 * d⟩ (va_Pc [.ref x0, va_rf x1] (cPre G [] N sz)) (gQ vQ post (fun u H => cBw G (cA [] N sz) (jW u).1 (jW u).2 H) (cA [] N sz)) (cXC G (cA [] N sz) [3] xp) MC MS (cA [] N sz)) : ∀ (x0 : Nat) (x1 : Option Nat) (x2 : Int32) (x3 : Option Nat) (x4 : Int32) (v0 : Nat) (mc ms : Nat) (N : NM) (H : Heap) (locs : List Loc) (ls : Array Slot) (cells slots : Nat), wX2_part_65 (gC G) rc post xp x0 x1 x2 x3 x4 v0 mc ms N → (cH G A s [] N H locs ∧ cells + mc ≤ MC ∧ slots + ms ≤ MS) → lv_has ls 6 [(0, .ref x0), (1, va_rf x1), (2, .int x2), (3, va_rf x3), (4, .int x4)] → W p l e ⟨15 + 4 * d, MC, MS, 423 + 140 * d⟩ s m args below meth c H locs cells slots (cx_MQ below (gQ vQ post (fun u H => cBw G A (jW u).1 (jW u).2 H) A) (cXC G A [3] xp) args s MC MS A) (F0 m 65 ls [.ref v0]) := by
  have hx := X.1.1
  have hb := X.1.2.1
  have hml := X.1.2.2.1
  have hown := X.1.2.2.2.1
  have hts := X.1.2.2.2.2
  intro x0 x1 x2 x3 x4 v0 mc ms N H locs ls cells slots h hw0 hl
  obtain ⟨hw, hbud⟩ := hw0
  unfold wX2_part_65 at h
  refine lv_iconst (pc := 65) (v := (1 : Int32)) hx hb dX2_part_65 (by decide) ?_
  refine lv_goto (pc := 66) (tgt := 70) hx hb dX2_part_66 rfl ?_
  exact kX2_part_70 X hr hlk hL hT hI  _ _ _ _ _ _ _ _ _ _ _ _ _ _ _ h ⟨hw, by omega⟩ (lv_sub hl [0, 1, 2, 3, 4] rfl)
theorem kX2_part_41 {p : Program} {l : Launch} {e : Env} {s : State} {m : MethodId} {args : Array Value} {below : List Frame} {meth : Method} {c : Code} {G : gG} {A : Nat → Prop} {MC MS : Nat} {d : Nat} {rc : (Option Nat → NM → Prop) → (Nat → List Nat → NM → Prop) → Nat → Nat → NM → Nat → Option Nat → Prop} {post : Option Nat → NM → Prop} {xp : Nat → List Nat → NM → Prop} (X : cX G A RX2 p s m args c cX2_part 6) (hr : meth.sig.returnType = (some (.object "ToldPowers$Sum"))) (hlk : meth.locks = false) (hL : l.stackTraces = false) (hT : c.exceptionTable.toList = tableOf []) (hI : ∀ {post : Option Nat → NM → Prop} {xp : Nat → List Nat → NM → Prop} {MC MS : Nat} {N : NM} {x0 : Nat} {x1 : Option Nat} {sz : Nat}, rc post xp MC MS N x0 x1 → cx_Met l yX2_sum (ws_ yX2_sum cX2_sum 4 (some (.object "ToldPowers$Sum"))) ⟨14 + 4 * d, MC, MS, 400 + 140 * d⟩ (va_Pc [.ref x0, va_rf x1] (cPre G [] N sz)) (gQ vQ post (fun u H => cBw G (cA [] N sz) (jW u).1 (jW u).2 H) (cA [] N sz)) (cXC G (cA [] N sz) [3] xp) MC MS (cA [] N sz)) : ∀ (x0 : Nat) (x1 : Option Nat) (x2 : Int32) (x3 : Option Nat) (v0 : Int32) (mc ms : Nat) (N : NM) (H : Heap) (locs : List Loc) (ls : Array Slot) (cells slots : Nat), wX2_part_41 (gC G) rc post xp x0 x1 x2 x3 v0 mc ms N → (cH G A s [] N H locs ∧ cells + mc ≤ MC ∧ slots + ms ≤ MS) → lv_has ls 6 [(0, .ref x0), (1, va_rf x1), (2, .int x2), (3, va_rf x3)] → W p l e ⟨15 + 4 * d, MC, MS, 423 + 140 * d⟩ s m args below meth c H locs cells slots (cx_MQ below (gQ vQ post (fun u H => cBw G A (jW u).1 (jW u).2 H) A) (cXC G A [3] xp) args s MC MS A) (F0 m 41 ls [.int v0]) := by
  have hx := X.1.1
  have hb := X.1.2.1
  have hml := X.1.2.2.1
  have hown := X.1.2.2.2.1
  have hts := X.1.2.2.2.2
  intro x0 x1 x2 x3 v0 mc ms N H locs ls cells slots h hw0 hl
  obtain ⟨hw, hbud⟩ := hw0
  unfold wX2_part_41 at h
  refine lv_istore (pc := 41) (i := 4) (lv' := [(4, .int v0), (0, .ref x0), (1, va_rf x1), (2, .int x2), (3, va_rf x3)]) hx hb dX2_part_41 hl (by decide) (by simp [rf_c]) (fun ls hl => ?_)
  refine lv_aload_n (pc := 43) hx hb dX2_part_43 rfl (lv_at hl 1 rfl) ?_
  refine lv_aload_n (pc := 44) hx hb dX2_part_44 rfl (lv_at hl 1 rfl) ?_
  obtain ⟨f22, f23, f24, f25, hN21, h⟩ := h
  refine c_callJ (pc := 45) (val := vI) X hw (va_runV (C := RX2) (As := []) (rest := [.ref x0]) X.1 (tX2_isDigit X.2.2.1 (sz := H.size) h) (cwV 0 hts (lw_V q454 q456 qs6 q113 q457) rfl rfl rfl ⟨rfl, by decide, by decide, (by decide +kernel : (parseMethodDescriptor yX2_isDigit.desc).map (fun d => d.parameters.length) = some 0)⟩ ⟨(by first | exact Nat.le_of_ble_eq_true rfl | exact le_d rfl), (by first | exact Nat.le_of_ble_eq_true rfl | exact le_d rfl)⟩) ⟨cPre_blind, c_recv X hw hN21 rfl, fun U hU hW => ⟨rfl, X.preJ hw hU hW⟩⟩ rfl rfl hl.1 rfl (lv_room ((by first | exact Nat.le_of_ble_eq_true rfl | exact le_d rfl))) dX2_part_45 ⟨show cells + 0 ≤ MC by omega, show slots + 0 ≤ MS by omega⟩) (fun r19 N20 H locs h hw => ?_)
  refine W.eq (g2 := F0 m 48 ls (.int r19 :: [.ref x0])) rfl ?_
  refine lv_if_ne (pc := 48) (tgt := 65) hx hb dX2_part_48 rfl (fun c26 => ?_) (fun c26 => ?_)
  · have h := h.2 c26
    exact kX2_part_65 X hr hlk hL hT hI  _ _ _ _ _ _ _ _ _ _ _ _ _ _ h ⟨hw, by omega⟩ (lv_sub hl [1, 2, 3, 4, 0] rfl)
  · have h := h.1 c26
    refine lv_iload (pc := 51) hx hb dX2_part_51 (lv_at hl 0 rfl) ?_
    refine lv_if_ne (pc := 53) (tgt := 65) hx hb dX2_part_53 rfl (fun c247 => ?_) (fun c247 => ?_)
    · have h := h.2 c247
      exact kX2_part_65 X hr hlk hL hT hI  _ _ _ _ _ _ _ _ _ _ _ _ _ _ h ⟨hw, by omega⟩ (lv_sub hl [1, 2, 3, 4, 0] rfl)
    · have h := h.1 c247
      refine lv_aload_n (pc := 56) hx hb dX2_part_56 rfl (lv_at hl 1 rfl) ?_
      obtain ⟨f251, f252, f253, f254, hN250, h⟩ := h
      refine c_callJ (pc := 57) (val := vI) X hw (va_runV (C := RX2) (As := []) (rest := [.ref x0]) X.1 (tX2_here X.2.2.1 (sz := H.size) h) (cwV 0 hts (lw_V q402 q404 qs4 q113 q405) rfl rfl rfl ⟨rfl, by decide, by decide, (by decide +kernel : (parseMethodDescriptor yX2_here.desc).map (fun d => d.parameters.length) = some 0)⟩ ⟨(by first | exact Nat.le_of_ble_eq_true rfl | exact le_d rfl), (by first | exact Nat.le_of_ble_eq_true rfl | exact le_d rfl)⟩) ⟨cPre_blind, c_recv X hw hN250 rfl, fun U hU hW => ⟨rfl, X.preJ hw hU hW⟩⟩ rfl rfl hl.1 rfl (lv_room ((by first | exact Nat.le_of_ble_eq_true rfl | exact le_d rfl))) dX2_part_57 ⟨show cells + 0 + 0 ≤ MC by omega, show slots + 0 + 0 ≤ MS by omega⟩) (fun r248 N249 H locs h hw => ?_)
      refine W.eq (g2 := F0 m 60 ls (.int r248 :: [.ref x0])) rfl ?_
      refine lv_bipush (pc := 60) (v := (40 : Int32)) hx hb dX2_part_60 (by decide) ?_
      refine lv_icmp_ne (pc := 62) (tgt := 69) hx hb dX2_part_62 rfl (fun c255 => ?_) (fun c255 => ?_)
      · have h := h.2 c255
        refine lv_iconst (pc := 69) (v := (0 : Int32)) hx hb dX2_part_69 (by decide) ?_
        exact kX2_part_70 X hr hlk hL hT hI  _ _ _ _ _ _ _ _ _ _ _ _ _ _ _ h ⟨hw, by omega⟩ (lv_sub hl [1, 2, 3, 4, 0] rfl)
      · have h := h.1 c255
        exact kX2_part_65 X hr hlk hL hT hI  _ _ _ _ _ _ _ _ _ _ _ _ _ _ h ⟨hw, by omega⟩ (lv_sub hl [1, 2, 3, 4, 0] rfl)
theorem kX2_part_40 {p : Program} {l : Launch} {e : Env} {s : State} {m : MethodId} {args : Array Value} {below : List Frame} {meth : Method} {c : Code} {G : gG} {A : Nat → Prop} {MC MS : Nat} {d : Nat} {rc : (Option Nat → NM → Prop) → (Nat → List Nat → NM → Prop) → Nat → Nat → NM → Nat → Option Nat → Prop} {post : Option Nat → NM → Prop} {xp : Nat → List Nat → NM → Prop} (X : cX G A RX2 p s m args c cX2_part 6) (hr : meth.sig.returnType = (some (.object "ToldPowers$Sum"))) (hlk : meth.locks = false) (hL : l.stackTraces = false) (hT : c.exceptionTable.toList = tableOf []) (hI : ∀ {post : Option Nat → NM → Prop} {xp : Nat → List Nat → NM → Prop} {MC MS : Nat} {N : NM} {x0 : Nat} {x1 : Option Nat} {sz : Nat}, rc post xp MC MS N x0 x1 → cx_Met l yX2_sum (ws_ yX2_sum cX2_sum 4 (some (.object "ToldPowers$Sum"))) ⟨14 + 4 * d, MC, MS, 400 + 140 * d⟩ (va_Pc [.ref x0, va_rf x1] (cPre G [] N sz)) (gQ vQ post (fun u H => cBw G (cA [] N sz) (jW u).1 (jW u).2 H) (cA [] N sz)) (cXC G (cA [] N sz) [3] xp) MC MS (cA [] N sz)) : ∀ (x0 : Nat) (x1 : Option Nat) (x2 : Int32) (x3 : Option Nat) (mc ms : Nat) (N : NM) (H : Heap) (locs : List Loc) (ls : Array Slot) (cells slots : Nat), wX2_part_40 (gC G) rc post xp x0 x1 x2 x3 mc ms N → (cH G A s [] N H locs ∧ cells + mc ≤ MC ∧ slots + ms ≤ MS) → lv_has ls 6 [(0, .ref x0), (1, va_rf x1), (2, .int x2), (3, va_rf x3)] → W p l e ⟨15 + 4 * d, MC, MS, 423 + 140 * d⟩ s m args below meth c H locs cells slots (cx_MQ below (gQ vQ post (fun u H => cBw G A (jW u).1 (jW u).2 H) A) (cXC G A [3] xp) args s MC MS A) (F0 m 40 ls []) := by
  have hx := X.1.1
  have hb := X.1.2.1
  have hml := X.1.2.2.1
  have hown := X.1.2.2.2.1
  have hts := X.1.2.2.2.2
  intro x0 x1 x2 x3 mc ms N H locs ls cells slots h hw0 hl
  obtain ⟨hw, hbud⟩ := hw0
  unfold wX2_part_40 at h
  refine lv_iconst (pc := 40) (v := (0 : Int32)) hx hb dX2_part_40 (by decide) ?_
  exact kX2_part_41 X hr hlk hL hT hI  _ _ _ _ _ _ _ _ _ _ _ _ _ h ⟨hw, by omega⟩ (lv_sub hl [0, 1, 2, 3] rfl)
theorem tX2_part {l : Launch} (hL : l.stackTraces = false) {G : gG} (hO : gOk G) {d : Nat} {rc : (Option Nat → NM → Prop) → (Nat → List Nat → NM → Prop) → Nat → Nat → NM → Nat → Option Nat → Prop} (hI : ∀ {post : Option Nat → NM → Prop} {xp : Nat → List Nat → NM → Prop} {MC MS : Nat} {N : NM} {x0 : Nat} {x1 : Option Nat} {sz : Nat}, rc post xp MC MS N x0 x1 → cx_Met l yX2_sum (ws_ yX2_sum cX2_sum 4 (some (.object "ToldPowers$Sum"))) ⟨14 + 4 * d, MC, MS, 400 + 140 * d⟩ (va_Pc [.ref x0, va_rf x1] (cPre G [] N sz)) (gQ vQ post (fun u H => cBw G (cA [] N sz) (jW u).1 (jW u).2 H) (cA [] N sz)) (cXC G (cA [] N sz) [3] xp) MC MS (cA [] N sz)) {post : Option Nat → NM → Prop} {xp : Nat → List Nat → NM → Prop} {MC MS : Nat} {N : NM} {x0 : Nat} {x1 : Option Nat} {sz : Nat} (h : wX2_part (gC G) rc post xp MC MS N x0 x1) : cx_Met l yX2_part (ws_ yX2_part cX2_part 6 (some (.object "ToldPowers$Sum"))) ⟨15 + 4 * d, MC, MS, 423 + 140 * d⟩ (va_Pc [.ref x0, va_rf x1] (cPre G [] N sz)) (gQ vQ post (fun u H => cBw G (cA [] N sz) (jW u).1 (jW u).2 H) (cA [] N sz)) (cXC G (cA [] N sz) [3] xp) MC MS (cA [] N sz) := by
  refine c_ofX (B := fun A u H => cBw G A (jW u).1 (jW u).2 H) (by decide) hO (by cases x1 <;> exact (by first | exact Nat.le_of_ble_eq_true rfl | exact le_d rfl)) (fun p e s m below meth c ls A X hr hlk hT hw hl => ?_)
  have hl : lv_has ls 6 [(0, .ref x0), (1, va_rf x1)] := by cases x1 <;> exact hl
  have hx := X.1.1
  have hb := X.1.2.1
  have hml := X.1.2.2.1
  have hown := X.1.2.2.2.1
  have hts := X.1.2.2.2.2
  obtain ⟨H, eH⟩ : ∃ z, z = s.heap := ⟨_, rfl⟩
  rw [← eH] at hw ⊢
  obtain ⟨locs, eLo⟩ : ∃ z : List Loc, z = [] := ⟨_, rfl⟩
  rw [← eLo] at hw ⊢
  have hbud : 0 + MC ≤ MC ∧ 0 + MS ≤ MS := by omega
  unfold wX2_part at h
  refine lv_aload_n (pc := 0) hx hb dX2_part_0 rfl (lv_at hl 0 rfl) ?_
  obtain ⟨f2, f3, f4, f5, hN1, h⟩ := h
  refine c_get (pc := 1) X hw hN1 in_X2 rfl 0 (by decide) q406 rfl rfl dX2_part_1 ?_
  refine lv_istore_n (pc := 4) (i := 2) (lv' := [(2, .int f2), (0, .ref x0), (1, va_rf x1)]) hx hb dX2_part_4 rfl hl (by decide) (by simp [rf_c]) (fun ls hl => ?_)
  refine lv_aload_n (pc := 5) hx hb dX2_part_5 rfl (lv_at hl 1 rfl) ?_
  obtain ⟨mc8, ms9, hm10, hm11, h⟩ := h
  refine c_callJ (pc := 6) (val := vQ) X hw (va_runV (C := RX2) (As := []) (rest := []) X.1 (tX2_seen X.2.2.1 (sz := H.size) h) (cwV 0 hts (lw_V q465 q467 qs8 q113 q468) rfl rfl rfl ⟨rfl, by decide, by decide, (by decide +kernel : (parseMethodDescriptor yX2_seen.desc).map (fun d => d.parameters.length) = some 0)⟩ ⟨(by first | exact Nat.le_of_ble_eq_true rfl | exact le_d rfl), (by first | exact Nat.le_of_ble_eq_true rfl | exact le_d rfl)⟩) ⟨cPre_blind, c_recv X hw hN1 rfl, fun U hU hW => ⟨rfl, X.preJ hw hU hW⟩⟩ rfl rfl hl.1 rfl (lv_room ((by first | exact Nat.le_of_ble_eq_true rfl | exact le_d rfl))) dX2_part_6 ⟨show 0 + mc8 ≤ MC by omega, show 0 + ms9 ≤ MS by omega⟩) (fun r6 N7 H locs h hw => ?_)
  refine W.eq (g2 := F0 m 9 ls (va_rf r6 :: [])) rfl ?_
  refine lq_astore_n (pc := 9) (lv' := [(3, va_rf r6), (2, .int f2), (0, .ref x0), (1, va_rf x1)]) hx hb dX2_part_9 rfl hl (by decide) rfl (fun ls hl => ?_)
  refine lq_aload_n (pc := 10) hx hb dX2_part_10 rfl (lv_at hl 0 rfl) ?_
  obtain ⟨a12, hr13, h⟩ := h
  refine W.eq (g2 := F0 m 11 ls [.ref a12]) (by rw [hr13]; rfl) ?_
  obtain ⟨sv14, sn15, sf16, hK17, h⟩ := h
  refine str_len (pc := 11) (rest := []) X.1 X.2.2.1 (c_sk X hw hK17) (fun U hU hW => X.go hw hU hW) (lw_V q695 q696 q697 q111 q698) ⟨(by first | exact Nat.le_of_ble_eq_true rfl | exact le_d rfl), (by first | exact Nat.le_of_ble_eq_true rfl | exact le_d rfl)⟩ hl.1 ((by first | exact Nat.le_of_ble_eq_true rfl | exact le_d rfl)) ⟨show 0 + mc8 ≤ MC by omega, show 0 + ms9 ≤ MS by omega⟩ dX2_part_11 ?_
  refine lv_iconst (pc := 14) (v := (1 : Int32)) hx hb dX2_part_14 (by decide) ?_
  refine lv_icmp_ne (pc := 15) (tgt := 40) hx hb dX2_part_15 rfl (fun c18 => ?_) (fun c18 => ?_)
  · have h := h.2 c18
    exact kX2_part_40 X hr hlk hL hT hI  _ _ _ _ _ _ _ _ _ _ _ _ h ⟨hw, by omega⟩ (lv_sub hl [2, 3, 1, 0] rfl)
  · have h := h.1 c18
    refine lq_aload_n (pc := 18) hx hb dX2_part_18 rfl (lv_at hl 0 rfl) ?_
    refine lv_iconst (pc := 19) (v := (0 : Int32)) hx hb dX2_part_19 (by decide) ?_
    refine W.eq (g2 := F0 m 20 ls [.int (0 : Int32), .ref a12]) (by rw [hr13]; rfl) ?_
    obtain ⟨hi, h⟩ := h
    refine str_charAt (pc := 20) (rest := []) X.1 X.2.2.1 (c_sk X hw hK17) hK17.1 (fun U hU hW => X.go hw hU hW) hi (lw_V q1450 q1451 q1452 q111 q1453) ⟨(by first | exact Nat.le_of_ble_eq_true rfl | exact le_d rfl), (by first | exact Nat.le_of_ble_eq_true rfl | exact le_d rfl)⟩ hl.1 ((by first | exact Nat.le_of_ble_eq_true rfl | exact le_d rfl)) ⟨show 0 + mc8 ≤ MC by omega, show 0 + ms9 ≤ MS by omega⟩ dX2_part_20 ?_
    refine lv_i2l (pc := 23) hx hb dX2_part_23 rfl ?_
    refine lv_ldc2 (pc := 24) hx hb hown (hts _ q500) dX2_part_24 ?_
    refine lv_ldc2 (pc := 27) hx hb hown (hts _ q1465) dX2_part_27 ?_
    refine p_call (pc := 30) (val := vI) ((va_runSN (As := [.long ((((sf16 (0 : Int32).toNatClampNeg &&& 255).toUInt32 % 65536).toInt32).toInt64), .long (97 : Int64), .long (102 : Int64)]) (rest := []) X.1 (tX0_isIn h) ⟨va_cnB 3 hts (lw_meth q382) rfl rfl rfl (X.nest q460) (hts _ q102) ⟨by decide, by decide, (by decide +kernel : (parseMethodDescriptor yX0_isIn.desc).map (fun d => d.parameters.length) = some 3)⟩ ⟨(by first | exact Nat.le_of_ble_eq_true rfl | exact le_d rfl), (by first | exact Nat.le_of_ble_eq_true rfl | exact le_d rfl)⟩, hts _ q381, trivial⟩ ⟨pc_blind, fun U _ _ => ⟨rfl, trivial⟩⟩ rfl rfl hl.1 rfl (lv_room ((by first | exact Nat.le_of_ble_eq_true rfl | exact le_d rfl))) dX2_part_30 ⟨show 0 + mc8 ≤ MC by omega, show 0 + ms9 ≤ MS by omega⟩).run) (fun r256 h => ?_)
    refine W.eq (g2 := F0 m 33 ls (.int r256 :: [])) rfl ?_
    refine lv_if_eq (pc := 33) (tgt := 40) hx hb dX2_part_33 rfl (fun c257 => ?_) (fun c257 => ?_)
    · have h := h.1 c257
      exact kX2_part_40 X hr hlk hL hT hI  _ _ _ _ _ _ _ _ _ _ _ _ h ⟨hw, by omega⟩ (lv_sub hl [2, 3, 1, 0] rfl)
    · have h := h.2 c257
      refine lv_iconst (pc := 36) (v := (1 : Int32)) hx hb dX2_part_36 (by decide) ?_
      refine lv_goto (pc := 37) (tgt := 41) hx hb dX2_part_37 rfl ?_
      exact kX2_part_41 X hr hlk hL hT hI  _ _ _ _ _ _ _ _ _ _ _ _ _ h ⟨hw, by omega⟩ (lv_sub hl [2, 3, 1, 0] rfl)

def wX2_raised_34 (K : Nat → Nat → Nat) (rc : (Option Nat → NM → Prop) → (Nat → List Nat → NM → Prop) → Nat → Nat → NM → Nat → Option Nat → Prop) (post : Option Nat → NM → Prop) (xp : Nat → List Nat → NM → Prop) (x0 : Nat) (x2 : Option Nat) (x3 : Int32) (v0 : Int32) (v1 : Nat) (mc ms : Nat) (N : NM) : Prop :=
  ∃ f47 f48 f49 f50, N x0 = some (eO 2 [.int f47, .int f48, .int f49, va_rf f50]) ∧ (∃ f58 f59 f60 f61, N v1 = some (eO 2 [.int f58, .int f59, .int f60, va_rf f61]) ∧ (∃ mc53 ms54, mc53 ≤ mc ∧ ms54 ≤ ms ∧ wX2_must K (fun _ N52 => ∃ mc71 ms72, mc71 ≤ (mc - mc53) ∧ ms72 ≤ (ms - ms54) ∧ wX0_power K (fun r69 N70 => post r69 N70) mc71 ms72 N52 x2 x3) (fun q62 ch68 N63 => (∀ fs65, N63 q62 = some (eO 3 fs65) → (xp q62 ch68 N63))) mc53 ms54 N v1 v0 (10 : Int32) f48))
def wX2_raised (K : Nat → Nat → Nat) (rc : (Option Nat → NM → Prop) → (Nat → List Nat → NM → Prop) → Nat → Nat → NM → Nat → Option Nat → Prop) (post : Option Nat → NM → Prop) (xp : Nat → List Nat → NM → Prop) (MC MS : Nat) (N : NM) (x0 : Nat) (x1 : Option Nat) : Prop :=
  ∃ f8 f9 f10 f11, N x0 = some (eO 2 [.int f8, .int f9, .int f10, va_rf f11]) ∧ (∃ mc3 ms4, mc3 ≤ MC ∧ ms4 ≤ MS ∧ wX2_part K rc (fun r1 N2 => ∃ f22 f23 f24 f25, N2 x0 = some (eO 2 [.int f22, .int f23, .int f24, va_rf f25]) ∧ (wX2_passes_2 K (fun r19 N20 => ((r19 = (0 : Int32)) → (post r1 N20)) ∧ (¬ (r19 = (0 : Int32)) → (∃ f34 f35 f36 f37, N20 x0 = some (eO 2 [.int f34, .int f35, .int f36, va_rf f37]) ∧ (∃ mc29 ms30, mc29 ≤ (MC - mc3) ∧ ms30 ≤ (MS - ms4) ∧ wX2_number K (fun r27 N28 => (((6 : Int32) < r27) → (wX2_raised_34 K rc post xp x0 r1 r27 (0 : Int32) x0 ((MC - mc3) - mc29) ((MS - ms4) - ms30) N28)) ∧ (¬ ((6 : Int32) < r27) → (wX2_raised_34 K rc post xp x0 r1 r27 (1 : Int32) x0 ((MC - mc3) - mc29) ((MS - ms4) - ms30) N28))) (fun q38 ch44 N39 => (∀ fs41, N39 q38 = some (eO 3 fs41) → (xp q38 ch44 N39))) mc29 ms30 N20 x0)))) N2 x0 (94 : Int32))) (fun q12 ch18 N13 => (∀ fs15, N13 q12 = some (eO 3 fs15) → (xp q12 ch18 N13))) mc3 ms4 N x0 x1)
theorem kX2_raised_34 {p : Program} {l : Launch} {e : Env} {s : State} {m : MethodId} {args : Array Value} {below : List Frame} {meth : Method} {c : Code} {G : gG} {A : Nat → Prop} {MC MS : Nat} {d : Nat} {rc : (Option Nat → NM → Prop) → (Nat → List Nat → NM → Prop) → Nat → Nat → NM → Nat → Option Nat → Prop} {post : Option Nat → NM → Prop} {xp : Nat → List Nat → NM → Prop} (X : cX G A RX2 p s m args c cX2_raised 4) (hr : meth.sig.returnType = (some (.object "ToldPowers$Sum"))) (hlk : meth.locks = false) (hL : l.stackTraces = false) (hT : c.exceptionTable.toList = tableOf []) (hI : ∀ {post : Option Nat → NM → Prop} {xp : Nat → List Nat → NM → Prop} {MC MS : Nat} {N : NM} {x0 : Nat} {x1 : Option Nat} {sz : Nat}, rc post xp MC MS N x0 x1 → cx_Met l yX2_sum (ws_ yX2_sum cX2_sum 4 (some (.object "ToldPowers$Sum"))) ⟨14 + 4 * d, MC, MS, 400 + 140 * d⟩ (va_Pc [.ref x0, va_rf x1] (cPre G [] N sz)) (gQ vQ post (fun u H => cBw G (cA [] N sz) (jW u).1 (jW u).2 H) (cA [] N sz)) (cXC G (cA [] N sz) [3] xp) MC MS (cA [] N sz)) : ∀ (x0 : Nat) (x2 : Option Nat) (x3 : Int32) (v0 : Int32) (v1 : Nat) (mc ms : Nat) (N : NM) (H : Heap) (locs : List Loc) (ls : Array Slot) (cells slots : Nat), wX2_raised_34 (gC G) rc post xp x0 x2 x3 v0 v1 mc ms N → (cH G A s [] N H locs ∧ cells + mc ≤ MC ∧ slots + ms ≤ MS) → lv_has ls 4 [(0, .ref x0), (2, va_rf x2), (3, .int x3)] → W p l e ⟨16 + 4 * d, MC, MS, 448 + 140 * d⟩ s m args below meth c H locs cells slots (cx_MQ below (gQ vQ post (fun u H => cBw G A (jW u).1 (jW u).2 H) A) (cXC G A [3] xp) args s MC MS A) (F0 m 34 ls [.int v0, .ref v1]) := by
  have hx := X.1.1
  have hb := X.1.2.1
  have hml := X.1.2.2.1
  have hown := X.1.2.2.2.1
  have hts := X.1.2.2.2.2
  intro x0 x2 x3 v0 v1 mc ms N H locs ls cells slots h hw0 hl
  obtain ⟨hw, hbud⟩ := hw0
  unfold wX2_raised_34 at h
  refine lv_bipush (pc := 34) (v := (10 : Int32)) hx hb dX2_raised_34 (by decide) ?_
  refine lv_aload_n (pc := 36) hx hb dX2_raised_36 rfl (lv_at hl 0 rfl) ?_
  obtain ⟨f47, f48, f49, f50, hN46, h⟩ := h
  refine c_get (pc := 37) X hw hN46 in_X2 rfl 1 (by decide) q407 rfl rfl dX2_raised_37 ?_
  obtain ⟨f58, f59, f60, f61, hN57, h⟩ := h
  obtain ⟨mc53, ms54, hm55, hm56, h⟩ := h
  refine cx_callJ (pc := 40) (val := vV) X hw (cx_runV (C := RX2) (As := [.int v0, .int (10 : Int32), .int f48]) (rest := []) X.1 (tX2_must hL X.2.2.1 (sz := H.size) h) (cwV 3 hts (lw_V q659 q661 qs9 q113 q662) rfl rfl rfl ⟨rfl, by decide, by decide, (by decide +kernel : (parseMethodDescriptor yX2_must.desc).map (fun d => d.parameters.length) = some 3)⟩ ⟨(by first | exact Nat.le_of_ble_eq_true rfl | exact le_d rfl), (by first | exact Nat.le_of_ble_eq_true rfl | exact le_d rfl)⟩) ⟨cPre_blind, c_recv X hw hN57 rfl, fun U hU hW => ⟨rfl, X.preJ hw hU hW⟩⟩ rfl rfl hl.1 rfl (lv_room ((by first | exact Nat.le_of_ble_eq_true rfl | exact le_d rfl))) dX2_raised_40 ⟨show cells + mc53 ≤ MC by omega, show slots + ms54 ≤ MS by omega⟩) (fun q62 N63 H locs ci64 fs65 ch68 hci66 hNq67 h hw hch => ?_) (fun _ N52 H locs h hw => ?_)
  · have hci66 := List.mem_singleton.mp hci66
    subst hci66
    have h := h fs65 hNq67
    exact cx_outJ (pc := 40) X hw hNq67 rfl (by decide) (by rw [hT]; intro x hx; cases hx) hlk hch h (by omega) (by omega)
  refine W.eq (g2 := F0 m 43 ls ([])) rfl ?_
  refine lq_aload_n (pc := 43) hx hb dX2_raised_43 rfl (lv_at hl 1 rfl) ?_
  refine lv_iload_n (pc := 44) hx hb dX2_raised_44 rfl (lv_at hl 2 rfl) ?_
  obtain ⟨mc71, ms72, hm73, hm74, h⟩ := h
  refine c_callJ (pc := 45) (val := vQ) X hw (va_runSN (As := [va_rf x2, .int x3]) (rest := []) X.1 (tX0_power X.2.2.1 (sz := H.size) h) ⟨va_cnB 2 hts (lw_meth q1497) rfl rfl rfl (X.nest q1495) (hts _ q102) ⟨by decide, by decide, (by decide +kernel : (parseMethodDescriptor yX0_power.desc).map (fun d => d.parameters.length) = some 2)⟩ ⟨(by first | exact Nat.le_of_ble_eq_true rfl | exact le_d rfl), (by first | exact Nat.le_of_ble_eq_true rfl | exact le_d rfl)⟩, hts _ q1496, trivial⟩ ⟨cPre_blind, fun U hU hW => ⟨rfl, X.preJ hw hU hW⟩⟩ rfl rfl hl.1 rfl (lv_room ((by first | exact Nat.le_of_ble_eq_true rfl | exact le_d rfl))) dX2_raised_45 ⟨show cells + mc53 + mc71 ≤ MC by omega, show slots + ms54 + ms72 ≤ MS by omega⟩) (fun r69 N70 H locs h hw => ?_)
  refine W.eq (g2 := F0 m 48 ls (va_rf r69 :: [])) rfl ?_
  refine W.widen (k := MC) (n := MS) (by omega) (by omega) ?_
  refine cx_ret ?_
  exact W.aret (pc := 48) (v := va_rf r69) hx hb hr (Or.inl ⟨_, rfl⟩) (va_rf_or _) (fun t ht hW => c_ret (val := vQ) (lw := jW) (u := N70) hw h ht) hw.2.2.2 dX2_raised_48 hlk
theorem tX2_raised {l : Launch} (hL : l.stackTraces = false) {G : gG} (hO : gOk G) {d : Nat} {rc : (Option Nat → NM → Prop) → (Nat → List Nat → NM → Prop) → Nat → Nat → NM → Nat → Option Nat → Prop} (hI : ∀ {post : Option Nat → NM → Prop} {xp : Nat → List Nat → NM → Prop} {MC MS : Nat} {N : NM} {x0 : Nat} {x1 : Option Nat} {sz : Nat}, rc post xp MC MS N x0 x1 → cx_Met l yX2_sum (ws_ yX2_sum cX2_sum 4 (some (.object "ToldPowers$Sum"))) ⟨14 + 4 * d, MC, MS, 400 + 140 * d⟩ (va_Pc [.ref x0, va_rf x1] (cPre G [] N sz)) (gQ vQ post (fun u H => cBw G (cA [] N sz) (jW u).1 (jW u).2 H) (cA [] N sz)) (cXC G (cA [] N sz) [3] xp) MC MS (cA [] N sz)) {post : Option Nat → NM → Prop} {xp : Nat → List Nat → NM → Prop} {MC MS : Nat} {N : NM} {x0 : Nat} {x1 : Option Nat} {sz : Nat} (h : wX2_raised (gC G) rc post xp MC MS N x0 x1) : cx_Met l yX2_raised (ws_ yX2_raised cX2_raised 4 (some (.object "ToldPowers$Sum"))) ⟨16 + 4 * d, MC, MS, 448 + 140 * d⟩ (va_Pc [.ref x0, va_rf x1] (cPre G [] N sz)) (gQ vQ post (fun u H => cBw G (cA [] N sz) (jW u).1 (jW u).2 H) (cA [] N sz)) (cXC G (cA [] N sz) [3] xp) MC MS (cA [] N sz) := by
  refine c_ofX (B := fun A u H => cBw G A (jW u).1 (jW u).2 H) (by decide) hO (by cases x1 <;> exact (by first | exact Nat.le_of_ble_eq_true rfl | exact le_d rfl)) (fun p e s m below meth c ls A X hr hlk hT hw hl => ?_)
  have hl : lv_has ls 4 [(0, .ref x0), (1, va_rf x1)] := by cases x1 <;> exact hl
  have hx := X.1.1
  have hb := X.1.2.1
  have hml := X.1.2.2.1
  have hown := X.1.2.2.2.1
  have hts := X.1.2.2.2.2
  obtain ⟨H, eH⟩ : ∃ z, z = s.heap := ⟨_, rfl⟩
  rw [← eH] at hw ⊢
  obtain ⟨locs, eLo⟩ : ∃ z : List Loc, z = [] := ⟨_, rfl⟩
  rw [← eLo] at hw ⊢
  have hbud : 0 + MC ≤ MC ∧ 0 + MS ≤ MS := by omega
  unfold wX2_raised at h
  refine lv_aload_n (pc := 0) hx hb dX2_raised_0 rfl (lv_at hl 0 rfl) ?_
  refine lq_aload_n (pc := 1) hx hb dX2_raised_1 rfl (lv_at hl 1 rfl) ?_
  obtain ⟨f8, f9, f10, f11, hN7, h⟩ := h
  obtain ⟨mc3, ms4, hm5, hm6, h⟩ := h
  refine cx_callJ (pc := 2) (val := vQ) X hw (cx_runV (C := RX2) (As := [va_rf x1]) (rest := []) X.1 (tX2_part hL X.2.2.1 hI (sz := H.size) h) (cwV 1 hts (lw_V q1446 q1448 qs34 q113 q1449) rfl rfl rfl ⟨rfl, by decide, by decide, (by decide +kernel : (parseMethodDescriptor yX2_part.desc).map (fun d => d.parameters.length) = some 1)⟩ ⟨show 15 + 4 * d + 1 ≤ 16 + 4 * d by omega, show 8 + (6 + 11) + (423 + 140 * d) ≤ 448 + 140 * d by omega⟩) ⟨cPre_blind, c_recv X hw hN7 rfl, fun U hU hW => ⟨rfl, X.preJ hw hU hW⟩⟩ rfl rfl hl.1 rfl (lv_room ((by first | exact Nat.le_of_ble_eq_true rfl | exact le_d rfl))) dX2_raised_2 ⟨show 0 + mc3 ≤ MC by omega, show 0 + ms4 ≤ MS by omega⟩) (fun q12 N13 H locs ci14 fs15 ch18 hci16 hNq17 h hw hch => ?_) (fun r1 N2 H locs h hw => ?_)
  · have hci16 := List.mem_singleton.mp hci16
    subst hci16
    have h := h fs15 hNq17
    exact cx_outJ (pc := 2) X hw hNq17 rfl (by decide) (by rw [hT]; intro x hx; cases hx) hlk hch h (by omega) (by omega)
  refine W.eq (g2 := F0 m 5 ls (va_rf r1 :: [])) rfl ?_
  refine lq_astore_n (pc := 5) (i := 2) (lv' := [(2, va_rf r1), (0, .ref x0), (1, va_rf x1)]) hx hb dX2_raised_5 rfl hl (by decide) (by simp [rf_c]) (fun ls hl => ?_)
  refine lv_aload_n (pc := 6) hx hb dX2_raised_6 rfl (lv_at hl 1 rfl) ?_
  refine lv_bipush (pc := 7) (v := (94 : Int32)) hx hb dX2_raised_7 (by decide) ?_
  obtain ⟨f22, f23, f24, f25, hN21, h⟩ := h
  refine c_callJ (pc := 9) (val := vI) X hw (va_runV (C := RX2) (As := [.int (94 : Int32)]) (rest := []) X.1 (tX2_passes_2 X.2.2.1 (sz := H.size) h) (cwV 1 hts (lw_V q765 q767 qs14 q113 q768) rfl rfl rfl ⟨rfl, by decide, by decide, (by decide +kernel : (parseMethodDescriptor yX2_passes_2.desc).map (fun d => d.parameters.length) = some 1)⟩ ⟨(by first | exact Nat.le_of_ble_eq_true rfl | exact le_d rfl), (by first | exact Nat.le_of_ble_eq_true rfl | exact le_d rfl)⟩) ⟨cPre_blind, c_recv X hw hN21 rfl, fun U hU hW => ⟨rfl, X.preJ hw hU hW⟩⟩ rfl rfl hl.1 rfl (lv_room ((by first | exact Nat.le_of_ble_eq_true rfl | exact le_d rfl))) dX2_raised_9 ⟨show 0 + mc3 + 0 ≤ MC by omega, show 0 + ms4 + 0 ≤ MS by omega⟩) (fun r19 N20 H locs h hw => ?_)
  refine W.eq (g2 := F0 m 12 ls (.int r19 :: [])) rfl ?_
  refine lv_if_ne (pc := 12) (tgt := 17) hx hb dX2_raised_12 rfl (fun c26 => ?_) (fun c26 => ?_)
  · have h := h.2 c26
    refine lv_aload_n (pc := 17) hx hb dX2_raised_17 rfl (lv_at hl 1 rfl) ?_
    obtain ⟨f34, f35, f36, f37, hN33, h⟩ := h
    obtain ⟨mc29, ms30, hm31, hm32, h⟩ := h
    refine cx_callJ (pc := 18) (val := vI) X hw (cx_runV (C := RX2) (As := []) (rest := []) X.1 (tX2_number hL X.2.2.1 (sz := H.size) h) (cwV 0 hts (lw_V q690 q692 qs10 q113 q693) rfl rfl rfl ⟨rfl, by decide, by decide, (by decide +kernel : (parseMethodDescriptor yX2_number.desc).map (fun d => d.parameters.length) = some 0)⟩ ⟨(by first | exact Nat.le_of_ble_eq_true rfl | exact le_d rfl), (by first | exact Nat.le_of_ble_eq_true rfl | exact le_d rfl)⟩) ⟨cPre_blind, c_recv X hw hN33 rfl, fun U hU hW => ⟨rfl, X.preJ hw hU hW⟩⟩ rfl rfl hl.1 rfl (lv_room ((by first | exact Nat.le_of_ble_eq_true rfl | exact le_d rfl))) dX2_raised_18 ⟨show 0 + mc3 + 0 + mc29 ≤ MC by omega, show 0 + ms4 + 0 + ms30 ≤ MS by omega⟩) (fun q38 N39 H locs ci40 fs41 ch44 hci42 hNq43 h hw hch => ?_) (fun r27 N28 H locs h hw => ?_)
    · have hci42 := List.mem_singleton.mp hci42
      subst hci42
      have h := h fs41 hNq43
      exact cx_outJ (pc := 18) X hw hNq43 rfl (by decide) (by rw [hT]; intro x hx; cases hx) hlk hch h (by omega) (by omega)
    refine W.eq (g2 := F0 m 21 ls (.int r27 :: [])) rfl ?_
    refine lv_istore_n (pc := 21) (i := 3) (lv' := [(3, .int r27), (2, va_rf r1), (0, .ref x0), (1, va_rf x1)]) hx hb dX2_raised_21 rfl hl (by decide) (by simp [rf_c]) (fun ls hl => ?_)
    refine lv_aload_n (pc := 22) hx hb dX2_raised_22 rfl (lv_at hl 2 rfl) ?_
    refine lv_iload_n (pc := 23) hx hb dX2_raised_23 rfl (lv_at hl 0 rfl) ?_
    refine lv_bipush (pc := 24) (v := (6 : Int32)) hx hb dX2_raised_24 (by decide) ?_
    refine lv_icmp_gt (pc := 26) (tgt := 33) hx hb dX2_raised_26 rfl (fun c45 => ?_) (fun c45 => ?_)
    · have h := h.1 c45
      refine lv_iconst (pc := 33) (v := (0 : Int32)) hx hb dX2_raised_33 (by decide) ?_
      exact kX2_raised_34 X hr hlk hL hT hI  _ _ _ _ _ _ _ _ _ _ _ _ _ h ⟨hw, by omega⟩ (lv_sub hl [2, 1, 0] rfl)
    · have h := h.2 c45
      refine lv_iconst (pc := 29) (v := (1 : Int32)) hx hb dX2_raised_29 (by decide) ?_
      refine lv_goto (pc := 30) (tgt := 34) hx hb dX2_raised_30 rfl ?_
      exact kX2_raised_34 X hr hlk hL hT hI  _ _ _ _ _ _ _ _ _ _ _ _ _ h ⟨hw, by omega⟩ (lv_sub hl [2, 1, 0] rfl)
  · have h := h.1 c26
    refine lq_aload_n (pc := 15) hx hb dX2_raised_15 rfl (lv_at hl 0 rfl) ?_
    refine W.widen (k := MC) (n := MS) (by omega) (by omega) ?_
    refine cx_ret ?_
    exact W.aret (pc := 16) (v := va_rf r1) hx hb hr (Or.inl ⟨_, rfl⟩) (va_rf_or _) (fun t ht hW => c_ret (val := vQ) (lw := jW) (u := N20) hw h ht) hw.2.2.2 dX2_raised_16 hlk

def wX2_product_6 (K : Nat → Nat → Nat) (rc : (Option Nat → NM → Prop) → (Nat → List Nat → NM → Prop) → Nat → Nat → NM → Nat → Option Nat → Prop) (post : Option Nat → NM → Prop) (xp : Nat → List Nat → NM → Prop) : Nat → Nat → Option Nat → Option Nat → Nat → Nat → NM → Prop
  | 0, _, _, _, _, _, _ => False
  | n + 1, x0, x1, x2, mc, ms, N => ∃ f22 f23 f24 f25, N x0 = some (eO 2 [.int f22, .int f23, .int f24, va_rf f25]) ∧ (wX2_passes_2 K (fun r19 N20 => ((r19 = (0 : Int32)) → (post x2 N20)) ∧ (¬ (r19 = (0 : Int32)) → (∃ f34 f35 f36 f37, N20 x0 = some (eO 2 [.int f34, .int f35, .int f36, va_rf f37]) ∧ (∃ mc29 ms30, mc29 ≤ mc ∧ ms30 ≤ ms ∧ wX2_raised K rc (fun r27 N28 => ∃ mc47 ms48, mc47 ≤ (mc - mc29) ∧ ms48 ≤ (ms - ms30) ∧ wX0_both K (fun r45 N46 => wX2_product_6 K rc post xp n x0 x1 r45 ((mc - mc29) - mc47) ((ms - ms30) - ms48) N46) mc47 ms48 N28 (42 : Int32) x2 r27) (fun q38 ch44 N39 => (∀ fs41, N39 q38 = some (eO 3 fs41) → (xp q38 ch44 N39))) mc29 ms30 N20 x0 x1)))) N x0 (42 : Int32))
def wX2_product (K : Nat → Nat → Nat) (rc : (Option Nat → NM → Prop) → (Nat → List Nat → NM → Prop) → Nat → Nat → NM → Nat → Option Nat → Prop) (post : Option Nat → NM → Prop) (xp : Nat → List Nat → NM → Prop) (MC MS : Nat) (N : NM) (x0 : Nat) (x1 : Option Nat) : Prop :=
  ∃ f8 f9 f10 f11, N x0 = some (eO 2 [.int f8, .int f9, .int f10, va_rf f11]) ∧ (∃ mc3 ms4, mc3 ≤ MC ∧ ms4 ≤ MS ∧ wX2_raised K rc (fun r1 N2 => (∃ k, wX2_product_6 K rc post xp k x0 x1 r1 (MC - mc3) (MS - ms4) N2)) (fun q12 ch18 N13 => (∀ fs15, N13 q12 = some (eO 3 fs15) → (xp q12 ch18 N13))) mc3 ms4 N x0 x1)
theorem kX2_product_6 {p : Program} {l : Launch} {e : Env} {s : State} {m : MethodId} {args : Array Value} {below : List Frame} {meth : Method} {c : Code} {G : gG} {A : Nat → Prop} {MC MS : Nat} {d : Nat} {rc : (Option Nat → NM → Prop) → (Nat → List Nat → NM → Prop) → Nat → Nat → NM → Nat → Option Nat → Prop} {post : Option Nat → NM → Prop} {xp : Nat → List Nat → NM → Prop} (X : cX G A RX2 p s m args c cX2_product 3) (hr : meth.sig.returnType = (some (.object "ToldPowers$Sum"))) (hlk : meth.locks = false) (hL : l.stackTraces = false) (hT : c.exceptionTable.toList = tableOf []) (hI : ∀ {post : Option Nat → NM → Prop} {xp : Nat → List Nat → NM → Prop} {MC MS : Nat} {N : NM} {x0 : Nat} {x1 : Option Nat} {sz : Nat}, rc post xp MC MS N x0 x1 → cx_Met l yX2_sum (ws_ yX2_sum cX2_sum 4 (some (.object "ToldPowers$Sum"))) ⟨14 + 4 * d, MC, MS, 400 + 140 * d⟩ (va_Pc [.ref x0, va_rf x1] (cPre G [] N sz)) (gQ vQ post (fun u H => cBw G (cA [] N sz) (jW u).1 (jW u).2 H) (cA [] N sz)) (cXC G (cA [] N sz) [3] xp) MC MS (cA [] N sz)) : ∀ (n : Nat) (x0 : Nat) (x1 : Option Nat) (x2 : Option Nat) (mc ms : Nat) (N : NM) (H : Heap) (locs : List Loc) (ls : Array Slot) (cells slots : Nat), wX2_product_6 (gC G) rc post xp n x0 x1 x2 mc ms N → (cH G A s [] N H locs ∧ cells + mc ≤ MC ∧ slots + ms ≤ MS) → lv_has ls 3 [(0, .ref x0), (1, va_rf x1), (2, va_rf x2)] → W p l e ⟨17 + 4 * d, MC, MS, 471 + 140 * d⟩ s m args below meth c H locs cells slots (cx_MQ below (gQ vQ post (fun u H => cBw G A (jW u).1 (jW u).2 H) A) (cXC G A [3] xp) args s MC MS A) (F0 m 6 ls []) := by
  have hx := X.1.1
  have hb := X.1.2.1
  have hml := X.1.2.2.1
  have hown := X.1.2.2.2.1
  have hts := X.1.2.2.2.2
  intro n
  induction n with
  | zero =>
    intro x0 x1 x2 mc ms N H locs ls cells slots h
    exact False.elim h
  | succ n ih =>
    intro x0 x1 x2 mc ms N H locs ls cells slots h hw0 hl
    obtain ⟨hw, hbud⟩ := hw0
    unfold wX2_product_6 at h
    refine lv_aload_n (pc := 6) hx hb dX2_product_6 rfl (lv_at hl 0 rfl) ?_
    refine lv_bipush (pc := 7) (v := (42 : Int32)) hx hb dX2_product_7 (by decide) ?_
    obtain ⟨f22, f23, f24, f25, hN21, h⟩ := h
    refine c_callJ (pc := 9) (val := vI) X hw (va_runV (C := RX2) (As := [.int (42 : Int32)]) (rest := []) X.1 (tX2_passes_2 X.2.2.1 (sz := H.size) h) (cwV 1 hts (lw_V q765 q767 qs14 q113 q768) rfl rfl rfl ⟨rfl, by decide, by decide, (by decide +kernel : (parseMethodDescriptor yX2_passes_2.desc).map (fun d => d.parameters.length) = some 1)⟩ ⟨(by first | exact Nat.le_of_ble_eq_true rfl | exact le_d rfl), (by first | exact Nat.le_of_ble_eq_true rfl | exact le_d rfl)⟩) ⟨cPre_blind, c_recv X hw hN21 rfl, fun U hU hW => ⟨rfl, X.preJ hw hU hW⟩⟩ rfl rfl hl.1 rfl (lv_room ((by first | exact Nat.le_of_ble_eq_true rfl | exact le_d rfl))) dX2_product_9 ⟨show cells + 0 ≤ MC by omega, show slots + 0 ≤ MS by omega⟩) (fun r19 N20 H locs h hw => ?_)
    refine W.eq (g2 := F0 m 12 ls (.int r19 :: [])) rfl ?_
    refine lv_if_eq (pc := 12) (tgt := 30) hx hb dX2_product_12 rfl (fun c26 => ?_) (fun c26 => ?_)
    · have h := h.1 c26
      refine lq_aload_n (pc := 30) hx hb dX2_product_30 rfl (lv_at hl 2 rfl) ?_
      refine W.widen (k := MC) (n := MS) (by omega) (by omega) ?_
      refine cx_ret ?_
      exact W.aret (pc := 31) (v := va_rf x2) hx hb hr (Or.inl ⟨_, rfl⟩) (va_rf_or _) (fun t ht hW => c_ret (val := vQ) (lw := jW) (u := N20) hw h ht) hw.2.2.2 dX2_product_31 hlk
    · have h := h.2 c26
      refine lv_bipush (pc := 15) (v := (42 : Int32)) hx hb dX2_product_15 (by decide) ?_
      refine lq_aload_n (pc := 17) hx hb dX2_product_17 rfl (lv_at hl 2 rfl) ?_
      refine lv_aload_n (pc := 18) hx hb dX2_product_18 rfl (lv_at hl 0 rfl) ?_
      refine lq_aload_n (pc := 19) hx hb dX2_product_19 rfl (lv_at hl 1 rfl) ?_
      obtain ⟨f34, f35, f36, f37, hN33, h⟩ := h
      obtain ⟨mc29, ms30, hm31, hm32, h⟩ := h
      refine cx_callJ (pc := 20) (val := vQ) X hw (cx_runV (C := RX2) (As := [va_rf x1]) (rest := [va_rf x2, .int (42 : Int32)]) X.1 (tX2_raised hL X.2.2.1 hI (sz := H.size) h) (cwV 1 hts (lw_V q1442 q1444 qs33 q113 q1445) rfl rfl rfl ⟨rfl, by decide, by decide, (by decide +kernel : (parseMethodDescriptor yX2_raised.desc).map (fun d => d.parameters.length) = some 1)⟩ ⟨show 16 + 4 * d + 1 ≤ 17 + 4 * d by omega, show 8 + (4 + 11) + (448 + 140 * d) ≤ 471 + 140 * d by omega⟩) ⟨cPre_blind, c_recv X hw hN33 rfl, fun U hU hW => ⟨rfl, X.preJ hw hU hW⟩⟩ rfl rfl hl.1 rfl (lv_room (rsum_le ((by first | exact Nat.le_of_ble_eq_true rfl | exact le_d rfl)))) dX2_product_20 ⟨show cells + 0 + mc29 ≤ MC by omega, show slots + 0 + ms30 ≤ MS by omega⟩) (fun q38 N39 H locs ci40 fs41 ch44 hci42 hNq43 h hw hch => ?_) (fun r27 N28 H locs h hw => ?_)
      · have hci42 := List.mem_singleton.mp hci42
        subst hci42
        have h := h fs41 hNq43
        exact cx_outJ (pc := 20) X hw hNq43 rfl (by decide) (by rw [hT]; intro x hx; cases hx) hlk hch h (by omega) (by omega)
      refine W.eq (g2 := F0 m 23 ls (va_rf r27 :: [va_rf x2, .int (42 : Int32)])) rfl ?_
      obtain ⟨mc47, ms48, hm49, hm50, h⟩ := h
      refine c_callJ (pc := 23) (val := vQ) X hw (va_runSN (As := [.int (42 : Int32), va_rf x2, va_rf r27]) (rest := []) X.1 (tX0_both X.2.2.1 (sz := H.size) h) ⟨va_cnB 3 hts (lw_meth q1513) rfl rfl rfl (X.nest q1511) (hts _ q102) ⟨by decide, by decide, (by decide +kernel : (parseMethodDescriptor yX0_both.desc).map (fun d => d.parameters.length) = some 3)⟩ ⟨(by first | exact Nat.le_of_ble_eq_true rfl | exact le_d rfl), (by first | exact Nat.le_of_ble_eq_true rfl | exact le_d rfl)⟩, hts _ q1512, trivial⟩ ⟨cPre_blind, fun U hU hW => ⟨rfl, X.preJ hw hU hW⟩⟩ rfl rfl hl.1 rfl (lv_room ((by first | exact Nat.le_of_ble_eq_true rfl | exact le_d rfl))) dX2_product_23 ⟨show cells + 0 + mc29 + mc47 ≤ MC by omega, show slots + 0 + ms30 + ms48 ≤ MS by omega⟩) (fun r45 N46 H locs h hw => ?_)
      refine W.eq (g2 := F0 m 26 ls (va_rf r45 :: [])) rfl ?_
      refine lq_astore_n (pc := 26) (i := 2) (lv' := [(2, va_rf r45), (0, .ref x0), (1, va_rf x1)]) hx hb dX2_product_26 rfl hl (by decide) (by simp [rf_c]) (fun ls hl => ?_)
      refine lv_goto (pc := 27) (tgt := 6) hx hb dX2_product_27 rfl ?_
      exact ih _ _ _ _ _ _ _ _ _ _ _ h ⟨hw, by omega⟩ (lv_sub hl [1, 2, 0] rfl)
theorem tX2_product {l : Launch} (hL : l.stackTraces = false) {G : gG} (hO : gOk G) {d : Nat} {rc : (Option Nat → NM → Prop) → (Nat → List Nat → NM → Prop) → Nat → Nat → NM → Nat → Option Nat → Prop} (hI : ∀ {post : Option Nat → NM → Prop} {xp : Nat → List Nat → NM → Prop} {MC MS : Nat} {N : NM} {x0 : Nat} {x1 : Option Nat} {sz : Nat}, rc post xp MC MS N x0 x1 → cx_Met l yX2_sum (ws_ yX2_sum cX2_sum 4 (some (.object "ToldPowers$Sum"))) ⟨14 + 4 * d, MC, MS, 400 + 140 * d⟩ (va_Pc [.ref x0, va_rf x1] (cPre G [] N sz)) (gQ vQ post (fun u H => cBw G (cA [] N sz) (jW u).1 (jW u).2 H) (cA [] N sz)) (cXC G (cA [] N sz) [3] xp) MC MS (cA [] N sz)) {post : Option Nat → NM → Prop} {xp : Nat → List Nat → NM → Prop} {MC MS : Nat} {N : NM} {x0 : Nat} {x1 : Option Nat} {sz : Nat} (h : wX2_product (gC G) rc post xp MC MS N x0 x1) : cx_Met l yX2_product (ws_ yX2_product cX2_product 3 (some (.object "ToldPowers$Sum"))) ⟨17 + 4 * d, MC, MS, 471 + 140 * d⟩ (va_Pc [.ref x0, va_rf x1] (cPre G [] N sz)) (gQ vQ post (fun u H => cBw G (cA [] N sz) (jW u).1 (jW u).2 H) (cA [] N sz)) (cXC G (cA [] N sz) [3] xp) MC MS (cA [] N sz) := by
  refine c_ofX (B := fun A u H => cBw G A (jW u).1 (jW u).2 H) (by decide) hO (by cases x1 <;> exact (by first | exact Nat.le_of_ble_eq_true rfl | exact le_d rfl)) (fun p e s m below meth c ls A X hr hlk hT hw hl => ?_)
  have hl : lv_has ls 3 [(0, .ref x0), (1, va_rf x1)] := by cases x1 <;> exact hl
  have hx := X.1.1
  have hb := X.1.2.1
  have hml := X.1.2.2.1
  have hown := X.1.2.2.2.1
  have hts := X.1.2.2.2.2
  obtain ⟨H, eH⟩ : ∃ z, z = s.heap := ⟨_, rfl⟩
  rw [← eH] at hw ⊢
  obtain ⟨locs, eLo⟩ : ∃ z : List Loc, z = [] := ⟨_, rfl⟩
  rw [← eLo] at hw ⊢
  have hbud : 0 + MC ≤ MC ∧ 0 + MS ≤ MS := by omega
  unfold wX2_product at h
  refine lv_aload_n (pc := 0) hx hb dX2_product_0 rfl (lv_at hl 0 rfl) ?_
  refine lq_aload_n (pc := 1) hx hb dX2_product_1 rfl (lv_at hl 1 rfl) ?_
  obtain ⟨f8, f9, f10, f11, hN7, h⟩ := h
  obtain ⟨mc3, ms4, hm5, hm6, h⟩ := h
  refine cx_callJ (pc := 2) (val := vQ) X hw (cx_runV (C := RX2) (As := [va_rf x1]) (rest := []) X.1 (tX2_raised hL X.2.2.1 hI (sz := H.size) h) (cwV 1 hts (lw_V q1442 q1444 qs33 q113 q1445) rfl rfl rfl ⟨rfl, by decide, by decide, (by decide +kernel : (parseMethodDescriptor yX2_raised.desc).map (fun d => d.parameters.length) = some 1)⟩ ⟨show 16 + 4 * d + 1 ≤ 17 + 4 * d by omega, show 8 + (4 + 11) + (448 + 140 * d) ≤ 471 + 140 * d by omega⟩) ⟨cPre_blind, c_recv X hw hN7 rfl, fun U hU hW => ⟨rfl, X.preJ hw hU hW⟩⟩ rfl rfl hl.1 rfl (lv_room ((by first | exact Nat.le_of_ble_eq_true rfl | exact le_d rfl))) dX2_product_2 ⟨show 0 + mc3 ≤ MC by omega, show 0 + ms4 ≤ MS by omega⟩) (fun q12 N13 H locs ci14 fs15 ch18 hci16 hNq17 h hw hch => ?_) (fun r1 N2 H locs h hw => ?_)
  · have hci16 := List.mem_singleton.mp hci16
    subst hci16
    have h := h fs15 hNq17
    exact cx_outJ (pc := 2) X hw hNq17 rfl (by decide) (by rw [hT]; intro x hx; cases hx) hlk hch h (by omega) (by omega)
  refine W.eq (g2 := F0 m 5 ls (va_rf r1 :: [])) rfl ?_
  refine lq_astore_n (pc := 5) (i := 2) (lv' := [(2, va_rf r1), (0, .ref x0), (1, va_rf x1)]) hx hb dX2_product_5 rfl hl (by decide) (by simp [rf_c]) (fun ls hl => ?_)
  obtain ⟨k, h⟩ := h
  exact kX2_product_6 X hr hlk hL hT hI  k _ _ _ _ _ _ _ _ _ _ _ h ⟨hw, by omega⟩ (lv_sub hl [1, 2, 0] rfl)

def wX2_sum_23 (K : Nat → Nat → Nat) (rc : (Option Nat → NM → Prop) → (Nat → List Nat → NM → Prop) → Nat → Nat → NM → Nat → Option Nat → Prop) (K11 : Nat → Option Nat → Option Nat → Int32 → Nat → Nat → NM → Prop) (post : Option Nat → NM → Prop) (xp : Nat → List Nat → NM → Prop) (x0 : Nat) (x1 : Option Nat) (x2 : Option Nat) (x3 : Int32) (mc ms : Nat) (N : NM) : Prop :=
  ∃ f28 f29 f30 f31, N x0 = some (eO 2 [.int f28, .int f29, .int f30, va_rf f31]) ∧ (∀ N32, N32 = va_up N x0 (some (eO 2 [.int (f28 + (1 : Int32)), .int f29, .int f30, va_rf f31])) → (wX2_skips K (fun _ N36 => ∃ f44 f45 f46 f47, N36 x0 = some (eO 2 [.int f44, .int f45, .int f46, va_rf f47]) ∧ (∃ mc39 ms40, mc39 ≤ mc ∧ ms40 ≤ ms ∧ wX2_product K rc (fun r37 N38 => ∃ mc57 ms58, mc57 ≤ (mc - mc39) ∧ ms58 ≤ (ms - ms40) ∧ wX0_both K (fun r55 N56 => ∃ f64 f65 f66 f67, N56 x0 = some (eO 2 [.int f64, .int f65, .int f66, va_rf f67]) ∧ (wX2_here K (fun r61 N62 => K11 x0 x1 r55 r61 ((mc - mc39) - mc57) ((ms - ms40) - ms58) N62) N56 x0)) mc57 ms58 N38 x3 x2 r37) (fun q48 ch54 N49 => (∀ fs51, N49 q48 = some (eO 3 fs51) → (xp q48 ch54 N49))) mc39 ms40 N36 x0 x1)) N32 x0))
def wX2_sum_11 (K : Nat → Nat → Nat) (rc : (Option Nat → NM → Prop) → (Nat → List Nat → NM → Prop) → Nat → Nat → NM → Nat → Option Nat → Prop) (post : Option Nat → NM → Prop) (xp : Nat → List Nat → NM → Prop) : Nat → Nat → Option Nat → Option Nat → Int32 → Nat → Nat → NM → Prop
  | 0, _, _, _, _, _, _, _ => False
  | n + 1, x0, x1, x2, x3, mc, ms, N => ((x3 = (43 : Int32)) → (wX2_sum_23 K rc (fun x0 x1 x2 x3 mc ms N => wX2_sum_11 K rc post xp n x0 x1 x2 x3 mc ms N) post xp x0 x1 x2 x3 mc ms N)) ∧ (¬ (x3 = (43 : Int32)) → (((x3 = (45 : Int32)) → (wX2_sum_23 K rc (fun x0 x1 x2 x3 mc ms N => wX2_sum_11 K rc post xp n x0 x1 x2 x3 mc ms N) post xp x0 x1 x2 x3 mc ms N)) ∧ (¬ (x3 = (45 : Int32)) → (post x2 N))))
def wX2_sumB (K : Nat → Nat → Nat) (rc : (Option Nat → NM → Prop) → (Nat → List Nat → NM → Prop) → Nat → Nat → NM → Nat → Option Nat → Prop) (post : Option Nat → NM → Prop) (xp : Nat → List Nat → NM → Prop) (MC MS : Nat) (N : NM) (x0 : Nat) (x1 : Option Nat) : Prop :=
  ∃ f8 f9 f10 f11, N x0 = some (eO 2 [.int f8, .int f9, .int f10, va_rf f11]) ∧ (∃ mc3 ms4, mc3 ≤ MC ∧ ms4 ≤ MS ∧ wX2_product K rc (fun r1 N2 => ∃ f22 f23 f24 f25, N2 x0 = some (eO 2 [.int f22, .int f23, .int f24, va_rf f25]) ∧ (wX2_here K (fun r19 N20 => (∃ k, wX2_sum_11 K rc post xp k x0 x1 r1 r19 (MC - mc3) (MS - ms4) N20)) N2 x0)) (fun q12 ch18 N13 => (∀ fs15, N13 q12 = some (eO 3 fs15) → (xp q12 ch18 N13))) mc3 ms4 N x0 x1)
theorem kX2_sum_23 {p : Program} {l : Launch} {e : Env} {s : State} {m : MethodId} {args : Array Value} {below : List Frame} {meth : Method} {c : Code} {G : gG} {A : Nat → Prop} {MC MS : Nat} {d : Nat} {rc : (Option Nat → NM → Prop) → (Nat → List Nat → NM → Prop) → Nat → Nat → NM → Nat → Option Nat → Prop} {K11 : Nat → Option Nat → Option Nat → Int32 → Nat → Nat → NM → Prop} {post : Option Nat → NM → Prop} {xp : Nat → List Nat → NM → Prop} (X : cX G A RX2 p s m args c cX2_sum 4) (hr : meth.sig.returnType = (some (.object "ToldPowers$Sum"))) (hlk : meth.locks = false) (hL : l.stackTraces = false) (hT : c.exceptionTable.toList = tableOf []) (hI : ∀ {post : Option Nat → NM → Prop} {xp : Nat → List Nat → NM → Prop} {MC MS : Nat} {N : NM} {x0 : Nat} {x1 : Option Nat} {sz : Nat}, rc post xp MC MS N x0 x1 → cx_Met l yX2_sum (ws_ yX2_sum cX2_sum 4 (some (.object "ToldPowers$Sum"))) ⟨14 + 4 * d, MC, MS, 400 + 140 * d⟩ (va_Pc [.ref x0, va_rf x1] (cPre G [] N sz)) (gQ vQ post (fun u H => cBw G (cA [] N sz) (jW u).1 (jW u).2 H) (cA [] N sz)) (cXC G (cA [] N sz) [3] xp) MC MS (cA [] N sz)) (hK11 : ∀ (x0 : Nat) (x1 : Option Nat) (x2 : Option Nat) (x3 : Int32) (mc ms : Nat) (N : NM) (H : Heap) (locs : List Loc) (ls : Array Slot) (cells slots : Nat), K11 x0 x1 x2 x3 mc ms N → (cH G A s [] N H locs ∧ cells + mc ≤ MC ∧ slots + ms ≤ MS) → lv_has ls 4 [(0, .ref x0), (1, va_rf x1), (2, va_rf x2), (3, .int x3)] → W p l e ⟨18 + 4 * d, MC, MS, 540 + 140 * d⟩ s m args below meth c H locs cells slots (cx_MQ below (gQ vQ post (fun u H => cBw G A (jW u).1 (jW u).2 H) A) (cXC G A [3] xp) args s MC MS A) (F0 m 11 ls [])) : ∀ (x0 : Nat) (x1 : Option Nat) (x2 : Option Nat) (x3 : Int32) (mc ms : Nat) (N : NM) (H : Heap) (locs : List Loc) (ls : Array Slot) (cells slots : Nat), wX2_sum_23 (gC G) rc K11 post xp x0 x1 x2 x3 mc ms N → (cH G A s [] N H locs ∧ cells + mc ≤ MC ∧ slots + ms ≤ MS) → lv_has ls 4 [(0, .ref x0), (1, va_rf x1), (2, va_rf x2), (3, .int x3)] → W p l e ⟨18 + 4 * d, MC, MS, 540 + 140 * d⟩ s m args below meth c H locs cells slots (cx_MQ below (gQ vQ post (fun u H => cBw G A (jW u).1 (jW u).2 H) A) (cXC G A [3] xp) args s MC MS A) (F0 m 23 ls []) := by
  have hx := X.1.1
  have hb := X.1.2.1
  have hml := X.1.2.2.1
  have hown := X.1.2.2.2.1
  have hts := X.1.2.2.2.2
  intro x0 x1 x2 x3 mc ms N H locs ls cells slots h hw0 hl
  obtain ⟨hw, hbud⟩ := hw0
  unfold wX2_sum_23 at h
  refine lv_aload_n (pc := 23) hx hb dX2_sum_23 rfl (lv_at hl 0 rfl) ?_
  refine lv_dup (pc := 24) hx hb dX2_sum_24 rfl ?_
  obtain ⟨f28, f29, f30, f31, hN27, h⟩ := h
  refine c_get (pc := 25) X hw hN27 in_X2 rfl 0 (by decide) q406 rfl rfl dX2_sum_25 ?_
  refine lv_iconst (pc := 28) (v := (1 : Int32)) hx hb dX2_sum_28 (by decide) ?_
  refine lv_iadd (pc := 29) hx hb dX2_sum_29 ?_
  refine c_put (pc := 30) X hw hN27 in_X2 tyX2 tyX2_ok nmX2 rfl 0 (by decide) q406 rfl rfl rfl rfl rfl ((by first | exact Nat.le_of_ble_eq_true rfl | exact le_d rfl)) dX2_sum_30 (fun H locs hw => ?_)
  obtain ⟨N32, e33⟩ : ∃ z, z = va_up N x0 (some (eO 2 [.int (f28 + (1 : Int32)), .int f29, .int f30, va_rf f31])) := ⟨_, rfl⟩
  have hw : cH G A s [] N32 H locs := by rw [e33]; exact hw
  have h := h N32 e33
  have hN34 : N32 x0 = some (eO 2 [.int (f28 + (1 : Int32)), .int f29, .int f30, va_rf f31]) := by rw [e33]; exact up_s
  refine lv_aload_n (pc := 33) hx hb dX2_sum_33 rfl (lv_at hl 0 rfl) ?_
  refine c_callJ (pc := 34) (val := vV) X hw (va_runV (C := RX2) (As := []) (rest := []) X.1 (tX2_skips X.2.2.1 (sz := H.size) h) (cwV 0 hts (lw_V q398 q400 qs3 q113 q401) rfl rfl rfl ⟨rfl, by decide, by decide, (by decide +kernel : (parseMethodDescriptor yX2_skips.desc).map (fun d => d.parameters.length) = some 0)⟩ ⟨(by first | exact Nat.le_of_ble_eq_true rfl | exact le_d rfl), (by first | exact Nat.le_of_ble_eq_true rfl | exact le_d rfl)⟩) ⟨cPre_blind, c_recv X hw hN34 rfl, fun U hU hW => ⟨rfl, X.preJ hw hU hW⟩⟩ rfl rfl hl.1 rfl (lv_room ((by first | exact Nat.le_of_ble_eq_true rfl | exact le_d rfl))) dX2_sum_34 ⟨show cells + 0 ≤ MC by omega, show slots + 0 ≤ MS by omega⟩) (fun _ N36 H locs h hw => ?_)
  refine W.eq (g2 := F0 m 37 ls ([])) rfl ?_
  refine lv_iload_n (pc := 37) hx hb dX2_sum_37 rfl (lv_at hl 3 rfl) ?_
  refine lq_aload_n (pc := 38) hx hb dX2_sum_38 rfl (lv_at hl 2 rfl) ?_
  refine lv_aload_n (pc := 39) hx hb dX2_sum_39 rfl (lv_at hl 0 rfl) ?_
  refine lq_aload_n (pc := 40) hx hb dX2_sum_40 rfl (lv_at hl 1 rfl) ?_
  obtain ⟨f44, f45, f46, f47, hN43, h⟩ := h
  obtain ⟨mc39, ms40, hm41, hm42, h⟩ := h
  refine cx_callJ (pc := 41) (val := vQ) X hw (cx_runV (C := RX2) (As := [va_rf x1]) (rest := [va_rf x2, .int x3]) X.1 (tX2_product hL X.2.2.1 hI (sz := H.size) h) (cwV 1 hts (lw_V q1438 q1440 qs32 q113 q1441) rfl rfl rfl ⟨rfl, by decide, by decide, (by decide +kernel : (parseMethodDescriptor yX2_product.desc).map (fun d => d.parameters.length) = some 1)⟩ ⟨show 17 + 4 * d + 1 ≤ 18 + 4 * d by omega, show 8 + (3 + 11) + (471 + 140 * d) ≤ 540 + 140 * d by omega⟩) ⟨cPre_blind, c_recv X hw hN43 rfl, fun U hU hW => ⟨rfl, X.preJ hw hU hW⟩⟩ rfl rfl hl.1 rfl (lv_room (rsum_le ((by first | exact Nat.le_of_ble_eq_true rfl | exact le_d rfl)))) dX2_sum_41 ⟨show cells + 0 + mc39 ≤ MC by omega, show slots + 0 + ms40 ≤ MS by omega⟩) (fun q48 N49 H locs ci50 fs51 ch54 hci52 hNq53 h hw hch => ?_) (fun r37 N38 H locs h hw => ?_)
  · have hci52 := List.mem_singleton.mp hci52
    subst hci52
    have h := h fs51 hNq53
    exact cx_outJ (pc := 41) X hw hNq53 rfl (by decide) (by rw [hT]; intro x hx; cases hx) hlk hch h (by omega) (by omega)
  refine W.eq (g2 := F0 m 44 ls (va_rf r37 :: [va_rf x2, .int x3])) rfl ?_
  obtain ⟨mc57, ms58, hm59, hm60, h⟩ := h
  refine c_callJ (pc := 44) (val := vQ) X hw (va_runSN (As := [.int x3, va_rf x2, va_rf r37]) (rest := []) X.1 (tX0_both X.2.2.1 (sz := H.size) h) ⟨va_cnB 3 hts (lw_meth q1513) rfl rfl rfl (X.nest q1511) (hts _ q102) ⟨by decide, by decide, (by decide +kernel : (parseMethodDescriptor yX0_both.desc).map (fun d => d.parameters.length) = some 3)⟩ ⟨(by first | exact Nat.le_of_ble_eq_true rfl | exact le_d rfl), (by first | exact Nat.le_of_ble_eq_true rfl | exact le_d rfl)⟩, hts _ q1512, trivial⟩ ⟨cPre_blind, fun U hU hW => ⟨rfl, X.preJ hw hU hW⟩⟩ rfl rfl hl.1 rfl (lv_room ((by first | exact Nat.le_of_ble_eq_true rfl | exact le_d rfl))) dX2_sum_44 ⟨show cells + 0 + mc39 + mc57 ≤ MC by omega, show slots + 0 + ms40 + ms58 ≤ MS by omega⟩) (fun r55 N56 H locs h hw => ?_)
  refine W.eq (g2 := F0 m 47 ls (va_rf r55 :: [])) rfl ?_
  refine lq_astore_n (pc := 47) (i := 2) (lv' := [(2, va_rf r55), (0, .ref x0), (1, va_rf x1), (3, .int x3)]) hx hb dX2_sum_47 rfl hl (by decide) (by simp [rf_c]) (fun ls hl => ?_)
  refine lv_aload_n (pc := 48) hx hb dX2_sum_48 rfl (lv_at hl 1 rfl) ?_
  obtain ⟨f64, f65, f66, f67, hN63, h⟩ := h
  refine c_callJ (pc := 49) (val := vI) X hw (va_runV (C := RX2) (As := []) (rest := []) X.1 (tX2_here X.2.2.1 (sz := H.size) h) (cwV 0 hts (lw_V q402 q404 qs4 q113 q405) rfl rfl rfl ⟨rfl, by decide, by decide, (by decide +kernel : (parseMethodDescriptor yX2_here.desc).map (fun d => d.parameters.length) = some 0)⟩ ⟨(by first | exact Nat.le_of_ble_eq_true rfl | exact le_d rfl), (by first | exact Nat.le_of_ble_eq_true rfl | exact le_d rfl)⟩) ⟨cPre_blind, c_recv X hw hN63 rfl, fun U hU hW => ⟨rfl, X.preJ hw hU hW⟩⟩ rfl rfl hl.1 rfl (lv_room ((by first | exact Nat.le_of_ble_eq_true rfl | exact le_d rfl))) dX2_sum_49 ⟨show cells + 0 + mc39 + mc57 + 0 ≤ MC by omega, show slots + 0 + ms40 + ms58 + 0 ≤ MS by omega⟩) (fun r61 N62 H locs h hw => ?_)
  refine W.eq (g2 := F0 m 52 ls (.int r61 :: [])) rfl ?_
  refine lv_istore_n (pc := 52) (i := 3) (lv' := [(3, .int r61), (2, va_rf r55), (0, .ref x0), (1, va_rf x1)]) hx hb dX2_sum_52 rfl hl (by decide) (by simp [rf_c]) (fun ls hl => ?_)
  refine lv_goto (pc := 53) (tgt := 11) hx hb dX2_sum_53 rfl ?_
  exact hK11 _ _ _ _ _ _ _ _ _ _ _ _ h ⟨hw, by omega⟩ (lv_sub hl [2, 3, 1, 0] rfl)
theorem kX2_sum_11 {p : Program} {l : Launch} {e : Env} {s : State} {m : MethodId} {args : Array Value} {below : List Frame} {meth : Method} {c : Code} {G : gG} {A : Nat → Prop} {MC MS : Nat} {d : Nat} {rc : (Option Nat → NM → Prop) → (Nat → List Nat → NM → Prop) → Nat → Nat → NM → Nat → Option Nat → Prop} {post : Option Nat → NM → Prop} {xp : Nat → List Nat → NM → Prop} (X : cX G A RX2 p s m args c cX2_sum 4) (hr : meth.sig.returnType = (some (.object "ToldPowers$Sum"))) (hlk : meth.locks = false) (hL : l.stackTraces = false) (hT : c.exceptionTable.toList = tableOf []) (hI : ∀ {post : Option Nat → NM → Prop} {xp : Nat → List Nat → NM → Prop} {MC MS : Nat} {N : NM} {x0 : Nat} {x1 : Option Nat} {sz : Nat}, rc post xp MC MS N x0 x1 → cx_Met l yX2_sum (ws_ yX2_sum cX2_sum 4 (some (.object "ToldPowers$Sum"))) ⟨14 + 4 * d, MC, MS, 400 + 140 * d⟩ (va_Pc [.ref x0, va_rf x1] (cPre G [] N sz)) (gQ vQ post (fun u H => cBw G (cA [] N sz) (jW u).1 (jW u).2 H) (cA [] N sz)) (cXC G (cA [] N sz) [3] xp) MC MS (cA [] N sz)) : ∀ (n : Nat) (x0 : Nat) (x1 : Option Nat) (x2 : Option Nat) (x3 : Int32) (mc ms : Nat) (N : NM) (H : Heap) (locs : List Loc) (ls : Array Slot) (cells slots : Nat), wX2_sum_11 (gC G) rc post xp n x0 x1 x2 x3 mc ms N → (cH G A s [] N H locs ∧ cells + mc ≤ MC ∧ slots + ms ≤ MS) → lv_has ls 4 [(0, .ref x0), (1, va_rf x1), (2, va_rf x2), (3, .int x3)] → W p l e ⟨18 + 4 * d, MC, MS, 540 + 140 * d⟩ s m args below meth c H locs cells slots (cx_MQ below (gQ vQ post (fun u H => cBw G A (jW u).1 (jW u).2 H) A) (cXC G A [3] xp) args s MC MS A) (F0 m 11 ls []) := by
  have hx := X.1.1
  have hb := X.1.2.1
  have hml := X.1.2.2.1
  have hown := X.1.2.2.2.1
  have hts := X.1.2.2.2.2
  intro n
  induction n with
  | zero =>
    intro x0 x1 x2 x3 mc ms N H locs ls cells slots h
    exact False.elim h
  | succ n ih =>
    intro x0 x1 x2 x3 mc ms N H locs ls cells slots h hw0 hl
    obtain ⟨hw, hbud⟩ := hw0
    unfold wX2_sum_11 at h
    refine lv_iload_n (pc := 11) hx hb dX2_sum_11 rfl (lv_at hl 3 rfl) ?_
    refine lv_bipush (pc := 12) (v := (43 : Int32)) hx hb dX2_sum_12 (by decide) ?_
    refine lv_icmp_eq (pc := 14) (tgt := 23) hx hb dX2_sum_14 rfl (fun c26 => ?_) (fun c26 => ?_)
    · have h := h.1 c26
      exact kX2_sum_23 X hr hlk hL hT hI ih _ _ _ _ _ _ _ _ _ _ _ _ h ⟨hw, by omega⟩ (lv_sub hl [0, 1, 2, 3] rfl)
    · have h := h.2 c26
      refine lv_iload_n (pc := 17) hx hb dX2_sum_17 rfl (lv_at hl 3 rfl) ?_
      refine lv_bipush (pc := 18) (v := (45 : Int32)) hx hb dX2_sum_18 (by decide) ?_
      refine lv_icmp_ne (pc := 20) (tgt := 56) hx hb dX2_sum_20 rfl (fun c68 => ?_) (fun c68 => ?_)
      · have h := h.2 c68
        refine lq_aload_n (pc := 56) hx hb dX2_sum_56 rfl (lv_at hl 2 rfl) ?_
        refine W.widen (k := MC) (n := MS) (by omega) (by omega) ?_
        refine cx_ret ?_
        exact W.aret (pc := 57) (v := va_rf x2) hx hb hr (Or.inl ⟨_, rfl⟩) (va_rf_or _) (fun t ht hW => c_ret (val := vQ) (lw := jW) (u := N) hw h ht) hw.2.2.2 dX2_sum_57 hlk
      · have h := h.1 c68
        exact kX2_sum_23 X hr hlk hL hT hI ih _ _ _ _ _ _ _ _ _ _ _ _ h ⟨hw, by omega⟩ (lv_sub hl [0, 1, 2, 3] rfl)
theorem tX2_sumB {l : Launch} (hL : l.stackTraces = false) {G : gG} (hO : gOk G) {d : Nat} {rc : (Option Nat → NM → Prop) → (Nat → List Nat → NM → Prop) → Nat → Nat → NM → Nat → Option Nat → Prop} (hI : ∀ {post : Option Nat → NM → Prop} {xp : Nat → List Nat → NM → Prop} {MC MS : Nat} {N : NM} {x0 : Nat} {x1 : Option Nat} {sz : Nat}, rc post xp MC MS N x0 x1 → cx_Met l yX2_sum (ws_ yX2_sum cX2_sum 4 (some (.object "ToldPowers$Sum"))) ⟨14 + 4 * d, MC, MS, 400 + 140 * d⟩ (va_Pc [.ref x0, va_rf x1] (cPre G [] N sz)) (gQ vQ post (fun u H => cBw G (cA [] N sz) (jW u).1 (jW u).2 H) (cA [] N sz)) (cXC G (cA [] N sz) [3] xp) MC MS (cA [] N sz)) {post : Option Nat → NM → Prop} {xp : Nat → List Nat → NM → Prop} {MC MS : Nat} {N : NM} {x0 : Nat} {x1 : Option Nat} {sz : Nat} (h : wX2_sumB (gC G) rc post xp MC MS N x0 x1) : cx_Met l yX2_sum (ws_ yX2_sum cX2_sum 4 (some (.object "ToldPowers$Sum"))) ⟨18 + 4 * d, MC, MS, 540 + 140 * d⟩ (va_Pc [.ref x0, va_rf x1] (cPre G [] N sz)) (gQ vQ post (fun u H => cBw G (cA [] N sz) (jW u).1 (jW u).2 H) (cA [] N sz)) (cXC G (cA [] N sz) [3] xp) MC MS (cA [] N sz) := by
  refine c_ofX (B := fun A u H => cBw G A (jW u).1 (jW u).2 H) (by decide) hO (by cases x1 <;> exact (by first | exact Nat.le_of_ble_eq_true rfl | exact le_d rfl)) (fun p e s m below meth c ls A X hr hlk hT hw hl => ?_)
  have hl : lv_has ls 4 [(0, .ref x0), (1, va_rf x1)] := by cases x1 <;> exact hl
  have hx := X.1.1
  have hb := X.1.2.1
  have hml := X.1.2.2.1
  have hown := X.1.2.2.2.1
  have hts := X.1.2.2.2.2
  obtain ⟨H, eH⟩ : ∃ z, z = s.heap := ⟨_, rfl⟩
  rw [← eH] at hw ⊢
  obtain ⟨locs, eLo⟩ : ∃ z : List Loc, z = [] := ⟨_, rfl⟩
  rw [← eLo] at hw ⊢
  have hbud : 0 + MC ≤ MC ∧ 0 + MS ≤ MS := by omega
  unfold wX2_sumB at h
  refine lv_aload_n (pc := 0) hx hb dX2_sum_0 rfl (lv_at hl 0 rfl) ?_
  refine lq_aload_n (pc := 1) hx hb dX2_sum_1 rfl (lv_at hl 1 rfl) ?_
  obtain ⟨f8, f9, f10, f11, hN7, h⟩ := h
  obtain ⟨mc3, ms4, hm5, hm6, h⟩ := h
  refine cx_callJ (pc := 2) (val := vQ) X hw (cx_runV (C := RX2) (As := [va_rf x1]) (rest := []) X.1 (tX2_product hL X.2.2.1 hI (sz := H.size) h) (cwV 1 hts (lw_V q1438 q1440 qs32 q113 q1441) rfl rfl rfl ⟨rfl, by decide, by decide, (by decide +kernel : (parseMethodDescriptor yX2_product.desc).map (fun d => d.parameters.length) = some 1)⟩ ⟨show 17 + 4 * d + 1 ≤ 18 + 4 * d by omega, show 8 + (3 + 11) + (471 + 140 * d) ≤ 540 + 140 * d by omega⟩) ⟨cPre_blind, c_recv X hw hN7 rfl, fun U hU hW => ⟨rfl, X.preJ hw hU hW⟩⟩ rfl rfl hl.1 rfl (lv_room ((by first | exact Nat.le_of_ble_eq_true rfl | exact le_d rfl))) dX2_sum_2 ⟨show 0 + mc3 ≤ MC by omega, show 0 + ms4 ≤ MS by omega⟩) (fun q12 N13 H locs ci14 fs15 ch18 hci16 hNq17 h hw hch => ?_) (fun r1 N2 H locs h hw => ?_)
  · have hci16 := List.mem_singleton.mp hci16
    subst hci16
    have h := h fs15 hNq17
    exact cx_outJ (pc := 2) X hw hNq17 rfl (by decide) (by rw [hT]; intro x hx; cases hx) hlk hch h (by omega) (by omega)
  refine W.eq (g2 := F0 m 5 ls (va_rf r1 :: [])) rfl ?_
  refine lq_astore_n (pc := 5) (i := 2) (lv' := [(2, va_rf r1), (0, .ref x0), (1, va_rf x1)]) hx hb dX2_sum_5 rfl hl (by decide) (by simp [rf_c]) (fun ls hl => ?_)
  refine lv_aload_n (pc := 6) hx hb dX2_sum_6 rfl (lv_at hl 1 rfl) ?_
  obtain ⟨f22, f23, f24, f25, hN21, h⟩ := h
  refine c_callJ (pc := 7) (val := vI) X hw (va_runV (C := RX2) (As := []) (rest := []) X.1 (tX2_here X.2.2.1 (sz := H.size) h) (cwV 0 hts (lw_V q402 q404 qs4 q113 q405) rfl rfl rfl ⟨rfl, by decide, by decide, (by decide +kernel : (parseMethodDescriptor yX2_here.desc).map (fun d => d.parameters.length) = some 0)⟩ ⟨(by first | exact Nat.le_of_ble_eq_true rfl | exact le_d rfl), (by first | exact Nat.le_of_ble_eq_true rfl | exact le_d rfl)⟩) ⟨cPre_blind, c_recv X hw hN21 rfl, fun U hU hW => ⟨rfl, X.preJ hw hU hW⟩⟩ rfl rfl hl.1 rfl (lv_room ((by first | exact Nat.le_of_ble_eq_true rfl | exact le_d rfl))) dX2_sum_7 ⟨show 0 + mc3 + 0 ≤ MC by omega, show 0 + ms4 + 0 ≤ MS by omega⟩) (fun r19 N20 H locs h hw => ?_)
  refine W.eq (g2 := F0 m 10 ls (.int r19 :: [])) rfl ?_
  refine lv_istore_n (pc := 10) (i := 3) (lv' := [(3, .int r19), (2, va_rf r1), (0, .ref x0), (1, va_rf x1)]) hx hb dX2_sum_10 rfl hl (by decide) (by simp [rf_c]) (fun ls hl => ?_)
  obtain ⟨k, h⟩ := h
  exact kX2_sum_11 X hr hlk hL hT hI  k _ _ _ _ _ _ _ _ _ _ _ _ h ⟨hw, by omega⟩ (lv_sub hl [2, 3, 1, 0] rfl)

def wX2_sum (K : Nat → Nat → Nat) : Nat → (Option Nat → NM → Prop) → (Nat → List Nat → NM → Prop) → Nat → Nat → NM → Nat → Option Nat → Prop
  | 0, _, _, _, _, _, _, _ => False
  | d + 1, post, xp, MC, MS, N, x0, x1 => wX2_sumB K (fun post xp MC MS N x0 x1 => wX2_sum K d post xp MC MS N x0 x1) post xp MC MS N x0 x1
theorem tX2_sumD {l : Launch} (hL : l.stackTraces = false) {G : gG} (hO : gOk G) : ∀ (d : Nat) {post : Option Nat → NM → Prop} {xp : Nat → List Nat → NM → Prop} {MC MS : Nat} {N : NM} {x0 : Nat} {x1 : Option Nat} {sz : Nat}, wX2_sum (gC G) d post xp MC MS N x0 x1 → cx_Met l yX2_sum (ws_ yX2_sum cX2_sum 4 (some (.object "ToldPowers$Sum"))) ⟨14 + 4 * d, MC, MS, 400 + 140 * d⟩ (va_Pc [.ref x0, va_rf x1] (cPre G [] N sz)) (gQ vQ post (fun u H => cBw G (cA [] N sz) (jW u).1 (jW u).2 H) (cA [] N sz)) (cXC G (cA [] N sz) [3] xp) MC MS (cA [] N sz) := by
  intro d
  induction d with
  | zero => intro post xp MC MS N x0 x1 sz h; exact False.elim h
  | succ d ih =>
    intro post xp MC MS N x0 x1 sz h
    rw [show 14 + 4 * (d + 1) = 18 + 4 * d by omega, show 400 + 140 * (d + 1) = 540 + 140 * d by omega]
    exact tX2_sumB hL hO (fun h => ih h) h
theorem tX2_sum {l : Launch} (hL : l.stackTraces = false) {G : gG} (hO : gOk G) {post : Option Nat → NM → Prop} {xp : Nat → List Nat → NM → Prop} {MC MS : Nat} {N : NM} {x0 : Nat} {x1 : Option Nat} {sz : Nat} (h : wX2_sum (gC G) 9 post xp MC MS N x0 x1) : cx_Met l yX2_sum (ws_ yX2_sum cX2_sum 4 (some (.object "ToldPowers$Sum"))) ⟨14 + 4 * 9, MC, MS, 400 + 140 * 9⟩ (va_Pc [.ref x0, va_rf x1] (cPre G [] N sz)) (gQ vQ post (fun u H => cBw G (cA [] N sz) (jW u).1 (jW u).2 H) (cA [] N sz)) (cXC G (cA [] N sz) [3] xp) MC MS (cA [] N sz) := tX2_sumD hL hO 9 h
def wX2_identity (K : Nat → Nat → Nat) (post : Unit → NM → Prop) (xp : Nat → List Nat → NM → Prop) (MC MS : Nat) (N : NM) (x0 : Nat) : Prop :=
  ¬ (2 : Int32) < 0 ∧ (2 : Int32).toNatClampNeg ≤ 65536 ∧ 1 ≤ MC ∧ (2 : Int32).toNatClampNeg ≤ MS ∧ (∀ nq5, N nq5 = none → (∀ N7, N7 = va_up N nq5 (some (eR 11 ((2 : Int32).toNatClampNeg) (fun _ => (none : Option Nat)))) → (1 ≤ (MC - 1) ∧ 2 ≤ (MS - (2 : Int32).toNatClampNeg) ∧ (∀ nq12, N7 nq12 = none → (∀ N14, N14 = va_up N7 nq12 (some (eO 12 [.int (0 : Int32), .int (0 : Int32)])) → (wX9_init K (fun _ N19 => ∃ f27 f28 f29 f30, N19 x0 = some (eO 2 [.int f27, .int f28, .int f29, va_rf f30]) ∧ (∃ mc22 ms23, mc22 ≤ ((MC - 1) - 1) ∧ ms23 ≤ ((MS - (2 : Int32).toNatClampNeg) - 2) ∧ wX2_sum K 9 (fun r20 N21 => ∃ n71 f72, N21 nq5 = some (eR 11 n71 f72) ∧ (vp_in (0 : Int32) n71 ∧ (∃ a73, r20 = some a73 ∧ (sumOb N21 a73 ∧ (∀ N76, N76 = va_up N21 nq5 (some (eR 11 n71 (va_up f72 (0 : Int32).toNatClampNeg (some a73)))) → (∃ f86 f87 f88 f89, N76 x0 = some (eO 2 [.int f86, .int f87, .int f88, va_rf f89]) ∧ (∃ mc81 ms82, mc81 ≤ (((MC - 1) - 1) - mc22) ∧ ms82 ≤ (((MS - (2 : Int32).toNatClampNeg) - 2) - ms23) ∧ wX2_asks K (fun _ N80 => ∃ f136 f137 f138 f139, N80 x0 = some (eO 2 [.int f136, .int f137, .int f138, va_rf f139]) ∧ (∃ mc131 ms132, mc131 ≤ ((((MC - 1) - 1) - mc22) - mc81) ∧ ms132 ≤ ((((MS - (2 : Int32).toNatClampNeg) - 2) - ms23) - ms82) ∧ wX2_sum K 9 (fun r129 N130 => ∃ n180 f181, N130 nq5 = some (eR 11 n180 f181) ∧ (vp_in (1 : Int32) n180 ∧ (∃ a182, r129 = some a182 ∧ (sumOb N130 a182 ∧ (∀ N185, N185 = va_up N130 nq5 (some (eR 11 n180 (va_up f181 (1 : Int32).toNatClampNeg (some a182)))) → (∃ f191 f192 f193 f194, N185 x0 = some (eO 2 [.int f191, .int f192, .int f193, va_rf f194]) ∧ (wX2_isOver K (fun r188 N189 => ∃ f196 f197 f198 f199, N189 x0 = some (eO 2 [.int f196, .int f197, .int f198, va_rf f199]) ∧ (∃ mc202 ms203, mc202 ≤ (((((MC - 1) - 1) - mc22) - mc81) - mc131) ∧ ms203 ≤ (((((MS - (2 : Int32).toNatClampNeg) - 2) - ms23) - ms82) - ms132) ∧ wX2_must K (fun _ N201 => ∃ f246 f247 f248 f249, N201 x0 = some (eO 2 [.int f246, .int f247, .int f248, va_rf f249]) ∧ (∃ n251 f252, N201 nq5 = some (eR 11 n251 f252) ∧ (vp_in (0 : Int32) n251 ∧ (∃ a253, f249 = some a253 ∧ (∃ f256 f257 f258 f259 f260 f261 f262 f263 f264 f265 f266 f267 f268 f269 f270 f271 f272 f273 f274, N201 a253 = some (eO 1 [va_rf f256, va_rf f257, va_rf f258, va_rf f259, va_rf f260, va_rf f261, va_rf f262, va_rf f263, va_rf f264, .int f265, .int f266, va_rf f267, va_rf f268, .int f269, va_rf f270, va_rf f271, va_rf f272, va_rf f273, va_rf f274]) ∧ (∀ N275, N275 = va_up N201 a253 (some (eO 1 [va_rf f256, va_rf f257, va_rf f258, va_rf f259, va_rf f260, va_rf f261, va_rf f262, va_rf (f252 (0 : Int32).toNatClampNeg), va_rf f264, .int f265, .int f266, va_rf f267, va_rf f268, .int f269, va_rf f270, va_rf f271, va_rf f272, va_rf f273, va_rf f274])) → (vp_in (1 : Int32) n251 ∧ (∀ N280, N280 = va_up N275 a253 (some (eO 1 [va_rf f256, va_rf f257, va_rf f258, va_rf f259, va_rf f260, va_rf f261, va_rf f262, va_rf (f252 (0 : Int32).toNatClampNeg), va_rf (f252 (1 : Int32).toNatClampNeg), .int f265, .int f266, va_rf f267, va_rf f268, .int f269, va_rf f270, va_rf f271, va_rf f272, va_rf f273, va_rf f274])) → (∃ f286 f287, N280 nq12 = some (eO 12 [.int f286, .int f287]) ∧ (∀ N288, N288 = va_up N280 a253 (some (eO 1 [va_rf f256, va_rf f257, va_rf f258, va_rf f259, va_rf f260, va_rf f261, va_rf f262, va_rf (f252 (0 : Int32).toNatClampNeg), va_rf (f252 (1 : Int32).toNatClampNeg), .int f287, .int f266, va_rf f267, va_rf f268, .int f269, va_rf f270, va_rf f271, va_rf f272, va_rf f273, va_rf f274])) → (∀ N294, N294 = va_up N288 a253 (some (eO 1 [va_rf f256, va_rf f257, va_rf f258, va_rf f259, va_rf f260, va_rf f261, va_rf f262, va_rf (f252 (0 : Int32).toNatClampNeg), va_rf (f252 (1 : Int32).toNatClampNeg), .int f287, .int f286, va_rf f267, va_rf f268, .int f269, va_rf f270, va_rf f271, va_rf f272, va_rf f273, va_rf f274])) → (post () N294)))))))))))) (fun q206 ch212 N207 => (∀ fs209, N207 q206 = some (eO 3 fs209) → (1 ≤ ((((((MC - 1) - 1) - mc22) - mc81) - mc131) - mc202) ∧ 7 ≤ ((((((MS - (2 : Int32).toNatClampNeg) - 2) - ms23) - ms82) - ms132) - ms203) ∧ (∀ nq215, N207 nq215 = none → (∀ N217, N217 = va_up N207 nq215 (some (eO 5 [va_rf none, va_rf none, va_rf none, va_rf none, va_rf none, .int (0 : Int32), .int (0 : Int32)])) → (1 ≤ (((((((MC - 1) - 1) - mc22) - mc81) - mc131) - mc202) - 1) ∧ 7 ≤ (((((((MS - (2 : Int32).toNatClampNeg) - 2) - ms23) - ms82) - ms132) - ms203) - 7) ∧ (∀ nq222, N217 nq222 = none → (∀ N224, N224 = va_up N217 nq222 (some (eO 4 [va_rf none, va_rf none, va_rf none, va_rf none, va_rf none, .int (0 : Int32), .int (0 : Int32)])) → (∃ f229 f230 f231 f232, N224 x0 = some (eO 2 [.int f229, .int f230, .int f231, va_rf f232]) ∧ (wX8_init K (fun _ N234 => wX5_init K (fun _ N236 => ∃ f238 f239 f240 f241 f242 f243 f244, N236 nq215 = some (eO 5 [va_rf f238, va_rf f239, va_rf f240, va_rf f241, va_rf f242, .int f243, .int f244]) ∧ (xp nq215 (nq222 :: (nq215 :: ch212)) N236)) N234 nq215 (1 : Int32) (some nq222)) N224 nq222 f231 (some q206))))))))))) mc202 ms203 N189 x0 r188 (1 : Int32) f196)) N185 x0))))))) (fun q140 ch146 N141 => (∀ fs143, N141 q140 = some (eO 3 fs143) → (1 ≤ (((((MC - 1) - 1) - mc22) - mc81) - mc131) ∧ 7 ≤ (((((MS - (2 : Int32).toNatClampNeg) - 2) - ms23) - ms82) - ms132) ∧ (∀ nq149, N141 nq149 = none → (∀ N151, N151 = va_up N141 nq149 (some (eO 5 [va_rf none, va_rf none, va_rf none, va_rf none, va_rf none, .int (0 : Int32), .int (0 : Int32)])) → (1 ≤ ((((((MC - 1) - 1) - mc22) - mc81) - mc131) - 1) ∧ 7 ≤ ((((((MS - (2 : Int32).toNatClampNeg) - 2) - ms23) - ms82) - ms132) - 7) ∧ (∀ nq156, N151 nq156 = none → (∀ N158, N158 = va_up N151 nq156 (some (eO 4 [va_rf none, va_rf none, va_rf none, va_rf none, va_rf none, .int (0 : Int32), .int (0 : Int32)])) → (∃ f163 f164 f165 f166, N158 x0 = some (eO 2 [.int f163, .int f164, .int f165, va_rf f166]) ∧ (wX8_init K (fun _ N168 => wX5_init K (fun _ N170 => ∃ f172 f173 f174 f175 f176 f177 f178, N170 nq149 = some (eO 5 [va_rf f172, va_rf f173, va_rf f174, va_rf f175, va_rf f176, .int f177, .int f178]) ∧ (xp nq149 (nq156 :: (nq149 :: ch146)) N170)) N168 nq149 (1 : Int32) (some nq156)) N158 nq156 f165 (some q140))))))))))) mc131 ms132 N80 x0 (some nq12))) (fun q90 ch96 N91 => (∀ fs93, N91 q90 = some (eO 3 fs93) → (1 ≤ ((((MC - 1) - 1) - mc22) - mc81) ∧ 7 ≤ ((((MS - (2 : Int32).toNatClampNeg) - 2) - ms23) - ms82) ∧ (∀ nq99, N91 nq99 = none → (∀ N101, N101 = va_up N91 nq99 (some (eO 5 [va_rf none, va_rf none, va_rf none, va_rf none, va_rf none, .int (0 : Int32), .int (0 : Int32)])) → (1 ≤ (((((MC - 1) - 1) - mc22) - mc81) - 1) ∧ 7 ≤ (((((MS - (2 : Int32).toNatClampNeg) - 2) - ms23) - ms82) - 7) ∧ (∀ nq106, N101 nq106 = none → (∀ N108, N108 = va_up N101 nq106 (some (eO 4 [va_rf none, va_rf none, va_rf none, va_rf none, va_rf none, .int (0 : Int32), .int (0 : Int32)])) → (∃ f113 f114 f115 f116, N108 x0 = some (eO 2 [.int f113, .int f114, .int f115, va_rf f116]) ∧ (wX8_init K (fun _ N118 => wX5_init K (fun _ N120 => ∃ f122 f123 f124 f125 f126 f127 f128, N120 nq99 = some (eO 5 [va_rf f122, va_rf f123, va_rf f124, va_rf f125, va_rf f126, .int f127, .int f128]) ∧ (xp nq99 (nq106 :: (nq99 :: ch96)) N120)) N118 nq99 (0 : Int32) (some nq106)) N108 nq106 f115 (some q90))))))))))) mc81 ms82 N76 x0 (61 : Int32)))))))) (fun q31 ch37 N32 => (∀ fs34, N32 q31 = some (eO 3 fs34) → (1 ≤ (((MC - 1) - 1) - mc22) ∧ 7 ≤ (((MS - (2 : Int32).toNatClampNeg) - 2) - ms23) ∧ (∀ nq40, N32 nq40 = none → (∀ N42, N42 = va_up N32 nq40 (some (eO 5 [va_rf none, va_rf none, va_rf none, va_rf none, va_rf none, .int (0 : Int32), .int (0 : Int32)])) → (1 ≤ ((((MC - 1) - 1) - mc22) - 1) ∧ 7 ≤ ((((MS - (2 : Int32).toNatClampNeg) - 2) - ms23) - 7) ∧ (∀ nq47, N42 nq47 = none → (∀ N49, N49 = va_up N42 nq47 (some (eO 4 [va_rf none, va_rf none, va_rf none, va_rf none, va_rf none, .int (0 : Int32), .int (0 : Int32)])) → (∃ f54 f55 f56 f57, N49 x0 = some (eO 2 [.int f54, .int f55, .int f56, va_rf f57]) ∧ (wX8_init K (fun _ N59 => wX5_init K (fun _ N61 => ∃ f63 f64 f65 f66 f67 f68 f69, N61 nq40 = some (eO 5 [va_rf f63, va_rf f64, va_rf f65, va_rf f66, va_rf f67, .int f68, .int f69]) ∧ (xp nq40 (nq47 :: (nq40 :: ch37)) N61)) N59 nq40 (0 : Int32) (some nq47)) N49 nq47 f56 (some q31))))))))))) mc22 ms23 N19 x0 (some nq12))) N14 nq12))))))
theorem tX2_identity {l : Launch} (hL : l.stackTraces = false) {G : gG} (hO : gOk G) {post : Unit → NM → Prop} {xp : Nat → List Nat → NM → Prop} {MC MS : Nat} {N : NM} {x0 : Nat} {sz : Nat} (h : wX2_identity (gC G) post xp MC MS N x0) : cx_Met l yX2_identity (wsW_ yX2_identity cX2_identity 5 none [(15, 52, 55, 41)]) ⟨51, MC, MS, 1683⟩ (va_Pc [.ref x0] (cPre G [] N sz)) (gQ vV post (fun u H => cBw G (cA [] N sz) (jW u).1 (jW u).2 H) (cA [] N sz)) (cXC G (cA [] N sz) [5] xp) MC MS (cA [] N sz) := by
  refine c_ofXH (B := fun A u H => cBw G A (jW u).1 (jW u).2 H) (by decide) hO (Nat.le_of_ble_eq_true rfl) (fun p e s m below meth c ls A X hr hlk hT hw hl => ?_)
  have hl : lv_has ls 5 [(0, .ref x0)] := hl
  have hx := X.1.1
  have hb := X.1.2.1
  have hml := X.1.2.2.1
  have hown := X.1.2.2.2.1
  have hts := X.1.2.2.2.2
  obtain ⟨H, eH⟩ : ∃ z, z = s.heap := ⟨_, rfl⟩
  rw [← eH] at hw ⊢
  obtain ⟨locs, eLo⟩ : ∃ z : List Loc, z = [] := ⟨_, rfl⟩
  rw [← eLo] at hw ⊢
  have hbud : 0 + MC ≤ MC ∧ 0 + MS ≤ MS := by omega
  unfold wX2_identity at h
  refine lv_iconst (pc := 0) (v := (2 : Int32)) hx hb dX2_identity_0 (by decide) ?_
  obtain ⟨hm1, hm2, hm3, hm4, h⟩ := h
  refine c_newq (pc := 1) X hw q1419 q1420 11 rfl hm1 rfl (Nat.le_trans (Nat.mul_le_mul_right _ hm2) (Nat.le_of_ble_eq_true rfl)) (show 0 + 1 ≤ MC by omega) (show 0 + (2 : Int32).toNatClampNeg ≤ MS by omega) dX2_identity_1 (fun nq5 H hq6 _ hw => ?_)
  have h := h nq5 hq6
  obtain ⟨N7, e8⟩ : ∃ z, z = va_up N nq5 (some (eR 11 ((2 : Int32).toNatClampNeg) (fun _ => (none : Option Nat)))) := ⟨_, rfl⟩
  have hw : cH G A s [] N7 H locs := by rw [e8]; exact hw
  have h := h N7 e8
  have hN9 : N7 nq5 = some (eR 11 ((2 : Int32).toNatClampNeg) (fun _ => (none : Option Nat))) := by rw [e8]; exact up_s
  refine lv_astore_n (pc := 4) (lv' := [(1, .ref nq5), (0, .ref x0)]) hx hb dX2_identity_4 rfl hl (by decide) rfl (fun ls hl => ?_)
  obtain ⟨hm10, hm11, h⟩ := h
  refine c_new (pc := 5) (ci := 12) (fs := [.int (0 : Int32), .int (0 : Int32)]) X hw in_X9 tyX9 tyX9_ok q1421 q1422 q142 rfl nf_X9 (show 0 + 1 + 1 ≤ MC by omega) (show 0 + (2 : Int32).toNatClampNeg + 2 ≤ MS by omega) dX2_identity_5 (fun nq12 H hq13 _ hw => ?_)
  have h := h nq12 hq13
  obtain ⟨N14, e15⟩ : ∃ z, z = va_up N7 nq12 (some (eO 12 [.int (0 : Int32), .int (0 : Int32)])) := ⟨_, rfl⟩
  have hw : cH G A s [] N14 H locs := by rw [e15]; exact hw
  have h := h N14 e15
  have hN16 : N14 nq12 = some (eO 12 [.int (0 : Int32), .int (0 : Int32)]) := by rw [e15]; exact up_s
  have hN17 := up_f (x := some (eO 12 [.int (0 : Int32), .int (0 : Int32)])) hq13 hN9
  rw [← e15] at hN17
  refine lv_dup (pc := 8) hx hb dX2_identity_8 rfl ?_
  refine c_callJ (pc := 9) (val := vV) X hw (va_runIN (As := []) (rest := [.ref nq12]) X.1 (tX9_init X.2.2.1 (sz := H.size) h) ⟨va_cnB 0 hts (lw_meth q1425) rfl rfl rfl (X.nest q1423) (hts _ q142) ⟨by decide, by decide, (by decide +kernel : (parseMethodDescriptor yX9_init.desc).map (fun d => d.parameters.length) = some 0)⟩ ⟨Nat.le_of_ble_eq_true rfl, Nat.le_of_ble_eq_true rfl⟩, rfl, hts _ q1424⟩ ⟨cPre_blind, fun U hU hW => ⟨rfl, X.preJ hw hU hW⟩⟩ rfl rfl hl.1 rfl (lv_room (Nat.le_of_ble_eq_true rfl)) dX2_identity_9 ⟨show 0 + 1 + 1 + 0 ≤ MC by omega, show 0 + (2 : Int32).toNatClampNeg + 2 + 0 ≤ MS by omega⟩) (fun _ N19 H locs h hw => ?_)
  refine W.eq (g2 := F0 m 12 ls ([.ref nq12])) rfl ?_
  refine lv_astore_n (pc := 12) (lv' := [(2, .ref nq12), (1, .ref nq5), (0, .ref x0)]) hx hb dX2_identity_12 rfl hl (by decide) rfl (fun ls hl => ?_)
  refine lv_iconst (pc := 13) (v := (0 : Int32)) hx hb dX2_identity_13 (by decide) ?_
  refine lv_istore_n (pc := 14) (lv' := [(3, .int (0 : Int32)), (2, .ref nq12), (1, .ref nq5), (0, .ref x0)]) hx hb dX2_identity_14 rfl hl (by decide) rfl (fun ls hl => ?_)
  refine lv_aload_n (pc := 15) hx hb dX2_identity_15 rfl (lv_at hl 2 rfl) ?_
  refine lv_iconst (pc := 16) (v := (0 : Int32)) hx hb dX2_identity_16 (by decide) ?_
  refine lv_aload_n (pc := 17) hx hb dX2_identity_17 rfl (lv_at hl 3 rfl) ?_
  refine lv_aload_n (pc := 18) hx hb dX2_identity_18 rfl (lv_at hl 1 rfl) ?_
  obtain ⟨f27, f28, f29, f30, hN26, h⟩ := h
  obtain ⟨mc22, ms23, hm24, hm25, h⟩ := h
  refine cx_callJ (pc := 19) (val := vQ) X hw (cx_runV (C := RX2) (As := [va_rf (some nq12)]) (rest := [.int (0 : Int32), .ref nq5]) X.1 (tX2_sum hL X.2.2.1 (sz := H.size) h) (cwV 1 hts (lw_V q1434 q1436 qs31 q113 q1437) rfl rfl rfl ⟨rfl, by decide, by decide, (by decide +kernel : (parseMethodDescriptor yX2_sum.desc).map (fun d => d.parameters.length) = some 1)⟩ ⟨Nat.le_of_ble_eq_true rfl, Nat.le_of_ble_eq_true rfl⟩) ⟨cPre_blind, c_recv X hw hN26 rfl, fun U hU hW => ⟨rfl, X.preJ hw hU hW⟩⟩ rfl rfl hl.1 rfl (lv_room (Nat.le_of_ble_eq_true rfl)) dX2_identity_19 ⟨show 0 + 1 + 1 + 0 + mc22 ≤ MC by omega, show 0 + (2 : Int32).toNatClampNeg + 2 + 0 + ms23 ≤ MS by omega⟩) (fun q31 N32 H locs ci33 fs34 ch37 hci35 hNq36 h hw hch => ?_) (fun r20 N21 H locs h hw => ?_)
  · have hci35 := List.mem_singleton.mp hci35
    subst hci35
    have h := h fs34 hNq36
    refine cx_catchJ (pc := 19) X hw hNq36 rfl [] ⟨15, 52, 55, 41⟩ [] (by rw [hT]; rfl) ep_n rfl (by decide) q423 q664 ?_
    refine lv_astore (pc := 55) (lv' := [(4, .ref q31), (3, .int (0 : Int32)), (2, .ref nq12), (1, .ref nq5), (0, .ref x0)]) hx hb dX2_identity_55 hl (by decide) rfl (fun ls hl => ?_)
    obtain ⟨hm38, hm39, h⟩ := h
    refine c_newM (pc := 57) (ci := 5) (fs := [va_rf none, va_rf none, va_rf none, va_rf none, va_rf none, .int (0 : Int32), .int (0 : Int32)]) X hw in_X5 tyX5 tyX5_ok q842 q843 q127 rfl nf_X5 (show 0 + 1 + 1 + 0 + mc22 + 1 ≤ MC by omega) (show 0 + (2 : Int32).toNatClampNeg + 2 + 0 + ms23 + 7 ≤ MS by omega) dX2_identity_57 (fun nq40 H hq41 _ hw hf9 hMo => ?_)
    have hch := Mf.cons hf9 (hMo.all hch)
    have h := h nq40 hq41
    obtain ⟨N42, e43⟩ : ∃ z, z = va_up N32 nq40 (some (eO 5 [va_rf none, va_rf none, va_rf none, va_rf none, va_rf none, .int (0 : Int32), .int (0 : Int32)])) := ⟨_, rfl⟩
    have hw : cH G A s [] N42 H locs := by rw [e43]; exact hw
    have h := h N42 e43
    have hN44 : N42 nq40 = some (eO 5 [va_rf none, va_rf none, va_rf none, va_rf none, va_rf none, .int (0 : Int32), .int (0 : Int32)]) := by rw [e43]; exact up_s
    refine lv_dup (pc := 60) hx hb dX2_identity_60 rfl ?_
    refine lv_iload_n (pc := 61) hx hb dX2_identity_61 rfl (lv_at hl 1 rfl) ?_
    obtain ⟨hm45, hm46, h⟩ := h
    refine c_newM (pc := 62) (ci := 4) (fs := [va_rf none, va_rf none, va_rf none, va_rf none, va_rf none, .int (0 : Int32), .int (0 : Int32)]) X hw in_X8 tyX8 tyX8_ok q931 q1393 q141 rfl nf_X8 (show 0 + 1 + 1 + 0 + mc22 + 1 + 1 ≤ MC by omega) (show 0 + (2 : Int32).toNatClampNeg + 2 + 0 + ms23 + 7 + 7 ≤ MS by omega) dX2_identity_62 (fun nq47 H hq48 _ hw hf9 hMo => ?_)
    have hch := Mf.cons hf9 (hMo.all hch)
    have h := h nq47 hq48
    obtain ⟨N49, e50⟩ : ∃ z, z = va_up N42 nq47 (some (eO 4 [va_rf none, va_rf none, va_rf none, va_rf none, va_rf none, .int (0 : Int32), .int (0 : Int32)])) := ⟨_, rfl⟩
    have hw : cH G A s [] N49 H locs := by rw [e50]; exact hw
    have h := h N49 e50
    have hN51 : N49 nq47 = some (eO 4 [va_rf none, va_rf none, va_rf none, va_rf none, va_rf none, .int (0 : Int32), .int (0 : Int32)]) := by rw [e50]; exact up_s
    have hN52 := up_f (x := some (eO 4 [va_rf none, va_rf none, va_rf none, va_rf none, va_rf none, .int (0 : Int32), .int (0 : Int32)])) hq48 hN44
    rw [← e50] at hN52
    refine lv_dup (pc := 65) hx hb dX2_identity_65 rfl ?_
    refine lv_aload_n (pc := 66) hx hb dX2_identity_66 rfl (lv_at hl 4 rfl) ?_
    obtain ⟨f54, f55, f56, f57, hN53, h⟩ := h
    refine c_get (pc := 67) X hw hN53 in_X2 rfl 2 (by decide) q408 rfl rfl dX2_identity_67 ?_
    refine lv_aload (pc := 70) hx hb dX2_identity_70 (lv_at hl 0 rfl) ?_
    refine mo_row (dc := 0) (dn := 0) (g2 := F0 m 75 ls [.ref nq47, .int (0 : Int32), .ref nq40, .ref nq40]) X hw ⟨show 0 + 1 + 1 + 0 + mc22 + 1 + 1 ≤ MC by omega, show 0 + (2 : Int32).toNatClampNeg + 2 + 0 + ms23 + 7 + 7 ≤ MS by omega⟩ (fun s Q X hw kk => by have hts := X.1.2.2.2.2; exact c_callJ (pc := 72) (Q := Q) (val := vV) X hw (va_runI (As := [.int f56, va_rf (some q31)]) (rest := [.ref nq47, .int (0 : Int32), .ref nq40, .ref nq40]) X.1 (tX8_init X.2.2.1 (sz := H.size) h) (cwI 2 hts (lw_meth q1403) rfl rfl rfl (hts _ q141) (hts _ q1401) (hts _ q1402) rfl ⟨by decide, by decide, (by decide +kernel : (parseMethodDescriptor yX8_init.desc).map (fun d => d.parameters.length) = some 2)⟩ ⟨Nat.le_of_ble_eq_true rfl, Nat.le_of_ble_eq_true rfl⟩) ⟨cPre_blind, fun U hU hW => ⟨rfl, X.preJ hw hU hW⟩⟩ rfl rfl hl.1 rfl (lv_room (Nat.le_of_ble_eq_true rfl)) dX2_identity_72 ⟨show 0 + 0 ≤ MC - (0 + 1 + 1 + 0 + mc22 + 1 + 1) by omega, show 0 + 0 ≤ MS - (0 + (2 : Int32).toNatClampNeg + 2 + 0 + ms23 + 7 + 7) by omega⟩) (fun _ N9 H1 locs1 h hw1 => kk N9 H1 locs1 h hw1)) (fun N59 H locs h hw hMo => ?_)
    have hch := hMo.all hch
    refine W.eq (g2 := F0 m 75 ls ([.ref nq47, .int (0 : Int32), .ref nq40, .ref nq40])) rfl ?_
    refine mo_row (dc := 0) (dn := 0) (g2 := F0 m 78 ls [.ref nq40]) X hw ⟨show 0 + 1 + 1 + 0 + mc22 + 1 + 1 + 0 ≤ MC by omega, show 0 + (2 : Int32).toNatClampNeg + 2 + 0 + ms23 + 7 + 7 + 0 ≤ MS by omega⟩ (fun s Q X hw kk => by have hts := X.1.2.2.2.2; exact c_callJ (pc := 75) (Q := Q) (val := vV) X hw (va_runI (As := [.int (0 : Int32), va_rf (some nq47)]) (rest := [.ref nq40]) X.1 (tX5_init X.2.2.1 (sz := H.size) h) (cwI 2 hts (lw_meth q853) rfl rfl rfl (hts _ q127) (hts _ q851) (hts _ q852) rfl ⟨by decide, by decide, (by decide +kernel : (parseMethodDescriptor yX5_init.desc).map (fun d => d.parameters.length) = some 2)⟩ ⟨Nat.le_of_ble_eq_true rfl, Nat.le_of_ble_eq_true rfl⟩) ⟨cPre_blind, fun U hU hW => ⟨rfl, X.preJ hw hU hW⟩⟩ rfl rfl hl.1 rfl (lv_room (Nat.le_of_ble_eq_true rfl)) dX2_identity_75 ⟨show 0 + 0 ≤ MC - (0 + 1 + 1 + 0 + mc22 + 1 + 1 + 0) by omega, show 0 + 0 ≤ MS - (0 + (2 : Int32).toNatClampNeg + 2 + 0 + ms23 + 7 + 7 + 0) by omega⟩) (fun _ N9 H1 locs1 h hw1 => kk N9 H1 locs1 h hw1)) (fun N61 H locs h hw hMo => ?_)
    have hch := hMo.all hch
    refine W.eq (g2 := F0 m 78 ls ([.ref nq40])) rfl ?_
    obtain ⟨f63, f64, f65, f66, f67, f68, f69, hN62, h⟩ := h
    refine vx_athrow (pc := 78) hx hb dX2_identity_78 ?_
    exact cx_outJ (pc := 78) X hw hN62 rfl (by decide) (by rw [hT]; exact (ep_c rfl ep_n)) hlk hch h (by omega) (by omega)
  refine W.eq (g2 := F0 m 22 ls (va_rf r20 :: [.int (0 : Int32), .ref nq5])) rfl ?_
  obtain ⟨n71, f72, hN70, h⟩ := h
  obtain ⟨hi, h⟩ := h
  obtain ⟨a73, hr74, h⟩ := h
  refine W.eq (g2 := F0 m 22 ls [.ref a73, .int (0 : Int32), .ref nq5]) (by rw [hr74]; rfl) ?_
  obtain ⟨hS75, h⟩ := h
  refine c_aast (pc := 22) X hw 11 hN70 rfl (c_anySum X hw hS75) hi dX2_identity_22 (fun H locs hw => ?_)
  obtain ⟨N76, e77⟩ : ∃ z, z = va_up N21 nq5 (some (eR 11 n71 (va_up f72 (0 : Int32).toNatClampNeg (some a73)))) := ⟨_, rfl⟩
  have hw : cH G A s [] N76 H locs := by rw [e77]; exact hw
  have h := h N76 e77
  have hN78 : N76 nq5 = some (eR 11 n71 (va_up f72 (0 : Int32).toNatClampNeg (some a73))) := by rw [e77]; exact up_s
  refine lv_aload_n (pc := 23) hx hb dX2_identity_23 rfl (lv_at hl 3 rfl) ?_
  refine lv_bipush (pc := 24) (v := (61 : Int32)) hx hb dX2_identity_24 (by decide) ?_
  obtain ⟨f86, f87, f88, f89, hN85, h⟩ := h
  obtain ⟨mc81, ms82, hm83, hm84, h⟩ := h
  refine cx_callJ (pc := 26) (val := vV) X hw (cx_runV (C := RX2) (As := [.int (61 : Int32)]) (rest := []) X.1 (tX2_asks hL X.2.2.1 (sz := H.size) h) (cwV 1 hts (lw_V q838 q840 qs19 q113 q841) rfl rfl rfl ⟨rfl, by decide, by decide, (by decide +kernel : (parseMethodDescriptor yX2_asks.desc).map (fun d => d.parameters.length) = some 1)⟩ ⟨Nat.le_of_ble_eq_true rfl, Nat.le_of_ble_eq_true rfl⟩) ⟨cPre_blind, c_recv X hw hN85 rfl, fun U hU hW => ⟨rfl, X.preJ hw hU hW⟩⟩ rfl rfl hl.1 rfl (lv_room (Nat.le_of_ble_eq_true rfl)) dX2_identity_26 ⟨show 0 + 1 + 1 + 0 + mc22 + mc81 ≤ MC by omega, show 0 + (2 : Int32).toNatClampNeg + 2 + 0 + ms23 + ms82 ≤ MS by omega⟩) (fun q90 N91 H locs ci92 fs93 ch96 hci94 hNq95 h hw hch => ?_) (fun _ N80 H locs h hw => ?_)
  · have hci94 := List.mem_singleton.mp hci94
    subst hci94
    have h := h fs93 hNq95
    refine cx_catchJ (pc := 26) X hw hNq95 rfl [] ⟨15, 52, 55, 41⟩ [] (by rw [hT]; rfl) ep_n rfl (by decide) q423 q664 ?_
    refine lv_astore (pc := 55) (lv' := [(4, .ref q90), (3, .int (0 : Int32)), (2, .ref nq12), (1, .ref nq5), (0, .ref x0)]) hx hb dX2_identity_55 hl (by decide) rfl (fun ls hl => ?_)
    obtain ⟨hm97, hm98, h⟩ := h
    refine c_newM (pc := 57) (ci := 5) (fs := [va_rf none, va_rf none, va_rf none, va_rf none, va_rf none, .int (0 : Int32), .int (0 : Int32)]) X hw in_X5 tyX5 tyX5_ok q842 q843 q127 rfl nf_X5 (show 0 + 1 + 1 + 0 + mc22 + mc81 + 1 ≤ MC by omega) (show 0 + (2 : Int32).toNatClampNeg + 2 + 0 + ms23 + ms82 + 7 ≤ MS by omega) dX2_identity_57 (fun nq99 H hq100 _ hw hf9 hMo => ?_)
    have hch := Mf.cons hf9 (hMo.all hch)
    have h := h nq99 hq100
    obtain ⟨N101, e102⟩ : ∃ z, z = va_up N91 nq99 (some (eO 5 [va_rf none, va_rf none, va_rf none, va_rf none, va_rf none, .int (0 : Int32), .int (0 : Int32)])) := ⟨_, rfl⟩
    have hw : cH G A s [] N101 H locs := by rw [e102]; exact hw
    have h := h N101 e102
    have hN103 : N101 nq99 = some (eO 5 [va_rf none, va_rf none, va_rf none, va_rf none, va_rf none, .int (0 : Int32), .int (0 : Int32)]) := by rw [e102]; exact up_s
    refine lv_dup (pc := 60) hx hb dX2_identity_60 rfl ?_
    refine lv_iload_n (pc := 61) hx hb dX2_identity_61 rfl (lv_at hl 1 rfl) ?_
    obtain ⟨hm104, hm105, h⟩ := h
    refine c_newM (pc := 62) (ci := 4) (fs := [va_rf none, va_rf none, va_rf none, va_rf none, va_rf none, .int (0 : Int32), .int (0 : Int32)]) X hw in_X8 tyX8 tyX8_ok q931 q1393 q141 rfl nf_X8 (show 0 + 1 + 1 + 0 + mc22 + mc81 + 1 + 1 ≤ MC by omega) (show 0 + (2 : Int32).toNatClampNeg + 2 + 0 + ms23 + ms82 + 7 + 7 ≤ MS by omega) dX2_identity_62 (fun nq106 H hq107 _ hw hf9 hMo => ?_)
    have hch := Mf.cons hf9 (hMo.all hch)
    have h := h nq106 hq107
    obtain ⟨N108, e109⟩ : ∃ z, z = va_up N101 nq106 (some (eO 4 [va_rf none, va_rf none, va_rf none, va_rf none, va_rf none, .int (0 : Int32), .int (0 : Int32)])) := ⟨_, rfl⟩
    have hw : cH G A s [] N108 H locs := by rw [e109]; exact hw
    have h := h N108 e109
    have hN110 : N108 nq106 = some (eO 4 [va_rf none, va_rf none, va_rf none, va_rf none, va_rf none, .int (0 : Int32), .int (0 : Int32)]) := by rw [e109]; exact up_s
    have hN111 := up_f (x := some (eO 4 [va_rf none, va_rf none, va_rf none, va_rf none, va_rf none, .int (0 : Int32), .int (0 : Int32)])) hq107 hN103
    rw [← e109] at hN111
    refine lv_dup (pc := 65) hx hb dX2_identity_65 rfl ?_
    refine lv_aload_n (pc := 66) hx hb dX2_identity_66 rfl (lv_at hl 4 rfl) ?_
    obtain ⟨f113, f114, f115, f116, hN112, h⟩ := h
    refine c_get (pc := 67) X hw hN112 in_X2 rfl 2 (by decide) q408 rfl rfl dX2_identity_67 ?_
    refine lv_aload (pc := 70) hx hb dX2_identity_70 (lv_at hl 0 rfl) ?_
    refine mo_row (dc := 0) (dn := 0) (g2 := F0 m 75 ls [.ref nq106, .int (0 : Int32), .ref nq99, .ref nq99]) X hw ⟨show 0 + 1 + 1 + 0 + mc22 + mc81 + 1 + 1 ≤ MC by omega, show 0 + (2 : Int32).toNatClampNeg + 2 + 0 + ms23 + ms82 + 7 + 7 ≤ MS by omega⟩ (fun s Q X hw kk => by have hts := X.1.2.2.2.2; exact c_callJ (pc := 72) (Q := Q) (val := vV) X hw (va_runI (As := [.int f115, va_rf (some q90)]) (rest := [.ref nq106, .int (0 : Int32), .ref nq99, .ref nq99]) X.1 (tX8_init X.2.2.1 (sz := H.size) h) (cwI 2 hts (lw_meth q1403) rfl rfl rfl (hts _ q141) (hts _ q1401) (hts _ q1402) rfl ⟨by decide, by decide, (by decide +kernel : (parseMethodDescriptor yX8_init.desc).map (fun d => d.parameters.length) = some 2)⟩ ⟨Nat.le_of_ble_eq_true rfl, Nat.le_of_ble_eq_true rfl⟩) ⟨cPre_blind, fun U hU hW => ⟨rfl, X.preJ hw hU hW⟩⟩ rfl rfl hl.1 rfl (lv_room (Nat.le_of_ble_eq_true rfl)) dX2_identity_72 ⟨show 0 + 0 ≤ MC - (0 + 1 + 1 + 0 + mc22 + mc81 + 1 + 1) by omega, show 0 + 0 ≤ MS - (0 + (2 : Int32).toNatClampNeg + 2 + 0 + ms23 + ms82 + 7 + 7) by omega⟩) (fun _ N9 H1 locs1 h hw1 => kk N9 H1 locs1 h hw1)) (fun N118 H locs h hw hMo => ?_)
    have hch := hMo.all hch
    refine W.eq (g2 := F0 m 75 ls ([.ref nq106, .int (0 : Int32), .ref nq99, .ref nq99])) rfl ?_
    refine mo_row (dc := 0) (dn := 0) (g2 := F0 m 78 ls [.ref nq99]) X hw ⟨show 0 + 1 + 1 + 0 + mc22 + mc81 + 1 + 1 + 0 ≤ MC by omega, show 0 + (2 : Int32).toNatClampNeg + 2 + 0 + ms23 + ms82 + 7 + 7 + 0 ≤ MS by omega⟩ (fun s Q X hw kk => by have hts := X.1.2.2.2.2; exact c_callJ (pc := 75) (Q := Q) (val := vV) X hw (va_runI (As := [.int (0 : Int32), va_rf (some nq106)]) (rest := [.ref nq99]) X.1 (tX5_init X.2.2.1 (sz := H.size) h) (cwI 2 hts (lw_meth q853) rfl rfl rfl (hts _ q127) (hts _ q851) (hts _ q852) rfl ⟨by decide, by decide, (by decide +kernel : (parseMethodDescriptor yX5_init.desc).map (fun d => d.parameters.length) = some 2)⟩ ⟨Nat.le_of_ble_eq_true rfl, Nat.le_of_ble_eq_true rfl⟩) ⟨cPre_blind, fun U hU hW => ⟨rfl, X.preJ hw hU hW⟩⟩ rfl rfl hl.1 rfl (lv_room (Nat.le_of_ble_eq_true rfl)) dX2_identity_75 ⟨show 0 + 0 ≤ MC - (0 + 1 + 1 + 0 + mc22 + mc81 + 1 + 1 + 0) by omega, show 0 + 0 ≤ MS - (0 + (2 : Int32).toNatClampNeg + 2 + 0 + ms23 + ms82 + 7 + 7 + 0) by omega⟩) (fun _ N9 H1 locs1 h hw1 => kk N9 H1 locs1 h hw1)) (fun N120 H locs h hw hMo => ?_)
    have hch := hMo.all hch
    refine W.eq (g2 := F0 m 78 ls ([.ref nq99])) rfl ?_
    obtain ⟨f122, f123, f124, f125, f126, f127, f128, hN121, h⟩ := h
    refine vx_athrow (pc := 78) hx hb dX2_identity_78 ?_
    exact cx_outJ (pc := 78) X hw hN121 rfl (by decide) (by rw [hT]; exact (ep_c rfl ep_n)) hlk hch h (by omega) (by omega)
  refine W.eq (g2 := F0 m 29 ls ([])) rfl ?_
  refine lv_iconst (pc := 29) (v := (1 : Int32)) hx hb dX2_identity_29 (by decide) ?_
  refine lv_istore_n (pc := 30) (lv' := [(3, .int (1 : Int32)), (2, .ref nq12), (1, .ref nq5), (0, .ref x0)]) hx hb dX2_identity_30 rfl hl (by decide) rfl (fun ls hl => ?_)
  refine lv_aload_n (pc := 31) hx hb dX2_identity_31 rfl (lv_at hl 2 rfl) ?_
  refine lv_iconst (pc := 32) (v := (1 : Int32)) hx hb dX2_identity_32 (by decide) ?_
  refine lv_aload_n (pc := 33) hx hb dX2_identity_33 rfl (lv_at hl 3 rfl) ?_
  refine lv_aload_n (pc := 34) hx hb dX2_identity_34 rfl (lv_at hl 1 rfl) ?_
  obtain ⟨f136, f137, f138, f139, hN135, h⟩ := h
  obtain ⟨mc131, ms132, hm133, hm134, h⟩ := h
  refine cx_callJ (pc := 35) (val := vQ) X hw (cx_runV (C := RX2) (As := [va_rf (some nq12)]) (rest := [.int (1 : Int32), .ref nq5]) X.1 (tX2_sum hL X.2.2.1 (sz := H.size) h) (cwV 1 hts (lw_V q1434 q1436 qs31 q113 q1437) rfl rfl rfl ⟨rfl, by decide, by decide, (by decide +kernel : (parseMethodDescriptor yX2_sum.desc).map (fun d => d.parameters.length) = some 1)⟩ ⟨Nat.le_of_ble_eq_true rfl, Nat.le_of_ble_eq_true rfl⟩) ⟨cPre_blind, c_recv X hw hN135 rfl, fun U hU hW => ⟨rfl, X.preJ hw hU hW⟩⟩ rfl rfl hl.1 rfl (lv_room (Nat.le_of_ble_eq_true rfl)) dX2_identity_35 ⟨show 0 + 1 + 1 + 0 + mc22 + mc81 + mc131 ≤ MC by omega, show 0 + (2 : Int32).toNatClampNeg + 2 + 0 + ms23 + ms82 + ms132 ≤ MS by omega⟩) (fun q140 N141 H locs ci142 fs143 ch146 hci144 hNq145 h hw hch => ?_) (fun r129 N130 H locs h hw => ?_)
  · have hci144 := List.mem_singleton.mp hci144
    subst hci144
    have h := h fs143 hNq145
    refine cx_catchJ (pc := 35) X hw hNq145 rfl [] ⟨15, 52, 55, 41⟩ [] (by rw [hT]; rfl) ep_n rfl (by decide) q423 q664 ?_
    refine lv_astore (pc := 55) (lv' := [(4, .ref q140), (3, .int (1 : Int32)), (2, .ref nq12), (1, .ref nq5), (0, .ref x0)]) hx hb dX2_identity_55 hl (by decide) rfl (fun ls hl => ?_)
    obtain ⟨hm147, hm148, h⟩ := h
    refine c_newM (pc := 57) (ci := 5) (fs := [va_rf none, va_rf none, va_rf none, va_rf none, va_rf none, .int (0 : Int32), .int (0 : Int32)]) X hw in_X5 tyX5 tyX5_ok q842 q843 q127 rfl nf_X5 (show 0 + 1 + 1 + 0 + mc22 + mc81 + mc131 + 1 ≤ MC by omega) (show 0 + (2 : Int32).toNatClampNeg + 2 + 0 + ms23 + ms82 + ms132 + 7 ≤ MS by omega) dX2_identity_57 (fun nq149 H hq150 _ hw hf9 hMo => ?_)
    have hch := Mf.cons hf9 (hMo.all hch)
    have h := h nq149 hq150
    obtain ⟨N151, e152⟩ : ∃ z, z = va_up N141 nq149 (some (eO 5 [va_rf none, va_rf none, va_rf none, va_rf none, va_rf none, .int (0 : Int32), .int (0 : Int32)])) := ⟨_, rfl⟩
    have hw : cH G A s [] N151 H locs := by rw [e152]; exact hw
    have h := h N151 e152
    have hN153 : N151 nq149 = some (eO 5 [va_rf none, va_rf none, va_rf none, va_rf none, va_rf none, .int (0 : Int32), .int (0 : Int32)]) := by rw [e152]; exact up_s
    refine lv_dup (pc := 60) hx hb dX2_identity_60 rfl ?_
    refine lv_iload_n (pc := 61) hx hb dX2_identity_61 rfl (lv_at hl 1 rfl) ?_
    obtain ⟨hm154, hm155, h⟩ := h
    refine c_newM (pc := 62) (ci := 4) (fs := [va_rf none, va_rf none, va_rf none, va_rf none, va_rf none, .int (0 : Int32), .int (0 : Int32)]) X hw in_X8 tyX8 tyX8_ok q931 q1393 q141 rfl nf_X8 (show 0 + 1 + 1 + 0 + mc22 + mc81 + mc131 + 1 + 1 ≤ MC by omega) (show 0 + (2 : Int32).toNatClampNeg + 2 + 0 + ms23 + ms82 + ms132 + 7 + 7 ≤ MS by omega) dX2_identity_62 (fun nq156 H hq157 _ hw hf9 hMo => ?_)
    have hch := Mf.cons hf9 (hMo.all hch)
    have h := h nq156 hq157
    obtain ⟨N158, e159⟩ : ∃ z, z = va_up N151 nq156 (some (eO 4 [va_rf none, va_rf none, va_rf none, va_rf none, va_rf none, .int (0 : Int32), .int (0 : Int32)])) := ⟨_, rfl⟩
    have hw : cH G A s [] N158 H locs := by rw [e159]; exact hw
    have h := h N158 e159
    have hN160 : N158 nq156 = some (eO 4 [va_rf none, va_rf none, va_rf none, va_rf none, va_rf none, .int (0 : Int32), .int (0 : Int32)]) := by rw [e159]; exact up_s
    have hN161 := up_f (x := some (eO 4 [va_rf none, va_rf none, va_rf none, va_rf none, va_rf none, .int (0 : Int32), .int (0 : Int32)])) hq157 hN153
    rw [← e159] at hN161
    refine lv_dup (pc := 65) hx hb dX2_identity_65 rfl ?_
    refine lv_aload_n (pc := 66) hx hb dX2_identity_66 rfl (lv_at hl 4 rfl) ?_
    obtain ⟨f163, f164, f165, f166, hN162, h⟩ := h
    refine c_get (pc := 67) X hw hN162 in_X2 rfl 2 (by decide) q408 rfl rfl dX2_identity_67 ?_
    refine lv_aload (pc := 70) hx hb dX2_identity_70 (lv_at hl 0 rfl) ?_
    refine mo_row (dc := 0) (dn := 0) (g2 := F0 m 75 ls [.ref nq156, .int (1 : Int32), .ref nq149, .ref nq149]) X hw ⟨show 0 + 1 + 1 + 0 + mc22 + mc81 + mc131 + 1 + 1 ≤ MC by omega, show 0 + (2 : Int32).toNatClampNeg + 2 + 0 + ms23 + ms82 + ms132 + 7 + 7 ≤ MS by omega⟩ (fun s Q X hw kk => by have hts := X.1.2.2.2.2; exact c_callJ (pc := 72) (Q := Q) (val := vV) X hw (va_runI (As := [.int f165, va_rf (some q140)]) (rest := [.ref nq156, .int (1 : Int32), .ref nq149, .ref nq149]) X.1 (tX8_init X.2.2.1 (sz := H.size) h) (cwI 2 hts (lw_meth q1403) rfl rfl rfl (hts _ q141) (hts _ q1401) (hts _ q1402) rfl ⟨by decide, by decide, (by decide +kernel : (parseMethodDescriptor yX8_init.desc).map (fun d => d.parameters.length) = some 2)⟩ ⟨Nat.le_of_ble_eq_true rfl, Nat.le_of_ble_eq_true rfl⟩) ⟨cPre_blind, fun U hU hW => ⟨rfl, X.preJ hw hU hW⟩⟩ rfl rfl hl.1 rfl (lv_room (Nat.le_of_ble_eq_true rfl)) dX2_identity_72 ⟨show 0 + 0 ≤ MC - (0 + 1 + 1 + 0 + mc22 + mc81 + mc131 + 1 + 1) by omega, show 0 + 0 ≤ MS - (0 + (2 : Int32).toNatClampNeg + 2 + 0 + ms23 + ms82 + ms132 + 7 + 7) by omega⟩) (fun _ N9 H1 locs1 h hw1 => kk N9 H1 locs1 h hw1)) (fun N168 H locs h hw hMo => ?_)
    have hch := hMo.all hch
    refine W.eq (g2 := F0 m 75 ls ([.ref nq156, .int (1 : Int32), .ref nq149, .ref nq149])) rfl ?_
    refine mo_row (dc := 0) (dn := 0) (g2 := F0 m 78 ls [.ref nq149]) X hw ⟨show 0 + 1 + 1 + 0 + mc22 + mc81 + mc131 + 1 + 1 + 0 ≤ MC by omega, show 0 + (2 : Int32).toNatClampNeg + 2 + 0 + ms23 + ms82 + ms132 + 7 + 7 + 0 ≤ MS by omega⟩ (fun s Q X hw kk => by have hts := X.1.2.2.2.2; exact c_callJ (pc := 75) (Q := Q) (val := vV) X hw (va_runI (As := [.int (1 : Int32), va_rf (some nq156)]) (rest := [.ref nq149]) X.1 (tX5_init X.2.2.1 (sz := H.size) h) (cwI 2 hts (lw_meth q853) rfl rfl rfl (hts _ q127) (hts _ q851) (hts _ q852) rfl ⟨by decide, by decide, (by decide +kernel : (parseMethodDescriptor yX5_init.desc).map (fun d => d.parameters.length) = some 2)⟩ ⟨Nat.le_of_ble_eq_true rfl, Nat.le_of_ble_eq_true rfl⟩) ⟨cPre_blind, fun U hU hW => ⟨rfl, X.preJ hw hU hW⟩⟩ rfl rfl hl.1 rfl (lv_room (Nat.le_of_ble_eq_true rfl)) dX2_identity_75 ⟨show 0 + 0 ≤ MC - (0 + 1 + 1 + 0 + mc22 + mc81 + mc131 + 1 + 1 + 0) by omega, show 0 + 0 ≤ MS - (0 + (2 : Int32).toNatClampNeg + 2 + 0 + ms23 + ms82 + ms132 + 7 + 7 + 0) by omega⟩) (fun _ N9 H1 locs1 h hw1 => kk N9 H1 locs1 h hw1)) (fun N170 H locs h hw hMo => ?_)
    have hch := hMo.all hch
    refine W.eq (g2 := F0 m 78 ls ([.ref nq149])) rfl ?_
    obtain ⟨f172, f173, f174, f175, f176, f177, f178, hN171, h⟩ := h
    refine vx_athrow (pc := 78) hx hb dX2_identity_78 ?_
    exact cx_outJ (pc := 78) X hw hN171 rfl (by decide) (by rw [hT]; exact (ep_c rfl ep_n)) hlk hch h (by omega) (by omega)
  refine W.eq (g2 := F0 m 38 ls (va_rf r129 :: [.int (1 : Int32), .ref nq5])) rfl ?_
  obtain ⟨n180, f181, hN179, h⟩ := h
  obtain ⟨hi, h⟩ := h
  obtain ⟨a182, hr183, h⟩ := h
  refine W.eq (g2 := F0 m 38 ls [.ref a182, .int (1 : Int32), .ref nq5]) (by rw [hr183]; rfl) ?_
  obtain ⟨hS184, h⟩ := h
  refine c_aast (pc := 38) X hw 11 hN179 rfl (c_anySum X hw hS184) hi dX2_identity_38 (fun H locs hw => ?_)
  obtain ⟨N185, e186⟩ : ∃ z, z = va_up N130 nq5 (some (eR 11 n180 (va_up f181 (1 : Int32).toNatClampNeg (some a182)))) := ⟨_, rfl⟩
  have hw : cH G A s [] N185 H locs := by rw [e186]; exact hw
  have h := h N185 e186
  have hN187 : N185 nq5 = some (eR 11 n180 (va_up f181 (1 : Int32).toNatClampNeg (some a182))) := by rw [e186]; exact up_s
  refine lv_aload_n (pc := 39) hx hb dX2_identity_39 rfl (lv_at hl 3 rfl) ?_
  refine lv_aload_n (pc := 40) hx hb dX2_identity_40 rfl (lv_at hl 3 rfl) ?_
  obtain ⟨f191, f192, f193, f194, hN190, h⟩ := h
  refine c_callJ (pc := 41) (val := vI) X hw (va_runV (C := RX2) (As := []) (rest := [.ref x0]) X.1 (tX2_isOver X.2.2.1 (sz := H.size) h) (cwV 0 hts (lw_V q834 q836 qs18 q113 q837) rfl rfl rfl ⟨rfl, by decide, by decide, (by decide +kernel : (parseMethodDescriptor yX2_isOver.desc).map (fun d => d.parameters.length) = some 0)⟩ ⟨Nat.le_of_ble_eq_true rfl, Nat.le_of_ble_eq_true rfl⟩) ⟨cPre_blind, c_recv X hw hN190 rfl, fun U hU hW => ⟨rfl, X.preJ hw hU hW⟩⟩ rfl rfl hl.1 rfl (lv_room (Nat.le_of_ble_eq_true rfl)) dX2_identity_41 ⟨show 0 + 1 + 1 + 0 + mc22 + mc81 + mc131 + 0 ≤ MC by omega, show 0 + (2 : Int32).toNatClampNeg + 2 + 0 + ms23 + ms82 + ms132 + 0 ≤ MS by omega⟩) (fun r188 N189 H locs h hw => ?_)
  refine W.eq (g2 := F0 m 44 ls (.int r188 :: [.ref x0])) rfl ?_
  refine lv_iconst (pc := 44) (v := (1 : Int32)) hx hb dX2_identity_44 (by decide) ?_
  refine lv_aload_n (pc := 45) hx hb dX2_identity_45 rfl (lv_at hl 3 rfl) ?_
  obtain ⟨f196, f197, f198, f199, hN195, h⟩ := h
  refine c_get (pc := 46) X hw hN195 in_X2 rfl 0 (by decide) q406 rfl rfl dX2_identity_46 ?_
  obtain ⟨mc202, ms203, hm204, hm205, h⟩ := h
  refine cx_callJ (pc := 49) (val := vV) X hw (cx_runV (C := RX2) (As := [.int r188, .int (1 : Int32), .int f196]) (rest := []) X.1 (tX2_must hL X.2.2.1 (sz := H.size) h) (cwV 3 hts (lw_V q659 q661 qs9 q113 q662) rfl rfl rfl ⟨rfl, by decide, by decide, (by decide +kernel : (parseMethodDescriptor yX2_must.desc).map (fun d => d.parameters.length) = some 3)⟩ ⟨Nat.le_of_ble_eq_true rfl, Nat.le_of_ble_eq_true rfl⟩) ⟨cPre_blind, c_recv X hw hN195 rfl, fun U hU hW => ⟨rfl, X.preJ hw hU hW⟩⟩ rfl rfl hl.1 rfl (lv_room (Nat.le_of_ble_eq_true rfl)) dX2_identity_49 ⟨show 0 + 1 + 1 + 0 + mc22 + mc81 + mc131 + 0 + mc202 ≤ MC by omega, show 0 + (2 : Int32).toNatClampNeg + 2 + 0 + ms23 + ms82 + ms132 + 0 + ms203 ≤ MS by omega⟩) (fun q206 N207 H locs ci208 fs209 ch212 hci210 hNq211 h hw hch => ?_) (fun _ N201 H locs h hw => ?_)
  · have hci210 := List.mem_singleton.mp hci210
    subst hci210
    have h := h fs209 hNq211
    refine cx_catchJ (pc := 49) X hw hNq211 rfl [] ⟨15, 52, 55, 41⟩ [] (by rw [hT]; rfl) ep_n rfl (by decide) q423 q664 ?_
    refine lv_astore (pc := 55) (lv' := [(4, .ref q206), (3, .int (1 : Int32)), (2, .ref nq12), (1, .ref nq5), (0, .ref x0)]) hx hb dX2_identity_55 hl (by decide) rfl (fun ls hl => ?_)
    obtain ⟨hm213, hm214, h⟩ := h
    refine c_newM (pc := 57) (ci := 5) (fs := [va_rf none, va_rf none, va_rf none, va_rf none, va_rf none, .int (0 : Int32), .int (0 : Int32)]) X hw in_X5 tyX5 tyX5_ok q842 q843 q127 rfl nf_X5 (show 0 + 1 + 1 + 0 + mc22 + mc81 + mc131 + 0 + mc202 + 1 ≤ MC by omega) (show 0 + (2 : Int32).toNatClampNeg + 2 + 0 + ms23 + ms82 + ms132 + 0 + ms203 + 7 ≤ MS by omega) dX2_identity_57 (fun nq215 H hq216 _ hw hf9 hMo => ?_)
    have hch := Mf.cons hf9 (hMo.all hch)
    have h := h nq215 hq216
    obtain ⟨N217, e218⟩ : ∃ z, z = va_up N207 nq215 (some (eO 5 [va_rf none, va_rf none, va_rf none, va_rf none, va_rf none, .int (0 : Int32), .int (0 : Int32)])) := ⟨_, rfl⟩
    have hw : cH G A s [] N217 H locs := by rw [e218]; exact hw
    have h := h N217 e218
    have hN219 : N217 nq215 = some (eO 5 [va_rf none, va_rf none, va_rf none, va_rf none, va_rf none, .int (0 : Int32), .int (0 : Int32)]) := by rw [e218]; exact up_s
    refine lv_dup (pc := 60) hx hb dX2_identity_60 rfl ?_
    refine lv_iload_n (pc := 61) hx hb dX2_identity_61 rfl (lv_at hl 1 rfl) ?_
    obtain ⟨hm220, hm221, h⟩ := h
    refine c_newM (pc := 62) (ci := 4) (fs := [va_rf none, va_rf none, va_rf none, va_rf none, va_rf none, .int (0 : Int32), .int (0 : Int32)]) X hw in_X8 tyX8 tyX8_ok q931 q1393 q141 rfl nf_X8 (show 0 + 1 + 1 + 0 + mc22 + mc81 + mc131 + 0 + mc202 + 1 + 1 ≤ MC by omega) (show 0 + (2 : Int32).toNatClampNeg + 2 + 0 + ms23 + ms82 + ms132 + 0 + ms203 + 7 + 7 ≤ MS by omega) dX2_identity_62 (fun nq222 H hq223 _ hw hf9 hMo => ?_)
    have hch := Mf.cons hf9 (hMo.all hch)
    have h := h nq222 hq223
    obtain ⟨N224, e225⟩ : ∃ z, z = va_up N217 nq222 (some (eO 4 [va_rf none, va_rf none, va_rf none, va_rf none, va_rf none, .int (0 : Int32), .int (0 : Int32)])) := ⟨_, rfl⟩
    have hw : cH G A s [] N224 H locs := by rw [e225]; exact hw
    have h := h N224 e225
    have hN226 : N224 nq222 = some (eO 4 [va_rf none, va_rf none, va_rf none, va_rf none, va_rf none, .int (0 : Int32), .int (0 : Int32)]) := by rw [e225]; exact up_s
    have hN227 := up_f (x := some (eO 4 [va_rf none, va_rf none, va_rf none, va_rf none, va_rf none, .int (0 : Int32), .int (0 : Int32)])) hq223 hN219
    rw [← e225] at hN227
    refine lv_dup (pc := 65) hx hb dX2_identity_65 rfl ?_
    refine lv_aload_n (pc := 66) hx hb dX2_identity_66 rfl (lv_at hl 4 rfl) ?_
    obtain ⟨f229, f230, f231, f232, hN228, h⟩ := h
    refine c_get (pc := 67) X hw hN228 in_X2 rfl 2 (by decide) q408 rfl rfl dX2_identity_67 ?_
    refine lv_aload (pc := 70) hx hb dX2_identity_70 (lv_at hl 0 rfl) ?_
    refine mo_row (dc := 0) (dn := 0) (g2 := F0 m 75 ls [.ref nq222, .int (1 : Int32), .ref nq215, .ref nq215]) X hw ⟨show 0 + 1 + 1 + 0 + mc22 + mc81 + mc131 + 0 + mc202 + 1 + 1 ≤ MC by omega, show 0 + (2 : Int32).toNatClampNeg + 2 + 0 + ms23 + ms82 + ms132 + 0 + ms203 + 7 + 7 ≤ MS by omega⟩ (fun s Q X hw kk => by have hts := X.1.2.2.2.2; exact c_callJ (pc := 72) (Q := Q) (val := vV) X hw (va_runI (As := [.int f231, va_rf (some q206)]) (rest := [.ref nq222, .int (1 : Int32), .ref nq215, .ref nq215]) X.1 (tX8_init X.2.2.1 (sz := H.size) h) (cwI 2 hts (lw_meth q1403) rfl rfl rfl (hts _ q141) (hts _ q1401) (hts _ q1402) rfl ⟨by decide, by decide, (by decide +kernel : (parseMethodDescriptor yX8_init.desc).map (fun d => d.parameters.length) = some 2)⟩ ⟨Nat.le_of_ble_eq_true rfl, Nat.le_of_ble_eq_true rfl⟩) ⟨cPre_blind, fun U hU hW => ⟨rfl, X.preJ hw hU hW⟩⟩ rfl rfl hl.1 rfl (lv_room (Nat.le_of_ble_eq_true rfl)) dX2_identity_72 ⟨show 0 + 0 ≤ MC - (0 + 1 + 1 + 0 + mc22 + mc81 + mc131 + 0 + mc202 + 1 + 1) by omega, show 0 + 0 ≤ MS - (0 + (2 : Int32).toNatClampNeg + 2 + 0 + ms23 + ms82 + ms132 + 0 + ms203 + 7 + 7) by omega⟩) (fun _ N9 H1 locs1 h hw1 => kk N9 H1 locs1 h hw1)) (fun N234 H locs h hw hMo => ?_)
    have hch := hMo.all hch
    refine W.eq (g2 := F0 m 75 ls ([.ref nq222, .int (1 : Int32), .ref nq215, .ref nq215])) rfl ?_
    refine mo_row (dc := 0) (dn := 0) (g2 := F0 m 78 ls [.ref nq215]) X hw ⟨show 0 + 1 + 1 + 0 + mc22 + mc81 + mc131 + 0 + mc202 + 1 + 1 + 0 ≤ MC by omega, show 0 + (2 : Int32).toNatClampNeg + 2 + 0 + ms23 + ms82 + ms132 + 0 + ms203 + 7 + 7 + 0 ≤ MS by omega⟩ (fun s Q X hw kk => by have hts := X.1.2.2.2.2; exact c_callJ (pc := 75) (Q := Q) (val := vV) X hw (va_runI (As := [.int (1 : Int32), va_rf (some nq222)]) (rest := [.ref nq215]) X.1 (tX5_init X.2.2.1 (sz := H.size) h) (cwI 2 hts (lw_meth q853) rfl rfl rfl (hts _ q127) (hts _ q851) (hts _ q852) rfl ⟨by decide, by decide, (by decide +kernel : (parseMethodDescriptor yX5_init.desc).map (fun d => d.parameters.length) = some 2)⟩ ⟨Nat.le_of_ble_eq_true rfl, Nat.le_of_ble_eq_true rfl⟩) ⟨cPre_blind, fun U hU hW => ⟨rfl, X.preJ hw hU hW⟩⟩ rfl rfl hl.1 rfl (lv_room (Nat.le_of_ble_eq_true rfl)) dX2_identity_75 ⟨show 0 + 0 ≤ MC - (0 + 1 + 1 + 0 + mc22 + mc81 + mc131 + 0 + mc202 + 1 + 1 + 0) by omega, show 0 + 0 ≤ MS - (0 + (2 : Int32).toNatClampNeg + 2 + 0 + ms23 + ms82 + ms132 + 0 + ms203 + 7 + 7 + 0) by omega⟩) (fun _ N9 H1 locs1 h hw1 => kk N9 H1 locs1 h hw1)) (fun N236 H locs h hw hMo => ?_)
    have hch := hMo.all hch
    refine W.eq (g2 := F0 m 78 ls ([.ref nq215])) rfl ?_
    obtain ⟨f238, f239, f240, f241, f242, f243, f244, hN237, h⟩ := h
    refine vx_athrow (pc := 78) hx hb dX2_identity_78 ?_
    exact cx_outJ (pc := 78) X hw hN237 rfl (by decide) (by rw [hT]; exact (ep_c rfl ep_n)) hlk hch h (by omega) (by omega)
  refine W.eq (g2 := F0 m 52 ls ([])) rfl ?_
  refine lv_goto (pc := 52) (tgt := 79) hx hb dX2_identity_52 rfl ?_
  refine lv_aload_n (pc := 79) hx hb dX2_identity_79 rfl (lv_at hl 3 rfl) ?_
  obtain ⟨f246, f247, f248, f249, hN245, h⟩ := h
  refine c_get (pc := 80) X hw hN245 in_X2 rfl 3 (by decide) q409 rfl rfl dX2_identity_80 ?_
  refine lv_aload_n (pc := 83) hx hb dX2_identity_83 rfl (lv_at hl 2 rfl) ?_
  refine lv_iconst (pc := 84) (v := (0 : Int32)) hx hb dX2_identity_84 (by decide) ?_
  obtain ⟨n251, f252, hN250, h⟩ := h
  obtain ⟨hi, h⟩ := h
  refine c_aald (pc := 85) X hw 11 hN250 rfl hi dX2_identity_85 ?_
  obtain ⟨a253, hr254, h⟩ := h
  refine W.eq (g2 := F0 m 86 ls [va_rf (f252 (0 : Int32).toNatClampNeg), .ref a253]) (by rw [hr254]; rfl) ?_
  obtain ⟨f256, f257, f258, f259, f260, f261, f262, f263, f264, f265, f266, f267, f268, f269, f270, f271, f272, f273, f274, hN255, h⟩ := h
  refine c_putN (pc := 86) (v := va_rf (f252 (0 : Int32).toNatClampNeg)) X hw hN255 in_X0 tyX0 tyX0_ok nmX0 rfl 7 (by decide) q218 rfl rfl rfl (rf_n (f252 (0 : Int32).toNatClampNeg) _) (rf_f (f252 (0 : Int32).toNatClampNeg) _) (Nat.le_of_ble_eq_true rfl) dX2_identity_86 (fun H locs hw => ?_)
  obtain ⟨N275, e276⟩ : ∃ z, z = va_up N201 a253 (some (eO 1 [va_rf f256, va_rf f257, va_rf f258, va_rf f259, va_rf f260, va_rf f261, va_rf f262, va_rf (f252 (0 : Int32).toNatClampNeg), va_rf f264, .int f265, .int f266, va_rf f267, va_rf f268, .int f269, va_rf f270, va_rf f271, va_rf f272, va_rf f273, va_rf f274])) := ⟨_, rfl⟩
  have hw : cH G A s [] N275 H locs := by rw [e276]; exact hw
  have h := h N275 e276
  have hN277 : N275 a253 = some (eO 1 [va_rf f256, va_rf f257, va_rf f258, va_rf f259, va_rf f260, va_rf f261, va_rf f262, va_rf (f252 (0 : Int32).toNatClampNeg), va_rf f264, .int f265, .int f266, va_rf f267, va_rf f268, .int f269, va_rf f270, va_rf f271, va_rf f272, va_rf f273, va_rf f274]) := by rw [e276]; exact up_s
  have hN278 := up_k (x := some (eO 1 [va_rf f256, va_rf f257, va_rf f258, va_rf f259, va_rf f260, va_rf f261, va_rf f262, va_rf (f252 (0 : Int32).toNatClampNeg), va_rf f264, .int f265, .int f266, va_rf f267, va_rf f268, .int f269, va_rf f270, va_rf f271, va_rf f272, va_rf f273, va_rf f274])) hN255 hN245 (show (2 : Nat) ≠ 4 by decide)
  rw [← e276] at hN278
  have hN279 := up_k (x := some (eO 1 [va_rf f256, va_rf f257, va_rf f258, va_rf f259, va_rf f260, va_rf f261, va_rf f262, va_rf (f252 (0 : Int32).toNatClampNeg), va_rf f264, .int f265, .int f266, va_rf f267, va_rf f268, .int f269, va_rf f270, va_rf f271, va_rf f272, va_rf f273, va_rf f274])) hN255 hN250 (show (2 : Nat) ≠ 23 by decide)
  rw [← e276] at hN279
  refine lv_aload_n (pc := 89) hx hb dX2_identity_89 rfl (lv_at hl 3 rfl) ?_
  refine c_get (pc := 90) X hw hN278 in_X2 rfl 3 (by decide) q409 rfl rfl dX2_identity_90 ?_
  refine lv_aload_n (pc := 93) hx hb dX2_identity_93 rfl (lv_at hl 2 rfl) ?_
  refine lv_iconst (pc := 94) (v := (1 : Int32)) hx hb dX2_identity_94 (by decide) ?_
  obtain ⟨hi, h⟩ := h
  refine c_aald (pc := 95) X hw 11 hN279 rfl hi dX2_identity_95 ?_
  refine W.eq (g2 := F0 m 96 ls [va_rf (f252 (1 : Int32).toNatClampNeg), .ref a253]) (by rw [hr254]; rfl) ?_
  refine c_putN (pc := 96) (v := va_rf (f252 (1 : Int32).toNatClampNeg)) X hw hN277 in_X0 tyX0 tyX0_ok nmX0 rfl 8 (by decide) q220 rfl rfl rfl (rf_n (f252 (1 : Int32).toNatClampNeg) _) (rf_f (f252 (1 : Int32).toNatClampNeg) _) (Nat.le_of_ble_eq_true rfl) dX2_identity_96 (fun H locs hw => ?_)
  obtain ⟨N280, e281⟩ : ∃ z, z = va_up N275 a253 (some (eO 1 [va_rf f256, va_rf f257, va_rf f258, va_rf f259, va_rf f260, va_rf f261, va_rf f262, va_rf (f252 (0 : Int32).toNatClampNeg), va_rf (f252 (1 : Int32).toNatClampNeg), .int f265, .int f266, va_rf f267, va_rf f268, .int f269, va_rf f270, va_rf f271, va_rf f272, va_rf f273, va_rf f274])) := ⟨_, rfl⟩
  have hw : cH G A s [] N280 H locs := by rw [e281]; exact hw
  have h := h N280 e281
  have hN282 : N280 a253 = some (eO 1 [va_rf f256, va_rf f257, va_rf f258, va_rf f259, va_rf f260, va_rf f261, va_rf f262, va_rf (f252 (0 : Int32).toNatClampNeg), va_rf (f252 (1 : Int32).toNatClampNeg), .int f265, .int f266, va_rf f267, va_rf f268, .int f269, va_rf f270, va_rf f271, va_rf f272, va_rf f273, va_rf f274]) := by rw [e281]; exact up_s
  have hN283 := up_k (x := some (eO 1 [va_rf f256, va_rf f257, va_rf f258, va_rf f259, va_rf f260, va_rf f261, va_rf f262, va_rf (f252 (0 : Int32).toNatClampNeg), va_rf (f252 (1 : Int32).toNatClampNeg), .int f265, .int f266, va_rf f267, va_rf f268, .int f269, va_rf f270, va_rf f271, va_rf f272, va_rf f273, va_rf f274])) hN277 hN278 (show (2 : Nat) ≠ 4 by decide)
  rw [← e281] at hN283
  have hN284 := up_k (x := some (eO 1 [va_rf f256, va_rf f257, va_rf f258, va_rf f259, va_rf f260, va_rf f261, va_rf f262, va_rf (f252 (0 : Int32).toNatClampNeg), va_rf (f252 (1 : Int32).toNatClampNeg), .int f265, .int f266, va_rf f267, va_rf f268, .int f269, va_rf f270, va_rf f271, va_rf f272, va_rf f273, va_rf f274])) hN277 hN279 (show (2 : Nat) ≠ 23 by decide)
  rw [← e281] at hN284
  refine lv_aload_n (pc := 99) hx hb dX2_identity_99 rfl (lv_at hl 3 rfl) ?_
  refine c_get (pc := 100) X hw hN283 in_X2 rfl 3 (by decide) q409 rfl rfl dX2_identity_100 ?_
  refine lv_aload_n (pc := 103) hx hb dX2_identity_103 rfl (lv_at hl 1 rfl) ?_
  obtain ⟨f286, f287, hN285, h⟩ := h
  refine c_getN (pc := 104) X hw hN285 in_X9 rfl 1 (by decide) q1428 rfl rfl dX2_identity_104 ?_
  refine W.eq (g2 := F0 m 107 ls [.int f287, .ref a253]) (by rw [hr254]; rfl) ?_
  refine c_putN (pc := 107) X hw hN282 in_X0 tyX0 tyX0_ok nmX0 rfl 9 (by decide) q222 rfl rfl rfl rfl rfl (Nat.le_of_ble_eq_true rfl) dX2_identity_107 (fun H locs hw => ?_)
  obtain ⟨N288, e289⟩ : ∃ z, z = va_up N280 a253 (some (eO 1 [va_rf f256, va_rf f257, va_rf f258, va_rf f259, va_rf f260, va_rf f261, va_rf f262, va_rf (f252 (0 : Int32).toNatClampNeg), va_rf (f252 (1 : Int32).toNatClampNeg), .int f287, .int f266, va_rf f267, va_rf f268, .int f269, va_rf f270, va_rf f271, va_rf f272, va_rf f273, va_rf f274])) := ⟨_, rfl⟩
  have hw : cH G A s [] N288 H locs := by rw [e289]; exact hw
  have h := h N288 e289
  have hN290 : N288 a253 = some (eO 1 [va_rf f256, va_rf f257, va_rf f258, va_rf f259, va_rf f260, va_rf f261, va_rf f262, va_rf (f252 (0 : Int32).toNatClampNeg), va_rf (f252 (1 : Int32).toNatClampNeg), .int f287, .int f266, va_rf f267, va_rf f268, .int f269, va_rf f270, va_rf f271, va_rf f272, va_rf f273, va_rf f274]) := by rw [e289]; exact up_s
  have hN291 := up_k (x := some (eO 1 [va_rf f256, va_rf f257, va_rf f258, va_rf f259, va_rf f260, va_rf f261, va_rf f262, va_rf (f252 (0 : Int32).toNatClampNeg), va_rf (f252 (1 : Int32).toNatClampNeg), .int f287, .int f266, va_rf f267, va_rf f268, .int f269, va_rf f270, va_rf f271, va_rf f272, va_rf f273, va_rf f274])) hN282 hN283 (show (2 : Nat) ≠ 4 by decide)
  rw [← e289] at hN291
  have hN292 := up_k (x := some (eO 1 [va_rf f256, va_rf f257, va_rf f258, va_rf f259, va_rf f260, va_rf f261, va_rf f262, va_rf (f252 (0 : Int32).toNatClampNeg), va_rf (f252 (1 : Int32).toNatClampNeg), .int f287, .int f266, va_rf f267, va_rf f268, .int f269, va_rf f270, va_rf f271, va_rf f272, va_rf f273, va_rf f274])) hN282 hN284 (show (2 : Nat) ≠ 23 by decide)
  rw [← e289] at hN292
  have hN293 := up_k (x := some (eO 1 [va_rf f256, va_rf f257, va_rf f258, va_rf f259, va_rf f260, va_rf f261, va_rf f262, va_rf (f252 (0 : Int32).toNatClampNeg), va_rf (f252 (1 : Int32).toNatClampNeg), .int f287, .int f266, va_rf f267, va_rf f268, .int f269, va_rf f270, va_rf f271, va_rf f272, va_rf f273, va_rf f274])) hN282 hN285 (show (2 : Nat) ≠ 24 by decide)
  rw [← e289] at hN293
  refine lv_aload_n (pc := 110) hx hb dX2_identity_110 rfl (lv_at hl 3 rfl) ?_
  refine c_get (pc := 111) X hw hN291 in_X2 rfl 3 (by decide) q409 rfl rfl dX2_identity_111 ?_
  refine lv_aload_n (pc := 114) hx hb dX2_identity_114 rfl (lv_at hl 1 rfl) ?_
  refine c_getN (pc := 115) X hw hN293 in_X9 rfl 0 (by decide) q1427 rfl rfl dX2_identity_115 ?_
  refine W.eq (g2 := F0 m 118 ls [.int f286, .ref a253]) (by rw [hr254]; rfl) ?_
  refine c_putN (pc := 118) X hw hN290 in_X0 tyX0 tyX0_ok nmX0 rfl 10 (by decide) q224 rfl rfl rfl rfl rfl (Nat.le_of_ble_eq_true rfl) dX2_identity_118 (fun H locs hw => ?_)
  obtain ⟨N294, e295⟩ : ∃ z, z = va_up N288 a253 (some (eO 1 [va_rf f256, va_rf f257, va_rf f258, va_rf f259, va_rf f260, va_rf f261, va_rf f262, va_rf (f252 (0 : Int32).toNatClampNeg), va_rf (f252 (1 : Int32).toNatClampNeg), .int f287, .int f286, va_rf f267, va_rf f268, .int f269, va_rf f270, va_rf f271, va_rf f272, va_rf f273, va_rf f274])) := ⟨_, rfl⟩
  have hw : cH G A s [] N294 H locs := by rw [e295]; exact hw
  have h := h N294 e295
  have hN296 : N294 a253 = some (eO 1 [va_rf f256, va_rf f257, va_rf f258, va_rf f259, va_rf f260, va_rf f261, va_rf f262, va_rf (f252 (0 : Int32).toNatClampNeg), va_rf (f252 (1 : Int32).toNatClampNeg), .int f287, .int f286, va_rf f267, va_rf f268, .int f269, va_rf f270, va_rf f271, va_rf f272, va_rf f273, va_rf f274]) := by rw [e295]; exact up_s
  have hN297 := up_k (x := some (eO 1 [va_rf f256, va_rf f257, va_rf f258, va_rf f259, va_rf f260, va_rf f261, va_rf f262, va_rf (f252 (0 : Int32).toNatClampNeg), va_rf (f252 (1 : Int32).toNatClampNeg), .int f287, .int f286, va_rf f267, va_rf f268, .int f269, va_rf f270, va_rf f271, va_rf f272, va_rf f273, va_rf f274])) hN290 hN291 (show (2 : Nat) ≠ 4 by decide)
  rw [← e295] at hN297
  have hN298 := up_k (x := some (eO 1 [va_rf f256, va_rf f257, va_rf f258, va_rf f259, va_rf f260, va_rf f261, va_rf f262, va_rf (f252 (0 : Int32).toNatClampNeg), va_rf (f252 (1 : Int32).toNatClampNeg), .int f287, .int f286, va_rf f267, va_rf f268, .int f269, va_rf f270, va_rf f271, va_rf f272, va_rf f273, va_rf f274])) hN290 hN292 (show (2 : Nat) ≠ 23 by decide)
  rw [← e295] at hN298
  have hN299 := up_k (x := some (eO 1 [va_rf f256, va_rf f257, va_rf f258, va_rf f259, va_rf f260, va_rf f261, va_rf f262, va_rf (f252 (0 : Int32).toNatClampNeg), va_rf (f252 (1 : Int32).toNatClampNeg), .int f287, .int f286, va_rf f267, va_rf f268, .int f269, va_rf f270, va_rf f271, va_rf f272, va_rf f273, va_rf f274])) hN290 hN293 (show (2 : Nat) ≠ 24 by decide)
  rw [← e295] at hN299
  refine W.widen (k := MC) (n := MS) (by omega) (by omega) ?_
  refine cx_ret ?_
  exact W.vret (pc := 121) hx hb hr (fun t ht hW => c_ret (val := vV) (lw := jW) (u := N294) (v := ()) hw h ht) hw.2.2.2 dX2_identity_121 hlk

def wX0_identity (K : Nat → Nat → Nat) (post : Int32 → List Nat → NM → Prop) (MC MS : Nat) (N : NM) (x0 : Nat) : Prop :=
  ∃ f2 f3 f4 f5 f6 f7 f8 f9 f10 f11 f12 f13 f14 f15 f16 f17 f18 f19 f20, N x0 = some (eO 1 [va_rf f2, va_rf f3, va_rf f4, va_rf f5, va_rf f6, va_rf f7, va_rf f8, va_rf f9, va_rf f10, .int f11, .int f12, va_rf f13, va_rf f14, .int f15, va_rf f16, va_rf f17, va_rf f18, va_rf f19, va_rf f20]) ∧ (∀ N21, N21 = va_up N x0 (some (eO 1 [va_rf f2, va_rf f3, va_rf f4, va_rf f5, va_rf f6, va_rf f7, va_rf f8, va_rf f9, va_rf f10, .int f11, .int f12, va_rf none, va_rf f14, .int f15, va_rf f16, va_rf f17, va_rf f18, va_rf f19, va_rf f20])) → (1 ≤ MC ∧ 4 ≤ MS ∧ (∀ nq26, N21 nq26 = none → (∀ N28, N28 = va_up N21 nq26 (some (eO 2 [.int (0 : Int32), .int (0 : Int32), .int (0 : Int32), va_rf none])) → (wX2_init K (fun _ N33 => ∃ f41 f42 f43 f44, N33 nq26 = some (eO 2 [.int f41, .int f42, .int f43, va_rf f44]) ∧ (∃ mc36 ms37, mc36 ≤ (MC - 1) ∧ ms37 ≤ (MS - 4) ∧ wX2_identity K (fun _ N35 => ∃ f79 f80 f81 f82 f83 f84 f85 f86 f87 f88 f89 f90 f91 f92 f93 f94 f95 f96 f97, N35 x0 = some (eO 1 [va_rf f79, va_rf f80, va_rf f81, va_rf f82, va_rf f83, va_rf f84, va_rf f85, va_rf f86, va_rf f87, .int f88, .int f89, va_rf f90, va_rf f91, .int f92, va_rf f93, va_rf f94, va_rf f95, va_rf f96, va_rf f97]) ∧ (wJ23_bitCount (fun r98 => ∀ N99, N99 = va_up N35 x0 (some (eO 1 [va_rf f79, va_rf f80, va_rf f81, va_rf f82, va_rf f83, va_rf f84, va_rf f85, va_rf f86, va_rf f87, .int f88, .int f89, va_rf f90, va_rf f91, .int (0 : Int32), va_rf f93, va_rf f94, va_rf f95, va_rf f96, va_rf f97])) → (post r98 ([]) N99)) f88)) (fun q45 ch51 N46 => (∀ fs48, N46 q45 = some (eO 5 fs48) → (∃ f53 f54 f55 f56 f57 f58 f59 f60 f61 f62 f63 f64 f65 f66 f67 f68 f69 f70 f71, N46 x0 = some (eO 1 [va_rf f53, va_rf f54, va_rf f55, va_rf f56, va_rf f57, va_rf f58, va_rf f59, va_rf f60, va_rf f61, .int f62, .int f63, va_rf f64, va_rf f65, .int f66, va_rf f67, va_rf f68, va_rf f69, va_rf f70, va_rf f71]) ∧ (∀ N72, N72 = va_up N46 x0 (some (eO 1 [va_rf f53, va_rf f54, va_rf f55, va_rf f56, va_rf f57, va_rf f58, va_rf f59, va_rf f60, va_rf f61, .int f62, .int f63, va_rf (some q45), va_rf f65, .int f66, va_rf f67, va_rf f68, va_rf f69, va_rf f70, va_rf f71])) → (∀ N75, N75 = va_up N72 x0 (some (eO 1 [va_rf f53, va_rf f54, va_rf f55, va_rf f56, va_rf f57, va_rf f58, va_rf f59, va_rf f60, va_rf f61, .int f62, .int f63, va_rf (some q45), va_rf f65, .int (0 : Int32), va_rf f67, va_rf f68, va_rf f69, va_rf f70, va_rf f71])) → (post (-1 : Int32) ch51 N75)))))) mc36 ms37 N33 nq26)) N28 nq26 (some x0))))))
theorem txX0_identity {l : Launch} (hL : l.stackTraces = false) {G : gG} (hO : gOk G) {post : Int32 → List Nat → NM → Prop} {MC MS : Nat} {N : NM} {x0 : Nat} {sz : Nat} (h : wX0_identity (gC G) post MC MS N x0) : cx_Met l yX0_identity (wsW_ yX0_identity cX0_identity 4 (some .int) [(5, 24, 31, 149), (5, 24, 46, 0), (31, 39, 46, 0)]) ⟨52, MC, MS, 1707⟩ (va_Pc [.ref x0] (cPre G [] N sz)) (gQ vI (fun r (u : NM × List Nat) => post r u.2 u.1) (fun (u : NM × List Nat) H => cBw G (cA [] N sz) [] u.1 H ∧ ∀ a ∈ u.2, Mf H a) (cA [] N sz)) (cXC G (cA [] N sz) [] (fun _ _ _ => False)) MC MS (cA [] N sz) := by
  refine c_ofXH (B := fun A (u : NM × List Nat) H => cBw G A [] u.1 H ∧ ∀ a ∈ u.2, Mf H a) (by decide) hO (Nat.le_of_ble_eq_true rfl) (fun p e s m below meth c ls A X hr hlk hT hw hl => ?_)
  have hl : lv_has ls 4 [(0, .ref x0)] := hl
  have hx := X.1.1
  have hb := X.1.2.1
  have hml := X.1.2.2.1
  have hown := X.1.2.2.2.1
  have hts := X.1.2.2.2.2
  obtain ⟨H, eH⟩ : ∃ z, z = s.heap := ⟨_, rfl⟩
  rw [← eH] at hw ⊢
  obtain ⟨locs, eLo⟩ : ∃ z : List Loc, z = [] := ⟨_, rfl⟩
  rw [← eLo] at hw ⊢
  have hbud : 0 + MC ≤ MC ∧ 0 + MS ≤ MS := by omega
  unfold wX0_identity at h
  refine lv_aload_n (pc := 0) hx hb dX0_identity_0 rfl (lv_at hl 0 rfl) ?_
  refine lv_null (pc := 1) hx hb dX0_identity_1 ?_
  obtain ⟨f2, f3, f4, f5, f6, f7, f8, f9, f10, f11, f12, f13, f14, f15, f16, f17, f18, f19, f20, hN1, h⟩ := h
  refine c_put (pc := 2) (v := va_rf none) X hw hN1 in_X0 tyX0 tyX0_ok nmX0 rfl 11 (by decide) q226 rfl rfl rfl (rf_n none _) (rf_f none _) (Nat.le_of_ble_eq_true rfl) dX0_identity_2 (fun H locs hw => ?_)
  obtain ⟨N21, e22⟩ : ∃ z, z = va_up N x0 (some (eO 1 [va_rf f2, va_rf f3, va_rf f4, va_rf f5, va_rf f6, va_rf f7, va_rf f8, va_rf f9, va_rf f10, .int f11, .int f12, va_rf none, va_rf f14, .int f15, va_rf f16, va_rf f17, va_rf f18, va_rf f19, va_rf f20])) := ⟨_, rfl⟩
  have hw : cH G A s [] N21 H locs := by rw [e22]; exact hw
  have h := h N21 e22
  have hN23 : N21 x0 = some (eO 1 [va_rf f2, va_rf f3, va_rf f4, va_rf f5, va_rf f6, va_rf f7, va_rf f8, va_rf f9, va_rf f10, .int f11, .int f12, va_rf none, va_rf f14, .int f15, va_rf f16, va_rf f17, va_rf f18, va_rf f19, va_rf f20]) := by rw [e22]; exact up_s
  obtain ⟨hm24, hm25, h⟩ := h
  refine c_new (pc := 5) (ci := 2) (fs := [.int (0 : Int32), .int (0 : Int32), .int (0 : Int32), va_rf none]) X hw in_X2 tyX2 tyX2_ok q392 q393 q113 rfl nf_X2 (show 0 + 1 ≤ MC by omega) (show 0 + 4 ≤ MS by omega) dX0_identity_5 (fun nq26 H hq27 _ hw => ?_)
  have h := h nq26 hq27
  obtain ⟨N28, e29⟩ : ∃ z, z = va_up N21 nq26 (some (eO 2 [.int (0 : Int32), .int (0 : Int32), .int (0 : Int32), va_rf none])) := ⟨_, rfl⟩
  have hw : cH G A s [] N28 H locs := by rw [e29]; exact hw
  have h := h N28 e29
  have hN30 : N28 nq26 = some (eO 2 [.int (0 : Int32), .int (0 : Int32), .int (0 : Int32), va_rf none]) := by rw [e29]; exact up_s
  have hN31 := up_f (x := some (eO 2 [.int (0 : Int32), .int (0 : Int32), .int (0 : Int32), va_rf none])) hq27 hN23
  rw [← e29] at hN31
  refine lv_dup (pc := 8) hx hb dX0_identity_8 rfl ?_
  refine lv_aload_n (pc := 9) hx hb dX0_identity_9 rfl (lv_at hl 0 rfl) ?_
  refine c_callJ (pc := 10) (val := vV) X hw (va_runI (As := [va_rf (some x0)]) (rest := [.ref nq26]) X.1 (tX2_init X.2.2.1 (sz := H.size) h) (cwI 1 hts (lw_meth q396) rfl rfl rfl (hts _ q113) (hts _ q394) (hts _ q395) rfl ⟨by decide, by decide, (by decide +kernel : (parseMethodDescriptor yX2_init.desc).map (fun d => d.parameters.length) = some 1)⟩ ⟨Nat.le_of_ble_eq_true rfl, Nat.le_of_ble_eq_true rfl⟩) ⟨cPre_blind, fun U hU hW => ⟨rfl, X.preJ hw hU hW⟩⟩ rfl rfl hl.1 rfl (lv_room (Nat.le_of_ble_eq_true rfl)) dX0_identity_10 ⟨show 0 + 1 + 0 ≤ MC by omega, show 0 + 4 + 0 ≤ MS by omega⟩) (fun _ N33 H locs h hw => ?_)
  refine W.eq (g2 := F0 m 13 ls ([.ref nq26])) rfl ?_
  obtain ⟨f41, f42, f43, f44, hN40, h⟩ := h
  obtain ⟨mc36, ms37, hm38, hm39, h⟩ := h
  refine cx_callJ (pc := 13) (val := vV) X hw (cx_runVX (C := RX2) (As := []) (rest := []) X.1 (tX2_identity hL X.2.2.1 (sz := H.size) h) (vx_cwVW 0 hts (lw_VW q1415 q1416 q1417 q113 q1418) rfl rfl rfl ⟨rfl, by decide, by decide, (by decide +kernel : (parseMethodDescriptor yX2_identity.desc).map (fun d => d.parameters.length) = some 0)⟩ ⟨Nat.le_of_ble_eq_true rfl, Nat.le_of_ble_eq_true rfl⟩) ⟨cPre_blind, c_recv X hw hN40 rfl, fun U hU hW => ⟨rfl, X.preJ hw hU hW⟩⟩ rfl rfl hl.1 rfl (lv_room (Nat.le_of_ble_eq_true rfl)) dX0_identity_13 ⟨show 0 + 1 + 0 + mc36 ≤ MC by omega, show 0 + 4 + 0 + ms37 ≤ MS by omega⟩) (fun q45 N46 H locs ci47 fs48 ch51 hci49 hNq50 h hw hch => ?_) (fun _ N35 H locs h hw => ?_)
  · have hci49 := List.mem_singleton.mp hci49
    subst hci49
    have h := h fs48 hNq50
    refine cx_catchJ (pc := 13) X hw hNq50 rfl [] ⟨5, 24, 31, 149⟩ [⟨5, 24, 46, 0⟩, ⟨31, 39, 46, 0⟩] (by rw [hT]; rfl) ep_n rfl (by decide) q387 q844 ?_
    refine lv_astore_n (pc := 31) (lv' := [(1, .ref q45), (0, .ref x0)]) hx hb dX0_identity_31 rfl hl (by decide) rfl (fun ls hl => ?_)
    refine lv_aload_n (pc := 32) hx hb dX0_identity_32 rfl (lv_at hl 1 rfl) ?_
    refine lv_aload_n (pc := 33) hx hb dX0_identity_33 rfl (lv_at hl 0 rfl) ?_
    obtain ⟨f53, f54, f55, f56, f57, f58, f59, f60, f61, f62, f63, f64, f65, f66, f67, f68, f69, f70, f71, hN52, h⟩ := h
    refine mo_row (dc := 0) (dn := 0) X hw ⟨show 0 + 1 + 0 + mc36 ≤ MC by omega, show 0 + 4 + 0 + ms37 ≤ MS by omega⟩ (fun s Q X hw kk => c_put (pc := 34) (Q := Q) (v := va_rf (some q45)) X hw hN52 in_X0 tyX0 tyX0_ok nmX0 rfl 11 (by decide) q226 rfl rfl rfl (rf_n (some q45) _) (rf_f (some q45) _) (Nat.le_of_ble_eq_true rfl) dX0_identity_34 (fun H1 locs1 hw1 => kk _ H1 locs1 rfl hw1)) (fun N9 H locs e9 hw hMo => ?_)
    subst e9
    have hch := hMo.all hch
    obtain ⟨N72, e73⟩ : ∃ z, z = va_up N46 x0 (some (eO 1 [va_rf f53, va_rf f54, va_rf f55, va_rf f56, va_rf f57, va_rf f58, va_rf f59, va_rf f60, va_rf f61, .int f62, .int f63, va_rf (some q45), va_rf f65, .int f66, va_rf f67, va_rf f68, va_rf f69, va_rf f70, va_rf f71])) := ⟨_, rfl⟩
    have hw : cH G A s [] N72 H locs := by rw [e73]; exact hw
    have h := h N72 e73
    have hN74 : N72 x0 = some (eO 1 [va_rf f53, va_rf f54, va_rf f55, va_rf f56, va_rf f57, va_rf f58, va_rf f59, va_rf f60, va_rf f61, .int f62, .int f63, va_rf (some q45), va_rf f65, .int f66, va_rf f67, va_rf f68, va_rf f69, va_rf f70, va_rf f71]) := by rw [e73]; exact up_s
    refine lv_iconst (pc := 37) (v := (-1 : Int32)) hx hb dX0_identity_37 (by decide) ?_
    refine lv_istore_n (pc := 38) (lv' := [(2, .int (-1 : Int32)), (1, .ref q45), (0, .ref x0)]) hx hb dX0_identity_38 rfl hl (by decide) rfl (fun ls hl => ?_)
    refine lv_aload_n (pc := 39) hx hb dX0_identity_39 rfl (lv_at hl 2 rfl) ?_
    refine lv_iconst (pc := 40) (v := (0 : Int32)) hx hb dX0_identity_40 (by decide) ?_
    refine mo_row (dc := 0) (dn := 0) X hw ⟨show 0 + 1 + 0 + mc36 ≤ MC by omega, show 0 + 4 + 0 + ms37 ≤ MS by omega⟩ (fun s Q X hw kk => c_put (pc := 41) (Q := Q) X hw hN74 in_X0 tyX0 tyX0_ok nmX0 rfl 13 (by decide) q230 rfl rfl rfl rfl rfl (Nat.le_of_ble_eq_true rfl) dX0_identity_41 (fun H1 locs1 hw1 => kk _ H1 locs1 rfl hw1)) (fun N9 H locs e9 hw hMo => ?_)
    subst e9
    have hch := hMo.all hch
    obtain ⟨N75, e76⟩ : ∃ z, z = va_up N72 x0 (some (eO 1 [va_rf f53, va_rf f54, va_rf f55, va_rf f56, va_rf f57, va_rf f58, va_rf f59, va_rf f60, va_rf f61, .int f62, .int f63, va_rf (some q45), va_rf f65, .int (0 : Int32), va_rf f67, va_rf f68, va_rf f69, va_rf f70, va_rf f71])) := ⟨_, rfl⟩
    have hw : cH G A s [] N75 H locs := by rw [e76]; exact hw
    have h := h N75 e76
    have hN77 : N75 x0 = some (eO 1 [va_rf f53, va_rf f54, va_rf f55, va_rf f56, va_rf f57, va_rf f58, va_rf f59, va_rf f60, va_rf f61, .int f62, .int f63, va_rf (some q45), va_rf f65, .int (0 : Int32), va_rf f67, va_rf f68, va_rf f69, va_rf f70, va_rf f71]) := by rw [e76]; exact up_s
    refine lv_iload_n (pc := 44) hx hb dX0_identity_44 rfl (lv_at hl 0 rfl) ?_
    refine W.widen (k := MC) (n := MS) (by omega) (by omega) ?_
    refine cx_ret ?_
    exact W.iret (pc := 45) hx hb hr (fun t ht hW => c_retM (val := vI) hw hch h ht) hw.2.2.2 dX0_identity_45 hlk
  refine W.eq (g2 := F0 m 16 ls ([])) rfl ?_
  refine lv_aload_n (pc := 16) hx hb dX0_identity_16 rfl (lv_at hl 0 rfl) ?_
  obtain ⟨f79, f80, f81, f82, f83, f84, f85, f86, f87, f88, f89, f90, f91, f92, f93, f94, f95, f96, f97, hN78, h⟩ := h
  refine c_get (pc := 17) X hw hN78 in_X0 rfl 9 (by decide) q223 rfl rfl dX0_identity_17 ?_
  refine s_call (pc := 20) (val := vI) (As := [.int f88]) (rest := []) X.1 (tJ23_bitCount h) (lw_S q1530 q1531 q135 q1532) ⟨by decide, by decide, (by decide +kernel : (parseMethodDescriptor yJ23_bitCount.desc).map (fun d => d.parameters.length) = some 1)⟩ ⟨Nat.le_of_ble_eq_true rfl, Nat.le_of_ble_eq_true rfl⟩ hl.1 (Nat.le_of_ble_eq_true rfl) ⟨show 0 + 1 + 0 + mc36 ≤ MC by omega, show 0 + 4 + 0 + ms37 ≤ MS by omega⟩ dX0_identity_20 rfl (fun r98 h => ?_)
  refine W.eq (g2 := F0 m 23 ls (.int r98 :: [])) rfl ?_
  refine lv_istore_n (pc := 23) (lv' := [(1, .int r98), (0, .ref x0)]) hx hb dX0_identity_23 rfl hl (by decide) rfl (fun ls hl => ?_)
  refine lv_aload_n (pc := 24) hx hb dX0_identity_24 rfl (lv_at hl 1 rfl) ?_
  refine lv_iconst (pc := 25) (v := (0 : Int32)) hx hb dX0_identity_25 (by decide) ?_
  refine c_put (pc := 26) X hw hN78 in_X0 tyX0 tyX0_ok nmX0 rfl 13 (by decide) q230 rfl rfl rfl rfl rfl (Nat.le_of_ble_eq_true rfl) dX0_identity_26 (fun H locs hw => ?_)
  obtain ⟨N99, e100⟩ : ∃ z, z = va_up N35 x0 (some (eO 1 [va_rf f79, va_rf f80, va_rf f81, va_rf f82, va_rf f83, va_rf f84, va_rf f85, va_rf f86, va_rf f87, .int f88, .int f89, va_rf f90, va_rf f91, .int (0 : Int32), va_rf f93, va_rf f94, va_rf f95, va_rf f96, va_rf f97])) := ⟨_, rfl⟩
  have hw : cH G A s [] N99 H locs := by rw [e100]; exact hw
  have h := h N99 e100
  have hN101 : N99 x0 = some (eO 1 [va_rf f79, va_rf f80, va_rf f81, va_rf f82, va_rf f83, va_rf f84, va_rf f85, va_rf f86, va_rf f87, .int f88, .int f89, va_rf f90, va_rf f91, .int (0 : Int32), va_rf f93, va_rf f94, va_rf f95, va_rf f96, va_rf f97]) := by rw [e100]; exact up_s
  refine lv_iload_n (pc := 29) hx hb dX0_identity_29 rfl (lv_at hl 0 rfl) ?_
  refine W.widen (k := MC) (n := MS) (by omega) (by omega) ?_
  refine cx_ret ?_
  exact W.iret (pc := 30) hx hb hr (fun t ht hW => c_retM (val := vI) hw Mf.nil h ht) hw.2.2.2 dX0_identity_30 hlk
theorem tX0_identity {l : Launch} (hL : l.stackTraces = false) {G : gG} (hO : gOk G) {post : Int32 → List Nat → NM → Prop} {MC MS : Nat} {N : NM} {x0 : Nat} {sz : Nat} (h : wX0_identity (gC G) post MC MS N x0) : Met l yX0_identity (wsW_ yX0_identity cX0_identity 4 (some .int) [(5, 24, 31, 149), (5, 24, 46, 0), (31, 39, 46, 0)]) ⟨52, MC, MS, 1707⟩ (va_Pc [.ref x0] (cPre G [] N sz)) (gQ vI (fun r (u : NM × List Nat) => post r u.2 u.1) (fun (u : NM × List Nat) H => cBw G (cA [] N sz) [] u.1 H ∧ ∀ a ∈ u.2, Mf H a) (cA [] N sz)) MC MS (cA [] N sz) := cx_toMet (txX0_identity hL hO h)
