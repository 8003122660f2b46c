set_option maxRecDepth 100000
set_option maxHeartbeats 4000000
section AMB
/-- a static of the start, at any state of the run -/
theorem gK.Z {G : gG} {s : State} {C n d : String} {v : Value} (hK : gK G s) (h : va_Z C n d v (fun q => gZ G ≤ q) (g0 G) (g0 G).heap) : va_Z C n d v (fun q => gZ G ≤ q) s s.heap := (va_Z.moved hK.1.alike h).kept (fun a _ hA => hK.2 a (Nat.not_le.mp hA))
theorem gK.Zq {G : gG} {s : State} {C n d : String} (hK : gK G s) (h : va_Zq C n d (fun q => gZ G ≤ q) (g0 G) (g0 G).heap) : va_Zq C n d (fun q => gZ G ≤ q) s s.heap := (va_Zq.moved hK.1.alike h).kept (fun a _ hA => hK.2 a (Nat.not_le.mp hA))
theorem gOk.flat {G : gG} (hO : gOk G) : ∀ c ∈ flatC (Jvm.Cond.and given_1 narrow_1), c.before #[Value.ref (gb G)] (g0 G) = true := flat_of_before _ hO.2.1
theorem gA0 {G : gG} : ∀ a : Nat, a < (g0 G).heap.size → ¬ gZ G ≤ a := fun _ h => Nat.not_le.mpr h
set_option maxRecDepth 100000 in
theorem z_compact {G : gG} (hO : gOk G) : va_Z "java/lang/String" "COMPACT_STRINGS" "Z" (.int 1) (fun q => gZ G ≤ q) (g0 G) (g0 G).heap :=
  va_Zof (hO.1 _ q479) (hO.1 _ (lw_all_tbl q111)) (va_eqt (hO.flat _ (by decide +kernel))) gA0
set_option maxRecDepth 100000 in
theorem z_sioobe {G : gG} (hO : gOk G) : va_Zq "jdk/internal/util/Preconditions" "SIOOBE_FORMATTER" "Ljava/util/function/BiFunction;" (fun q => gZ G ≤ q) (g0 G) (g0 G).heap :=
  va_Zqof (hO.1 _ q577) (hO.1 _ (lw_all_tbl q124)) (hO.flat _ (by decide +kernel)) gA0
theorem vS_gz {G : gG} {s : State} : va_S (fun q => gZ G ≤ q) s.heap s.heap [] := va_S.rf
theorem vS_no {s : State} : va_S (fun _ => False) s.heap s.heap [] := va_S.rf
end AMB
/-- a String at a: its bytes at v, n of them, Latin-1 -/
def sAt (a v n : Nat) (f : Nat → Int32) (U : State) (H : Heap) : Prop := va_O "java/lang/String" a (fun _ => False) U H ∧ va_OF "java/lang/String" "coder" "B" (.int 0) a (fun _ => False) U H ∧ va_OF "java/lang/String" "value" "[B" (.ref v) a (fun _ => False) U H ∧ va_T .byte v n (fun j => .int (f j)) (fun _ => False) U H
theorem sAt.moved {a v n : Nat} {f : Nat → Int32} {u U : State} {H : Heap} (hvm : u.vm.Alike U.vm) (h : sAt a v n f u H) : sAt a v n f U H := ⟨va_O.moved hvm h.1, va_OF.moved hvm h.2.1, va_OF.moved hvm h.2.2.1, va_T.moved hvm h.2.2.2⟩
theorem sAt.const {G : gG} {s : State} {A : Nat → Prop} {H : Heap} {locs : List Loc} (hO : gOk G) (hK : gK G s) (hS : va_S A s.heap H locs) (hA : ∀ q, A q → gZ G ≤ q) {t : Nat} (ht : t < sN) : sAt (gC G 0 t) (gC G 1 t) (sLen.getD t 0) (fun j => (sByt.getD t []).getD j 0) s H := by
  have h1 : vk_S sN sLen sByt (gC G 0) (gC G 1) (fun q => gZ G ≤ q) s s.heap := (vk_S.moved hK.1.alike hO.2.2.2.1).kept (fun a _ hA => hK.2 a (Nat.not_le.mp hA))
  have h2 := ((h1.narrow hA).kept hS.2.1).1 t ht
  exact ⟨h2.1.narrow (fun _ z => z.elim), h2.2.1.narrow (fun _ z => z.elim), h2.2.2.1.narrow (fun _ z => z.elim), h2.2.2.2.narrow (fun _ z => z.elim)⟩
section HP
variable {p : Program} {l : Launch} {e : Env} {R : Room} {s : State} {m : MethodId} {args : Array Value} {below : List Frame} {meth : Method} {c : Code} {H : Heap} {locs : List Loc} {cells slots : Nat} {Q : State → Prop} {cc : ByteArray} {pc : Nat} {ls : Array Slot} {rest : List Value}
/-- a method that reads the heap alone, from its start -/
theorem h_ofW {ρ : Type} {val : ρ → Option Value} {post : ρ → Prop} {y : MethodName} {bytes : ByteArray} {maxL : Nat} {ret : Option FieldType} {As : List Value} {fr lo : Nat} {P : State → Prop} (hy : plainName y.cls = true) (hn : (lg_sl As).length ≤ maxL)
    (body : ∀ (p : Program) (e : Env) (s : State) (m : MethodId) (below : List Frame) (meth : Method) (c : Code) (ls : Array Slot), CallFix p m c bytes maxL s As.toArray lw_all y.cls → meth.sig.returnType = ret → meth.locks = false → lv_has ls maxL (lv_args 0 As) → P s →
      W p l e ⟨fr, 0, 0, lo⟩ s m As.toArray below meth c s.heap [] 0 0 (MQ below (pQ val post) As.toArray s 0 0 (fun _ => False)) (F0 m 0 ls [])) :
    Met l y (ws_ y bytes maxL ret) ⟨fr, 0, 0, lo⟩ (va_Pc As P) (pQ val post) 0 0 (fun _ => False) := by
  refine Met.ofW (cc := bytes) (maxL := maxL) (ret := ret) hy rfl ?_
  intro p e s m args below meth c s₁ B hml hv
  obtain ⟨rfl, hP⟩ := hv
  have hts := atoms_spec (ws := ws_ y bytes maxL ret) B.pre
  have hts : ∀ w ∈ lw_all, w.before _ s = true := fun w h => hts w (List.mem_cons_of_mem _ h)
  have hl := lv_entry As (n := maxL) hn
  rw [lg_entry_eq]
  exact body p e s m below meth c _ ⟨B.exec, B.bytes, hml, findClass_of_methodNamed B.named, hts⟩ B.returns B.notSynchronized hl hP
theorem h_callS {ρ : Type} {val : ρ → Option Value} {post : ρ → Prop} {own : String} {index maxL nL : Nat} {y : MethodName} {bytes : ByteArray} {ret : Option FieldType} {As : List Value} {fr lo : Nat} {P : State → Prop} (S : CallFix p m c cc nL s args lw_all own)
    (hM : Met l y (ws_ y bytes maxL ret) ⟨fr, 0, 0, lo⟩ (va_Pc As P) (pQ val post) 0 0 (fun _ => False)) (hbl : FrameBlind (va_Pc As P)) (hP : ∀ U : State, U.heap = H → s.WarmedH U.vm → P U)
    (hq : GoodIn lw_all (va_wsS own index y (ws_ y bytes maxL ret))) (hd : y.cls ≠ "java/lang/invoke/MethodHandle" ∧ y.cls ≠ "java/lang/invoke/VarHandle" ∧ (parseMethodDescriptor y.desc).map (fun d => d.parameters.length) = some As.length)
    (hR : fr + 1 ≤ R.frames ∧ 8 + (maxL + 11) + lo ≤ R.locals) (hsz : ls.size = nL) (hr : (rest.map fun v => v.category).sum ≤ 8) (hc : cells ≤ R.cells ∧ slots ≤ R.slots)
    (d : decode cc pc = .ok (.invokestatic index, 3)) {st0 : List Value} (hst : st0 = As.reverse ++ rest)
    (kk : ∀ r : ρ, post r → W p l e R s m args below meth c H locs cells slots Q (F0 m (pc + 3) ls ((val r).toList ++ rest))) : W p l e R s m args below meth c H locs cells slots Q (F0 m pc ls st0) :=
  p_call (W.runS S hM (va_cwS As.length S.2.2.2.2 hq rfl rfl rfl hd hR) ⟨hbl, fun U hU hW => ⟨rfl, hP U hU hW⟩⟩ rfl rfl hsz hst (lv_room hr) d hc) kk
theorem h_callV {ρ : Type} {val : ρ → Option Value} {post : ρ → Prop} {own C : String} {index maxL nL a : Nat} {y : MethodName} {bytes : ByteArray} {ret : Option FieldType} {As : List Value} {fr lo : Nat} {P : State → Prop} (S : CallFix p m c cc nL s args lw_all own)
    (hM : Met l y (ws_ y bytes maxL ret) ⟨fr, 0, 0, lo⟩ (va_Pc (.ref a :: As) P) (pQ val post) 0 0 (fun _ => False)) (hbl : FrameBlind (va_Pc (.ref a :: As) P)) (hrc : ∃ cell : Cell, H[a]? = some cell ∧ cell.vm.isStatics = false ∧ s.vm.findClass C = some cell.cls) (hP : ∀ U : State, U.heap = H → s.WarmedH U.vm → P U)
    (hq : GoodIn lw_all (wsV own index C y (ws_ y bytes maxL ret))) (hd : y.cls = C ∧ y.cls ≠ "java/lang/invoke/MethodHandle" ∧ y.cls ≠ "java/lang/invoke/VarHandle" ∧ (parseMethodDescriptor y.desc).map (fun d => d.parameters.length) = some As.length)
    (hR : fr + 1 ≤ R.frames ∧ 8 + (maxL + 11) + lo ≤ R.locals) (hsz : ls.size = nL) (hr : (rest.map fun v => v.category).sum ≤ 8) (hc : cells ≤ R.cells ∧ slots ≤ R.slots)
    (d : decode cc pc = .ok (.invokevirtual index, 3)) {st0 : List Value} (hst : st0 = As.reverse ++ .ref a :: rest)
    (kk : ∀ r : ρ, post r → W p l e R s m args below meth c H locs cells slots Q (F0 m (pc + 3) ls ((val r).toList ++ rest))) : W p l e R s m args below meth c H locs cells slots Q (F0 m pc ls st0) :=
  p_call (W.runV S hM (cwV As.length S.2.2.2.2 hq rfl rfl rfl hd hR) ⟨hbl, hrc, fun U hU hW => ⟨rfl, hP U hU hW⟩⟩ rfl rfl hsz hst (lv_room hr) d hc) kk
end HP
/-- what the String methods ask -/
def sPre (G : gG) (a v n : Nat) (f : Nat → Int32) (U : State) : Prop := gK G U ∧ sAt a v n f U U.heap
theorem sPre_blind {G : gG} {a v n : Nat} {f : Nat → Int32} {As : List Value} : FrameBlind (va_Pc As (sPre G a v n f)) := fun x U g mk q => ⟨q.1, q.2.1, sAt.moved (u := U) (U := U.calling g mk x) (Vm.Alike.refl U.vm) q.2.2⟩
theorem sPre_at {G : gG} {s U : State} {H : Heap} {a v n : Nat} {f : Nat → Int32} (hG : gK G U) (hs : sAt a v n f s H) (hU : U.heap = H) (hW : s.WarmedH U.vm) : sPre G a v n f U := ⟨hG, by rw [hU]; exact sAt.moved hW.alike hs⟩
theorem gK.self {G : gG} {s U : State} (h : gK G s) (hU : U.heap = s.heap) (hW : s.WarmedH U.vm) : gK G U := ⟨State.WarmedH.trans h.1 hW, fun q hq => by rw [hU]; exact h.2 q hq⟩
theorem sAt.recv {s : State} {H : Heap} {a v n : Nat} {f : Nat → Int32} (h : sAt a v n f s H) : ∃ cell : Cell, H[a]? = some cell ∧ cell.vm.isStatics = false ∧ s.vm.findClass RJ6 = some cell.cls := by
  obtain ⟨cell, h1, h2, h3, -⟩ := h.1
  exact ⟨cell, h1, h2, h3⟩
section STR
variable {l : Launch} {G : gG} {a v n : Nat} {f : Nat → Int32}
theorem tJ6_coder (hO : gOk G) : Met l yJ6_coder (ws_ yJ6_coder cJ6_coder 1 (some .byte)) ⟨0, 0, 0, 0⟩ (va_Pc [.ref a] (sPre G a v n f)) (pQ vI (fun r => r = 0)) 0 0 (fun _ => False) := by
  refine h_ofW (by decide) (Nat.le_of_ble_eq_true rfl) (fun p e s m below meth c ls X hr hlk hl hP => ?_)
  have hl : lv_has ls 1 [(0, .ref a)] := hl
  obtain ⟨hx, hb, hml, hown, hts⟩ := X
  refine va_gets (pc := 0) hx hb (hP.1.Z (z_compact hO)) vS_gz hown (hts _ q630) (fun x h => h) dJ6_coder_0 ?_
  refine lv_if_eq (pc := 3) (tgt := 13) hx hb dJ6_coder_3 rfl (fun c1 => absurd c1 (by decide)) (fun c1 => ?_)
  refine lv_aload_n (pc := 6) hx hb dJ6_coder_6 rfl (lv_at hl 0 rfl) ?_
  refine vk_getf (pc := 7) hx hb hP.2.2.1 vS_no hown (hts _ q645) (fun x h => h) dJ6_coder_7 ?_
  refine lv_goto (pc := 10) (tgt := 14) hx hb dJ6_coder_10 rfl ?_
  exact W.zret (pc := 14) (v := 0) (Qc := pQ vI (fun r => r = 0)) hx hb hr rfl (fun t ht hW => s_ret (val := vI) rfl ht) (fun _ hq => absurd hq List.not_mem_nil) dJ6_coder_14 hlk
theorem tJ6_isLatin1 (hO : gOk G) : Met l yJ6_isLatin1 (ws_ yJ6_isLatin1 cJ6_isLatin1 1 (some .boolean)) ⟨0, 0, 0, 0⟩ (va_Pc [.ref a] (sPre G a v n f)) (pQ vI (fun r => r = 1)) 0 0 (fun _ => False) := by
  refine h_ofW (by decide) (Nat.le_of_ble_eq_true rfl) (fun p e s m below meth c ls X hr hlk hl hP => ?_)
  have hl : lv_has ls 1 [(0, .ref a)] := hl
  obtain ⟨hx, hb, hml, hown, hts⟩ := X
  refine va_gets (pc := 0) hx hb (hP.1.Z (z_compact hO)) vS_gz hown (hts _ q630) (fun x h => h) dJ6_isLatin1_0 ?_
  refine lv_if_eq (pc := 3) (tgt := 17) hx hb dJ6_isLatin1_3 rfl (fun c1 => absurd c1 (by decide)) (fun c1 => ?_)
  refine lv_aload_n (pc := 6) hx hb dJ6_isLatin1_6 rfl (lv_at hl 0 rfl) ?_
  refine vk_getf (pc := 7) hx hb hP.2.2.1 vS_no hown (hts _ q645) (fun x h => h) dJ6_isLatin1_7 ?_
  refine lv_if_ne (pc := 10) (tgt := 17) hx hb dJ6_isLatin1_10 rfl (fun c1 => absurd rfl c1) (fun c1 => ?_)
  refine lv_iconst (pc := 13) (v := 1) hx hb dJ6_isLatin1_13 (by decide) ?_
  refine lv_goto (pc := 14) (tgt := 18) hx hb dJ6_isLatin1_14 rfl ?_
  exact W.zret (pc := 18) (v := 1) (Qc := pQ vI (fun r => r = 1)) hx hb hr rfl (fun t ht hW => s_ret (val := vI) rfl ht) (fun _ hq => absurd hq List.not_mem_nil) dJ6_isLatin1_18 hlk
theorem tJ6_length (hO : gOk G) : Met l yJ6_length (ws_ yJ6_length cJ6_length 1 (some .int)) ⟨1, 0, 0, 20⟩ (va_Pc [.ref a] (sPre G a v n f)) (pQ vI (fun r => r = nI n)) 0 0 (fun _ => False) := by
  refine h_ofW (by decide) (Nat.le_of_ble_eq_true rfl) (fun p e s m below meth c ls X hr hlk hl hP => ?_)
  have hl : lv_has ls 1 [(0, .ref a)] := hl
  have X5 := X
  obtain ⟨hx, hb, hml, hown, hts⟩ := X
  refine lv_aload_n (pc := 0) hx hb dJ6_length_0 rfl (lv_at hl 0 rfl) ?_
  refine vk_getf (pc := 1) hx hb hP.2.2.2.1 vS_no hown (hts _ q644) (fun x h => h) dJ6_length_1 ?_
  refine va_tlen (pc := 4) (v := nI n) hx hb hP.2.2.2.2 vS_no rfl dJ6_length_4 ?_
  refine lv_aload_n (pc := 5) hx hb dJ6_length_5 rfl (lv_at hl 0 rfl) ?_
  refine h_callV (pc := 6) (C := RJ6) (val := vI) (As := []) X5 (tJ6_coder hO) sPre_blind hP.2.recv (fun U hU hW => sPre_at (hP.1.self hU hW) hP.2 hU hW) (lw_V q699 q700 q701 q111 q702) ⟨rfl, by decide, by decide, (by decide +kernel : (parseMethodDescriptor yJ6_coder.desc).map (fun d => d.parameters.length) = some 0)⟩ ⟨Nat.le_of_ble_eq_true rfl, Nat.le_of_ble_eq_true rfl⟩ hl.1 (Nat.le_of_ble_eq_true rfl) ⟨Nat.le_refl _, Nat.le_refl _⟩ dJ6_length_6 rfl (fun r h => ?_)
  subst h
  refine lv_ishr (pc := 9) (x := nI n) (y := 0) (rest := []) hx hb dJ6_length_9 ?_
  exact W.iret (pc := 10) (v := nI n >>> ((0 : Int32) &&& 31)) (Qc := pQ vI (fun r => r = nI n)) hx hb hr (fun t ht hW => s_ret (val := vI) (sb_shr0 (nI n)) ht) (fun _ hq => absurd hq List.not_mem_nil) dJ6_length_10 hlk
theorem tJ17_checkIndex {i k : Int32} {r : Option Nat} (h0 : ¬ i < 0) (h1 : i < k) : Met l yJ17_checkIndex (ws_ yJ17_checkIndex cJ17_checkIndex 3 (some .int)) ⟨0, 0, 0, 0⟩ (va_Pc [.int i, .int k, va_rf r] (fun _ => True)) (pQ vI (fun r => r = i)) 0 0 (fun _ => False) := by
  refine s_ofW (by decide) (by cases r <;> exact Nat.le_of_ble_eq_true rfl) (fun p e s m below meth c ls X hr hlk hl => ?_)
  have hl : lv_has ls 3 [(0, .int i), (1, .int k)] := by cases r <;> exact lv_sub hl [0, 1] rfl
  obtain ⟨hx, hb, hml, hown, hts⟩ := X
  refine lv_iload_n (pc := 0) hx hb dJ17_checkIndex_0 rfl (lv_at hl 0 rfl) ?_
  refine lv_if_lt (pc := 1) (tgt := 9) hx hb dJ17_checkIndex_1 rfl (fun c1 => absurd c1 h0) (fun c1 => ?_)
  refine lv_iload_n (pc := 4) hx hb dJ17_checkIndex_4 rfl (lv_at hl 0 rfl) ?_
  refine lv_iload_n (pc := 5) hx hb dJ17_checkIndex_5 rfl (lv_at hl 1 rfl) ?_
  refine lv_icmp_lt (pc := 6) (tgt := 16) hx hb dJ17_checkIndex_6 rfl (fun c1 => ?_) (fun c1 => absurd h1 c1)
  refine lv_iload_n (pc := 16) hx hb dJ17_checkIndex_16 rfl (lv_at hl 0 rfl) ?_
  exact W.iret (pc := 17) (v := i) (Qc := pQ vI (fun r => r = i)) hx hb hr (fun t ht hW => s_ret (val := vI) rfl ht) (fun _ hq => absurd hq List.not_mem_nil) dJ17_checkIndex_17 hlk
theorem gK_blind {As : List Value} : FrameBlind (va_Pc As (gK G)) := fun _ _ _ _ q => q
theorem tJ6_checkIndex (hO : gOk G) {i k : Int32} (h0 : ¬ i < 0) (h1 : i < k) : Met l yJ6_checkIndex (ws_ yJ6_checkIndex cJ6_checkIndex 2 none) ⟨1, 0, 0, 22⟩ (va_Pc [.int i, .int k] (gK G)) (pQ vV (fun _ => True)) 0 0 (fun _ => False) := by
  refine h_ofW (by decide) (Nat.le_of_ble_eq_true rfl) (fun p e s m below meth c ls X hr hlk hl hP => ?_)
  have hl : lv_has ls 2 [(0, .int i), (1, .int k)] := hl
  have X5 := X
  obtain ⟨hx, hb, hml, hown, hts⟩ := X
  refine lv_iload_n (pc := 0) hx hb dJ6_checkIndex_0 rfl (lv_at hl 0 rfl) ?_
  refine lv_iload_n (pc := 1) hx hb dJ6_checkIndex_1 rfl (lv_at hl 1 rfl) ?_
  have hz : ∃ r : Option Nat, va_Z "jdk/internal/util/Preconditions" "SIOOBE_FORMATTER" "Ljava/util/function/BiFunction;" (va_rf r) (fun q => gZ G ≤ q) s s.heap := by
    rcases hP.Zq (z_sioobe hO) with z | ⟨t, z⟩
    · exact ⟨none, z⟩
    · exact ⟨some t, z⟩
  obtain ⟨r, hz⟩ := hz
  refine va_gets (pc := 2) hx hb hz vS_gz hown (hts _ q576) (fun x h => h) dJ6_checkIndex_2 ?_
  refine s_call (pc := 5) (val := vI) (As := [.int i, .int k, va_rf r]) (rest := []) X5 (tJ17_checkIndex h0 h1) (lw_S q599 q600 q124 q601) ⟨by decide, by decide, (by decide +kernel : (parseMethodDescriptor yJ17_checkIndex.desc).map (fun d => d.parameters.length) = some 3)⟩ ⟨Nat.le_of_ble_eq_true rfl, Nat.le_of_ble_eq_true rfl⟩ hl.1 (Nat.le_of_ble_eq_true rfl) ⟨Nat.le_refl _, Nat.le_refl _⟩ dJ6_checkIndex_5 rfl (fun r h => ?_)
  refine lv_pop (pc := 8) (va := .int r) (rest := []) hx hb dJ6_checkIndex_8 rfl ?_
  exact W.vret (pc := 9) hx hb hr (fun t ht hW => s_ret (val := vV) (v := ()) trivial ht) (fun _ hq => absurd hq List.not_mem_nil) dJ6_checkIndex_9 hlk
theorem vp_in_lt {i : Int32} {n : Nat} (h : vp_in i n) (hn : n < 2 ^ 31) : ¬ i < 0 ∧ i < nI n := by
  obtain ⟨j, hj, rfl⟩ := vp_in_of h hn
  exact ⟨nI_pos (by omega), nI_lt hj hn⟩
theorem tJ16_charAt (hO : gOk G) {i : Int32} (hi : vp_in i n) (hn : n < 2 ^ 31) : Met l yJ16_charAt (ws_ yJ16_charAt cJ16_charAt 2 (some .char)) ⟨2, 0, 0, 43⟩ (va_Pc [.ref v, .int i] (sPre G a v n f)) (pQ vI (fun r => r = ((f i.toNatClampNeg &&& 255).toUInt32 % 65536).toInt32)) 0 0 (fun _ => False) := by
  refine h_ofW (by decide) (Nat.le_of_ble_eq_true rfl) (fun p e s m below meth c ls X hr hlk hl hP => ?_)
  have hl : lv_has ls 2 [(0, .ref v), (1, .int i)] := hl
  have X5 := X
  obtain ⟨hx, hb, hml, hown, hts⟩ := X
  refine lv_iload_n (pc := 0) hx hb dJ16_charAt_0 rfl (lv_at hl 1 rfl) ?_
  refine lv_aload_n (pc := 1) hx hb dJ16_charAt_1 rfl (lv_at hl 0 rfl) ?_
  refine va_tlen (pc := 2) (v := nI n) hx hb hP.2.2.2.2 vS_no rfl dJ16_charAt_2 ?_
  refine h_callS (pc := 3) (val := vV) (As := [.int i, .int (nI n)]) (rest := []) X5 (tJ6_checkIndex hO (vp_in_lt hi hn).1 (vp_in_lt hi hn).2) gK_blind (fun U hU hW => hP.1.self hU hW) (lw_S q1461 q597 q111 q598) ⟨by decide, by decide, (by decide +kernel : (parseMethodDescriptor yJ6_checkIndex.desc).map (fun d => d.parameters.length) = some 2)⟩ ⟨Nat.le_of_ble_eq_true rfl, Nat.le_of_ble_eq_true rfl⟩ hl.1 (Nat.le_of_ble_eq_true rfl) ⟨Nat.le_refl _, Nat.le_refl _⟩ dJ16_charAt_3 rfl (fun r h => ?_)
  refine lv_aload_n (pc := 6) hx hb dJ16_charAt_6 rfl (lv_at hl 0 rfl) ?_
  refine lv_iload_n (pc := 7) hx hb dJ16_charAt_7 rfl (lv_at hl 1 rfl) ?_
  refine va_tb (pc := 8) hx hb hP.2.2.2.2 vS_no hi rfl dJ16_charAt_8 ?_
  refine lv_sipush (pc := 9) (v := (255 : Int32)) hx hb dJ16_charAt_9 (by decide) ?_
  refine lv_iand (pc := 12) hx hb dJ16_charAt_12 ?_
  refine lv_i2c (pc := 13) hx hb dJ16_charAt_13 rfl ?_
  exact W.zret (pc := 14) (v := ((f i.toNatClampNeg &&& 255).toUInt32 % 65536).toInt32) (Qc := pQ vI (fun r => r = ((f i.toNatClampNeg &&& 255).toUInt32 % 65536).toInt32)) hx hb hr (pk_nc _) (fun t ht hW => s_ret (val := vI) rfl ht) (fun _ hq => absurd hq List.not_mem_nil) dJ16_charAt_14 hlk
theorem tJ6_charAt (hO : gOk G) {i : Int32} (hi : vp_in i n) (hn : n < 2 ^ 31) : Met l yJ6_charAt (ws_ yJ6_charAt cJ6_charAt 2 (some .char)) ⟨3, 0, 0, 64⟩ (va_Pc [.ref a, .int i] (sPre G a v n f)) (pQ vI (fun r => r = ((f i.toNatClampNeg &&& 255).toUInt32 % 65536).toInt32)) 0 0 (fun _ => False) := by
  refine h_ofW (by decide) (Nat.le_of_ble_eq_true rfl) (fun p e s m below meth c ls X hr hlk hl hP => ?_)
  have hl : lv_has ls 2 [(0, .ref a), (1, .int i)] := hl
  have X5 := X
  obtain ⟨hx, hb, hml, hown, hts⟩ := X
  refine lv_aload_n (pc := 0) hx hb dJ6_charAt_0 rfl (lv_at hl 0 rfl) ?_
  refine h_callV (pc := 1) (C := RJ6) (val := vI) (As := []) (rest := []) X5 (tJ6_isLatin1 hO) sPre_blind hP.2.recv (fun U hU hW => sPre_at (hP.1.self hU hW) hP.2 hU hW) (lw_V q1454 q1455 q1456 q111 q1457) ⟨rfl, by decide, by decide, (by decide +kernel : (parseMethodDescriptor yJ6_isLatin1.desc).map (fun d => d.parameters.length) = some 0)⟩ ⟨Nat.le_of_ble_eq_true rfl, Nat.le_of_ble_eq_true rfl⟩ hl.1 (Nat.le_of_ble_eq_true rfl) ⟨Nat.le_refl _, Nat.le_refl _⟩ dJ6_charAt_1 rfl (fun r h => ?_)
  subst h
  refine lv_if_eq (pc := 4) (tgt := 16) (x := 1) (rest := []) hx hb dJ6_charAt_4 rfl (fun c1 => absurd c1 (by decide)) (fun c1 => ?_)
  refine lv_aload_n (pc := 7) hx hb dJ6_charAt_7 rfl (lv_at hl 0 rfl) ?_
  refine vk_getf (pc := 8) hx hb hP.2.2.2.1 vS_no hown (hts _ q644) (fun x h => h) dJ6_charAt_8 ?_
  refine lv_iload_n (pc := 11) hx hb dJ6_charAt_11 rfl (lv_at hl 1 rfl) ?_
  refine h_callS (pc := 12) (val := vI) (As := [.ref v, .int i]) (rest := []) X5 (tJ16_charAt hO hi hn) sPre_blind (fun U hU hW => sPre_at (hP.1.self hU hW) hP.2 hU hW) (lw_S q1458 q1459 q123 q1460) ⟨by decide, by decide, (by decide +kernel : (parseMethodDescriptor yJ16_charAt.desc).map (fun d => d.parameters.length) = some 2)⟩ ⟨Nat.le_of_ble_eq_true rfl, Nat.le_of_ble_eq_true rfl⟩ hl.1 (Nat.le_of_ble_eq_true rfl) ⟨Nat.le_refl _, Nat.le_refl _⟩ dJ6_charAt_12 rfl (fun r h => ?_)
  subst h
  exact W.zret (pc := 15) (v := ((f i.toNatClampNeg &&& 255).toUInt32 % 65536).toInt32) (Qc := pQ vI (fun r => r = ((f i.toNatClampNeg &&& 255).toUInt32 % 65536).toInt32)) hx hb hr (pk_nc _) (fun t ht hW => s_ret (val := vI) rfl ht) (fun _ hq => absurd hq List.not_mem_nil) dJ6_charAt_15 hlk
end STR
section STRC
variable {p : Program} {l : Launch} {e : Env} {R : Room} {s : State} {m : MethodId} {args : Array Value} {below : List Frame} {meth : Method} {c : Code} {H : Heap} {locs : List Loc} {cells slots : Nat} {Q : State → Prop} {cc : ByteArray} {pc : Nat} {ls : Array Slot} {rest : List Value}
variable {G : gG} {a v n nL index : Nat} {f : Nat → Int32} {own : String}
theorem str_len (S : CallFix p m c cc nL s args lw_all own) (hO : gOk G) (hs : sAt a v n f s H) (hG : ∀ U : State, U.heap = H → s.WarmedH U.vm → gK G U) (hq : GoodIn lw_all (wsV own index RJ6 yJ6_length (ws_ yJ6_length cJ6_length 1 (some .int)))) (hR : 2 ≤ R.frames ∧ 40 ≤ R.locals) (hsz : ls.size = nL) (hr : (rest.map fun v => v.category).sum ≤ 8) (hc : cells ≤ R.cells ∧ slots ≤ R.slots) (d : decode cc pc = .ok (.invokevirtual index, 3))
    (kk : W p l e R s m args below meth c H locs cells slots Q (F0 m (pc + 3) ls (.int (nI n) :: rest))) : W p l e R s m args below meth c H locs cells slots Q (F0 m pc ls (.ref a :: rest)) :=
  h_callV (C := RJ6) (val := vI) (As := []) S (tJ6_length hO) sPre_blind hs.recv (fun U hU hW => sPre_at (hG U hU hW) hs hU hW) hq ⟨rfl, by decide, by decide, (by decide +kernel : (parseMethodDescriptor yJ6_length.desc).map (fun d => d.parameters.length) = some 0)⟩ hR hsz hr hc d rfl (fun r h => by subst h; exact kk)
theorem str_charAt (S : CallFix p m c cc nL s args lw_all own) (hO : gOk G) (hs : sAt a v n f s H) (hn : n < 2 ^ 31) (hG : ∀ U : State, U.heap = H → s.WarmedH U.vm → gK G U) {i : Int32} (hi : vp_in i n) (hq : GoodIn lw_all (wsV own index RJ6 yJ6_charAt (ws_ yJ6_charAt cJ6_charAt 2 (some .char)))) (hR : 4 ≤ R.frames ∧ 85 ≤ R.locals) (hsz : ls.size = nL) (hr : (rest.map fun v => v.category).sum ≤ 8) (hc : cells ≤ R.cells ∧ slots ≤ R.slots) (d : decode cc pc = .ok (.invokevirtual index, 3))
    (kk : W p l e R s m args below meth c H locs cells slots Q (F0 m (pc + 3) ls (.int ((f i.toNatClampNeg &&& 255).toUInt32 % 65536).toInt32 :: rest))) : W p l e R s m args below meth c H locs cells slots Q (F0 m pc ls (.int i :: .ref a :: rest)) :=
  h_callV (C := RJ6) (val := vI) (As := [.int i]) S (tJ6_charAt hO hi hn) sPre_blind hs.recv (fun U hU hW => sPre_at (hG U hU hW) hs hU hW) hq ⟨rfl, by decide, by decide, (by decide +kernel : (parseMethodDescriptor yJ6_charAt.desc).map (fun d => d.parameters.length) = some 1)⟩ hR hsz hr hc d rfl (fun r h => by subst h; exact kk)
end STRC
/-- the letter j of the constant t -/
def sCh (t j : Nat) : Int32 := (((sByt.getD t []).getD j 0 &&& 255).toUInt32 % 65536).toInt32
theorem sLen_lt (t : Nat) : sLen.getD t 0 < 2 ^ 31 := by
  by_cases h : t < sN
  · exact Nat.lt_of_le_of_lt ((by decide : ∀ t, t < sN → sLen.getD t 0 ≤ 100) t h) (by decide)
  · rw [List.getD_eq_getElem?_getD, List.getElem?_eq_none (by simpa using h)]; decide
theorem gK.ref {G : gG} {s : State} (hO : gOk G) (hK : gK G s) {r : String × Nat × String × Nat} (h : r ∈ sRefs) : vk_R r.1 r.2.1 r.2.2.1 (gC G 0 r.2.2.2) s := vk_R.warm hK.1 (hO.2.2.2.2.1 r h)
theorem mX.str {G : gG} {h0 : Nat} {ad : Nat → Nat} {p : Program} {s : State} {m : MethodId} {args : Array Value} {c : Code} {cc : ByteArray} (X : mX G h0 ad p s m args c cc) {r : String × Nat × String × Nat} (h : r ∈ sRefs) : vk_R r.1 r.2.1 r.2.2.1 (gC G 0 r.2.2.2) s := X.2.2.2.2.2.2.ref X.2.2.2.2.2.1.2.1 h
theorem mX.at {G : gG} {h0 : Nat} {ad : Nat → Nat} {p : Program} {s : State} {m : MethodId} {args : Array Value} {c : Code} {cc : ByteArray} {S : MS} {H : Heap} {locs : List Loc} (X : mX G h0 ad p s m args c cc) (hw : mH G h0 ad s S H locs) {t : Nat} (ht : t < sN) : sAt (gC G 0 t) (gC G 1 t) (sLen.getD t 0) (fun j => (sByt.getD t []).getD j 0) s H := sAt.const X.2.2.2.2.2.1.2.1 X.2.2.2.2.2.2 hw.2 X.2.2.2.2.2.1.2.2 ht
theorem mX.go {G : gG} {h0 : Nat} {ad : Nat → Nat} {p : Program} {s U : State} {m : MethodId} {args : Array Value} {c : Code} {cc : ByteArray} {S : MS} {H : Heap} {locs : List Loc} (X : mX G h0 ad p s m args c cc) (hw : mH G h0 ad s S H locs) (hU : U.heap = H) (hW : s.WarmedH U.vm) : gK G U := X.2.2.2.2.2.2.go hw.2 X.2.2.2.2.2.1.2.2 hU hW
theorem va_ldcSw {p : Program} {l : Launch} {e : Env} {R : Room} {s : State} {m : MethodId} {args : Array Value} {below : List Frame} {meth : Method} {c : Code} {H : Heap} {locs : List Loc} {cells slots : Nat} {Q : State → Prop} {cc : ByteArray} {pc : Nat} {ls : Array Slot} {rest : List Value} (hexec : p.tables.exec = Jvm.exec) (hb : c.code = cc) {own tx : String} {index q : Nat} (hown : s.vm.findClass own = some m.cls) (hZ : vk_R own index tx q s) (hdg : decode cc pc = .ok (.ldc_w index, 3))
    (k : W p l e R s m args below meth c H locs cells slots Q (F0 m (pc + 3) ls (.ref q :: rest))) : W p l e R s m args below meth c H locs cells slots Q (F0 m pc ls rest) := by
  intro T hT X
  obtain ⟨t, a1, b1⟩ := k T hT X
  obtain ⟨k0, cf, i, a', hk, hcf, hcp, -, hr, hev'⟩ := Cond.stringRef_spec hown hZ.1
  cases hZ.2.symm.trans hev'
  obtain ⟨k', hk', he⟩ := X.warmed.alike.2.2 _ _ hk
  have hr' : k'.resolved[index]? = some (some (.string q)) := by
    rcases X.warmed.entry hk hk' index with h | ⟨h, -⟩
    · rw [h]; exact hr
    · rw [hr] at h; cases h
  refine ⟨t, ?_, b1⟩
  subst hb
  jvm_step X.here [hexec, hdg, ldc_w.wp_string (e := e) (s := T) (f := F0 m pc ls rest) X.here.top hk' (by rw [he]; exact hcf) hcp hr']
  exact a1
