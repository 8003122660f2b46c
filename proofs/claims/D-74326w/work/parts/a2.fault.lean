set_option maxRecDepth 100000
set_option maxHeartbeats 4000000
/-! fault: the chain of a latest fault -/
/-- a method of the wide world that leans on the heap besides, from its start -/
theorem c_ofWM {l : Launch} {G : gG} {L : va_W} {N : NM} {ρ σ : Type} {val : ρ → Option Value} {post : ρ → σ → Prop} {lw : σ → va_W × NM} {y : MethodName} {bytes : ByteArray} {maxL sz : Nat} {ret : Option FieldType} {As : List Value} {fr lo mc ms : Nat} {M : Heap → Prop} (hy : plainName y.cls = true) (hO : gOk G) (hn : (lg_sl As).length ≤ maxL)
    (body : ∀ (p : Program) (e : Env) (s : State) (m : MethodId) (below : List Frame) (meth : Method) (c : Code) (ls : Array Slot) (A : Nat → Prop), cX G A y.cls p s m As.toArray c bytes maxL → meth.sig.returnType = ret → meth.locks = false → M s.heap → cH G A s L N s.heap [] → lv_has ls maxL (lv_args 0 As) →
      W p l e ⟨fr, mc, ms, lo⟩ s m As.toArray below meth c s.heap [] 0 0 (MQ below (gQ val post (fun u H => cBw G A (lw u).1 (lw u).2 H) A) As.toArray s mc ms A) (F0 m 0 ls [])) :
    Met l y (ws_ y bytes maxL ret) ⟨fr, mc, ms, lo⟩ (va_Pc As (fun U => cPre G L N sz U ∧ M U.heap)) (gQ val post (fun u H => cBw G (cA L N sz) (lw u).1 (lw u).2 H) (cA L N sz)) mc ms (cA L N sz) := by
  refine Met.ofW (cc := bytes) (maxL := maxL) (ret := ret) hy rfl ?_
  intro p e s m args below meth c s₁ B hml hv
  obtain ⟨rfl, ⟨rfl, hP, hK⟩, hM⟩ := hv
  have hts := atoms_spec (ws := ws_ y bytes maxL ret) B.pre
  have hts : ∀ w ∈ lw_all, w.before _ s = true := fun w h => hts w (List.mem_cons_of_mem _ h)
  have hl := lv_entry As (n := maxL) hn
  rw [lg_entry_eq]
  exact body p e s m below meth c _ (cA L N s.heap.size) ⟨⟨B.exec, B.bytes, hml, findClass_of_methodNamed B.named, hts⟩, hK.va hO, hO, hK, fun q h => Or.inr (Or.inr h), cA_le hP hK.le⟩ B.returns B.notSynchronized hM ⟨hP.own _, va_S.rf⟩ hl
/-- the way down to the root -/
def rtC (N : NM) (ch : List Nat) : Nat → Nat → Nat → Prop
  | 0, t, w => t = w ∧ t ∈ ch ∧ ∃ fs, N t = some (eO 3 (va_rf none :: fs))
  | n + 1, t, w => t ∈ ch ∧ ∃ u fs, (N t = some (eO 4 (va_rf (some u) :: fs)) ∨ N t = some (eO 5 (va_rf (some u) :: fs))) ∧ u ≠ t ∧ rtC N ch n u w
theorem tX0_root {l : Launch} {G : gG} (hO : gOk G) {N : NM} {ch : List Nat} {x0 y w n sz : Nat} {g0' g1 g2 g3 g4 g5 g6 g7 g8 g12 g14 g15 g16 g17 g18 : Option Nat} {i9 i10 i13 : Int32}
    (h0 : N x0 = some (eO 1 [va_rf g0', va_rf g1, va_rf g2, va_rf g3, va_rf g4, va_rf g5, va_rf g6, va_rf g7, va_rf g8, .int i9, .int i10, va_rf (some y), va_rf g12, .int i13, va_rf g14, va_rf g15, va_rf g16, va_rf g17, va_rf g18])) (hr : rtC N ch n y w) :
    Met l yX0_root (ws_ yX0_root cX0_root 2 (some (.object "ToldPowers$Wrong"))) ⟨2, 0, 0, 60⟩ (va_Pc [.ref x0] (fun U => cPre G [] N sz U ∧ ∀ a ∈ ch, Mf U.heap a)) (gQ vQ (fun r N' => r = some w ∧ N' = N) (fun u H => cBw G (cA [] N sz) (jW u).1 (jW u).2 H) (cA [] N sz)) 0 0 (cA [] N sz) := by
  refine c_ofWM (M := fun H => ∀ a ∈ ch, Mf H a) (lw := jW) (by decide) hO (Nat.le_of_ble_eq_true rfl) (fun p e s m below meth c ls A X hret hlk hM hw hl => ?_)
  have hl : lv_has ls 2 [(0, .ref x0)] := hl
  have hx := X.1.1
  have hb := X.1.2.1
  have hown := X.1.2.2.2.1
  have hts := X.1.2.2.2.2
  refine lv_aload_n (pc := 0) hx hb dX0_root_0 rfl (lv_at hl 0 rfl) ?_
  refine c_get (pc := 1) X hw h0 in_X0 rfl 11 (by decide) q226 rfl rfl dX0_root_1 ?_
  refine lq_astore_n (pc := 4) (i := 1) (r := some y) (lv' := [(1, .ref y), (0, .ref x0)]) hx hb dX0_root_4 rfl hl (by decide) rfl (fun ls hl => ?_)
  have loop : ∀ (n t : Nat) (ls : Array Slot), rtC N ch n t w → lv_has ls 2 [(1, .ref t), (0, .ref x0)] → W p l e ⟨2, 0, 0, 60⟩ s m [Value.ref x0].toArray below meth c s.heap [] 0 0 (MQ below (gQ vQ (fun r N' => r = some w ∧ N' = N) (fun u H => cBw G A (jW u).1 (jW u).2 H) A) [Value.ref x0].toArray s 0 0 A) (F0 m 5 ls []) := by
    intro n
    induction n with
    | zero =>
      intro t ls hr hl
      obtain ⟨rfl, hin, fs, ht⟩ := hr
      refine lv_aload_n (pc := 5) hx hb dX0_root_5 rfl (lv_at hl 0 rfl) ?_
      refine c_gc (pc := 6) (rest := []) (xn := yGC) X hw ht in_X3 rfl rfl (by decide) rfl (hM _ hin) ⟨rfl, rfl⟩ q161 q163 q166 (by decide) (by decide) (by decide) (by decide) hl.1 (by decide) dX0_root_6 ?_
      refine lq_ifnull (pc := 9) (tgt := 20) hx hb dX0_root_9 rfl (fun _ => ?_) (fun a e => ?_)
      · refine lv_aload_n (pc := 20) hx hb dX0_root_20 rfl (lv_at hl 0 rfl) ?_
        refine c_castS (pc := 21) X hw ht rfl q170 dX0_root_21 ?_
        exact W.aret (pc := 24) (v := va_rf (some _)) hx hb hret (Or.inl ⟨_, rfl⟩) (va_rf_or _) (fun t ht hW => c_ret (val := vQ) (lw := jW) (u := N) hw ⟨rfl, rfl⟩ ht) hw.2.2.2 dX0_root_24 hlk
      · rw [if_neg (by exact fun h => by cases h)] at e; cases e
    | succ n ih =>
      intro t ls hr hl
      obtain ⟨hin, u, fs, ht, hne, hr⟩ := hr
      have e1 : (if some u = some t then none else some u) = some u := if_neg (fun h => hne (Option.some.inj h))
      have gc : ∀ {pc : Nat} {ls : Array Slot}, ls.size = 2 → decode cX0_root pc = .ok (.invokevirtual 130, 3) → W p l e ⟨2, 0, 0, 60⟩ s m [Value.ref x0].toArray below meth c s.heap [] 0 0 (MQ below (gQ vQ (fun r N' => r = some w ∧ N' = N) (fun u H => cBw G A (jW u).1 (jW u).2 H) A) [Value.ref x0].toArray s 0 0 A) (F0 m (pc + 3) ls [va_rf (some u)]) → W p l e ⟨2, 0, 0, 60⟩ s m [Value.ref x0].toArray below meth c s.heap [] 0 0 (MQ below (gQ vQ (fun r N' => r = some w ∧ N' = N) (fun u H => cBw G A (jW u).1 (jW u).2 H) A) [Value.ref x0].toArray s 0 0 A) (F0 m pc ls [.ref t]) := by
        intro pc ls hsz d kk
        rcases ht with ht | ht
        · refine c_gc (rest := []) (xn := yGC) (q := some u) X hw ht in_X8 rfl rfl (by decide) rfl (hM _ hin) ⟨rfl, rfl⟩ q161 q163 q164 (by decide) (by decide) (by decide) (by decide) hsz (by decide) d ?_
          rw [e1]; exact kk
        · refine c_gc (rest := []) (xn := yGC) (q := some u) X hw ht in_X5 rfl rfl (by decide) rfl (hM _ hin) ⟨rfl, rfl⟩ q161 q163 q165 (by decide) (by decide) (by decide) (by decide) hsz (by decide) d ?_
          rw [e1]; exact kk
      refine lv_aload_n (pc := 5) hx hb dX0_root_5 rfl (lv_at hl 0 rfl) ?_
      refine gc (pc := 6) hl.1 dX0_root_6 ?_
      refine lq_ifnull (pc := 9) (tgt := 20) hx hb dX0_root_9 rfl (fun e => by cases e) (fun a e => ?_)
      refine lv_aload_n (pc := 12) hx hb dX0_root_12 rfl (lv_at hl 0 rfl) ?_
      refine gc (pc := 13) hl.1 dX0_root_13 ?_
      refine lq_astore_n (pc := 16) (i := 1) (r := some u) (lv' := [(1, .ref u), (0, .ref x0)]) hx hb dX0_root_16 rfl hl (by decide) rfl (fun ls hl => ?_)
      refine lv_goto (pc := 17) (tgt := 5) hx hb dX0_root_17 rfl ?_
      exact ih u ls hr hl
  exact loop n y ls hr hl
/-- a latest fault: kind, place, outer, inner -/
def fC (N : NM) (ch : List Nat) (y : Nat) (k pl o i : Int) : Prop := y ∈ ch ∧ ∃ r, r ∈ ch ∧ N y = some (oOu r o) ∧ ((i = -1 ∧ ∃ f1 f2 f3 f4 g, N r = some (oWr f1 f2 f3 f4 g k pl)) ∨ ∃ u f1 f2 f3 f4 g, u ∈ ch ∧ N r = some (oIn u i) ∧ N u = some (oWr f1 f2 f3 f4 g k pl))
def fL (N : NM) (ch : List Nat) (lat : Option Nat) (k pl o i : Int) : Prop := (lat = none ∧ k = 0 ∧ pl = -1 ∧ o = -1 ∧ i = -1) ∨ ∃ y, lat = some y ∧ fC N ch y k pl o i
def fvI (x : Int32) (k pl o i : Int) : Int32 := if x = 0 then iI k else if x = 1 then iI pl else if x = 2 then iI o else if x = 3 then iI i else -1
theorem fC.rt {N : NM} {ch : List Nat} {y : Nat} {k pl o i : Int} (h : fC N ch y k pl o i) : ∃ n w f1 f2 f3 f4 g, rtC N ch n y w ∧ N w = some (oWr f1 f2 f3 f4 g k pl) := by
  obtain ⟨hy, r, hr, h1, h2⟩ := h
  rcases h2 with ⟨-, f1, f2, f3, f4, g, h2⟩ | ⟨u, f1, f2, f3, f4, g, hu, h2, h3⟩
  · exact ⟨1, r, f1, f2, f3, f4, g, ⟨hy, r, _, Or.inr h1, (fun c => by rw [c, h1] at h2; cases h2), rfl, hr, _, h2⟩, h2⟩
  · exact ⟨2, u, f1, f2, f3, f4, g, ⟨hy, r, _, Or.inr h1, (fun c => by rw [c, h1] at h2; cases h2), hr, u, _, Or.inl h2, (fun c => by rw [c, h2] at h3; cases h3), rfl, hu, _, h3⟩, h3⟩
theorem tX0_fault {l : Launch} {G : gG} (hO : gOk G) {N : NM} {ch : List Nat} {x0 sz : Nat} {x1 : Int32} {k pl o i : Int} {g0' g1 g2 g3 g4 g5 g6 g7 g8 lat g12 g14 g15 g16 g17 g18 : Option Nat} {i9 i10 i13 : Int32}
    (h0 : N x0 = some (eO 1 [va_rf g0', va_rf g1, va_rf g2, va_rf g3, va_rf g4, va_rf g5, va_rf g6, va_rf g7, va_rf g8, .int i9, .int i10, va_rf lat, va_rf g12, .int i13, va_rf g14, va_rf g15, va_rf g16, va_rf g17, va_rf g18])) (hf : fL N ch lat k pl o i) :
    Met l yX0_fault (ws_ yX0_fault cX0_fault 2 (some .int)) ⟨3, 0, 0, 100⟩ (va_Pc [.ref x0, .int x1] (fun U => cPre G [] N sz U ∧ ∀ a ∈ ch, Mf U.heap a)) (gQ vI (fun r N' => r = fvI x1 k pl o i ∧ N' = N) (fun u H => cBw G (cA [] N sz) (jW u).1 (jW u).2 H) (cA [] N sz)) 0 0 (cA [] N sz) := by
  refine c_ofWM (M := fun H => ∀ a ∈ ch, Mf H a) (lw := jW) (by decide) hO (Nat.le_of_ble_eq_true rfl) (fun p e s m below meth c ls A X hret hlk hM hw hl => ?_)
  have hl : lv_has ls 2 [(0, .ref x0), (1, .int x1)] := hl
  have hx := X.1.1
  have hb := X.1.2.1
  have hown := X.1.2.2.2.1
  have hts := X.1.2.2.2.2
  have ret : ∀ {H1 : Heap} {locs1 : List Loc} {pc : Nat} {v : Int32}, cH G A s [] N H1 locs1 → decode cX0_fault pc = .ok (.ireturn, 1) → v = fvI x1 k pl o i → W p l e ⟨3, 0, 0, 100⟩ s m [Value.ref x0, .int x1].toArray below meth c H1 locs1 0 0 (MQ below (gQ vI (fun r N' => r = fvI x1 k pl o i ∧ N' = N) (fun u H => cBw G A (jW u).1 (jW u).2 H) A) [Value.ref x0, .int x1].toArray s 0 0 A) (F0 m pc ls [.int v]) := fun {H1 locs1 pc v} hw1 d hv =>
    W.iret hx hb hret (fun t ht hW => c_ret (val := vI) (lw := jW) (u := N) hw1 ⟨hv, rfl⟩ ht) hw1.2.2.2 d hlk
  refine lv_aload_n (pc := 0) hx hb dX0_fault_0 rfl (lv_at hl 0 rfl) ?_
  refine c_get (pc := 1) X hw h0 in_X0 rfl 11 (by decide) q226 rfl rfl dX0_fault_1 ?_
  refine lq_ifnonnull (pc := 4) (tgt := 17) hx hb dX0_fault_4 rfl (fun hz => ?_) (fun y hy => ?_)
  · have hF : k = 0 ∧ pl = -1 ∧ o = -1 ∧ i = -1 := by
      rcases hf with ⟨-, hf⟩ | ⟨y, e, -⟩
      · exact hf
      · rw [hz] at e; cases e
    obtain ⟨rfl, rfl, rfl, rfl⟩ := hF
    refine lv_iload_n (pc := 7) hx hb dX0_fault_7 rfl (lv_at hl 1 rfl) ?_
    refine lv_if_ne (pc := 8) (tgt := 15) hx hb dX0_fault_8 rfl (fun c => ?_) (fun c => ?_)
    · refine lv_iconst (pc := 15) (v := (-1 : Int32)) hx hb dX0_fault_15 (by decide) ?_
      refine ret hw dX0_fault_16 ?_
      unfold fvI
      rw [if_neg c]
      split
      · rfl
      split
      · rfl
      split <;> rfl
    · skip
      refine lv_iconst (pc := 11) (v := (0 : Int32)) hx hb dX0_fault_11 (by decide) ?_
      refine lv_goto (pc := 12) (tgt := 16) hx hb dX0_fault_12 rfl ?_
      refine ret hw dX0_fault_16 ?_
      unfold fvI
      rw [if_pos c]; rfl
  · subst hy
    have hC : fC N ch y k pl o i := by
      rcases hf with ⟨e, -⟩ | ⟨y', e, h⟩
      · cases e
      · cases e; exact h
    obtain ⟨n, w, f1, f2, f3, f4, g, hrt, hwr⟩ := hC.rt
    have call : ∀ {pc : Nat}, decode cX0_fault pc = .ok (.invokevirtual 138, 3) → (∀ (H1 : Heap) (locs1 : List Loc), cH G A s [] N H1 locs1 → W p l e ⟨3, 0, 0, 100⟩ s m [Value.ref x0, .int x1].toArray below meth c H1 locs1 0 0 (MQ below (gQ vI (fun r N' => r = fvI x1 k pl o i ∧ N' = N) (fun u H => cBw G A (jW u).1 (jW u).2 H) A) [Value.ref x0, .int x1].toArray s 0 0 A) (F0 m (pc + 3) ls [.ref w])) → W p l e ⟨3, 0, 0, 100⟩ s m [Value.ref x0, .int x1].toArray below meth c s.heap [] 0 0 (MQ below (gQ vI (fun r N' => r = fvI x1 k pl o i ∧ N' = N) (fun u H => cBw G A (jW u).1 (jW u).2 H) A) [Value.ref x0, .int x1].toArray s 0 0 A) (F0 m pc ls [.ref x0]) := fun {pc} d kk => by
      refine c_callJ (val := vQ) X hw (va_runV (C := RX0) (As := []) (rest := []) X.1 (tX0_root X.2.2.1 (sz := s.heap.size) h0 hrt) (cwV 0 hts (lw_V q156 q158 qs0 q102 q160) rfl rfl rfl ⟨rfl, by decide, by decide, (by decide +kernel : (parseMethodDescriptor yX0_root.desc).map (fun d => d.parameters.length) = some 0)⟩ ⟨Nat.le_of_ble_eq_true rfl, Nat.le_of_ble_eq_true rfl⟩) ⟨fun _ _ _ _ q => q, c_recv X hw h0 rfl, fun U hU hW => ⟨rfl, X.preJ hw hU hW, by rw [hU]; exact hM⟩⟩ rfl rfl hl.1 rfl (lv_room (Nat.le_of_ble_eq_true rfl)) d ⟨by decide, by decide⟩) (fun r N1 H1 locs1 h hw1 => ?_)
      obtain ⟨rfl, rfl⟩ := h
      exact kk H1 locs1 hw1
    have hC0 := hC
    obtain ⟨hyc, r, hrc, hyN, hin⟩ := hC
    refine lv_iload_n (pc := 17) hx hb dX0_fault_17 rfl (lv_at hl 1 rfl) ?_
    by_cases c0 : x1 = (0 : Int32)
    · refine lv_tableIn (pc := 18) (tgt := 44) hx hb dX0_fault_18 (by rw [show _ = _ from c0]; decide) (by rw [show _ = _ from c0]; decide) (by rw [show _ = _ from c0]; rfl) rfl ?_
      refine lv_aload_n (pc := 44) hx hb dX0_fault_44 rfl (lv_at hl 0 rfl) ?_
      refine call (pc := 45) dX0_fault_45 (fun H1 locs1 hw1 => ?_)
      refine c_getN (pc := 48) X hw1 hwr in_X3 rfl 6 (by decide) q681 rfl rfl dX0_fault_48 ?_
      exact ret hw1 dX0_fault_51 (by unfold fvI; rw [if_pos c0])
    · by_cases c1 : x1 = (1 : Int32)
      · refine lv_tableIn (pc := 18) (tgt := 52) hx hb dX0_fault_18 (by rw [show _ = _ from c1]; decide) (by rw [show _ = _ from c1]; decide) (by rw [show _ = _ from c1]; rfl) rfl ?_
        refine lv_aload_n (pc := 52) hx hb dX0_fault_52 rfl (lv_at hl 0 rfl) ?_
        refine call (pc := 53) dX0_fault_53 (fun H1 locs1 hw1 => ?_)
        refine c_getN (pc := 56) X hw1 hwr in_X3 rfl 7 (by decide) q683 rfl rfl dX0_fault_56 ?_
        exact ret hw1 dX0_fault_59 (by unfold fvI; rw [if_neg c0, if_pos c1])
      · by_cases c2 : x1 = (2 : Int32)
        · refine lv_tableIn (pc := 18) (tgt := 60) hx hb dX0_fault_18 (by rw [show _ = _ from c2]; decide) (by rw [show _ = _ from c2]; decide) (by rw [show _ = _ from c2]; rfl) rfl ?_
          refine lv_aload_n (pc := 60) hx hb dX0_fault_60 rfl (lv_at hl 0 rfl) ?_
          refine c_get (pc := 61) X hw h0 in_X0 rfl 11 (by decide) q226 rfl rfl dX0_fault_61 ?_
          refine c_getN (pc := 64) X hw hyN in_X5 rfl 6 (by decide) q856 rfl rfl dX0_fault_64 ?_
          exact ret hw dX0_fault_67 (by unfold fvI; rw [if_neg c0, if_neg c1, if_pos c2])
        · refine lv_tableOut (pc := 18) (tgt := 68) hx hb dX0_fault_18 (sw_out3 c0 c1 c2) rfl ?_
          refine lv_iload_n (pc := 68) hx hb dX0_fault_68 rfl (lv_at hl 1 rfl) ?_
          refine lv_iconst (pc := 69) (v := (3 : Int32)) hx hb dX0_fault_69 (by decide) ?_
          have gc : ∀ {pc : Nat}, decode cX0_fault pc = .ok (.invokevirtual 153, 3) → W p l e ⟨3, 0, 0, 100⟩ s m [Value.ref x0, .int x1].toArray below meth c s.heap [] 0 0 (MQ below (gQ vI (fun r N' => r = fvI x1 k pl o i ∧ N' = N) (fun u H => cBw G A (jW u).1 (jW u).2 H) A) [Value.ref x0, .int x1].toArray s 0 0 A) (F0 m (pc + 3) ls [.ref r]) → W p l e ⟨3, 0, 0, 100⟩ s m [Value.ref x0, .int x1].toArray below meth c s.heap [] 0 0 (MQ below (gQ vI (fun r N' => r = fvI x1 k pl o i ∧ N' = N) (fun u H => cBw G A (jW u).1 (jW u).2 H) A) [Value.ref x0, .int x1].toArray s 0 0 A) (F0 m pc ls [.ref y]) := fun {pc} d kk => by
            have hne : r ≠ y := fun c => by
              rcases hin with ⟨-, f1, f2, f3, f4, g, h2⟩ | ⟨u, f1, f2, f3, f4, g, hu, h2, h3⟩
              · rw [c, hyN] at h2; cases h2
              · rw [c, hyN] at h2; cases h2
            refine c_gc (rest := []) (xn := ⟨"ToldPowers$Outer", "getCause", "()Ljava/lang/Throwable;"⟩) (q := some r) X hw hyN in_X5 rfl rfl (by decide) rfl (hM _ hyc) ⟨rfl, rfl⟩ q171 q172 q174 (by decide) (by decide) (by decide) (by decide) hl.1 (by decide) d ?_
            rw [if_neg (fun h => hne (Option.some.inj h))]; exact kk
          refine lv_icmp_ne (pc := 70) (tgt := 102) hx hb dX0_fault_70 rfl (fun c => ?_) (fun c => ?_)
          · refine lv_iconst (pc := 102) (v := (-1 : Int32)) hx hb dX0_fault_102 (by decide) ?_
            exact ret hw dX0_fault_103 (by unfold fvI; rw [if_neg c0, if_neg c1, if_neg c2, if_neg c])
          · skip
            refine lv_aload_n (pc := 73) hx hb dX0_fault_73 rfl (lv_at hl 0 rfl) ?_
            refine c_get (pc := 74) X hw h0 in_X0 rfl 11 (by decide) q226 rfl rfl dX0_fault_74 ?_
            refine gc (pc := 77) dX0_fault_77 ?_
            rcases hin with ⟨ei, f1', f2', f3', f4', g', h2⟩ | ⟨u, f1', f2', f3', f4', g', hu, h2, h3⟩
            · refine va_instNo (pc := 80) hx hb hown (hts _ q175) (X.nc (C := "ToldPowers$Wrong") (and_r (and_r (and_l (and_l (and_r (and_l (and_r (and_l (and_r (and_l X.nar))))))))))) (c_recv X hw h2 rfl) dX0_fault_80 ?_
              refine lv_if_eq (pc := 83) (tgt := 102) hx hb dX0_fault_83 rfl (fun _ => ?_) (fun c => absurd rfl c)
              refine lv_iconst (pc := 102) (v := (-1 : Int32)) hx hb dX0_fault_102 (by decide) ?_
              exact ret hw dX0_fault_103 (by unfold fvI; rw [if_neg c0, if_neg c1, if_neg c2, if_pos c, ei]; rfl)
            · refine va_instS (pc := 80) hx hb hown (hts _ q175) (X.2.1.1 4 _ rfl).2 (c_recv X hw h2 rfl) dX0_fault_80 ?_
              refine lv_if_eq (pc := 83) (tgt := 102) hx hb dX0_fault_83 rfl (fun e => by cases e) (fun _ => ?_)
              refine lv_aload_n (pc := 86) hx hb dX0_fault_86 rfl (lv_at hl 0 rfl) ?_
              refine c_get (pc := 87) X hw h0 in_X0 rfl 11 (by decide) q226 rfl rfl dX0_fault_87 ?_
              refine gc (pc := 90) dX0_fault_90 ?_
              refine c_castS (pc := 93) X hw h2 rfl q175 dX0_fault_93 ?_
              refine c_getN (pc := 96) X hw h2 in_X8 rfl 6 (by decide) q1406 rfl rfl dX0_fault_96 ?_
              refine lv_goto (pc := 99) (tgt := 103) hx hb dX0_fault_99 rfl ?_
              exact ret hw dX0_fault_103 (by unfold fvI; rw [if_neg c0, if_neg c1, if_neg c2, if_pos c])
