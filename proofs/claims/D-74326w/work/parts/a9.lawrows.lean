set_option maxRecDepth 100000
set_option maxHeartbeats 4000000
/-! the law's own method: rows -/
theorem va_D.fst {A : Nat → Prop} {ws ws' : va_W} (h : va_D A ws) (e : ws'.map (fun q => q.1) = ws.map (fun q => q.1)) : va_D A ws' := by
  have at1 : ∀ (i : Nat) (x : Nat × va_E), ws'[i]? = some x → ∃ y, ws[i]? = some y ∧ y.1 = x.1 := fun i x hx => by
    have h1 : (ws'.map (fun q => q.1))[i]? = some x.1 := by rw [List.getElem?_map, hx]; rfl
    rw [e, List.getElem?_map] at h1
    cases hy : ws[i]? with
    | none => rw [hy] at h1; cases h1
    | some y => rw [hy] at h1; exact ⟨y, rfl, Option.some.inj h1⟩
  refine ⟨fun i j x y hi hj hxy => ?_, fun k x hk => ?_⟩
  · obtain ⟨x', a1, a2⟩ := at1 i x hi
    obtain ⟨y', b1, b2⟩ := at1 j y hj
    exact h.1 i j x' y' a1 b1 (by rw [a2, b2]; exact hxy)
  · obtain ⟨x', a1, a2⟩ := at1 k x hk
    rw [← a2]; exact h.2 k x' a1
theorem cBw.toM {G : gG} {A : Nat → Prop} {h0 : Nat} {ad : Nat → Nat} {S : MS} {N : NM} {H : Heap} (h : cBw G A (mW G h0 ad S) N H) : mBw G h0 ad S H := by
  obtain ⟨w, h1, h2, h3⟩ := h
  exact fun k x hk => h1 k x (by rw [List.getElem?_append_left (List.getElem?_eq_some_iff.mp hk).1]; exact hk)
/-- the model's cells change, all others stay -/
theorem cBw.mod {G : gG} {A : Nat → Prop} {h0 : Nat} {ad : Nat → Nat} {S S1 : MS} {N : NM} {H H1 : Heap} (h : cBw G A (mW G h0 ad S) N H) (hB : mBw G h0 ad S1 H1) (hk : ∀ q : Nat, q < H.size → ¬ mAd h0 ad q → H1[q]? = H[q]?) : cBw G A (mW G h0 ad S1) N H1 := by
  obtain ⟨w, h1, h2, h3⟩ := h
  refine ⟨w, ?_, h2.fst (by rw [List.map_append, List.map_append, mW_as, mW_as]), h3⟩
  intro k x hx
  have hlen : (mW G h0 ad S1).length = (mW G h0 ad S).length := rfl
  by_cases hkl : k < (mW G h0 ad S1).length
  · rw [List.getElem?_append_left hkl] at hx
    exact hB k x hx
  · rw [List.getElem?_append_right (by omega)] at hx
    have hx' : (mW G h0 ad S ++ w.map (nQ G))[k]? = some x := by rw [List.getElem?_append_right (by omega)]; exact hx
    have hP := h1 k x hx'
    refine hP.kept (hk x.1 hP.lt (fun hm => ?_))
    have hm : x.1 ∈ (mW G h0 ad S).map (fun q => q.1) := by rw [mW_as]; exact hm
    obtain ⟨y, hy, hyx⟩ := List.mem_map.mp hm
    obtain ⟨j, hj⟩ := List.getElem?_of_mem hy
    have hjl := (List.getElem?_eq_some_iff.mp hj).1
    have := h2.1 j k y x (by rw [List.getElem?_append_left hjl]; exact hj) hx' hyx
    omega
section LW
variable {p : Program} {l : Launch} {e : Env} {R : Room} {s : State} {m : MethodId} {args : Array Value} {below : List Frame} {meth : Method} {c : Code} {H : Heap} {locs : List Loc} {cells slots : Nat} {Q : State → Prop} {cc : ByteArray} {pc : Nat} {ls : Array Slot} {rest : List Value}
variable {G : gG} {A : Nat → Prop} {own : String} {nL : Nat} {L : va_W} {N : NM} {h0 : Nat} {ad : Nat → Nat} {S : MS}
/-- any row, with what it leaves of monitors -/
theorem mo_gen (X : cX G A own p s m args c cc nL) (hw : cH G A s L N H locs) (hcs : cells ≤ R.cells ∧ slots ≤ R.slots) {dc dn : Nat} {PW : Heap → Prop} {g1 g2 : JFrame}
    (row : ∀ (s0 : State) (Q0 : State → Prop), cX G A own p s0 m args c cc nL → cH G A s0 L N H [] → (∀ (H1 : Heap) (locs1 : List Loc), PW H1 → va_S A s0.heap H1 locs1 → W p l e ⟨R.frames, R.cells - cells, R.slots - slots, R.locals⟩ s0 m args below meth c H1 locs1 (0 + dc) (0 + dn) Q0 g2) → W p l e ⟨R.frames, R.cells - cells, R.slots - slots, R.locals⟩ s0 m args below meth c H [] 0 0 Q0 g1)
    (kk : ∀ (H1 : Heap) (locs1 : List Loc), PW H1 → va_S A s.heap H1 locs1 → Mo H H1 → W p l e R s m args below meth c H1 locs1 (cells + dc) (slots + dn) Q g2) : W p l e R s m args below meth c H locs cells slots Q g1 := by
  intro T hT Y
  have Y2 := vx_rebase Y (R' := ⟨R.frames, R.cells - cells, R.slots - slots, R.locals⟩) (Nat.le_refl _) (Nat.le_refl _) (by show cells + (R.cells - cells) ≤ R.cells; omega) (by show slots + (R.slots - slots) ≤ R.slots; omega)
  have hhp : ((T.setVm s.vm).setFrames (.invoking m args :: below)).heap = H := hT
  refine row _ Q (X.late hw hT) ⟨hw.1, by rw [hhp]; exact va_S.rf⟩ (fun H1 locs1 hPW hw1 T1 hT1 Z => ?_) T hT Y2
  have hW0 : s.WarmedH ((T.setVm s.vm).setFrames (.invoking m args :: below)).vm := State.WarmedH.refl s
  have Z' : Stand p l e R s m args below meth c T1 (locs ++ locs1) (cells + dc) (slots + dn) := by
    refine { admits := Y.admits, cas := Y.cas, clock := Y.clock, frames := Y.frames, room := Y.room, hears := Y.hears, method := Y.method, code := Y.code, here := Z.here, tail := Z.tail, warmed := State.WarmedH.trans hW0 Z.warmed, limits := Z.limits.trans (Y2.limits.symm.trans Y.limits), bytes := Z.bytes.trans (Y2.bytes.symm.trans Y.bytes), same := ?_ }
    obtain ⟨e1, e2⟩ := Z.same
    rw [State.setFrames_setFrames] at e1
    have h2 : (T.setVm s.vm).sameButNew (T1.setVm s.vm) locs1 (0 + dc) (0 + dn) := ⟨e1, e2⟩
    have h3 := Y.same.trans h2
    rw [Nat.zero_add, Nat.zero_add] at h3
    exact h3
  have hS1 : va_S A H H1 locs1 := by rw [← hhp]; exact hw1
  refine kk H1 (locs ++ locs1) hPW ⟨Nat.le_trans hw.2.1 hS1.1, fun q h1 h2 => (hS1.2.1 q (Nat.lt_of_lt_of_le h1 hw.2.1) h2).trans (hw.2.2.1 q h1 h2), fun q hq => (List.mem_append.mp hq).elim (hw.2.2.2 q) (hS1.2.2 q)⟩ (fun a ha => ?_) T1 hT1 Z'
  obtain ⟨c9, f1, f2, f3⟩ := ha
  obtain ⟨c8, k1, k2, -⟩ := Z.same.2.2.2.2.2 a c9 (by show T.heap[a]? = _; rw [hT]; exact f1)
  have k3 : H1[a]? = some c8 := by rw [← hT1]; exact k1
  exact ⟨c8, k3, by rw [k2]; exact f2, by rw [k2]; exact f3⟩
/-- behind a call of a method of the model -/
theorem c_callM {ρ : Type} {val : ρ → Option Value} {post : ρ → MS → Prop} {a : Array Value} {st0 : List Value} (X : cX G A own p s m args c cc nL) (hw : cH G A s (mW G h0 ad S) N H locs)
    (hr : va_Run p l e R s m args below meth c H locs cells slots 0 0 (F0 m pc ls st0) rest (gQ val post (mBw G h0 ad) (mAd h0 ad) a) (mAd h0 ad))
    (kk : ∀ (r : ρ) (S1 : MS) (H1 : Heap) (locs1 : List Loc), post r S1 → cH G A s (mW G h0 ad S1) N H1 locs1 → W p l e R s m args below meth c H1 locs1 (cells + 0) (slots + 0) Q (F0 m (pc + 3) ls ((val r).toList ++ rest))) : W p l e R s m args below meth c H locs cells slots Q (F0 m pc ls st0) := by
  intro T hT Y
  obtain ⟨v, st₀, t, T', Ls, h0', X', hL, e1, e2, ⟨⟨r, u, hv, hp, hB⟩, hz, hk⟩, st⟩ := hr T hT Y
  cases hv
  rw [h0'] at hz hk
  have hS := hw.2
  have hin : ∀ q, mAd h0 ad q → A q := fun q hq => by
    have hq : q ∈ (mW G h0 ad S).map (fun q => q.1) := by rw [mW_as]; exact hq
    obtain ⟨x, hx, rfl⟩ := List.mem_map.mp hq
    exact (hw.1.inL hx).1
  obtain ⟨t2, a1, b1⟩ := kk r u T'.heap (locs ++ Ls) hp ⟨by rw [e1]; exact hw.1.mod hB hk, Nat.le_trans hS.1 (by rw [e1]; exact hz), fun q h1 h2 => by rw [e1, hk q (Nat.lt_of_lt_of_le h1 hS.1) (fun z => h2 (hin q z))]; exact hS.2.1 q h1 h2, fun q hq => by
      rcases List.mem_append.mp hq with h | h
      · exact hS.2.2 q h
      · exact hin _ (hL q h)⟩ T' rfl X'
  exact ⟨t2, st t2 a1, b1⟩
theorem c_recvM (X : cX G A own p s m args c cc nL) (hw : cH G A s (mW G h0 ad S) N H locs) : ∃ cell : Cell, H[h0]? = some cell ∧ cell.vm.isStatics = false ∧ s.vm.findClass RX1 = some cell.cls := va_recv (q := (RX1, TX1, 50)) X.2.1 hw.1.toM (ci := 0) (q0 := 0) rfl rfl
/-- behind a call that hands on objects with free monitors -/
theorem c_callK {ρ : Type} {val : ρ → Option Value} {post : ρ → NM × List Nat → Prop} {a : Array Value} {st0 : List Value} {mc ms : Nat} (X : cX G A own p s m args c cc nL) (hw : cH G A s L N H locs)
    (hr : va_Run p l e R s m args below meth c H locs cells slots mc ms (F0 m pc ls st0) rest (gQ val post (fun u H' => cBw G (cA [] N H.size) [] u.1 H' ∧ ∀ a ∈ u.2, Mf H' a) (cA [] N H.size) a) (cA [] N H.size))
    (kk : ∀ (r : ρ) (N1 : NM) (ch : List Nat) (H1 : Heap) (locs1 : List Loc), post r (N1, ch) → cH G A s L N1 H1 locs1 → (∀ q ∈ ch, Mf H1 q) → W p l e R s m args below meth c H1 locs1 (cells + mc) (slots + ms) Q (F0 m (pc + 3) ls ((val r).toList ++ rest))) : W p l e R s m args below meth c H locs cells slots Q (F0 m pc ls st0) := by
  intro T hT Y
  obtain ⟨v, st₀, t, T', Ls, h0', X', hL, e1, e2, ⟨⟨r, u, hv, hp, hB, hF⟩, hz, hk⟩, st⟩ := hr T hT Y
  cases hv
  rw [h0'] at hz hk
  obtain ⟨t2, a1, b1⟩ := kk r u.1 u.2 T'.heap (locs ++ Ls) hp (by rw [e1]; exact cH.joinJ X hw hB hz hk hL) (by rw [e1]; exact hF) T' rfl X'
  exact ⟨t2, st t2 a1, b1⟩
/-- a call of the component that leaves the latest fault -/
theorem lw_comp {ρ : Type} {val : ρ → Option Value} {v : ρ} {PN : NM → Prop} {a : Array Value} {st0 : List Value} {mc ms : Nat} {ch : List Nat} (X : cX G A own p s m args c cc nL) (hw : cH G A s L N H locs) (hch : ∀ q ∈ ch, Mf H q) (hcs : cells ≤ R.cells ∧ slots ≤ R.slots)
    (run : ∀ s0 : State, cX G A own p s0 m args c cc nL → cH G A s0 L N H [] → va_Run p l e ⟨R.frames, R.cells - cells, R.slots - slots, R.locals⟩ s0 m args below meth c H [] 0 0 mc ms (F0 m pc ls st0) rest (gQ val (fun r N' => r = v ∧ PN N') (fun u H' => cBw G (cA [] N H.size) [] u H') (cA [] N H.size) a) (cA [] N H.size))
    (kk : ∀ (N1 : NM) (H1 : Heap) (locs1 : List Loc), PN N1 → cH G A s L N1 H1 locs1 → (∀ q ∈ ch, Mf H1 q) → W p l e R s m args below meth c H1 locs1 (cells + mc) (slots + ms) Q (F0 m (pc + 3) ls ((val v).toList ++ rest))) : W p l e R s m args below meth c H locs cells slots Q (F0 m pc ls st0) :=
  mo_row X hw hcs (g2 := F0 m (pc + 3) ls ((val v).toList ++ rest)) (PN := PN) (fun s0 Q0 X0 hw0 k0 => c_callJ X0 hw0 (run s0 X0 hw0) (fun r N1 H1 locs1 hp hw1 => by
    obtain ⟨rfl, hp⟩ := hp
    exact k0 N1 H1 locs1 hp hw1)) (fun N1 H1 locs1 hp hw1 hMo => kk N1 H1 locs1 hp hw1 (hMo.all hch))
/-- a call of the model -/
theorem lw_mod {ρ : Type} {val : ρ → Option Value} {v : ρ} {PS' : MS → Prop} {a : Array Value} {st0 : List Value} {ch : List Nat} (X : cX G A own p s m args c cc nL) (hw : cH G A s (mW G h0 ad S) N H locs) (hch : ∀ q ∈ ch, Mf H q) (hcs : cells ≤ R.cells ∧ slots ≤ R.slots)
    (run : ∀ s0 : State, cX G A own p s0 m args c cc nL → cH G A s0 (mW G h0 ad S) N H [] → va_Run p l e ⟨R.frames, R.cells - cells, R.slots - slots, R.locals⟩ s0 m args below meth c H [] 0 0 0 0 (F0 m pc ls st0) rest (gQ val (fun r S' => r = v ∧ PS' S') (mBw G h0 ad) (mAd h0 ad) a) (mAd h0 ad))
    (kk : ∀ (S1 : MS) (H1 : Heap) (locs1 : List Loc), PS' S1 → cH G A s (mW G h0 ad S1) N H1 locs1 → (∀ q ∈ ch, Mf H1 q) → W p l e R s m args below meth c H1 locs1 (cells + 0) (slots + 0) Q (F0 m (pc + 3) ls ((val v).toList ++ rest))) : W p l e R s m args below meth c H locs cells slots Q (F0 m pc ls st0) :=
  mo_gen X hw hcs (g2 := F0 m (pc + 3) ls ((val v).toList ++ rest)) (PW := fun H1 => ∃ S1, PS' S1 ∧ cBw G A (mW G h0 ad S1) N H1) (fun s0 Q0 X0 hw0 k0 => c_callM X0 hw0 (run s0 X0 hw0) (fun r S1 H1 locs1 hp hw1 => by
    obtain ⟨rfl, hp⟩ := hp
    exact k0 H1 locs1 ⟨S1, hp, hw1.1⟩ hw1.2)) (fun H1 locs1 hp hS hMo => by
    obtain ⟨S1, hp, hB⟩ := hp
    exact kk S1 H1 locs1 hp ⟨hB, hS⟩ (hMo.all hch))
/-- a call of the component that may leave a new fault -/
theorem lw_compK {ρ : Type} {val : ρ → Option Value} {v : ρ} {PN : List Nat → NM → Prop} {a : Array Value} {st0 : List Value} {mc ms : Nat} (X : cX G A own p s m args c cc nL) (hw : cH G A s L N H locs)
    (run : va_Run p l e R s m args below meth c H locs cells slots mc ms (F0 m pc ls st0) rest (gQ val (fun r (u : NM × List Nat) => r = v ∧ PN u.2 u.1) (fun u H' => cBw G (cA [] N H.size) [] u.1 H' ∧ ∀ a ∈ u.2, Mf H' a) (cA [] N H.size) a) (cA [] N H.size))
    (kk : ∀ (ch : List Nat) (N1 : NM) (H1 : Heap) (locs1 : List Loc), PN ch N1 → cH G A s L N1 H1 locs1 → (∀ q ∈ ch, Mf H1 q) → W p l e R s m args below meth c H1 locs1 (cells + mc) (slots + ms) Q (F0 m (pc + 3) ls ((val v).toList ++ rest))) : W p l e R s m args below meth c H locs cells slots Q (F0 m pc ls st0) :=
  c_callK X hw run (fun r N1 ch H1 locs1 hp hw1 hM => by
    obtain ⟨e, hp⟩ := hp
    rw [e]
    exact kk ch N1 H1 locs1 hp hw1 hM)
end LW
/-- what the law's method knows all along -/
def LCx (G : gG) (h0 : Nat) (ad : Nat → Nat) (p : Program) (m : MethodId) (meth : Method) (c : Code) (b L : Nat) (xs : Nat → Int32) : Prop :=
  cX G (gAz G) R_law p (g0 G) m #[Value.ref b] c code 4 ∧ mOk G h0 ad ∧ kOk (gC G) ∧ va_X b L xs (g0 G) (g0 G).heap ∧ b < (g0 G).heap.size ∧ meth.sig.returnType = ret ∧ meth.locks = false
/-- both objects stand for one state -/
def LIn (G : gG) (a : Nat → Nat) (h0 : Nat) (ad : Nat → Nat) (H : Heap) (locs : List Loc) : Prop := ∃ (σ : PS) (S : MS) (S0 : CS) (N : NM) (ch : List Nat), cH G (gAz G) (g0 G) (mW G h0 ad S) N H locs ∧ mRs σ S ∧ cRt (gC G) a σ ch S0 N ∧ ∀ q ∈ ch, Mf H q
/-- a word of the script -/
theorem lw_ld {p : Program} {l : Launch} {e : Env} {R : Room} {m : MethodId} {below : List Frame} {meth : Method} {c : Code} {H : Heap} {locs : List Loc} {cells slots : Nat} {Q : State → Prop} {pc : Nat} {ls : Array Slot} {rest : List Value} {G : gG} {h0 : Nat} {ad : Nat → Nat} {b L : Nat} {xs : Nat → Int32} {x : Nat} {i j : Int32} {n : Int}
    (C : LCx G h0 ad p m meth c b L xs) (hS : va_S (gAz G) (g0 G).heap H locs) (hl : lv_has ls 4 [(0, .ref b), (1, .ref x), (2, .ref h0), (3, .int i)]) (hin : vp_in (i + j) L) (d0 : decode code pc = .ok (.aload_n 0, 1)) (d1 : decode code (pc + 1) = .ok (.iload_n 3, 1)) (d2 : decode code (pc + 1 + 1) = .ok (.iconst n, 1)) (hn : Int32.ofInt n = j) (d3 : decode code (pc + 1 + 1 + 1) = .ok (.iadd, 1)) (d4 : decode code (pc + 1 + 1 + 1 + 1) = .ok (.iaload, 1))
    (kk : W p l e R (g0 G) m #[Value.ref b] below meth c H locs cells slots Q (F0 m (pc + 1 + 1 + 1 + 1 + 1) ls (.int (xs (i + j).toNatClampNeg) :: rest))) : W p l e R (g0 G) m #[Value.ref b] below meth c H locs cells slots Q (F0 m pc ls rest) := by
  have hx := C.1.1.1
  have hb := C.1.1.2.1
  refine lv_aload_n hx hb d0 rfl (lv_at hl 0 rfl) ?_
  refine lv_iload_n hx hb d1 rfl (lv_at hl 3 rfl) ?_
  refine lv_iconst hx hb d2 hn ?_
  refine lv_iadd hx hb d3 ?_
  exact va_sld hx hb C.2.2.2.1 C.2.2.2.2.1 (Nat.not_le.mpr C.2.2.2.2.1) hS hin d4 kk
theorem lw_ldb {p : Program} {l : Launch} {e : Env} {R : Room} {m : MethodId} {below : List Frame} {meth : Method} {c : Code} {H : Heap} {locs : List Loc} {cells slots : Nat} {Q : State → Prop} {pc : Nat} {ls : Array Slot} {rest : List Value} {G : gG} {h0 : Nat} {ad : Nat → Nat} {b L : Nat} {xs : Nat → Int32} {x : Nat} {i j : Int32} {n : Int}
    (C : LCx G h0 ad p m meth c b L xs) (hS : va_S (gAz G) (g0 G).heap H locs) (hl : lv_has ls 4 [(0, .ref b), (1, .ref x), (2, .ref h0), (3, .int i)]) (hin : vp_in (i + j) L) (d0 : decode code pc = .ok (.aload_n 0, 1)) (d1 : decode code (pc + 1) = .ok (.iload_n 3, 1)) (d2 : decode code (pc + 1 + 1) = .ok (.bipush n, 2)) (hn : (Int8.ofInt n).toInt32 = j) (d3 : decode code (pc + 1 + 1 + 2) = .ok (.iadd, 1)) (d4 : decode code (pc + 1 + 1 + 2 + 1) = .ok (.iaload, 1))
    (kk : W p l e R (g0 G) m #[Value.ref b] below meth c H locs cells slots Q (F0 m (pc + 1 + 1 + 2 + 1 + 1) ls (.int (xs (i + j).toNatClampNeg) :: rest))) : W p l e R (g0 G) m #[Value.ref b] below meth c H locs cells slots Q (F0 m pc ls rest) := by
  have hx := C.1.1.1
  have hb := C.1.1.2.1
  refine lv_aload_n hx hb d0 rfl (lv_at hl 0 rfl) ?_
  refine lv_iload_n hx hb d1 rfl (lv_at hl 3 rfl) ?_
  refine lv_bipush hx hb d2 hn ?_
  refine lv_iadd hx hb d3 ?_
  exact va_sld hx hb C.2.2.2.1 C.2.2.2.2.1 (Nat.not_le.mpr C.2.2.2.2.1) hS hin d4 kk
