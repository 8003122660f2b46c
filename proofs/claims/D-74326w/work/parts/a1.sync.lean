set_option maxRecDepth 100000
set_option maxHeartbeats 4000000
/-! a synchronized method of an object whose monitor is free: the entry, the leave -/
section SYB
variable {l : Launch} {R : Room} {p : Program} {e : Env} {below : List Frame} {s : State} {sargs : Array Value} {y : MethodName} {len W9 : Nat} {m : MethodId} {meth : Method} {c : Code} {U : State} {Ls : List Loc} {c0 s0 : Nat}
theorem sy_back {rm : Room} {bytes : ByteArray} {maxL : Nat} {ret : Option FieldType} {g : JFrame} {ig : Instr} {mk : MethodId} {a : Array Value} {x : Addr} {cell : Cell} {val : Option Value}
    (hplain : plainName y.cls = true) (X : Stand p l e R s m sargs below meth c U Ls c0 s0) (hg : g.method = m) (hsize : g.locals.size = c.maxLocals) (hdg : decode c.code g.pc = .ok (ig, len)) (hW : 2 * g.monitorRoom + (g.stack.map fun v => v.category).sum ≤ W9) (hn : U.methodNamed? y = some mk)
    (hcs : (Cond.codeSync y bytes maxL ret).before a U = true) (hin : (Cond.instanceMethod y).before a U = true) (harg : a[0]? = some (.ref x)) (hcell : U.heap[x]? = some cell) (hent : cell.monitor.owner = none ∧ cell.monitor.count = 0) (hrc : rm.cells = 0) (hrs : rm.slots = 0) (hcR : c0 ≤ R.cells) (hsR : s0 ≤ R.slots)
    (hframes : rm.frames + 1 ≤ R.frames) (hlocals : W9 + (maxL + 11) + rm.locals ≤ R.locals)
    (body : ∀ (s1 : State) (methY : Method) (cY : Code) (fr : List Frame) (T1 : State), s1.vm = U.vm → s1.heap = U.heap → s1.heap[x]? = some cell → cell.enterable s1.cur → s1.vm.findClass y.cls = some mk.cls → cY.code = bytes → cY.maxLocals = maxL → methY.sig.returnType = ret → methY.locks = true → T1.heap = (s1.setCell x (cell.withEntry s1.cur)).heap →
      Stand p l e rm (s1.setCell x (cell.withEntry s1.cur)) mk a fr methY cY T1 [] 0 0 → ∃ s₂, Steps p.tables e fr (T1.setTop (entryFrameSync mk a maxL x)) s₂ ∧ Ended s₂ fr (.returned val) ∧ FrameEnd s1 (.returned val) s₂ [] 0 0 ∧ s₂.heap = s1.heap) :
    ∃ (U2 : State), Stand p l e R s m sargs below meth c U2 Ls c0 s0 ∧ U2.heap = U.heap ∧ Steps p.tables e below (doInvoke e (U.setTop g) [] mk a).1 (U2.setTop { g with pc := g.pc + len, stack := val.toList ++ g.stack }) := by
  obtain ⟨methY, cY, hmY, hcY, hbY, hlY, hrY, hkY, -, -⟩ := Cond.codeSync_spec hn hcs
  have hstY : methY.isStatic = false := by
    obtain ⟨mk', m', q1, q2, q3, q4⟩ := Cond.instanceMethod_spec hin
    cases hn.symm.trans q1
    cases hmY.symm.trans q2
    exact q3
  have h : At U g.method c below := by rw [hg]; exact X.here
  have hroom : (U.calling g mk a).hasRoom e.platform rm = true := X.room_calling (g := g) (R' := rm) hsize hmY hcY hframes (by rw [hlY]; omega) (by omega) (by omega)
  obtain ⟨mid, hmid⟩ := h.above
  have hfr : (U.setTop g).frames = (.java g :: mid) ++ below := by rw [State.frames_setTop' g h.top, hmid]; rfl
  have hf : (U.calling g mk a).frames = .invoking mk a :: (U.setTop g).frames := by rw [State.frames_calling h.top g mk a, State.frames_setTop' g h.top]
  have hrun : (U.calling g mk a).status = .running := h.running
  have hable : (U.calling g mk a).curStatus? = some .runnable := by simpa [State.calling] using h.runnable
  have halone : (U.calling g mk a).alone = true := by simpa [State.calling] using h.alone
  have hcode0 : (U.calling g mk a).code? g.method = some c := by
    have := h.code
    rw [State.code?_eq] at this ⊢
    simpa [State.calling, State.pushFrame, State.setFrames] using this
  have hhears : (U.calling g mk a).hears mk (U.setTop g).frames = true := by
    rw [State.frames_setTop' g h.top]
    simp [State.hears, hcode0, hdg, Except.toOption]
  have hmeth : (U.calling g mk a).vm.method? mk = some methY := hmY
  have hcellS : (U.calling g mk a).heap[x]? = some cell := hcell
  have hcur := State.cur_lt_of_frames hf
  obtain ⟨S0, eS0⟩ : ∃ S0, S0 = U.calling g mk a := ⟨_, rfl⟩
  rw [← eS0] at hroom hf hrun hable halone hcode0 hhears hmeth hcellS hcur
  have hentS : cell.enterable S0.cur := Or.inl hent
  have hcur' : (S0.setCell x (cell.withEntry S0.cur)).cur < (S0.setCell x (cell.withEntry S0.cur)).threads.size := hcur
  have hf1 : ((S0.setCell x (cell.withEntry S0.cur)).setFrames (.java (entryFrameSync mk a maxL x) :: (U.setTop g).frames)).frames = .java (entryFrameSync mk a maxL x) :: (U.setTop g).frames := State.frames_setFrames _ hcur'
  have ht1 := State.topJava?_of_frames hf1
  have hnS : S0.methodNamed? y = some mk := by rw [eS0]; exact hn
  have hpl : ((S0.setCell x (cell.withEntry S0.cur)).setFrames (.java (entryFrameSync mk a maxL x) :: (U.setTop g).frames)).plainMethod mk := State.plainMethod.of_named (s := S0) (plainFor_of_name hplain) hnS hmeth
  have hAt : At ((S0.setCell x (cell.withEntry S0.cur)).setFrames (.java (entryFrameSync mk a maxL x) :: (U.setTop g).frames)) mk cY (U.setTop g).frames :=
    ⟨by rw [ht1]; rfl, ⟨[], by rw [hf1]; rfl⟩, hrun, by simpa using hable, by simpa using halone, by rw [State.code?_eq]; simp [State.setFrames, State.setCell, hmeth, hcY], hpl⟩
  have hstep : (stepThread p.tables e S0).1 = ((S0.setCell x (cell.withEntry S0.cur)).setFrames (.java (entryFrameSync mk a maxL x) :: (U.setTop g).frames)).setTop (entryFrameSync mk a maxL x) := by
    have hfull : e.platform.stackFull (S0.setFrames (U.setTop g).frames).me (S0.setFrames (U.setTop g).frames).frames (cY.maxLocals + 2) = false := by
      obtain ⟨-, h1, -, h2⟩ := State.hasRoom_stack hroom
      rw [hf, List.length_cons] at h1
      rw [State.localsInUse_invoking hf hmeth hcY] at h2
      have hw := stackUse_le_stackWeight (U.setTop g).frames
      rw [State.frames_setFrames _ hcur]
      simp only [vmFrameWords] at h2
      exact Platform.stackFull_eq_false (by rw [State.stackLimits_setFrames]; omega) (by rw [State.stackLimits_setFrames]; omega)
    rw [stepThread_invoking hf, (doInvoke_java_sync (s := S0.setFrames (U.setTop g).frames) (e := e) (meth := methY) (code := cY) (a := x) (cell := cell) hmeth hcY hkY hstY harg hcellS hentS.either hfull).1, State.setTop_self ht1, hlY]
    show (((S0.setFrames (U.setTop g).frames).setCell x (cell.withEntry S0.cur)).setFrames (.java (entryFrameSync mk a maxL x) :: ((S0.setFrames (U.setTop g).frames).setCell x (cell.withEntry S0.cur)).frames)) = _
    rw [show ((S0.setFrames (U.setTop g).frames).setCell x (cell.withEntry S0.cur)).frames = (U.setTop g).frames from State.frames_setFrames _ hcur, State.setCell_setFrames, State.setFrames_setFrames]
  have hdo : (stepThread p.tables e S0).1 = (doInvoke e (U.setTop g) [] mk a).1 := by
    obtain ⟨t, ht, -⟩ := State.frames_cons (show (U.setTop g).frames = .java g :: U.frames.tail from State.frames_setTop' g h.top)
    rw [stepThread_invoking hf, eS0, State.calling, State.pushFrame, State.setFrames_setFrames, State.setFrames_self ht, doInvoke_state]
  obtain ⟨tt, htt, -⟩ := State.frames_cons hf
  have Y : Stand p l e rm (S0.setCell x (cell.withEntry S0.cur)) mk a (U.setTop g).frames methY cY ((S0.setCell x (cell.withEntry S0.cur)).setFrames (.java (entryFrameSync mk a maxL x) :: (U.setTop g).frames)) [] 0 0 := by
    refine ⟨X.admits, X.cas, X.clock, hf, by rw [State.hasRoom_setCell (x := cell.withEntry S0.cur) hcellS rfl]; exact hroom, hhears, hmeth, hcY, hAt, by rw [hf1]; rfl, State.WarmedH.refl (S0.setCell x (cell.withEntry S0.cur)), by rw [State.stackLimits_setFrames], by rw [State.stackBytes_setFrames], ?_⟩
    exact (State.sameButNew.refl (S0.setCell x (cell.withEntry S0.cur)) htt).setFrames (.java (entryFrameSync mk a maxL x) :: (U.setTop g).frames) hcur
  obtain ⟨s₂, hs, hend, hfe, hheap⟩ := body S0 methY cY (U.setTop g).frames ((S0.setCell x (cell.withEntry S0.cur)).setFrames (.java (entryFrameSync mk a maxL x) :: (U.setTop g).frames)) (by rw [eS0]; rfl) (by rw [eS0]; rfl) hcellS hentS (findClass_of_methodNamed hnS) hbY hlY hrY hkY rfl Y
  have hsteps : Steps p.tables e below (doInvoke e (U.setTop g) [] mk a).1 s₂ := by
    rw [← hdo, hstep]
    obtain ⟨n, e1, hw⟩ := hs
    exact ⟨n, e1, fun k hk => Within.weaken (mid := .java g :: mid) (by rw [← hfr]; exact hw k hk)⟩
  rw [State.frames_setTop' g h.top] at hend
  rw [eS0] at hfe hheap
  obtain ⟨⟨v, hv⟩, hW₂, e2, q2, q3, q4, q5, q6⟩ := id hfe
  cases hv
  have e3 : s₂ = ({ (U.calling g mk a).setFrames s₂.frames with heap := s₂.heap, slotsUsed := s₂.slotsUsed } : State).setVm s₂.vm := by
    have : s₂ = ({ s₂ with vm := (U.calling g mk a).vm } : State).setVm s₂.vm := rfl
    rw [e2] at this
    exact this
  obtain ⟨c₂, i₂, len₂, hc₂, hd₂, hf₂⟩ := hend
  have hW' : U.WarmedH s₂.vm := hW₂
  have hcc : c₂ = c := by
    have h1 : s₂.code? g.method = U.code? g.method := by
      rw [State.code?_eq, State.code?_eq, hW'.alike.method?]
    exact Option.some.inj (hc₂.symm.trans (h1.trans h.code))
  subst hcc
  have hlen : len₂ = len := by rw [hdg] at hd₂; cases hd₂; rfl
  subst hlen
  obtain ⟨g₀, hg0⟩ := Option.isSome_iff_exists.mp h.top
  obtain ⟨r, hr⟩ := State.topJava?_eq_some.mp hg0
  have hs₂ : s₂ = (({ U with heap := s₂.heap, slotsUsed := s₂.slotsUsed } : State).setVm s₂.vm).setTop { g with pc := g.pc + len₂, stack := val.toList ++ g.stack } := by
    have hr' : (({ U with heap := s₂.heap, slotsUsed := s₂.slotsUsed } : State).setVm s₂.vm).frames = .java g₀ :: r := hr
    refine e3.trans ?_
    rw [hf₂, State.calling_eq h.top, State.setFrames_setFrames, State.setTop_of_frames _ hr', hr]
    rfl
  have hsame : U.sameButNew ({ U with heap := s₂.heap, slotsUsed := s₂.slotsUsed } : State) [] 0 0 := by
    refine ⟨?_, q2, q3, q4, q5, q6⟩
    obtain ⟨t, ht, -⟩ := State.frames_cons hr
    show ({ U with heap := s₂.heap, slotsUsed := s₂.slotsUsed } : State) = { U.setFrames U.frames with heap := s₂.heap, slotsUsed := s₂.slotsUsed }
    rw [State.setFrames_self ht]
  subst hg
  have hsame2 := X.same.trans (hsame.setVm s.vm)
  rw [List.append_nil, Nat.add_zero, Nat.add_zero] at hsame2
  refine ⟨(({ U with heap := s₂.heap, slotsUsed := s₂.slotsUsed } : State).setVm s₂.vm),
    ⟨X.admits, X.cas, X.clock, X.frames, X.room, X.hears, X.method, X.code, (X.here.setHeapUsed s₂.heap s₂.slotsUsed).setVm hW'.alike, X.tail, State.WarmedH.trans X.warmed hW', X.limits, X.bytes, hsame2⟩, hheap, ?_⟩
  show Steps p.tables e below _ ((({ U with heap := s₂.heap, slotsUsed := s₂.slotsUsed } : State).setVm s₂.vm).setTop { g with pc := g.pc + len₂, stack := val.toList ++ g.stack })
  rw [← hs₂]
  exact hsteps
end SYB
abbrev yGC : MethodName := ⟨"java/lang/Throwable", "getCause", "()Ljava/lang/Throwable;"⟩
section GCB
variable {p : Program} {l : Launch} {e : Env} {R : Room} {s : State} {m : MethodId} {args : Array Value} {below : List Frame} {meth : Method} {c : Code} {H : Heap} {locs : List Loc} {cells slots : Nat} {Q : State → Prop} {cc : ByteArray} {pc : Nat} {ls : Array Slot} {rest : List Value}
abbrev F1 (x : Addr) (m : MethodId) (pc : Nat) (ls : Array Slot) (st : List Value) : JFrame := { method := m, pc := pc, locals := ls, stack := st, locked := some x, monitorRoom := 1 }
theorem s1_aload (hexec : p.tables.exec = Jvm.exec) (hb : c.code = cc) {y : Addr} {k : Fin 4} {i : Nat} {x : Nat} (hdg : decode cc pc = .ok (.aload_n k, 1)) (hi : (k : Nat) = i) (hl : ls[i]? = some (.val (.ref x)))
    (k : W p l e R s m args below meth c H locs cells slots Q (F1 y m (pc + 1) ls (.ref x :: rest))) : W p l e R s m args below meth c H locs cells slots Q (F1 y m pc ls rest) := by
  subst hi
  intro T hT X
  obtain ⟨t, a, b⟩ := k T hT X
  refine ⟨t, ?_, b⟩
  jvm_step X.here [X.here.top, hexec, hb, hdg, hl, Value.isRef]
  exact a
theorem s1_goto (hexec : p.tables.exec = Jvm.exec) (hb : c.code = cc) {y : Addr} {off : Int} {tgt : Nat} (hdg : decode cc pc = .ok (.goto off, 3)) (ht : (pc : Int) + off = (tgt : Int)) (k : W p l e R s m args below meth c H locs cells slots Q (F1 y m tgt ls rest)) : W p l e R s m args below meth c H locs cells slots Q (F1 y m pc ls rest) := by
  intro T hT X
  obtain ⟨t, a, b⟩ := k T hT X
  refine ⟨t, ?_, b⟩
  jvm_step X.here [X.here.top, hexec, hb, hdg, ht]
  exact a
theorem s1_null (hexec : p.tables.exec = Jvm.exec) (hb : c.code = cc) {y : Addr} (hdg : decode cc pc = .ok (.aconst_null, 1)) (k : W p l e R s m args below meth c H locs cells slots Q (F1 y m (pc + 1) ls (.null :: rest))) : W p l e R s m args below meth c H locs cells slots Q (F1 y m pc ls rest) := by
  intro T hT X
  obtain ⟨t, a, b⟩ := k T hT X
  refine ⟨t, ?_, b⟩
  jvm_step X.here [X.here.top, hexec, hb, hdg]
  exact a
theorem s1_acmp (hexec : p.tables.exec = Jvm.exec) (hb : c.code = cc) {y : Addr} {rx : Option Nat} {z : Nat} {off : Int} {tgt : Nat} (hdg : decode cc pc = .ok (.if_acmp .ne off, 3)) (ht : (pc : Int) + off = (tgt : Int))
    (kt : ¬ rx = some z → W p l e R s m args below meth c H locs cells slots Q (F1 y m tgt ls rest)) (kf : rx = some z → W p l e R s m args below meth c H locs cells slots Q (F1 y m (pc + 3) ls rest)) : W p l e R s m args below meth c H locs cells slots Q (F1 y m pc ls (.ref z :: va_rf rx :: rest)) := by
  intro T hT X
  by_cases hP : rx = some z
  · obtain ⟨t, a, b⟩ := kf hP T hT X
    refine ⟨t, ?_, b⟩
    subst hP
    jvm_step X.here [X.here.top, hexec, hb, hdg, va_rf, Value.asRef?, Op.if_acmp.holds, ht]
    exact a
  · obtain ⟨t, a, b⟩ := kt hP T hT X
    refine ⟨t, ?_, b⟩
    cases rx with
    | none =>
      jvm_step X.here [X.here.top, hexec, hb, hdg, va_rf, Value.asRef?, Op.if_acmp.holds, ht]
      exact a
    | some w =>
      have hne : ¬ w = z := fun q => hP (by rw [q])
      jvm_step X.here [X.here.top, hexec, hb, hdg, va_rf, Value.asRef?, Op.if_acmp.holds, ht, hne]
      exact a
/-- a synchronized method hands back a reference -/
theorem s1_areturn {x : Addr} {cell : Cell} {r : Option Nat} {D : String} (hexec : p.tables.exec = Jvm.exec) (hb : c.code = cc) (hs : s.heap[x]? = some cell) (hent : cell.enterable s.cur) (hlk : meth.locks = true) (hret : meth.sig.returnType = some (.object D)) (hdg : decode cc pc = .ok (.areturn, 1)) :
    W p l e R (s.setCell x (cell.withEntry s.cur)) m args below meth c (s.setCell x (cell.withEntry s.cur)).heap [] 0 0 (fun t => Ended t below (.returned (some (va_rf r))) ∧ FrameEnd s (.returned (some (va_rf r))) t [] 0 0 ∧ t.heap = s.heap) (F1 x m pc ls [va_rf r]) := by
  intro T hT X
  obtain ⟨fs, DT, q1, hretq, hrun, hended, hWend, hsame⟩ := X.leaveSync hs hent hlk (v := some (va_rf r)) (fun h => by rw [hret] at h; cases h)
  have hlt : x < s.heap.size := (Array.getElem?_eq_some_iff.mp hs).1
  have hDT : DT = cell.withEntry s.cur := by
    have : (s.setCell x (cell.withEntry s.cur)).heap[x]? = some (cell.withEntry s.cur) := State.heap_setCell_self hs
    rw [hT] at q1
    exact Option.some.inj (q1.symm.trans this)
  have hheap : ((T.setCell x DT.left).setFrames fs).heap = s.heap := by
    rw [hDT, Cell.left_withEntry' hent]
    show T.heap.setIfInBounds x cell = s.heap
    rw [hT]
    show (s.heap.setIfInBounds x (cell.withEntry s.cur)).setIfInBounds x cell = s.heap
    apply Array.ext_getElem?
    intro i
    by_cases hi : i = x
    · subst hi
      rw [hs]
      simp [hlt]
    · simp [Array.getElem?_setIfInBounds, Ne.symm hi, fun h : x = i => hi h.symm]
  refine ⟨(T.setCell x DT.left).setFrames fs, ?_, hended, ⟨⟨_, rfl⟩, hWend, hsame⟩, hheap⟩
  have hm' : T.vm.method? m = some meth := X.method'
  cases r with
  | none =>
    have hq : ∀ (acts : List Action), (doReturn e (T.setTop (F1 x m pc ls [])) acts (some .null)).1 = (T.setCell x DT.left).setFrames fs := fun acts => hretq _ acts rfl rfl rfl
    jvm_step X.here [X.here.top, hexec, hb, hdg, hm', hret, va_rf, narrow, Value.isRef, FieldType.isReference]
    intro acts
    rw [hq acts]
    exact Steps.refl _
  | some w =>
    have hq : ∀ (acts : List Action), (doReturn e (T.setTop (F1 x m pc ls [])) acts (some (.ref w))).1 = (T.setCell x DT.left).setFrames fs := fun acts => hretq _ acts rfl rfl rfl
    jvm_step X.here [X.here.top, hexec, hb, hdg, hm', hret, va_rf, narrow, Value.isRef, FieldType.isReference]
    intro acts
    rw [hq acts]
    exact Steps.refl _
end GCB
theorem dGC0 : decode prog_48_method_8_code 0 = .ok (.aload_n 0, 1) := by decide +kernel
theorem dGC1 : decode prog_48_method_8_code 1 = .ok (.getfield 7, 3) := by decide +kernel
theorem dGC4 : decode prog_48_method_8_code 4 = .ok (.aload_n 0, 1) := by decide +kernel
theorem dGC5 : decode prog_48_method_8_code 5 = .ok (.if_acmp .ne 7, 3) := by decide +kernel
theorem dGC8 : decode prog_48_method_8_code 8 = .ok (.aconst_null, 1) := by decide +kernel
theorem dGC9 : decode prog_48_method_8_code 9 = .ok (.goto 7, 3) := by decide +kernel
theorem dGC12 : decode prog_48_method_8_code 12 = .ok (.aload_n 0, 1) := by decide +kernel
theorem dGC13 : decode prog_48_method_8_code 13 = .ok (.getfield 7, 3) := by decide +kernel
theorem dGC16 : decode prog_48_method_8_code 16 = .ok (.areturn, 1) := by decide +kernel
section GCR
variable {p : Program} {l : Launch} {e : Env} {R : Room} {s : State} {m : MethodId} {args : Array Value} {below : List Frame} {meth : Method} {c : Code} {H : Heap} {locs : List Loc} {cells slots : Nat} {Q : State → Prop} {cc : ByteArray} {pc : Nat} {ls : Array Slot} {rest : List Value}
variable {G : gG} {A : Nat → Prop} {own : String} {nL : Nat} {L : va_W} {N : NM}
/-- getCause of an object whose monitor is free -/
theorem c_gc (X : cX G A own p s m args c cc nL) (hw : cH G A s L N H locs) {x ci : Nat} {fs : List Value} (ha : N x = some (eO ci fs)) {C : String} {T : u_T} {Nf : Nat} {fb : Bool} (hin : ∀ w ∈ u_ws C T Nf, w ∈ lw_all) (hc : vwCl[ci]? = some (C, T, Nf)) (hT0 : T 0 = ("java/lang/Throwable", "cause", "Ljava/lang/Throwable;", fb)) (hk : 0 < Nf) {q : Option Nat} (hv : fs[0]? = some (va_rf q)) (hm : Mf H x) {index : Nat} {xn : MethodName} (hxn : xn.name = "getCause" ∧ xn.desc = "()Ljava/lang/Throwable;") (hl : Cond.methodLink own index xn ∈ lw_all) (hsm : Cond.sameMethod xn.cls "java/lang/Throwable" xn.name xn.desc ∈ lw_all) (hsel : Cond.selects C xn yGC ∈ lw_all) (hfr : 2 ≤ R.frames) (hlo : 8 + 12 + 20 ≤ R.locals) (hcR : cells ≤ R.cells) (hsR : slots ≤ R.slots) (hsz : ls.size = nL) (hrest : (rest.map fun v => v.category).sum ≤ 8) (d : decode cc pc = .ok (.invokevirtual index, 3))
    (kk : W p l e R s m args below meth c H locs cells slots Q (F0 m (pc + 3) ls (va_rf (if q = some x then none else q) :: rest))) : W p l e R s m args below meth c H locs cells slots Q (F0 m pc ls (.ref x :: rest)) := by
  obtain ⟨hexec, hb, hml, hown, hts⟩ := X.1
  obtain ⟨ws, q0, hP, -, h0⟩ := hw.1.get ha
  obtain ⟨r, hr1, cell, q1, q2, q3, q4⟩ := hP q0 _ h0
  have hr : r = (C, T, Nf) := Option.some.inj (hr1.symm.trans hc)
  subst hr
  obtain ⟨hS, hfc, kC, hkC, hkind⟩ := X.2.1.1 ci _ hc
  obtain ⟨cf, kf, fi, f, hi, hsl⟩ := hS 0 hk
  have hstf := (u_facts hfc hkC (u_lays hts hin hk) hi).1
  have hslot : cell.slots[f.slot]? = some (va_rf q) := by
    rw [hsl, q4 0 hk]
    simp [vp_V, hv]
  obtain ⟨cM, hcM, hmon⟩ := hm
  have hcM : cM = cell := Option.some.inj (hcM.symm.trans q1)
  subst hcM
  intro T1 hT1 Y
  obtain ⟨mk, methM, hnamed, hmethM, hstM, habM⟩ := Cond.instanceMethod_spec (hts _ q162)
  obtain ⟨methM', cM', hmethM', -, -, -, -, -, -, hsigM⟩ := Cond.codeSync_spec hnamed (hts _ q169)
  cases hmethM.symm.trans hmethM'
  obtain ⟨cn, ck, r1, hcn, hck, hni, hf, hn1⟩ := Cond.sameMethod_found (hts _ hsm)
  have hn1' : s.methodNamed? yGC = some r1 := by
    rw [hxn.1, hxn.2] at hn1
    exact hn1
  cases hnamed.symm.trans hn1'
  obtain ⟨c2, r2, m2, e1, e2, e3, e4, kP, hkP, hkPi⟩ := Cond.selects_spec (hts _ hsel)
  have hcls : s.vm.findClass C = some cM.cls := by rw [q2]; exact hfc
  cases hcls.symm.trans e1
  cases hf.symm.trans e2
  cases hnamed.symm.trans e3
  have hselP : selectMethod e.platform s.vm cM.cls mk = .method mk := by rw [Launch.admits_selectMethod Y.admits]; exact e4
  have hcT : T1.heap[x]? = some cM := by rw [hT1]; exact q1
  obtain ⟨vm₁, X₁, hstep₁⟩ := Y.invokevirtualUp hexec hown (hts _ hl) (hts _ hsm) (by decide) hn1 hmethM hstM (a := x) (cell := cM) hcT (fun z h => by rw [q3] at h; cases h) hselP hmethM habM hkP hkPi (g := F0 m pc ls (.ref x :: rest)) rfl (argsL := []) (rest := rest) (by
    have : parseMethodDescriptor "()Ljava/lang/Throwable;" = some methM.sig := hsigM
    rw [show parseMethodDescriptor "()Ljava/lang/Throwable;" = some ⟨[], some (.object "java/lang/Throwable")⟩ by decide +kernel] at this
    rw [← Option.some.inj this]; rfl) rfl (by rw [hb]; exact d)
  have hlinkF := X.1.2.2.2.2 _ q332
  obtain ⟨U2, Z, hU2, hst⟩ := sy_back (y := yGC) (rm := ⟨1, 0, 0, 20⟩) (bytes := prog_48_method_8_code) (maxL := 1) (ret := some (.object "java/lang/Throwable")) (W9 := 8) (len := 3) (g := F0 m pc ls rest) (ig := .invokevirtual index) (a := #[.ref x]) (x := x) (cell := cM) (val := some (va_rf (if q = some x then none else q))) (by decide) X₁ rfl (hsz.trans hml.symm) (by rw [hb]; exact d) (by simpa using hrest) (X₁.named hnamed)
    (word_at X₁.warmed (Or.inl (by first | rfl | simp [Cond.onTables, Cond.keeps, Cond.steady])) (hts _ q169)) (word_at X₁.warmed (Or.inl (by first | rfl | simp [Cond.onTables, Cond.keeps, Cond.steady])) (hts _ q162)) rfl hcT hmon rfl rfl hcR hsR hfr (by omega)
    (fun s1 methY cY fr T2 hvm hheap hc1 hen hfcY hbY hlY hrY hkY hT2 Y2 => by
      have hWs : s.WarmedH (s1.setCell x (cM.withEntry s1.cur)).vm := by
        show s.WarmedH s1.vm
        rw [hvm]; exact X₁.warmed
      have hts1 : ∀ w ∈ lw_all, w.before #[.ref x] (s1.setCell x (cM.withEntry s1.cur)) = true := fun w h => pay_in hts (fun w hw => lw_self _ hw) w h _ _ hWs
      have hK1 := va_K.moved hWs.alike X.2.1
      obtain ⟨hS1, hfc1, kC1, hkC1, hkind1⟩ := hK1.1 ci _ hc
      obtain ⟨cf1, kf1, fi1, f1, hi1, hsl1⟩ := hS1 0 hk
      have hst1 := (u_facts hfc1 hkC1 (u_lays hts1 hin hk) hi1).1
      have hslot1 : (cM.withEntry s1.cur).slots[f1.slot]? = some (va_rf q) := by
        show cM.slots[f1.slot]? = _
        rw [hsl1, q4 0 hk]
        simp [vp_V, hv]
      dsimp only at hi1
      rw [hT0] at hi1
      have hcell1 : (s1.setCell x (cM.withEntry s1.cur)).heap[x]? = some (cM.withEntry s1.cur) := State.heap_setCell_self hc1
      have hvmc : (cM.withEntry s1.cur).vm ≠ .unknown := by
        show cM.vm ≠ .unknown
        rw [q3]; exact fun h => by cases h
      have run : W p l e ⟨1, 0, 0, 20⟩ (s1.setCell x (cM.withEntry s1.cur)) mk #[.ref x] fr methY cY (s1.setCell x (cM.withEntry s1.cur)).heap [] 0 0 (fun t => Ended t fr (.returned (some (va_rf (if q = some x then none else q)))) ∧ FrameEnd s1 (.returned (some (va_rf (if q = some x then none else q)))) t [] 0 0 ∧ t.heap = s1.heap) (F1 x mk 0 (argsToLocals #[.ref x] 1) []) := by
        refine s1_aload (pc := 0) (i := 0) hexec hbY dGC0 rfl rfl ?_
        refine W.getf hexec hbY (own := "java/lang/Throwable") (s := s1.setCell x (cM.withEntry s1.cur)) hfcY (hts1 _ q332) hi1 hst1 hcell1 hvmc hslot1 (g := F1 x mk 1 (argsToLocals #[.ref x] 1) [.ref x]) rfl rfl dGC1 ?_
        refine s1_aload (pc := 4) (i := 0) hexec hbY dGC4 rfl rfl ?_
        refine s1_acmp (pc := 5) (tgt := 12) hexec hbY dGC5 (by decide) (fun ne => ?_) (fun eq => ?_)
        · rw [if_neg ne]
          refine s1_aload (pc := 12) (i := 0) hexec hbY dGC12 rfl rfl ?_
          refine W.getf hexec hbY (own := "java/lang/Throwable") (s := s1.setCell x (cM.withEntry s1.cur)) hfcY (hts1 _ q332) hi1 hst1 hcell1 hvmc hslot1 (g := F1 x mk 13 (argsToLocals #[.ref x] 1) [.ref x]) rfl rfl dGC13 ?_
          exact s1_areturn (pc := 16) hexec hbY hc1 hen hkY hrY dGC16
        · rw [if_pos eq]
          refine s1_null (pc := 8) hexec hbY dGC8 ?_
          refine s1_goto (pc := 9) (tgt := 16) hexec hbY dGC9 (by decide) ?_
          exact s1_areturn (r := none) (pc := 16) hexec hbY hc1 hen hkY hrY dGC16
      obtain ⟨s₂, st, hQ1, hQ2, hQ3⟩ := run T2 hT2 Y2
      exact ⟨s₂, st, hQ1, hQ2, hQ3⟩)
  obtain ⟨t, a1, b1⟩ := kk U2 (by rw [hU2]; exact hT1) Z
  refine ⟨t, hstep₁ _ (fun acts => ?_), b1⟩
  rw [doInvoke_state]
  exact hst.trans a1
end GCR
