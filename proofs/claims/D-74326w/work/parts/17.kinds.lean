set_option maxRecDepth 100000
set_option maxHeartbeats 4000000
/-! calls of methods of a class that isn't said to be initialised (an enum constant's own class): the body is walked, the class's state doesn't matter -/
def co_Body (p : Program) (l : Launch) (e : Env) (rm : Room) (y : MethodName) (bytes : ByteArray) (maxL : Nat) (ret : Option FieldType) (s0 : State) (Pc : Array Value → State → Prop) (Qc : Array Value → State → Outcome → State → Prop) (mc ms : Nat) (free : Addr → Prop) : Prop :=
  ∀ (s : State) (m : MethodId) (args : Array Value) (below : List Frame) (meth : Method) (c : Code), s0.WarmedH s.vm → s.vm.findClass y.cls = some m.cls → c.code = bytes → c.maxLocals = maxL → meth.sig.returnType = ret → meth.locks = false → Pc args s →
    W p l e rm s m args below meth c s.heap [] 0 0 (MQ below Qc args s mc ms free) (entryFrame m args maxL)
section COB
variable {l : Launch} {R : Room} {p : Program} {e : Env} {below : List Frame} {s : State} {sargs : Array Value} {y : MethodName} {len W9 : Nat}
theorem co_back {rm : Room} {Pc : Array Value → State → Prop} {Qc : Array Value → State → Outcome → State → Prop} {mc ms : Nat} {free : Addr → Prop} {bytes : ByteArray} {maxL : Nat} {ret : Option FieldType}
    (hplain : plainName y.cls = true) (hB : co_Body p l e rm y bytes maxL ret s Pc Qc mc ms free) (hblind : FrameBlind Pc) (hrc : rm.cells = mc) (hrs : rm.slots = ms)
    (hframes : rm.frames + 1 ≤ R.frames) (hlocals : W9 + (maxL + 11) + rm.locals ≤ R.locals) (hcode : ∀ a' U, s.WarmedH U.vm → (Cond.code y bytes maxL ret).before a' U = true) :
    Back l R p e below s sargs y len W9 (PreOf R mc ms Pc) (PostOf Qc mc ms free) := by
  intro m meth c A g ig mk a X hg hsize hdg hW hn hp
  have h2 : (Cond.code y bytes maxL ret).before a A.U = true := hcode _ _ X.warmed
  have h4 : A.cells + rm.cells ≤ R.cells := by rw [hrc]; exact hp.1
  have h5 : A.slots + rm.slots ≤ R.slots := by rw [hrs]; exact hp.2.1
  have hPc : Pc a (A.U.calling g mk a) := hblind _ _ _ _ hp.2.2
  obtain ⟨U, Ls, c0, s0⟩ := A
  dsimp only [Pt.U, Pt.locs, Pt.cells, Pt.slots] at h2 h4 h5 X hn hPc ⊢
  obtain ⟨methY, cY, hmY, hcY, hbY, hlY, hrY, hkY, -, -⟩ := Cond.code_spec hn h2
  have h : At U g.method c below := by rw [hg]; exact X.here
  have hroom : (U.calling g mk a).hasRoom e.platform rm = true := X.room_calling (g := g) (R' := rm) hsize hmY hcY hframes (by rw [hlY]; omega) h4 h5
  obtain ⟨mid, hmid⟩ := h.above
  have hfr : (U.setTop g).frames = (.java g :: mid) ++ below := by rw [State.frames_setTop' g h.top, hmid]; rfl
  have hf : (U.calling g mk a).frames = .invoking mk a :: (U.setTop g).frames := by rw [State.frames_calling h.top g mk a, State.frames_setTop' g h.top]
  have hrun : (U.calling g mk a).status = .running := h.running
  have hable : (U.calling g mk a).curStatus? = some .runnable := by simpa [State.calling] using h.runnable
  have halone : (U.calling g mk a).alone = true := by simpa [State.calling] using h.alone
  have hcode0 : (U.calling g mk a).code? g.method = some c := by
    have := h.code
    rw [State.code?_eq] at this ⊢
    simpa [State.calling, State.pushFrame, State.setFrames] using this
  have hhears : (U.calling g mk a).hears mk (U.setTop g).frames = true := by
    rw [State.frames_setTop' g h.top]
    simp [State.hears, hcode0, hdg, Except.toOption]
  have hmeth : (U.calling g mk a).vm.method? mk = some methY := hmY
  have hcur := State.cur_lt_of_frames hf
  have hf1 : ((U.calling g mk a).setFrames (.java (entryFrame mk a maxL) :: (U.setTop g).frames)).frames = .java (entryFrame mk a maxL) :: (U.setTop g).frames := State.frames_setFrames _ hcur
  have ht1 := State.topJava?_of_frames hf1
  have hpl : ((U.calling g mk a).setFrames (.java (entryFrame mk a maxL) :: (U.setTop g).frames)).plainMethod mk := State.plainMethod.of_named (s := U.calling g mk a) (plainFor_of_name hplain) hn hmeth
  have hAt : At ((U.calling g mk a).setFrames (.java (entryFrame mk a maxL) :: (U.setTop g).frames)) mk cY (U.setTop g).frames :=
    ⟨by rw [ht1]; rfl, ⟨[], by rw [hf1]; rfl⟩, hrun, by simpa using hable, by simpa using halone, by rw [State.code?_eq]; simp [State.setFrames, hmeth, hcY], hpl⟩
  have hstep : (stepThread p.tables e (U.calling g mk a)).1 = ((U.calling g mk a).setFrames (.java (entryFrame mk a maxL) :: (U.setTop g).frames)).setTop (entryFrame mk a maxL) := by
    have hfull : e.platform.stackFull ((U.calling g mk a).setFrames (U.setTop g).frames).me ((U.calling g mk a).setFrames (U.setTop g).frames).frames cY.maxLocals = false := by
      obtain ⟨-, h1, -, h2⟩ := State.hasRoom_stack hroom
      rw [hf, List.length_cons] at h1
      rw [State.localsInUse_invoking hf hmeth hcY] at h2
      have hw := stackUse_le_stackWeight (U.setTop g).frames
      rw [State.frames_setFrames _ hcur]
      exact Platform.stackFull_eq_false (by rw [State.stackLimits_setFrames]; omega) (by rw [State.stackLimits_setFrames]; omega)
    rw [stepThread_invoking hf, (doInvoke_java (s := (U.calling g mk a).setFrames (U.setTop g).frames) (e := e) (meth := methY) (code := cY) hmeth hcY hkY hfull).1, State.setTop_self ht1]
    simp only [State.pushFrame, State.frames_setFrames _ hcur, State.setFrames_setFrames, hlY, entryFrame]
  have hdo : (stepThread p.tables e (U.calling g mk a)).1 = (doInvoke e (U.setTop g) [] mk a).1 := by
    obtain ⟨t, ht, -⟩ := State.frames_cons (show (U.setTop g).frames = .java g :: U.frames.tail from State.frames_setTop' g h.top)
    rw [stepThread_invoking hf, State.calling, State.pushFrame, State.setFrames_setFrames, State.setFrames_self ht, doInvoke_state]
  obtain ⟨tt, htt, -⟩ := State.frames_cons hf
  have Y : Stand p l e rm (U.calling g mk a) mk a (U.setTop g).frames methY cY ((U.calling g mk a).setFrames (.java (entryFrame mk a maxL) :: (U.setTop g).frames)) [] 0 0 := by
    refine ⟨X.admits, X.cas, X.clock, hf, hroom, hhears, hmeth, hcY, hAt, by rw [hf1]; rfl, State.WarmedH.refl _, by rw [State.stackLimits_setFrames], by rw [State.stackBytes_setFrames], ?_⟩
    exact (State.sameButNew.refl (U.calling g mk a) htt).setFrames (.java (entryFrame mk a maxL) :: (U.setTop g).frames) hcur
  obtain ⟨s₂, hs, o, -, hend, hq', L, hfe, hL⟩ := hB (U.calling g mk a) mk a (U.setTop g).frames methY cY X.warmed (findClass_of_methodNamed hn) hbY hlY hrY hkY hPc ((U.calling g mk a).setFrames (.java (entryFrame mk a maxL) :: (U.setTop g).frames)) rfl Y
  have hsteps : Steps p.tables e below (doInvoke e (U.setTop g) [] mk a).1 s₂ := by
    rw [← hdo, hstep]
    obtain ⟨n, e1, hw⟩ := hs
    exact ⟨n, e1, fun k hk => Within.weaken (mid := .java g :: mid) (by rw [← hfr]; exact hw k hk)⟩
  rw [State.frames_setTop' g h.top] at hend
  obtain ⟨⟨v, rfl⟩, hW₂, e2, q2, q3, q4, q5, q6⟩ := id hfe
  have e3 : s₂ = ({ (U.calling g mk a).setFrames s₂.frames with heap := s₂.heap, slotsUsed := s₂.slotsUsed } : State).setVm s₂.vm := by
    have : s₂ = ({ s₂ with vm := (U.calling g mk a).vm } : State).setVm s₂.vm := rfl
    rw [e2] at this
    exact this
  obtain ⟨c₂, i₂, len₂, hc₂, hd₂, hf₂⟩ := hend
  have hW' : U.WarmedH s₂.vm := hW₂
  have hcc : c₂ = c := by
    have h1 : s₂.code? g.method = U.code? g.method := by
      rw [State.code?_eq, State.code?_eq, hW'.alike.method?]
    exact Option.some.inj (hc₂.symm.trans (h1.trans h.code))
  subst hcc
  have hlen : len₂ = len := by rw [hdg] at hd₂; cases hd₂; rfl
  subst hlen
  obtain ⟨g₀, hg0⟩ := Option.isSome_iff_exists.mp h.top
  obtain ⟨r, hr⟩ := State.topJava?_eq_some.mp hg0
  have hs₂ : s₂ = (({ U with heap := s₂.heap, slotsUsed := s₂.slotsUsed } : State).setVm s₂.vm).setTop { g with pc := g.pc + len₂, stack := v.toList ++ g.stack } := by
    have hr' : (({ U with heap := s₂.heap, slotsUsed := s₂.slotsUsed } : State).setVm s₂.vm).frames = .java g₀ :: r := hr
    refine e3.trans ?_
    rw [hf₂, State.calling_eq h.top, State.setFrames_setFrames, State.setTop_of_frames _ hr', hr]
    rfl
  have hsame : U.sameButNew ({ U with heap := s₂.heap, slotsUsed := s₂.slotsUsed } : State) L mc ms := by
    refine ⟨?_, q2, q3, q4, q5, q6⟩
    obtain ⟨t, ht, -⟩ := State.frames_cons hr
    show ({ U with heap := s₂.heap, slotsUsed := s₂.slotsUsed } : State) = { U.setFrames U.frames with heap := s₂.heap, slotsUsed := s₂.slotsUsed }
    rw [State.setFrames_self ht]
  subst hg
  refine ⟨v, ⟨(({ U with heap := s₂.heap, slotsUsed := s₂.slotsUsed } : State).setVm s₂.vm), Ls ++ L, c0 + mc, s0 + ms⟩,
    ⟨X.admits, X.cas, X.clock, X.frames, X.room, X.hears, X.method, X.code, (X.here.setHeapUsed s₂.heap s₂.slotsUsed).setVm hW'.alike, X.tail, State.WarmedH.trans X.warmed hW', X.limits, X.bytes, X.same.trans (hsame.setVm s.vm)⟩,
    ⟨g, mk, s₂, L, rfl, rfl, hq', rfl, hL, rfl, rfl⟩, ?_⟩
  show Steps p.tables e below _ ((({ U with heap := s₂.heap, slotsUsed := s₂.slotsUsed } : State).setVm s₂.vm).setTop { g with pc := g.pc + len₂, stack := v.toList ++ g.stack })
  rw [← hs₂]
  exact hsteps
end COB
section COR
variable {p : Program} {l : Launch} {e : Env} {R : Room} {s : State} {m : MethodId} {args : Array Value} {below : List Frame} {meth : Method} {c : Code} {H : Heap} {locs : List Loc} {cells slots : Nat}
theorem co_runU {x y : MethodName} {bytes cc : ByteArray} {maxL nL mc ms n index : Nat} {ret : Option FieldType} {rm : Room} {Pc : Array Value → State → Prop} {Qc : Array Value → State → Outcome → State → Prop} {free : Addr → Prop} {Ts : List Cond} {own C owner : String} {b : Addr} {As rest : List Value} {g : JFrame}
    (S : CallFix p m c cc nL s args Ts own) (hplain : plainName y.cls = true) (hB : co_Body p l e rm y bytes maxL ret s Pc Qc mc ms free) (hrc : rm.cells = mc) (hrs : rm.slots = ms) (hframes : rm.frames + 1 ≤ R.frames) (hlocals : 8 + (maxL + 11) + rm.locals ≤ R.locals)
    (hcode : (Cond.code y bytes maxL ret).before args s = true) (hmh : owner ≠ "java/lang/invoke/MethodHandle" ∧ owner ≠ "java/lang/invoke/VarHandle") (hd : (parseMethodDescriptor x.desc).map (fun d => d.parameters.length) = some n) (hl : (Cond.methodLink own index x).before args s = true) (hsm : (Cond.sameMethod x.cls owner x.name x.desc).before args s = true) (hdec : va_Decl s ⟨owner, x.name, x.desc⟩) (hsel : (Cond.selects C x y).before args s = true) (hi : (Cond.instanceMethod y).before args s = true) (hp : PreV s H C b Pc As)
    (hg : g.method = m) (hn : As.length = n) (hsize : g.locals.size = nL) (hstack : g.stack = As.reverse ++ .ref b :: rest) (hW : 2 * g.monitorRoom + (rest.map fun v => v.category).sum ≤ 8) (hdg : decode cc g.pc = .ok (.invokevirtual index, 3)) (hf : cells + mc ≤ R.cells ∧ slots + ms ≤ R.slots) :
    va_Run p l e R s m args below meth c H locs cells slots mc ms g rest (Qc (Value.ref b :: As).toArray) (free) := by
  have hK : Back l R p e below s args y 3 8 (PreOf R mc ms Pc) (PostOf Qc mc ms free) := co_back hplain hB hp.1 hrc hrs hframes hlocals (fun a' U hW => word_at hW (Or.inl (by first | rfl | simp [Cond.onTables, Cond.keeps, Cond.steady])) hcode)
  obtain ⟨hx, hb, hml, ho, -⟩ := S
  obtain ⟨-, ⟨cellB, hcB, hoB, hclB⟩, hPc⟩ := hp
  intro T hT X
  obtain ⟨v, vm₁, ⟨U', l2, c2, s2⟩, hW₁, X', ⟨g', mk, t, L, e1, e2, hq, h1, hL, h2, h3⟩, st⟩ := va_callVU X hx (C := C) (owner := owner) (bytes := bytes) (maxL := maxL) (ret := ret) ho hl hsm hdec hmh hsel hi hcode hK (by rw [hT]; exact hcB) hoB hclB hg (hsize.trans hml.symm) (argsL := As) (rest := rest) (fun sig h => by rw [h] at hd; exact hn.trans (Option.some.inj hd).symm) hstack hW (by rw [hb]; exact hdg)
    (fun vm₁ hW₁ => ⟨hf.1, hf.2, hPc (T.setVm vm₁) hT hW₁⟩)
  dsimp only [Pt.U, Pt.locs, Pt.cells, Pt.slots] at X' e1 e2 h1 h2 h3 st
  subst h1; subst h2; subst h3
  exact ⟨v, (T.setVm vm₁).calling g' mk (Value.ref b :: As).toArray, t, U', L, hT, X', hL, e1, e2, hq, st⟩
end COR
/-- such a method of the wide world, from its start -/
theorem co_ofW {l : Launch} {G : gG} {L : va_W} {N : NM} {ρ σ : Type} {val : ρ → Option Value} {post : ρ → σ → Prop} {lw : σ → va_W × NM} {y : MethodName} {bytes : ByteArray} {maxL sz : Nat} {ret : Option FieldType} {As : List Value} {fr lo mc ms : Nat} (hO : gOk G) (hn : (lg_sl As).length ≤ maxL)
    (body : ∀ (p : Program) (e : Env) (s : State) (m : MethodId) (below : List Frame) (meth : Method) (c : Code) (ls : Array Slot) (A : Nat → Prop), cX G A y.cls p s m As.toArray c bytes maxL → meth.sig.returnType = ret → meth.locks = false → cH G A s L N s.heap [] → lv_has ls maxL (lv_args 0 As) →
      W p l e ⟨fr, mc, ms, lo⟩ s m As.toArray below meth c s.heap [] 0 0 (MQ below (gQ val post (fun u H => cBw G A (lw u).1 (lw u).2 H) A) As.toArray s mc ms A) (F0 m 0 ls []))
    {p : Program} {e : Env} {s0 : State} (hexec : p.tables.exec = Jvm.exec) (hall : ∀ w ∈ lw_all, ∀ (a' : Array Value) (U : State), s0.WarmedH U.vm → w.before a' U = true) :
    co_Body p l e ⟨fr, mc, ms, lo⟩ y bytes maxL ret s0 (va_Pc As (cPre G L N sz)) (gQ val post (fun u H => cBw G (cA L N sz) (lw u).1 (lw u).2 H) (cA L N sz)) mc ms (cA L N sz) := by
  intro s m args below meth c hW hown hb hml hr hlk hv
  obtain ⟨rfl, rfl, hP, hK⟩ := hv
  have hl := lv_entry As (n := maxL) hn
  rw [lg_entry_eq]
  exact body p e s m below meth c _ (cA L N s.heap.size) ⟨⟨hexec, hb, hml, hown, fun w hw => hall w hw _ s hW⟩, hK.va hO, hO, hK, fun q h => Or.inr (Or.inr h), cA_le hP hK.le⟩ hr hlk ⟨hP.own _, va_S.rf⟩ hl
def wX17_of (K : Nat → Nat → Nat) (post : Int64 → NM → Prop) (N : NM) (x0 : Nat) (x1 : Int64) : Prop :=
  post x1 N
theorem bX17_of {l : Launch} {G : gG} (hO : gOk G) {post : Int64 → NM → Prop} {N : NM} {x0 : Nat} {x1 : Int64} {sz : Nat} (h : wX17_of (gC G) post N x0 x1) {p : Program} {e : Env} {s0 : State} (hexec : p.tables.exec = Jvm.exec) (hall : ∀ w ∈ lw_all, ∀ (a : Array Value) (U : State), s0.WarmedH U.vm → w.before a U = true) : co_Body p l e ⟨0, 0, 0, 0⟩ yX17_of cX17_of 3 (some .long) s0 (va_Pc [.ref x0, .long x1] (cPre G [] N sz)) (gQ vL post (fun u H => cBw G (cA [] N sz) (jW u).1 (jW u).2 H) (cA [] N sz)) 0 0 (cA [] N sz) := by
  refine co_ofW (lw := jW) hO (Nat.le_of_ble_eq_true rfl) (fun p e s m below meth c ls A X hr hlk hw hl => ?_) hexec hall
  have hl : lv_has ls 3 [(0, .ref x0), (1, .long x1)] := hl
  have hx := X.1.1
  have hb := X.1.2.1
  have hml := X.1.2.2.1
  have hown := X.1.2.2.2.1
  have hts := X.1.2.2.2.2
  obtain ⟨H, eH⟩ : ∃ z, z = s.heap := ⟨_, rfl⟩
  rw [← eH] at hw ⊢
  obtain ⟨locs, eLo⟩ : ∃ z : List Loc, z = [] := ⟨_, rfl⟩
  rw [← eLo] at hw ⊢
  unfold wX17_of at h
  refine lv_lload_n (pc := 0) hx hb dX17_of_0 rfl (lv_at hl 1 rfl) ?_
  exact W.lret (pc := 1) hx hb hr (fun t ht hW => c_ret (val := vL) (lw := jW) (u := N) hw h ht) hw.2.2.2 dX17_of_1 hlk

def wX18_of (K : Nat → Nat → Nat) (post : Int64 → NM → Prop) (N : NM) (x0 : Nat) (x1 : Int64) : Prop :=
  post (x1 * x1) N
theorem bX18_of {l : Launch} {G : gG} (hO : gOk G) {post : Int64 → NM → Prop} {N : NM} {x0 : Nat} {x1 : Int64} {sz : Nat} (h : wX18_of (gC G) post N x0 x1) {p : Program} {e : Env} {s0 : State} (hexec : p.tables.exec = Jvm.exec) (hall : ∀ w ∈ lw_all, ∀ (a : Array Value) (U : State), s0.WarmedH U.vm → w.before a U = true) : co_Body p l e ⟨0, 0, 0, 0⟩ yX18_of cX18_of 3 (some .long) s0 (va_Pc [.ref x0, .long x1] (cPre G [] N sz)) (gQ vL post (fun u H => cBw G (cA [] N sz) (jW u).1 (jW u).2 H) (cA [] N sz)) 0 0 (cA [] N sz) := by
  refine co_ofW (lw := jW) hO (Nat.le_of_ble_eq_true rfl) (fun p e s m below meth c ls A X hr hlk hw hl => ?_) hexec hall
  have hl : lv_has ls 3 [(0, .ref x0), (1, .long x1)] := hl
  have hx := X.1.1
  have hb := X.1.2.1
  have hml := X.1.2.2.1
  have hown := X.1.2.2.2.1
  have hts := X.1.2.2.2.2
  obtain ⟨H, eH⟩ : ∃ z, z = s.heap := ⟨_, rfl⟩
  rw [← eH] at hw ⊢
  obtain ⟨locs, eLo⟩ : ∃ z : List Loc, z = [] := ⟨_, rfl⟩
  rw [← eLo] at hw ⊢
  unfold wX18_of at h
  refine lv_lload_n (pc := 0) hx hb dX18_of_0 rfl (lv_at hl 1 rfl) ?_
  refine lv_lload_n (pc := 1) hx hb dX18_of_1 rfl (lv_at hl 1 rfl) ?_
  refine lv_lmul (pc := 2) hx hb dX18_of_2 ?_
  exact W.lret (pc := 3) hx hb hr (fun t ht hW => c_ret (val := vL) (lw := jW) (u := N) hw h ht) hw.2.2.2 dX18_of_3 hlk

def wX19_of (K : Nat → Nat → Nat) (post : Int64 → NM → Prop) (N : NM) (x0 : Nat) (x1 : Int64) : Prop :=
  post ((x1 * x1) * x1) N
theorem bX19_of {l : Launch} {G : gG} (hO : gOk G) {post : Int64 → NM → Prop} {N : NM} {x0 : Nat} {x1 : Int64} {sz : Nat} (h : wX19_of (gC G) post N x0 x1) {p : Program} {e : Env} {s0 : State} (hexec : p.tables.exec = Jvm.exec) (hall : ∀ w ∈ lw_all, ∀ (a : Array Value) (U : State), s0.WarmedH U.vm → w.before a U = true) : co_Body p l e ⟨0, 0, 0, 0⟩ yX19_of cX19_of 3 (some .long) s0 (va_Pc [.ref x0, .long x1] (cPre G [] N sz)) (gQ vL post (fun u H => cBw G (cA [] N sz) (jW u).1 (jW u).2 H) (cA [] N sz)) 0 0 (cA [] N sz) := by
  refine co_ofW (lw := jW) hO (Nat.le_of_ble_eq_true rfl) (fun p e s m below meth c ls A X hr hlk hw hl => ?_) hexec hall
  have hl : lv_has ls 3 [(0, .ref x0), (1, .long x1)] := hl
  have hx := X.1.1
  have hb := X.1.2.1
  have hml := X.1.2.2.1
  have hown := X.1.2.2.2.1
  have hts := X.1.2.2.2.2
  obtain ⟨H, eH⟩ : ∃ z, z = s.heap := ⟨_, rfl⟩
  rw [← eH] at hw ⊢
  obtain ⟨locs, eLo⟩ : ∃ z : List Loc, z = [] := ⟨_, rfl⟩
  rw [← eLo] at hw ⊢
  unfold wX19_of at h
  refine lv_lload_n (pc := 0) hx hb dX19_of_0 rfl (lv_at hl 1 rfl) ?_
  refine lv_lload_n (pc := 1) hx hb dX19_of_1 rfl (lv_at hl 1 rfl) ?_
  refine lv_lmul (pc := 2) hx hb dX19_of_2 ?_
  refine lv_lload_n (pc := 3) hx hb dX19_of_3 rfl (lv_at hl 1 rfl) ?_
  refine lv_lmul (pc := 4) hx hb dX19_of_4 ?_
  exact W.lret (pc := 5) hx hb hr (fun t ht hW => c_ret (val := vL) (lw := jW) (u := N) hw h ht) hw.2.2.2 dX19_of_5 hlk

def wX20_of (K : Nat → Nat → Nat) (post : Int64 → NM → Prop) (N : NM) (x0 : Nat) (x1 : Int64) : Prop :=
  post (((x1 * x1) * x1) * x1) N
theorem bX20_of {l : Launch} {G : gG} (hO : gOk G) {post : Int64 → NM → Prop} {N : NM} {x0 : Nat} {x1 : Int64} {sz : Nat} (h : wX20_of (gC G) post N x0 x1) {p : Program} {e : Env} {s0 : State} (hexec : p.tables.exec = Jvm.exec) (hall : ∀ w ∈ lw_all, ∀ (a : Array Value) (U : State), s0.WarmedH U.vm → w.before a U = true) : co_Body p l e ⟨0, 0, 0, 0⟩ yX20_of cX20_of 3 (some .long) s0 (va_Pc [.ref x0, .long x1] (cPre G [] N sz)) (gQ vL post (fun u H => cBw G (cA [] N sz) (jW u).1 (jW u).2 H) (cA [] N sz)) 0 0 (cA [] N sz) := by
  refine co_ofW (lw := jW) hO (Nat.le_of_ble_eq_true rfl) (fun p e s m below meth c ls A X hr hlk hw hl => ?_) hexec hall
  have hl : lv_has ls 3 [(0, .ref x0), (1, .long x1)] := hl
  have hx := X.1.1
  have hb := X.1.2.1
  have hml := X.1.2.2.1
  have hown := X.1.2.2.2.1
  have hts := X.1.2.2.2.2
  obtain ⟨H, eH⟩ : ∃ z, z = s.heap := ⟨_, rfl⟩
  rw [← eH] at hw ⊢
  obtain ⟨locs, eLo⟩ : ∃ z : List Loc, z = [] := ⟨_, rfl⟩
  rw [← eLo] at hw ⊢
  unfold wX20_of at h
  refine lv_lload_n (pc := 0) hx hb dX20_of_0 rfl (lv_at hl 1 rfl) ?_
  refine lv_lload_n (pc := 1) hx hb dX20_of_1 rfl (lv_at hl 1 rfl) ?_
  refine lv_lmul (pc := 2) hx hb dX20_of_2 ?_
  refine lv_lload_n (pc := 3) hx hb dX20_of_3 rfl (lv_at hl 1 rfl) ?_
  refine lv_lmul (pc := 4) hx hb dX20_of_4 ?_
  refine lv_lload_n (pc := 5) hx hb dX20_of_5 rfl (lv_at hl 1 rfl) ?_
  refine lv_lmul (pc := 6) hx hb dX20_of_6 ?_
  exact W.lret (pc := 7) hx hb hr (fun t ht hW => c_ret (val := vL) (lw := jW) (u := N) hw h ht) hw.2.2.2 dX20_of_7 hlk

def wX21_of (K : Nat → Nat → Nat) (post : Int64 → NM → Prop) (N : NM) (x0 : Nat) (x1 : Int64) : Prop :=
  post ((x1 * (x1 + (1 : Int64))) / (2 : Int64)) N
theorem bX21_of {l : Launch} {G : gG} (hO : gOk G) {post : Int64 → NM → Prop} {N : NM} {x0 : Nat} {x1 : Int64} {sz : Nat} (h : wX21_of (gC G) post N x0 x1) {p : Program} {e : Env} {s0 : State} (hexec : p.tables.exec = Jvm.exec) (hall : ∀ w ∈ lw_all, ∀ (a : Array Value) (U : State), s0.WarmedH U.vm → w.before a U = true) : co_Body p l e ⟨0, 0, 0, 0⟩ yX21_of cX21_of 3 (some .long) s0 (va_Pc [.ref x0, .long x1] (cPre G [] N sz)) (gQ vL post (fun u H => cBw G (cA [] N sz) (jW u).1 (jW u).2 H) (cA [] N sz)) 0 0 (cA [] N sz) := by
  refine co_ofW (lw := jW) hO (Nat.le_of_ble_eq_true rfl) (fun p e s m below meth c ls A X hr hlk hw hl => ?_) hexec hall
  have hl : lv_has ls 3 [(0, .ref x0), (1, .long x1)] := hl
  have hx := X.1.1
  have hb := X.1.2.1
  have hml := X.1.2.2.1
  have hown := X.1.2.2.2.1
  have hts := X.1.2.2.2.2
  obtain ⟨H, eH⟩ : ∃ z, z = s.heap := ⟨_, rfl⟩
  rw [← eH] at hw ⊢
  obtain ⟨locs, eLo⟩ : ∃ z : List Loc, z = [] := ⟨_, rfl⟩
  rw [← eLo] at hw ⊢
  unfold wX21_of at h
  refine lv_lload_n (pc := 0) hx hb dX21_of_0 rfl (lv_at hl 1 rfl) ?_
  refine lv_lload_n (pc := 1) hx hb dX21_of_1 rfl (lv_at hl 1 rfl) ?_
  refine lv_lconst (pc := 2) (v := (1 : Int64)) hx hb dX21_of_2 (by decide) ?_
  refine lv_ladd (pc := 3) hx hb dX21_of_3 ?_
  refine lv_lmul (pc := 4) hx hb dX21_of_4 ?_
  refine lv_ldc2 (pc := 5) hx hb hown (hts _ q759) dX21_of_5 ?_
  refine lv_ldiv (pc := 8) hx hb dX21_of_8 (by decide) ?_
  exact W.lret (pc := 9) hx hb hr (fun t ht hW => c_ret (val := vL) (lw := jW) (u := N) hw h ht) hw.2.2.2 dX21_of_9 hlk

def wJ0_ordinal (K : Nat → Nat → Nat) (post : Int32 → NM → Prop) (N : NM) (x0 : Nat) : Prop :=
  ∃ kk1, kk1 < 5 ∧ x0 = K 2 kk1 ∧ (post (nI kk1) N)
theorem tJ0_ordinal {l : Launch} {G : gG} (hO : gOk G) {post : Int32 → NM → Prop} {N : NM} {x0 : Nat} {sz : Nat} (h : wJ0_ordinal (gC G) post N x0) : Met l yJ0_ordinal (ws_ yJ0_ordinal cJ0_ordinal 1 (some .int)) ⟨0, 0, 0, 0⟩ (va_Pc [.ref x0] (cPre G [] N sz)) (gQ vI post (fun u H => cBw G (cA [] N sz) (jW u).1 (jW u).2 H) (cA [] N sz)) 0 0 (cA [] N sz) := by
  refine c_ofW (lw := jW) (by decide) hO (Nat.le_of_ble_eq_true rfl) (fun p e s m below meth c ls A X hr hlk hin hw hl => ?_)
  have hl : lv_has ls 1 [(0, .ref x0)] := hl
  have hx := X.1.1
  have hb := X.1.2.1
  have hml := X.1.2.2.1
  have hown := X.1.2.2.2.1
  have hts := X.1.2.2.2.2
  obtain ⟨H, eH⟩ : ∃ z, z = s.heap := ⟨_, rfl⟩
  rw [← eH] at hw ⊢
  obtain ⟨locs, eLo⟩ : ∃ z : List Loc, z = [] := ⟨_, rfl⟩
  rw [← eLo] at hw ⊢
  unfold wJ0_ordinal at h
  refine lv_aload_n (pc := 0) hx hb dJ0_ordinal_0 rfl (lv_at hl 0 rfl) ?_
  obtain ⟨kk1, hk2, ha3, h⟩ := h
  refine vk_getf (pc := 1) (v := .int (nI kk1)) hx hb (by rw [ha3]; exact X.OF (X.cs.2.2.1.1 kk1 hk2).2.2) hw.2 hown (hts _ q2609) (fun x h => h) dJ0_ordinal_1 ?_
  exact W.iret (pc := 4) hx hb hr (fun t ht hW => c_ret (val := vI) (lw := jW) (u := N) hw h ht) hw.2.2.2 dJ0_ordinal_4 hlk

/-- what a kind makes of x -/
def kVal (k : Nat) (x : Int64) : Int64 := match k with
  | 0 => x
  | 1 => x * x
  | 2 => x * x * x
  | 3 => x * x * x * x
  | _ => x * (x + 1) / 2
section KND
variable {p : Program} {l : Launch} {e : Env} {R : Room} {s : State} {m : MethodId} {args : Array Value} {below : List Frame} {meth : Method} {c : Code} {H : Heap} {locs : List Loc} {cells slots : Nat} {Q : State → Prop} {cc : ByteArray} {pc : Nat} {ls : Array Slot} {rest : List Value}
variable {G : gG} {A : Nat → Prop} {nL : Nat} {L : va_W} {N : NM}

theorem cX.kO {own : String} (X : cX G A own p s m args c cc nL) (hw : cH G A s L N H locs) {k : Nat} (hk : k < 5) : ∃ cell : Cell, H[gC G 2 k]? = some cell ∧ cell.vm.isStatics = false ∧ s.vm.findClass (kCl.getD k "") = some cell.cls := by
  obtain ⟨cell, h1, h2, h3, -⟩ := (X.O (X.cs.2.2.1.1 k hk).2.1).kept hw.2.2.1
  exact ⟨cell, h1, h2, h3⟩
theorem c_kindOf (X : cX G A "ToldPowers$Term" p s m args c cc nL) (hw : cH G A s L N H locs) {k : Nat} (hk : k < 5) {x : Int64} (hsz : ls.size = nL) (hR : 1 ≤ R.frames ∧ 30 ≤ R.locals) (hr : (rest.map fun v => v.category).sum ≤ 8) (hc : cells ≤ R.cells ∧ slots ≤ R.slots) (d : decode cc pc = .ok (.invokevirtual 23, 3)) (kk : ∀ (H1 : Heap) (locs1 : List Loc), cH G A s L N H1 locs1 → W p l e R s m args below meth c H1 locs1 cells slots Q (F0 m (pc + 3) ls (.long (kVal k x) :: rest))) : W p l e R s m args below meth c H locs cells slots Q (F0 m pc ls (.long x :: .ref (gC G 2 k) :: rest)) := by
  rcases (show k = 0 ∨ k = 1 ∨ k = 2 ∨ k = 3 ∨ k = 4 by omega) with h | h | h | h | h <;> subst h
  · refine c_callJ (val := vL) (post := fun r N1 => r = kVal 0 x ∧ N1 = N) (mc := 0) (ms := 0) X hw (co_runU (C := "ToldPowers$Kind$1") (x := ⟨"ToldPowers$Kind", "of", "(J)J"⟩) (owner := "ToldPowers$Kind") (As := [.long x]) (rest := rest) X.1 (by decide) (bX17_of X.2.2.1 (sz := H.size) (by unfold wX17_of; exact ⟨rfl, rfl⟩) X.1.1 (fun w hw => pay_in X.1.2.2.2.2 (lw_meth q746) w (List.mem_cons_of_mem _ hw))) rfl rfl (show 0 + 1 ≤ R.frames by omega) (show 8 + (3 + 11) + 0 ≤ R.locals by omega) (X.1.2.2.2.2 _ q746) ⟨by decide, by decide⟩ (by decide +kernel : (parseMethodDescriptor "(J)J").map (fun d => d.parameters.length) = some 1) (X.1.2.2.2.2 _ q741) (X.1.2.2.2.2 _ q743) (va_Decl.abs (va_Nw.of rfl (X.2.2.2.1.decl (args := #[]) X.2.2.1 q742))) (X.1.2.2.2.2 _ q744) (X.1.2.2.2.2 _ q745) ⟨cPre_blind, X.kO hw (k := 0) (by decide), fun U hU hW => ⟨rfl, X.preJ hw hU hW⟩⟩ rfl rfl hsz rfl (lv_room hr) d hc) (fun r N1 H1 locs1 h hw1 => ?_)
    obtain ⟨h1, h2⟩ := h
    subst h1 h2
    exact kk H1 locs1 hw1
  · refine c_callJ (val := vL) (post := fun r N1 => r = kVal 1 x ∧ N1 = N) (mc := 0) (ms := 0) X hw (co_runU (C := "ToldPowers$Kind$2") (x := ⟨"ToldPowers$Kind", "of", "(J)J"⟩) (owner := "ToldPowers$Kind") (As := [.long x]) (rest := rest) X.1 (by decide) (bX18_of X.2.2.1 (sz := H.size) (by unfold wX18_of; exact ⟨rfl, rfl⟩) X.1.1 (fun w hw => pay_in X.1.2.2.2.2 (lw_meth q749) w (List.mem_cons_of_mem _ hw))) rfl rfl (show 0 + 1 ≤ R.frames by omega) (show 8 + (3 + 11) + 0 ≤ R.locals by omega) (X.1.2.2.2.2 _ q749) ⟨by decide, by decide⟩ (by decide +kernel : (parseMethodDescriptor "(J)J").map (fun d => d.parameters.length) = some 1) (X.1.2.2.2.2 _ q741) (X.1.2.2.2.2 _ q743) (va_Decl.abs (va_Nw.of rfl (X.2.2.2.1.decl (args := #[]) X.2.2.1 q742))) (X.1.2.2.2.2 _ q747) (X.1.2.2.2.2 _ q748) ⟨cPre_blind, X.kO hw (k := 1) (by decide), fun U hU hW => ⟨rfl, X.preJ hw hU hW⟩⟩ rfl rfl hsz rfl (lv_room hr) d hc) (fun r N1 H1 locs1 h hw1 => ?_)
    obtain ⟨h1, h2⟩ := h
    subst h1 h2
    exact kk H1 locs1 hw1
  · refine c_callJ (val := vL) (post := fun r N1 => r = kVal 2 x ∧ N1 = N) (mc := 0) (ms := 0) X hw (co_runU (C := "ToldPowers$Kind$3") (x := ⟨"ToldPowers$Kind", "of", "(J)J"⟩) (owner := "ToldPowers$Kind") (As := [.long x]) (rest := rest) X.1 (by decide) (bX19_of X.2.2.1 (sz := H.size) (by unfold wX19_of; exact ⟨rfl, rfl⟩) X.1.1 (fun w hw => pay_in X.1.2.2.2.2 (lw_meth q752) w (List.mem_cons_of_mem _ hw))) rfl rfl (show 0 + 1 ≤ R.frames by omega) (show 8 + (3 + 11) + 0 ≤ R.locals by omega) (X.1.2.2.2.2 _ q752) ⟨by decide, by decide⟩ (by decide +kernel : (parseMethodDescriptor "(J)J").map (fun d => d.parameters.length) = some 1) (X.1.2.2.2.2 _ q741) (X.1.2.2.2.2 _ q743) (va_Decl.abs (va_Nw.of rfl (X.2.2.2.1.decl (args := #[]) X.2.2.1 q742))) (X.1.2.2.2.2 _ q750) (X.1.2.2.2.2 _ q751) ⟨cPre_blind, X.kO hw (k := 2) (by decide), fun U hU hW => ⟨rfl, X.preJ hw hU hW⟩⟩ rfl rfl hsz rfl (lv_room hr) d hc) (fun r N1 H1 locs1 h hw1 => ?_)
    obtain ⟨h1, h2⟩ := h
    subst h1 h2
    exact kk H1 locs1 hw1
  · refine c_callJ (val := vL) (post := fun r N1 => r = kVal 3 x ∧ N1 = N) (mc := 0) (ms := 0) X hw (co_runU (C := "ToldPowers$Kind$4") (x := ⟨"ToldPowers$Kind", "of", "(J)J"⟩) (owner := "ToldPowers$Kind") (As := [.long x]) (rest := rest) X.1 (by decide) (bX20_of X.2.2.1 (sz := H.size) (by unfold wX20_of; exact ⟨rfl, rfl⟩) X.1.1 (fun w hw => pay_in X.1.2.2.2.2 (lw_meth q755) w (List.mem_cons_of_mem _ hw))) rfl rfl (show 0 + 1 ≤ R.frames by omega) (show 8 + (3 + 11) + 0 ≤ R.locals by omega) (X.1.2.2.2.2 _ q755) ⟨by decide, by decide⟩ (by decide +kernel : (parseMethodDescriptor "(J)J").map (fun d => d.parameters.length) = some 1) (X.1.2.2.2.2 _ q741) (X.1.2.2.2.2 _ q743) (va_Decl.abs (va_Nw.of rfl (X.2.2.2.1.decl (args := #[]) X.2.2.1 q742))) (X.1.2.2.2.2 _ q753) (X.1.2.2.2.2 _ q754) ⟨cPre_blind, X.kO hw (k := 3) (by decide), fun U hU hW => ⟨rfl, X.preJ hw hU hW⟩⟩ rfl rfl hsz rfl (lv_room hr) d hc) (fun r N1 H1 locs1 h hw1 => ?_)
    obtain ⟨h1, h2⟩ := h
    subst h1 h2
    exact kk H1 locs1 hw1
  · refine c_callJ (val := vL) (post := fun r N1 => r = kVal 4 x ∧ N1 = N) (mc := 0) (ms := 0) X hw (co_runU (C := "ToldPowers$Kind$5") (x := ⟨"ToldPowers$Kind", "of", "(J)J"⟩) (owner := "ToldPowers$Kind") (As := [.long x]) (rest := rest) X.1 (by decide) (bX21_of X.2.2.1 (sz := H.size) (by unfold wX21_of; exact ⟨rfl, rfl⟩) X.1.1 (fun w hw => pay_in X.1.2.2.2.2 (lw_meth q758) w (List.mem_cons_of_mem _ hw))) rfl rfl (show 0 + 1 ≤ R.frames by omega) (show 8 + (3 + 11) + 0 ≤ R.locals by omega) (X.1.2.2.2.2 _ q758) ⟨by decide, by decide⟩ (by decide +kernel : (parseMethodDescriptor "(J)J").map (fun d => d.parameters.length) = some 1) (X.1.2.2.2.2 _ q741) (X.1.2.2.2.2 _ q743) (va_Decl.abs (va_Nw.of rfl (X.2.2.2.1.decl (args := #[]) X.2.2.1 q742))) (X.1.2.2.2.2 _ q756) (X.1.2.2.2.2 _ q757) ⟨cPre_blind, X.kO hw (k := 4) (by decide), fun U hU hW => ⟨rfl, X.preJ hw hU hW⟩⟩ rfl rfl hsz rfl (lv_room hr) d hc) (fun r N1 H1 locs1 h hw1 => ?_)
    obtain ⟨h1, h2⟩ := h
    subst h1 h2
    exact kk H1 locs1 hw1
theorem c_ordinal (X : cX G A "ToldPowers" p s m args c cc nL) (hw : cH G A s L N H locs) {k : Nat} (hk : k < 5) (hsz : ls.size = nL) (hR : 1 ≤ R.frames ∧ 30 ≤ R.locals) (hr : (rest.map fun v => v.category).sum ≤ 8) (hc : cells ≤ R.cells ∧ slots ≤ R.slots) (d : decode cc pc = .ok (.invokevirtual 264, 3)) (kk : ∀ (H1 : Heap) (locs1 : List Loc), cH G A s L N H1 locs1 → W p l e R s m args below meth c H1 locs1 cells slots Q (F0 m (pc + 3) ls (.int (nI k) :: rest))) : W p l e R s m args below meth c H locs cells slots Q (F0 m pc ls (.ref (gC G 2 k) :: rest)) := by
  rcases (show k = 0 ∨ k = 1 ∨ k = 2 ∨ k = 3 ∨ k = 4 by omega) with h | h | h | h | h <;> subst h
  · refine c_callJ (val := vI) (post := fun r N1 => r = nI 0 ∧ N1 = N) (mc := 0) (ms := 0) X hw (va_runU (C := "ToldPowers$Kind$1") (As := []) (rest := rest) X.1 (tJ0_ordinal X.2.2.1 (sz := H.size) (by unfold wJ0_ordinal; exact ⟨0, by decide, rfl, rfl, rfl⟩)) (cu_mk (x := ⟨"ToldPowers$Kind", "ordinal", "()I"⟩) (owner := "java/lang/Enum") X.1.2.2.2.2 (lw_meth q1550) rfl rfl rfl ⟨show 0 + 1 ≤ R.frames by omega, show 8 + (1 + 11) + 0 ≤ R.locals by omega⟩ (X.1.2.2.2.2 _ q103) ⟨by decide, by decide⟩ (by decide +kernel : (parseMethodDescriptor "()I").map (fun d => d.parameters.length) = some 0) (X.1.2.2.2.2 _ q1541) (X.1.2.2.2.2 _ q1542) (va_Decl.abs (va_Nw.of rfl (X.2.2.2.1.decl (args := #[]) X.2.2.1 q1543))) (X.1.2.2.2.2 _ q1544) (X.1.2.2.2.2 _ q1549)) ⟨cPre_blind, X.kO hw (k := 0) (by decide), fun U hU hW => ⟨rfl, X.preJ hw hU hW⟩⟩ rfl rfl hsz rfl (lv_room hr) d hc) (fun r N1 H1 locs1 h hw1 => ?_)
    obtain ⟨h1, h2⟩ := h
    subst h1 h2
    exact kk H1 locs1 hw1
  · refine c_callJ (val := vI) (post := fun r N1 => r = nI 1 ∧ N1 = N) (mc := 0) (ms := 0) X hw (va_runU (C := "ToldPowers$Kind$2") (As := []) (rest := rest) X.1 (tJ0_ordinal X.2.2.1 (sz := H.size) (by unfold wJ0_ordinal; exact ⟨1, by decide, rfl, rfl, rfl⟩)) (cu_mk (x := ⟨"ToldPowers$Kind", "ordinal", "()I"⟩) (owner := "java/lang/Enum") X.1.2.2.2.2 (lw_meth q1550) rfl rfl rfl ⟨show 0 + 1 ≤ R.frames by omega, show 8 + (1 + 11) + 0 ≤ R.locals by omega⟩ (X.1.2.2.2.2 _ q103) ⟨by decide, by decide⟩ (by decide +kernel : (parseMethodDescriptor "()I").map (fun d => d.parameters.length) = some 0) (X.1.2.2.2.2 _ q1541) (X.1.2.2.2.2 _ q1542) (va_Decl.abs (va_Nw.of rfl (X.2.2.2.1.decl (args := #[]) X.2.2.1 q1543))) (X.1.2.2.2.2 _ q1545) (X.1.2.2.2.2 _ q1549)) ⟨cPre_blind, X.kO hw (k := 1) (by decide), fun U hU hW => ⟨rfl, X.preJ hw hU hW⟩⟩ rfl rfl hsz rfl (lv_room hr) d hc) (fun r N1 H1 locs1 h hw1 => ?_)
    obtain ⟨h1, h2⟩ := h
    subst h1 h2
    exact kk H1 locs1 hw1
  · refine c_callJ (val := vI) (post := fun r N1 => r = nI 2 ∧ N1 = N) (mc := 0) (ms := 0) X hw (va_runU (C := "ToldPowers$Kind$3") (As := []) (rest := rest) X.1 (tJ0_ordinal X.2.2.1 (sz := H.size) (by unfold wJ0_ordinal; exact ⟨2, by decide, rfl, rfl, rfl⟩)) (cu_mk (x := ⟨"ToldPowers$Kind", "ordinal", "()I"⟩) (owner := "java/lang/Enum") X.1.2.2.2.2 (lw_meth q1550) rfl rfl rfl ⟨show 0 + 1 ≤ R.frames by omega, show 8 + (1 + 11) + 0 ≤ R.locals by omega⟩ (X.1.2.2.2.2 _ q103) ⟨by decide, by decide⟩ (by decide +kernel : (parseMethodDescriptor "()I").map (fun d => d.parameters.length) = some 0) (X.1.2.2.2.2 _ q1541) (X.1.2.2.2.2 _ q1542) (va_Decl.abs (va_Nw.of rfl (X.2.2.2.1.decl (args := #[]) X.2.2.1 q1543))) (X.1.2.2.2.2 _ q1546) (X.1.2.2.2.2 _ q1549)) ⟨cPre_blind, X.kO hw (k := 2) (by decide), fun U hU hW => ⟨rfl, X.preJ hw hU hW⟩⟩ rfl rfl hsz rfl (lv_room hr) d hc) (fun r N1 H1 locs1 h hw1 => ?_)
    obtain ⟨h1, h2⟩ := h
    subst h1 h2
    exact kk H1 locs1 hw1
  · refine c_callJ (val := vI) (post := fun r N1 => r = nI 3 ∧ N1 = N) (mc := 0) (ms := 0) X hw (va_runU (C := "ToldPowers$Kind$4") (As := []) (rest := rest) X.1 (tJ0_ordinal X.2.2.1 (sz := H.size) (by unfold wJ0_ordinal; exact ⟨3, by decide, rfl, rfl, rfl⟩)) (cu_mk (x := ⟨"ToldPowers$Kind", "ordinal", "()I"⟩) (owner := "java/lang/Enum") X.1.2.2.2.2 (lw_meth q1550) rfl rfl rfl ⟨show 0 + 1 ≤ R.frames by omega, show 8 + (1 + 11) + 0 ≤ R.locals by omega⟩ (X.1.2.2.2.2 _ q103) ⟨by decide, by decide⟩ (by decide +kernel : (parseMethodDescriptor "()I").map (fun d => d.parameters.length) = some 0) (X.1.2.2.2.2 _ q1541) (X.1.2.2.2.2 _ q1542) (va_Decl.abs (va_Nw.of rfl (X.2.2.2.1.decl (args := #[]) X.2.2.1 q1543))) (X.1.2.2.2.2 _ q1547) (X.1.2.2.2.2 _ q1549)) ⟨cPre_blind, X.kO hw (k := 3) (by decide), fun U hU hW => ⟨rfl, X.preJ hw hU hW⟩⟩ rfl rfl hsz rfl (lv_room hr) d hc) (fun r N1 H1 locs1 h hw1 => ?_)
    obtain ⟨h1, h2⟩ := h
    subst h1 h2
    exact kk H1 locs1 hw1
  · refine c_callJ (val := vI) (post := fun r N1 => r = nI 4 ∧ N1 = N) (mc := 0) (ms := 0) X hw (va_runU (C := "ToldPowers$Kind$5") (As := []) (rest := rest) X.1 (tJ0_ordinal X.2.2.1 (sz := H.size) (by unfold wJ0_ordinal; exact ⟨4, by decide, rfl, rfl, rfl⟩)) (cu_mk (x := ⟨"ToldPowers$Kind", "ordinal", "()I"⟩) (owner := "java/lang/Enum") X.1.2.2.2.2 (lw_meth q1550) rfl rfl rfl ⟨show 0 + 1 ≤ R.frames by omega, show 8 + (1 + 11) + 0 ≤ R.locals by omega⟩ (X.1.2.2.2.2 _ q103) ⟨by decide, by decide⟩ (by decide +kernel : (parseMethodDescriptor "()I").map (fun d => d.parameters.length) = some 0) (X.1.2.2.2.2 _ q1541) (X.1.2.2.2.2 _ q1542) (va_Decl.abs (va_Nw.of rfl (X.2.2.2.1.decl (args := #[]) X.2.2.1 q1543))) (X.1.2.2.2.2 _ q1548) (X.1.2.2.2.2 _ q1549)) ⟨cPre_blind, X.kO hw (k := 4) (by decide), fun U hU hW => ⟨rfl, X.preJ hw hU hW⟩⟩ rfl rfl hsz rfl (lv_room hr) d hc) (fun r N1 H1 locs1 h hw1 => ?_)
    obtain ⟨h1, h2⟩ := h
    subst h1 h2
    exact kk H1 locs1 hw1
end KND
