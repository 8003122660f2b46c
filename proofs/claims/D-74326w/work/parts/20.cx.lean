set_option maxRecDepth 100000
set_option maxHeartbeats 4000000
theorem sw_out3 {x : Int32} (c0 : ¬ x = (0 : Int32)) (c1 : ¬ x = (1 : Int32)) (c2 : ¬ x = (2 : Int32)) : x.toInt < 0 ∨ 2 < x.toInt := by
  have h0 : x.toInt ≠ 0 := fun z => c0 (Int32.toInt_inj.mp (z.trans (by decide)))
  have h1 : x.toInt ≠ 1 := fun z => c1 (Int32.toInt_inj.mp (z.trans (by decide)))
  have h2 : x.toInt ≠ 2 := fun z => c2 (Int32.toInt_inj.mp (z.trans (by decide)))
  omega
section CXA
def cx_T (XC : Addr → String → State → State → Prop) (st : State) (q : Addr) (t : State) (mc ms : Nat) (free : Addr → Prop) : Prop :=
  ∃ (E : String) (ce : Cell) (L : List Loc), XC q E st t ∧ t.heap[q]? = some ce ∧ ce.vm = .none ∧ st.vm.findClass E = some ce.cls ∧ st.WarmedH t.vm ∧ st.sameButNew ({ t with vm := st.vm } : State) L mc ms ∧ ∀ z ∈ L, free z.base
def cx_Q (Qc : Array Value → State → Outcome → State → Prop) (XC : Addr → String → State → State → Prop) (mc ms : Nat) (free : Addr → Prop) : Array Value → State → Outcome → State → Prop := fun a st o t =>
  (Qc a st o t ∧ ∃ L, FrameEnd st o t L mc ms ∧ ∀ q ∈ L, free q.base) ∨ ∃ q, o = .threw q ∧ cx_T XC st q t mc ms free
def cx_Met (l : Launch) (y : MethodName) (ws : List Cond) (rm : Room) (Pc : Array Value → State → Prop) (Qc : Array Value → State → Outcome → State → Prop) (XC : Addr → String → State → State → Prop) (mc ms : Nat) (free : Addr → Prop) : Prop :=
  MetFree l y (headSpec ws rm) Pc (fun _ _ _ _ _ => True) (cx_Q Qc XC mc ms free)
def cx_Post (XC : Addr → String → State → State → Prop) (mc ms : Nat) (free : Addr → Prop) : Pt → Array Value → Addr → Pt → Prop := fun A a q B =>
  ∃ (g : JFrame) (mk : MethodId) (t : State) (L : List Loc) (E : String) (ce : Cell), B.U.heap = t.heap ∧ B.U.vm = t.vm ∧ XC q E (A.U.calling g mk a) t ∧ t.heap[q]? = some ce ∧ ce.vm = .none ∧ A.U.vm.findClass E = some ce.cls ∧ B.locs = A.locs ++ L ∧ (∀ z ∈ L, free z.base) ∧ B.cells = A.cells + mc ∧ B.slots = A.slots + ms
section
variable {l : Launch} {R : Room} {p : Program} {e : Env} {below : List Frame} {s : State} {sargs : Array Value} {y : MethodName} {len W9 : Nat}
theorem cx_back {ws : List Cond} {rm : Room} {Pc : Array Value → State → Prop} {Qc : Array Value → State → Outcome → State → Prop} {XC : Addr → String → State → State → Prop} {mc ms : Nat} {free : Addr → Prop} {bytes : ByteArray} {maxL : Nat} {ret : Option FieldType}
    (hM : cx_Met l y ws rm Pc Qc XC mc ms free) (hblind : FrameBlind Pc) (hrc : rm.cells = mc) (hrs : rm.slots = ms)
    (hframes : rm.frames + 1 ≤ R.frames) (hlocals : W9 + (maxL + 11) + rm.locals ≤ R.locals)
    (hws : ∀ w ∈ ws, ∀ a' U, s.WarmedH U.vm → w.before a' U = true) (hcode : Cond.code y bytes maxL ret ∈ ws) (hinit : ∀ a' U, s.WarmedH U.vm → (Cond.initialized y.cls).before a' U = true) :
    vx_Back l R p e below s sargs y len W9 (PreOf R mc ms Pc) (PostOf Qc mc ms free) (cx_Post XC mc ms free) := by
  intro m meth c A g ig mk a X hg hsize hdg hW hn hp
  have h1 : (headSpec ws rm).pre.before a A.U = true := atoms_intro fun w hw => hws w hw _ _ X.warmed
  have h2 : (Cond.code y bytes maxL ret).before a A.U = true := hws _ hcode _ _ X.warmed
  have h3 : (Cond.initialized y.cls).before a A.U = true := hinit _ _ X.warmed
  have h4 : A.cells + (headSpec ws rm).room.cells ≤ R.cells := by rw [show (headSpec ws rm).room.cells = mc from hrc]; exact hp.1
  have h5 : A.slots + (headSpec ws rm).room.slots ≤ R.slots := by rw [show (headSpec ws rm).room.slots = ms from hrs]; exact hp.2.1
  have hPc : Pc a (A.U.calling g mk a) := hblind _ _ _ _ hp.2.2
  obtain ⟨U, Ls, c0, s0⟩ := A
  dsimp only [Pt.U, Pt.locs, Pt.cells, Pt.slots] at h1 h2 h3 h4 h5 X hn hPc ⊢
  obtain ⟨methY, cY, hmY, hcY, -, hlY, -, -, -, -⟩ := Cond.code_spec hn h2
  obtain ⟨kY, hkY, -⟩ := className_of_methodNamed hn
  have hinitY : kY.init = .initialized := Cond.initialized_spec (findClass_of_methodNamed hn) hkY h3
  have h : At U g.method c below := by rw [hg]; exact X.here
  have hlocals9 : W9 + (maxL + 11) + (headSpec ws rm).room.locals ≤ R.locals := hlocals
  have happ : (headSpec ws rm).appliesLoose y e.platform (U.calling g mk a) = true :=
    Spec.appliesLoose_calling (g := g) h hdg hn hkY hinitY
      (X.room_calling (g := g) (R' := (headSpec ws rm).room) hsize hmY hcY hframes (by rw [hlY]; omega) h4 h5) h1
  obtain ⟨mid, hmid⟩ := h.above
  have hfr : (U.setTop g).frames = (.java g :: mid) ++ below := by rw [State.frames_setTop' g h.top, hmid]; rfl
  obtain ⟨o, s₂, hsteps, -, hend, hq⟩ := Steps.callFree hM p X.admits X.cas X.clock (acts := []) hfr happ hPc trivial
  have hq' : cx_Q Qc XC mc ms free a (U.calling g mk a) o s₂ := hq
  rw [State.frames_setTop' g h.top] at hend
  obtain ⟨g₀, hg0⟩ := Option.isSome_iff_exists.mp h.top
  obtain ⟨r, hr⟩ := State.topJava?_eq_some.mp hg0
  have hr' : (({ U with heap := s₂.heap, slotsUsed := s₂.slotsUsed } : State).setVm s₂.vm).frames = .java g₀ :: r := hr
  rcases hq' with ⟨hqc, L, hfe, hL⟩ | ⟨q, rfl, E, ce, L, hx, hce, hcv, hcl, hW₂, hsm, hL⟩
  · obtain ⟨⟨v, rfl⟩, hW₂, e2, q2, q3, q4, q5, q6⟩ := id hfe
    have e3 : s₂ = ({ (U.calling g mk a).setFrames s₂.frames with heap := s₂.heap, slotsUsed := s₂.slotsUsed } : State).setVm s₂.vm := by
      have : s₂ = ({ s₂ with vm := (U.calling g mk a).vm } : State).setVm s₂.vm := rfl
      rw [e2] at this
      exact this
    obtain ⟨c₂, i₂, len₂, hc₂, hd₂, hf₂⟩ := hend
    have hW' : U.WarmedH s₂.vm := hW₂
    have hcc : c₂ = c := by
      have h1 : s₂.code? g.method = U.code? g.method := by
        rw [State.code?_eq, State.code?_eq, hW'.alike.method?]
      exact Option.some.inj (hc₂.symm.trans (h1.trans h.code))
    subst hcc
    have hlen : len₂ = len := by rw [hdg] at hd₂; cases hd₂; rfl
    subst hlen
    have hs₂ : s₂ = (({ U with heap := s₂.heap, slotsUsed := s₂.slotsUsed } : State).setVm s₂.vm).setTop { g with pc := g.pc + len₂, stack := v.toList ++ g.stack } := by
      refine e3.trans ?_
      rw [hf₂, State.calling_eq h.top, State.setFrames_setFrames, State.setTop_of_frames _ hr', hr]
      rfl
    have hsame : U.sameButNew ({ U with heap := s₂.heap, slotsUsed := s₂.slotsUsed } : State) L mc ms := by
      refine ⟨?_, q2, q3, q4, q5, q6⟩
      obtain ⟨t, ht, -⟩ := State.frames_cons hr
      show ({ U with heap := s₂.heap, slotsUsed := s₂.slotsUsed } : State) = { U.setFrames U.frames with heap := s₂.heap, slotsUsed := s₂.slotsUsed }
      rw [State.setFrames_self ht]
    subst hg
    refine Or.inl ⟨v, ⟨(({ U with heap := s₂.heap, slotsUsed := s₂.slotsUsed } : State).setVm s₂.vm), Ls ++ L, c0 + mc, s0 + ms⟩,
      ⟨X.admits, X.cas, X.clock, X.frames, X.room, X.hears, X.method, X.code, (X.here.setHeapUsed s₂.heap s₂.slotsUsed).setVm hW'.alike, X.tail, State.WarmedH.trans X.warmed hW', X.limits, X.bytes, X.same.trans (hsame.setVm s.vm)⟩,
      ⟨g, mk, s₂, L, rfl, rfl, hqc, rfl, hL, rfl, rfl⟩, ?_⟩
    show Steps p.tables e below _ ((({ U with heap := s₂.heap, slotsUsed := s₂.slotsUsed } : State).setVm s₂.vm).setTop { g with pc := g.pc + len₂, stack := v.toList ++ g.stack })
    rw [← hs₂]
    exact hsteps
  · obtain ⟨e2, q2, q3, q4, q5, q6⟩ := id hsm
    have e3 : s₂ = ({ (U.calling g mk a).setFrames s₂.frames with heap := s₂.heap, slotsUsed := s₂.slotsUsed } : State).setVm s₂.vm := by
      have : s₂ = ({ s₂ with vm := (U.calling g mk a).vm } : State).setVm s₂.vm := rfl
      rw [e2] at this
      exact this
    have hf₂ : s₂.frames = .throwing q :: .java g :: U.frames.tail := hend
    have hW' : U.WarmedH s₂.vm := hW₂
    have hs₂ : s₂ = ((({ U with heap := s₂.heap, slotsUsed := s₂.slotsUsed } : State).setVm s₂.vm).setTop g).pushFrame (.throwing q) := by
      refine e3.trans ?_
      rw [hf₂, State.calling_eq h.top, State.setFrames_setFrames, State.pushFrame, State.frames_setTop _ hr', State.setTop_of_frames _ hr', State.setFrames_setFrames, hr]
      rfl
    have hsame : U.sameButNew ({ U with heap := s₂.heap, slotsUsed := s₂.slotsUsed } : State) L mc ms := by
      refine ⟨?_, q2, q3, q4, q5, q6⟩
      obtain ⟨t, ht, -⟩ := State.frames_cons hr
      show ({ U with heap := s₂.heap, slotsUsed := s₂.slotsUsed } : State) = { U.setFrames U.frames with heap := s₂.heap, slotsUsed := s₂.slotsUsed }
      rw [State.setFrames_self ht]
    subst hg
    refine Or.inr ⟨q, ⟨(({ U with heap := s₂.heap, slotsUsed := s₂.slotsUsed } : State).setVm s₂.vm), Ls ++ L, c0 + mc, s0 + ms⟩,
      ⟨X.admits, X.cas, X.clock, X.frames, X.room, X.hears, X.method, X.code, (X.here.setHeapUsed s₂.heap s₂.slotsUsed).setVm hW'.alike, X.tail, State.WarmedH.trans X.warmed hW', X.limits, X.bytes, X.same.trans (hsame.setVm s.vm)⟩,
      ⟨g, mk, s₂, L, E, ce, rfl, rfl, hx, hce, hcv, hcl, rfl, hL, rfl, rfl⟩, ?_⟩
    show Steps p.tables e below _ (((({ U with heap := s₂.heap, slotsUsed := s₂.slotsUsed } : State).setVm s₂.vm).setTop g).pushFrame (.throwing q))
    rw [← hs₂]
    exact hsteps
theorem cx_backW {ws : List Cond} {rm : Room} {Pc : Array Value → State → Prop} {Qc : Array Value → State → Outcome → State → Prop} {XC : Addr → String → State → State → Prop} {mc ms : Nat} {free : Addr → Prop} {bytes : ByteArray} {maxL : Nat} {ret : Option FieldType} {hh : List (Nat × Nat × Nat × Nat)}
    (hM : cx_Met l y ws rm Pc Qc XC mc ms free) (hblind : FrameBlind Pc) (hrc : rm.cells = mc) (hrs : rm.slots = ms)
    (hframes : rm.frames + 1 ≤ R.frames) (hlocals : W9 + (maxL + 11) + rm.locals ≤ R.locals)
    (hws : ∀ w ∈ ws, ∀ a' U, s.WarmedH U.vm → w.before a' U = true) (hcode : Cond.codeWith y bytes maxL ret hh ∈ ws) (hinit : ∀ a' U, s.WarmedH U.vm → (Cond.initialized y.cls).before a' U = true) :
    vx_Back l R p e below s sargs y len W9 (PreOf R mc ms Pc) (PostOf Qc mc ms free) (cx_Post XC mc ms free) := by
  intro m meth c A g ig mk a X hg hsize hdg hW hn hp
  have h1 : (headSpec ws rm).pre.before a A.U = true := atoms_intro fun w hw => hws w hw _ _ X.warmed
  have h2 : (Cond.codeWith y bytes maxL ret hh).before a A.U = true := hws _ hcode _ _ X.warmed
  have h3 : (Cond.initialized y.cls).before a A.U = true := hinit _ _ X.warmed
  have h4 : A.cells + (headSpec ws rm).room.cells ≤ R.cells := by rw [show (headSpec ws rm).room.cells = mc from hrc]; exact hp.1
  have h5 : A.slots + (headSpec ws rm).room.slots ≤ R.slots := by rw [show (headSpec ws rm).room.slots = ms from hrs]; exact hp.2.1
  have hPc : Pc a (A.U.calling g mk a) := hblind _ _ _ _ hp.2.2
  obtain ⟨U, Ls, c0, s0⟩ := A
  dsimp only [Pt.U, Pt.locs, Pt.cells, Pt.slots] at h1 h2 h3 h4 h5 X hn hPc ⊢
  obtain ⟨m9, methY, cY, hn9, hmY, hcY, -, hlY, -⟩ := Cond.codeWith_spec h2
  cases Option.some.inj (hn9.symm.trans hn)
  obtain ⟨kY, hkY, -⟩ := className_of_methodNamed hn
  have hinitY : kY.init = .initialized := Cond.initialized_spec (findClass_of_methodNamed hn) hkY h3
  have h : At U g.method c below := by rw [hg]; exact X.here
  have hlocals9 : W9 + (maxL + 11) + (headSpec ws rm).room.locals ≤ R.locals := hlocals
  have happ : (headSpec ws rm).appliesLoose y e.platform (U.calling g mk a) = true :=
    Spec.appliesLoose_calling (g := g) h hdg hn hkY hinitY
      (X.room_calling (g := g) (R' := (headSpec ws rm).room) hsize hmY hcY hframes (by rw [hlY]; omega) h4 h5) h1
  obtain ⟨mid, hmid⟩ := h.above
  have hfr : (U.setTop g).frames = (.java g :: mid) ++ below := by rw [State.frames_setTop' g h.top, hmid]; rfl
  obtain ⟨o, s₂, hsteps, -, hend, hq⟩ := Steps.callFree hM p X.admits X.cas X.clock (acts := []) hfr happ hPc trivial
  have hq' : cx_Q Qc XC mc ms free a (U.calling g mk a) o s₂ := hq
  rw [State.frames_setTop' g h.top] at hend
  obtain ⟨g₀, hg0⟩ := Option.isSome_iff_exists.mp h.top
  obtain ⟨r, hr⟩ := State.topJava?_eq_some.mp hg0
  have hr' : (({ U with heap := s₂.heap, slotsUsed := s₂.slotsUsed } : State).setVm s₂.vm).frames = .java g₀ :: r := hr
  rcases hq' with ⟨hqc, L, hfe, hL⟩ | ⟨q, rfl, E, ce, L, hx, hce, hcv, hcl, hW₂, hsm, hL⟩
  · obtain ⟨⟨v, rfl⟩, hW₂, e2, q2, q3, q4, q5, q6⟩ := id hfe
    have e3 : s₂ = ({ (U.calling g mk a).setFrames s₂.frames with heap := s₂.heap, slotsUsed := s₂.slotsUsed } : State).setVm s₂.vm := by
      have : s₂ = ({ s₂ with vm := (U.calling g mk a).vm } : State).setVm s₂.vm := rfl
      rw [e2] at this
      exact this
    obtain ⟨c₂, i₂, len₂, hc₂, hd₂, hf₂⟩ := hend
    have hW' : U.WarmedH s₂.vm := hW₂
    have hcc : c₂ = c := by
      have h1 : s₂.code? g.method = U.code? g.method := by
        rw [State.code?_eq, State.code?_eq, hW'.alike.method?]
      exact Option.some.inj (hc₂.symm.trans (h1.trans h.code))
    subst hcc
    have hlen : len₂ = len := by rw [hdg] at hd₂; cases hd₂; rfl
    subst hlen
    have hs₂ : s₂ = (({ U with heap := s₂.heap, slotsUsed := s₂.slotsUsed } : State).setVm s₂.vm).setTop { g with pc := g.pc + len₂, stack := v.toList ++ g.stack } := by
      refine e3.trans ?_
      rw [hf₂, State.calling_eq h.top, State.setFrames_setFrames, State.setTop_of_frames _ hr', hr]
      rfl
    have hsame : U.sameButNew ({ U with heap := s₂.heap, slotsUsed := s₂.slotsUsed } : State) L mc ms := by
      refine ⟨?_, q2, q3, q4, q5, q6⟩
      obtain ⟨t, ht, -⟩ := State.frames_cons hr
      show ({ U with heap := s₂.heap, slotsUsed := s₂.slotsUsed } : State) = { U.setFrames U.frames with heap := s₂.heap, slotsUsed := s₂.slotsUsed }
      rw [State.setFrames_self ht]
    subst hg
    refine Or.inl ⟨v, ⟨(({ U with heap := s₂.heap, slotsUsed := s₂.slotsUsed } : State).setVm s₂.vm), Ls ++ L, c0 + mc, s0 + ms⟩,
      ⟨X.admits, X.cas, X.clock, X.frames, X.room, X.hears, X.method, X.code, (X.here.setHeapUsed s₂.heap s₂.slotsUsed).setVm hW'.alike, X.tail, State.WarmedH.trans X.warmed hW', X.limits, X.bytes, X.same.trans (hsame.setVm s.vm)⟩,
      ⟨g, mk, s₂, L, rfl, rfl, hqc, rfl, hL, rfl, rfl⟩, ?_⟩
    show Steps p.tables e below _ ((({ U with heap := s₂.heap, slotsUsed := s₂.slotsUsed } : State).setVm s₂.vm).setTop { g with pc := g.pc + len₂, stack := v.toList ++ g.stack })
    rw [← hs₂]
    exact hsteps
  · obtain ⟨e2, q2, q3, q4, q5, q6⟩ := id hsm
    have e3 : s₂ = ({ (U.calling g mk a).setFrames s₂.frames with heap := s₂.heap, slotsUsed := s₂.slotsUsed } : State).setVm s₂.vm := by
      have : s₂ = ({ s₂ with vm := (U.calling g mk a).vm } : State).setVm s₂.vm := rfl
      rw [e2] at this
      exact this
    have hf₂ : s₂.frames = .throwing q :: .java g :: U.frames.tail := hend
    have hW' : U.WarmedH s₂.vm := hW₂
    have hs₂ : s₂ = ((({ U with heap := s₂.heap, slotsUsed := s₂.slotsUsed } : State).setVm s₂.vm).setTop g).pushFrame (.throwing q) := by
      refine e3.trans ?_
      rw [hf₂, State.calling_eq h.top, State.setFrames_setFrames, State.pushFrame, State.frames_setTop _ hr', State.setTop_of_frames _ hr', State.setFrames_setFrames, hr]
      rfl
    have hsame : U.sameButNew ({ U with heap := s₂.heap, slotsUsed := s₂.slotsUsed } : State) L mc ms := by
      refine ⟨?_, q2, q3, q4, q5, q6⟩
      obtain ⟨t, ht, -⟩ := State.frames_cons hr
      show ({ U with heap := s₂.heap, slotsUsed := s₂.slotsUsed } : State) = { U.setFrames U.frames with heap := s₂.heap, slotsUsed := s₂.slotsUsed }
      rw [State.setFrames_self ht]
    subst hg
    refine Or.inr ⟨q, ⟨(({ U with heap := s₂.heap, slotsUsed := s₂.slotsUsed } : State).setVm s₂.vm), Ls ++ L, c0 + mc, s0 + ms⟩,
      ⟨X.admits, X.cas, X.clock, X.frames, X.room, X.hears, X.method, X.code, (X.here.setHeapUsed s₂.heap s₂.slotsUsed).setVm hW'.alike, X.tail, State.WarmedH.trans X.warmed hW', X.limits, X.bytes, X.same.trans (hsame.setVm s.vm)⟩,
      ⟨g, mk, s₂, L, E, ce, rfl, rfl, hx, hce, hcv, hcl, rfl, hL, rfl, rfl⟩, ?_⟩
    show Steps p.tables e below _ (((({ U with heap := s₂.heap, slotsUsed := s₂.slotsUsed } : State).setVm s₂.vm).setTop g).pushFrame (.throwing q))
    rw [← hs₂]
    exact hsteps
end
def cx_Run (p : Program) (l : Launch) (e : Env) (R : Room) (s : State) (m : MethodId) (args : Array Value) (below : List Frame) (meth : Method) (c : Code) (H : Heap) (locs : List Loc) (cells slots mc ms : Nat) (g : JFrame) (rest : List Value) (Qa : State → Outcome → State → Prop) (XC : Addr → String → State → State → Prop) (free : Addr → Prop) : Prop :=
  ∀ T : State, T.heap = H → Stand p l e R s m args below meth c T locs cells slots →
    (∃ (v : Option Value) (st₀ t T' : State) (L : List Loc), st₀.heap = H ∧ Stand p l e R s m args below meth c T' (locs ++ L) (cells + mc) (slots + ms) ∧ (∀ q ∈ L, free q.base) ∧ T'.heap = t.heap ∧ T'.vm = t.vm ∧ Qa st₀ (.returned v) t ∧
      Goes p e below T g T' { g with pc := g.pc + 3, stack := v.toList ++ rest }) ∨
    (∃ (q : Addr) (st₀ t T' : State) (L : List Loc) (E : String) (ce : Cell), st₀.heap = H ∧ Stand p l e R s m args below meth c T' (locs ++ L) (cells + mc) (slots + ms) ∧ (∀ z ∈ L, free z.base) ∧ T'.heap = t.heap ∧ T'.vm = t.vm ∧ XC q E st₀ t ∧ t.heap[q]? = some ce ∧ ce.vm = .none ∧ s.vm.findClass E = some ce.cls ∧
      Steps p.tables e below (T.setTop g) ((T'.setTop { g with stack := rest }).pushFrame (.throwing q)))
section
variable {p : Program} {l : Launch} {e : Env} {R : Room} {s : State} {m : MethodId} {args : Array Value} {below : List Frame} {meth : Method} {c : Code} {H : Heap} {locs : List Loc} {cells slots : Nat}
variable {y : MethodName} {bytes cc : ByteArray} {maxL nL mc ms n index : Nat} {ret : Option FieldType} {ws : List Cond} {rm : Room} {Pc : Array Value → State → Prop} {Qc : Array Value → State → Outcome → State → Prop} {XC : Addr → String → State → State → Prop} {free : Addr → Prop} {Ts : List Cond} {own C : String} {b : Addr} {As rest : List Value} {g : JFrame}
theorem cx_callBack (cb : CallB R s args own index y bytes maxL ret ws rm mc ms n) (hM : cx_Met l y ws rm Pc Qc XC mc ms free) (hbl : FrameBlind Pc) : vx_Back l R p e below s args y 3 8 (PreOf R mc ms Pc) (PostOf Qc mc ms free) (cx_Post XC mc ms free) := by
  obtain ⟨hrc, hrs, hfr, hlo, hws, hcw, -, hini, -⟩ := cb
  exact cx_back (bytes := bytes) (maxL := maxL) (ret := ret) hM hbl hrc hrs hfr hlo hws hcw (fun a' U hW => word_at hW (Or.inl (by first | rfl | simp [Cond.onTables, Cond.keeps, Cond.steady])) hini)
theorem cx_runV (S : CallFix p m c cc nL s args Ts own) (hM : cx_Met l y ws rm Pc Qc XC mc ms free) (cw : CallW R s args own C index y bytes maxL ret ws rm mc ms n) (hp : PreV s H C b Pc As)
    (hg : g.method = m) (hn : As.length = n) (hsize : g.locals.size = nL) (hstack : g.stack = As.reverse ++ .ref b :: rest) (hW : 2 * g.monitorRoom + (rest.map fun v => v.category).sum ≤ 8) (hdg : decode cc g.pc = .ok (.invokevirtual index, 3)) (hf : cells + mc ≤ R.cells ∧ slots + ms ≤ R.slots) :
    cx_Run p l e R s m args below meth c H locs cells slots mc ms g rest (Qc (Value.ref b :: As).toArray) XC free := by
  have hK : vx_Back l R p e below s args y 3 8 (PreOf R mc ms Pc) (PostOf Qc mc ms free) (cx_Post XC mc ms free) := cx_callBack cw.1 hM hp.1
  obtain ⟨⟨-, -, -, -, -, -, hcode, -, hy, hlen, hl⟩, hin, hse⟩ := cw
  obtain ⟨hx, hb, hml, ho, -⟩ := S
  obtain ⟨-, ⟨cellB, hcB, hoB, hclB⟩, hPc⟩ := hp
  intro T hT X
  rcases vx_callV X hx (C := C) (bytes := bytes) (maxL := maxL) (ret := ret) ho hl hin hse hcode hy hK (by rw [hT]; exact hcB) hoB hclB hg (hsize.trans hml.symm) (argsL := As) (rest := rest) (fun sig h => hn.trans (hlen sig h)) hstack hW (by rw [hb]; exact hdg)
    (fun vm₁ hW₁ => ⟨hf.1, hf.2, hPc (T.setVm vm₁) hT hW₁⟩) with ⟨v, vm₁, ⟨U', l2, c2, s2⟩, hW₁, X', ⟨g', mk, t, L, e1, e2, hq, h1, hL, h2, h3⟩, st⟩ | ⟨q, vm₁, ⟨U', l2, c2, s2⟩, hW₁, X', ⟨g', mk, t, L, E, ce, e1, e2, hq, hce, hcv, hcl, h1, hL, h2, h3⟩, st⟩
  · dsimp only [Pt.U, Pt.locs, Pt.cells, Pt.slots] at X' e1 e2 h1 h2 h3 st
    subst h1; subst h2; subst h3
    exact Or.inl ⟨v, (T.setVm vm₁).calling g' mk (Value.ref b :: As).toArray, t, U', L, hT, X', hL, e1, e2, hq, st⟩
  · dsimp only [Pt.U, Pt.locs, Pt.cells, Pt.slots] at X' e1 e2 h1 h2 h3 st hcl
    subst h1; subst h2; subst h3
    exact Or.inr ⟨q, (T.setVm vm₁).calling g' mk (Value.ref b :: As).toArray, t, U', L, E, ce, hT, X', hL, e1, e2, hq, hce, hcv, vx_cls hW₁ hcl, st⟩
theorem cx_runVX {hh : List (Nat × Nat × Nat × Nat)} (S : CallFix p m c cc nL s args Ts own) (hM : cx_Met l y ws rm Pc Qc XC mc ms free) (cw : vx_CVW R s args own C index y bytes maxL ret hh ws rm mc ms n) (hp : PreV s H C b Pc As)
    (hg : g.method = m) (hn : As.length = n) (hsize : g.locals.size = nL) (hstack : g.stack = As.reverse ++ .ref b :: rest) (hW : 2 * g.monitorRoom + (rest.map fun v => v.category).sum ≤ 8) (hdg : decode cc g.pc = .ok (.invokevirtual index, 3)) (hf : cells + mc ≤ R.cells ∧ slots + ms ≤ R.slots) :
    cx_Run p l e R s m args below meth c H locs cells slots mc ms g rest (Qc (Value.ref b :: As).toArray) XC free := by
  obtain ⟨⟨hrc, hrs, hfr, hlo, hws, hcw⟩, hcode, hini, hy, hlen, hl, hin, hse⟩ := cw
  have hK : vx_Back l R p e below s args y 3 8 (PreOf R mc ms Pc) (PostOf Qc mc ms free) (cx_Post XC mc ms free) := cx_backW (hh := hh) (bytes := bytes) (maxL := maxL) (ret := ret) hM hp.1 hrc hrs hfr hlo hws hcw (fun a' U hW => word_at hW (Or.inl (by first | rfl | simp [Cond.onTables, Cond.keeps, Cond.steady])) hini)
  obtain ⟨hx, hb, hml, ho, -⟩ := S
  obtain ⟨-, ⟨cellB, hcB, hoB, hclB⟩, hPc⟩ := hp
  intro T hT X
  rcases vx_callVX X hx (C := C) (hh := hh) (bytes := bytes) (maxL := maxL) (ret := ret) ho hl hin hse hcode hy hK (by rw [hT]; exact hcB) hoB hclB hg (hsize.trans hml.symm) (argsL := As) (rest := rest) (fun sig h => hn.trans (hlen sig h)) hstack hW (by rw [hb]; exact hdg)
    (fun vm₁ hW₁ => ⟨hf.1, hf.2, hPc (T.setVm vm₁) hT hW₁⟩) with ⟨v, vm₁, ⟨U', l2, c2, s2⟩, hW₁, X', ⟨g', mk, t, L, e1, e2, hq, h1, hL, h2, h3⟩, st⟩ | ⟨q, vm₁, ⟨U', l2, c2, s2⟩, hW₁, X', ⟨g', mk, t, L, E, ce, e1, e2, hq, hce, hcv, hcl, h1, hL, h2, h3⟩, st⟩
  · dsimp only [Pt.U, Pt.locs, Pt.cells, Pt.slots] at X' e1 e2 h1 h2 h3 st
    subst h1; subst h2; subst h3
    exact Or.inl ⟨v, (T.setVm vm₁).calling g' mk (Value.ref b :: As).toArray, t, U', L, hT, X', hL, e1, e2, hq, st⟩
  · dsimp only [Pt.U, Pt.locs, Pt.cells, Pt.slots] at X' e1 e2 h1 h2 h3 st hcl
    subst h1; subst h2; subst h3
    exact Or.inr ⟨q, (T.setVm vm₁).calling g' mk (Value.ref b :: As).toArray, t, U', L, E, ce, hT, X', hL, e1, e2, hq, hce, hcv, vx_cls hW₁ hcl, st⟩
end
def cx_MQ (below : List Frame) (Qc : Array Value → State → Outcome → State → Prop) (XC : Addr → String → State → State → Prop) (a : Array Value) (s : State) (mc ms : Nat) (free : Addr → Prop) : State → Prop := fun t =>
  ∃ o, t.status = .running ∧ Ended t below o ∧ cx_Q Qc XC mc ms free a s o t
section
variable {p : Program} {l : Launch} {e : Env} {R : Room} {s : State} {m : MethodId} {args : Array Value} {below : List Frame} {meth : Method} {c : Code} {H : Heap} {locs : List Loc} {cells slots : Nat} {Q : State → Prop} {free : Addr → Prop} {ls : Array Slot} {rest : List Value} {Qc : Array Value → State → Outcome → State → Prop} {XC : Addr → String → State → State → Prop}
theorem cx_ret {g : JFrame} {mc ms : Nat} (k : W p l e R s m args below meth c H locs cells slots (MQ below Qc args s mc ms free) g) : W p l e R s m args below meth c H locs cells slots (cx_MQ below Qc XC args s mc ms free) g := by
  intro T hT X
  obtain ⟨t, a1, o, b1, b2, b3, b4⟩ := k T hT X
  exact ⟨t, a1, o, b1, b2, Or.inl ⟨b3, b4⟩⟩
theorem cx_out {pc : Nat} {E : String} {ce : Cell} {q : Addr} {mc ms : Nat} (hout : ∀ x ∈ c.exceptionTable.toList, covers x pc = false) (hlocks : meth.locks = false) (hcell : H[q]? = some ce) (hv : ce.vm = .none) (hcl : s.vm.findClass E = some ce.cls)
    (hx : ∀ t : State, t.heap = H → s.vm.Alike t.vm → XC q E s t) (hf : ∀ z ∈ locs, free z.base) (hc : cells ≤ mc) (hs : slots ≤ ms) :
    vx_W p l e R s m args below meth c H locs cells slots (cx_MQ below Qc XC args s mc ms free) (F0 m pc ls rest) q := by
  intro T hT X
  obtain ⟨st1, hrun, hend, hW, hsm⟩ := X.leaveThrown q (g := F0 m pc ls rest) rfl rfl rfl hout hlocks
  have hcell9 : (T.setFrames (.throwing q :: below)).heap[q]? = some ce := by
    show T.heap[q]? = some ce
    rw [hT]; exact hcell
  exact ⟨_, st1, .threw q, hrun, hend, Or.inr ⟨q, rfl, E, ce, locs, hx _ hT hW.alike, hcell9, hv, hcl, hW, hsm.mono hc hs, hf⟩⟩
end
section
variable {l : Launch}
theorem cx_ofW {y : MethodName} {ws ws' : List Cond} {rm : Room} {Pc : Array Value → State → Prop} {Qc : Array Value → State → Outcome → State → Prop} {XC : Addr → String → State → State → Prop} {mc ms : Nat} {free : Addr → Prop} {cc : ByteArray} {maxL : Nat} {ret : Option FieldType}
    (hy : plainName y.cls = true) (hw : ws = Cond.code y cc maxL ret :: ws')
    (body : ∀ p e s m args below meth c s₁, BodyLoose p l y (headSpec ws rm) cc maxL ret e s m args below meth c s₁ → c.maxLocals = maxL → (∀ x ∈ c.exceptionTable.toList, False) → Pc args s →
      W p l e (headSpec ws rm).room s m args below meth c s.heap [] 0 0 (cx_MQ below Qc XC args s mc ms free) (entryFrame m args maxL)) : cx_Met l y ws rm Pc Qc XC mc ms free := by
  refine MetFree.of_bodyS (code := cc) (maxLocals := maxL) (ret := ret) hy ?_ ?_
  · intro args s m h hn
    obtain ⟨meth, c, h1, h2, h3, h4, h5, h6, -, -⟩ := Cond.code_spec hn (atoms_spec (ws := ws) h _ (by rw [hw]; exact List.mem_cons_self))
    exact ⟨meth, c, h1, h2, h3, h4, h5, h6⟩
  · intro p e s m args below meth c s₁ B hml hP _
    have hh0 : s₁.heap = s.heap := by rw [B.state]; rfl
    have ht : ∀ x ∈ c.exceptionTable.toList, False := by
      obtain ⟨meth9, c9, h1, h2, -, -, -, -, h7, -⟩ := Cond.code_spec B.named (atoms_spec (ws := ws) B.pre _ (by rw [hw]; exact List.mem_cons_self))
      cases Option.some.inj (h1.symm.trans B.method)
      cases Option.some.inj (h2.symm.trans (Stand.of_body B).code)
      intro x hx
      rw [Array.isEmpty_iff.mp h7] at hx
      cases hx
    obtain ⟨t, a1, o, b1, b2, b3⟩ := body p e s m args below meth c s₁ B hml ht hP s₁ hh0 (Stand.of_body B)
    exact ⟨t, o, a1, b1, b2, b3⟩
theorem cx_ofWH {l : Launch} {y : MethodName} {ws ws' : List Cond} {rm : Room} {Pc : Array Value → State → Prop} {Qc : Array Value → State → Outcome → State → Prop} {XC : Addr → String → State → State → Prop} {mc ms : Nat} {free : Addr → Prop} {cc : ByteArray} {maxL : Nat} {ret : Option FieldType} {hh : List (Nat × Nat × Nat × Nat)}
    (hy : plainName y.cls = true) (hw : ws = Cond.codeWith y cc maxL ret hh :: ws')
    (body : ∀ p e s m args below meth c s₁, BodyLoose p l y (headSpec ws rm) cc maxL ret e s m args below meth c s₁ → c.maxLocals = maxL → Pc args s →
      W p l e (headSpec ws rm).room s m args below meth c s.heap [] 0 0 (cx_MQ below Qc XC args s mc ms free) (entryFrame m args maxL)) : cx_Met l y ws rm Pc Qc XC mc ms free := by
  refine MetFree.of_bodyS (code := cc) (maxLocals := maxL) (ret := ret) hy ?_ ?_
  · intro args s m h hn
    obtain ⟨m9, meth, c, hn9, h1, h2, h3, h4, -, h5, h6, -⟩ := Cond.codeWith_spec (atoms_spec (ws := ws) h _ (by rw [hw]; exact List.mem_cons_self))
    cases hn.symm.trans hn9
    exact ⟨meth, c, h1, h2, h3, h4, h5, h6⟩
  · intro p e s m args below meth c s₁ B hml hP _
    have hh0 : s₁.heap = s.heap := by rw [B.state]; rfl
    obtain ⟨t, a1, o, b1, b2, b3⟩ := body p e s m args below meth c s₁ B hml hP s₁ hh0 (Stand.of_body B)
    exact ⟨t, o, a1, b1, b2, b3⟩
end
end CXA
set_option maxHeartbeats 1000000 in
theorem cx_nvmAt {p : Program} {l : Launch} {e : Env} {R : Room} {s : State} {m₀ : MethodId} {args : Array Value} {below : List Frame} {meth : Method} {c : Code} {W : State} {locs : List Loc} {cells slots : Nat}
    (X : Stand p l e R s m₀ args below meth c W locs cells slots) (hexec : p.tables.exec = Jvm.exec) (htr : e.platform.stackTraces = false) {cls : String} {names : List String} {text : String}
    (hcls : Bundle.fit cls = true) (hnames : ∀ n ∈ names, Bundle.fit n = true) (hsoe : (cls == "java/lang/StackOverflowError") = false) (hoom : (cls == "java/lang/OutOfMemoryError") = false)
    (h : ∀ a ∈ Bundle.messageArmAtoms cls names, a.before args s = true)
    (hlocs : ∀ x ∈ locs, ∀ cell, s.heap[x.base]? = some cell → cell.vm.isStatics = false)
    (htext : (text == notModelled) = false) (hlimit : ¬ (stringBytes (stringToUtf16 text)).size > e.platform.arrayLengthLimit) (hheap : ¬ (stringBytes (stringToUtf16 text)).size * componentBytes .byte > e.platform.maxHeapBytes)
    {g : JFrame} (hg : g.method = m₀) (hsize : g.locals.size = c.maxLocals) {nf : NFrame} (hnf : nf.words = 0)
    (hRframes : names.length + 5 < R.frames) (hRlocals : 2 * g.monitorRoom + (g.stack.map fun v => v.category).sum + 10240 ≤ R.locals) (hshort : 13 * names.length + 55 ≤ 10240)
    (hRcells : cells + 3 ≤ R.cells) (hRslots : slots + ((stringBytes (stringToUtf16 text)).size + 4 + 6) ≤ R.slots) :
    ∃ (S : State) (q : Addr) (ce : Cell), Steps p.tables e below (W.setFrames (.throwNew cls (some text) none :: .native nf :: .java g :: below)) (S.setFrames (.throwing q :: .native nf :: .java g :: below)) ∧
      Stand p l e R s m₀ args below meth c S locs (cells + 3) (slots + ((stringBytes (stringToUtf16 text)).size + 4 + 6)) ∧ S.heap[q]? = some ce ∧ s.vm.findClass cls = some ce.cls ∧ ce.vm = .none := by
  have howns : e.platform.frameOwnsMonitors = true := by rw [X.admits.platform]
  have hfin : e.platform.finalization = false := by rw [X.admits.platform]
  have hpl : e.platform.magicAccessors = ({} : Platform).magicAccessors := by rw [X.admits.platform]
  have a : ∀ x, x ∈ Bundle.messageArmAtoms cls names → x.holds args s none s [] = true := fun x hx => h x hx
  obtain ⟨T, Z0, L, -, Y⟩ := ThrowableC.of_atoms (args := args) howns hfin hpl (fun x hx => h x (by simp [Bundle.messageArmAtoms, hx]))
  obtain ⟨Z, M, LZ, LM, hnZ⟩ := Init0T.ofS_atoms (args := args) hpl L Y (fun x hx => h x (by simp [Bundle.messageArmAtoms, hx]))
  obtain ⟨P1, Ps, hlen, L1, hL, hP1m, hlink1, hlink⟩ := Bundle.chainS (args := args) hpl hnZ names cls hcls hnames (fun x hx => h x (by simp [Bundle.messageArmAtoms, hx]))
  obtain ⟨Zs, LZs, hn4, hfitv, hfitc⟩ := StringT.of_atoms (args := args) (fun x hx => h x (by simp [Bundle.messageArmAtoms, hx]))
  have hfound : s.vm.findClass cls = some P1.m.cls := findClass_of_methodNamed hP1m
  obtain ⟨c1, kX, hc1, hk, hord, -, -, hn6⟩ := Cond.instantiable_spec (a (.instantiable cls 6) (by simp [Bundle.messageArmAtoms]))
  cases Option.some.inj (hc1.symm.trans hfound)
  have hinit := Cond.initialized_spec hfound hk (a (.initialized cls) (by simp [Bundle.messageArmAtoms]))
  have hctor : kX.findMethod "<init>" "(Ljava/lang/String;)V" = some P1.m.idx := findMethod_of_methodNamed hP1m hk
  have hsel0 : selectMethod e.platform s.vm P1.m.cls T.fill0 = .method T.fill0 := by
    obtain ⟨c2, r2, m2, q1, q2, q3, q4, -⟩ := Cond.selects_spec (a (.selects cls Bundle.tFill0 Bundle.tFill0) (by simp [Bundle.messageArmAtoms]))
    cases Option.some.inj (q1.symm.trans hfound)
    cases Option.some.inj (q2.symm.trans (State.methodFound?_of_named Y.fill0 (by decide)))
    cases Option.some.inj (q3.symm.trans Y.fill0)
    rw [Launch.admits_selectMethod X.admits]; exact q4
  have hselF : selectMethod e.platform s.vm P1.m.cls T.fill = .method T.fill := by
    obtain ⟨c2, r2, m2, q1, q2, q3, q4, -⟩ := Cond.selects_spec (a (.selects cls Bundle.tFill Bundle.tFill) (by simp [Bundle.messageArmAtoms]))
    cases Option.some.inj (q1.symm.trans hfound)
    cases Option.some.inj (q2.symm.trans (State.methodFound?_of_named Y.fill (by decide)))
    cases Option.some.inj (q3.symm.trans Y.fill)
    rw [Launch.admits_selectMethod X.admits]; exact q4
  obtain ⟨cellS0, hcS0, hiss⟩ := Y.statics
  obtain ⟨u0, hu0⟩ := Cond.staticRefV Y.unassigned L.unassignedStatic L.statics hcS0 hiss (a (.isRef (.static Bundle.tN "UNASSIGNED_STACK" Bundle.steD)) (by simp [Bundle.messageArmAtoms]))
  obtain ⟨sen, hsen⟩ := Cond.staticRefV Y.sentinel L.sentinelStatic L.statics hcS0 hiss (a (.isRef (.static Bundle.tN "SUPPRESSED_SENTINEL" Bundle.listD)) (by simp [Bundle.messageArmAtoms]))
  obtain ⟨ci198, i198, fB, hk198, hg198, ha198, hsB, -, hnB, htB, hffB⟩ := Cond.ownField (t := .object "java/lang/Object") Y.found L.cls (by decide +kernel) (a (.fieldLink Bundle.tN 198 Bundle.tN "backtrace" "Ljava/lang/Object;") (by simp [Bundle.messageArmAtoms])) (a (.lays Bundle.tN Bundle.tN "backtrace" "Ljava/lang/Object;") (by simp [Bundle.messageArmAtoms])) e.platform hpl
  obtain ⟨cellS, hcS', heS, -, hkeep⟩ := X.same.2.2.2.2.2 T.aS cellS0 hcS0
  have hcellS : W.heap[T.aS]? = some cellS := hcS'
  have hout' : ∀ i, (⟨T.aS, i⟩ : Loc) ∉ locs := fun i hmem => by
    have := hlocs _ hmem cellS0 hcS0
    rw [hiss] at this; cases this
  have hknownS : cellS.vm ≠ .unknown := by
    rw [heS]; intro hu
    rw [show cellS0.vm = .unknown from hu] at hiss
    cases hiss
  have hvU : cellS.slots[T.fUnassigned.slot]? = some u0.v := by rw [hkeep _ (hout' _)]; exact hu0
  have hvSen : cellS.slots[T.fSentinel.slot]? = some sen.v := by rw [hkeep _ (hout' _)]; exact hsen
  obtain ⟨iM, hffM⟩ := Y.msg
  obtain ⟨tyC, dC, hdC, hdnC⟩ := Cond.laysAt hfound hk Y.cause (a (.lays cls Bundle.tN "cause" "Ljava/lang/Throwable;") (by simp [Bundle.messageArmAtoms]))
  obtain ⟨tyS, dS, hdS, hdnS⟩ := Cond.laysAt hfound hk Y.stack (a (.lays cls Bundle.tN "stackTrace" Bundle.steD) (by simp [Bundle.messageArmAtoms]))
  obtain ⟨tyP, dP, hdP, hdnP⟩ := Cond.laysAt hfound hk Y.supp (a (.lays cls Bundle.tN "suppressedExceptions" Bundle.listD) (by simp [Bundle.messageArmAtoms]))
  obtain ⟨tyM, dM, hdM, hdnM⟩ := Cond.laysAt hfound hk hffM (a (.lays cls Bundle.tN "detailMessage" "Ljava/lang/String;") (by simp [Bundle.messageArmAtoms]))
  obtain ⟨tyB, dB, hdB, hdnB⟩ := Cond.laysAt hfound hk hffB (a (.lays cls Bundle.tN "backtrace" "Ljava/lang/Object;") (by simp [Bundle.messageArmAtoms]))
  have bC := Cond.laysApart hdB hdC hdnB hdnC (by rw [hnB, Y.causeName]; decide)
  have bS := Cond.laysApart hdB hdS hdnB hdnS (by rw [hnB, Y.stackName]; decide)
  have bP := Cond.laysApart hdB hdP hdnB hdnP (by rw [hnB, Y.suppName]; decide)
  have hbk : ((preparedCellV T.toThrowableT (freshCell P1.m.cls kX) (W.heap.size + 2) u0 sen).withEntry W.cur).slots[fB.slot]? = some .null := by
    have := fresh_default (c := P1.m.cls) tyB
    rw [htB] at this
    simpa [preparedCellV, Cell.setSlot, Cell.withEntry, Array.getElem?_setIfInBounds, bC, bS, bP, bC.symm, bS.symm, bP.symm, defaultValue] using this
  have tkC := Takes.of_laid (v := .ref (W.heap.size + 2)) hk hord tyC (by rw [Y.causeType]; rfl)
  have tkS := Takes.of_laid (v := u0.v) hk hord tyS (by rw [Y.stackType]; exact fits_refV_array _ u0)
  have tkP := Takes.of_laid (v := sen.v) hk hord tyP (by rw [Y.suppType]; exact fits_refV_object _ sen)
  have tkM := Takes.of_laid (v := .ref (W.heap.size + 1)) hk hord tyM (by rw [Y.msgType]; rfl)
  have hskip : SkipFacts T e.platform s (fun u => u) u0 ((preparedCellV T.toThrowableT (freshCell P1.m.cls kX) (W.heap.size + 2) u0 sen).withEntry W.cur) := ⟨{ ci198 := ci198, i198 := i198, fBack := fB }, ⟨hk198, hg198, ha198, hsB⟩, hbk, fun _ _ => rfl⟩
  obtain ⟨vm', X5, h1, hkept⟩ := X.nativeThrowsMessageColdBareV hexec hsize hnf T L Z LZ M LM Zs LZs P1 L1 Ps hL hlink1 hlink hsoe hoom hfound hk hinit hord hctor htext hlimit hheap
    (hfitv _) (hfitc _) hsel0 hselF hcellS hknownS hvU hvSen tkC tkS tkP tkM Y.objLocals hskip (fun _ _ hA hW _ hroom _ hrest => L.nativeOff p htr hA hW hroom hrest)
    (by rw [hlen]; exact hRframes) hRlocals (by rw [hlen]; exact hshort) hRcells (by rw [hn4, hn6]; exact hRslots)
  have b1 : (bytesOf Zs.cB (stringToUtf16 text)).slots.size = (stringBytes (stringToUtf16 text)).size := by
    rw [(Cell.writeAll_facts _ _).2.2]; simp [bytes0]
  have b2 : (stringAt Zs.cS Zs.kS Zs.fv Zs.fc (stringToUtf16 text) W.heap.size).slots.size = 4 := by simp [string0, Cell.setSlot, hn4]
  have b3 : (freshCell P1.m.cls kX).slots.size = 6 := by simp [hn6]
  rw [b1, b2, b3] at X5
  have e9 : slots + (stringBytes (stringToUtf16 text)).size + 4 + 6 = slots + ((stringBytes (stringToUtf16 text)).size + 4 + 6) := by omega
  rw [e9] at X5
  have ha : W.heap.size + 2 < ((withThrown W Zs text P1.m.cls kX).setVm vm').heap.size := by
    show W.heap.size + 2 < (withThrown W Zs text P1.m.cls kX).heap.size
    rw [(withThrown_facts e.platform W Zs text P1.m.cls kX).2.2.1]; omega
  refine ⟨_, W.heap.size + 2, _, h1, X5.forget (fun y hy => ?_), heapAt_setCell_self _ ha, hfound, rfl⟩
  simp only [List.mem_cons, List.not_mem_nil, or_false] at hy
  have hge : s.heap.size ≤ W.heap.size := X.same.2.1
  rcases hy with rfl | rfl | rfl | rfl | rfl <;> exact Nat.le_trans hge (Nat.le_add_right _ 2)
theorem in_X7 : ∀ w ∈ u_ws RX7 (fun _ => ("", "", "", false)) 0, w ∈ lw_all := by
  intro w h
  simp [u_ws] at h
def tyX7 : Nat → FieldType := fun _ => .int
theorem tyX7_ok : ∀ k, k < 0 → parseFieldDescriptor ((fun _ => ("", "", "", false) : u_T) k).2.2.1 = some (tyX7 k) := fun k h => absurd h (Nat.not_lt_zero k)
theorem nf_X7 : ∀ j, j < 0 → defaultValue (tyX7 j) = vp_V [] j := fun j h => absurd h (Nat.not_lt_zero j)
/-- the monitor of the object at a is free; free ones stay free -/
def Mf (H : Heap) (a : Nat) : Prop := ∃ c : Cell, H[a]? = some c ∧ c.monitor.owner = none ∧ c.monitor.count = 0
def Mo (H H1 : Heap) : Prop := ∀ a, Mf H a → Mf H1 a
/-- what a thrower of the wide world hands on: the thrown object's place, its class by number, the world behind it; objects whose monitors are free -/
def cXC (G : gG) (A : Nat → Prop) (xs : List Nat) (xp : Nat → List Nat → NM → Prop) : Addr → String → State → State → Prop := fun q E st t =>
  ∃ (N1 : NM) (ci : Nat) (fs : List Value) (r : vw_C) (ch : List Nat), ci ∈ xs ∧ vwCl[ci]? = some r ∧ r.1 = E ∧ N1 q = some (eO ci fs) ∧ xp q ch N1 ∧ cBw G A [] N1 t.heap ∧ va_F A st t ∧ ∀ a ∈ ch, Mf t.heap a
theorem cx_toMet {l : Launch} {y : MethodName} {ws : List Cond} {rm : Room} {Pc : Array Value → State → Prop} {Qc : Array Value → State → Outcome → State → Prop} {mc ms : Nat} {free : Addr → Prop} {G : gG} {A : Nat → Prop} {xp : Nat → List Nat → NM → Prop} (h : cx_Met l y ws rm Pc Qc (cXC G A [] xp) mc ms free) : Met l y ws rm Pc Qc mc ms free :=
  MetFree.mono h (fun _ _ h => h) (fun _ _ _ _ _ h => h) (fun a s o t _ hq => by
    rcases hq with hq | ⟨q, -, E, ce, L, ⟨N1, ci, fs, r, ch, hci, -⟩, -⟩
    · exact hq
    · cases hci)
section CXW
variable {p : Program} {l : Launch} {e : Env} {R : Room} {s : State} {m : MethodId} {args : Array Value} {below : List Frame} {meth : Method} {c : Code} {H : Heap} {locs : List Loc} {cells slots : Nat} {Q : State → Prop} {cc : ByteArray} {pc : Nat} {ls : Array Slot} {rest : List Value}
variable {G : gG} {A : Nat → Prop} {own : String} {nL : Nat} {L : va_W} {N : NM}
theorem cx_callJ {ρ : Type} {val : ρ → Option Value} {post : ρ → NM → Prop} {xs : List Nat} {xp : Nat → List Nat → NM → Prop} {a : Array Value} {st0 : List Value} {mc ms : Nat} (X : cX G A own p s m args c cc nL) (hw : cH G A s L N H locs)
    (hr : cx_Run p l e R s m args below meth c H locs cells slots mc ms (F0 m pc ls st0) rest (gQ val post (fun u H' => cBw G (cA [] N H.size) [] u H') (cA [] N H.size) a) (cXC G (cA [] N H.size) xs xp) (cA [] N H.size))
    (kx : ∀ (q : Nat) (N1 : NM) (H1 : Heap) (locs1 : List Loc) (ci : Nat) (fs : List Value) (ch : List Nat), ci ∈ xs → N1 q = some (eO ci fs) → xp q ch N1 → cH G A s L N1 H1 locs1 → (∀ a ∈ ch, Mf H1 a) → vx_W p l e R s m args below meth c H1 locs1 (cells + mc) (slots + ms) Q (F0 m pc ls rest) q)
    (kk : ∀ (r : ρ) (N1 : NM) (H1 : Heap) (locs1 : List Loc), post r N1 → cH G A s L N1 H1 locs1 → W p l e R s m args below meth c H1 locs1 (cells + mc) (slots + ms) Q (F0 m (pc + 3) ls ((val r).toList ++ rest))) : W p l e R s m args below meth c H locs cells slots Q (F0 m pc ls st0) := by
  intro T hT Y
  rcases hr T hT Y with ⟨v, st₀, t, T', Ls, h0, X', hL, e1, e2, ⟨⟨r, u, hv, hp, hB⟩, hz, hk⟩, st⟩ | ⟨q, st₀, t, T', Ls, E, ce, h0, X', hL, e1, e2, ⟨N1, ci, fs, r, ch, hci, hcl9, hE, hN1, hp, hB, ⟨hz, hk⟩, hch⟩, hce, hcv, hcl, st⟩
  · cases hv
    rw [h0] at hz hk
    obtain ⟨t2, a1, b1⟩ := kk r u T'.heap (locs ++ Ls) hp (by rw [e1]; exact cH.joinJ X hw hB hz hk hL) T' rfl X'
    exact ⟨t2, st t2 a1, b1⟩
  · rw [h0] at hz hk
    obtain ⟨t2, a1, b1⟩ := kx q N1 T'.heap (locs ++ Ls) ci fs ch hci hN1 hp (by rw [e1]; exact cH.joinJ X hw hB hz hk hL) (by rw [e1]; exact hch) T' rfl X'
    exact ⟨t2, st.trans a1, b1⟩
theorem c_cell (X : cX G A own p s m args c cc nL) (hw : cH G A s L N H locs) {a ci : Nat} {fs : List Value} {r : vw_C} (ha : N a = some (eO ci fs)) (hc : vwCl[ci]? = some r) : ∃ cell : Cell, H[a]? = some cell ∧ cell.vm = .none ∧ s.vm.findClass r.1 = some cell.cls := by
  obtain ⟨ws, q0, hP, -, he⟩ := hw.1.get ha
  obtain ⟨q', h1, cell, g1, g2, g3, -⟩ := hP q0 _ he
  exact ⟨cell, g1, g3, by rw [g2]; exact (X.2.1.1 ci r hc).2.1⟩
/-- a thrown object of the world goes to the handler x -/
theorem cx_catchJ (X : cX G A own p s m args c cc nL) (hw : cH G A s L N H locs) {q ci : Nat} {fs : List Value} {r : vw_C} (ha : N q = some (eO ci fs)) (hc : vwCl[ci]? = some r) (pre : List ExceptionTableEntry) (x : ExceptionTableEntry) (suf : List ExceptionTableEntry) (hsplit : c.exceptionTable.toList = pre ++ x :: suf)
    (hpass : ∀ z ∈ pre, covers z pc = false ∨ (z.catchType ≠ 0 ∧ ∃ nm : String, (Cond.classLink own z.catchType nm).before args s = true ∧ va_Nc r.1 nm s)) (hx : covers x pc = true) (h0 : x.catchType ≠ 0) {name : String}
    (hlink : Cond.classLink own x.catchType name ∈ lw_all) (hcast : Cond.castable r.1 name ∈ lw_tbl)
    (kk : W p l e R s m args below meth c H locs cells slots Q (F0 m x.handlerPc ls [.ref q])) : vx_W p l e R s m args below meth c H locs cells slots Q (F0 m pc ls rest) q := by
  obtain ⟨ce, h1, h2, h3⟩ := c_cell X hw ha hc
  exact vx_catch X.1.2.2.2.1 pre x suf hsplit hpass hx h0 (X.1.2.2.2.2 _ hlink) (va_Nw.use (A := args) rfl (X.2.2.2.1.castable X.2.2.1 hcast)) h1 h2 h3 kk
/-- a thrown object of the world leaves the method -/
theorem cx_outJ {ρ : Type} {val : ρ → Option Value} {post : ρ → NM → Prop} {xs : List Nat} {xp : Nat → List Nat → NM → Prop} {mc ms : Nat} (X : cX G A own p s m args c cc nL) (hw : cH G A s [] N H locs) {q ci : Nat} {fs : List Value} {r : vw_C} (ha : N q = some (eO ci fs)) (hc : vwCl[ci]? = some r) (hci : ci ∈ xs)
    (hout : ∀ x ∈ c.exceptionTable.toList, covers x pc = false) (hlk : meth.locks = false) {ch : List Nat} (hch : ∀ a ∈ ch, Mf H a) (hp : xp q ch N) (h1 : cells ≤ mc) (h2 : slots ≤ ms) :
    vx_W p l e R s m args below meth c H locs cells slots (cx_MQ below (gQ val post (fun u H => cBw G A (jW u).1 (jW u).2 H) A) (cXC G A xs xp) args s mc ms A) (F0 m pc ls rest) q := by
  obtain ⟨ce, g1, g2, g3⟩ := c_cell X hw ha hc
  exact cx_out hout hlk g1 g2 g3 (fun t ht _ => ⟨N, ci, fs, r, ch, hci, hc, rfl, ha, hp, by rw [ht]; exact hw.1, hw.2.F ht, by rw [ht]; exact hch⟩) hw.2.2.2 h1 h2
theorem c_ofX {ρ σ : Type} {val : ρ → Option Value} {post : ρ → σ → Prop} {B : (Nat → Prop) → σ → Heap → Prop} {xs : List Nat} {xp : Nat → List Nat → NM → Prop} {y : MethodName} {bytes : ByteArray} {maxL sz : Nat} {ret : Option FieldType} {As : List Value} {fr lo mc ms : Nat} (hy : plainName y.cls = true) (hO : gOk G) (hn : (lg_sl As).length ≤ maxL)
    (body : ∀ (p : Program) (e : Env) (s : State) (m : MethodId) (below : List Frame) (meth : Method) (c : Code) (ls : Array Slot) (A : Nat → Prop), cX G A y.cls p s m As.toArray c bytes maxL → meth.sig.returnType = ret → meth.locks = false → c.exceptionTable.toList = tableOf [] → cH G A s [] N s.heap [] → lv_has ls maxL (lv_args 0 As) →
      W p l e ⟨fr, mc, ms, lo⟩ s m As.toArray below meth c s.heap [] 0 0 (cx_MQ below (gQ val post (B A) A) (cXC G A xs xp) As.toArray s mc ms A) (F0 m 0 ls [])) :
    cx_Met l y (ws_ y bytes maxL ret) ⟨fr, mc, ms, lo⟩ (va_Pc As (cPre G [] N sz)) (gQ val post (B (cA [] N sz)) (cA [] N sz)) (cXC G (cA [] N sz) xs xp) mc ms (cA [] N sz) := by
  refine cx_ofW (cc := bytes) (maxL := maxL) (ret := ret) hy rfl ?_
  intro p e s m args below meth c s₁ B9 hml ht hv
  obtain ⟨rfl, rfl, hP, hK⟩ := hv
  have hts := atoms_spec (ws := ws_ y bytes maxL ret) B9.pre
  have hts : ∀ w ∈ lw_all, w.before _ s = true := fun w h => hts w (List.mem_cons_of_mem _ h)
  have hl := lv_entry As (n := maxL) hn
  rw [lg_entry_eq]
  have ht0 : c.exceptionTable.toList = tableOf [] := by
    cases hE : c.exceptionTable.toList with
    | nil => rfl
    | cons x t => exact (ht x (by rw [hE]; exact List.mem_cons_self)).elim
  exact body p e s m below meth c _ (cA [] N s.heap.size) ⟨⟨B9.exec, B9.bytes, hml, findClass_of_methodNamed B9.named, hts⟩, hK.va hO, hO, hK, fun q h => Or.inr (Or.inr h), cA_le hP hK.le⟩ B9.returns B9.notSynchronized ht0 ⟨hP.own _, va_S.rf⟩ hl
theorem c_ofXH {ρ σ : Type} {val : ρ → Option Value} {post : ρ → σ → Prop} {B : (Nat → Prop) → σ → Heap → Prop} {xs : List Nat} {xp : Nat → List Nat → NM → Prop} {y : MethodName} {bytes : ByteArray} {maxL sz : Nat} {ret : Option FieldType} {hh : List (Nat × Nat × Nat × Nat)} {As : List Value} {fr lo mc ms : Nat} (hy : plainName y.cls = true) (hO : gOk G) (hn : (lg_sl As).length ≤ maxL)
    (body : ∀ (p : Program) (e : Env) (s : State) (m : MethodId) (below : List Frame) (meth : Method) (c : Code) (ls : Array Slot) (A : Nat → Prop), cX G A y.cls p s m As.toArray c bytes maxL → meth.sig.returnType = ret → meth.locks = false → c.exceptionTable.toList = tableOf hh → cH G A s [] N s.heap [] → lv_has ls maxL (lv_args 0 As) →
      W p l e ⟨fr, mc, ms, lo⟩ s m As.toArray below meth c s.heap [] 0 0 (cx_MQ below (gQ val post (B A) A) (cXC G A xs xp) As.toArray s mc ms A) (F0 m 0 ls [])) :
    cx_Met l y (wsW_ y bytes maxL ret hh) ⟨fr, mc, ms, lo⟩ (va_Pc As (cPre G [] N sz)) (gQ val post (B (cA [] N sz)) (cA [] N sz)) (cXC G (cA [] N sz) xs xp) mc ms (cA [] N sz) := by
  refine cx_ofWH (cc := bytes) (maxL := maxL) (ret := ret) (hh := hh) hy rfl ?_
  intro p e s m args below meth c s₁ B9 hml hv
  obtain ⟨rfl, rfl, hP, hK⟩ := hv
  have hts := atoms_spec (ws := wsW_ y bytes maxL ret hh) B9.pre
  have ht0 := vx_table (x := y) B9 (hts _ List.mem_cons_self)
  have hts : ∀ w ∈ lw_all, w.before _ s = true := fun w h => hts w (List.mem_cons_of_mem _ h)
  have hl := lv_entry As (n := maxL) hn
  rw [lg_entry_eq]
  exact body p e s m below meth c _ (cA [] N s.heap.size) ⟨⟨B9.exec, B9.bytes, hml, findClass_of_methodNamed B9.named, hts⟩, hK.va hO, hO, hK, fun q h => Or.inr (Or.inr h), cA_le hP hK.le⟩ B9.returns B9.notSynchronized ht0 ⟨hP.own _, va_S.rf⟩ hl
/-- nothing of the world changes where the heap only grows -/
theorem cH.grow (hw : cH G A s L N H locs) {H1 : Heap} (hk : ∀ q : Nat, q < H.size → H1[q]? = H[q]?) (hS : va_S A s.heap H1 locs) : cH G A s L N H1 locs := by
  obtain ⟨⟨w, h1, h2, h3⟩, -⟩ := hw
  refine ⟨⟨w, fun k q hq => ?_, h2, h3⟩, hS⟩
  have hlt := vx_lt h1 hq
  have h4 := h1 k q hq
  have e1 := hk q.1 hlt
  revert h4
  unfold va_at
  cases q.2 with
  | inl a => intro h4; show H1[q.1]? = _; rw [e1]; exact h4
  | inr o =>
    rintro ⟨r, hr, cell, g1, g2⟩
    exact ⟨r, hr, cell, by rw [e1]; exact g1, g2⟩
theorem cX.U (X : cX G A own p s m args c cc nL) {C n d : String} (h : vx_Zq C n d (gAz G) (g0 G) (g0 G).heap) : vx_Zq C n d A s s.heap := ((vx_Zq.moved X.2.2.2.1.1.alike h).kept (fun a _ hA => X.2.2.2.1.2 a (Nat.not_le.mp hA))).narrow X.2.2.2.2.2
/-- the machine throws ArrayIndexOutOfBoundsException with a text -/
theorem c_aio (X : cX G A own p s m args c cc nL) (hw : cH G A s L N H locs) (hL : l.stackTraces = false) {tx : String} {nb : Nat} (htx : (tx == notModelled) = false) (hnb : (stringBytes (stringToUtf16 tx)).size ≤ nb) (hnb1 : nb ≤ 1000) (hsz : ls.size = nL) (hfr : 7 < R.frames) (hlo : (rest.map fun v => v.category).sum + 10240 ≤ R.locals) (hc : cells + 3 ≤ R.cells) (hs : slots + (nb + 10) ≤ R.slots) (hlk : meth.locks = false)
    (k : ∀ (H1 : Heap) (q : Nat), cH G A s L N H1 locs → (∃ ce : Cell, H1[q]? = some ce ∧ ce.vm = .none ∧ s.vm.findClass "java/lang/ArrayIndexOutOfBoundsException" = some ce.cls) → vx_W p l e R s m args below meth c H1 locs (cells + 3) (slots + (nb + 10)) Q (F0 m pc ls rest) q) :
    vx_Note p l e R s m args below meth c H locs cells slots Q (F0 m pc ls rest) "java/lang/ArrayIndexOutOfBoundsException" tx :=
  vx_vm (A := A) (names := xNames) (nb := nb) X.1.1 hL (by decide +kernel) (by decide +kernel) (by decide +kernel) (by decide +kernel) X.wM gM (X.U X.cs.2.2.2.2.2.2.2.1) (X.U X.cs.2.2.2.2.2.2.2.2) hw.2 (by rw [hsz]; exact X.1.2.2.1.symm) htx hnb hnb1 hfr hlo (by decide) hc hs hlk
    (fun H1 q ce h1 h2 h3 h4 h5 h6 => k H1 q (hw.grow h2 h3) ⟨ce, h4, h5, h6⟩)
theorem c_npe (X : cX G A own p s m args c cc nL) (hw : cH G A s L N H locs) (hL : l.stackTraces = false) (hsz : ls.size = nL) (hfr : 7 < R.frames) (hlo : (rest.map fun v => v.category).sum + 10240 ≤ R.locals) (hc : cells + 1 ≤ R.cells) (hs : slots + 8 ≤ R.slots) (hlk : meth.locks = false)
    (k : ∀ (H1 : Heap) (q : Nat), cH G A s L N H1 locs → (∃ ce : Cell, H1[q]? = some ce ∧ ce.vm = .none ∧ s.vm.findClass "java/lang/NullPointerException" = some ce.cls) → vx_W p l e R s m args below meth c H1 locs (cells + 1) (slots + 8) Q (F0 m pc ls rest) q) :
    vx_NoteN p l e R s m args below meth c H locs cells slots Q (F0 m pc ls rest) :=
  vx_npe (A := A) (nb := 8) X.1.1 hL X.wN gN (X.U X.cs.2.2.2.2.2.2.2.1) (X.U X.cs.2.2.2.2.2.2.2.2) hw.2 (by rw [hsz]; exact X.1.2.2.1.symm) hfr hlo hc hs hlk
    (fun H1 q ce h1 h2 h3 h4 h5 h6 => k H1 q (hw.grow h2 h3) ⟨ce, h4, h5, h6⟩)
theorem utf_le (l : List Char) (acc : Array UInt16) : (l.foldl (init := acc) fun acc c =>
    if c.toNat < 0x10000 then acc.push c.toNat.toUInt16
    else if 0x100000 ≤ c.toNat && c.toNat ≤ 0x1007FF then acc.push (0xD800 + (c.toNat - 0x100000)).toUInt16
    else (acc.push (0xD800 + (c.toNat - 0x10000) / 0x400).toUInt16).push (0xDC00 + (c.toNat - 0x10000) % 0x400).toUInt16).size ≤ acc.size + 2 * l.length := by
  induction l generalizing acc with
  | nil => exact Nat.le_refl _
  | cons c t ih =>
    rw [List.foldl_cons]
    refine Nat.le_trans (ih _) ?_
    rw [List.length_cons]
    split
    · rw [Array.size_push]; omega
    · split
      · rw [Array.size_push]; omega
      · rw [Array.size_push, Array.size_push]; omega
theorem sb_le (u : Array UInt16) : (stringBytes u).size ≤ 2 * u.size := by
  unfold stringBytes
  split
  · rw [Array.size_map]; omega
  · rw [Array.size_flatMap]
    have h : ∀ l : List UInt16, (l.map fun u : UInt16 => (#[byteValue u.toUInt8, byteValue (u >>> 8).toUInt8] : Array Value).size).sum = 2 * l.length := by
      intro l
      induction l with
      | nil => rfl
      | cons a t ih => rw [List.map_cons, List.sum_cons, ih, List.length_cons]; show 2 + _ = _; omega
    have h2 := h u.toList
    simp only [Array.length_toList] at h2
    first
    | (rw [← Array.sum_toList, Array.toList_map]; omega)
    | (simp; omega)
theorem text_le (tx : String) : (stringBytes (stringToUtf16 tx)).size ≤ 4 * tx.length := by
  refine Nat.le_trans (sb_le _) ?_
  have h := utf_le tx.toList #[]
  have h2 : (stringToUtf16 tx).size ≤ 0 + 2 * tx.toList.length := h
  rw [String.length_toList] at h2
  omega
theorem i32_len (i : Int32) : (toString i).length ≤ 11 := by
  have h1 := Int32.toInt_lt i
  have h2 := Int32.le_toInt i
  show (toString i.toInt).length ≤ 11
  cases h : i.toInt with
  | ofNat n =>
    show (Nat.repr n).length ≤ 11
    have h9 : (n : Int) < 2147483648 := by rw [h] at h1; exact h1
    exact Nat.le_trans ((Nat.length_repr_le_iff (k := 10) (by omega)).mpr (by omega)) (by omega)
  | negSucc n =>
    show ("-" ++ Nat.repr (n + 1)).length ≤ 11
    rw [String.length_append]
    have h3 := (Nat.length_repr_le_iff (n := n + 1) (k := 10) (by omega)).mpr (by rw [h] at h2; omega)
    show 1 + _ ≤ _
    omega
theorem nm_first (t : String) (ch : Char) (u : List Char) (h : t.toList = ch :: u) (hc : ch ≠ Char.ofNat 0) : (t == notModelled) = false := by
  rw [beq_eq_false_iff_ne]
  intro hh
  rw [hh] at h
  have h2 : notModelled.toList = (Char.ofNat 0) :: (notModelled.toList.drop 1) := by decide +kernel
  rw [h2] at h
  exact hc (List.cons.inj h).1.symm
/-- an index out of bounds in an array of references: to the handler -/
theorem c_aaldZ (X : cX G A own p s m args c cc nL) (hw : cH G A s L N H locs) (hL : l.stackTraces = false) {a n : Nat} (t0 : Nat) {C : String} {f : Nat → Option Nat} (ha : N a = some (eR t0 n f)) (ht : (gT G)[t0]? = some (gA G t0, .object C)) {i : Int32} (hi : ¬ vp_in i n) (hn : n < 1000) (hsz : ls.size = nL) (hfr : 7 < R.frames) (hlo : (rest.map fun v => v.category).sum + 10240 ≤ R.locals) (hc : cells + 3 ≤ R.cells) (hs : slots + 210 ≤ R.slots) (hlk : meth.locks = false) (d : decode cc pc = .ok (.aaload, 1))
    (k : ∀ (H1 : Heap) (q : Nat), cH G A s L N H1 locs → (∃ ce : Cell, H1[q]? = some ce ∧ ce.vm = .none ∧ s.vm.findClass "java/lang/ArrayIndexOutOfBoundsException" = some ce.cls) → vx_W p l e R s m args below meth c H1 locs (cells + 3) (slots + 210) Q (F0 m pc ls rest) q) : W p l e R s m args below meth c H locs cells slots Q (F0 m pc ls (.int i :: .ref a :: rest)) := by
  obtain ⟨ws, q0, hP, -, h0⟩ := hw.1.get ha
  have kn : ∀ tx : String, tx = (toString "Index " ++ toString i ++ toString " out of bounds for length " ++ toString n : String) → vx_Note p l e R s m args below meth c H locs cells slots Q (F0 m pc ls rest) "java/lang/ArrayIndexOutOfBoundsException" tx := by
    intro tx htx
    refine c_aio (nb := 200) X hw hL ?_ ?_ (by decide) hsz hfr hlo hc hs hlk k
    · refine nm_first tx 'I' (tx.toList.drop 1) ?_ (by decide)
      rw [htx]
      simp only [String.toList_append]
      rfl
    · refine Nat.le_trans (text_le _) ?_
      have h1 := i32_len i
      have h2 : (toString n).length ≤ 3 := (Nat.length_repr_le_iff (k := 3) (by omega)).mpr (by omega)
      have e1 : (toString "Index ").length = 6 := rfl
      have e2 : (toString " out of bounds for length ").length = 26 := rfl
      rw [htx, String.length_append, String.length_append, String.length_append, e1, e2]
      omega
  intro T hT Y
  obtain ⟨t, st, q⟩ := kn _ rfl T hT Y
  refine ⟨t, ?_, q⟩
  have h1 := Y.aaloadOut X.1.1 (by rw [hT]; exact hP q0 _ h0) ((X.2.1.2 t0 _ ht).1 n (fun j => va_rf (f j))) (j := i) (by show (i < 0 ∨ (arrV _ _ _).slots.size ≤ _); rw [arrV_size]; exact Classical.byContradiction hi) (g := F0 m pc ls (.int i :: .ref a :: rest)) rfl (rest := rest) rfl (by rw [X.1.2.1]; exact d) t
  simp only [arrV_size] at h1
  exact h1 st
/-- a caught machine's throw -/
theorem cx_catchM (X : cX G A own p s m args c cc nL) {E : String} {q : Nat} (hq : ∃ ce : Cell, H[q]? = some ce ∧ ce.vm = .none ∧ s.vm.findClass E = some ce.cls) (pre : List ExceptionTableEntry) (x : ExceptionTableEntry) (suf : List ExceptionTableEntry) (hsplit : c.exceptionTable.toList = pre ++ x :: suf)
    (hpass : ∀ z ∈ pre, covers z pc = false ∨ (z.catchType ≠ 0 ∧ ∃ nm : String, (Cond.classLink own z.catchType nm).before args s = true ∧ va_Nc E nm s)) (hx : covers x pc = true) (h0 : x.catchType ≠ 0) {name : String}
    (hlink : Cond.classLink own x.catchType name ∈ lw_all) (hcast : Cond.castable E name ∈ lw_tbl)
    (kk : W p l e R s m args below meth c H locs cells slots Q (F0 m x.handlerPc ls [.ref q])) : vx_W p l e R s m args below meth c H locs cells slots Q (F0 m pc ls rest) q := by
  obtain ⟨ce, h1, h2, h3⟩ := hq
  exact vx_catch X.1.2.2.2.1 pre x suf hsplit hpass hx h0 (X.1.2.2.2.2 _ hlink) (va_Nw.use (A := args) rfl (X.2.2.2.1.castable X.2.2.1 hcast)) h1 h2 h3 kk
/-- the method's frame seen from a later start -/
theorem cX.late (X : cX G A own p s m args c cc nL) (hw : cH G A s L N H locs) {T : State} (hT : T.heap = H) : cX G A own p ((T.setVm s.vm).setFrames (.invoking m args :: below)) m args c cc nL :=
  ⟨⟨X.1.1, X.1.2.1, X.1.2.2.1, X.1.2.2.2.1, fun w h => pay_in X.1.2.2.2.2 (lw_meth q182) w (List.mem_cons_of_mem _ h) args _ (State.WarmedH.refl s)⟩, va_K.moved (State.WarmedH.refl s).alike X.2.1, X.2.2.1, X.go hw hT (State.WarmedH.refl s), fun q hq => X.2.2.2.2.1 q (Nat.le_trans hw.2.1 (by rw [← hT]; exact hq)), X.2.2.2.2.2⟩
/-- a row of the world, with what it leaves of monitors -/
theorem mo_row (X : cX G A own p s m args c cc nL) (hw : cH G A s L N H locs) (hcs : cells ≤ R.cells ∧ slots ≤ R.slots) {dc dn : Nat} {PN : NM → Prop} {g1 g2 : JFrame}
    (row : ∀ (s0 : State) (Q0 : State → Prop), cX G A own p s0 m args c cc nL → cH G A s0 L N H [] → (∀ (N1 : NM) (H1 : Heap) (locs1 : List Loc), PN N1 → cH G A s0 L N1 H1 locs1 → W p l e ⟨R.frames, R.cells - cells, R.slots - slots, R.locals⟩ s0 m args below meth c H1 locs1 (0 + dc) (0 + dn) Q0 g2) → W p l e ⟨R.frames, R.cells - cells, R.slots - slots, R.locals⟩ s0 m args below meth c H [] 0 0 Q0 g1)
    (kk : ∀ (N1 : NM) (H1 : Heap) (locs1 : List Loc), PN N1 → cH G A s L N1 H1 locs1 → Mo H H1 → W p l e R s m args below meth c H1 locs1 (cells + dc) (slots + dn) Q g2) : W p l e R s m args below meth c H locs cells slots Q g1 := by
  intro T hT Y
  have Y2 := vx_rebase Y (R' := ⟨R.frames, R.cells - cells, R.slots - slots, R.locals⟩) (Nat.le_refl _) (Nat.le_refl _) (by show cells + (R.cells - cells) ≤ R.cells; omega) (by show slots + (R.slots - slots) ≤ R.slots; omega)
  have hhp : ((T.setVm s.vm).setFrames (.invoking m args :: below)).heap = H := hT
  refine row _ Q (X.late hw hT) ⟨hw.1, by rw [hhp]; exact va_S.rf⟩ (fun N1 H1 locs1 hPN hw1 T1 hT1 Z => ?_) T hT Y2
  have hW0 : s.WarmedH ((T.setVm s.vm).setFrames (.invoking m args :: below)).vm := State.WarmedH.refl s
  have Z' : Stand p l e R s m args below meth c T1 (locs ++ locs1) (cells + dc) (slots + dn) := by
    refine { admits := Y.admits, cas := Y.cas, clock := Y.clock, frames := Y.frames, room := Y.room, hears := Y.hears, method := Y.method, code := Y.code, here := Z.here, tail := Z.tail, warmed := State.WarmedH.trans hW0 Z.warmed, limits := Z.limits.trans (Y2.limits.symm.trans Y.limits), bytes := Z.bytes.trans (Y2.bytes.symm.trans Y.bytes), same := ?_ }
    obtain ⟨e1, e2⟩ := Z.same
    rw [State.setFrames_setFrames] at e1
    have h2 : (T.setVm s.vm).sameButNew (T1.setVm s.vm) locs1 (0 + dc) (0 + dn) := ⟨e1, e2⟩
    have h3 := Y.same.trans h2
    rw [Nat.zero_add, Nat.zero_add] at h3
    exact h3
  have hS1 : va_S A H H1 locs1 := by rw [← hhp]; exact hw1.2
  refine kk N1 H1 (locs ++ locs1) hPN ⟨hw1.1, Nat.le_trans hw.2.1 hS1.1, fun q h1 h2 => (hS1.2.1 q (Nat.lt_of_lt_of_le h1 hw.2.1) h2).trans (hw.2.2.1 q h1 h2), fun q hq => (List.mem_append.mp hq).elim (hw.2.2.2 q) (hS1.2.2 q)⟩ (fun a ha => ?_) T1 hT1 Z'
  obtain ⟨c9, f1, f2, f3⟩ := ha
  obtain ⟨c8, k1, k2, -⟩ := Z.same.2.2.2.2.2 a c9 (by show T.heap[a]? = _; rw [hT]; exact f1)
  have k3 : H1[a]? = some c8 := by rw [← hT1]; exact k1
  exact ⟨c8, k3, by rw [k2]; exact f2, by rw [k2]; exact f3⟩
/-- new, with the new object's monitor -/
theorem c_newM (X : cX G A own p s m args c cc nL) (hw : cH G A s L N H locs) {C : String} {T : u_T} {Nf ci : Nat} (hin : ∀ w ∈ u_ws C T Nf, w ∈ lw_all) (ty : Nat → FieldType) (hty : ∀ k, k < Nf → parseFieldDescriptor (T k).2.2.1 = some (ty k)) {index : Nat} (hcl : Cond.classLink own index C ∈ lw_all) (hinst : Cond.instantiable C Nf ∈ lw_all) (hini : Cond.initialized C ∈ lw_all) (hc : vwCl[ci]? = some (C, T, Nf)) {fs : List Value} (hfs : ∀ j, j < Nf → defaultValue (ty j) = vp_V fs j) (hcells : cells + 1 ≤ R.cells) (hslots : slots + Nf ≤ R.slots) (d : decode cc pc = .ok (.new index, 3))
    (kk : ∀ (q : Nat) (H1 : Heap), N q = none → gZ G ≤ q → cH G A s L (va_up N q (some (eO ci fs))) H1 locs → Mf H1 q → Mo H H1 → W p l e R s m args below meth c H1 locs (cells + 1) (slots + Nf) Q (F0 m (pc + 3) ls (.ref q :: rest))) : W p l e R s m args below meth c H locs cells slots Q (F0 m pc ls rest) := by
  obtain ⟨ws, hP, hD, hu⟩ := hw.1.add
  have hKn := X.2.1.1 ci _ hc
  refine W.newcK X.1.1 X.1.2.1 X.1.2.2.2.1 (X.1.2.2.2.2 _ hcl) (X.1.2.2.2.2 _ hinst) (X.1.2.2.2.2 _ hini) rfl d hcells hslots hKn.2.1 rfl fun H1 kC hkC e1 z1 o1 => ?_
  have hk : ∀ (k : Nat) (x : Nat × va_E), ws[k]? = some x → H1[x.1]? = H[x.1]? := fun k x hx => o1 x.1 ((hP k x hx).lt)
  have hS := hw.2
  have p1 : va_P (gD G) vwCl (ws ++ [(H.size, .inr (ci, fs))]) H1 := (hP.kept hk).app (fun k x hx => by
    have hz : k < 1 := (List.getElem?_eq_some_iff.mp hx).1
    rw [show k = 0 by omega] at hx
    cases hx
    exact ⟨_, hc, (u_born ty X.1.2.2.2.2 hin hKn hkC e1 hty).to hfs⟩)
  have p2 : va_D A (ws ++ [(H.size, .inr (ci, fs))]) := hD.push hP rfl (X.2.2.2.2.1 _ hS.1)
  obtain ⟨g1, g2, g3⟩ := hu H.size (eO ci fs) H1 p1 p2
  refine kk H.size H1 g1 (X.2.2.2.2.2 _ g2) ⟨g3, Nat.le_trans hS.1 (by omega), fun x h1 h2 => (o1 x (Nat.lt_of_lt_of_le h1 hS.1)).trans (hS.2.1 x h1 h2), hS.2.2⟩ ⟨_, e1, rfl, rfl⟩ (fun a ha => ?_)
  obtain ⟨c9, f1, f2⟩ := ha
  exact ⟨c9, by rw [o1 a (Array.getElem?_eq_some_iff.mp f1).1]; exact f1, f2⟩
theorem Mo.all {H H1 : Heap} {ch : List Nat} (h : Mo H H1) (k : ∀ a ∈ ch, Mf H a) : ∀ a ∈ ch, Mf H1 a := fun a ha => h a (k a ha)
theorem Mf.cons {H : Heap} {q : Nat} {ch : List Nat} (h : Mf H q) (k : ∀ a ∈ ch, Mf H a) : ∀ a ∈ q :: ch, Mf H a := fun a ha => (List.mem_cons.mp ha).elim (fun e => by rw [e]; exact h) (k a)
theorem Mf.nil {H : Heap} : ∀ a ∈ ([] : List Nat), Mf H a := fun _ h => nomatch h
/-- a return that hands on objects with free monitors -/
theorem c_retM {ρ : Type} {val : ρ → Option Value} {post : ρ → NM × List Nat → Prop} {v : ρ} {ch : List Nat} {t : State} (hw : cH G A s [] N H locs) (hch : ∀ a ∈ ch, Mf H a) (hp : post v (N, ch)) (ht : t.heap = H) : gQ val post (fun u H => cBw G A [] u.1 H ∧ ∀ a ∈ u.2, Mf H a) A args s (.returned (val v)) t := ⟨⟨v, (N, ch), rfl, hp, by rw [ht]; exact hw.1, by rw [ht]; exact hch⟩, hw.2.F ht⟩
theorem and_l {a b : Cond} {x : Array Value} {s : State} (h : (Cond.and a b).before x s = true) : a.before x s = true := by
  rw [Cond.before_and, Bool.and_eq_true] at h; exact h.1
theorem and_r {a b : Cond} {x : Array Value} {s : State} (h : (Cond.and a b).before x s = true) : b.before x s = true := by
  rw [Cond.before_and, Bool.and_eq_true] at h; exact h.2
theorem cX.nar (X : cX G A own p s m args c cc nL) : narrow_1.before #[Value.ref (gb G)] (g0 G) = true := and_r X.2.2.1.2.1
theorem cX.nc (X : cX G A own p s m args c cc nL) {C T : String} (h : (Cond.not (.castable C T)).before #[Value.ref (gb G)] (g0 G) = true) : va_Nc C T s := (va_Nc.of h).moved X.2.2.2.1.1.alike
theorem cX.str (X : cX G A own p s m args c cc nL) {r : String × Nat × String × Nat} (h : r ∈ sRefs) : vk_R r.1 r.2.1 r.2.2.1 (gC G 0 r.2.2.2) s := X.2.2.2.1.ref X.2.2.1 h
end CXW
theorem ep_n {P : ExceptionTableEntry → Prop} : ∀ z ∈ ([] : List ExceptionTableEntry), P z := fun _ h => nomatch h
theorem ep_c {P : ExceptionTableEntry → Prop} {w : ExceptionTableEntry} {L : List ExceptionTableEntry} (h : P w) (t : ∀ z ∈ L, P z) : ∀ z ∈ w :: L, P z := fun w' h' => (List.mem_cons.mp h').elim (fun e => by rw [e]; exact h) (t w')
section CXN
variable {p : Program} {l : Launch} {e : Env} {R : Room} {s : State} {m : MethodId} {args : Array Value} {below : List Frame} {meth : Method} {c : Code} {H : Heap} {locs : List Loc} {cells slots : Nat} {Q : State → Prop} {cc : ByteArray} {pc : Nat} {ls : Array Slot} {rest : List Value}
variable {G : gG} {A : Nat → Prop} {own : String} {nL : Nat} {L : va_W} {N : NM}
theorem cp_text {dp n : Int32} {n1 : Nat} {ty : FieldType} (hk : (Native.java_lang_System.arraycopy.kindName ty).length ≤ 20) (hn : n1 < 1000) {tx : String} (h : tx = "arraycopy: " ++ (toString "last destination index " ++ toString (dp.toInt + n.toInt) ++ toString " out of bounds for " ++ toString (toString (Native.java_lang_System.arraycopy.kindName ty) ++ toString "[" ++ toString n1 ++ toString "]"))) : (tx == notModelled) = false ∧ (stringBytes (stringToUtf16 tx)).size ≤ 400 := by
  constructor
  · refine nm_first tx 'a' (tx.toList.drop 1) ?_ (by decide)
    rw [h, String.toList_append]
    rfl
  · refine Nat.le_trans (text_le _) ?_
    have h1 : (toString (dp.toInt + n.toInt)).length ≤ 12 := by
      have a1 := Int32.toInt_lt dp
      have a2 := Int32.le_toInt dp
      have a3 := Int32.toInt_lt n
      have a4 := Int32.le_toInt n
      cases hz : dp.toInt + n.toInt with
      | ofNat k =>
        show (Nat.repr k).length ≤ 12
        have hz9 : dp.toInt + n.toInt = (k : Int) := hz
        exact Nat.le_trans ((Nat.length_repr_le_iff (k := 10) (by omega)).mpr (by omega)) (by omega)
      | negSucc k =>
        show ("-" ++ Nat.repr (k + 1)).length ≤ 12
        rw [String.length_append]
        have h3 := (Nat.length_repr_le_iff (n := k + 1) (k := 10) (by omega)).mpr (by omega)
        show 1 + _ ≤ _
        omega
    have h2 : (toString n1).length ≤ 3 := (Nat.length_repr_le_iff (k := 3) (by omega)).mpr (by omega)
    have e1 : (toString "last destination index ").length = 23 := rfl
    have e2 : (toString " out of bounds for ").length = 19 := rfl
    have e3 : ("arraycopy: " : String).length = 11 := rfl
    have e4 : (toString "[").length = 1 := rfl
    have e5 : (toString "]").length = 1 := rfl
    have e0 : (toString "").length = 0 := rfl
    have e6 : (toString (Native.java_lang_System.arraycopy.kindName ty)).length ≤ 20 := hk
    rw [h]
    show 4 * ("arraycopy: " ++ (toString "last destination index " ++ toString (dp.toInt + n.toInt) ++ toString " out of bounds for " ++ (toString (Native.java_lang_System.arraycopy.kindName ty) ++ toString "[" ++ toString n1 ++ toString "]"))).length ≤ 400
    simp only [String.length_append, e1, e2, e3, e4, e5, e0]
    omega
/-- System.arraycopy beyond the destination's end: to the handler -/
theorem c_copyZ (X : cX G A own p s m args c cc nL) (hw : cH G A s L N H locs) (hL : l.stackTraces = false) (hsz : ls.size = nL) {index : Nat} (hlink : Cond.methodLink own index arraycopyName ∈ lw_all) (hnat : Cond.native arraycopyName ∈ lw_all) (hstat : Cond.static arraycopyName ∈ lw_all) (hini : Cond.initialized "java/lang/System" ∈ lw_all)
    (k0 : Nat) {ty : FieldType} {a0 a1 n0 n1 : Nat} {A0 A1 : vp_A} {f0 f1 : Nat → Value} (ha0 : N a0 = some (.inl (k0, A0))) (ha1 : N a1 = some (.inl (k0, A1))) (hv0 : vp_cell (gA G k0) A0 = arrV (gA G k0) n0 f0) (hv1 : vp_cell (gA G k0) A1 = arrV (gA G k0) n1 f1) (ht : (gT G)[k0]? = some (gA G k0, ty)) (hty : ((refKind ty != refKind ty) || (!refKind ty && ty != ty)) = false) (hk : (Native.java_lang_System.arraycopy.kindName ty).length ≤ 20)
    {sp dp n : Int32} (h1 : ¬ sp < 0) (h2 : ¬ dp < 0) (h3 : ¬ n < 0) (h4 : sp.toNatClampNeg + n.toNatClampNeg ≤ n0) (h5 : ¬ dp.toNatClampNeg + n.toNatClampNeg ≤ n1) (hn1 : n1 < 1000)
    (hfr : 8 < R.frames) (hlo : (rest.map fun v => v.category).sum + 10240 ≤ R.locals) (hc : cells + 3 ≤ R.cells) (hs : slots + 410 ≤ R.slots) (d : decode cc pc = .ok (.invokestatic index, 3))
    (k : ∀ (H1 : Heap) (q : Nat), cH G A s L N H1 locs → (∃ ce : Cell, H1[q]? = some ce ∧ ce.vm = .none ∧ s.vm.findClass "java/lang/ArrayIndexOutOfBoundsException" = some ce.cls) → vx_W p l e R s m args below meth c H1 locs (cells + 3) (slots + 410) Q (F0 m pc ls rest) q) :
    W p l e R s m args below meth c H locs cells slots Q (F0 m pc ls (.int n :: .int dp :: .ref a1 :: .int sp :: .ref a0 :: rest)) := by
  have nn : ∀ z : Int32, ¬ z < 0 → z.toInt = (z.toNatClampNeg : Int) := by
    intro z hz
    have hz0 : (0 : Int) ≤ z.toInt := by
      have := Int32.not_lt.mp hz
      simpa using Int32.le_iff_toInt_le.mp this
    show z.toInt = ((z.toInt.toNat : Nat) : Int)
    omega
  obtain ⟨hx, hb, hml, hown, hts⟩ := X.1
  intro T hT Y
  have htr : e.platform.stackTraces = false := (show e.platform.stackTraces = l.stackTraces by rw [Y.admits.platform]).trans hL
  have hc0 : H[a0]? = some (vp_cell (gA G k0) A0) := by
    obtain ⟨ws, q0, hP, -, he⟩ := hw.1.get ha0
    exact hP q0 _ he
  have hc1 : H[a1]? = some (vp_cell (gA G k0) A1) := by
    obtain ⟨ws, q0, hP, -, he⟩ := hw.1.get ha1
    exact hP q0 _ he
  obtain ⟨-, kc0, hk0, cm0, hkk0⟩ := (X.2.1.2 k0 _ ht).1 n0 f0
  obtain ⟨-, kc1, hk1, cm1, hkk1⟩ := (X.2.1.2 k0 _ ht).1 n1 f1
  obtain ⟨r, kS, methS, hnS, hmS, hkS, NO⟩ := NativeOf.of_static (hts _ hnat) (hts _ hstat) (ps := [.object "java/lang/Object", .int, .object "java/lang/Object", .int, .int]) (ret := none) (by decide +kernel)
  have hinitS : kS.init = .initialized := Cond.initialized_spec (findClass_of_methodNamed hnS) hkS (hts _ hini)
  obtain ⟨vm', X', step⟩ := Y.invokestatic hx hown (hts _ hlink) hnS hmS NO.static hkS hinitS (by decide) (g := F0 m pc ls (.int n :: .int dp :: .ref a1 :: .int sp :: .ref a0 :: rest)) rfl (argsL := [.ref a0, .int sp, .ref a1, .int dp, .int n]) (rest := rest) (by rw [NO.sig]; rfl) rfl (by rw [hb]; exact d)
  obtain ⟨tx, htx⟩ : ∃ tx, tx = "arraycopy: " ++ (toString "last destination index " ++ toString (dp.toInt + n.toInt) ++ toString " out of bounds for " ++ toString (toString (Native.java_lang_System.arraycopy.kindName ty) ++ toString "[" ++ toString n1 ++ toString "]")) := ⟨_, rfl⟩
  obtain ⟨hnm, hnb⟩ := cp_text hk hn1 htx
  have Y2 := vx_rebase X' (R' := { frames := R.frames, locals := R.locals, cells := 3, slots := 410 }) (Nat.le_refl _) (Nat.le_refl _) hc hs
  have hhp : (((T.setVm vm').setVm s.vm).setFrames (.invoking m args :: below)).heap = H := hT
  have hW0 : s.WarmedH (((T.setVm vm').setVm s.vm).setFrames (.invoking m args :: below)).vm := State.WarmedH.refl s
  have hat' : ∀ w ∈ vx_atM "java/lang/ArrayIndexOutOfBoundsException" xNames, w.before args (((T.setVm vm').setVm s.vm).setFrames (.invoking m args :: below)) = true := fun w hw => vx_ot_at hW0 rfl (gM w hw) (X.wM w hw)
  have hU' : vx_Zq Bundle.tN "UNASSIGNED_STACK" Bundle.steD A (((T.setVm vm').setVm s.vm).setFrames (.invoking m args :: below)) (((T.setVm vm').setVm s.vm).setFrames (.invoking m args :: below)).heap := by rw [hhp]; exact vx_Zq.moved hW0.alike ((X.U X.cs.2.2.2.2.2.2.2.1).kept hw.2.2.1)
  have hN' : vx_Zq Bundle.tN "SUPPRESSED_SENTINEL" Bundle.listD A (((T.setVm vm').setVm s.vm).setFrames (.invoking m args :: below)) (((T.setVm vm').setVm s.vm).setFrames (.invoking m args :: below)).heap := by rw [hhp]; exact vx_Zq.moved hW0.alike ((X.U X.cs.2.2.2.2.2.2.2.2).kept hw.2.2.1)
  obtain ⟨S, q, ce, st, Z, hce, hcl', hv⟩ := cx_nvmAt Y2 hx htr (cls := "java/lang/ArrayIndexOutOfBoundsException") (names := xNames) (text := tx) (by decide +kernel) (by decide +kernel) (by decide +kernel) (by decide +kernel) (vx_own hat' (vx_isRefq hU'.1) (vx_isRefq hN'.1) hU'.2.word hN'.2.word) (fun x hx => nomatch hx) hnm
    (by rw [Launch.admits_arrayLengthLimit Y.admits]; omega) (by rw [Launch.admits_maxHeapBytes Y.admits]; simp only [componentBytes]; omega)
    (g := F0 m pc ls rest) rfl (hsz.trans hml.symm) (nf := { method := r, args := #[.ref a0, .int sp, .ref a1, .int dp, .int n], locked := none }) rfl hfr (by show 2 * 0 + (rest.map fun v => v.category).sum + 10240 ≤ R.locals; omega) (by decide) (by show 0 + 3 ≤ 3; omega) (by show 0 + (_ + 4 + 6) ≤ 410; omega)
  obtain ⟨f1', f2'⟩ := vx_frame Z.same
  have g1 : H.size ≤ S.heap.size := by rw [← hT]; exact f1'
  have g2 : ∀ q : Nat, q < H.size → S.heap[q]? = H[q]? := fun q hq => by
    rw [← hT]
    exact f2' q (by rw [← hT] at hq; exact hq) (fun z hz => nomatch hz)
  have X5 := vx_back9 X' Y2 Z
  have X6 : Stand p l e R s m args below meth c S locs (cells + 3) (slots + 410) := { X5 with same := X5.same.mono (by omega) (by omega) }
  have hS2 : va_S A s.heap S.heap locs := ⟨Nat.le_trans hw.2.1 g1, fun q h1 h2 => (g2 q (Nat.lt_of_lt_of_le h1 hw.2.1)).trans (hw.2.2.1 q h1 h2), hw.2.2.2⟩
  obtain ⟨t, a9, b9⟩ := k S.heap q (hw.grow g2 hS2) ⟨ce, hce, hv, hcl'⟩ S rfl X6
  refine ⟨t, step t fun acts => ?_, b9⟩
  obtain ⟨kS', NO'⟩ := NO.alike X'.warmed.alike
  have hseen : seenByNative methS #[.ref a0, .int sp, .ref a1, .int dp, .int n] = #[.ref a0, .int sp, .ref a1, .int dp, .int n] := by
    simp [seenByNative, NO.static, NO.sig, narrow]
  have hA' : s.vm.Alike vm' := X'.warmed.alike
  obtain ⟨ks', hks', hes⟩ := hA'.2.2 _ _ hk0
  obtain ⟨kd', hkd', hed⟩ := hA'.2.2 _ _ hk1
  obtain ⟨g₀, hfr0⟩ := X'.frames_eq
  obtain ⟨g₁, hfrB⟩ := X6.frames_eq
  have hU : ((T.setVm vm').setTop (F0 m pc ls rest)).pushFrame (.native { method := r, args := seenByNative methS #[.ref a0, .int sp, .ref a1, .int dp, .int n], locked := none }) = (T.setVm vm').setFrames (.native { method := r, args := #[.ref a0, .int sp, .ref a1, .int dp, .int n], locked := none } :: .java (F0 m pc ls rest) :: below) := by
    rw [hseen, State.pushFrame, State.frames_setTop _ hfr0, State.setTop_of_frames _ hfr0, State.setFrames_setFrames]
  have hcurT : (T.setVm vm').cur < (T.setVm vm').threads.size := State.cur_lt_of_frames hfr0
  refine Steps.nativeThrowsNote (row := arraycopyRow) (cls := "java/lang/ArrayIndexOutOfBoundsException") (msg := some tx) (T := fun u => u) (g := F0 m pc ls rest) X'.here acts NO'.cls NO'.meth NO'.boot NO'.native NO'.noCode NO'.noLock
    (by rw [NO'.className, NO'.name, NO'.desc]; exact arraycopy_row p)
    (by rw [NO'.className, NO'.name]; exact X'.notFull (g := F0 m pc ls rest) (hsz.trans hml.symm) (vars := nativeFrameWords "java/lang/System" "arraycopy" 5) (by omega) (Nat.le_trans (Nat.add_le_add_left (by decide : nativeFrameWords "java/lang/System" "arraycopy" 5 + 11 ≤ 10240) _) (by show 2 * 0 + (rest.map fun v => v.category).sum + 10240 ≤ R.locals; omega))) ?_ ?_
  · intro E hE
    rw [hU] at hE ⊢
    rw [hseen]
    rw [arraycopyRow_sem]
    rw [htx] at hE
    have hs0 : ((T.setVm vm').setFrames (.native { method := r, args := #[.ref a0, .int sp, .ref a1, .int dp, .int n], locked := none } :: .java (F0 m pc ls rest) :: below)).heap[a0]? = some (arrV (gA G k0) n0 f0) := by
      show T.heap[a0]? = _
      rw [hT, ← hv0]; exact hc0
    have hs1 : ((T.setVm vm').setFrames (.native { method := r, args := #[.ref a0, .int sp, .ref a1, .int dp, .int n], locked := none } :: .java (F0 m pc ls rest) :: below)).heap[a1]? = some (arrV (gA G k0) n1 f1) := by
      show T.heap[a1]? = _
      rw [hT, ← hv1]; exact hc1
    exact Jvm.W.arraycopy_bounds (sType := ty) (dType := ty) (what := (toString "last destination index " ++ toString (dp.toInt + n.toInt) ++ toString " out of bounds for " ++ toString (toString (Native.java_lang_System.arraycopy.kindName ty) ++ toString "[" ++ toString n1 ++ toString "]"))) hs0 hs1 (fun _ h => by cases h) (fun _ h => by cases h) hks' hkd' (by rw [hes]; exact hkk0) (by rw [hed]; exact hkk1) hty (by
      unfold copyFault
      rw [if_neg h1, if_neg h2, if_neg h3, arrV_size, arrV_size, if_neg (by rw [nn sp h1, nn n h3]; omega), if_pos (by rw [nn dp h2, nn n h3]; omega)]) (hE _)
  · rw [hU, State.pushFrame, State.frames_setFrames _ hcurT, State.setFrames_setFrames]
    refine st.trans ?_
    refine Steps.throwingLeavesNative ⟨X6.here.running, X6.here.runnable, X6.here.alone⟩ (State.cur_lt_of_frames hfrB) ⟨[.java (F0 m pc ls rest)], rfl⟩ rfl rfl ?_
    have hV : (S.setTop (F0 m pc ls rest)).pushFrame (.throwing q) = S.setFrames (.throwing q :: .java (F0 m pc ls rest) :: below) := by
      rw [State.pushFrame, State.frames_setTop _ hfrB, State.setTop_of_frames _ hfrB, State.setFrames_setFrames]
    rw [← hV]
    exact a9
end CXN
