/-! contracts with both outcomes; calls by them -/
set_option maxRecDepth 100000
def MetX (l : Launch) (y : MethodName) (ws : List Cond) (rm : Room) (Pc : Array Value → State → Prop) (Qc : Array Value → State → Outcome → State → Prop) (mc ms : Nat) (free : Addr → Prop) : Prop :=
  MetFree l y (headSpec ws rm) Pc (fun _ _ _ _ _ => True) (fun a st o t => Qc a st o t ∧ st.WarmedH t.vm ∧ ∃ L, st.sameButNew ({ t with vm := st.vm } : State) L mc ms ∧ ∀ q ∈ L, free q.base)
def MX (below : List Frame) (Qc : Array Value → State → Outcome → State → Prop) (a : Array Value) (s : State) (mc ms : Nat) (free : Addr → Prop) : State → Prop := fun t =>
  ∃ o, t.status = .running ∧ Ended t below o ∧ Qc a s o t ∧ s.WarmedH t.vm ∧ ∃ L, s.sameButNew ({ t with vm := s.vm } : State) L mc ms ∧ ∀ q ∈ L, free q.base
theorem MetX.ofW {l : Launch} {y : MethodName} {ws ws' : List Cond} {rm : Room} {Pc : Array Value → State → Prop} {Qc : Array Value → State → Outcome → State → Prop} {mc ms : Nat} {free : Addr → Prop} {cc : ByteArray} {maxL : Nat} {ret : Option FieldType}
    (hy : plainName y.cls = true) (hw : ws = Cond.code y cc maxL ret :: ws')
    (body : ∀ p e s m args below meth c s₁, BodyLoose p l y (headSpec ws rm) cc maxL ret e s m args below meth c s₁ → c.maxLocals = maxL → Pc args s →
      W p l e (headSpec ws rm).room s m args below meth c s.heap [] 0 0 (MX below Qc args s mc ms free) (entryFrame m args maxL)) : MetX l y ws rm Pc Qc mc ms free := by
  refine MetFree.of_bodyS (code := cc) (maxLocals := maxL) (ret := ret) hy ?_ ?_
  · intro args s m h hn
    obtain ⟨meth, c, h1, h2, h3, h4, h5, h6, -, -⟩ := Cond.code_spec hn (atoms_spec (ws := ws) h _ (by rw [hw]; exact List.mem_cons_self))
    exact ⟨meth, c, h1, h2, h3, h4, h5, h6⟩
  · intro p e s m args below meth c s₁ B hml hP _
    have hh0 : s₁.heap = s.heap := by rw [B.state]; rfl
    obtain ⟨t, a1, o, b1, b2, b3⟩ := body p e s m args below meth c s₁ B hml hP s₁ hh0 (Stand.of_body B)
    exact ⟨t, o, a1, b1, b2, b3⟩
theorem W.mono {p : Program} {l : Launch} {e : Env} {R : Room} {s : State} {m : MethodId} {args : Array Value} {below : List Frame} {meth : Method} {c : Code} {H : Heap} {locs : List Loc} {cells slots : Nat} {Q Q' : State → Prop} {g : JFrame}
    (h : ∀ t, Q t → Q' t) (k : W p l e R s m args below meth c H locs cells slots Q g) : W p l e R s m args below meth c H locs cells slots Q' g := by
  intro T hT X
  obtain ⟨t, a, b⟩ := k T hT X
  exact ⟨t, a, h t b⟩
theorem mq_mx {below : List Frame} {Qc : Array Value → State → Outcome → State → Prop} {a : Array Value} {s : State} {mc ms k n : Nat} {free : Addr → Prop} (h1 : mc ≤ k) (h2 : ms ≤ n) (t : State) (h : MQ below Qc a s mc ms free t) : MX below Qc a s k n free t := by
  obtain ⟨o, r1, r2, r3, L, ⟨-, hW, hS⟩, r4⟩ := h
  exact ⟨o, r1, r2, r3, hW, L, hS.mono h1 h2, r4⟩
/-- the counts as the heap has them -/
theorem W.exact {p : Program} {l : Launch} {e : Env} {R : Room} {s : State} {m : MethodId} {args : Array Value} {below : List Frame} {meth : Method} {c : Code} {H : Heap} {locs : List Loc} {cells slots : Nat} {Q : State → Prop} {g : JFrame}
    (k : s.heap.size ≤ H.size → (∀ (a : Nat) (x : Cell), s.heap[a]? = some x → ∃ x', H[a]? = some x' ∧ x'.slots.size = x.slots.size) → W p l e R s m args below meth c H locs (H.size - s.heap.size) (hsum H s.heap.size) Q g) : W p l e R s m args below meth c H locs cells slots Q g := by
  intro T hT X
  obtain ⟨r1, r2, r3, r4, r5, r6⟩ := X.same
  have hTh : (T.setVm s.vm).heap = H := hT
  refine k ?_ ?_ T hT { X with same := ⟨r1, r2, ?_, r4, ?_, r6⟩ }
  · rw [← hTh]; exact r2
  · intro a x hx
    obtain ⟨c', h1, -, h3, -⟩ := r6 a x hx
    exact ⟨c', by rw [← hTh]; exact h1, h3⟩
  · rw [hTh] at r2 ⊢; omega
  · unfold hsum; rw [← hTh]; exact Nat.le_refl _
section BX
variable {l : Launch} {R : Room} {p : Program} {e : Env} {below : List Frame} {s : State} {sargs : Array Value} {y : MethodName} {ws : List Cond} {rm : Room} {Pc : Array Value → State → Prop} {Qc : Array Value → State → Outcome → State → Prop} {mc ms : Nat} {free : Addr → Prop} {maxL : Nat}
variable {m : MethodId} {meth : Method} {c : Code} {T : State} {locs : List Loc} {cells slots : Nat}
/-- how a callee's contract is met at a call -/
def CalX (R : Room) (s : State) (y : MethodName) (ws : List Cond) (rm : Room) (Pc : Array Value → State → Prop) (maxL : Nat) : Prop :=
  FrameBlind Pc ∧ rm.frames + 1 ≤ R.frames ∧ 8 + (maxL + 11) + rm.locals ≤ R.locals ∧ (∀ w ∈ ws, ∀ (a' : Array Value) (U : State), s.WarmedH U.vm → w.before a' U = true) ∧
  (∀ (U : State) (mk : MethodId), s.WarmedH U.vm → U.methodNamed? y = some mk → ∃ methY cY, U.vm.method? mk = some methY ∧ methY.code = some cY ∧ cY.maxLocals = maxL) ∧
  (∀ (a' : Array Value) (U : State), s.WarmedH U.vm → (Cond.initialized y.cls).before a' U = true)
theorem backX (hM : MetX l y ws rm Pc Qc mc ms free) (hX : CalX R s y ws rm Pc maxL) {g : JFrame} {ig : Instr} {mk : MethodId} {a : Array Value}
    (X : Stand p l e R s m sargs below meth c T locs cells slots) (hg : g.method = m) (hsize : g.locals.size = c.maxLocals) (hdg : decode c.code g.pc = .ok (ig, 3)) (hW : 2 * g.monitorRoom + (g.stack.map fun v => v.category).sum ≤ 8) (hn : T.methodNamed? y = some mk)
    (hc : cells + rm.cells ≤ R.cells) (hs : slots + rm.slots ≤ R.slots) (hp : Pc a T) :
    ∃ (o : Outcome) (t T' : State) (L : List Loc), Stand p l e R s m sargs below meth c T' (locs ++ L) (cells + mc) (slots + ms) ∧ (∀ q ∈ L, free q.base) ∧ T'.heap = t.heap ∧ T'.vm = t.vm ∧ Qc a (T.calling g mk a) o t ∧
      (∀ v, o = .returned v → Steps p.tables e below (doInvoke e (T.setTop g) [] mk a).1 (T'.setTop { g with pc := g.pc + 3, stack := v.toList ++ g.stack })) ∧
      (∀ x, o = .threw x → Steps p.tables e below (doInvoke e (T.setTop g) [] mk a).1 ((T'.setTop g).pushFrame (.throwing x))) := by
  obtain ⟨hblind, hfr, hlo, hws, hcs, hinit⟩ := hX
  obtain ⟨methY, cY, hmY, hcY, hlY⟩ := hcs T mk X.warmed hn
  obtain ⟨kY, hkY, -⟩ := className_of_methodNamed hn
  have hinitY : kY.init = .initialized := Cond.initialized_spec (args := a) (findClass_of_methodNamed hn) hkY (hinit a T X.warmed)
  have h : At T g.method c below := by rw [hg]; exact X.here
  have happ : (headSpec ws rm).appliesLoose y e.platform (T.calling g mk a) = true :=
    Spec.appliesLoose_calling (g := g) h hdg hn hkY hinitY
      (X.room_calling (g := g) (R' := (headSpec ws rm).room) hsize hmY hcY hfr (by rw [hlY]; show _ + (headSpec ws rm).room.locals ≤ _; show _ + rm.locals ≤ _; omega) hc hs) (atoms_intro fun w hw => hws w hw _ _ X.warmed)
  obtain ⟨mid, hmid⟩ := h.above
  have hfr2 : (T.setTop g).frames = (.java g :: mid) ++ below := by rw [State.frames_setTop' g h.top, hmid]; rfl
  obtain ⟨o, s₂, hsteps, -, hend, hq, hW₂, L, ⟨e2, q2, q3, q4, q5, q6⟩, hL⟩ := Steps.callFree hM p X.admits X.cas X.clock (acts := []) hfr2 happ (hblind _ _ _ _ hp) trivial
  rw [State.frames_setTop' g h.top] at hend
  have e3 : s₂ = ({ (T.calling g mk a).setFrames s₂.frames with heap := s₂.heap, slotsUsed := s₂.slotsUsed } : State).setVm s₂.vm := by
    have : s₂ = ({ s₂ with vm := (T.calling g mk a).vm } : State).setVm s₂.vm := rfl
    rw [show ({ s₂ with vm := (T.calling g mk a).vm } : State) = _ from e2] at this
    exact this
  have hW' : T.WarmedH s₂.vm := hW₂
  obtain ⟨g₀, hg0⟩ := Option.isSome_iff_exists.mp h.top
  obtain ⟨r, hr⟩ := State.topJava?_eq_some.mp hg0
  have hsame : T.sameButNew ({ T with heap := s₂.heap, slotsUsed := s₂.slotsUsed } : State) L mc ms := by
    refine ⟨?_, q2, q3, q4, q5, q6⟩
    obtain ⟨t, ht, -⟩ := State.frames_cons hr
    show ({ T with heap := s₂.heap, slotsUsed := s₂.slotsUsed } : State) = { T.setFrames T.frames with heap := s₂.heap, slotsUsed := s₂.slotsUsed }
    rw [State.setFrames_self ht]
  subst hg
  refine ⟨o, s₂, ({ T with heap := s₂.heap, slotsUsed := s₂.slotsUsed } : State).setVm s₂.vm, L,
    ⟨X.admits, X.cas, X.clock, X.frames, X.room, X.hears, X.method, X.code, (X.here.setHeapUsed s₂.heap s₂.slotsUsed).setVm hW'.alike, X.tail, State.WarmedH.trans X.warmed hW', X.limits, X.bytes, X.same.trans (hsame.setVm s.vm)⟩, hL, rfl, rfl, hq, ?_, ?_⟩
  · intro v hv
    subst hv
    obtain ⟨c₂, i₂, len₂, hc₂, hd₂, hf₂⟩ := hend
    have hcc : c₂ = c := by
      have h1 : s₂.code? g.method = T.code? g.method := by
        rw [State.code?_eq, State.code?_eq, hW'.alike.method?]
      exact Option.some.inj (hc₂.symm.trans (h1.trans h.code))
    subst hcc
    have hlen : len₂ = 3 := by rw [hdg] at hd₂; cases hd₂; rfl
    subst hlen
    have hs₂ : s₂ = (({ T with heap := s₂.heap, slotsUsed := s₂.slotsUsed } : State).setVm s₂.vm).setTop { g with pc := g.pc + 3, stack := v.toList ++ g.stack } := by
      have hr' : (({ T with heap := s₂.heap, slotsUsed := s₂.slotsUsed } : State).setVm s₂.vm).frames = .java g₀ :: r := hr
      refine e3.trans ?_
      rw [hf₂, State.calling_eq h.top, State.setFrames_setFrames, State.setTop_of_frames _ hr', hr]
      rfl
    rw [← hs₂]
    exact hsteps
  · intro x hx
    subst hx
    have hf₂ : s₂.frames = .throwing x :: .java g :: T.frames.tail := hend
    have hs₂ : s₂ = ((({ T with heap := s₂.heap, slotsUsed := s₂.slotsUsed } : State).setVm s₂.vm).setTop g).pushFrame (.throwing x) := by
      have hr' : (({ T with heap := s₂.heap, slotsUsed := s₂.slotsUsed } : State).setVm s₂.vm).frames = .java g₀ :: r := hr
      refine e3.trans ?_
      rw [hf₂, State.calling_eq h.top, State.setFrames_setFrames, State.pushFrame, State.frames_setTop _ hr', State.setTop_of_frames _ hr', State.setFrames_setFrames, hr]
      rfl
    rw [← hs₂]
    exact hsteps
/-- what comes of a call -/
def Comes2 (p : Program) (l : Launch) (e : Env) (R : Room) (s : State) (m : MethodId) (sargs : Array Value) (below : List Frame) (meth : Method) (c : Code) (T : State) (locs : List Loc) (cells slots mc ms : Nat) (g : JFrame) (rest : List Value) (Qa : State → Outcome → State → Prop) (free : Addr → Prop) : Prop :=
  ∃ (o : Outcome) (st₀ t T' : State) (L : List Loc), st₀.heap = T.heap ∧ s.WarmedH st₀.vm ∧ Stand p l e R s m sargs below meth c T' (locs ++ L) (cells + mc) (slots + ms) ∧ (∀ q ∈ L, free q.base) ∧ T'.heap = t.heap ∧ T'.vm = t.vm ∧ Qa st₀ o t ∧
    (∀ v, o = .returned v → ∀ tg, Steps p.tables e below (T'.setTop { g with pc := g.pc + 3, stack := v.toList ++ rest }) tg → Steps p.tables e below (T.setTop g) tg) ∧
    (∀ x, o = .threw x → ∀ tg, Steps p.tables e below ((T'.setTop { g with stack := rest }).pushFrame (.throwing x)) tg → Steps p.tables e below (T.setTop g) tg)
theorem callVX (hM : MetX l y ws rm Pc Qc mc ms free) (hX : CalX R s y ws rm Pc maxL) (X : Stand p l e R s m sargs below meth c T locs cells slots) (hexec : p.tables.exec = Jvm.exec) {own C : String} {index : Nat}
    (hown : s.vm.findClass own = some m.cls) (hlink : (Cond.methodLink own index y).before sargs s = true) (hinst : (Cond.instanceMethod y).before sargs s = true) (hsel : (Cond.selects C y y).before sargs s = true)
    (hy : y.cls ≠ "java/lang/invoke/MethodHandle" ∧ y.cls ≠ "java/lang/invoke/VarHandle")
    {b : Addr} {cellB : Cell} (hcell : T.heap[b]? = some cellB) (hobj : cellB.vm.isStatics = false) (hcls : s.vm.findClass C = some cellB.cls)
    {g : JFrame} (hg : g.method = m) (hsize : g.locals.size = c.maxLocals) {argsL rest : List Value} {np : Nat} (hnp : (parseMethodDescriptor y.desc).map (fun d => d.parameters.length) = some np) (hal : argsL.length = np)
    (hsig : ∀ mk methM, s.methodNamed? y = some mk → s.vm.method? mk = some methM → parseMethodDescriptor y.desc = some methM.sig)
    (hstack : g.stack = argsL.reverse ++ .ref b :: rest) (hW : (rest.map fun v => v.category).sum ≤ 8) (hmr : g.monitorRoom = 0) (hdg : decode c.code g.pc = .ok (.invokevirtual index, 3))
    (hc : cells + rm.cells ≤ R.cells) (hs : slots + rm.slots ≤ R.slots) (hp : ∀ vm₁, s.WarmedH vm₁ → Pc (Value.ref b :: argsL).toArray (T.setVm vm₁)) :
    Comes2 p l e R s m sargs below meth c T locs cells slots mc ms g rest (Qc (Value.ref b :: argsL).toArray) free := by
  obtain ⟨mk, methM, hnamed, hmethM, hstM, habM⟩ := Cond.instanceMethod_spec hinst
  have hsigM := hsig mk methM hnamed hmethM
  obtain ⟨c2, r2, m2, q1, q2, q3, q4, kP, hkP, hkPi⟩ := Cond.selects_spec hsel
  cases hcls.symm.trans q1
  cases (State.methodFound?_of_named hnamed hy).symm.trans q2
  cases hnamed.symm.trans q3
  have hselP : selectMethod e.platform s.vm cellB.cls mk = .method mk := by rw [Launch.admits_selectMethod X.admits]; exact q4
  have hlenM : argsL.length = methM.sig.parameters.length := by rw [hsigM] at hnp; rw [hal]; exact (Option.some.inj hnp).symm
  obtain ⟨vm₁, X₁, hstep₁⟩ := X.invokevirtual hexec hown hlink hnamed hmethM hstM hkP hkPi hy (a := b) (cell := cellB) hcell
    (fun z h => by rw [h] at hobj; cases hobj) hselP hmethM habM hkP hkPi (g := g) hg (argsL := argsL) (rest := rest) hlenM hstack hdg
  obtain ⟨o, t, T', L, X', hL, e1, e2, hq, hr, ht⟩ := backX hM hX (g := { g with stack := rest }) (ig := .invokevirtual index) (mk := mk) (a := (Value.ref b :: argsL).toArray) X₁ hg hsize hdg (by show 2 * g.monitorRoom + (rest.map fun v => v.category).sum ≤ 8; rw [hmr]; omega) (X₁.named hnamed) hc hs (hp vm₁ X₁.warmed)
  refine ⟨o, (T.setVm vm₁).calling { g with stack := rest } mk _, t, T', L, rfl, X₁.warmed, X', hL, e1, e2, hq, fun v hv tg h => hstep₁ _ fun acts => by rw [doInvoke_state]; exact (hr v hv).trans h, fun x hx tg h => hstep₁ _ fun acts => by rw [doInvoke_state]; exact (ht x hx).trans h⟩
theorem callSX (hM : MetX l y ws rm Pc Qc mc ms free) (hX : CalX R s y ws rm Pc maxL) (X : Stand p l e R s m sargs below meth c T locs cells slots) (hexec : p.tables.exec = Jvm.exec) {own : String} {index : Nat}
    (hown : s.vm.findClass own = some m.cls) (hlink : (Cond.methodLink own index y).before sargs s = true) (hstat : (Cond.static y).before sargs s = true) (hinit : (Cond.initialized y.cls).before sargs s = true) 
    (hy : y.cls ≠ "java/lang/invoke/MethodHandle" ∧ y.cls ≠ "java/lang/invoke/VarHandle")
    {g : JFrame} (hg : g.method = m) (hsize : g.locals.size = c.maxLocals) {argsL rest : List Value} {np : Nat} (hnp : (parseMethodDescriptor y.desc).map (fun d => d.parameters.length) = some np) (hal : argsL.length = np)
    (hnm : ∃ mk methM, s.methodNamed? y = some mk ∧ s.vm.method? mk = some methM ∧ parseMethodDescriptor y.desc = some methM.sig)
    (hstack : g.stack = argsL.reverse ++ rest) (hW : (rest.map fun v => v.category).sum ≤ 8) (hmr : g.monitorRoom = 0) (hdg : decode c.code g.pc = .ok (.invokestatic index, 3))
    (hc : cells + rm.cells ≤ R.cells) (hs : slots + rm.slots ≤ R.slots) (hp : ∀ vm₁, s.WarmedH vm₁ → Pc argsL.toArray (T.setVm vm₁)) :
    Comes2 p l e R s m sargs below meth c T locs cells slots mc ms g rest (Qc argsL.toArray) free := by
  obtain ⟨mk, methM, hnamed, hmethM, hsigM⟩ := hnm
  have hstatic : methM.isStatic = true := Cond.static_spec hnamed hmethM hstat
  obtain ⟨kP, hkP, -⟩ := className_of_methodNamed hnamed
  have hinitP : kP.init = .initialized := Cond.initialized_spec (findClass_of_methodNamed hnamed) hkP hinit
  have hlenM : argsL.length = methM.sig.parameters.length := by rw [hsigM] at hnp; rw [hal]; exact (Option.some.inj hnp).symm
  obtain ⟨vm₁, X₁, hstep₁⟩ := X.invokestatic hexec hown hlink hnamed hmethM hstatic hkP hinitP hy (g := g) hg (argsL := argsL) (rest := rest) hlenM hstack hdg
  obtain ⟨o, t, T', L, X', hL, e1, e2, hq, hr, ht⟩ := backX hM hX (g := { g with stack := rest }) (ig := .invokestatic index) (mk := mk) (a := argsL.toArray) X₁ hg hsize hdg (by show 2 * g.monitorRoom + (rest.map fun v => v.category).sum ≤ 8; rw [hmr]; omega) (X₁.named hnamed) hc hs (hp vm₁ X₁.warmed)
  refine ⟨o, (T.setVm vm₁).calling { g with stack := rest } mk _, t, T', L, rfl, X₁.warmed, X', hL, e1, e2, hq, fun v hv tg h => hstep₁ _ fun acts => by rw [doInvoke_state]; exact (hr v hv).trans h, fun x hx tg h => hstep₁ _ fun acts => by rw [doInvoke_state]; exact (ht x hx).trans h⟩
theorem callIX {bytes : ByteArray} (hM : MetX l y ws rm Pc Qc mc ms free) (hX : CalX R s y ws rm Pc maxL) (X : Stand p l e R s m sargs below meth c T locs cells slots) (hexec : p.tables.exec = Jvm.exec) {own : String} {index : Nat}
    (hown : s.vm.findClass own = some m.cls) (hy1 : y.name = "<init>") (hlink : (Cond.methodLink own index y).before sargs s = true) (hinst : (Cond.instanceMethod y).before sargs s = true) (hcode : (Cond.code y bytes maxL none).before sargs s = true)
    (hy : y.cls ≠ "java/lang/invoke/MethodHandle" ∧ y.cls ≠ "java/lang/invoke/VarHandle")
    {g : JFrame} (hg : g.method = m) (hsize : g.locals.size = c.maxLocals) {b : Addr} {argsL rest : List Value} {np : Nat} (hnp : (parseMethodDescriptor y.desc).map (fun d => d.parameters.length) = some np) (hal : argsL.length = np)
    (hstack : g.stack = argsL.reverse ++ .ref b :: rest) (hW : (rest.map fun v => v.category).sum ≤ 8) (hmr : g.monitorRoom = 0) (hdg : decode c.code g.pc = .ok (.invokespecial index, 3))
    (hc : cells + rm.cells ≤ R.cells) (hs : slots + rm.slots ≤ R.slots) (hp : ∀ vm₁, s.WarmedH vm₁ → Pc (Value.ref b :: argsL).toArray (T.setVm vm₁)) :
    Comes2 p l e R s m sargs below meth c T locs cells slots mc ms g rest (Qc (Value.ref b :: argsL).toArray) free := by
  subst hg
  have hpl : e.platform.magicAccessors = ({} : Platform).magicAccessors := by rw [X.admits.platform]
  have hlen : ∀ sig, parseMethodDescriptor y.desc = some sig → argsL.length = sig.parameters.length := fun sig h => by rw [h] at hnp; rw [hal]; exact (Option.some.inj hnp).symm
  obtain ⟨mk, methM, cM, kP, vm₁, hnamed, hmethM, hcodeM, -, hlocalsM, -, hkP, -, hW₁, hstep₁⟩ := Steps.initColdArgs (e := e) X.here hexec X.warmed hpl hown hy1 hy hlink hinst hcode (f := g) rfl hlen hstack hdg
  have X₁ := X.noted hW₁
  obtain ⟨o, t, T', L, X', hL, e1, e2, hq, hr, ht⟩ := backX hM hX (g := { g with stack := rest }) (ig := .invokespecial index) (mk := mk) (a := (Value.ref b :: argsL).toArray) X₁ rfl hsize hdg (by show 2 * g.monitorRoom + (rest.map fun v => v.category).sum ≤ 8; rw [hmr]; omega) (X₁.named hnamed) hc hs (hp vm₁ X₁.warmed)
  refine ⟨o, (T.setVm vm₁).calling { g with stack := rest } mk _, t, T', L, rfl, X₁.warmed, X', hL, e1, e2, hq, fun v hv tg h => hstep₁ _ fun acts => by rw [doInvoke_state]; exact (hr v hv).trans h, fun x hx tg h => hstep₁ _ fun acts => by rw [doInvoke_state]; exact (ht x hx).trans h⟩
end BX
