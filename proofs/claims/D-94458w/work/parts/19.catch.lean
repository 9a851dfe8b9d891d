/-! handlers: a catch type that may be resolved there -/
set_option maxRecDepth 100000
def FindsTo (e : Env) (s : State) (f : JFrame) (a : Addr) (h : Handler) (s' : State) : Prop :=
  ∀ (Q : Handler → Pre) (E : CtlPost) (d : Bool) (acts : List Action), wp (findHandler f a) Q E e d acts s ↔ Q h d acts s'
theorem go_cold {e : Env} {s : State} {f : JFrame} {a : Addr} {Q : Handler → Pre} {E : CtlPost} {d : Bool} {acts : List Action} {x : ExceptionTableEntry} {t : List ExceptionTableEntry} {c : ClassId} {vm' : Vm} {cell : Cell} (hx : covers x f.pc = true) (h0 : x.catchType ≠ 0)
    (hg : (Jvm.resolveClass f.method.cls x.catchType).Gives e.toSetting s.vm (.ok c) vm') (hsz : vm'.classes.size ≤ s.vm.classes.size) (hcell : s.heap[a]? = some cell) (hobj : ∀ k, cell.vm ≠ .statics k)
    (hk : ∃ k, vm'.classes[cell.cls]? = some k) (hc : ∃ k, vm'.classes[c]? = some k) :
    wp (findHandler.go f a (x :: t)) Q E e d acts s ↔
      if vm'.assignable cell.cls c = true then Q (.found x.handlerPc) d acts (s.setVm vm') else wp (findHandler.go f a t) Q E e d acts (s.setVm vm') := by
  simp only [covers] at hx
  obtain ⟨ha, ht⟩ := hg.op (op := VmOp.resolveClass f.method.cls x.catchType) rfl
  cases hfit : vm'.assignable cell.cls c <;>
    simp [findHandler.go, hx, h0, ha, ht, hsz, hcell, hobj, hk, hc, hfit, VmOp.dirties, VmOp.acts]
theorem stepThrowing_catchTo {e : Env} {s s' : State} {a : Addr} {f : JFrame} {r : List Frame} {pc : Nat} (hfind : FindsTo e s f a (.found pc) s') :
    (stepThrowing e s a (.java f :: r)).Is (s'.setFrames (.java { f with pc := pc, stack := [.ref a] } :: r)) [] := by
  simp only [stepThrowing, searchFrame, vmDo]
  generalize hr : Sem.go _ e false [] s = res
  obtain ⟨as, rfl, ha⟩ := Sem.eq_ok_of hr (a := Handler.found pc) (s' := s') (acts' := []) (by simp [hfind _ _ _ _])
  exact ⟨rfl, ha⟩
theorem Steps.caughtTo {tb : Tables} [Ours tb] {e : Env} {s target : State} {g : JFrame} {c : Code} {below : List Frame} {a : Addr} {vm' : Vm} (h : At s g.method c below) {pc : Nat} (hfind : FindsTo e ((s.setTop g).pushFrame (.throwing a)) g a (.found pc) (((s.setTop g).pushFrame (.throwing a)).setVm vm'))
    (hrest : Steps tb e below ((s.setVm vm').setTop { g with pc := pc, stack := [.ref a] }) target) :
    Steps tb e below ((s.setTop g).pushFrame (.throwing a)) target := by
  obtain ⟨hgo, hw⟩ := h.throwing a
  refine Steps.head hgo hw ?_
  rw [stepThread_throwing (frames_entered h.top _), (stepThrowing_catchTo (s := (s.setTop g).pushFrame (.throwing a)) hfind).1]
  obtain ⟨g₀, hg⟩ := Option.isSome_iff_exists.mp h.top
  obtain ⟨r, hr⟩ := State.topJava?_eq_some.mp hg
  have hr' : (s.setVm vm').frames = .java g₀ :: r := hr
  have e1 : (((s.setTop g).pushFrame (.throwing a)).setVm vm').setFrames (.java { g with pc := pc, stack := [.ref a] } :: s.frames.tail) = (s.setVm vm').setTop { g with pc := pc, stack := [.ref a] } := by
    rw [State.setTop_of_frames _ hr', hr, State.pushFrame, State.setTop_of_frames _ hr]
    show ((((s.setFrames _).setFrames _).setFrames _)).setVm vm' = _
    rw [State.setFrames_setFrames, State.setFrames_setFrames]
    rfl
  rw [e1]
  exact hrest
section ZCT
variable {C : ZC} {E : ZE} {cc : ByteArray} {n nL pc d : Nat} {own nm : String} {ret : Option FieldType} {hh : List (Nat × Nat × Nat × Nat)} {σ : ZS} {L : List (Option Value)} {st : List Value}
theorem zth_catch0 {sp ep hp ct : Nat} {hr : List (Nat × Nat × Nat × Nat)} (hC : Cx C E cc nL own nm ret ((sp, ep, hp, ct) :: hr) d) (hcov : (decide (sp ≤ pc) && decide (pc < ep)) = true) (h0 : ct ≠ 0) {ci a x N : Nat} {Cn : String} {T : u_T} {ty : Nat → FieldType} (cf : CF ci Cn T N ty) (hk : kK n σ a = (ci + 7, x)) (hl : Cond.classLink own ct Cn ∈ lw_all)
    (k : zz C E n nL σ hp L [.ref (E.1.heap.size + a)]) : zth C E n nL σ pc L st (E.1.heap.size + a) := by
  obtain ⟨p, l, e, R, s, m, args, below, meth, c, Qo⟩ := C
  intro H locs cells slots ls U hR hlc hL hU X
  obtain ⟨hx, hb, hml, hown, hts, hW, -, -, -, htb, hE, -⟩ := hC
  obtain ⟨c1, c2, c3, c4, c5, c6⟩ := cf
  have hat := hR.1 a (hR.lt hk (by show ci + 7 ≠ 1000; omega))
  rw [ent_o hk] at hat
  obtain ⟨r, g1, cell, q1, q2, q3, q4⟩ := hat
  have hr' : r = (Cn, T, N) := Option.some.inj (g1.symm.trans c1)
  subst hr'
  have q1 : U.heap[E.1.heap.size + a]? = some cell := by rw [hU]; exact q1
  have hKn := (zK_at hE hW).1 ci _ c1
  have hfc : s.vm.findClass Cn = some cell.cls := by rw [q2]; exact hKn.2.1
  have hpl : e.platform.magicAccessors = ({} : Platform).magicAccessors := by rw [X.admits.platform]
  obtain ⟨c', hc', hcl⟩ := Cond.classLink_spec hown (hts _ hl) e.platform hpl
  cases hfc.symm.trans hc'
  obtain ⟨dk, _, _, kt, hd, _, _, _, _, hkt, _, hopen⟩ := hcl.here
  have hcl₀ := X.warmed.classLinks hcl
  have hW' : s.WarmedH (U.vm.noted m.cls ct (.cls cell.cls)) := X.warmed.noted hd hopen (State.rightAt_cls hcl)
  obtain ⟨kt', hkt', -⟩ := hW'.alike.2.2 _ _ hkt
  obtain ⟨y, t, e1, e2, e3⟩ := List.map_eq_cons_iff.mp htb
  simp only [Prod.mk.injEq] at e2
  obtain ⟨y1, y2, y3, y4⟩ := e2
  have X' := X.noted hW'
  obtain ⟨tg, k1, k2⟩ := k H locs cells slots ls hR hlc hL (U.setVm (U.vm.noted m.cls ct (.cls cell.cls))) hU X'
  refine ⟨tg, ?_, k2⟩
  refine Steps.caughtTo (g := F0 m pc ls st) (vm' := U.vm.noted m.cls ct (.cls cell.cls)) X.here (fun Q E' d' acts => ?_) k1
  have hm : ((U.setTop (F0 m pc ls st)).pushFrame (.throwing (E.1.heap.size + a))).vm.method? (F0 m pc ls st).method = some meth := by rw [Stand.throwing_vm]; rw [X.warmed.alike.method?]; exact X.method
  rw [W.findHandler_eq hm X.code, e1]
  have hvm := Stand.throwing_vm U (F0 m pc ls st) (E.1.heap.size + a)
  have hhp := Stand.throwing_heap U (F0 m pc ls st) (E.1.heap.size + a)
  rw [go_cold (c := cell.cls) (vm' := U.vm.noted m.cls ct (.cls cell.cls)) (cell := cell) (by rw [covers, y1, y2]; exact hcov) (by rw [y4]; exact h0) (by rw [hvm, y4]; exact resolveClass_links e.toSetting hcl₀) (by rw [hvm]; no_record) (by rw [hhp]; exact q1) (by intro z hz; rw [q3] at hz; cases hz) ⟨kt', hkt'⟩ ⟨kt', hkt'⟩, if_pos (Vm.assignable_self _ _), y3]
end ZCT
section ZCT2
variable {C : ZC} {E : ZE} {cc : ByteArray} {n nL pc d : Nat} {own nm : String} {ret : Option FieldType} {hh : List (Nat × Nat × Nat × Nat)} {σ : ZS} {L : List (Option Value)} {st : List Value}
theorem not_cast {E : ZE} (hE : EOK E) {s : State} (hW : E.1.WarmedH s.vm) {A B : String} {a b : ClassId} (h : Cond.not (.castable A B) ∈ flatC (Jvm.Cond.and given_1 narrow_1)) (ha : s.vm.findClass A = some a) (hb : s.vm.findClass B = some b) : s.vm.assignable a b = false := by
  obtain ⟨-, b0, -, -, t3⟩ := hE
  have h1 := flat_of_before _ t3 _ h
  have ha' : E.1.vm.findClass A = some a := by rw [← hW.alike.findClass]; exact ha
  have hb' : E.1.vm.findClass B = some b := by rw [← hW.alike.findClass]; exact hb
  rw [hW.alike.assignable]
  simpa [Cond.before, Cond.holds, Cond.value, ha', hb'] using h1
/-- the first entry's class is another, the second takes it -/
theorem zth_catch1 {sp ep hp ct sp' ep' hp' ct' : Nat} {hr : List (Nat × Nat × Nat × Nat)} (hC : Cx C E cc nL own nm ret ((sp', ep', hp', ct') :: (sp, ep, hp, ct) :: hr) d) (hcov' : (decide (sp' ≤ pc) && decide (pc < ep')) = true) (hcov : (decide (sp ≤ pc) && decide (pc < ep)) = true) (h0' : ct' ≠ 0) (h0 : ct ≠ 0) {ci a x N : Nat} {Cn Cn' : String} {T : u_T} {ty : Nat → FieldType} (cf : CF ci Cn T N ty) (hk : kK n σ a = (ci + 7, x)) (hl : Cond.classLink own ct Cn ∈ lw_all)
    (hl' : Cond.classLink own ct' Cn' ∈ lw_all) (hno : Cond.not (.castable Cn Cn') ∈ flatC (Jvm.Cond.and given_1 narrow_1)) (k : zz C E n nL σ hp L [.ref (E.1.heap.size + a)]) : zth C E n nL σ pc L st (E.1.heap.size + a) := by
  obtain ⟨p, l, e, R, s, m, args, below, meth, c, Qo⟩ := C
  intro H locs cells slots ls U hR hlc hL hU X
  obtain ⟨hx, hb, hml, hown, hts, hW, -, -, -, htb, hE, -⟩ := hC
  obtain ⟨c1, c2, c3, c4, c5, c6⟩ := cf
  have hat := hR.1 a (hR.lt hk (by show ci + 7 ≠ 1000; omega))
  rw [ent_o hk] at hat
  obtain ⟨r, g1, cell, q1, q2, q3, q4⟩ := hat
  have hr' : r = (Cn, T, N) := Option.some.inj (g1.symm.trans c1)
  subst hr'
  have q1 : U.heap[E.1.heap.size + a]? = some cell := by rw [hU]; exact q1
  have hKn := (zK_at hE hW).1 ci _ c1
  have hfc : s.vm.findClass Cn = some cell.cls := by rw [q2]; exact hKn.2.1
  have hpl : e.platform.magicAccessors = ({} : Platform).magicAccessors := by rw [X.admits.platform]
  obtain ⟨c', hc', hcl⟩ := Cond.classLink_spec hown (hts _ hl) e.platform hpl
  cases hfc.symm.trans hc'
  obtain ⟨dk, _, _, kt, hd, _, _, _, _, hkt, _, hopen⟩ := hcl.here
  obtain ⟨d', hd', hcl'⟩ := Cond.classLink_spec hown (hts _ hl') e.platform hpl
  have hna := not_cast hE hW hno hfc hd'
  obtain ⟨dk', _, _, kt', hdk', _, _, _, _, hkt', _, hopen'⟩ := hcl'.here
  have hcl₀' := X.warmed.classLinks hcl'
  have hW' : s.WarmedH (U.vm.noted m.cls ct' (.cls d')) := X.warmed.noted hdk' hopen' (State.rightAt_cls hcl')
  have X' := X.noted hW'
  have hcl₀ := X'.warmed.classLinks hcl
  have hW2 : s.WarmedH ((U.setVm (U.vm.noted m.cls ct' (.cls d'))).vm.noted m.cls ct (.cls cell.cls)) := X'.warmed.noted hd hopen (State.rightAt_cls hcl)
  have X2 := X'.noted hW2
  obtain ⟨kv, hkv, -⟩ := hW'.alike.2.2 _ _ hkt
  obtain ⟨kv', hkv', -⟩ := hW'.alike.2.2 _ _ hkt'
  obtain ⟨kw, hkw, -⟩ := hW2.alike.2.2 _ _ hkt
  obtain ⟨y', t', e1', e2', e3'⟩ := List.map_eq_cons_iff.mp htb
  obtain ⟨y, t, e1, e2, e3⟩ := List.map_eq_cons_iff.mp e3'
  simp only [Prod.mk.injEq] at e2 e2'
  obtain ⟨y1, y2, y3, y4⟩ := e2
  obtain ⟨y1', y2', y3', y4'⟩ := e2'
  obtain ⟨tg, k1, k2⟩ := k H locs cells slots ls hR hlc hL (U.setVm ((U.setVm (U.vm.noted m.cls ct' (.cls d'))).vm.noted m.cls ct (.cls cell.cls))) hU X2
  refine ⟨tg, ?_, k2⟩
  refine Steps.caughtTo (g := F0 m pc ls st) (vm' := ((U.setVm (U.vm.noted m.cls ct' (.cls d'))).vm.noted m.cls ct (.cls cell.cls))) X.here (fun Q E' d' acts => ?_) k1
  have hm : ((U.setTop (F0 m pc ls st)).pushFrame (.throwing (E.1.heap.size + a))).vm.method? (F0 m pc ls st).method = some meth := by rw [Stand.throwing_vm]; rw [X.warmed.alike.method?]; exact X.method
  rw [W.findHandler_eq hm X.code, e1', e1]
  have hvm := Stand.throwing_vm U (F0 m pc ls st) (E.1.heap.size + a)
  have hhp := Stand.throwing_heap U (F0 m pc ls st) (E.1.heap.size + a)
  rw [go_cold (c := _) (vm' := U.vm.noted m.cls ct' (.cls _)) (cell := cell) (by rw [covers, y1', y2']; exact hcov') (by rw [y4']; exact h0') (by rw [hvm, y4']; exact resolveClass_links e.toSetting hcl₀') (by rw [hvm]; no_record) (by rw [hhp]; exact q1) (by intro z hz; rw [q3] at hz; cases hz) ⟨kv, hkv⟩ ⟨kv', hkv'⟩, if_neg (by rw [hW'.alike.assignable, hna]; decide)]
  rw [go_cold (c := cell.cls) (vm' := ((U.setVm (U.vm.noted m.cls ct' (.cls _))).vm.noted m.cls ct (.cls cell.cls))) (cell := cell) (by rw [covers, y1, y2]; exact hcov) (by rw [y4]; exact h0) (by rw [y4]; exact resolveClass_links e.toSetting hcl₀) (by no_record) (by show ((U.setTop (F0 m pc ls st)).pushFrame (.throwing (E.1.heap.size + a))).heap[E.1.heap.size + a]? = _; rw [hhp]; exact q1) (by intro z hz; rw [q3] at hz; cases hz) ⟨kw, hkw⟩ ⟨kw, hkw⟩, if_pos (Vm.assignable_self _ _), y3]
  rfl
/-- a throw out of a method, no handler covering the place -/
theorem zth_outH {x : Addr} (hC : Cx C E cc nL own nm ret hh d) (hnc : ∀ h ∈ hh, (decide (h.1 ≤ pc) && decide (pc < h.2.1)) = false) (hq : C.2.2.2.2.2.2.2.2.2.2 (.threw x) σ) : zth C E n nL σ pc L st x := by
  have hC' := hC
  obtain ⟨p, l, e, R, s, m, args, below, meth, c, Qo⟩ := C
  intro H locs cells slots ls T hR hl hL hT X
  obtain ⟨hx, hb, hml, hown, hts, hW, hlk, -, -, hnh, hE, b1, b2, b3, -⟩ := hC
  obtain ⟨r1, r2, r3, r4, r5, r6⟩ := X.same
  have hTh : (T.setVm s.vm).heap = H := hT
  have hz : s.heap.size ≤ H.size := by rw [← hTh]; exact r2
  have hs : ∀ (a : Nat) (x : Cell), s.heap[a]? = some x → ∃ x', H[a]? = some x' ∧ x'.slots.size = x.slots.size := by
    intro a x hx
    obtain ⟨c', h1, -, h3, -⟩ := r6 a x hx
    exact ⟨c', by rw [← hTh]; exact h1, h3⟩
  have X2 : Stand p l e R s m args below meth c T locs (H.size - s.heap.size) (hsum H s.heap.size) := { X with same := ⟨r1, r2, by rw [hTh] at r2 ⊢; omega, r4, by unfold hsum; rw [← hTh]; exact Nat.le_refl _, r6⟩ }
  obtain ⟨hwalk, hrun, hend, hwarm, hsame⟩ := X2.leaveThrown x (g := F0 m pc ls st) rfl rfl rfl (by
    intro q hq
    have := hnc _ (by rw [← hnh]; exact List.mem_map_of_mem hq)
    exact this)
  refine ⟨_, hwalk, .threw x, hrun, hend, ⟨σ, hq, ?_⟩, hwarm, locs, hsame.mono ?_ ?_, hl⟩
  · show Rl E n σ T.heap
    rw [hT]; exact hR
  · obtain ⟨-, q1, -, -, q2, -, -⟩ := hR
    omega
  · have hR2 := hR
    obtain ⟨-, q1, -, q4, -, q2, -⟩ := hR
    have e1 := hsum_le H E.1.heap.size s.heap.size b1
    have e2 := hsum_le s.heap E.1.heap.size s.heap.size b1
    have e3 : hsum s.heap s.heap.size = 0 := by unfold hsum; rw [List.drop_eq_nil_of_le (by simp)]; rfl
    have e4 : ((H.toList.drop E.1.heap.size).take (s.heap.size - E.1.heap.size)).map (·.slots.size) = ((s.heap.toList.drop E.1.heap.size).take (s.heap.size - E.1.heap.size)).map (·.slots.size) := by
      apply List.ext_getElem?
      intro i
      simp only [List.getElem?_map, List.getElem?_take, List.getElem?_drop]
      split
      · next hi =>
        have hlt : E.1.heap.size + i < s.heap.size := by omega
        obtain ⟨x', q1, q2⟩ := hs (E.1.heap.size + i) s.heap[E.1.heap.size + i] (by simp [hlt])
        have q3 : H.toList[E.1.heap.size + i]? = some x' := by rw [Array.getElem?_toList]; exact q1
        have q4 : s.heap.toList[E.1.heap.size + i]? = some s.heap[E.1.heap.size + i] := by rw [Array.getElem?_toList]; simp [hlt]
        rw [q3, q4]
        simp [q2]
      · rfl
    rw [e4] at e1
    omega
end ZCT2
theorem MetX.ofWW {l : Launch} {y : MethodName} {ws ws' : List Cond} {rm : Room} {Pc : Array Value → State → Prop} {Qc : Array Value → State → Outcome → State → Prop} {mc ms : Nat} {free : Addr → Prop} {cc : ByteArray} {maxL : Nat} {ret : Option FieldType} {hh : List (Nat × Nat × Nat × Nat)}
    (hy : plainName y.cls = true) (hw : ws = Cond.codeWith y cc maxL ret hh :: ws')
    (body : ∀ p e s m args below meth c s₁, BodyLoose p l y (headSpec ws rm) cc maxL ret e s m args below meth c s₁ → c.maxLocals = maxL → Pc args s →
      W p l e (headSpec ws rm).room s m args below meth c s.heap [] 0 0 (MX below Qc args s mc ms free) (entryFrame m args maxL)) : MetX l y ws rm Pc Qc mc ms free := by
  refine MetFree.of_bodyS (code := cc) (maxLocals := maxL) (ret := ret) hy ?_ ?_
  · intro args s m h hn
    obtain ⟨m', meth, c, q0, h1, h2, h3, h4, -, h5, h6, -⟩ := Cond.codeWith_spec (atoms_spec (ws := ws) h _ (by rw [hw]; exact List.mem_cons_self))
    cases hn.symm.trans q0
    exact ⟨meth, c, h1, h2, h3, h4, h5, h6⟩
  · intro p e s m args below meth c s₁ B hml hP _
    have hh0 : s₁.heap = s.heap := by rw [B.state]; rfl
    obtain ⟨t, a1, o, b1, b2, b3⟩ := body p e s m args below meth c s₁ B hml hP s₁ hh0 (Stand.of_body B)
    exact ⟨t, o, a1, b1, b2, b3⟩
section ZSW
variable {E : ZE} {cc : ByteArray} {n nL d : Nat} {ret : Option FieldType} {hh : List (Nat × Nat × Nat × Nat)} {σ : ZS} {L : List (Option Value)}
theorem MZ.startW {l : Launch} {y : MethodName} {Qo : Outcome → ZS → Prop} {av : List Value} (hE : EOK E) (hy : plainName y.cls = true) (hlen : (lg_sl av).length ≤ nL) (hL : lvI av ++ List.replicate (nL - (lg_sl av).length) none = L)
    (k : ∀ C : ZC, C.2.1 = l → C.2.2.2.2.2.2.2.2.2.2 = Qo → Cx C E cc nL y.cls y.name ret hh d → zz C E n nL σ 0 L []) : MZ l E n y (wsW_ y cc nL ret hh) d σ av Qo := by
  intro hfl
  refine MetX.ofWW (hh := hh) (cc := cc) (maxL := nL) (ret := ret) hy rfl ?_
  intro p e s m args below meth c s₁ B hml hv
  obtain ⟨rfl, hR, hW⟩ := hv
  have hts := atoms_spec (ws := wsW_ y cc nL ret hh) B.pre
  have hcode := hts _ List.mem_cons_self
  have hts : ∀ w ∈ lw_all, w.before _ s = true := fun w h => hts w (List.mem_cons_of_mem _ h)
  have hb1 : E.1.heap.size ≤ s.heap.size := by rw [hR.2.1]; exact Nat.le_add_right _ _
  have hhs : hsum s.heap E.1.heap.size = zn σ := hR.2.2.2.1
  have hC : Cx (p, l, e, (headSpec (wsW_ y cc nL ret hh) (rmz d σ)).room, s, m, av.toArray, below, meth, c, Qo) E cc nL y.cls y.name ret hh d := by
    refine ⟨B.exec, B.bytes, hml, findClass_of_methodNamed B.named, hts, hW, B.notSynchronized, (name_of_methodNamed B.named B.method).1, B.returns, ?_, hE, hb1, ?_, ?_, Nat.le_refl _, Nat.le_refl _, hfl⟩
    · obtain ⟨m', meth', c', q0, hm', hc', -, -, ht', -⟩ := Cond.codeWith_spec hcode
      cases B.named.symm.trans q0
      cases B.method.symm.trans hm'
      cases (Stand.of_body B).code.symm.trans hc'
      exact ht'
    · show NB ≤ NB - zt σ + _
      have := hR.2.1
      have := hR.2.2.2.2.1
      omega
    · show SB ≤ SB - zn σ + _
      have := hR.2.2.2.2.2.1
      omega
  have kk := k _ rfl rfl hC
  have hl := lv_entry av (n := nL) hlen
  rw [lg_entry_eq]
  have hmc : NB - zt σ = NB - (s.heap.size - E.1.heap.size) := by rw [hR.2.1]; omega
  have hms : SB - zn σ = SB - hsum s.heap E.1.heap.size := by rw [hhs]
  rw [hmc, hms]
  refine kk s.heap [] 0 0 _ hR (fun q hq => by cases hq) ⟨hl.1, hl.2.1, fun i v hv => hl.2.2 (i, v) ?_⟩
  rw [← hL] at hv
  have hi : i < (lvI av).length := by
    rcases Nat.lt_or_ge i (lvI av).length with h | h
    · exact h
    · rw [List.getElem?_append_right h, List.getElem?_replicate] at hv
      split at hv <;> simp at hv
  rw [List.getElem?_append_left hi] at hv
  simpa using lvI_at av 0 i v hv
end ZSW
