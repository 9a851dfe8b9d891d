/-! calls: of an inherited or overridden method by its resolved name; of a private method of a superclass -/
set_option maxRecDepth 100000
section ZU
variable {C : ZC} {E : ZE} {cc : ByteArray} {n nL pc d : Nat} {own nm : String} {ret : Option FieldType} {hh : List (Nat × Nat × Nat × Nat)} {σ : ZS} {L : List (Option Value)} {st : List Value}
theorem z_callUG (hC : Cx C E cc nL own nm ret hh d) {idx b ci x N nLY d' np nLX : Nat} {bX : ByteArray} {rX : Option FieldType} {xx y : MethodName} {ws : List Cond} {Cn : String} {T : u_T} {ty : Nat → FieldType} {av : List Value} {Qo : Outcome → ZS → Prop} (cf : CF ci Cn T N ty) (cw : CodeW y ws nLY) (hdd : d' + 1 ≤ d) (hnY : nLY ≤ 45)
    (hM : MZ C.2.1 E n y ws d' σ (.ref (E.1.heap.size + b) :: av) Qo) (hd : decode cc pc = .ok (.invokevirtual idx, 3)) (hk : kK n σ b = (ci + 7, x)) (hl : Cond.methodLink own idx xx ∈ lw_all) (hsm : Cond.sameMethod xx.cls xx.cls xx.name xx.desc ∈ lw_all) (hix : Cond.instanceMethod xx ∈ lw_all) (hcx : Cond.code xx bX nLX rX ∈ lw_all) (hi : Cond.instanceMethod y ∈ lw_all) (hs : Cond.selects Cn xx y ∈ lw_all) (hown2 : xx.cls ≠ "java/lang/invoke/MethodHandle" ∧ xx.cls ≠ "java/lang/invoke/VarHandle")
    (hnp : (parseMethodDescriptor xx.desc).map (fun d => d.parameters.length) = some np) (hal : av.length = np) (hW : (st.map fun v => v.category).sum ≤ 8) {st0 : List Value} (hst0 : av.reverse ++ .ref (E.1.heap.size + b) :: st = st0)
    (k : ∀ o σ', Qo o σ' → (∃ v, o = .returned v ∧ zz C E n nL σ' (pc + 3) L (v.toList ++ st)) ∨ (∃ x, o = .threw x ∧ zth C E n nL σ' pc L st x)) : zz C E n nL σ pc L st0 := by
  subst hst0
  have hC' := hC
  have k' := k
  obtain ⟨p, l, e, R, s, m, args, below, meth, c, Qo'⟩ := C
  intro H locs cells slots ls hR hlc hL
  refine W.exact fun hz hss => ?_
  obtain ⟨w1, w2⟩ := zcount hC' hR hz hss
  obtain ⟨hx, hb, hml, hown, hts, hWm, -, -, -, -, hE, -, -, -, hfr, hlo, hfl⟩ := hC
  obtain ⟨c1, c2, c3, c4, c5, c6⟩ := cf
  have hat := hR.1 b (hR.lt hk (by show ci + 7 ≠ 1000; omega))
  rw [ent_o hk] at hat
  obtain ⟨cellB, g1, g2, g3⟩ := va_recv (zK_at hE hWm) (va_1 hat) (q0 := 0) c1 rfl
  have g3' : s.vm.findClass Cn = some cellB.cls := g3
  intro T hT X
  obtain ⟨r0, r, hn, hrm, hstR, hsigR⟩ := va_Decl.of (hts _ hix) (hts _ hcx)
  obtain ⟨cn, ck, r1, hcn, hck, hni, hf, hn1⟩ := Cond.sameMethod_found (hts _ hsm)
  have hn' : s.methodNamed? ⟨xx.cls, xx.name, xx.desc⟩ = some r0 := hn
  cases hn'.symm.trans hn1
  obtain ⟨mk, methM, hnamed, hmethM, -, habM⟩ := Cond.instanceMethod_spec (hts _ hi)
  obtain ⟨c2', r2, m2, q1, q2, q3, q4, kP, hkP, hkPi⟩ := Cond.selects_spec (hts _ hs)
  cases g3'.symm.trans q1
  cases hf.symm.trans q2
  cases hnamed.symm.trans q3
  have hselP : selectMethod e.platform s.vm cellB.cls r0 = .method mk := by rw [Launch.admits_selectMethod X.admits]; exact q4
  have hlenM : av.length = r.sig.parameters.length := by rw [hsigR] at hnp; rw [hal]; exact (Option.some.inj hnp).symm
  obtain ⟨vm₁, X₁, hstep₁⟩ := X.invokevirtualUp hx hown (hts _ hl) (hts _ hsm) hown2 hn hrm hstR (a := E.1.heap.size + b) (cell := cellB) (by rw [hT]; exact g1)
    (fun z h => by rw [h] at g2; cases g2) hselP hmethM habM hkP hkPi (g := F0 m pc ls (av.reverse ++ .ref (E.1.heap.size + b) :: st)) rfl (argsL := av) (rest := st) hlenM rfl (by rw [hb]; exact hd)
  obtain ⟨o, t, T', L', X', hL', e1, e2, hq, hr, ht⟩ := backX (hM hfl) (cw.cal hts (by omega) (by omega) hnY) (g := F0 m pc ls st) (ig := .invokevirtual idx) (mk := mk) (a := (Value.ref (E.1.heap.size + b) :: av).toArray) X₁ rfl (by rw [hml]; exact hL.1) (by rw [hb]; exact hd) (by show 2 * 0 + (st.map fun v => v.category).sum ≤ 8; omega) (X₁.named hnamed) w1 w2 ⟨rfl, by show Rl E n σ T.heap; rw [hT]; exact hR, State.WarmedH.trans hWm X₁.warmed⟩
  refine zcall_end (C := (p, l, e, R, s, m, args, below, meth, c, Qo')) hlc hL ⟨o, (T.setVm vm₁).calling (F0 m pc ls st) mk _, t, T', L', rfl, X₁.warmed, X', hL', e1, e2, hq, fun v hv tg h => hstep₁ _ fun acts => by rw [doInvoke_state]; exact (hr v hv).trans h, fun x hx tg h => hstep₁ _ fun acts => by rw [doInvoke_state]; exact (ht x hx).trans h⟩ k'
theorem z_callPG (hC : Cx C E cc nL own nm ret hh d) {idx b ci x N nLY d' np : Nat} {y : MethodName} {ws : List Cond} {Cn : String} {T : u_T} {ty : Nat → FieldType} {av : List Value} {Qo : Outcome → ZS → Prop} (cf : CF ci Cn T N ty) (cw : CodeW y ws nLY) (hdd : d' + 1 ≤ d) (hnY : nLY ≤ 45)
    (hM : MZ C.2.1 E n y ws d' σ (.ref (E.1.heap.size + b) :: av) Qo) (hd : decode cc pc = .ok (.invokevirtual idx, 3)) (hk : kK n σ b = (ci + 7, x)) (hl : Cond.methodLink own idx y ∈ lw_all) (hi : Cond.instanceMethod y ∈ lw_all) (hs : Cond.privateMethod y ∈ lw_tbl) (hsm : Cond.sameMethod y.cls y.cls y.name y.desc ∈ lw_all)
    (hnp : (parseMethodDescriptor y.desc).map (fun d => d.parameters.length) = some np) (hal : av.length = np) (hW : (st.map fun v => v.category).sum ≤ 8) {st0 : List Value} (hst0 : av.reverse ++ .ref (E.1.heap.size + b) :: st = st0)
    (k : ∀ o σ', Qo o σ' → (∃ v, o = .returned v ∧ zz C E n nL σ' (pc + 3) L (v.toList ++ st)) ∨ (∃ x, o = .threw x ∧ zth C E n nL σ' pc L st x)) : zz C E n nL σ pc L st0 := by
  subst hst0
  have hC' := hC
  have k' := k
  obtain ⟨p, l, e, R, s, m, args, below, meth, c, Qo'⟩ := C
  intro H locs cells slots ls hR hlc hL
  refine W.exact fun hz hss => ?_
  obtain ⟨w1, w2⟩ := zcount hC' hR hz hss
  obtain ⟨hx, hb, hml, hown, hts, hWm, -, -, -, -, hE, -, -, -, hfr, hlo, hfl⟩ := hC
  obtain ⟨c1, c2, c3, c4, c5, c6⟩ := cf
  have hat := hR.1 b (hR.lt hk (by show ci + 7 ≠ 1000; omega))
  rw [ent_o hk] at hat
  obtain ⟨cellB, g1, g2, g3⟩ := va_recv (zK_at hE hWm) (va_1 hat) (q0 := 0) c1 rfl
  intro T hT X
  obtain ⟨mk, methM, hnamed, hmethM, hstM, habM⟩ := Cond.instanceMethod_spec (hts _ hi)
  have hsigM : parseMethodDescriptor y.desc = some methM.sig := by
    obtain ⟨mk', methM', r1, r2, r3⟩ := cw.sig hts
    cases hnamed.symm.trans r1
    cases hmethM.symm.trans r2
    exact r3
  have hpriv0 : (Cond.privateMethod y).before #[] E.1 = true := by
    obtain ⟨-, bb, t1, -⟩ := id hE
    exact va_any rfl (t1 _ hs)
  have hal' := hWm.alike
  have hnamed0 : E.1.methodNamed? y = some mk := by
    have := hnamed
    have q := State.methodNamed?_setVm (s := E.1) (vm' := s.vm) hal' y
    have q2 : (E.1.setVm s.vm).methodNamed? y = s.methodNamed? y := rfl
    rw [q2] at q
    rw [← q]; exact hnamed
  have hmeth0 : E.1.vm.method? mk = some methM := by rw [← hal'.method?]; exact hmethM
  have hpm := Cond.privateMethod_at hpriv0 mk methM hnamed0 hmeth0
  have hselP : selectMethod e.platform s.vm cellB.cls mk = .method mk := by rw [Launch.admits_selectMethod X.admits]; exact selectMethod_private hmethM hpm
  have hlenM : av.length = methM.sig.parameters.length := by rw [hsigM] at hnp; rw [hal]; exact (Option.some.inj hnp).symm
  obtain ⟨cn, ck, r1, hcn, hck, hni, hf, hn1⟩ := Cond.sameMethod_found (hts _ hsm)
  have hcnm : cn = mk.cls := Option.some.inj (hcn.symm.trans (findClass_of_methodNamed hnamed))
  subst hcnm
  obtain ⟨vm₁, X₁, hstep₁⟩ := X.invokevirtual hx hown (hts _ hl) hnamed hmethM hstM hck hni cw.2.2.2 (a := E.1.heap.size + b) (cell := cellB) (by rw [hT]; exact g1)
    (fun z h => by rw [h] at g2; cases g2) hselP hmethM habM hck hni (g := F0 m pc ls (av.reverse ++ .ref (E.1.heap.size + b) :: st)) rfl (argsL := av) (rest := st) hlenM rfl (by rw [hb]; exact hd)
  obtain ⟨o, t, T', L', X', hL', e1, e2, hq, hr, ht⟩ := backX (hM hfl) (cw.cal hts (by omega) (by omega) hnY) (g := F0 m pc ls st) (ig := .invokevirtual idx) (mk := mk) (a := (Value.ref (E.1.heap.size + b) :: av).toArray) X₁ rfl (by rw [hml]; exact hL.1) (by rw [hb]; exact hd) (by show 2 * 0 + (st.map fun v => v.category).sum ≤ 8; omega) (X₁.named hnamed) w1 w2 ⟨rfl, by show Rl E n σ T.heap; rw [hT]; exact hR, State.WarmedH.trans hWm X₁.warmed⟩
  refine zcall_end (C := (p, l, e, R, s, m, args, below, meth, c, Qo')) hlc hL ⟨o, (T.setVm vm₁).calling (F0 m pc ls st) mk _, t, T', L', rfl, X₁.warmed, X', hL', e1, e2, hq, fun v hv tg h => hstep₁ _ fun acts => by rw [doInvoke_state]; exact (hr v hv).trans h, fun x hx tg h => hstep₁ _ fun acts => by rw [doInvoke_state]; exact (ht x hx).trans h⟩ k'
end ZU
