/-! rows that the JDK's own methods and the constructors need -/
set_option maxRecDepth 100000
/-- a reference of the JDK's own, or null -/
def frn (r : ZR) : Prop := ∀ a, r ≠ some (.inl a)
theorem pf_dyn {n a k : Nat} (h : n ≤ a) : pfree n a k := fun q => absurd q (by omega)
theorem qobj : Cond.code objectInit ⟨#[0xb1]⟩ 1 none ∈ lw_all := q155
noncomputable def miO (E : ZE) : Nat := @dite _ (∃ mi, va_Mi "[Ljava/lang/Object;" mi E.1) (Classical.propDecidable _) (fun h => Classical.choose h) (fun _ => 0)
--  ∃ mi, va_Mi "[Ljava/lang/Object;" mi E.1 then Classical.choose h else 0
section ZJ
variable {C : ZC} {E : ZE} {cc : ByteArray} {n nL pc d : Nat} {own nm : String} {ret : Option FieldType} {hh : List (Nat × Nat × Nat × Nat)} {σ : ZS} {L : List (Option Value)} {st : List Value}
theorem z_dup_x1 (hC : Cx C E cc nL own nm ret hh d) {u w : Value} (hd : decode cc pc = .ok (.dup_x1, 1)) (hu : u.category = 1) (hw : w.category = 1) (k : zz C E n nL σ (pc + 1) L (u :: w :: u :: st)) : zz C E n nL σ pc L (u :: w :: st) := by
  obtain ⟨p, l, e, R, s, m, args, below, meth, c, Qo⟩ := C
  intro H locs cells slots ls hR hl hL
  exact lv_dup_x1 hC.1 hC.2.1 hd hu hw (k H locs cells slots ls hR hl hL)
theorem nar_of {E : ZE} (hE : EOK E) : ∃ b : Nat, ∀ c ∈ flatC (Jvm.Cond.and given_1 narrow_1), c.before #[Value.ref b] E.1 = true := by
  obtain ⟨-, b, -, -, h⟩ := hE
  exact ⟨b, flat_of_before _ h⟩
theorem z_getsG (hC : Cx C E cc nL own nm ret hh d) {idx : Nat} {Cn fn ds : String} {v : Value} (hd : decode cc pc = .ok (.getstatic idx, 3)) (hl : Cond.fieldLink own idx Cn fn ds ∈ lw_all) (hZ : va_Z Cn fn ds v (fun q => E.1.heap.size ≤ q) E.1 E.1.heap) (k : zz C E n nL σ (pc + 3) L (v :: st)) : zz C E n nL σ pc L st := by
  obtain ⟨p, l, e, R, s, m, args, below, meth, c, Qo⟩ := C
  intro H locs cells slots ls hR hlc hL
  obtain ⟨hx, hb, hml, hown, hts, hW, -, -, -, -, hE, -⟩ := hC
  obtain ⟨cf, kf, fi, f, a, cell, h1, h2, h3, h4, h5, h6, h7, h8⟩ := va_Z.moved hW.alike hZ
  exact W.gets hx hb hown (hts _ hl) h1 h2 h3 h4 (by rw [hR.2.2.1 a (Nat.not_le.mp h8)]; exact h5) (fun e => by rw [e] at h6; cases h6) h7 rfl hd (k H locs cells slots ls hR hlc hL)
theorem z_getsI (hC : Cx C E cc nL own nm ret hh d) {idx : Nat} {Cn fn ds : String} {v : Int32} (hd : decode cc pc = .ok (.getstatic idx, 3)) (hl : Cond.fieldLink own idx Cn fn ds ∈ lw_all) (hs : Cond.laysStatic Cn fn ds ∈ lw_tbl) (hi : Cond.initialized Cn ∈ lw_all) (hn : Cond.eq (.static Cn fn ds) (.int v) ∈ flatC (Jvm.Cond.and given_1 narrow_1)) (k : zz C E n nL σ (pc + 3) L (.int v :: st)) : zz C E n nL σ pc L st := by
  have hE := cxE hC
  obtain ⟨-, b, t1, t2, t3⟩ := id hE
  exact z_getsG hC hd hl (va_Zof (t1 _ hs) (t1 _ (lw_all_tbl hi)) (va_eqi (flat_of_before _ t3 _ hn)) (fun a ha => Nat.not_le.mpr ha)) k
theorem z_getsR (hC : Cx C E cc nL own nm ret hh d) {idx : Nat} {Cn fn ds : String} (hd : decode cc pc = .ok (.getstatic idx, 3)) (hl : Cond.fieldLink own idx Cn fn ds ∈ lw_all) (hs : Cond.laysStatic Cn fn ds ∈ lw_tbl) (hi : Cond.initialized Cn ∈ lw_all) (hn : Cond.isRef (.static Cn fn ds) ∈ flatC (Jvm.Cond.and given_1 narrow_1)) (k : ∀ r : ZR, frn r → zz C E n nL σ (pc + 3) L (pv E.1.heap.size r :: st)) : zz C E n nL σ pc L st := by
  have hE := cxE hC
  obtain ⟨-, b, t1, t2, t3⟩ := id hE
  rcases va_Zqof (A := fun q => E.1.heap.size ≤ q) (t1 _ hs) (t1 _ (lw_all_tbl hi)) (flat_of_before _ t3 _ hn) (fun a ha => Nat.not_le.mpr ha) with h | ⟨t, h⟩
  · exact z_getsG hC hd hl h (k none (fun a q => by cases q))
  · exact z_getsG hC hd hl h (k (some (.inr t)) (fun a q => by cases q))
theorem z_anew5 (hC : Cx C E cc nL own nm ret hh d) {idx : Nat} (hd : decode cc pc = .ok (.anewarray idx, 3)) (hl : Cond.classLink own idx "RightTurns$State" ∈ lw_all) {x : Int32} {len : Nat} (hx0 : ¬ x < 0) (hlen : ix x = len) (hn : n ≤ zt σ) (h1 : zt σ + 1 ≤ NB) (h2 : zn σ + len ≤ SB) (k : zz C E n nL (sA σ (5, len) len) (pc + 3) L (.ref (E.1.heap.size + zt σ) :: st)) : zz C E n nL σ pc L (.int x :: st) := by
  have hC' := hC
  obtain ⟨p, l, e, R, s, m, args, below, meth, c, Qo⟩ := C
  intro H locs cells slots ls hR hlc hL
  refine W.exact fun hz hs => ?_
  obtain ⟨w1, w2⟩ := zroom hC' hR hz hs h1 h2
  obtain ⟨hx, hb, hml, hown, hts, hW, -, -, -, -, hE, -⟩ := hC
  have hsz := hR.2.1
  have hover : (Cond.arrayOver (.object "RightTurns$State")).before args s = true := by
    obtain ⟨-, b, t1, -⟩ := id hE
    exact va_AO.use (va_AO.moved hW.alike (va_AO.of (t1 _ q579)))
  subst hlen
  refine W.anew hx hb hown (hts _ hl) hover rfl hd rfl hx0 (by unfold SB at h2; have : ix x = x.toNatClampNeg := rfl; omega) w1 w2 fun cA kA comp f1 f2 f3 f4 => ?_
  have hcA : cA = E.2.2 5 := by
    obtain ⟨-, -, -, -, -, h4⟩ := ((zK_at hE hW).2 5 _ rfl).2
    exact Option.some.inj (f1.symm.trans h4)
  subst hcA
  generalize hH1 : H.push ({ cls := E.2.2 5, slots := Array.replicate x.toNatClampNeg .null, vm := .none } : Cell) = H1
  have z1 : H1.size = H.size + 1 := by rw [← hH1, Array.size_push]
  have e1 : H1[H.size]? = some (arrV (E.2.2 5) x.toNatClampNeg (fun _ => .null)) := by rw [← hH1, Array.getElem?_push_size, ← arrV_new]
  have o1 : ∀ q : Nat, q < H.size → H1[q]? = H[q]? := fun q hq => by rw [← hH1, Array.getElem?_push, if_neg (Nat.ne_of_lt hq)]
  rw [hsz]
  refine k H1 _ _ _ ls (Rl_push hn hR h1 h2 e1 z1 o1 (arrV_size _ _ _) ?_) hlc hL
  rw [ent_5 (len := ix x) (by rw [kK_sA σ _ _ _ hn, if_pos rfl]), ← hsz]
  show H1[_]? = some (vp_cell _ _)
  rw [e1, vp_cell_q]
  congr 2
  funext q
  rw [kP_sA σ _ _ _ _ hn, if_pos rfl]
  rfl
theorem z_anew6 (hC : Cx C E cc nL own nm ret hh d) {idx : Nat} (hd : decode cc pc = .ok (.anewarray idx, 3)) (hl : Cond.classLink own idx "java/lang/Object" ∈ lw_all) {x : Int32} {len : Nat} (hx0 : ¬ x < 0) (hlen : ix x = len) (hn : n ≤ zt σ) (h1 : zt σ + 1 ≤ NB) (h2 : zn σ + len ≤ SB) (k : zz C E n nL (sA σ (6, len) len) (pc + 3) L (.ref (E.1.heap.size + zt σ) :: st)) : zz C E n nL σ pc L (.int x :: st) := by
  have hC' := hC
  obtain ⟨p, l, e, R, s, m, args, below, meth, c, Qo⟩ := C
  intro H locs cells slots ls hR hlc hL
  refine W.exact fun hz hs => ?_
  obtain ⟨w1, w2⟩ := zroom hC' hR hz hs h1 h2
  obtain ⟨hx, hb, hml, hown, hts, hW, -, -, -, -, hE, -⟩ := hC
  have hsz := hR.2.1
  have hover : (Cond.arrayOver (.object "java/lang/Object")).before args s = true := by
    obtain ⟨-, b, t1, -⟩ := id hE
    exact va_AO.use (va_AO.moved hW.alike (va_AO.of (t1 _ q175)))
  subst hlen
  refine W.anew hx hb hown (hts _ hl) hover rfl hd rfl hx0 (by unfold SB at h2; have : ix x = x.toNatClampNeg := rfl; omega) w1 w2 fun cA kA comp f1 f2 f3 f4 => ?_
  have hcA : cA = E.2.2 6 := by
    obtain ⟨-, -, -, -, -, h4⟩ := ((zK_at hE hW).2 6 _ rfl).2
    exact Option.some.inj (f1.symm.trans h4)
  subst hcA
  generalize hH1 : H.push ({ cls := E.2.2 6, slots := Array.replicate x.toNatClampNeg .null, vm := .none } : Cell) = H1
  have z1 : H1.size = H.size + 1 := by rw [← hH1, Array.size_push]
  have e1 : H1[H.size]? = some (arrV (E.2.2 6) x.toNatClampNeg (fun _ => .null)) := by rw [← hH1, Array.getElem?_push_size, ← arrV_new]
  have o1 : ∀ q : Nat, q < H.size → H1[q]? = H[q]? := fun q hq => by rw [← hH1, Array.getElem?_push, if_neg (Nat.ne_of_lt hq)]
  rw [hsz]
  refine k H1 _ _ _ ls (Rl_push hn hR h1 h2 e1 z1 o1 (arrV_size _ _ _) ?_) hlc hL
  rw [ent_6 (len := ix x) (by rw [kK_sA σ _ _ _ hn, if_pos rfl]), ← hsz]
  show H1[_]? = some (vp_cell _ _)
  rw [e1, vp_cell_q]
  congr 2
  funext q
  rw [kP_sA σ _ _ _ _ hn, if_pos rfl]
  rfl
/-- a store into an Object[] of an own object of any class, or of any array's class -/
theorem z_aast6 (hC : Cx C E cc nL own nm ret hh d) (hd : decode cc pc = .ok (.aastore, 1)) {a len b ci x N : Nat} {Cn : String} {T : u_T} {ty : Nat → FieldType} {j : Int32} (hk : kK n σ a = (6, len)) (cf : CF ci Cn T N ty) (hcast : Cond.castable Cn "java/lang/Object" ∈ lw_tbl) (hkb : kK n σ b = (ci + 7, x)) (hj : vp_in j len) (hf : pfree n a (ix j)) (k : zz C E n nL (sP σ a (ix j) (some (.inl b))) (pc + 1) L st) : zz C E n nL σ pc L (.ref (E.1.heap.size + b) :: .int j :: .ref (E.1.heap.size + a) :: st) := by
  obtain ⟨p, l, e, R, s, m, args, below, meth, c, Qo⟩ := C
  intro H locs cells slots ls hR hl hL
  obtain ⟨hx, hb, hml, hown, hts, hW, -, -, -, -, hE, -⟩ := hC
  obtain ⟨c1, c2, c3, c4, c5, c6⟩ := cf
  have ha := hR.lt hk (by simp)
  have hat := hR.1 a ha
  rw [ent_6 hk] at hat
  have hatb := hR.1 b (hR.lt hkb (by show ci + 7 ≠ 1000; omega))
  rw [ent_o hkb] at hatb
  have hK := zK_at hE hW
  obtain ⟨r', hr', cellV, g1, g2, g3, -⟩ := hatb
  have hcls := (hK.1 ci _ c1).2
  obtain ⟨kA, comp, k1, k2, k3, -⟩ := (hK.2 6 _ rfl).2
  obtain ⟨kC, hkC, -⟩ := hcls.2
  have hcs : (Cond.castable Cn "java/lang/Object").before args s = true := by
    obtain ⟨-, bb, t1, -⟩ := id hE
    exact va_Nw.use rfl (va_Nw.warmC hW (va_Nw.of rfl (t1 _ hcast)))
  obtain ⟨c0, t0, f1, f2, f3⟩ := Cond.castable_spec hcs
  cases hcls.1.symm.trans f1
  have ht0 : t0 = comp := Option.some.inj (f2.symm.trans k3)
  subst ht0
  obtain ⟨kO, hkO⟩ := Vm.classAt_of_findClass k3
  refine W.aast hx hb hat (fun q h => by cases h) (fun h => by cases h) k1 k2 rfl hkO ⟨fun q => hj (Or.inl q), by show _ < (arrV _ _ _).slots.size; rw [arrV_size]; exact ix_lt hj⟩ g1 (fun q h => by rw [g3] at h; cases h) (by rw [g2]; exact hkC) (by rw [g2]; exact f3) rfl rfl hd fun H1 e1 z1 oq => ?_
  refine k H1 _ cells slots ls (Rl_upd hR ha rfl rfl (fun _ => rfl) (fun b hb => ent_sP hf hb) ?_ z1 oq (hsum_set hat e1 z1 oq)) (locs1 hl) hL
  rw [ent_6 (show kK n (sP σ a (ix j) (some (.inl b))) a = (6, len) from hk)]
  show H1[_]? = some (vp_cell _ _)
  rw [e1]
  rw [vp_cell_q, vp_cell_q, arrV_store]
  congr 2
  funext q
  by_cases hq : q = j.toNatClampNeg
  · subst hq
    simp [updV, kP_sP σ hf, zrf, va_rf]
  · simp [updV, kP_sP σ hf, hq]
theorem z_castB (hC : Cx C E cc nL own nm ret hh d) {idx a len : Nat} (hd : decode cc pc = .ok (.checkcast idx, 3)) (hk : kK n σ a = (2, len)) (hl : Cond.classLink own idx "[B" ∈ lw_all) (k : zz C E n nL σ (pc + 3) L (.ref (E.1.heap.size + a) :: st)) : zz C E n nL σ pc L (.ref (E.1.heap.size + a) :: st) := by
  obtain ⟨p, l, e, R, s, m, args, below, meth, c, Qo⟩ := C
  intro H locs cells slots ls hR hlc hL
  obtain ⟨hx, hb, hml, hown, hts, hW, -, -, -, -, hE, -⟩ := hC
  have hat := hR.1 a (hR.lt hk (by simp))
  rw [ent_2 hk] at hat
  exact va_castA hx hb hown (hts _ hl) (va_1 hat) 0 rfl ((zK_at hE hW).2 2 _ rfl).2 hd (k H locs cells slots ls hR hlc hL)
/-- a call of a superclass' method -/
theorem z_callSUG (hC : Cx C E cc nL own nm ret hh d) {idx b ci x N nLY d' np : Nat} {y : MethodName} {ws : List Cond} {Cn : String} {T : u_T} {ty : Nat → FieldType} {av : List Value} {Qo : Outcome → ZS → Prop} (cf : CF ci Cn T N ty) (cw : CodeW y ws nLY) (hdd : d' + 1 ≤ d) (hnY : nLY ≤ 45)
    (hM : MZ C.2.1 E n y ws d' σ (.ref (E.1.heap.size + b) :: av) Qo) (hd : decode cc pc = .ok (.invokespecial idx, 3)) (hno : y.name ≠ "<init>") (hk : kK n σ b = (ci + 7, x)) (hl : Cond.methodLink own idx y ∈ lw_all) (hsm : Cond.sameMethod y.cls y.cls y.name y.desc ∈ lw_all) (hsp : Cond.superclass own y.cls ∈ lw_all) (hi : Cond.instanceMethod y ∈ lw_all)
    (hnp : (parseMethodDescriptor y.desc).map (fun d => d.parameters.length) = some np) (hal : av.length = np) (hW : (st.map fun v => v.category).sum ≤ 8) {st0 : List Value} (hst0 : av.reverse ++ .ref (E.1.heap.size + b) :: st = st0)
    (k : ∀ o σ', Qo o σ' → (∃ v, o = .returned v ∧ zz C E n nL σ' (pc + 3) L (v.toList ++ st)) ∨ (∃ x, o = .threw x ∧ zth C E n nL σ' pc L st x)) : zz C E n nL σ pc L st0 := by
  subst hst0
  have hC' := hC
  have k' := k
  obtain ⟨p, l, e, R, s, m, args, below, meth, c, Qo'⟩ := C
  intro H locs cells slots ls hR hlc hL
  refine W.exact fun hz hss => ?_
  obtain ⟨w1, w2⟩ := zcount hC' hR hz hss
  obtain ⟨hx, hb, hml, hown, hts, hWm, -, -, -, -, hE, -, -, -, hfr, hlo, hfl⟩ := hC
  obtain ⟨c1, c2, c3, c4, c5, c6⟩ := cf
  have hat := hR.1 b (hR.lt hk (by show ci + 7 ≠ 1000; omega))
  rw [ent_o hk] at hat
  obtain ⟨cellB, g1, g2, g3⟩ := va_recv (zK_at hE hWm) (va_1 hat) (q0 := 0) c1 rfl
  obtain ⟨kB, hkB, -⟩ := ((zK_at hE hWm).1 ci _ c1).2.2
  have hkB' : s.vm.classes[cellB.cls]? = some kB := by
    have : cellB.cls = E.2.1.1 ci := Option.some.inj (g3.symm.trans ((zK_at hE hWm).1 ci _ c1).2.1)
    rw [this]; exact hkB
  intro T hT X
  obtain ⟨mk, methM, hnamed, hmethM, hstM, habM⟩ := Cond.instanceMethod_spec (hts _ hi)
  have hsigM : parseMethodDescriptor y.desc = some methM.sig := by
    obtain ⟨mk', methM', r1, r2, r3⟩ := cw.sig hts
    cases hnamed.symm.trans r1
    cases hmethM.symm.trans r2
    exact r3
  obtain ⟨ps, dk, kp, hps, hdk, hkp, hsuper, -, -, hnid⟩ := Cond.superclass_spec hown (hts _ hsp)
  have hn : s.methodNamed? ⟨y.cls, y.name, y.desc⟩ = some mk := hnamed
  have hpm : ps = mk.cls := Option.some.inj (hps.symm.trans (findClass_of_methodNamed hnamed))
  have hsub : s.vm.isSubclass ps mk.cls = true := by rw [hpm]; simp [Vm.isSubclass, Vm.isSubclassAux]
  have hlenM : av.length = methM.sig.parameters.length := by rw [hsigM] at hnp; rw [hal]; exact (Option.some.inj hnp).symm
  obtain ⟨vm₁, X₁, hstep₁⟩ := X.invokespecialUp hx hown (hts _ hl) (hts _ hsm) hn hmethM hstM habM hno hdk hnid hps hsuper hsub (a := E.1.heap.size + b) (cell := cellB) (by rw [hT]; exact g1)
    (fun z h => by rw [h] at g2; cases g2) hkB' (g := F0 m pc ls (av.reverse ++ .ref (E.1.heap.size + b) :: st)) rfl (argsL := av) (rest := st) hlenM rfl (by rw [hb]; exact hd)
  obtain ⟨o, t, T', L', X', hL', e1, e2, hq, hr, ht⟩ := backX (hM hfl) (cw.cal hts (by omega) (by omega) hnY) (g := F0 m pc ls st) (ig := .invokespecial idx) (mk := mk) (a := (Value.ref (E.1.heap.size + b) :: av).toArray) X₁ rfl (by rw [hml]; exact hL.1) (by rw [hb]; exact hd) (by show 2 * 0 + (st.map fun v => v.category).sum ≤ 8; omega) (X₁.named hnamed) w1 w2 ⟨rfl, by show Rl E n σ T.heap; rw [hT]; exact hR, State.WarmedH.trans hWm X₁.warmed⟩
  refine zcall_end (C := (p, l, e, R, s, m, args, below, meth, c, Qo')) hlc hL ⟨o, (T.setVm vm₁).calling (F0 m pc ls st) mk _, t, T', L', rfl, X₁.warmed, X', hL', e1, e2, hq, fun v hv tg h => hstep₁ _ (by rw [doInvoke_state]; exact (hr v hv).trans h), fun x hx tg h => hstep₁ _ (by rw [doInvoke_state]; exact (ht x hx).trans h)⟩ k'
/-- a nest mate's constructor -/
theorem z_callING (hC : Cx C E cc nL own nm ret hh d) {idx b nLY d' np : Nat} {y : MethodName} {host : String} {ws : List Cond} {bytes : ByteArray} {av : List Value} {Qo : Outcome → ZS → Prop} (cw : CodeW y ws nLY) (hcode : Cond.code y bytes nLY none ∈ lw_all) (hdd : d' + 1 ≤ d) (hnY : nLY ≤ 45)
    (hM : MZ C.2.1 E n y ws d' σ (.ref (E.1.heap.size + b) :: av) Qo) (hd : decode cc pc = .ok (.invokespecial idx, 3)) (hy1 : y.name = "<init>") (hl : Cond.methodLinkNest own idx y host ∈ lw_tbl) (hi : Cond.instanceMethod y ∈ lw_all)
    (hnp : (parseMethodDescriptor y.desc).map (fun d => d.parameters.length) = some np) (hal : av.length = np) (hW : (st.map fun v => v.category).sum ≤ 8) {st0 : List Value} (hst0 : av.reverse ++ .ref (E.1.heap.size + b) :: st = st0)
    (k : ∀ o σ', Qo o σ' → (∃ v, o = .returned v ∧ zz C E n nL σ' (pc + 3) L (v.toList ++ st)) ∨ (∃ x, o = .threw x ∧ zth C E n nL σ' pc L st x)) : zz C E n nL σ pc L st0 := by
  subst hst0
  have hC' := hC
  have k' := k
  obtain ⟨p, l, e, R, s, m, args, below, meth, c, Qo'⟩ := C
  intro H locs cells slots ls hR hlc hL
  refine W.exact fun hz hss => ?_
  obtain ⟨w1, w2⟩ := zcount hC' hR hz hss
  obtain ⟨hx, hb, hml, hown, hts, hWm, -, -, -, -, hE, -, -, -, hfr, hlo, hfl⟩ := hC
  have hlink : (Cond.methodLinkNest own idx y host).before args s = true := by
    obtain ⟨-, bb, t1, -⟩ := id hE
    exact va_Nw.use rfl (va_Nw.warmM hWm (va_Nw.of rfl (t1 _ hl)))
  intro T hT X
  have hpl : e.platform.magicAccessors = ({} : Platform).magicAccessors := by rw [X.admits.platform]
  have hlen : ∀ sig, parseMethodDescriptor y.desc = some sig → av.length = sig.parameters.length := fun sig h => by rw [h] at hnp; rw [hal]; exact (Option.some.inj hnp).symm
  obtain ⟨mk, methM, cM, kP, vm₁, hnamed, hmethM, hcodeM, -, hlocalsM, -, hkP, -, hW₁, hstep₁⟩ := Steps.initColdArgsNest (e := e) X.here hx X.warmed hpl hown hy1 cw.2.2.2 hlink (hts _ hi) (hts _ hcode) (f := F0 m pc ls (av.reverse ++ .ref (E.1.heap.size + b) :: st)) rfl hlen rfl (by rw [hb]; exact hd)
  have X₁ := X.noted hW₁
  obtain ⟨o, t, T', L', X', hL', e1, e2, hq, hr, ht⟩ := backX (hM hfl) (cw.cal hts (by omega) (by omega) hnY) (g := F0 m pc ls st) (ig := .invokespecial idx) (mk := mk) (a := (Value.ref (E.1.heap.size + b) :: av).toArray) X₁ rfl (by rw [hml]; exact hL.1) (by rw [hb]; exact hd) (by show 2 * 0 + (st.map fun v => v.category).sum ≤ 8; omega) (X₁.named hnamed) w1 w2 ⟨rfl, by show Rl E n σ T.heap; rw [hT]; exact hR, State.WarmedH.trans hWm X₁.warmed⟩
  refine zcall_end (C := (p, l, e, R, s, m, args, below, meth, c, Qo')) hlc hL ⟨o, (T.setVm vm₁).calling (F0 m pc ls st) mk _, t, T', L', rfl, X₁.warmed, X', hL', e1, e2, hq, fun v hv tg h => hstep₁ _ fun acts => by rw [doInvoke_state]; exact (hr v hv).trans h, fun x hx tg h => hstep₁ _ fun acts => by rw [doInvoke_state]; exact (ht x hx).trans h⟩ k'
end ZJ
