/-! exceptions: new; dup; invokespecial <init>()V -/
set_option maxRecDepth 100000
/-- an exception's constructor has run: only the object's own references have changed -/
def exc (σ : ZS) (a : Nat) (σ1 : ZS) : Prop := σ1.1 = σ.1 ∧ σ1.2.1 = σ.2.1 ∧ (∀ b j, b ≠ a → zP σ1 b j = zP σ b j) ∧ σ1.2.2.2 = σ.2.2.2
/-- the old cells are there still, but for slots -/
def oldc (E : ZE) (s : State) : Prop := ∀ (q : Nat) (x : Cell), E.1.heap[q]? = some x → ∃ x', s.heap[q]? = some x' ∧ x'.vm = x.vm ∧ x'.cls = x.cls ∧ x'.slots.size = x.slots.size
theorem ls_at {E : ZE} {s : State} {args : Array Value} (hE : EOK E) (hW : E.1.WarmedH s.vm) (hq : oldc E s) {C nm ds : String} (h : Cond.laysStatic C nm ds ∈ lw_tbl) : (Cond.laysStatic C nm ds).before args s = true := by
  obtain ⟨-, b, h1, -⟩ := hE
  obtain ⟨c, k, i, f, a, cell, g1, g2, g3, g4, g5, g6, g7, g8, g9⟩ := Cond.laysStatic_spec (h1 _ h)
  obtain ⟨k', hi', he⟩ := State.fieldFound?_setVm hW.alike g2
  have hf : s.fieldFound? C nm ds = some (c, k', i, f) := hi'
  have hc : s.vm.findClass C = some c := by rw [hW.alike.findClass]; exact g1
  obtain ⟨x', y1, y2, y3, y4⟩ := hq a cell g5
  have y5 : k'.statics = some a := by rw [he]; exact g4
  have y6 : k'.staticTypes[f.slot]? = some f.type := by rw [he]; exact g9
  have y7 : f.slot < x'.slots.size := by rw [y4]; exact g8
  simp [Cond.before, Cond.holds, Cond.value, hc, hf, y5, y1, y2, y3, g3, g6, g7, y6, y7]
theorem dcl_at {s : State} {args : Array Value} {y : MethodName} {bs : ByteArray} {nl : Nat} {r : Option FieldType} (h1 : (Cond.instanceMethod y).before args s = true) (h2 : (Cond.code y bs nl r).before args s = true) : (Cond.declares y).before args s = true := by
  obtain ⟨mk, methM, hn, hm, hst, hab⟩ := Cond.instanceMethod_spec h1
  obtain ⟨methM', c', hm', -, -, -, -, -, -, hsig⟩ := Cond.code_spec hn h2
  cases hm.symm.trans hm'
  simp [Cond.before, Cond.holds, Cond.value, hn, hm, hst, hsig]
theorem thr_at {E : ZE} {s : State} {args : Array Value} (hE : EOK E) (hW : E.1.WarmedH s.vm) (hts : ∀ w ∈ lw_all, w.before args s = true) (hq : oldc E s) : ∀ c ∈ Bundle.throwableAtoms, c.before args s = true := by
  unfold Bundle.throwableAtoms
  refine List.forall_mem_cons.mpr ⟨hts _ q121, ?_⟩
  refine List.forall_mem_cons.mpr ⟨hts _ q200, ?_⟩
  refine List.forall_mem_cons.mpr ⟨hts _ q209, ?_⟩
  refine List.forall_mem_cons.mpr ⟨hts _ q215, ?_⟩
  refine List.forall_mem_cons.mpr ⟨hts _ q218, ?_⟩
  refine List.forall_mem_cons.mpr ⟨hts _ q220, ?_⟩
  refine List.forall_mem_cons.mpr ⟨hts _ q201, ?_⟩
  refine List.forall_mem_cons.mpr ⟨hts _ q202, ?_⟩
  refine List.forall_mem_cons.mpr ⟨hts _ q154, ?_⟩
  refine List.forall_mem_cons.mpr ⟨hts _ q155, ?_⟩
  refine List.forall_mem_cons.mpr ⟨hts _ q203, ?_⟩
  refine List.forall_mem_cons.mpr ⟨hts _ q208, ?_⟩
  refine List.forall_mem_cons.mpr ⟨hts _ q216, ?_⟩
  refine List.forall_mem_cons.mpr ⟨hts _ q456, ?_⟩
  refine List.forall_mem_cons.mpr ⟨hts _ q190, ?_⟩
  refine List.forall_mem_cons.mpr ⟨hts _ q457, ?_⟩
  refine List.forall_mem_cons.mpr ⟨hts _ q192, ?_⟩
  refine List.forall_mem_cons.mpr ⟨hts _ q458, ?_⟩
  refine List.forall_mem_cons.mpr ⟨hts _ q194, ?_⟩
  refine List.forall_mem_cons.mpr ⟨hts _ q204, ?_⟩
  refine List.forall_mem_cons.mpr ⟨ls_at hE hW hq q205, ?_⟩
  refine List.forall_mem_cons.mpr ⟨hts _ q206, ?_⟩
  refine List.forall_mem_cons.mpr ⟨ls_at hE hW hq q207, ?_⟩
  refine List.forall_mem_cons.mpr ⟨hts _ q196, ?_⟩
  intro c hc; cases hc
theorem ch_at12 {s : State} {args : Array Value} (hts : ∀ w ∈ lw_all, w.before args s = true) : ∀ c ∈ Bundle.chain0Atoms "java/lang/IllegalArgumentException" ["java/lang/RuntimeException", "java/lang/Exception"], c.before args s = true := by
  unfold Bundle.chain0Atoms Bundle.chain0Atoms Bundle.chain0Atoms Bundle.passAtoms
  refine List.forall_mem_cons.mpr ⟨hts _ q755, ?_⟩
  refine List.forall_mem_cons.mpr ⟨hts _ q756, ?_⟩
  refine List.forall_mem_cons.mpr ⟨hts _ q757, ?_⟩
  refine List.forall_mem_cons.mpr ⟨hts _ q758, ?_⟩
  refine List.forall_mem_cons.mpr ⟨dcl_at (hts _ q758) (hts _ q759), ?_⟩
  refine List.forall_mem_cons.mpr ⟨hts _ q758, ?_⟩
  refine List.forall_mem_cons.mpr ⟨hts _ q759, ?_⟩
  refine List.forall_mem_cons.mpr ⟨hts _ q760, ?_⟩
  refine List.forall_mem_cons.mpr ⟨hts _ q761, ?_⟩
  refine List.forall_mem_cons.mpr ⟨dcl_at (hts _ q761) (hts _ q762), ?_⟩
  refine List.forall_mem_cons.mpr ⟨hts _ q761, ?_⟩
  refine List.forall_mem_cons.mpr ⟨hts _ q762, ?_⟩
  refine List.forall_mem_cons.mpr ⟨hts _ q763, ?_⟩
  refine List.forall_mem_cons.mpr ⟨hts _ q201, ?_⟩
  refine List.forall_mem_cons.mpr ⟨dcl_at (hts _ q201) (hts _ q202), ?_⟩
  intro c hc; cases hc
theorem ch_at13 {s : State} {args : Array Value} (hts : ∀ w ∈ lw_all, w.before args s = true) : ∀ c ∈ Bundle.chain0Atoms "java/util/NoSuchElementException" ["java/lang/RuntimeException", "java/lang/Exception"], c.before args s = true := by
  unfold Bundle.chain0Atoms Bundle.chain0Atoms Bundle.chain0Atoms Bundle.passAtoms
  refine List.forall_mem_cons.mpr ⟨hts _ q1166, ?_⟩
  refine List.forall_mem_cons.mpr ⟨hts _ q1167, ?_⟩
  refine List.forall_mem_cons.mpr ⟨hts _ q1168, ?_⟩
  refine List.forall_mem_cons.mpr ⟨hts _ q758, ?_⟩
  refine List.forall_mem_cons.mpr ⟨dcl_at (hts _ q758) (hts _ q759), ?_⟩
  refine List.forall_mem_cons.mpr ⟨hts _ q758, ?_⟩
  refine List.forall_mem_cons.mpr ⟨hts _ q759, ?_⟩
  refine List.forall_mem_cons.mpr ⟨hts _ q760, ?_⟩
  refine List.forall_mem_cons.mpr ⟨hts _ q761, ?_⟩
  refine List.forall_mem_cons.mpr ⟨dcl_at (hts _ q761) (hts _ q762), ?_⟩
  refine List.forall_mem_cons.mpr ⟨hts _ q761, ?_⟩
  refine List.forall_mem_cons.mpr ⟨hts _ q762, ?_⟩
  refine List.forall_mem_cons.mpr ⟨hts _ q763, ?_⟩
  refine List.forall_mem_cons.mpr ⟨hts _ q201, ?_⟩
  refine List.forall_mem_cons.mpr ⟨dcl_at (hts _ q201) (hts _ q202), ?_⟩
  intro c hc; cases hc
theorem ch_at14 {s : State} {args : Array Value} (hts : ∀ w ∈ lw_all, w.before args s = true) : ∀ c ∈ Bundle.chain0Atoms "java/lang/IndexOutOfBoundsException" ["java/lang/RuntimeException", "java/lang/Exception"], c.before args s = true := by
  unfold Bundle.chain0Atoms Bundle.chain0Atoms Bundle.chain0Atoms Bundle.passAtoms
  refine List.forall_mem_cons.mpr ⟨hts _ q1286, ?_⟩
  refine List.forall_mem_cons.mpr ⟨hts _ q1287, ?_⟩
  refine List.forall_mem_cons.mpr ⟨hts _ q1288, ?_⟩
  refine List.forall_mem_cons.mpr ⟨hts _ q758, ?_⟩
  refine List.forall_mem_cons.mpr ⟨dcl_at (hts _ q758) (hts _ q759), ?_⟩
  refine List.forall_mem_cons.mpr ⟨hts _ q758, ?_⟩
  refine List.forall_mem_cons.mpr ⟨hts _ q759, ?_⟩
  refine List.forall_mem_cons.mpr ⟨hts _ q760, ?_⟩
  refine List.forall_mem_cons.mpr ⟨hts _ q761, ?_⟩
  refine List.forall_mem_cons.mpr ⟨dcl_at (hts _ q761) (hts _ q762), ?_⟩
  refine List.forall_mem_cons.mpr ⟨hts _ q761, ?_⟩
  refine List.forall_mem_cons.mpr ⟨hts _ q762, ?_⟩
  refine List.forall_mem_cons.mpr ⟨hts _ q763, ?_⟩
  refine List.forall_mem_cons.mpr ⟨hts _ q201, ?_⟩
  refine List.forall_mem_cons.mpr ⟨dcl_at (hts _ q201) (hts _ q202), ?_⟩
  intro c hc; cases hc
theorem cell_step {B n a ci k N : Nat} {iS : Nat → Nat} {σ : ZS} {cell : Cell} (hsl : ∀ j, j < N → cell.slots[iS j]? = some (zv B n σ a ci j)) (hap : ∀ x y, x < N → y < N → x ≠ y → iS x ≠ iS y) (hk : k < N) (hty : fty ci k = 2) (hf : pfree n a k) (r : ZR) : ∀ j, j < N → (cell.setSlot (iS k) (pv B r)).slots[iS j]? = some (zv B n (sP σ a k r) a ci j) := by
  intro j hj
  rw [t_set (V := zv B n σ a ci) hsl hap hk _ j hj]
  unfold updV
  by_cases h : j = k
  · subst h
    rw [if_pos rfl]
    unfold zv
    rw [hty]
    simp [kP_sP σ hf]
  · rw [if_neg h]
    unfold zv
    rw [kP_sP σ hf, if_neg (fun q => h q.2)]
    rfl
section ZX
variable {C : ZC} {E : ZE} {cc : ByteArray} {n nL pc d : Nat} {own nm : String} {ret : Option FieldType} {hh : List (Nat × Nat × Nat × Nat)} {σ : ZS} {L : List (Option Value)} {st : List Value}
set_option maxHeartbeats 4000000 in
theorem z_excG {ci : Nat} {Cn : String} {T : u_T} {ty : Nat → FieldType} (cf : CF ci Cn T 6 ty) (hC : Cx C E cc nL own nm ret hh d) {idx ic : Nat} (hd : decode cc pc = .ok (.new idx, 3)) (hd1 : decode cc (pc + 3) = .ok (.dup, 1)) (hd2 : decode cc (pc + 4) = .ok (.invokespecial ic, 3)) (hcl : Cond.classLink own idx Cn ∈ lw_all) (hinst : Cond.instantiable Cn 6 ∈ lw_all) (hini : Cond.initialized Cn ∈ lw_all) (hdef : ∀ k, k < 6 → defaultValue (ty k) = (match fty ci k with | 0 => Value.int 0 | 1 => .long 0 | _ => .null))
    (hlk : Cond.methodLink own ic (Bundle.init0 Cn) ∈ lw_all) (hfit : Bundle.fit Cn = true) (hch : ∀ (s : State) (args : Array Value), (∀ w ∈ lw_all, w.before args s = true) → ∀ c ∈ Bundle.chain0Atoms Cn ["java/lang/RuntimeException", "java/lang/Exception"], c.before args s = true)
    (hs0 : Cond.selects Cn Bundle.tFill0 Bundle.tFill0 ∈ lw_all) (hsF : Cond.selects Cn Bundle.tFill Bundle.tFill ∈ lw_all) (hy0 : Cond.lays Cn Bundle.tN "cause" "Ljava/lang/Throwable;" ∈ lw_all) (hy1 : Cond.lays Cn Bundle.tN "stackTrace" Bundle.steD ∈ lw_all) (hy2 : Cond.lays Cn Bundle.tN "suppressedExceptions" Bundle.listD ∈ lw_all) (hy4 : Cond.lays Cn Bundle.tN "backtrace" "Ljava/lang/Object;" ∈ lw_all)
    (hT0 : T 0 = (Bundle.tN, "cause", "Ljava/lang/Throwable;", false)) (hT1 : T 1 = (Bundle.tN, "stackTrace", Bundle.steD, false)) (hT2 : T 2 = (Bundle.tN, "suppressedExceptions", Bundle.listD, false)) (hty : ∀ k, k < 5 → fty ci k = 2)
    (hn : n ≤ zt σ) (h1 : zt σ + 1 ≤ NB) (h2 : zn σ + 6 ≤ SB) (hdd : 6 ≤ d) (hW8 : (st.map fun v => v.category).sum ≤ 8)
    (k : ∀ σ1, exc (sA σ (ci + 7, 0) 6) (zt σ) σ1 → zz C E n nL σ1 (pc + 7) L (.ref (E.1.heap.size + zt σ) :: st)) : zz C E n nL σ pc L st := by
  have hC' := hC
  obtain ⟨p, l, e, R, s, m, args, below, meth, c, Qo⟩ := C
  intro H locs cells slots ls hR hlc hL
  refine W.exact fun hz hs => ?_
  obtain ⟨w1, w2⟩ := zroom hC' hR hz hs h1 h2
  obtain ⟨hx, hb, hml, hown, hts, hW, -, -, -, -, hE, hB, -, -, hfr, hlo, hfl⟩ := hC
  have cf0 := cf
  obtain ⟨c1, c2, c3, c4, c5, c6⟩ := cf
  have hsz := hR.2.1
  have hKn := (zK_at hE hW).1 ci _ c1
  have hap := va_apart (own := own) hts c3 ty c4 c5 (zK_at hE hW) c1
  obtain ⟨cI, kI, i1, i2, i3, i4⟩ := Cond.instantiable_spec (hts _ hinst)
  refine W.newcK hx hb hown (hts _ hcl) (hts _ hinst) (hts _ hini) rfl hd w1 w2 hKn.2.1 hsz fun H1 kC hkC e1 z1 o1 => ?_
  rw [← hsz] at e1 z1 o1
  have hkk : kI = kC := by
    have h3 : cI = E.2.1.1 ci := Option.some.inj (i1.symm.trans hKn.2.1)
    subst h3
    exact Option.some.inj (i2.symm.trans hkC)
  subst hkk
  have hR1 : Rl E n (sA σ (ci + 7, 0) 6) H1 := by
    refine Rl_push hn hR h1 h2 e1 z1 o1 ?_ ?_
    · show (kI.instanceTypes.map defaultValue).size = 6
      rw [Array.size_map]
      exact i4.2.2
    · rw [ent_o (ci := ci) (len := 0) (by rw [kK_sA σ _ _ _ hn, if_pos rfl]), ← hsz]
      refine ⟨_, c1, (u_born ty hts c3 hKn hkC e1 c4).to fun j hj => ?_⟩
      have hj : j < 6 := hj
      rw [vV (by rw [c2]; exact hj), hdef j hj]
      unfold zv
      rw [zI_sA, zJ_sA, kP_sA σ _ _ _ _ hn, if_pos rfl, if_pos rfl, if_pos rfl]
      rfl
  refine lv_dup hx hb hd1 rfl ?_
  intro U hU X
  have a' : ∀ w, w ∈ lw_all → w.holds args s none s [] = true := fun w hw => hts w hw
  have hold : oldc E s := by
    intro q x hq
    have hlt : q < E.1.heap.size := (Array.getElem?_eq_some_iff.mp hq).1
    obtain ⟨c0, hc0⟩ : ∃ c0, s.heap[q]? = some c0 := ⟨_, Array.getElem?_eq_getElem (Nat.lt_of_lt_of_le hlt hB)⟩
    obtain ⟨c', y1, y2, y3, -⟩ := X.same.2.2.2.2.2 q c0 hc0
    have y1' : H1[q]? = some c' := by rw [← hU]; exact y1
    rw [hR1.2.2.1 q hlt, hq] at y1'
    cases y1'
    exact ⟨c0, hc0, by rw [y2], by rw [y2], y3.symm⟩
  have htr : e.platform.stackTraces = false := by rw [X.admits.platform]; exact hfl
  have howns : e.platform.frameOwnsMonitors = true := by rw [X.admits.platform]
  have hfin : e.platform.finalization = false := by rw [X.admits.platform]
  have hpl : e.platform.magicAccessors = ({} : Platform).magicAccessors := by rw [X.admits.platform]
  obtain ⟨Tc, Z, Lk, LZ, Y⟩ := ThrowableC.of_atoms (args := args) (s := s) howns hfin hpl (thr_at hE hW hts hold)
  obtain ⟨P1, Ps, hlen, L1, hLs, hP1m, hlink1, hlink⟩ := Bundle.chain0 (args := args) (s := s) hpl Y.init0 ["java/lang/RuntimeException", "java/lang/Exception"] Cn hfit (by decide) (hch s args hts)
  have hfound : s.vm.findClass Cn = some P1.m.cls := findClass_of_methodNamed hP1m
  have hcls : E.2.1.1 ci = P1.m.cls := Option.some.inj (hKn.2.1.symm.trans hfound)
  have hkP : s.vm.classes[P1.m.cls]? = some kI := by rw [← hcls]; exact hkC
  have hord : kI.kind = .ordinary := i3
  have hsel0 : selectMethod e.platform s.vm P1.m.cls Tc.fill0 = .method Tc.fill0 := by
    obtain ⟨c2, r2, m2, q1, q2, q3, q4, -⟩ := Cond.selects_spec (a' _ hs0)
    cases Option.some.inj (q1.symm.trans hfound)
    cases Option.some.inj (q2.symm.trans (State.methodFound?_of_named Y.fill0 (by decide)))
    cases Option.some.inj (q3.symm.trans Y.fill0)
    rw [Launch.admits_selectMethod X.admits]; exact q4
  have hselF : selectMethod e.platform s.vm P1.m.cls Tc.fill = .method Tc.fill := by
    obtain ⟨c2, r2, m2, q1, q2, q3, q4, -⟩ := Cond.selects_spec (a' _ hsF)
    cases Option.some.inj (q1.symm.trans hfound)
    cases Option.some.inj (q2.symm.trans (State.methodFound?_of_named Y.fill (by decide)))
    cases Option.some.inj (q3.symm.trans Y.fill)
    rw [Launch.admits_selectMethod X.admits]; exact q4
  have hst : ∀ {fn ds : String} {i : Nat} {f : Field}, s.fieldFound? Bundle.tN fn ds = some (Tc.cT, Tc.kT, i, f) → va_Zq Bundle.tN fn ds (fun q => E.1.heap.size ≤ q) E.1 E.1.heap → ∃ (u : RefV) (r : ZR) (cell : Cell), pv E.1.heap.size r = u.v ∧ Tc.aS < E.1.heap.size ∧ U.heap[Tc.aS]? = some cell ∧ cell.vm.isStatics = true ∧ cell.slots[f.slot]? = some u.v := by
    intro fn ds i f hf hq
    rcases va_Zq.moved hW.alike hq with h | ⟨t, h⟩
    all_goals
      obtain ⟨cf, kf, fi, f', a, cell, g1, g2, g3, g4, g5, g6, g7, g8⟩ := h
      have hg := hf.symm.trans g1
      simp only [Option.some.injEq, Prod.mk.injEq] at hg
      obtain ⟨rfl, rfl, rfl, rfl⟩ := hg
      cases Option.some.inj (g4.symm.trans Lk.statics)
      have hlt := Nat.not_le.mp g8
    · exact ⟨⟨.null, rfl⟩, none, cell, rfl, hlt, by rw [hU, hR1.2.2.1 _ hlt]; exact g5, g6, g7⟩
    · exact ⟨⟨.ref t, rfl⟩, some (.inr t), cell, rfl, hlt, by rw [hU, hR1.2.2.1 _ hlt]; exact g5, g6, g7⟩
  obtain ⟨-, b0, t1, t2, t3⟩ := id hE
  obtain ⟨u0, ru, cellS, hru, hlt, hcellS, hissS, hu0⟩ := hst Y.unassigned (va_Zqof (t1 _ q205) (t1 _ (lw_all_tbl q121)) (flat_of_before _ t3 (.isRef (.static "java/lang/Throwable" "UNASSIGNED_STACK" "[Ljava/lang/StackTraceElement;")) (by decide +kernel)) (fun a ha => Nat.not_le.mpr ha))
  obtain ⟨sen, rs, cellS', hrs, -, hcellS', -, hsen⟩ := hst Y.sentinel (va_Zqof (t1 _ q207) (t1 _ (lw_all_tbl q121)) (flat_of_before _ t3 (.isRef (.static "java/lang/Throwable" "SUPPRESSED_SENTINEL" "Ljava/util/List;")) (by decide +kernel)) (fun a ha => Nat.not_le.mpr ha))
  cases Option.some.inj (hcellS.symm.trans hcellS')
  have hneS : Tc.aS ≠ E.1.heap.size + zt σ := Nat.ne_of_lt (Nat.lt_of_lt_of_le hlt (Nat.le_add_right _ _))
  have hknownS : cellS.vm ≠ .unknown := by
    intro hu
    rw [hu] at hissS
    cases hissS
  have hcell : U.heap[E.1.heap.size + zt σ]? = some (freshCell P1.m.cls kI) := by
    rw [hU, ← hsz, e1, hcls]; rfl
  obtain ⟨ci198, i198, fB, hk198, hg198, ha198, hsB, -, hnB, htB, hffB⟩ := Cond.ownField (t := .object "java/lang/Object") Y.found Lk.cls (by decide +kernel) (a' _ q454) (a' _ q198) e.platform hpl
  obtain ⟨tyC, dC, hdC, hdnC⟩ := Cond.laysAt hfound hkP Y.cause (a' _ hy0)
  obtain ⟨tyS, dS, hdS, hdnS⟩ := Cond.laysAt hfound hkP Y.stack (a' _ hy1)
  obtain ⟨tyP, dP, hdP, hdnP⟩ := Cond.laysAt hfound hkP Y.supp (a' _ hy2)
  obtain ⟨tyB, dB, hdB, hdnB⟩ := Cond.laysAt hfound hkP hffB (a' _ hy4)
  have bC := Cond.laysApart hdB hdC hdnB hdnC (by rw [hnB, Y.causeName]; decide)
  have bS := Cond.laysApart hdB hdS hdnB hdnS (by rw [hnB, Y.stackName]; decide)
  have bP := Cond.laysApart hdB hdP hdnB hdnP (by rw [hnB, Y.suppName]; decide)
  have hskip : SkipFacts Tc e.platform s (fun u => u) u0 ((preparedCellV Tc.toThrowableT (freshCell P1.m.cls kI) (E.1.heap.size + zt σ) u0 sen).withEntry U.cur) :=
    ⟨{ ci198 := ci198, i198 := i198, fBack := fB }, ⟨hk198, hg198, ha198, hsB⟩, by
      have := fresh_default (c := P1.m.cls) tyB
      rw [htB] at this
      simpa [preparedCellV, Cell.setSlot, Cell.withEntry, Array.getElem?_setIfInBounds, bC, bS, bP, bC.symm, bS.symm, bP.symm, defaultValue] using this, fun _ _ => rfl⟩
  obtain ⟨tm, methC, cdC, kC', vm₁, hnC, -, -, -, -, -, -, -, hW₁, st1⟩ := Steps.initCold (tb := p.tables) (e := e) (below := below) (s := s) (U := U) X.here hx X.warmed hpl hown (t := Bundle.init0 Cn) rfl rfl (Bundle.fit_spec hfit).2
    (hts _ hlk) (hch s args hts (.instanceMethod (Bundle.init0 Cn)) (by simp [Bundle.chain0Atoms, Bundle.passAtoms])) (bytes := Bundle.five) (maxL := 1) (hch s args hts (.code (Bundle.init0 Cn) Bundle.five 1 none) (by simp [Bundle.chain0Atoms, Bundle.passAtoms]))
    (f := F0 m (pc + 4) ls (.ref (E.1.heap.size + zt σ) :: .ref (E.1.heap.size + zt σ) :: st)) rfl (a := E.1.heap.size + zt σ) (rest := .ref (E.1.heap.size + zt σ) :: st) rfl (by rw [hb]; exact hd2)
  cases Option.some.inj (hnC.symm.trans hP1m)
  have X₁ := X.noted hW₁
  obtain ⟨vm₂, X₂, st2⟩ := X₁.ctorPlainOffV hx (g := F0 m (pc + 4) ls (.ref (E.1.heap.size + zt σ) :: st)) rfl (by rw [hml]; exact hL.1) Tc Lk Z LZ (P1 :: Ps)
    (fun P hP => by rcases List.mem_cons.mp hP with rfl | hP; exact L1; exact hLs P hP) ⟨hlink1, hlink⟩ (u0 := u0) (sen := sen) (self := E.1.heap.size + zt σ) (cell := freshCell P1.m.cls kI) (cellS := cellS)
    hcell (fun _ => by simp) (by simp) rfl rfl hsel0 hselF hcellS hneS hknownS hu0 hsen
    (Takes.of_laid hkP hord tyC (by rw [Y.causeType]; rfl)) (Takes.of_laid hkP hord tyS (by rw [Y.stackType]; exact fits_refV_array _ u0)) (Takes.of_laid hkP hord tyP (by rw [Y.suppType]; exact fits_refV_object _ sen)) Y.objLocals hskip htr [] (by rw [hb]; exact hd2)
    (by simp only [List.length_cons, hlen]; show 2 + 1 + 2 < R.frames; omega) (by simp only [List.length_cons, hlen]; show 2 * 0 + (1 + (st.map fun v => v.category).sum) + (13 * (2 + 1) + 41) ≤ R.locals; omega)
  have hfs : ∀ {j : Nat} {fn ds : String} {c : Nat} {kk : Class} {i : Nat} {f : Field}, j < 6 → T j = (Bundle.tN, fn, ds, false) → s.fieldFound? Bundle.tN fn ds = some (c, kk, i, f) → f.slot = E.2.1.2 ci j := by
    intro j fn ds c kk i f hj hT hf
    obtain ⟨cf2, kf, fi, f2, hi, hsl⟩ := hKn.1 j hj
    have hi : s.fieldFound? (T j).1 (T j).2.1 (T j).2.2.1 = some (cf2, kf, fi, f2) := hi
    rw [hT] at hi
    have := hf.symm.trans hi
    simp only [Option.some.injEq, Prod.mk.injEq] at this
    rw [this.2.2.2]; exact hsl
  have s0 := hfs (by decide) hT0 Y.cause
  have s1 := hfs (by decide) hT1 Y.stack
  have s2 := hfs (by decide) hT2 Y.supp
  have hpf : ∀ j, pfree n (zt σ) j := fun j h => absurd h (Nat.not_lt.mpr hn)
  have hc0 : ∀ j, j < 6 → (freshCell P1.m.cls kI).slots[E.2.1.2 ci j]? = some (zv E.1.heap.size n (sA σ (ci + 7, 0) 6) (zt σ) ci j) := by
    have := hR1.1 (zt σ) (by rw [zt_sA]; omega)
    rw [ent_o (ci := ci) (len := 0) (by rw [kK_sA σ _ _ _ hn, if_pos rfl])] at this
    obtain ⟨r, g1, cell, q1, q2, q3, q4⟩ := this
    have hr : r = (Cn, T, 6) := Option.some.inj (g1.symm.trans c1)
    subst hr
    have q1 : H1[E.1.heap.size + zt σ]? = some cell := q1
    rw [← hU, hcell] at q1
    cases q1
    intro j hj
    have := q4 j hj
    rwa [vV (by rw [c2]; exact hj)] at this
  have hc1 := cell_step hc0 hap (k := 0) (by decide) (hty 0 (by decide)) (hpf 0) (some (.inl (zt σ)))
  have hc2 := cell_step hc1 hap (k := 1) (by decide) (hty 1 (by decide)) (hpf 1) ru
  have hc3 := cell_step hc2 hap (k := 2) (by decide) (hty 2 (by decide)) (hpf 2) rs
  have hc4 := cell_step hc3 hap (k := 1) (by decide) (hty 1 (by decide)) (hpf 1) ru
  rw [hru, hrs] at hc4
  rw [← s0, ← s1, ← s2] at hc4
  have hltU : E.1.heap.size + zt σ < U.heap.size := (Array.getElem?_eq_some_iff.mp hcell).1
  have hget := heapAt_setCell_self (s := (U.setVm vm₁).setVm vm₂) ((preparedCellV Tc.toThrowableT (freshCell P1.m.cls kI) (E.1.heap.size + zt σ) u0 sen).setSlot Tc.fStack.slot u0.v) hltU
  have hsz2 : (((U.setVm vm₁).setVm vm₂).setCell (E.1.heap.size + zt σ) ((preparedCellV Tc.toThrowableT (freshCell P1.m.cls kI) (E.1.heap.size + zt σ) u0 sen).setSlot Tc.fStack.slot u0.v)).heap.size = H1.size := by
    rw [← hU]
    show (U.heap.setIfInBounds _ _).size = _
    rw [Array.size_setIfInBounds]
  have hoth : ∀ q : Nat, q ≠ E.1.heap.size + zt σ → (((U.setVm vm₁).setVm vm₂).setCell (E.1.heap.size + zt σ) ((preparedCellV Tc.toThrowableT (freshCell P1.m.cls kI) (E.1.heap.size + zt σ) u0 sen).setSlot Tc.fStack.slot u0.v)).heap[q]? = H1[q]? := by
    intro q hq
    rw [← hU]
    show (U.heap.setIfInBounds _ _)[q]? = _
    rw [Array.getElem?_setIfInBounds, if_neg (fun h => hq h.symm)]
  have hR2 : Rl E n (sP (sP (sP (sP (sA σ (ci + 7, 0) 6) (zt σ) 0 (some (.inl (zt σ)))) (zt σ) 1 ru) (zt σ) 2 rs) (zt σ) 1 ru) _ := Rl_upd hR1 (a := zt σ) (by rw [zt_sA]; omega) rfl rfl (fun _ => rfl)
    (fun b hb => by rw [ent_sP (hpf 1) hb, ent_sP (hpf 2) hb, ent_sP (hpf 1) hb, ent_sP (hpf 0) hb]) (by
      rw [ent_o (ci := ci) (len := 0) (by rw [kK_sP, kK_sP, kK_sP, kK_sP, kK_sA σ _ _ _ hn, if_pos rfl])]
      refine ⟨_, c1, _, hget, hcls.symm, rfl, fun j hj => ?_⟩
      have hj : j < 6 := hj
      rw [vV (by rw [c2]; exact hj)]
      exact hc4 j hj) hsz2 hoth (by
      refine hsum_congr hsz2 fun q => ?_
      by_cases h : q = E.1.heap.size + zt σ
      · subst h
        rw [hget, ← hU, hcell]
        simp [preparedCellV, Cell.setSlot]
      · rw [hoth q h])
  obtain ⟨t, k1, k2⟩ := k (sP (sP (sP (sP (sA σ (ci + 7, 0) 6) (zt σ) 0 (some (.inl (zt σ)))) (zt σ) 1 ru) (zt σ) 2 rs) (zt σ) 1 ru) ⟨rfl, rfl, fun b j hb => by rw [zP_sP, if_neg (fun h => hb h.1), zP_sP, if_neg (fun h => hb h.1), zP_sP, if_neg (fun h => hb h.1), zP_sP, if_neg (fun h => hb h.1)], rfl⟩ _ _ _ _ ls hR2 (fun q hq => by
    rcases List.mem_append.mp hq with h | h
    · exact hlc q h
    · simp only [List.mem_cons, List.not_mem_nil, or_false] at h
      rcases h with rfl | rfl | rfl | rfl <;> exact Nat.le_add_right _ _) hL _ rfl X₂
  exact ⟨t, st1 _ (fun acts => by rw [doInvoke_state]; exact st2 _ k1), k2⟩
end ZX
