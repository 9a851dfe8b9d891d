/-! THE JUDGEMENT OVER THE ABSTRACT STATE, a row an instruction (by program) -/
set_option maxRecDepth 100000
abbrev ZC : Type := Program × Launch × Env × Room × State × MethodId × Array Value × List Frame × Method × Code × (Outcome → ZS → Prop)
def Qz (E : ZE) (n : Nat) (Qo : Outcome → ZS → Prop) : Array Value → State → Outcome → State → Prop := fun _ _ o t => ∃ σ, Qo o σ ∧ Rl E n σ t.heap
def lOK (ls : Array Slot) (nL : Nat) (L : List (Option Value)) : Prop := ls.size = nL ∧ lv_wf ls ∧ ∀ (i : Nat) (v : Value), L[i]? = some (some v) → ls[i]? = some (.val v)
def zQ (E : ZE) (n : Nat) (C : ZC) : State → Prop := match C with
  | (_, _, _, _, s, _, args, below, _, _, Qo) => MX below (Qz E n Qo) args s (NB - (s.heap.size - E.1.heap.size)) (SB - hsum s.heap E.1.heap.size) (fun q => E.1.heap.size ≤ q)
def zz (C : ZC) (E : ZE) (n nL : Nat) (σ : ZS) (pc : Nat) (L : List (Option Value)) (st : List Value) : Prop := match C with
  | (p, l, e, R, s, m, args, below, meth, c, Qo) => ∀ (H : Heap) (locs : List Loc) (cells slots : Nat) (ls : Array Slot), Rl E n σ H → (∀ q ∈ locs, E.1.heap.size ≤ q.base) → lOK ls nL L →
    W p l e R s m args below meth c H locs cells slots (zQ E n (p, l, e, R, s, m, args, below, meth, c, Qo)) (F0 m pc ls st)
/-- an exception in flight -/
def zth (C : ZC) (E : ZE) (n nL : Nat) (σ : ZS) (pc : Nat) (L : List (Option Value)) (st : List Value) (x : Addr) : Prop := match C with
  | (p, l, e, R, s, m, args, below, meth, c, Qo) => ∀ (H : Heap) (locs : List Loc) (cells slots : Nat) (ls : Array Slot) (T : State), Rl E n σ H → (∀ q ∈ locs, E.1.heap.size ≤ q.base) → lOK ls nL L → T.heap = H → Stand p l e R s m args below meth c T locs cells slots →
    ∃ t, Steps p.tables e below ((T.setTop (F0 m pc ls st)).pushFrame (.throwing x)) t ∧ zQ E n (p, l, e, R, s, m, args, below, meth, c, Qo) t
/-- what holds all through a method's walk -/
def Cx (C : ZC) (E : ZE) (cc : ByteArray) (nL : Nat) (own nm : String) (ret : Option FieldType) (hh : List (Nat × Nat × Nat × Nat)) (d : Nat) : Prop := match C with
  | (p, l, _, R, s, m, args, _, meth, c, _) => p.tables.exec = Jvm.exec ∧ c.code = cc ∧ c.maxLocals = nL ∧ s.vm.findClass own = some m.cls ∧ (∀ w ∈ lw_all, w.before args s = true) ∧ E.1.WarmedH s.vm ∧ meth.locks = false ∧ meth.name = nm ∧ meth.sig.returnType = ret ∧
    c.exceptionTable.toList.map (fun h => (h.startPc, h.endPc, h.handlerPc, h.catchType)) = hh ∧ EOK E ∧ E.1.heap.size ≤ s.heap.size ∧ NB ≤ R.cells + (s.heap.size - E.1.heap.size) ∧ SB ≤ R.slots + hsum s.heap E.1.heap.size ∧ d ≤ R.frames ∧ 64 * d ≤ R.locals ∧ l.stackTraces = false
def okPrev (L : List (Option Value)) (i : Nat) : Bool := match i with
  | 0 => true
  | j + 1 => match L[j]? with
    | some (some w) => w.category == 1
    | _ => true
theorem lOK.store1 {ls : Array Slot} {nL i : Nat} {L : List (Option Value)} {v : Value} (h : lOK ls nL L) (hi : i < nL) (hc : v.category = 1) (hp : okPrev L i = true) : ∃ ls', storeLocals ls i v = some ls' ∧ lOK ls' nL (L.set i (some v)) := by
  obtain ⟨h1, h2, h3⟩ := h
  obtain ⟨ls', e1, z1, z2, z3⟩ := lv_store1 (l := []) (v := v) ⟨h1, h2, fun q hq => by cases hq⟩ hi hc
  refine ⟨ls', e1, z1, z2, fun j w hj => ?_⟩
  by_cases hji : j = i
  · subst hji
    have hl : j < L.length := by
      have := (List.getElem?_eq_some_iff.mp hj).1
      simpa using this
    rw [List.getElem?_set_self hl] at hj
    cases hj
    exact z3 (j, v) List.mem_cons_self
  · rw [List.getElem?_set_ne (Ne.symm hji)] at hj
    obtain ⟨ls2, e2, -, -, y3⟩ := lv_store1 (l := [(j, w)]) (v := v) ⟨h1, h2, fun q hq => by
      rw [List.mem_singleton.mp hq]; exact h3 j w hj⟩ hi hc
    cases e1.symm.trans e2
    refine y3 (j, w) (List.mem_cons_of_mem _ (List.mem_filter.mpr ⟨List.mem_cons_self, ?_⟩))
    have hw : ¬ (j + 1 = i ∧ w.category = 2) := by
      rintro ⟨r1, r2⟩
      subst r1
      simp [okPrev, hj, r2] at hp
    simp only [Bool.and_eq_true, Bool.not_eq_true', beq_eq_false_iff_ne, ne_eq]
    refine ⟨hji, ?_⟩
    by_cases q1 : j + 1 = i
    · have : ¬ w.category = 2 := fun q2 => hw ⟨q1, q2⟩
      simp [q1, this]
    · simp [q1]
theorem lOK.store2 {ls : Array Slot} {nL i : Nat} {L : List (Option Value)} {v : Value} (h : lOK ls nL L) (hi : i + 1 < nL) (hc : v.category = 2) (hp : okPrev L i = true) : ∃ ls', storeLocals ls i v = some ls' ∧ lOK ls' nL ((L.set i (some v)).set (i + 1) none) := by
  obtain ⟨h1, h2, h3⟩ := h
  obtain ⟨ls', e1, z1, z2, z3⟩ := lv_store2 (l := []) (v := v) ⟨h1, h2, fun q hq => by cases hq⟩ hi hc
  refine ⟨ls', e1, z1, z2, fun j w hj => ?_⟩
  have hj1 : j ≠ i + 1 := by
    intro q
    subst q
    have hl : i + 1 < L.length := by
      have := (List.getElem?_eq_some_iff.mp hj).1
      simpa using this
    rw [List.getElem?_set_self (by simpa using hl)] at hj
    cases hj
  rw [List.getElem?_set_ne (Ne.symm hj1)] at hj
  by_cases hji : j = i
  · subst hji
    have hl : j < L.length := by
      have := (List.getElem?_eq_some_iff.mp hj).1
      simpa using this
    rw [List.getElem?_set_self hl] at hj
    cases hj
    exact z3 (j, v) List.mem_cons_self
  · rw [List.getElem?_set_ne (Ne.symm hji)] at hj
    obtain ⟨ls2, e2, -, -, y3⟩ := lv_store2 (l := [(j, w)]) (v := v) ⟨h1, h2, fun q hq => by
      rw [List.mem_singleton.mp hq]; exact h3 j w hj⟩ hi hc
    cases e1.symm.trans e2
    refine y3 (j, w) (List.mem_cons_of_mem _ (List.mem_filter.mpr ⟨List.mem_cons_self, ?_⟩))
    have hw : ¬ (j + 1 = i ∧ w.category = 2) := by
      rintro ⟨r1, r2⟩
      subst r1
      simp [okPrev, hj, r2] at hp
    simp only [Bool.and_eq_true, Bool.not_eq_true', beq_eq_false_iff_ne, ne_eq]
    refine ⟨hji, hj1, ?_⟩
    by_cases q1 : j + 1 = i
    · have : ¬ w.category = 2 := fun q2 => hw ⟨q1, q2⟩
      simp [q1, this]
    · simp [q1]
theorem lOK.sub {ls : Array Slot} {nL : Nat} {L L' : List (Option Value)} (h : lOK ls nL L) (hs : ∀ (i : Nat) (v : Value), L'[i]? = some (some v) → L[i]? = some (some v)) : lOK ls nL L' := ⟨h.1, h.2.1, fun i v hv => h.2.2 i v (hs i v hv)⟩
section ZZ
variable {C : ZC} {E : ZE} {cc : ByteArray} {n nL pc d : Nat} {own nm : String} {ret : Option FieldType} {hh : List (Nat × Nat × Nat × Nat)} {σ : ZS} {L : List (Option Value)} {st : List Value}
/-- forget locals -/
def lsub : List (Option Value) → List (Option Value) → Prop
  | [], _ => True
  | none :: r, _ :: t => lsub r t
  | some v :: r, w :: t => some v = w ∧ lsub r t
  | none :: r, [] => lsub r []
  | some _ :: _, [] => False
theorem lsub.at : ∀ {L' L : List (Option Value)}, lsub L' L → ∀ (i : Nat) (v : Value), L'[i]? = some (some v) → L[i]? = some (some v)
  | [], _, _, i, v, h => by simp at h
  | none :: r, w :: t, hs, i, v, h => by
    cases i with
    | zero => simp at h
    | succ i => simpa using lsub.at (L' := r) (L := t) hs i v (by simpa using h)
  | some u :: r, w :: t, hs, i, v, h => by
    cases i with
    | zero =>
      obtain ⟨rfl, -⟩ := hs
      simpa using h
    | succ i => simpa using lsub.at (L' := r) (L := t) hs.2 i v (by simpa using h)
  | none :: r, [], hs, i, v, h => by
    cases i with
    | zero => simp at h
    | succ i => 
      have := lsub.at (L' := r) (L := []) hs i v (by simpa using h)
      simp at this
  | some _ :: _, [], hs, _, _, _ => hs.elim
theorem zz_sub {L' : List (Option Value)} (hs : lsub L' L) (k : zz C E n nL σ pc L' st) : zz C E n nL σ pc L st := by
  obtain ⟨p, l, e, R, s, m, args, below, meth, c, Qo⟩ := C
  intro H locs cells slots ls hR hl hL
  exact k H locs cells slots ls hR hl (hL.sub (hs.at))
theorem zz_at {st' : List Value} {pc' : Nat} (h : pc' = pc) (h2 : st' = st) (k : zz C E n nL σ pc L st) : zz C E n nL σ pc' L st' := by subst h; subst h2; exact k

theorem z_iconst (hC : Cx C E cc nL own nm ret hh d) {z : Int} {v : Int32} (hd : decode cc pc = .ok (.iconst z, 1)) (hv : Int32.ofInt z = v) (k : zz C E n nL σ (pc + 1) L (.int v :: st)) : zz C E n nL σ pc L (st) := by
  obtain ⟨p, l, e, R, s, m, args, below, meth, c, Qo⟩ := C
  intro H locs cells slots ls hR hl hL
  exact lv_iconst hC.1 hC.2.1 hd hv (k H locs cells slots ls hR hl hL)
theorem z_bipush (hC : Cx C E cc nL own nm ret hh d) {z : Int} {v : Int32} (hd : decode cc pc = .ok (.bipush z, 2)) (hv : (Int8.ofInt z).toInt32 = v) (k : zz C E n nL σ (pc + 2) L (.int v :: st)) : zz C E n nL σ pc L (st) := by
  obtain ⟨p, l, e, R, s, m, args, below, meth, c, Qo⟩ := C
  intro H locs cells slots ls hR hl hL
  exact lv_bipush hC.1 hC.2.1 hd hv (k H locs cells slots ls hR hl hL)
theorem z_sipush (hC : Cx C E cc nL own nm ret hh d) {z : Int} {v : Int32} (hd : decode cc pc = .ok (.sipush z, 3)) (hv : (Int16.ofInt z).toInt32 = v) (k : zz C E n nL σ (pc + 3) L (.int v :: st)) : zz C E n nL σ pc L (st) := by
  obtain ⟨p, l, e, R, s, m, args, below, meth, c, Qo⟩ := C
  intro H locs cells slots ls hR hl hL
  exact lv_sipush hC.1 hC.2.1 hd hv (k H locs cells slots ls hR hl hL)
theorem z_lconst (hC : Cx C E cc nL own nm ret hh d) {z : Fin 2} {v : Int64} (hd : decode cc pc = .ok (.lconst z, 1)) (hv : Int64.ofNat (z : Nat) = v) (k : zz C E n nL σ (pc + 1) L (.long v :: st)) : zz C E n nL σ pc L (st) := by
  obtain ⟨p, l, e, R, s, m, args, below, meth, c, Qo⟩ := C
  intro H locs cells slots ls hR hl hL
  exact lv_lconst hC.1 hC.2.1 hd hv (k H locs cells slots ls hR hl hL)
theorem z_null (hC : Cx C E cc nL own nm ret hh d) (hd : decode cc pc = .ok (.aconst_null, 1)) (k : zz C E n nL σ (pc + 1) L (.null :: st)) : zz C E n nL σ pc L (st) := by
  obtain ⟨p, l, e, R, s, m, args, below, meth, c, Qo⟩ := C
  intro H locs cells slots ls hR hl hL
  exact lv_null hC.1 hC.2.1 hd (k H locs cells slots ls hR hl hL)
theorem z_ldc (hC : Cx C E cc nL own nm ret hh d) {idx : Nat} {v : Int32} (hd : decode cc pc = .ok (.ldc idx, 2)) (hw : Cond.constant own idx v ∈ lw_all) (k : zz C E n nL σ (pc + 2) L (.int v :: st)) : zz C E n nL σ pc L st := by
  obtain ⟨p, l, e, R, s, m, args, below, meth, c, Qo⟩ := C
  intro H locs cells slots ls hR hl hL
  exact lv_ldc hC.1 hC.2.1 hC.2.2.2.1 (hC.2.2.2.2.1 _ hw) hd (k H locs cells slots ls hR hl hL)
theorem z_ldcw (hC : Cx C E cc nL own nm ret hh d) {idx : Nat} {v : Int32} (hd : decode cc pc = .ok (.ldc_w idx, 3)) (hw : Cond.constant own idx v ∈ lw_all) (k : zz C E n nL σ (pc + 3) L (.int v :: st)) : zz C E n nL σ pc L st := by
  obtain ⟨p, l, e, R, s, m, args, below, meth, c, Qo⟩ := C
  intro H locs cells slots ls hR hl hL
  exact lv_ldcw hC.1 hC.2.1 hC.2.2.2.1 (hC.2.2.2.2.1 _ hw) hd (k H locs cells slots ls hR hl hL)
theorem z_ldc2 (hC : Cx C E cc nL own nm ret hh d) {idx : Nat} {v : Int64} (hd : decode cc pc = .ok (.ldc2_w idx, 3)) (hw : Cond.constantLong own idx v ∈ lw_all) (k : zz C E n nL σ (pc + 3) L (.long v :: st)) : zz C E n nL σ pc L st := by
  obtain ⟨p, l, e, R, s, m, args, below, meth, c, Qo⟩ := C
  intro H locs cells slots ls hR hl hL
  exact lv_ldc2 hC.1 hC.2.1 hC.2.2.2.1 (hC.2.2.2.2.1 _ hw) hd (k H locs cells slots ls hR hl hL)
theorem z_iload_n (hC : Cx C E cc nL own nm ret hh d) {j : Fin 4} {i : Nat} {x : Int32} (hd : decode cc pc = .ok (.iload_n j, 1)) (hi : (j : Nat) = i) (hx : L[i]? = some (some (.int x))) (k : zz C E n nL σ (pc + 1) L (.int x :: st)) : zz C E n nL σ pc L st := by
  obtain ⟨p, l, e, R, s, m, args, below, meth, c, Qo⟩ := C
  intro H locs cells slots ls hR hl hL
  exact lv_iload_n hC.1 hC.2.1 hd hi (hL.2.2 _ _ hx) (k H locs cells slots ls hR hl hL)
theorem z_iload (hC : Cx C E cc nL own nm ret hh d) {i : Nat} {x : Int32} (hd : decode cc pc = .ok (.iload i, 2)) (hx : L[i]? = some (some (.int x))) (k : zz C E n nL σ (pc + 2) L (.int x :: st)) : zz C E n nL σ pc L st := by
  obtain ⟨p, l, e, R, s, m, args, below, meth, c, Qo⟩ := C
  intro H locs cells slots ls hR hl hL
  exact lv_iload hC.1 hC.2.1 hd (hL.2.2 _ _ hx) (k H locs cells slots ls hR hl hL)
theorem z_lload_n (hC : Cx C E cc nL own nm ret hh d) {j : Fin 4} {i : Nat} {x : Int64} (hd : decode cc pc = .ok (.lload_n j, 1)) (hi : (j : Nat) = i) (hx : L[i]? = some (some (.long x))) (k : zz C E n nL σ (pc + 1) L (.long x :: st)) : zz C E n nL σ pc L st := by
  obtain ⟨p, l, e, R, s, m, args, below, meth, c, Qo⟩ := C
  intro H locs cells slots ls hR hl hL
  exact lv_lload_n hC.1 hC.2.1 hd hi (hL.2.2 _ _ hx) (k H locs cells slots ls hR hl hL)
theorem z_lload (hC : Cx C E cc nL own nm ret hh d) {i : Nat} {x : Int64} (hd : decode cc pc = .ok (.lload i, 2)) (hx : L[i]? = some (some (.long x))) (k : zz C E n nL σ (pc + 2) L (.long x :: st)) : zz C E n nL σ pc L st := by
  obtain ⟨p, l, e, R, s, m, args, below, meth, c, Qo⟩ := C
  intro H locs cells slots ls hR hl hL
  exact lv_lload hC.1 hC.2.1 hd (hL.2.2 _ _ hx) (k H locs cells slots ls hR hl hL)
theorem z_aload_n (hC : Cx C E cc nL own nm ret hh d) {j : Fin 4} {i : Nat} {x : Nat} (hd : decode cc pc = .ok (.aload_n j, 1)) (hi : (j : Nat) = i) (hx : L[i]? = some (some (.ref x))) (k : zz C E n nL σ (pc + 1) L (.ref x :: st)) : zz C E n nL σ pc L st := by
  obtain ⟨p, l, e, R, s, m, args, below, meth, c, Qo⟩ := C
  intro H locs cells slots ls hR hl hL
  exact lv_aload_n hC.1 hC.2.1 hd hi (hL.2.2 _ _ hx) (k H locs cells slots ls hR hl hL)
theorem z_aload (hC : Cx C E cc nL own nm ret hh d) {i : Nat} {x : Nat} (hd : decode cc pc = .ok (.aload i, 2)) (hx : L[i]? = some (some (.ref x))) (k : zz C E n nL σ (pc + 2) L (.ref x :: st)) : zz C E n nL σ pc L st := by
  obtain ⟨p, l, e, R, s, m, args, below, meth, c, Qo⟩ := C
  intro H locs cells slots ls hR hl hL
  exact lv_aload hC.1 hC.2.1 hd (hL.2.2 _ _ hx) (k H locs cells slots ls hR hl hL)
theorem z_istore_n (hC : Cx C E cc nL own nm ret hh d) {j : Fin 4} {i : Nat} {x : Int32} (hd : decode cc pc = .ok (.istore_n j, 1)) (hi : (j : Nat) = i) (hn : i < nL) (hp : okPrev L i = true) {L' : List (Option Value)} (hL' : (L.set i (some (.int x))) = L') (k : zz C E n nL σ (pc + 1) L' st) : zz C E n nL σ pc L (.int x :: st) := by
  subst hL'
  subst hi
  obtain ⟨p, l, e, R, s, m, args, below, meth, c, Qo⟩ := C
  intro H locs cells slots ls hR hl hL
  obtain ⟨ls', e', h'⟩ := hL.store1 (v := .int x) hn rfl hp
  obtain ⟨hexec, hb, -⟩ := hC
  intro T hT X
  obtain ⟨t, a, b⟩ := k H locs cells slots ls' hR hl h' T hT X
  refine ⟨t, ?_, b⟩
  jvm_step X.here [X.here.top, ↓top_set X.here.top, hexec, hb, hd, e']
  first | exact a | exact ⟨rfl, a⟩
theorem z_istore (hC : Cx C E cc nL own nm ret hh d) {i : Nat} {x : Int32} (hd : decode cc pc = .ok (.istore i, 2)) (hn : i < nL) (hp : okPrev L i = true) {L' : List (Option Value)} (hL' : (L.set i (some (.int x))) = L') (k : zz C E n nL σ (pc + 2) L' st) : zz C E n nL σ pc L (.int x :: st) := by
  subst hL'
  obtain ⟨p, l, e, R, s, m, args, below, meth, c, Qo⟩ := C
  intro H locs cells slots ls hR hl hL
  obtain ⟨ls', e', h'⟩ := hL.store1 (v := .int x) hn rfl hp
  obtain ⟨hexec, hb, -⟩ := hC
  intro T hT X
  obtain ⟨t, a, b⟩ := k H locs cells slots ls' hR hl h' T hT X
  refine ⟨t, ?_, b⟩
  jvm_step X.here [X.here.top, ↓top_set X.here.top, hexec, hb, hd, e']
  first | exact a | exact ⟨rfl, a⟩
theorem z_astore_n (hC : Cx C E cc nL own nm ret hh d) {j : Fin 4} {i : Nat} {x : Nat} (hd : decode cc pc = .ok (.astore_n j, 1)) (hi : (j : Nat) = i) (hn : i < nL) (hp : okPrev L i = true) {L' : List (Option Value)} (hL' : (L.set i (some (.ref x))) = L') (k : zz C E n nL σ (pc + 1) L' st) : zz C E n nL σ pc L (.ref x :: st) := by
  subst hL'
  subst hi
  obtain ⟨p, l, e, R, s, m, args, below, meth, c, Qo⟩ := C
  intro H locs cells slots ls hR hl hL
  obtain ⟨ls', e', h'⟩ := hL.store1 (v := .ref x) hn rfl hp
  obtain ⟨hexec, hb, -⟩ := hC
  intro T hT X
  obtain ⟨t, a, b⟩ := k H locs cells slots ls' hR hl h' T hT X
  refine ⟨t, ?_, b⟩
  jvm_step X.here [X.here.top, ↓top_set X.here.top, hexec, hb, hd, e']
  first | exact a | exact ⟨rfl, a⟩
theorem z_astore (hC : Cx C E cc nL own nm ret hh d) {i : Nat} {x : Nat} (hd : decode cc pc = .ok (.astore i, 2)) (hn : i < nL) (hp : okPrev L i = true) {L' : List (Option Value)} (hL' : (L.set i (some (.ref x))) = L') (k : zz C E n nL σ (pc + 2) L' st) : zz C E n nL σ pc L (.ref x :: st) := by
  subst hL'
  obtain ⟨p, l, e, R, s, m, args, below, meth, c, Qo⟩ := C
  intro H locs cells slots ls hR hl hL
  obtain ⟨ls', e', h'⟩ := hL.store1 (v := .ref x) hn rfl hp
  obtain ⟨hexec, hb, -⟩ := hC
  intro T hT X
  obtain ⟨t, a, b⟩ := k H locs cells slots ls' hR hl h' T hT X
  refine ⟨t, ?_, b⟩
  jvm_step X.here [X.here.top, ↓top_set X.here.top, hexec, hb, hd, e']
  first | exact a | exact ⟨rfl, a⟩
theorem z_lstore_n (hC : Cx C E cc nL own nm ret hh d) {j : Fin 4} {i : Nat} {x : Int64} (hd : decode cc pc = .ok (.lstore_n j, 1)) (hi : (j : Nat) = i) (hn : i + 1 < nL) (hp : okPrev L i = true) {L' : List (Option Value)} (hL' : ((L.set i (some (.long x))).set (i + 1) none) = L') (k : zz C E n nL σ (pc + 1) L' st) : zz C E n nL σ pc L (.long x :: st) := by
  subst hL'
  subst hi
  obtain ⟨p, l, e, R, s, m, args, below, meth, c, Qo⟩ := C
  intro H locs cells slots ls hR hl hL
  obtain ⟨ls', e', h'⟩ := hL.store2 (v := .long x) hn rfl hp
  obtain ⟨hexec, hb, -⟩ := hC
  intro T hT X
  obtain ⟨t, a, b⟩ := k H locs cells slots ls' hR hl h' T hT X
  refine ⟨t, ?_, b⟩
  jvm_step X.here [X.here.top, ↓top_set X.here.top, hexec, hb, hd, e']
  first | exact a | exact ⟨rfl, a⟩
theorem z_lstore (hC : Cx C E cc nL own nm ret hh d) {i : Nat} {x : Int64} (hd : decode cc pc = .ok (.lstore i, 2)) (hn : i + 1 < nL) (hp : okPrev L i = true) {L' : List (Option Value)} (hL' : ((L.set i (some (.long x))).set (i + 1) none) = L') (k : zz C E n nL σ (pc + 2) L' st) : zz C E n nL σ pc L (.long x :: st) := by
  subst hL'
  obtain ⟨p, l, e, R, s, m, args, below, meth, c, Qo⟩ := C
  intro H locs cells slots ls hR hl hL
  obtain ⟨ls', e', h'⟩ := hL.store2 (v := .long x) hn rfl hp
  obtain ⟨hexec, hb, -⟩ := hC
  intro T hT X
  obtain ⟨t, a, b⟩ := k H locs cells slots ls' hR hl h' T hT X
  refine ⟨t, ?_, b⟩
  jvm_step X.here [X.here.top, ↓top_set X.here.top, hexec, hb, hd, e']
  first | exact a | exact ⟨rfl, a⟩
theorem z_iinc (hC : Cx C E cc nL own nm ret hh d) {i : Nat} {z : Int} {x v : Int32} (hd : decode cc pc = .ok (.iinc i z, 3)) (hx : L[i]? = some (some (.int x))) (hv : x + Int32.ofInt z = v) (hn : i < nL) (hp : okPrev L i = true) {L' : List (Option Value)} (hL' : L.set i (some (.int v)) = L') (k : zz C E n nL σ (pc + 3) L' st) : zz C E n nL σ pc L st := by
  subst hL'
  subst hv
  obtain ⟨p, l, e, R, s, m, args, below, meth, c, Qo⟩ := C
  intro H locs cells slots ls hR hl hL
  have hg := hL.2.2 _ _ hx
  obtain ⟨ls', e', h'⟩ := hL.store1 (v := .int (x + Int32.ofInt z)) hn rfl hp
  obtain ⟨hexec, hb, -⟩ := hC
  intro T hT X
  obtain ⟨t, a, b⟩ := k H locs cells slots ls' hR hl h' T hT X
  refine ⟨t, ?_, b⟩
  jvm_step X.here [X.here.top, ↓top_set X.here.top, hexec, hb, hd, hg, e']
  exact a
theorem z_iadd (hC : Cx C E cc nL own nm ret hh d) {x y : Int32} (hd : decode cc pc = .ok (.iadd, 1)) (k : zz C E n nL σ (pc + 1) L (.int (x + y) :: st)) : zz C E n nL σ pc L (.int y :: .int x :: st) := by
  obtain ⟨p, l, e, R, s, m, args, below, meth, c, Qo⟩ := C
  intro H locs cells slots ls hR hl hL
  exact lv_iadd hC.1 hC.2.1 hd (k H locs cells slots ls hR hl hL)
theorem z_isub (hC : Cx C E cc nL own nm ret hh d) {x y : Int32} (hd : decode cc pc = .ok (.isub, 1)) (k : zz C E n nL σ (pc + 1) L (.int (x - y) :: st)) : zz C E n nL σ pc L (.int y :: .int x :: st) := by
  obtain ⟨p, l, e, R, s, m, args, below, meth, c, Qo⟩ := C
  intro H locs cells slots ls hR hl hL
  exact lv_isub hC.1 hC.2.1 hd (k H locs cells slots ls hR hl hL)
theorem z_imul (hC : Cx C E cc nL own nm ret hh d) {x y : Int32} (hd : decode cc pc = .ok (.imul, 1)) (k : zz C E n nL σ (pc + 1) L (.int (x * y) :: st)) : zz C E n nL σ pc L (.int y :: .int x :: st) := by
  obtain ⟨p, l, e, R, s, m, args, below, meth, c, Qo⟩ := C
  intro H locs cells slots ls hR hl hL
  exact lv_imul hC.1 hC.2.1 hd (k H locs cells slots ls hR hl hL)
theorem z_iand (hC : Cx C E cc nL own nm ret hh d) {x y : Int32} (hd : decode cc pc = .ok (.iand, 1)) (k : zz C E n nL σ (pc + 1) L (.int (x &&& y) :: st)) : zz C E n nL σ pc L (.int y :: .int x :: st) := by
  obtain ⟨p, l, e, R, s, m, args, below, meth, c, Qo⟩ := C
  intro H locs cells slots ls hR hl hL
  exact lv_iand hC.1 hC.2.1 hd (k H locs cells slots ls hR hl hL)
theorem z_ior (hC : Cx C E cc nL own nm ret hh d) {x y : Int32} (hd : decode cc pc = .ok (.ior, 1)) (k : zz C E n nL σ (pc + 1) L (.int (x ||| y) :: st)) : zz C E n nL σ pc L (.int y :: .int x :: st) := by
  obtain ⟨p, l, e, R, s, m, args, below, meth, c, Qo⟩ := C
  intro H locs cells slots ls hR hl hL
  exact lv_ior hC.1 hC.2.1 hd (k H locs cells slots ls hR hl hL)
theorem z_ixor (hC : Cx C E cc nL own nm ret hh d) {x y : Int32} (hd : decode cc pc = .ok (.ixor, 1)) (k : zz C E n nL σ (pc + 1) L (.int (x ^^^ y) :: st)) : zz C E n nL σ pc L (.int y :: .int x :: st) := by
  obtain ⟨p, l, e, R, s, m, args, below, meth, c, Qo⟩ := C
  intro H locs cells slots ls hR hl hL
  exact lv_ixor hC.1 hC.2.1 hd (k H locs cells slots ls hR hl hL)
theorem z_idiv (hC : Cx C E cc nL own nm ret hh d) {x y : Int32} (hd : decode cc pc = .ok (.idiv, 1)) (hy : ¬ y = 0) (k : zz C E n nL σ (pc + 1) L (.int (x / y) :: st)) : zz C E n nL σ pc L (.int y :: .int x :: st) := by
  obtain ⟨p, l, e, R, s, m, args, below, meth, c, Qo⟩ := C
  intro H locs cells slots ls hR hl hL
  exact lv_idiv hC.1 hC.2.1 hd hy (k H locs cells slots ls hR hl hL)
theorem z_irem (hC : Cx C E cc nL own nm ret hh d) {x y : Int32} (hd : decode cc pc = .ok (.irem, 1)) (hy : ¬ y = 0) (k : zz C E n nL σ (pc + 1) L (.int (x - x / y * y) :: st)) : zz C E n nL σ pc L (.int y :: .int x :: st) := by
  obtain ⟨p, l, e, R, s, m, args, below, meth, c, Qo⟩ := C
  intro H locs cells slots ls hR hl hL
  exact lv_irem hC.1 hC.2.1 hd hy (k H locs cells slots ls hR hl hL)
theorem z_ishl (hC : Cx C E cc nL own nm ret hh d) {x y : Int32} (hd : decode cc pc = .ok (.ishl, 1)) (k : zz C E n nL σ (pc + 1) L (.int (x <<< (y &&& 31)) :: st)) : zz C E n nL σ pc L (.int y :: .int x :: st) := by
  obtain ⟨p, l, e, R, s, m, args, below, meth, c, Qo⟩ := C
  intro H locs cells slots ls hR hl hL
  exact lv_ishl hC.1 hC.2.1 hd (k H locs cells slots ls hR hl hL)
theorem z_ishr (hC : Cx C E cc nL own nm ret hh d) {x y : Int32} (hd : decode cc pc = .ok (.ishr, 1)) (k : zz C E n nL σ (pc + 1) L (.int (x >>> (y &&& 31)) :: st)) : zz C E n nL σ pc L (.int y :: .int x :: st) := by
  obtain ⟨p, l, e, R, s, m, args, below, meth, c, Qo⟩ := C
  intro H locs cells slots ls hR hl hL
  exact lv_ishr hC.1 hC.2.1 hd (k H locs cells slots ls hR hl hL)
theorem z_ladd (hC : Cx C E cc nL own nm ret hh d) {x y : Int64} (hd : decode cc pc = .ok (.ladd, 1)) (k : zz C E n nL σ (pc + 1) L (.long (x + y) :: st)) : zz C E n nL σ pc L (.long y :: .long x :: st) := by
  obtain ⟨p, l, e, R, s, m, args, below, meth, c, Qo⟩ := C
  intro H locs cells slots ls hR hl hL
  exact lv_ladd hC.1 hC.2.1 hd (k H locs cells slots ls hR hl hL)
theorem z_lsub (hC : Cx C E cc nL own nm ret hh d) {x y : Int64} (hd : decode cc pc = .ok (.lsub, 1)) (k : zz C E n nL σ (pc + 1) L (.long (x - y) :: st)) : zz C E n nL σ pc L (.long y :: .long x :: st) := by
  obtain ⟨p, l, e, R, s, m, args, below, meth, c, Qo⟩ := C
  intro H locs cells slots ls hR hl hL
  exact lv_lsub hC.1 hC.2.1 hd (k H locs cells slots ls hR hl hL)
theorem z_land (hC : Cx C E cc nL own nm ret hh d) {x y : Int64} (hd : decode cc pc = .ok (.land, 1)) (k : zz C E n nL σ (pc + 1) L (.long (x &&& y) :: st)) : zz C E n nL σ pc L (.long y :: .long x :: st) := by
  obtain ⟨p, l, e, R, s, m, args, below, meth, c, Qo⟩ := C
  intro H locs cells slots ls hR hl hL
  exact lv_land hC.1 hC.2.1 hd (k H locs cells slots ls hR hl hL)
theorem z_lor (hC : Cx C E cc nL own nm ret hh d) {x y : Int64} (hd : decode cc pc = .ok (.lor, 1)) (k : zz C E n nL σ (pc + 1) L (.long (x ||| y) :: st)) : zz C E n nL σ pc L (.long y :: .long x :: st) := by
  obtain ⟨p, l, e, R, s, m, args, below, meth, c, Qo⟩ := C
  intro H locs cells slots ls hR hl hL
  exact lv_lor hC.1 hC.2.1 hd (k H locs cells slots ls hR hl hL)
theorem z_i2l (hC : Cx C E cc nL own nm ret hh d) {x : Int32} (hd : decode cc pc = .ok (.i2l, 1)) (k : zz C E n nL σ (pc + 1) L (.long x.toInt64 :: st)) : zz C E n nL σ pc L (.int x :: st) := by
  obtain ⟨p, l, e, R, s, m, args, below, meth, c, Qo⟩ := C
  intro H locs cells slots ls hR hl hL
  exact lv_i2l hC.1 hC.2.1 hd rfl (k H locs cells slots ls hR hl hL)
theorem z_i2b (hC : Cx C E cc nL own nm ret hh d) {x : Int32} (hd : decode cc pc = .ok (.i2b, 1)) (k : zz C E n nL σ (pc + 1) L (.int x.toInt8.toInt32 :: st)) : zz C E n nL σ pc L (.int x :: st) := by
  obtain ⟨p, l, e, R, s, m, args, below, meth, c, Qo⟩ := C
  intro H locs cells slots ls hR hl hL
  exact lv_i2b hC.1 hC.2.1 hd rfl (k H locs cells slots ls hR hl hL)
theorem z_i2c (hC : Cx C E cc nL own nm ret hh d) {x : Int32} (hd : decode cc pc = .ok (.i2c, 1)) (k : zz C E n nL σ (pc + 1) L (.int (x.toUInt32 % 65536).toInt32 :: st)) : zz C E n nL σ pc L (.int x :: st) := by
  obtain ⟨p, l, e, R, s, m, args, below, meth, c, Qo⟩ := C
  intro H locs cells slots ls hR hl hL
  exact lv_i2c hC.1 hC.2.1 hd rfl (k H locs cells slots ls hR hl hL)
theorem z_lushr (hC : Cx C E cc nL own nm ret hh d) {x : Int64} {y : Int32} (hd : decode cc pc = .ok (.lushr, 1)) (k : zz C E n nL σ (pc + 1) L (.long (x.toUInt64 >>> (y.toInt64.toUInt64 &&& Int64.toUInt64 63)).toInt64 :: st)) : zz C E n nL σ pc L (.int y :: .long x :: st) := by
  obtain ⟨p, l, e, R, s, m, args, below, meth, c, Qo⟩ := C
  intro H locs cells slots ls hR hl hL
  exact lv_lushr hC.1 hC.2.1 hd rfl (k H locs cells slots ls hR hl hL)
theorem z_lshl (hC : Cx C E cc nL own nm ret hh d) {x : Int64} {y : Int32} (hd : decode cc pc = .ok (.lshl, 1)) (k : zz C E n nL σ (pc + 1) L (.long (x <<< (y.toInt64 &&& 63)) :: st)) : zz C E n nL σ pc L (.int y :: .long x :: st) := by
  obtain ⟨p, l, e, R, s, m, args, below, meth, c, Qo⟩ := C
  intro H locs cells slots ls hR hl hL
  exact lv_lshl hC.1 hC.2.1 hd rfl (k H locs cells slots ls hR hl hL)
theorem z_lshr (hC : Cx C E cc nL own nm ret hh d) {x : Int64} {y : Int32} (hd : decode cc pc = .ok (.lshr, 1)) (k : zz C E n nL σ (pc + 1) L (.long (x >>> (y.toInt64 &&& 63)) :: st)) : zz C E n nL σ pc L (.int y :: .long x :: st) := by
  obtain ⟨p, l, e, R, s, m, args, below, meth, c, Qo⟩ := C
  intro H locs cells slots ls hR hl hL
  exact lv_lshr hC.1 hC.2.1 hd rfl (k H locs cells slots ls hR hl hL)
theorem z_lcmp (hC : Cx C E cc nL own nm ret hh d) {x y : Int64} (hd : decode cc pc = .ok (.lcmp, 1)) (k : zz C E n nL σ (pc + 1) L (.int (lg_cmp x y) :: st)) : zz C E n nL σ pc L (.long y :: .long x :: st) := by
  obtain ⟨p, l, e, R, s, m, args, below, meth, c, Qo⟩ := C
  intro H locs cells slots ls hR hl hL
  exact W.lcmp hC.1 hC.2.1 hd (k H locs cells slots ls hR hl hL)
theorem z_dup (hC : Cx C E cc nL own nm ret hh d) {u : Value} (hd : decode cc pc = .ok (.dup, 1)) (hu : u.category = 1) (k : zz C E n nL σ (pc + 1) L (u :: u :: st)) : zz C E n nL σ pc L (u :: st) := by
  obtain ⟨p, l, e, R, s, m, args, below, meth, c, Qo⟩ := C
  intro H locs cells slots ls hR hl hL
  exact lv_dup hC.1 hC.2.1 hd hu (k H locs cells slots ls hR hl hL)
theorem z_pop (hC : Cx C E cc nL own nm ret hh d) {u : Value} (hd : decode cc pc = .ok (.pop, 1)) (hu : u.category = 1) (k : zz C E n nL σ (pc + 1) L (st)) : zz C E n nL σ pc L (u :: st) := by
  obtain ⟨p, l, e, R, s, m, args, below, meth, c, Qo⟩ := C
  intro H locs cells slots ls hR hl hL
  exact lv_pop hC.1 hC.2.1 hd hu (k H locs cells slots ls hR hl hL)
theorem z_dup2 (hC : Cx C E cc nL own nm ret hh d) {u w : Value} (hd : decode cc pc = .ok (.dup2, 1)) (hu : u.category = 1) (hw : w.category = 1) (k : zz C E n nL σ (pc + 1) L (u :: w :: u :: w :: st)) : zz C E n nL σ pc L (u :: w :: st) := by
  obtain ⟨p, l, e, R, s, m, args, below, meth, c, Qo⟩ := C
  intro H locs cells slots ls hR hl hL
  exact lv_dup2_11 hC.1 hC.2.1 hd hu hw (k H locs cells slots ls hR hl hL)
theorem z_iushr (hC : Cx C E cc nL own nm ret hh d) {x y : Int32} (hd : decode cc pc = .ok (.iushr, 1)) (k : zz C E n nL σ (pc + 1) L (.int (x.toUInt32 >>> (y.toUInt32 &&& Int32.toUInt32 31)).toInt32 :: st)) : zz C E n nL σ pc L (.int y :: .int x :: st) := by
  obtain ⟨p, l, e, R, s, m, args, below, meth, c, Qo⟩ := C
  intro H locs cells slots ls hR hl hL
  exact lv_iushr hC.1 hC.2.1 hd rfl (k H locs cells slots ls hR hl hL)
theorem z_if_eq (hC : Cx C E cc nL own nm ret hh d) {x : Int32} {off : Int} {tgt : Nat} (hd : decode cc pc = .ok (.ifCond .eq off, 3)) (ht : (pc : Int) + off = (tgt : Int)) (kt : x = 0 → zz C E n nL σ tgt L st) (kf : ¬ x = 0 → zz C E n nL σ (pc + 3) L st) : zz C E n nL σ pc L (.int x :: st) := by
  obtain ⟨p, l, e, R, s, m, args, below, meth, c, Qo⟩ := C
  intro H locs cells slots ls hR hl hL
  exact lv_if_eq hC.1 hC.2.1 hd ht (fun q => kt q H locs cells slots ls hR hl hL) (fun q => kf q H locs cells slots ls hR hl hL)
theorem z_icmp_eq (hC : Cx C E cc nL own nm ret hh d) {x y : Int32} {off : Int} {tgt : Nat} (hd : decode cc pc = .ok (.if_icmp .eq off, 3)) (ht : (pc : Int) + off = (tgt : Int)) (kt : x = y → zz C E n nL σ tgt L st) (kf : ¬ x = y → zz C E n nL σ (pc + 3) L st) : zz C E n nL σ pc L (.int y :: .int x :: st) := by
  obtain ⟨p, l, e, R, s, m, args, below, meth, c, Qo⟩ := C
  intro H locs cells slots ls hR hl hL
  exact lv_icmp_eq hC.1 hC.2.1 hd ht (fun q => kt q H locs cells slots ls hR hl hL) (fun q => kf q H locs cells slots ls hR hl hL)
theorem z_if_ne (hC : Cx C E cc nL own nm ret hh d) {x : Int32} {off : Int} {tgt : Nat} (hd : decode cc pc = .ok (.ifCond .ne off, 3)) (ht : (pc : Int) + off = (tgt : Int)) (kt : ¬ x = 0 → zz C E n nL σ tgt L st) (kf : x = 0 → zz C E n nL σ (pc + 3) L st) : zz C E n nL σ pc L (.int x :: st) := by
  obtain ⟨p, l, e, R, s, m, args, below, meth, c, Qo⟩ := C
  intro H locs cells slots ls hR hl hL
  exact lv_if_ne hC.1 hC.2.1 hd ht (fun q => kt q H locs cells slots ls hR hl hL) (fun q => kf q H locs cells slots ls hR hl hL)
theorem z_icmp_ne (hC : Cx C E cc nL own nm ret hh d) {x y : Int32} {off : Int} {tgt : Nat} (hd : decode cc pc = .ok (.if_icmp .ne off, 3)) (ht : (pc : Int) + off = (tgt : Int)) (kt : ¬ x = y → zz C E n nL σ tgt L st) (kf : x = y → zz C E n nL σ (pc + 3) L st) : zz C E n nL σ pc L (.int y :: .int x :: st) := by
  obtain ⟨p, l, e, R, s, m, args, below, meth, c, Qo⟩ := C
  intro H locs cells slots ls hR hl hL
  exact lv_icmp_ne hC.1 hC.2.1 hd ht (fun q => kt q H locs cells slots ls hR hl hL) (fun q => kf q H locs cells slots ls hR hl hL)
theorem z_if_lt (hC : Cx C E cc nL own nm ret hh d) {x : Int32} {off : Int} {tgt : Nat} (hd : decode cc pc = .ok (.ifCond .lt off, 3)) (ht : (pc : Int) + off = (tgt : Int)) (kt : x < 0 → zz C E n nL σ tgt L st) (kf : ¬ x < 0 → zz C E n nL σ (pc + 3) L st) : zz C E n nL σ pc L (.int x :: st) := by
  obtain ⟨p, l, e, R, s, m, args, below, meth, c, Qo⟩ := C
  intro H locs cells slots ls hR hl hL
  exact lv_if_lt hC.1 hC.2.1 hd ht (fun q => kt q H locs cells slots ls hR hl hL) (fun q => kf q H locs cells slots ls hR hl hL)
theorem z_icmp_lt (hC : Cx C E cc nL own nm ret hh d) {x y : Int32} {off : Int} {tgt : Nat} (hd : decode cc pc = .ok (.if_icmp .lt off, 3)) (ht : (pc : Int) + off = (tgt : Int)) (kt : x < y → zz C E n nL σ tgt L st) (kf : ¬ x < y → zz C E n nL σ (pc + 3) L st) : zz C E n nL σ pc L (.int y :: .int x :: st) := by
  obtain ⟨p, l, e, R, s, m, args, below, meth, c, Qo⟩ := C
  intro H locs cells slots ls hR hl hL
  exact lv_icmp_lt hC.1 hC.2.1 hd ht (fun q => kt q H locs cells slots ls hR hl hL) (fun q => kf q H locs cells slots ls hR hl hL)
theorem z_if_ge (hC : Cx C E cc nL own nm ret hh d) {x : Int32} {off : Int} {tgt : Nat} (hd : decode cc pc = .ok (.ifCond .ge off, 3)) (ht : (pc : Int) + off = (tgt : Int)) (kt : ¬ x < 0 → zz C E n nL σ tgt L st) (kf : x < 0 → zz C E n nL σ (pc + 3) L st) : zz C E n nL σ pc L (.int x :: st) := by
  obtain ⟨p, l, e, R, s, m, args, below, meth, c, Qo⟩ := C
  intro H locs cells slots ls hR hl hL
  exact lv_if_ge hC.1 hC.2.1 hd ht (fun q => kt (Int32.not_lt.mpr q) H locs cells slots ls hR hl hL) (fun q => kf (Int32.not_le.mp q) H locs cells slots ls hR hl hL)
theorem z_icmp_ge (hC : Cx C E cc nL own nm ret hh d) {x y : Int32} {off : Int} {tgt : Nat} (hd : decode cc pc = .ok (.if_icmp .ge off, 3)) (ht : (pc : Int) + off = (tgt : Int)) (kt : ¬ x < y → zz C E n nL σ tgt L st) (kf : x < y → zz C E n nL σ (pc + 3) L st) : zz C E n nL σ pc L (.int y :: .int x :: st) := by
  obtain ⟨p, l, e, R, s, m, args, below, meth, c, Qo⟩ := C
  intro H locs cells slots ls hR hl hL
  exact lv_icmp_ge hC.1 hC.2.1 hd ht (fun q => kt (Int32.not_lt.mpr q) H locs cells slots ls hR hl hL) (fun q => kf (Int32.not_le.mp q) H locs cells slots ls hR hl hL)
theorem z_if_gt (hC : Cx C E cc nL own nm ret hh d) {x : Int32} {off : Int} {tgt : Nat} (hd : decode cc pc = .ok (.ifCond .gt off, 3)) (ht : (pc : Int) + off = (tgt : Int)) (kt : 0 < x → zz C E n nL σ tgt L st) (kf : ¬ 0 < x → zz C E n nL σ (pc + 3) L st) : zz C E n nL σ pc L (.int x :: st) := by
  obtain ⟨p, l, e, R, s, m, args, below, meth, c, Qo⟩ := C
  intro H locs cells slots ls hR hl hL
  exact lv_if_gt hC.1 hC.2.1 hd ht (fun q => kt q H locs cells slots ls hR hl hL) (fun q => kf q H locs cells slots ls hR hl hL)
theorem z_icmp_gt (hC : Cx C E cc nL own nm ret hh d) {x y : Int32} {off : Int} {tgt : Nat} (hd : decode cc pc = .ok (.if_icmp .gt off, 3)) (ht : (pc : Int) + off = (tgt : Int)) (kt : y < x → zz C E n nL σ tgt L st) (kf : ¬ y < x → zz C E n nL σ (pc + 3) L st) : zz C E n nL σ pc L (.int y :: .int x :: st) := by
  obtain ⟨p, l, e, R, s, m, args, below, meth, c, Qo⟩ := C
  intro H locs cells slots ls hR hl hL
  exact lv_icmp_gt hC.1 hC.2.1 hd ht (fun q => kt q H locs cells slots ls hR hl hL) (fun q => kf q H locs cells slots ls hR hl hL)
theorem z_if_le (hC : Cx C E cc nL own nm ret hh d) {x : Int32} {off : Int} {tgt : Nat} (hd : decode cc pc = .ok (.ifCond .le off, 3)) (ht : (pc : Int) + off = (tgt : Int)) (kt : ¬ 0 < x → zz C E n nL σ tgt L st) (kf : 0 < x → zz C E n nL σ (pc + 3) L st) : zz C E n nL σ pc L (.int x :: st) := by
  obtain ⟨p, l, e, R, s, m, args, below, meth, c, Qo⟩ := C
  intro H locs cells slots ls hR hl hL
  exact lv_if_le hC.1 hC.2.1 hd ht (fun q => kt (Int32.not_lt.mpr q) H locs cells slots ls hR hl hL) (fun q => kf (Int32.not_le.mp q) H locs cells slots ls hR hl hL)
theorem z_icmp_le (hC : Cx C E cc nL own nm ret hh d) {x y : Int32} {off : Int} {tgt : Nat} (hd : decode cc pc = .ok (.if_icmp .le off, 3)) (ht : (pc : Int) + off = (tgt : Int)) (kt : ¬ y < x → zz C E n nL σ tgt L st) (kf : y < x → zz C E n nL σ (pc + 3) L st) : zz C E n nL σ pc L (.int y :: .int x :: st) := by
  obtain ⟨p, l, e, R, s, m, args, below, meth, c, Qo⟩ := C
  intro H locs cells slots ls hR hl hL
  exact lv_icmp_le hC.1 hC.2.1 hd ht (fun q => kt (Int32.not_lt.mpr q) H locs cells slots ls hR hl hL) (fun q => kf (Int32.not_le.mp q) H locs cells slots ls hR hl hL)
theorem z_goto (hC : Cx C E cc nL own nm ret hh d) {off : Int} {tgt : Nat} (hd : decode cc pc = .ok (.goto off, 3)) (ht : (pc : Int) + off = (tgt : Int)) (k : zz C E n nL σ tgt L st) : zz C E n nL σ pc L st := by
  obtain ⟨p, l, e, R, s, m, args, below, meth, c, Qo⟩ := C
  intro H locs cells slots ls hR hl hL
  exact lv_goto hC.1 hC.2.1 hd ht (k H locs cells slots ls hR hl hL)
theorem z_ifnonnull (hC : Cx C E cc nL own nm ret hh d) {r : ZR} {off : Int} {tgt : Nat} (hd : decode cc pc = .ok (.ifnonnull off, 3)) (ht : (pc : Int) + off = (tgt : Int)) (kt : ¬ r = none → zz C E n nL σ tgt L st) (kf : r = none → zz C E n nL σ (pc + 3) L st) : zz C E n nL σ pc L (pv E.1.heap.size r :: st) := by
  obtain ⟨p, l, e, R, s, m, args, below, meth, c, Qo⟩ := C
  intro H locs cells slots ls hR hl hL
  rcases r with _ | a | q
  · exact lv_ifnonnullN hC.1 hC.2.1 hd (kf rfl H locs cells slots ls hR hl hL)
  · exact lv_ifnonnull hC.1 hC.2.1 hd ht (kt (fun h => by cases h) H locs cells slots ls hR hl hL)
  · exact lv_ifnonnull hC.1 hC.2.1 hd ht (kt (fun h => by cases h) H locs cells slots ls hR hl hL)
theorem z_tableOut (hC : Cx C E cc nL own nm ret hh d) {dflt lo hi : Int} {offs : Array Int} {len : Nat} {x : Int32} {tgt : Nat} (hd : decode cc pc = .ok (.tableswitch dflt lo hi offs, len)) (h : x.toInt < lo ∨ hi < x.toInt) (ht : (pc : Int) + dflt = (tgt : Int)) (k : zz C E n nL σ tgt L st) : zz C E n nL σ pc L (.int x :: st) := by
  obtain ⟨p, l, e, R, s, m, args, below, meth, c, Qo⟩ := C
  intro H locs cells slots ls hR hl hL
  exact lv_tableOut hC.1 hC.2.1 hd h ht (k H locs cells slots ls hR hl hL)
theorem z_tableIn (hC : Cx C E cc nL own nm ret hh d) {dflt lo hi : Int} {offs : Array Int} {len : Nat} {x : Int32} {off : Int} {tgt : Nat} (hd : decode cc pc = .ok (.tableswitch dflt lo hi offs, len)) (h1 : ¬ x.toInt < lo) (h2 : ¬ hi < x.toInt) (ho : offs[(x.toInt - lo).toNat]? = some off) (ht : (pc : Int) + off = (tgt : Int)) (k : zz C E n nL σ tgt L st) : zz C E n nL σ pc L (.int x :: st) := by
  obtain ⟨p, l, e, R, s, m, args, below, meth, c, Qo⟩ := C
  intro H locs cells slots ls hR hl hL
  exact lv_tableIn hC.1 hC.2.1 hd h1 h2 ho ht (k H locs cells slots ls hR hl hL)
theorem z_lookup (hC : Cx C E cc nL own nm ret hh d) {dflt : Int} {ps : Array (Int × Int)} {len : Nat} {x : Int32} {off : Int} {tgt : Nat} (hd : decode cc pc = .ok (.lookupswitch dflt ps, len)) (hp : (ps.toList.zip (ps.toList.drop 1)).all (fun (a, next) => a.1 < next.1) = true) (ho : Op.lookupswitch.offset ps.toList dflt x.toInt = off) (ht : (pc : Int) + off = (tgt : Int)) (k : zz C E n nL σ tgt L st) : zz C E n nL σ pc L (.int x :: st) := by
  obtain ⟨p, l, e, R, s, m, args, below, meth, c, Qo⟩ := C
  intro H locs cells slots ls hR hl hL
  exact lv_lookup hC.1 hC.2.1 hd hp ho ht (k H locs cells slots ls hR hl hL)
theorem zret {o : Outcome} (hC : Cx C E cc nL own nm ret hh d) (hq : C.2.2.2.2.2.2.2.2.2.2 o σ)
    (kk : ∀ (H : Heap) (locs : List Loc) (ls : Array Slot) (cells slots : Nat), (∀ q ∈ locs, E.1.heap.size ≤ q.base) → (∀ t : State, t.heap = H → C.2.2.2.2.1.WarmedH t.vm → Qz E n C.2.2.2.2.2.2.2.2.2.2 C.2.2.2.2.2.2.1 C.2.2.2.2.1 o t) → lOK ls nL L →
      W C.1 C.2.1 C.2.2.1 C.2.2.2.1 C.2.2.2.2.1 C.2.2.2.2.2.1 C.2.2.2.2.2.2.1 C.2.2.2.2.2.2.2.1 C.2.2.2.2.2.2.2.2.1 C.2.2.2.2.2.2.2.2.2.1 H locs cells slots (MQ C.2.2.2.2.2.2.2.1 (Qz E n C.2.2.2.2.2.2.2.2.2.2) C.2.2.2.2.2.2.1 C.2.2.2.2.1 cells slots (fun q => E.1.heap.size ≤ q)) (F0 C.2.2.2.2.2.1 pc ls st)) : zz C E n nL σ pc L st := by
  obtain ⟨p, l, e, R, s, m, args, below, meth, c, Qo⟩ := C
  intro H locs cells slots ls hR hl hL
  refine W.exact fun hz hs => ?_
  refine W.mono (mq_mx ?_ ?_) (kk H locs ls _ _ hl (fun t ht hW => ⟨σ, hq, by rw [ht]; exact hR⟩) hL)
  · obtain ⟨-, h1, -, -, h2, -, -⟩ := hR
    show H.size - s.heap.size ≤ NB - (s.heap.size - E.1.heap.size)
    have h3 : E.1.heap.size ≤ s.heap.size := hC.2.2.2.2.2.2.2.2.2.2.2.1
    omega
  · obtain ⟨-, h1, -, h4, -, h2, -⟩ := hR
    have h3 : E.1.heap.size ≤ s.heap.size := hC.2.2.2.2.2.2.2.2.2.2.2.1
    show hsum H s.heap.size ≤ SB - hsum s.heap E.1.heap.size
    have e1 := hsum_le H E.1.heap.size s.heap.size h3
    have e2 := hsum_le s.heap E.1.heap.size s.heap.size h3
    have e3 : hsum s.heap s.heap.size = 0 := by unfold hsum; rw [List.drop_eq_nil_of_le (by simp)]; rfl
    have e4 : ((H.toList.drop E.1.heap.size).take (s.heap.size - E.1.heap.size)).map (·.slots.size) = ((s.heap.toList.drop E.1.heap.size).take (s.heap.size - E.1.heap.size)).map (·.slots.size) := by
      apply List.ext_getElem?
      intro i
      simp only [List.getElem?_map, List.getElem?_take, List.getElem?_drop]
      split
      · next hi =>
        have hlt : E.1.heap.size + i < s.heap.size := by omega
        obtain ⟨x', q1, q2⟩ := hs (E.1.heap.size + i) s.heap[E.1.heap.size + i] (by simp [hlt])
        have q3 : H.toList[E.1.heap.size + i]? = some x' := by rw [Array.getElem?_toList]; exact q1
        have q4 : s.heap.toList[E.1.heap.size + i]? = some s.heap[E.1.heap.size + i] := by rw [Array.getElem?_toList]; simp [hlt]
        rw [q3, q4]
        simp [q2]
      · rfl
    rw [e4] at e1
    omega
theorem z_iret {ty : FieldType} (hC : Cx C E cc nL own nm (some ty) hh d) {x : Int32} (hd : decode cc pc = .ok (.ireturn, 1)) (hn : narrow ty (.int x) = .int x) (hq : C.2.2.2.2.2.2.2.2.2.2 (.returned (some (.int x))) σ) : zz C E n nL σ pc L [.int x] := by
  refine zret hC hq fun H locs ls cells slots h1 h2 h3 => ?_
  obtain ⟨p, l, e, R, s, m, args, below, meth, c, Qo⟩ := C
  exact W.zret hC.1 hC.2.1 hC.2.2.2.2.2.2.2.2.1 hn h2 h1 hd hC.2.2.2.2.2.2.1
theorem z_lret (hC : Cx C E cc nL own nm (some .long) hh d) {x : Int64} (hd : decode cc pc = .ok (.lreturn, 1)) (hq : C.2.2.2.2.2.2.2.2.2.2 (.returned (some (.long x))) σ) : zz C E n nL σ pc L [.long x] := by
  refine zret hC hq fun H locs ls cells slots h1 h2 h3 => ?_
  obtain ⟨p, l, e, R, s, m, args, below, meth, c, Qo⟩ := C
  exact W.lret hC.1 hC.2.1 hC.2.2.2.2.2.2.2.2.1 h2 h1 hd hC.2.2.2.2.2.2.1
theorem z_vret (hC : Cx C E cc nL own nm none hh d) (hd : decode cc pc = .ok (.return_, 1)) (hq : C.2.2.2.2.2.2.2.2.2.2 (.returned none) σ) : zz C E n nL σ pc L [] := by
  refine zret hC hq fun H locs ls cells slots h1 h2 h3 => ?_
  obtain ⟨p, l, e, R, s, m, args, below, meth, c, Qo⟩ := C
  exact W.vret hC.1 hC.2.1 hC.2.2.2.2.2.2.2.2.1 h2 h1 hd hC.2.2.2.2.2.2.1
theorem z_aret {rt : FieldType} (hC : Cx C E cc nL own nm (some rt) hh d) (hrt : (∃ n, rt = .object n) ∨ ∃ t, rt = .array t) {r : ZR} (hd : decode cc pc = .ok (.areturn, 1)) (hq : C.2.2.2.2.2.2.2.2.2.2 (.returned (some (pv E.1.heap.size r))) σ) : zz C E n nL σ pc L [pv E.1.heap.size r] := by
  refine zret hC hq fun H locs ls cells slots h1 h2 h3 => ?_
  obtain ⟨p, l, e, R, s, m, args, below, meth, c, Qo⟩ := C
  exact W.aret hC.1 hC.2.1 hC.2.2.2.2.2.2.2.2.1 hrt (by rcases r with _ | a | q; exact Or.inl rfl; exact Or.inr ⟨_, rfl⟩; exact Or.inr ⟨_, rfl⟩) h2 h1 hd hC.2.2.2.2.2.2.1
end ZZ