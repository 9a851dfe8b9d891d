/-! int[][] by multianewarray -/
set_option maxRecDepth 100000
def mA (σ : ZS) (N M : Nat) : Nat → ZS
  | 0 => sA σ (4, N) N
  | i + 1 => sP (sA (mA σ N M i) (0, M) M) (zt σ) i (some (.inl (zt σ + 1 + i)))
theorem zt_mA (σ : ZS) (N M i : Nat) : zt (mA σ N M i) = zt σ + 1 + i := by
  induction i with
  | zero => rfl
  | succ i ih => show zt (sA (mA σ N M i) (0, M) M) = _; rw [zt_sA, ih]; omega
theorem zn_mA (σ : ZS) (N M i : Nat) : zn (mA σ N M i) = zn σ + N + i * M := by
  induction i with
  | zero => show zn σ + N = _; omega
  | succ i ih => show zn (sA (mA σ N M i) (0, M) M) = _; rw [zn_sA, ih, Nat.succ_mul]; omega
theorem kK_mA0 (σ : ZS) (N M i : Nat) {n : Nat} (hn : n ≤ zt σ) : kK n (mA σ N M i) (zt σ) = (4, N) := by
  induction i with
  | zero => show kK n (sA σ (4, N) N) _ = _; rw [kK_sA σ _ _ _ hn, if_pos rfl]
  | succ i ih =>
    show kK n (sA (mA σ N M i) (0, M) M) _ = _
    rw [kK_sA _ _ _ _ (by rw [zt_mA]; omega), if_neg (by rw [zt_mA]; omega), ih]
theorem ao_int {args : Array Value} {s : State} (h : (Cond.arrayOver (.array .int)).before args s = true) :
    ∃ comp c k, s.vm.findClass ("[" ++ FieldType.toString .int) = some comp ∧ s.vm.classes[c]? = some k ∧ k.kind = .array comp (.array .int) ∧ s.vm.findClass ("[" ++ FieldType.toString (.array .int)) = some c := by
  simp only [Cond.before, Cond.holds, Cond.value, beq_iff_eq] at h
  cases hc : s.vm.findClass (FieldType.toString (.array .int)) with
  | none => simp [hc] at h
  | some comp =>
    simp only [hc, Option.bind_some, Option.bind_eq_some_iff, Option.map_eq_some_iff] at h
    obtain ⟨c, hi, k, hk, hb⟩ := h
    obtain ⟨hlt, hp, -⟩ := Array.findIdx?_eq_some_iff_getElem.mp hi
    rw [(Array.getElem?_eq_some_iff.mp hk).2] at hp
    cases hkind : k.kind with
    | array component ty =>
      rw [hkind] at hb hp
      simp at hb hp
      exact ⟨comp, c, k, hc, hk, by rw [hkind, hp, hb.1], hb.2⟩
    | _ => rw [hkind] at hb; simp at hb
/-- a new array in the middle of an op -/
theorem wp_newA {EE : CtlPost} {e : Env} {d : Bool} {acts : List Action} {s : State} {c comp : ClassId} {k : Class} {ty : FieldType} {len : Nat} {v : Value} (hk : s.vm.classes[c]? = some k) (hkind : k.kind = .array comp ty) (h1 : len ≤ e.platform.arrayLengthLimit) (h2 : len * componentBytes ty ≤ e.platform.maxHeapBytes) (hf : fits ty v = true) (hd : v.isDefault = true)
    (h3 : s.heap.size < e.platform.maxCells) (h4 : s.slotsUsed + len ≤ e.platform.maxSlots) {Q : Addr → Pre} (hq : Q s.heap.size d acts (s.pushCell { cls := c, slots := Array.replicate len v, vm := .none })) : wp (Jvm.newArray c len v) Q EE e d acts s := by
  have ha : allocActs (Array.replicate len v) s.heap.size acts = acts := by
    unfold allocActs
    rw [if_pos (by rw [Array.all_replicate]; split <;> simp [hd])]
  simp only [Jvm.newArray, Jvm.arrayFits, wp_bind', W.ask, W.ite, Nat.not_lt.mpr h1, if_false, wp_pure', W.theClass, hk, hkind, W.alloc, W.stop, Option.some.injEq, exists_eq_left', Array.size_replicate, ha, gt_iff_lt, Nat.not_lt.mpr h2]
  rw [if_neg (Nat.not_lt.mpr (by omega))]
  refine ⟨h3, h4, fun i w hw => ?_, hq⟩
  simp only [Array.getElem?_replicate] at hw
  split at hw
  · cases hw; simp [State.fitsSlot, State.slotType?, hk, hkind, hf]
  · cases hw
theorem Steps.instrP {tb : Tables} [Ours tb] {e : Env} {below : List Frame} {s : State} {f : JFrame} {c : Code} {P : State → Prop} {i : Instr} {len : Nat} (h : At s f.method c below) (hd : decode c.code f.pc = .ok (i, len))
    (hw : wpRun (tb.exec i) (fun _ s₁ _ => ∀ acts, ∃ t, Steps tb e below (afterInstr e len (.ok () s₁ acts)).1 t ∧ P t) (fun _ _ _ => False) e (s.setTop f)) : ∃ t, Steps tb e below (s.setTop f) t ∧ P t := by
  have hgo : (s.setTop f).goesOn := ⟨h.running, by rw [State.curStatus?_setTop]; exact h.runnable, by rw [State.alone_setTop]; exact h.alone⟩
  have hst := stepThread_java (tb := tb) (e := e) (State.frames_setTop' f h.top) h.plain h.code hd
  have hw := (wpRun_iff_run _ _ _ _ _).mp hw
  cases hr : (tb.exec i).run e (s.setTop f) with
  | ok a s₁ acts =>
    rw [hr] at hw
    obtain ⟨t, h1, h2⟩ := hw acts
    refine ⟨t, Steps.head hgo (h.within f) ?_, h2⟩
    rw [hst, hr]
    exact h1
  | ctl x s₁ acts => rw [hr] at hw; cases x <;> exact hw.elim
section ZM
variable {C : ZC} {E : ZE} {cc : ByteArray} {n nL pc d : Nat} {own nm : String} {ret : Option FieldType} {hh : List (Nat × Nat × Nat × Nat)} {σ : ZS} {L : List (Option Value)} {st : List Value}
theorem Rl_row {H : Heap} {N M i : Nat} (hn : n ≤ zt σ) (hi : i < N) (h1 : zt σ + 1 + N ≤ NB) (h2 : zn σ + N + N * M ≤ SB) (hR : Rl E n (mA σ N M i) H) {cell : Cell} (hc : H[E.1.heap.size + zt σ]? = some cell) {H2 : Heap}
    (hH : H2 = (H.push (arrV (E.2.2 0) M (fun _ => .int 0))).setIfInBounds (E.1.heap.size + zt σ) (cell.setSlot i (.ref H.size))) : Rl E n (mA σ N M (i + 1)) H2 := by
  have ht := zt_mA σ N M i
  have hs := zn_mA σ N M i
  have hsz := hR.2.1
  have hmul : i * M + M ≤ N * M := by
    have := Nat.mul_le_mul_right M (show i + 1 ≤ N from hi)
    rwa [Nat.succ_mul] at this
  have hR1 : Rl E n (sA (mA σ N M i) (0, M) M) (H.push (arrV (E.2.2 0) M (fun _ => .int 0))) := by
    refine Rl_push (by omega) hR (by omega) (by omega) (Array.getElem?_push_size ..) (Array.size_push ..) (fun q hq => by rw [Array.getElem?_push, if_neg (Nat.ne_of_lt hq)]) (arrV_size _ _ _) ?_
    rw [ent_0 (len := M) (by rw [kK_sA _ _ _ _ (by omega), if_pos rfl]), ← hsz]
    show (H.push _)[_]? = some (vp_cell _ _)
    rw [Array.getElem?_push_size, vp_cell_i]
    congr 2
    funext q
    rw [zI_sA, if_pos rfl]
  have hlt : E.1.heap.size + zt σ < (H.push (arrV (E.2.2 0) M (fun _ => .int 0))).size := by rw [Array.size_push, hsz, ht]; omega
  have hc1 : (H.push (arrV (E.2.2 0) M (fun _ => .int 0)))[E.1.heap.size + zt σ]? = some cell := by
    rw [Array.getElem?_push, if_neg (by rw [hsz, ht]; omega)]; exact hc
  have hk1 : kK n (sA (mA σ N M i) (0, M) M) (zt σ) = (4, N) := by rw [kK_sA _ _ _ _ (by omega), if_neg (by omega), kK_mA0 σ N M i hn]
  have hpf : pfree n (zt σ) i := fun h => absurd h (Nat.not_lt.mpr hn)
  have e1 : H2[E.1.heap.size + zt σ]? = some (cell.setSlot i (.ref H.size)) := by
    rw [hH, Array.getElem?_setIfInBounds, if_pos rfl, if_pos hlt]
  have z1 : H2.size = (H.push (arrV (E.2.2 0) M (fun _ => .int 0))).size := by rw [hH, Array.size_setIfInBounds]
  have o1 : ∀ q : Nat, q ≠ E.1.heap.size + zt σ → H2[q]? = (H.push (arrV (E.2.2 0) M (fun _ => .int 0)))[q]? := fun q hq => by
    rw [hH, Array.getElem?_setIfInBounds, if_neg (fun h => hq h.symm)]
  have hat := hR1.1 (zt σ) (by rw [zt_sA, ht]; omega)
  rw [ent_4 hk1] at hat
  have hat : (H.push (arrV (E.2.2 0) M (fun _ => .int 0)))[E.1.heap.size + zt σ]? = some (vp_cell _ _) := hat
  have hcell := Option.some.inj (hc1.symm.trans hat)
  show Rl E n (sP (sA (mA σ N M i) (0, M) M) (zt σ) i (some (.inl (zt σ + 1 + i)))) H2
  refine Rl_upd hR1 (by rw [zt_sA, ht]; omega) rfl rfl (fun _ => rfl) (fun b hb => ent_sP hpf hb) ?_ z1 o1 (hsum_set hc1 e1 z1 o1)
  rw [ent_4 (show kK n (sP (sA (mA σ N M i) (0, M) M) (zt σ) i (some (.inl (zt σ + 1 + i)))) (zt σ) = (4, N) from hk1)]
  show H2[_]? = some (vp_cell _ _)
  rw [e1, hcell, vp_cell_q, vp_cell_q, arrV_store]
  congr 2
  funext q
  by_cases hq : q = i
  · subst hq
    simp [updV, kP_sP _ hpf, zrf, va_rf, hsz, ht, Nat.add_assoc]
  · simp [updV, kP_sP _ hpf, hq]
set_option maxHeartbeats 2000000 in
theorem z_manew (hC : Cx C E cc nL own nm ret hh d) {idx : Nat} (hd : decode cc pc = .ok (.multianewarray idx 2, 4)) (hl : Cond.classLink own idx "[[I" ∈ lw_all) {x y : Int32} {N M : Nat} (hx0 : ¬ x < 0) (hy0 : ¬ y < 0) (hN : ix x = N) (hM : ix y = M) (hn : n ≤ zt σ) (h1 : zt σ + 1 + N ≤ NB) (h2 : zn σ + N + N * M ≤ SB) (hM1 : M ≤ SB)
    (k : zz C E n nL (mA σ N M N) (pc + 4) L (.ref (E.1.heap.size + zt σ) :: st)) : zz C E n nL σ pc L (.int y :: .int x :: st) := by
  have hC' := hC
  obtain ⟨p, l, e, R, s, m, args, below, meth, c, Qo⟩ := C
  intro H locs cells slots ls hR hlc hL
  refine W.exact fun hz hs => ?_
  obtain ⟨w1, w2⟩ := zcount hC' hR hz hs
  obtain ⟨hx, hb, hml, hown, hts, hW, -, -, -, -, hE, -⟩ := hC
  intro T hT X
  have hN : x.toNatClampNeg = N := hN
  have hM : y.toNatClampNeg = M := hM
  have hsz := hR.2.1
  have hK := zK_at hE hW
  have hpl : e.platform.magicAccessors = ({} : Platform).magicAccessors := by rw [X.admits.platform]
  obtain ⟨-, b0, t1, -, -⟩ := id hE
  obtain ⟨comp, cA, kA, hcomp, hkA, hkindA, hnameA⟩ := ao_int (t1 _ q1584)
  have ec : comp = E.2.2 0 := by
    have h3 : s.vm.findClass ("[" ++ FieldType.toString .int) = some (E.2.2 0) := (hK.2 0 _ rfl).2
    rw [hW.alike.findClass] at h3
    exact Option.some.inj (hcomp.symm.trans h3)
  have eA : cA = E.2.2 4 := by
    have h3 : s.vm.findClass ("[" ++ FieldType.toString (.array .int)) = some (E.2.2 4) := (hK.2 4 _ rfl).2
    rw [hW.alike.findClass] at h3
    exact Option.some.inj (hnameA.symm.trans h3)
  subst ec eA
  obtain ⟨-, kC, hkC, comp', hkindC⟩ := (hK.2 0 _ rfl).1 0 (fun _ => .null)
  have hkC : s.vm.classes[E.2.2 0]? = some kC := hkC
  obtain ⟨c0, hfc0, hcl⟩ := Cond.classLink_spec hown (hts _ hl) e.platform hpl
  have e0 : c0 = E.2.2 4 := by
    have h3 : s.vm.findClass ("[" ++ FieldType.toString (.array .int)) = some (E.2.2 4) := (hK.2 4 _ rfl).2
    exact Option.some.inj (hfc0.symm.trans h3)
  subst e0
  obtain ⟨hg₁, hwarm₁, -⟩ := State.classEntry (e := e) X.warmed hcl
  generalize T.vm.noted m.cls idx (.cls (E.2.2 4)) = vm₁ at hg₁ hwarm₁
  obtain ⟨kA₁, hkA₁, heA⟩ := (hW.alike.trans hwarm₁.alike).2.2 _ _ hkA
  obtain ⟨kC₁, hkC₁, heC⟩ := hwarm₁.alike.2.2 _ _ hkC
  have hkindA₁ : kA₁.kind = .array (E.2.2 0) (.array .int) := by rw [heA]; exact hkindA
  have hkindC₁ : kC₁.kind = .array comp' .int := by rw [heC]; exact hkindC
  have X₁ := X.noted hwarm₁
  have hSB : SB = 8000000 := rfl
  have hNB : NB = 160000 := rfl
  have hlim : ∀ z : Nat, z ≤ 8000000 → z ≤ e.platform.arrayLengthLimit := fun z h => by rw [Launch.admits_arrayLengthLimit X.admits]; omega
  have hhp : ∀ z : Nat, z ≤ 8000000 → z * 4 ≤ e.platform.maxHeapBytes := fun z h => by rw [Launch.admits_maxHeapBytes X.admits]; omega
  refine Steps.instrP (c := c) (i := .multianewarray idx 2) (len := 4) X.here (by rw [hb]; exact hd) ?_
  rw [hx]
  show wpRun (multianewarray.sem idx 2) _ _ _ _
  unfold wpRun
  simp only [multianewarray.sem, wp_bind', W.resolveClassAt_links (State.method?_setTop (F0 m pc ls (.int y :: .int x :: st)) X.here.top) hg₁]
  rw [W.popN, if_neg (by decide)]
  refine ⟨F0 m pc ls (.int y :: .int x :: st), State.topJava?_setTop' (s := T.setVm vm₁) _ X.here.top, [.int x, .int y], st, rfl, rfl, ?_⟩
  simp only [List.mapM_cons, List.mapM_nil, wp_bind', wp_pure']
  rw [multianewarray.make]
  simp only [wp_bind', W.ite, hx0, if_false, wp_pure', W.theClass]
  refine ⟨kA₁, hkA₁, ?_⟩
  rw [hkindA₁]
  have hfind : ([y].find? fun z => decide (z < 0)) = none := by simp [hy0]
  have hTs : T.heap.size = E.1.heap.size + zt σ := by rw [hT]; exact hsz
  have hmulN : 0 ≤ N * M := Nat.zero_le _
  have eS : ((T.setTop (F0 m pc ls (.int y :: .int x :: st))).setVm vm₁).setTop { F0 m pc ls (.int y :: .int x :: st) with stack := st } = (T.setVm vm₁).setTop (F0 m pc ls st) := by
    show ((T.setVm vm₁).setTop _).setTop _ = _
    rw [State.setTop_setTop]
  rw [eS]
  simp only [hfind, ite_self, wp_bind']
  have w1 : H.size - s.heap.size + (NB - zt σ) ≤ R.cells := w1
  have w2 : hsum H s.heap.size + (SB - zn σ) ≤ R.slots := w2
  obtain ⟨ra, rb⟩ := X₁.roomAbove (a := 1 + N) (b := N + N * M) (by omega) (by omega)
  have ra : T.heap.size + (1 + N) ≤ e.platform.maxCells := ra
  have rb : T.slotsUsed + (N + N * M) ≤ e.platform.maxSlots := rb
  refine wp_newA (k := kA₁) hkA₁ hkindA₁ (hlim _ (by omega)) (hhp _ (by omega)) rfl rfl (by show T.heap.size < _; omega) (by show T.slotsUsed + _ ≤ _; omega) ?_
  rw [hN, Std.Legacy.Range.forIn_eq_forIn_range']
  have hrs : ([:N] : Std.Legacy.Range).size = N := by simp [Std.Legacy.Range.size]
  rw [hrs, wp_bind', show ((T.setVm vm₁).setTop (F0 m pc ls st)).heap.size = E.1.heap.size + zt σ from hTs]
  show wp (forIn (List.range' 0 N 1) PUnit.unit _) _ _ _ _ _ _
  refine wp_forIn_inv (fun rest s' => ∃ (i : Nat) (T' : State) (Lc : List Loc), i ≤ N ∧ rest = List.range' i (N - i) ∧ s' = T'.setTop (F0 m pc ls st) ∧ Stand p l e R s m args below meth c T' (locs ++ Lc) (H.size - s.heap.size + 1 + i) (hsum H s.heap.size + N + i * M) ∧ (∀ q ∈ Lc, q.base = E.1.heap.size + zt σ) ∧ T'.vm = vm₁ ∧ Rl E n (mA σ N M i) T'.heap) _ _ ?_ ?_ ?_
  · refine ⟨0, (T.setVm vm₁).pushCell { cls := E.2.2 4, slots := Array.replicate N .null, vm := .none }, [], Nat.zero_le _, rfl, rfl, ?_, (fun q hq => by cases hq), rfl, ?_⟩
    · have := X₁.pushed { cls := E.2.2 4, slots := Array.replicate N .null, vm := .none }
      rw [Array.size_replicate] at this
      simpa using this
    · show Rl E n (sA σ (4, N) N) (T.heap.push _)
      rw [hT, arrV_new]
      refine Rl_push hn hR (by omega) (by omega) (Array.getElem?_push_size ..) (Array.size_push ..) (fun q hq => by rw [Array.getElem?_push, if_neg (Nat.ne_of_lt hq)]) (arrV_size _ _ _) ?_
      rw [ent_4 (len := N) (by rw [kK_sA _ _ _ _ hn, if_pos rfl]), ← hsz]
      show (H.push _)[_]? = some (vp_cell _ _)
      rw [Array.getElem?_push_size, vp_cell_q]
      congr 2
      funext q
      rw [kP_sA σ _ _ _ _ hn, if_pos rfl]
      rfl
  · rintro z rest s' d' acts' Q' ⟨i, T', Lc, hi, hl', rfl, X', hLc, hvm, hR'⟩ hnext
    have hlt : i < N := by
      rcases Nat.lt_or_ge i N with h | h
      · exact h
      · rw [show N - i = 0 by omega] at hl'; simp at hl'
    obtain ⟨rfl, hrest⟩ : z = i ∧ rest = List.range' (i + 1) (N - (i + 1)) := by
      rw [show N - i = (N - (i + 1)) + 1 by omega, List.range'_succ] at hl'
      exact ⟨(List.cons.inj hl').1, (List.cons.inj hl').2⟩
    have hmul : z * M + M ≤ N * M := by
      have := Nat.mul_le_mul_right M (show z + 1 ≤ N from hlt)
      rwa [Nat.succ_mul] at this
    have hT' : T'.heap.size = E.1.heap.size + zt σ + 1 + z := by rw [hR'.2.1, zt_mA]; omega
    obtain ⟨ra', rb'⟩ := X'.roomAbove (a := 1) (b := M) (by omega) (by omega)
    have hk' := kK_mA0 σ N M z hn
    have hat := hR'.1 (zt σ) (by rw [zt_mA]; omega)
    rw [ent_4 hk'] at hat
    have hat : T'.heap[E.1.heap.size + zt σ]? = some (vp_cell _ _) := hat
    rw [vp_cell_q] at hat
    simp only [wp_bind']
    rw [multianewarray.make]
    simp only [wp_bind', W.ite, hy0, if_false, wp_pure', W.theClass]
    refine ⟨kC₁, by show T'.vm.classes[_]? = _; rw [hvm]; exact hkC₁, ?_⟩
    rw [hkindC₁]
    refine wp_newA (k := kC₁) (by show T'.vm.classes[_]? = _; rw [hvm]; exact hkC₁) hkindC₁ (hlim _ (by omega)) (hhp _ (by omega)) rfl rfl (by show T'.heap.size < _; omega) (by show T'.slotsUsed + _ ≤ _; omega) ?_
    simp only [wp_bind', W.writeLoc, wp_pure']
    have hcell2 : (T'.pushCell { cls := E.2.2 0, slots := Array.replicate M (defaultValue .int), vm := .none }).heap[E.1.heap.size + zt σ]? = some (arrV (E.2.2 4) N fun j => va_rf (zrf E.1.heap.size (kP n (mA σ N M z) (zt σ) j))) := by
      show (T'.heap.push _)[_]? = _
      rw [Array.getElem?_push, if_neg (by omega)]; exact hat
    rw [hM]
    refine ⟨_, hcell2, by simp [arrV], by rw [arrV_size]; exact hlt, ?_, hnext _ _ _ ⟨z + 1, ((T'.pushCell { cls := E.2.2 0, slots := Array.replicate M (defaultValue .int), vm := .none }).setCell (E.1.heap.size + zt σ) ((arrV (E.2.2 4) N fun j => va_rf (zrf E.1.heap.size (kP n (mA σ N M z) (zt σ) j))).setSlot z (.ref T'.heap.size))), Lc ++ [⟨E.1.heap.size + zt σ, z⟩], hlt, hrest, ?_, ?_, ?_, ?_, ?_⟩⟩
    · show State.fitsSlot (T'.pushCell { cls := E.2.2 0, slots := Array.replicate M (defaultValue .int), vm := .none }) (E.2.2 4) .none z (.ref T'.heap.size) = true
      have : T'.vm.classes[E.2.2 4]? = some kA₁ := by rw [hvm]; exact hkA₁
      simp [State.fitsSlot, State.slotType?, this, hkindA₁]
      rfl
    · rfl
    · have h1 := X'.pushed { cls := E.2.2 0, slots := Array.replicate M (defaultValue .int), vm := .none }
      have h2 := h1.stored hcell2 z (.ref T'.heap.size)
      rw [Array.size_replicate, List.append_assoc] at h2
      rw [Nat.succ_mul]
      simpa [Nat.add_assoc] using h2
    · intro q hq
      rcases List.mem_append.mp hq with h | h
      · exact hLc q h
      · rw [List.mem_singleton.mp h]
    · exact hvm
    · refine Rl_row hn hlt h1 h2 hR' hat ?_
      show (T'.heap.push _).setIfInBounds _ _ = _
      rw [arrV_new]
      rfl
  · rintro s' d' acts' ⟨i, T', Lc, hi, hl', rfl, X', hLc, hvm, hR'⟩
    have hiN : i = N := by
      rcases Nat.lt_or_ge i N with h | h
      · rw [show N - i = (N - (i + 1)) + 1 by omega, List.range'_succ] at hl'; cases hl'
      · omega
    subst hiN
    simp only [wp_pure', wp_bind', W.mark, W.pushRef, State.topJava?_setTop' _ X'.here.top, Option.some.injEq, exists_eq_left', State.setTop_setTop]
    intro acts
    rw [afterInstr_ok]
    exact k T'.heap _ _ _ ls hR' (fun q hq => by
      rcases List.mem_append.mp hq with h | h
      · exact hlc q h
      · rw [hLc q h]; exact Nat.le_add_right _ _) hL T' rfl X'
end ZM
