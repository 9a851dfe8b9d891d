/-! rows of arrays, of new cells, of throws and calls -/
set_option maxRecDepth 100000
abbrev ix (j : Int32) : Nat := j.toNatClampNeg
theorem ix_lt {j : Int32} {n : Nat} (h : vp_in j n) : ix j < n := Nat.not_le.mp fun q => h (Or.inr q)
section ZA
variable {C : ZC} {E : ZE} {cc : ByteArray} {n nL pc d : Nat} {own nm : String} {ret : Option FieldType} {hh : List (Nat × Nat × Nat × Nat)} {σ : ZS} {L : List (Option Value)} {st : List Value}
theorem locs1 {E : ZE} {locs : List Loc} {a i : Nat} (h : ∀ q ∈ locs, E.1.heap.size ≤ q.base) : ∀ q ∈ locs ++ [(⟨E.1.heap.size + a, i⟩ : Loc)], E.1.heap.size ≤ q.base := fun q hq => by
  rcases List.mem_append.mp hq with h1 | h1
  · exact h q h1
  · rw [List.mem_singleton.mp h1]; exact Nat.le_add_right _ _
theorem va_1 {E : ZE} {H : Heap} {a : Nat} {x : va_E} (h : va_at E.2.1 zcl (a, x) H) : va_P E.2.1 zcl [(a, x)] H := by
  intro j q hq
  cases j with
  | zero => cases hq; exact h
  | succ j => simp at hq

theorem z_iald (hC : Cx C E cc nL own nm ret hh d) (hd : decode cc pc = .ok (.iaload, 1)) {a len : Nat} {j : Int32} (hk : kK n σ a = (0, len)) (hj : vp_in j len) (k : zz C E n nL σ (pc + 1) L (.int (zI σ a (ix j)) :: st)) : zz C E n nL σ pc L (.int j :: .ref (E.1.heap.size + a) :: st) := by
  obtain ⟨p, l, e, R, s, m, args, below, meth, c, Qo⟩ := C
  intro H locs cells slots ls hR hl hL
  obtain ⟨hx, hb, hml, hown, hts, hW, -, -, -, -, hE, -⟩ := hC
  have hat := hR.1 a (hR.lt hk (by simp))
  rw [ent_0 hk] at hat
  exact va_iald hx hb (zK_at hE hW) (va_1 hat) 0 0 rfl rfl hj hd (k H locs cells slots ls hR hl hL)
theorem z_bald (hC : Cx C E cc nL own nm ret hh d) (hd : decode cc pc = .ok (.baload, 1)) {a len : Nat} {j : Int32} (hk : kK n σ a = (2, len)) (hj : vp_in j len) (k : zz C E n nL σ (pc + 1) L (.int (zI σ a (ix j)) :: st)) : zz C E n nL σ pc L (.int j :: .ref (E.1.heap.size + a) :: st) := by
  obtain ⟨p, l, e, R, s, m, args, below, meth, c, Qo⟩ := C
  intro H locs cells slots ls hR hl hL
  obtain ⟨hx, hb, hml, hown, hts, hW, -, -, -, -, hE, -⟩ := hC
  have hat := hR.1 a (hR.lt hk (by simp))
  rw [ent_2 hk] at hat
  exact va_bald hx hb (zK_at hE hW) (va_1 hat) 0 2 rfl rfl hj hd (k H locs cells slots ls hR hl hL)
theorem z_zald (hC : Cx C E cc nL own nm ret hh d) (hd : decode cc pc = .ok (.baload, 1)) {a len : Nat} {j : Int32} (hk : kK n σ a = (3, len)) (hj : vp_in j len) (k : zz C E n nL σ (pc + 1) L (.int (zI σ a (ix j)) :: st)) : zz C E n nL σ pc L (.int j :: .ref (E.1.heap.size + a) :: st) := by
  obtain ⟨p, l, e, R, s, m, args, below, meth, c, Qo⟩ := C
  intro H locs cells slots ls hR hl hL
  obtain ⟨hx, hb, hml, hown, hts, hW, -, -, -, -, hE, -⟩ := hC
  have hat := hR.1 a (hR.lt hk (by simp))
  rw [ent_3 hk] at hat
  exact va_zald hx hb (zK_at hE hW) (va_1 hat) 0 3 rfl rfl hj hd (k H locs cells slots ls hR hl hL)
theorem z_lald (hC : Cx C E cc nL own nm ret hh d) (hd : decode cc pc = .ok (.laload, 1)) {a len : Nat} {j : Int32} (hk : kK n σ a = (1, len)) (hj : vp_in j len) (k : zz C E n nL σ (pc + 1) L (.long (zJ σ a (ix j)) :: st)) : zz C E n nL σ pc L (.int j :: .ref (E.1.heap.size + a) :: st) := by
  obtain ⟨p, l, e, R, s, m, args, below, meth, c, Qo⟩ := C
  intro H locs cells slots ls hR hl hL
  obtain ⟨hx, hb, hml, hown, hts, hW, -, -, -, -, hE, -⟩ := hC
  have hat := hR.1 a (hR.lt hk (by simp))
  rw [ent_1 hk] at hat
  exact va_lald hx hb (zK_at hE hW) (va_1 hat) 0 1 rfl rfl hj hd (k H locs cells slots ls hR hl hL)
theorem z_iast (hC : Cx C E cc nL own nm ret hh d) (hd : decode cc pc = .ok (.iastore, 1)) {a len : Nat} {j : Int32} {x : Int32} (hk : kK n σ a = (0, len)) (hj : vp_in j len) (k : zz C E n nL (sI σ a (ix j) x) (pc + 1) L st) : zz C E n nL σ pc L (.int x :: .int j :: .ref (E.1.heap.size + a) :: st) := by
  obtain ⟨p, l, e, R, s, m, args, below, meth, c, Qo⟩ := C
  intro H locs cells slots ls hR hl hL
  obtain ⟨hx, hb, hml, hown, hts, hW, -, -, -, -, hE, -⟩ := hC
  have ha := hR.lt hk (by simp)
  have hat := hR.1 a ha
  rw [ent_0 hk] at hat
  refine W.iast hx hb hat (((zK_at hE hW).2 0 _ rfl).1 len (fun q => .int (zI σ a q))) (fun q => by cases q) (by show ¬ (j < 0 ∨ (arrV _ _ _).slots.size ≤ _); rw [arrV_size]; exact hj) rfl rfl hd fun H1 e1 z1 oq => ?_
  refine k H1 _ cells slots ls (Rl_upd hR ha rfl rfl (fun _ => rfl) (fun b hb => ent_sI hb) ?_ z1 oq (hsum_set hat e1 z1 oq)) (locs1 hl) hL
  rw [ent_0 (show kK n (sI σ a (ix j) x) a = (0, len) from hk)]
  show H1[_]? = some (vp_cell _ _)
  rw [e1]
  rw [vp_cell_i, vp_cell_i, arrV_store]
  congr 2
  funext q
  by_cases hq : q = j.toNatClampNeg
  · subst hq
    simp [updV, zI_sI, vp_nar]
    try rfl
  · simp [updV, zI_sI, hq]
theorem z_bast (hC : Cx C E cc nL own nm ret hh d) (hd : decode cc pc = .ok (.bastore, 1)) {a len : Nat} {j : Int32} {x : Int32} (hk : kK n σ a = (2, len)) (hj : vp_in j len) (k : zz C E n nL (sI σ a (ix j) (vp_nar .byte x)) (pc + 1) L st) : zz C E n nL σ pc L (.int x :: .int j :: .ref (E.1.heap.size + a) :: st) := by
  obtain ⟨p, l, e, R, s, m, args, below, meth, c, Qo⟩ := C
  intro H locs cells slots ls hR hl hL
  obtain ⟨hx, hb, hml, hown, hts, hW, -, -, -, -, hE, -⟩ := hC
  have ha := hR.lt hk (by simp)
  have hat := hR.1 a ha
  rw [ent_2 hk] at hat
  refine W.bast hx hb hat (((zK_at hE hW).2 2 _ rfl).1 len (fun q => .int (zI σ a q))) (fun q => by cases q) (by show ¬ (j < 0 ∨ (arrV _ _ _).slots.size ≤ _); rw [arrV_size]; exact hj) rfl rfl hd fun H1 e1 z1 oq => ?_
  refine k H1 _ cells slots ls (Rl_upd hR ha rfl rfl (fun _ => rfl) (fun b hb => ent_sI hb) ?_ z1 oq (hsum_set hat e1 z1 oq)) (locs1 hl) hL
  rw [ent_2 (show kK n (sI σ a (ix j) (vp_nar .byte x)) a = (2, len) from hk)]
  show H1[_]? = some (vp_cell _ _)
  rw [e1]
  rw [vp_cell_i, vp_cell_i, arrV_store]
  congr 2
  funext q
  by_cases hq : q = j.toNatClampNeg
  · subst hq
    simp [updV, zI_sI, vp_nar]
    try rfl
  · simp [updV, zI_sI, hq]
theorem z_zast (hC : Cx C E cc nL own nm ret hh d) (hd : decode cc pc = .ok (.bastore, 1)) {a len : Nat} {j : Int32} {x : Int32} (hk : kK n σ a = (3, len)) (hj : vp_in j len) (k : zz C E n nL (sI σ a (ix j) (vp_nar .boolean x)) (pc + 1) L st) : zz C E n nL σ pc L (.int x :: .int j :: .ref (E.1.heap.size + a) :: st) := by
  obtain ⟨p, l, e, R, s, m, args, below, meth, c, Qo⟩ := C
  intro H locs cells slots ls hR hl hL
  obtain ⟨hx, hb, hml, hown, hts, hW, -, -, -, -, hE, -⟩ := hC
  have ha := hR.lt hk (by simp)
  have hat := hR.1 a ha
  rw [ent_3 hk] at hat
  refine W.zast hx hb hat (((zK_at hE hW).2 3 _ rfl).1 len (fun q => .int (zI σ a q))) (fun q => by cases q) (by show ¬ (j < 0 ∨ (arrV _ _ _).slots.size ≤ _); rw [arrV_size]; exact hj) rfl rfl hd fun H1 e1 z1 oq => ?_
  refine k H1 _ cells slots ls (Rl_upd hR ha rfl rfl (fun _ => rfl) (fun b hb => ent_sI hb) ?_ z1 oq (hsum_set hat e1 z1 oq)) (locs1 hl) hL
  rw [ent_3 (show kK n (sI σ a (ix j) (vp_nar .boolean x)) a = (3, len) from hk)]
  show H1[_]? = some (vp_cell _ _)
  rw [e1]
  rw [vp_cell_i, vp_cell_i, arrV_store]
  congr 2
  funext q
  by_cases hq : q = j.toNatClampNeg
  · subst hq
    simp [updV, zI_sI, vp_nar]
    try rfl
  · simp [updV, zI_sI, hq]
theorem z_last (hC : Cx C E cc nL own nm ret hh d) (hd : decode cc pc = .ok (.lastore, 1)) {a len : Nat} {j : Int32} {x : Int64} (hk : kK n σ a = (1, len)) (hj : vp_in j len) (k : zz C E n nL (sJ σ a (ix j) x) (pc + 1) L st) : zz C E n nL σ pc L (.long x :: .int j :: .ref (E.1.heap.size + a) :: st) := by
  obtain ⟨p, l, e, R, s, m, args, below, meth, c, Qo⟩ := C
  intro H locs cells slots ls hR hl hL
  obtain ⟨hx, hb, hml, hown, hts, hW, -, -, -, -, hE, -⟩ := hC
  have ha := hR.lt hk (by simp)
  have hat := hR.1 a ha
  rw [ent_1 hk] at hat
  refine W.last hx hb hat (((zK_at hE hW).2 1 _ rfl).1 len (fun q => .long (zJ σ a q))) (fun q => by cases q) (by show ¬ (j < 0 ∨ (arrV _ _ _).slots.size ≤ _); rw [arrV_size]; exact hj) rfl rfl hd fun H1 e1 z1 oq => ?_
  refine k H1 _ cells slots ls (Rl_upd hR ha rfl rfl (fun _ => rfl) (fun b hb => ent_sJ hb) ?_ z1 oq (hsum_set hat e1 z1 oq)) (locs1 hl) hL
  rw [ent_1 (show kK n (sJ σ a (ix j) x) a = (1, len) from hk)]
  show H1[_]? = some (vp_cell _ _)
  rw [e1]
  rw [vp_cell_l, vp_cell_l, arrV_store]
  congr 2
  funext q
  by_cases hq : q = j.toNatClampNeg
  · subst hq
    simp [updV, zJ_sJ, vp_nar]
    try rfl
  · simp [updV, zJ_sJ, hq]
theorem z_aald4 (hC : Cx C E cc nL own nm ret hh d) (hd : decode cc pc = .ok (.aaload, 1)) {a len : Nat} {j : Int32} (hk : kK n σ a = (4, len)) (hj : vp_in j len) {v : Value} (hv : pv E.1.heap.size (kP n σ a (ix j)) = v) (k : zz C E n nL σ (pc + 1) L (v :: st)) : zz C E n nL σ pc L (.int j :: .ref (E.1.heap.size + a) :: st) := by
  subst hv
  obtain ⟨p, l, e, R, s, m, args, below, meth, c, Qo⟩ := C
  intro H locs cells slots ls hR hl hL
  obtain ⟨hx, hb, hml, hown, hts, hW, -, -, -, -, hE, -⟩ := hC
  have hat := hR.1 a (hR.lt hk (by simp))
  rw [ent_4 hk] at hat
  refine W.aald (v := pv E.1.heap.size (kP n σ a (ix j))) (ty := .array .int) hx hb hat (((zK_at hE hW).2 4 _ rfl).1 len (fun q => va_rf (zrf E.1.heap.size (kP n σ a q)))) rfl (fun q => by cases q) (by show ¬ (j < 0 ∨ (arrV _ _ _).slots.size ≤ _); rw [arrV_size]; exact hj) (by show (arrV _ _ _).slots[_]? = _; rw [arrV_read _ _ (ix_lt hj), pv_rf]) rfl rfl hd (k H locs cells slots ls hR hl hL)
theorem z_aald5 (hC : Cx C E cc nL own nm ret hh d) (hd : decode cc pc = .ok (.aaload, 1)) {a len : Nat} {j : Int32} (hk : kK n σ a = (5, len)) (hj : vp_in j len) {v : Value} (hv : pv E.1.heap.size (kP n σ a (ix j)) = v) (k : zz C E n nL σ (pc + 1) L (v :: st)) : zz C E n nL σ pc L (.int j :: .ref (E.1.heap.size + a) :: st) := by
  subst hv
  obtain ⟨p, l, e, R, s, m, args, below, meth, c, Qo⟩ := C
  intro H locs cells slots ls hR hl hL
  obtain ⟨hx, hb, hml, hown, hts, hW, -, -, -, -, hE, -⟩ := hC
  have hat := hR.1 a (hR.lt hk (by simp))
  rw [ent_5 hk] at hat
  refine W.aald (v := pv E.1.heap.size (kP n σ a (ix j))) (ty := .object "RightTurns$State") hx hb hat (((zK_at hE hW).2 5 _ rfl).1 len (fun q => va_rf (zrf E.1.heap.size (kP n σ a q)))) rfl (fun q => by cases q) (by show ¬ (j < 0 ∨ (arrV _ _ _).slots.size ≤ _); rw [arrV_size]; exact hj) (by show (arrV _ _ _).slots[_]? = _; rw [arrV_read _ _ (ix_lt hj), pv_rf]) rfl rfl hd (k H locs cells slots ls hR hl hL)
theorem z_aald6 (hC : Cx C E cc nL own nm ret hh d) (hd : decode cc pc = .ok (.aaload, 1)) {a len : Nat} {j : Int32} (hk : kK n σ a = (6, len)) (hj : vp_in j len) {v : Value} (hv : pv E.1.heap.size (kP n σ a (ix j)) = v) (k : zz C E n nL σ (pc + 1) L (v :: st)) : zz C E n nL σ pc L (.int j :: .ref (E.1.heap.size + a) :: st) := by
  subst hv
  obtain ⟨p, l, e, R, s, m, args, below, meth, c, Qo⟩ := C
  intro H locs cells slots ls hR hl hL
  obtain ⟨hx, hb, hml, hown, hts, hW, -, -, -, -, hE, -⟩ := hC
  have hat := hR.1 a (hR.lt hk (by simp))
  rw [ent_6 hk] at hat
  refine W.aald (v := pv E.1.heap.size (kP n σ a (ix j))) (ty := .object "java/lang/Object") hx hb hat (((zK_at hE hW).2 6 _ rfl).1 len (fun q => va_rf (zrf E.1.heap.size (kP n σ a q)))) rfl (fun q => by cases q) (by show ¬ (j < 0 ∨ (arrV _ _ _).slots.size ≤ _); rw [arrV_size]; exact hj) (by show (arrV _ _ _).slots[_]? = _; rw [arrV_read _ _ (ix_lt hj), pv_rf]) rfl rfl hd (k H locs cells slots ls hR hl hL)
/-- a row of a static array of arrays -/
theorem z_aalS (hC : Cx C E cc nL own nm ret hh d) (hd : decode cc pc = .ok (.aaload, 1)) {a len : Nat} {j : Int32} (hk : kK n σ a = (4, len)) (ha : a < n) (hP : ∀ i, i < len → Pst a i = some (a + 1 + i)) (hj : vp_in j len) (k : zz C E n nL σ (pc + 1) L (.ref (E.1.heap.size + (a + 1 + ix j)) :: st)) : zz C E n nL σ pc L (.int j :: .ref (E.1.heap.size + a) :: st) := by
  refine z_aald4 hC hd hk hj (v := .ref (E.1.heap.size + (a + 1 + ix j))) ?_ k
  unfold kP
  rw [if_pos ha, hP _ (ix_lt hj)]
  rfl
/-- a store of a reference -/
theorem z_aastO (hC : Cx C E cc nL own nm ret hh d) (hd : decode cc pc = .ok (.aastore, 1)) {a len b ci x N : Nat} {Cn : String} {T : u_T} {ty : Nat → FieldType} {j : Int32} (hk : kK n σ a = (5, len)) (cf : CF ci Cn T N ty) (hCn : Cn = "RightTurns$State") (hkb : kK n σ b = (ci + 7, x)) (hj : vp_in j len) (hf : pfree n a (ix j)) (k : zz C E n nL (sP σ a (ix j) (some (.inl b))) (pc + 1) L st) : zz C E n nL σ pc L (.ref (E.1.heap.size + b) :: .int j :: .ref (E.1.heap.size + a) :: st) := by
  obtain ⟨p, l, e, R, s, m, args, below, meth, c, Qo⟩ := C
  intro H locs cells slots ls hR hl hL
  obtain ⟨hx, hb, hml, hown, hts, hW, -, -, -, -, hE, -⟩ := hC
  obtain ⟨c1, c2, c3, c4, c5, c6⟩ := cf
  subst hCn
  have ha := hR.lt hk (by simp)
  have hat := hR.1 a ha
  rw [ent_5 hk] at hat
  have hatb := hR.1 b (hR.lt hkb (by show ci + 7 ≠ 1000; omega))
  rw [ent_o hkb] at hatb
  have hK := zK_at hE hW
  obtain ⟨r', hr', cellV, g1, g2, g3, -⟩ := hatb
  have hcls := (hK.1 ci _ c1).2
  obtain ⟨kA, comp, k1, k2, k3, -⟩ := (hK.2 5 _ rfl).2
  have hcomp : comp = E.2.1.1 ci := Option.some.inj (k3.symm.trans hcls.1)
  subst hcomp
  obtain ⟨kC, hkC, -⟩ := hcls.2
  refine W.aast hx hb hat (fun q h => by cases h) (fun h => by cases h) k1 k2 rfl hkC ⟨fun q => hj (Or.inl q), by show _ < (arrV _ _ _).slots.size; rw [arrV_size]; exact ix_lt hj⟩ g1 (fun q h => by rw [g3] at h; cases h) (by rw [g2]; exact hkC) (by rw [g2]; exact va_assign hcls) rfl rfl hd fun H1 e1 z1 oq => ?_
  refine k H1 _ cells slots ls (Rl_upd hR ha rfl rfl (fun _ => rfl) (fun b hb => ent_sP hf hb) ?_ z1 oq (hsum_set hat e1 z1 oq)) (locs1 hl) hL
  rw [ent_5 (show kK n (sP σ a (ix j) (some (.inl b))) a = (5, len) from hk)]
  show H1[_]? = some (vp_cell _ _)
  rw [e1]
  rw [vp_cell_q, vp_cell_q, arrV_store]
  congr 2
  funext q
  by_cases hq : q = j.toNatClampNeg
  · subst hq
    simp [updV, kP_sP σ hf, zrf, va_rf]
  · simp [updV, kP_sP σ hf, hq]
theorem z_alen (hC : Cx C E cc nL own nm ret hh d) (hd : decode cc pc = .ok (.arraylength, 1)) {a t len : Nat} (hk : kK n σ a = (t, len)) (ht : t < 7) {v : Int32} (hv : Int32.ofNat len = v) (k : zz C E n nL σ (pc + 1) L (.int v :: st)) : zz C E n nL σ pc L (.ref (E.1.heap.size + a) :: st) := by
  obtain ⟨p, l, e, R, s, m, args, below, meth, c, Qo⟩ := C
  intro H locs cells slots ls hR hl hL
  obtain ⟨hx, hb, hml, hown, hts, hW, -, -, -, -, hE, -⟩ := hC
  have hat := hR.1 a (hR.lt hk (by show t ≠ 1000; omega))
  match t, ht, hk with
  | 0, _, hk => rw [ent_0 hk] at hat; exact va_alen hx hb (zK_at hE hW) (va_1 hat) 0 0 rfl rfl hv hd (k H locs cells slots ls hR hl hL)
  | 1, _, hk => rw [ent_1 hk] at hat; exact va_alen hx hb (zK_at hE hW) (va_1 hat) 0 1 rfl rfl hv hd (k H locs cells slots ls hR hl hL)
  | 2, _, hk => rw [ent_2 hk] at hat; exact va_alen hx hb (zK_at hE hW) (va_1 hat) 0 2 rfl rfl hv hd (k H locs cells slots ls hR hl hL)
  | 3, _, hk => rw [ent_3 hk] at hat; exact va_alen hx hb (zK_at hE hW) (va_1 hat) 0 3 rfl rfl hv hd (k H locs cells slots ls hR hl hL)
  | 4, _, hk => rw [ent_4 hk] at hat; exact va_alen hx hb (zK_at hE hW) (va_1 hat) 0 4 rfl rfl hv hd (k H locs cells slots ls hR hl hL)
  | 5, _, hk => rw [ent_5 hk] at hat; exact va_alen hx hb (zK_at hE hW) (va_1 hat) 0 5 rfl rfl hv hd (k H locs cells slots ls hR hl hL)
  | 6, _, hk => rw [ent_6 hk] at hat; exact va_alen hx hb (zK_at hE hW) (va_1 hat) 0 6 rfl rfl hv hd (k H locs cells slots ls hR hl hL)
/-- room for a new cell -/
theorem zroom {C : ZC} (hC : Cx C E cc nL own nm ret hh d) {H : Heap} (hR : Rl E n σ H) (hz : C.2.2.2.2.1.heap.size ≤ H.size) (hs : ∀ (a : Nat) (x : Cell), C.2.2.2.2.1.heap[a]? = some x → ∃ x', H[a]? = some x' ∧ x'.slots.size = x.slots.size) {k : Nat} (h1 : zt σ + 1 ≤ NB) (h2 : zn σ + k ≤ SB) :
    H.size - C.2.2.2.2.1.heap.size + 1 ≤ C.2.2.2.1.cells ∧ hsum H C.2.2.2.2.1.heap.size + k ≤ C.2.2.2.1.slots := by
  obtain ⟨p, l, e, R, s, m, args, below, meth, c, Qo⟩ := C
  obtain ⟨-, -, -, -, -, -, -, -, -, -, -, b1, b2, b3, -⟩ := hC
  obtain ⟨-, r2, -, r4, -, -, -⟩ := hR
  dsimp only at hz hs ⊢
  have e1 := hsum_le H E.1.heap.size s.heap.size b1
  have e2 := hsum_le s.heap E.1.heap.size s.heap.size b1
  have e3 : hsum s.heap s.heap.size = 0 := by unfold hsum; rw [List.drop_eq_nil_of_le (by simp)]; rfl
  have e4 : ((H.toList.drop E.1.heap.size).take (s.heap.size - E.1.heap.size)).map (·.slots.size) = ((s.heap.toList.drop E.1.heap.size).take (s.heap.size - E.1.heap.size)).map (·.slots.size) := by
    apply List.ext_getElem?
    intro i
    simp only [List.getElem?_map, List.getElem?_take, List.getElem?_drop]
    split
    · next hi =>
      have hlt : E.1.heap.size + i < s.heap.size := by omega
      obtain ⟨x', q1, q2⟩ := hs (E.1.heap.size + i) s.heap[E.1.heap.size + i] (by simp [hlt])
      have q3 : H.toList[E.1.heap.size + i]? = some x' := by rw [Array.getElem?_toList]; exact q1
      have q4 : s.heap.toList[E.1.heap.size + i]? = some s.heap[E.1.heap.size + i] := by rw [Array.getElem?_toList]; simp [hlt]
      rw [q3, q4]
      simp [q2]
    · rfl
  rw [e4] at e1
  constructor <;> omega
theorem zt_sA (σ : ZS) (k : Nat × Nat) (m : Nat) : zt (sA σ k m) = zt σ + 1 := rfl
theorem zn_sA (σ : ZS) (k : Nat × Nat) (m : Nat) : zn (sA σ k m) = zn σ + m := rfl
theorem zI_sA (σ : ZS) (k : Nat × Nat) (m b j : Nat) : zI (sA σ k m) b j = if b = zt σ then 0 else zI σ b j := rfl
theorem zJ_sA (σ : ZS) (k : Nat × Nat) (m b j : Nat) : zJ (sA σ k m) b j = if b = zt σ then 0 else zJ σ b j := rfl
theorem zP_sA (σ : ZS) (k : Nat × Nat) (m b j : Nat) : zP (sA σ k m) b j = if b = zt σ then none else zP σ b j := rfl
theorem zK_sA (σ : ZS) (k : Nat × Nat) (m b : Nat) : zK (sA σ k m) b = if b = zt σ then k else zK σ b := rfl
theorem kK_top {E : ZE} {σ : ZS} {H : Heap} (hR : Rl E n σ H) : n ≤ zt σ ∨ Kst (zt σ) = (1000, 0) := by
  rcases Nat.lt_or_ge (zt σ) n with h | h
  · right
    have := hR.2.2.2.2.2.2 (zt σ) (Nat.le_refl _)
    unfold kK at this
    rwa [if_pos h] at this
  · exact Or.inl h
theorem kK_sA (σ : ZS) (k : Nat × Nat) (m b : Nat) (hn : n ≤ zt σ) : kK n (sA σ k m) b = if b = zt σ then k else kK n σ b := by
  unfold kK
  by_cases h : b < n
  · rw [if_pos h, if_pos h, if_neg (by omega)]
  · rw [if_neg h, if_neg h, zK_sA]
theorem kP_sA (σ : ZS) (k : Nat × Nat) (m b j : Nat) (hn : n ≤ zt σ) : kP n (sA σ k m) b j = if b = zt σ then none else kP n σ b j := by
  unfold kP
  by_cases h : b < n
  · rw [if_pos h, if_pos h, if_neg (by omega)]
    have : zP (sA σ k m) b j = zP σ b j := by rw [zP_sA, if_neg (by omega)]
    rw [this]
  · rw [if_neg h, if_neg h, zP_sA]
theorem Rl_push {σ : ZS} {H H' : Heap} {k : Nat × Nat} {m : Nat} {cell : Cell} (hn : n ≤ zt σ) (hR : Rl E n σ H) (h1 : zt σ + 1 ≤ NB) (h2 : zn σ + m ≤ SB) (e1 : H'[H.size]? = some cell) (z1 : H'.size = H.size + 1) (o1 : ∀ q, q < H.size → H'[q]? = H[q]?) (hm : cell.slots.size = m)
    (hat : va_at E.2.1 zcl (E.1.heap.size + zt σ, ent E n (sA σ k m) (zt σ)) H') : Rl E n (sA σ k m) H' := by
  obtain ⟨r1, r2, r3, r4, r5, r6, r7⟩ := hR
  refine ⟨fun b hb => ?_, by rw [z1, r2, zt_sA]; omega, fun q hq => (o1 q (by omega)).trans (r3 q hq), by rw [hsum_push (by omega) e1 z1 o1, r4, hm, zn_sA], h1, h2, fun b hb => ?_⟩
  · rw [zt_sA] at hb
    by_cases h : b = zt σ
    · subst h; exact hat
    · rw [ent_congr (σ := σ) (by rw [kK_sA σ k m b hn, if_neg h]) (fun i => by rw [zI_sA, if_neg h]) (fun i => by rw [zJ_sA, if_neg h]) (fun i => by rw [kP_sA σ k m b i hn, if_neg h])]
      exact (r1 b (by omega)).kept (o1 _ (by show E.1.heap.size + b < _; omega))
  · rw [zt_sA] at hb
    rw [kK_sA σ k m b hn, if_neg (by omega)]
    exact r7 b (by omega)

theorem z_newa0 (hC : Cx C E cc nL own nm ret hh d) (hd : decode cc pc = .ok (.newarray .int, 2)) {x : Int32} {len : Nat} (hx0 : ¬ x < 0) (hlen : ix x = len) (hn : n ≤ zt σ) (h1 : zt σ + 1 ≤ NB) (h2 : zn σ + len ≤ SB) (k : zz C E n nL (sA σ (0, len) len) (pc + 2) L (.ref (E.1.heap.size + zt σ) :: st)) : zz C E n nL σ pc L (.int x :: st) := by
  have hC' := hC
  obtain ⟨p, l, e, R, s, m, args, below, meth, c, Qo⟩ := C
  intro H locs cells slots ls hR hl hL
  refine W.exact fun hz hs => ?_
  obtain ⟨w1, w2⟩ := zroom hC' hR hz hs h1 h2
  obtain ⟨hx, hb, hml, hown, hts, hW, -, -, -, -, hE, -⟩ := hC
  have hsz := hR.2.1
  refine va_newaK (atype := .int) hx hb (hts _ q551) rfl hd rfl hx0 hlen (by have := hR.2.2.2.2.2.1; simp only [newarray.typeOf, componentBytes]; unfold SB at h2; omega) w1 w2 hsz fun H1 cA e1 z1 o1 hAr hNm => ?_
  have hcA : cA = E.2.2 0 := by
    have h3 : s.vm.findClass ("[" ++ FieldType.toString .int) = some (E.2.2 0) := ((zK_at hE hW).2 0 _ rfl).2
    exact Option.some.inj (hNm.symm.trans h3)
  subst hcA
  rw [← hsz] at e1 z1 o1
  refine k H1 _ _ _ ls (Rl_push hn hR h1 h2 e1 z1 o1 (arrV_size _ _ _) ?_) hl hL
  rw [ent_0 (len := len) (by rw [kK_sA σ _ _ _ hn, if_pos rfl]), ← hsz]
  show H1[_]? = some (vp_cell _ _)
  rw [e1, vp_cell_i]
  congr 2
  funext q
  rw [zI_sA, if_pos rfl]
  rfl
theorem z_newa1 (hC : Cx C E cc nL own nm ret hh d) (hd : decode cc pc = .ok (.newarray .long, 2)) {x : Int32} {len : Nat} (hx0 : ¬ x < 0) (hlen : ix x = len) (hn : n ≤ zt σ) (h1 : zt σ + 1 ≤ NB) (h2 : zn σ + len ≤ SB) (k : zz C E n nL (sA σ (1, len) len) (pc + 2) L (.ref (E.1.heap.size + zt σ) :: st)) : zz C E n nL σ pc L (.int x :: st) := by
  have hC' := hC
  obtain ⟨p, l, e, R, s, m, args, below, meth, c, Qo⟩ := C
  intro H locs cells slots ls hR hl hL
  refine W.exact fun hz hs => ?_
  obtain ⟨w1, w2⟩ := zroom hC' hR hz hs h1 h2
  obtain ⟨hx, hb, hml, hown, hts, hW, -, -, -, -, hE, -⟩ := hC
  have hsz := hR.2.1
  refine va_newaK (atype := .long) hx hb (hts _ q703) rfl hd rfl hx0 hlen (by have := hR.2.2.2.2.2.1; simp only [newarray.typeOf, componentBytes]; unfold SB at h2; omega) w1 w2 hsz fun H1 cA e1 z1 o1 hAr hNm => ?_
  have hcA : cA = E.2.2 1 := by
    have h3 : s.vm.findClass ("[" ++ FieldType.toString .long) = some (E.2.2 1) := ((zK_at hE hW).2 1 _ rfl).2
    exact Option.some.inj (hNm.symm.trans h3)
  subst hcA
  rw [← hsz] at e1 z1 o1
  refine k H1 _ _ _ ls (Rl_push hn hR h1 h2 e1 z1 o1 (arrV_size _ _ _) ?_) hl hL
  rw [ent_1 (len := len) (by rw [kK_sA σ _ _ _ hn, if_pos rfl]), ← hsz]
  show H1[_]? = some (vp_cell _ _)
  rw [e1, vp_cell_l]
  congr 2
  funext q
  rw [zJ_sA, if_pos rfl]
  rfl
theorem z_newa2 (hC : Cx C E cc nL own nm ret hh d) (hd : decode cc pc = .ok (.newarray .byte, 2)) {x : Int32} {len : Nat} (hx0 : ¬ x < 0) (hlen : ix x = len) (hn : n ≤ zt σ) (h1 : zt σ + 1 ≤ NB) (h2 : zn σ + len ≤ SB) (k : zz C E n nL (sA σ (2, len) len) (pc + 2) L (.ref (E.1.heap.size + zt σ) :: st)) : zz C E n nL σ pc L (.int x :: st) := by
  have hC' := hC
  obtain ⟨p, l, e, R, s, m, args, below, meth, c, Qo⟩ := C
  intro H locs cells slots ls hR hl hL
  refine W.exact fun hz hs => ?_
  obtain ⟨w1, w2⟩ := zroom hC' hR hz hs h1 h2
  obtain ⟨hx, hb, hml, hown, hts, hW, -, -, -, -, hE, -⟩ := hC
  have hsz := hR.2.1
  refine va_newaK (atype := .byte) hx hb (hts _ q252) rfl hd rfl hx0 hlen (by have := hR.2.2.2.2.2.1; simp only [newarray.typeOf, componentBytes]; unfold SB at h2; omega) w1 w2 hsz fun H1 cA e1 z1 o1 hAr hNm => ?_
  have hcA : cA = E.2.2 2 := by
    have h3 : s.vm.findClass ("[" ++ FieldType.toString .byte) = some (E.2.2 2) := ((zK_at hE hW).2 2 _ rfl).2
    exact Option.some.inj (hNm.symm.trans h3)
  subst hcA
  rw [← hsz] at e1 z1 o1
  refine k H1 _ _ _ ls (Rl_push hn hR h1 h2 e1 z1 o1 (arrV_size _ _ _) ?_) hl hL
  rw [ent_2 (len := len) (by rw [kK_sA σ _ _ _ hn, if_pos rfl]), ← hsz]
  show H1[_]? = some (vp_cell _ _)
  rw [e1, vp_cell_i]
  congr 2
  funext q
  rw [zI_sA, if_pos rfl]
  rfl
theorem z_newa3 (hC : Cx C E cc nL own nm ret hh d) (hd : decode cc pc = .ok (.newarray .boolean, 2)) {x : Int32} {len : Nat} (hx0 : ¬ x < 0) (hlen : ix x = len) (hn : n ≤ zt σ) (h1 : zt σ + 1 ≤ NB) (h2 : zn σ + len ≤ SB) (k : zz C E n nL (sA σ (3, len) len) (pc + 2) L (.ref (E.1.heap.size + zt σ) :: st)) : zz C E n nL σ pc L (.int x :: st) := by
  have hC' := hC
  obtain ⟨p, l, e, R, s, m, args, below, meth, c, Qo⟩ := C
  intro H locs cells slots ls hR hl hL
  refine W.exact fun hz hs => ?_
  obtain ⟨w1, w2⟩ := zroom hC' hR hz hs h1 h2
  obtain ⟨hx, hb, hml, hown, hts, hW, -, -, -, -, hE, -⟩ := hC
  have hsz := hR.2.1
  refine va_newaK (atype := .boolean) hx hb (hts _ q702) rfl hd rfl hx0 hlen (by have := hR.2.2.2.2.2.1; simp only [newarray.typeOf, componentBytes]; unfold SB at h2; omega) w1 w2 hsz fun H1 cA e1 z1 o1 hAr hNm => ?_
  have hcA : cA = E.2.2 3 := by
    have h3 : s.vm.findClass ("[" ++ FieldType.toString .boolean) = some (E.2.2 3) := ((zK_at hE hW).2 3 _ rfl).2
    exact Option.some.inj (hNm.symm.trans h3)
  subst hcA
  rw [← hsz] at e1 z1 o1
  refine k H1 _ _ _ ls (Rl_push hn hR h1 h2 e1 z1 o1 (arrV_size _ _ _) ?_) hl hL
  rw [ent_3 (len := len) (by rw [kK_sA σ _ _ _ hn, if_pos rfl]), ← hsz]
  show H1[_]? = some (vp_cell _ _)
  rw [e1, vp_cell_i]
  congr 2
  funext q
  rw [zI_sA, if_pos rfl]
  rfl
theorem z_new (hC : Cx C E cc nL own nm ret hh d) {idx ci N : Nat} {Cn : String} {T : u_T} {ty : Nat → FieldType} (cf : CF ci Cn T N ty) (hd : decode cc pc = .ok (.new idx, 3)) (hcl : Cond.classLink own idx Cn ∈ lw_all) (hinst : Cond.instantiable Cn N ∈ lw_all) (hini : Cond.initialized Cn ∈ lw_all) (hdef : ∀ k, k < N → defaultValue (ty k) = (match fty ci k with | 0 => Value.int 0 | 1 => .long 0 | _ => .null))
    (hn : n ≤ zt σ) (h1 : zt σ + 1 ≤ NB) (h2 : zn σ + N ≤ SB) (k : zz C E n nL (sA σ (ci + 7, 0) N) (pc + 3) L (.ref (E.1.heap.size + zt σ) :: st)) : zz C E n nL σ pc L st := by
  have hC' := hC
  obtain ⟨p, l, e, R, s, m, args, below, meth, c, Qo⟩ := C
  intro H locs cells slots ls hR hl hL
  refine W.exact fun hz hs => ?_
  obtain ⟨w1, w2⟩ := zroom hC' hR hz hs h1 h2
  obtain ⟨hx, hb, hml, hown, hts, hW, -, -, -, -, hE, -⟩ := hC
  obtain ⟨c1, c2, c3, c4, c5, c6⟩ := cf
  have hsz := hR.2.1
  have hKn := (zK_at hE hW).1 ci _ c1
  obtain ⟨cI, kI, i1, i2, i3, i4⟩ := Cond.instantiable_spec (hts _ hinst)
  refine W.newcK hx hb hown (hts _ hcl) (hts _ hinst) (hts _ hini) rfl hd w1 w2 hKn.2.1 hsz fun H1 kC hkC e1 z1 o1 => ?_
  rw [← hsz] at e1 z1 o1
  have hkk : kI = kC := by
    have h3 : cI = E.2.1.1 ci := Option.some.inj (i1.symm.trans hKn.2.1)
    subst h3
    exact Option.some.inj (i2.symm.trans hkC)
  subst hkk
  refine k H1 _ _ _ ls (Rl_push hn hR h1 h2 e1 z1 o1 ?_ ?_) hl hL
  · show (kI.instanceTypes.map defaultValue).size = N
    rw [Array.size_map]
    exact i4.2.2
  · rw [ent_o (ci := ci) (len := 0) (by rw [kK_sA σ _ _ _ hn, if_pos rfl]), ← hsz]
    refine ⟨_, c1, (u_born ty hts c3 hKn hkC e1 c4).to fun j hj => ?_⟩
    have hj : j < N := hj
    rw [vV (by rw [c2]; exact hj), hdef j hj]
    unfold zv
    rw [zI_sA, zJ_sA, kP_sA σ _ _ _ _ hn, if_pos rfl, if_pos rfl, if_pos rfl]
    rfl
/-- a throw out of a method without handlers -/
theorem zth_out {x : Addr} (hC : Cx C E cc nL own nm ret [] d) (hq : C.2.2.2.2.2.2.2.2.2.2 (.threw x) σ) : zth C E n nL σ pc L st x := by
  have hC' := hC
  obtain ⟨p, l, e, R, s, m, args, below, meth, c, Qo⟩ := C
  intro H locs cells slots ls T hR hl hL hT X
  obtain ⟨hx, hb, hml, hown, hts, hW, hlk, -, -, hnh, hE, b1, b2, b3, -⟩ := hC
  have hemp : c.exceptionTable.toList = [] := List.map_eq_nil_iff.mp hnh
  obtain ⟨r1, r2, r3, r4, r5, r6⟩ := X.same
  have hTh : (T.setVm s.vm).heap = H := hT
  have hz : s.heap.size ≤ H.size := by rw [← hTh]; exact r2
  have hs : ∀ (a : Nat) (x : Cell), s.heap[a]? = some x → ∃ x', H[a]? = some x' ∧ x'.slots.size = x.slots.size := by
    intro a x hx
    obtain ⟨c', h1, -, h3, -⟩ := r6 a x hx
    exact ⟨c', by rw [← hTh]; exact h1, h3⟩
  have X2 : Stand p l e R s m args below meth c T locs (H.size - s.heap.size) (hsum H s.heap.size) := { X with same := ⟨r1, r2, by rw [hTh] at r2 ⊢; omega, r4, by unfold hsum; rw [← hTh]; exact Nat.le_refl _, r6⟩ }
  obtain ⟨hwalk, hrun, hend, hwarm, hsame⟩ := X2.leaveThrown x (g := F0 m pc ls st) rfl rfl rfl (by rw [hemp]; intro q hq; cases hq)
  refine ⟨_, hwalk, .threw x, hrun, hend, ⟨σ, hq, ?_⟩, hwarm, locs, hsame.mono ?_ ?_, hl⟩
  · show Rl E n σ T.heap
    rw [hT]; exact hR
  · obtain ⟨-, q1, -, -, q2, -, -⟩ := hR
    omega
  · have hR2 := hR
    obtain ⟨-, q1, -, q4, -, q2, -⟩ := hR
    have e1 := hsum_le H E.1.heap.size s.heap.size b1
    have e2 := hsum_le s.heap E.1.heap.size s.heap.size b1
    have e3 : hsum s.heap s.heap.size = 0 := by unfold hsum; rw [List.drop_eq_nil_of_le (by simp)]; rfl
    have e4 : ((H.toList.drop E.1.heap.size).take (s.heap.size - E.1.heap.size)).map (·.slots.size) = ((s.heap.toList.drop E.1.heap.size).take (s.heap.size - E.1.heap.size)).map (·.slots.size) := by
      apply List.ext_getElem?
      intro i
      simp only [List.getElem?_map, List.getElem?_take, List.getElem?_drop]
      split
      · next hi =>
        have hlt : E.1.heap.size + i < s.heap.size := by omega
        obtain ⟨x', q1, q2⟩ := hs (E.1.heap.size + i) s.heap[E.1.heap.size + i] (by simp [hlt])
        have q3 : H.toList[E.1.heap.size + i]? = some x' := by rw [Array.getElem?_toList]; exact q1
        have q4 : s.heap.toList[E.1.heap.size + i]? = some s.heap[E.1.heap.size + i] := by rw [Array.getElem?_toList]; simp [hlt]
        rw [q3, q4]
        simp [q2]
      · rfl
    rw [e4] at e1
    omega
theorem z_athrow (hC : Cx C E cc nL own nm ret hh d) (hd : decode cc pc = .ok (.athrow, 1)) {x : Addr} (k : zth C E n nL σ pc L st x) : zz C E n nL σ pc L (.ref x :: st) := by
  obtain ⟨p, l, e, R, s, m, args, below, meth, c, Qo⟩ := C
  intro H locs cells slots ls hR hl hL T hT X
  obtain ⟨hx, hb, -⟩ := hC
  obtain ⟨t, a, b⟩ := k H locs cells slots ls T hR hl hL hT X
  refine ⟨t, ?_, b⟩
  jvm_step X.here [hx, hb, hd, athrow.wp_sem]
  exact a
/-! contracts of methods over the abstract state -/
def rmz (d : Nat) (σ : ZS) : Room := { frames := d, cells := NB - zt σ, slots := SB - zn σ, locals := 64 * d }
def Pz (E : ZE) (n : Nat) (σ : ZS) (av : List Value) : Array Value → State → Prop := fun v U => v = av.toArray ∧ Rl E n σ U.heap ∧ E.1.WarmedH U.vm
def MZ (l : Launch) (E : ZE) (n : Nat) (y : MethodName) (ws : List Cond) (d : Nat) (σ : ZS) (av : List Value) (Qo : Outcome → ZS → Prop) : Prop := l.stackTraces = false → MetX l y ws (rmz d σ) (Pz E n σ av) (Qz E n Qo) (NB - zt σ) (SB - zn σ) (fun q => E.1.heap.size ≤ q)
theorem Pz_blind {σ : ZS} {av : List Value} : FrameBlind (Pz E n σ av) := fun _ _ _ _ h => h
/-- the locals at the start -/
def lvI : List Value → List (Option Value)
  | [] => []
  | v :: r => if v.category = 2 then some v :: none :: lvI r else some v :: lvI r
theorem lvI_at : ∀ (vs : List Value) (o i : Nat) (v : Value), (lvI vs)[i]? = some (some v) → (o + i, v) ∈ lv_args o vs
  | [], o, i, v, h => by simp [lvI] at h
  | w :: r, o, i, v, h => by
    unfold lvI at h
    unfold lv_args
    by_cases hc : w.category = 2
    · rw [if_pos hc] at h ⊢
      match i, h with
      | 0, h => simp at h; subst h; exact List.mem_cons_self
      | 1, h => simp at h
      | i + 2, h =>
        have := lvI_at r (o + 2) i v (by simpa using h)
        rw [show o + (i + 2) = o + 2 + i by omega]
        exact List.mem_cons_of_mem _ this
    · rw [if_neg hc] at h ⊢
      match i, h with
      | 0, h => simp at h; subst h; exact List.mem_cons_self
      | i + 1, h =>
        have := lvI_at r (o + 1) i v (by simpa using h)
        rw [show o + (i + 1) = o + 1 + i by omega]
        exact List.mem_cons_of_mem _ this
theorem MZ.start {l : Launch} {y : MethodName} {Qo : Outcome → ZS → Prop} {av : List Value} (hE : EOK E) (hy : plainName y.cls = true) (hlen : (lg_sl av).length ≤ nL) (hL : lvI av ++ List.replicate (nL - (lg_sl av).length) none = L)
    (k : ∀ C : ZC, C.2.1 = l → C.2.2.2.2.2.2.2.2.2.2 = Qo → Cx C E cc nL y.cls y.name ret [] d → zz C E n nL σ 0 L []) : MZ l E n y (ws_ y cc nL ret) d σ av Qo := by
  intro hfl
  refine MetX.ofW (cc := cc) (maxL := nL) (ret := ret) hy rfl ?_
  intro p e s m args below meth c s₁ B hml hv
  obtain ⟨rfl, hR, hW⟩ := hv
  have hts := atoms_spec (ws := ws_ y cc nL ret) B.pre
  have hcode := hts _ List.mem_cons_self
  have hts : ∀ w ∈ lw_all, w.before _ s = true := fun w h => hts w (List.mem_cons_of_mem _ h)
  have hb1 : E.1.heap.size ≤ s.heap.size := by rw [hR.2.1]; exact Nat.le_add_right _ _
  have hhs : hsum s.heap E.1.heap.size = zn σ := hR.2.2.2.1
  have hC : Cx (p, l, e, (headSpec (ws_ y cc nL ret) (rmz d σ)).room, s, m, av.toArray, below, meth, c, Qo) E cc nL y.cls y.name ret [] d := by
    refine ⟨B.exec, B.bytes, hml, findClass_of_methodNamed B.named, hts, hW, B.notSynchronized, (name_of_methodNamed B.named B.method).1, B.returns, ?_, hE, hb1, ?_, ?_, Nat.le_refl _, Nat.le_refl _, hfl⟩
    · have := B.noHandlers hcode
      rw [Array.isEmpty_iff] at this
      rw [this]
      rfl
    · show NB ≤ NB - zt σ + _
      have := hR.2.1
      have := hR.2.2.2.2.1
      omega
    · show SB ≤ SB - zn σ + _
      have := hR.2.2.2.2.2.1
      omega
  have kk := k _ rfl rfl hC
  have hl := lv_entry av (n := nL) hlen
  rw [lg_entry_eq]
  have hmc : NB - zt σ = NB - (s.heap.size - E.1.heap.size) := by rw [hR.2.1]; omega
  have hms : SB - zn σ = SB - hsum s.heap E.1.heap.size := by rw [hhs]
  rw [hmc, hms]
  refine kk s.heap [] 0 0 _ hR (fun q hq => by cases hq) ⟨hl.1, hl.2.1, fun i v hv => hl.2.2 (i, v) ?_⟩
  rw [← hL] at hv
  have hi : i < (lvI av).length := by
    rcases Nat.lt_or_ge i (lvI av).length with h | h
    · exact h
    · rw [List.getElem?_append_right h, List.getElem?_replicate] at hv
      split at hv <;> simp at hv
  rw [List.getElem?_append_left hi] at hv
  simpa using lvI_at av 0 i v hv
/-- what is known of a callee: handlers or none -/
def CodeW (y : MethodName) (ws : List Cond) (nLY : Nat) : Prop := (∀ w ∈ ws, w ∈ lw_all) ∧ ((∃ b r, Cond.code y b nLY r ∈ lw_all) ∨ ∃ b r h, Cond.codeWith y b nLY r h ∈ lw_all) ∧ Cond.initialized y.cls ∈ lw_all ∧ (y.cls ≠ "java/lang/invoke/MethodHandle" ∧ y.cls ≠ "java/lang/invoke/VarHandle")
theorem lw_word {w : Cond} (hw : w ∈ lw_all) {s : State} {args : Array Value} (hts : ∀ w ∈ lw_all, w.before args s = true) {a' : Array Value} {U : State} (hW : s.WarmedH U.vm) : w.before a' U = true := word_at hW (lw_self w hw).2 (hts w hw)
theorem CodeW.cal {y : MethodName} {ws : List Cond} {nLY d' : Nat} {R : Room} {s : State} {args : Array Value} {σ : ZS} {av : List Value} (h : CodeW y ws nLY) (hts : ∀ w ∈ lw_all, w.before args s = true) (h1 : d' + 1 ≤ R.frames) (h2 : 64 * (d' + 1) ≤ R.locals) (h3 : nLY ≤ 45) : CalX R s y ws (rmz d' σ) (Pz E n σ av) nLY := by
  obtain ⟨g1, g2, g3, g4⟩ := h
  refine ⟨Pz_blind, h1, by show _ + 64 * d' ≤ _; omega, fun w hw a' U hW => lw_word (g1 w hw) hts hW, fun U mk hW hn => ?_, fun a' U hW => lw_word g3 hts hW⟩
  rcases g2 with ⟨b, r, hw⟩ | ⟨b, r, h, hw⟩
  · obtain ⟨meth, c, q1, q2, q3, q4, -⟩ := Cond.code_spec (args := args) hn (lw_word hw hts hW)
    exact ⟨meth, c, q1, q2, q4⟩
  · obtain ⟨m', meth, c, q0, q1, q2, q3, q4, -⟩ := Cond.codeWith_spec (args := args) (lw_word hw hts hW)
    cases hn.symm.trans q0
    exact ⟨meth, c, q1, q2, q4⟩
theorem CodeW.sig {y : MethodName} {ws : List Cond} {nLY : Nat} {s : State} {args : Array Value} (h : CodeW y ws nLY) (hts : ∀ w ∈ lw_all, w.before args s = true) : ∃ mk methM, s.methodNamed? y = some mk ∧ s.vm.method? mk = some methM ∧ parseMethodDescriptor y.desc = some methM.sig := by
  obtain ⟨g1, g2, g3, g4⟩ := h
  rcases g2 with ⟨b, r, hw⟩ | ⟨b, r, h, hw⟩
  · obtain ⟨mk, hnamed⟩ := Cond.code_named (hts _ hw)
    obtain ⟨meth, c, q1, q2, q3, q4, -, -, -, q5⟩ := Cond.code_spec hnamed (hts _ hw)
    exact ⟨mk, meth, hnamed, q1, q5⟩
  · obtain ⟨m', meth, c, q0, q1, q2, q3, q4, -, -, -, q5⟩ := Cond.codeWith_spec (hts _ hw)
    exact ⟨m', meth, q0, q1, q5⟩
/-- behind a call -/
theorem zcall_end {C : ZC} {E : ZE} {n nL pc : Nat} {σ : ZS} {L : List (Option Value)} {st st0 : List Value} {locs : List Loc} {ls : Array Slot} {T : State} {Qo : Outcome → ZS → Prop} {a : Array Value} {cells slots : Nat} (hl : ∀ q ∈ locs, E.1.heap.size ≤ q.base) (hL : lOK ls nL L)
    (hc : Comes2 C.1 C.2.1 C.2.2.1 C.2.2.2.1 C.2.2.2.2.1 C.2.2.2.2.2.1 C.2.2.2.2.2.2.1 C.2.2.2.2.2.2.2.1 C.2.2.2.2.2.2.2.2.1 C.2.2.2.2.2.2.2.2.2.1 T locs cells slots (NB - zt σ) (SB - zn σ) (F0 C.2.2.2.2.2.1 pc ls st0) st (Qz E n Qo a) (fun q => E.1.heap.size ≤ q))
    (k : ∀ o σ', Qo o σ' → (∃ v, o = .returned v ∧ zz C E n nL σ' (pc + 3) L (v.toList ++ st)) ∨ (∃ x, o = .threw x ∧ zth C E n nL σ' pc L st x)) :
    ∃ t, Steps C.1.tables C.2.2.1 C.2.2.2.2.2.2.2.1 (T.setTop (F0 C.2.2.2.2.2.1 pc ls st0)) t ∧ zQ E n C t := by
  obtain ⟨p, l, e, R, s, m, args, below, meth, c, Qo'⟩ := C
  obtain ⟨o, st₀, t, T', L', h0, hW0, X', hL', e1, e2, ⟨σ', hq, hR'⟩, hr, ht⟩ := hc
  have hl' : ∀ q ∈ locs ++ L', E.1.heap.size ≤ q.base := fun q hq => by
    rcases List.mem_append.mp hq with h | h
    · exact hl q h
    · exact hL' q h
  rcases k o σ' hq with ⟨v, hv, kz⟩ | ⟨x, hx, kz⟩
  · obtain ⟨t2, a1, b1⟩ := kz T'.heap _ _ _ ls (by rw [e1]; exact hR') hl' hL T' rfl X'
    exact ⟨t2, hr v hv t2 a1, b1⟩
  · obtain ⟨t2, a1, b1⟩ := kz T'.heap _ _ _ ls T' (by rw [e1]; exact hR') hl' hL rfl X'
    exact ⟨t2, ht x hx t2 a1, b1⟩
theorem zcount {C : ZC} (hC : Cx C E cc nL own nm ret hh d) {H : Heap} (hR : Rl E n σ H) (hz : C.2.2.2.2.1.heap.size ≤ H.size) (hs : ∀ (a : Nat) (x : Cell), C.2.2.2.2.1.heap[a]? = some x → ∃ x', H[a]? = some x' ∧ x'.slots.size = x.slots.size) :
    H.size - C.2.2.2.2.1.heap.size + (NB - zt σ) ≤ C.2.2.2.1.cells ∧ hsum H C.2.2.2.2.1.heap.size + (SB - zn σ) ≤ C.2.2.2.1.slots := by
  obtain ⟨p, l, e, R, s, m, args, below, meth, c, Qo⟩ := C
  obtain ⟨-, -, -, -, -, -, -, -, -, -, -, b1, b2, b3, -⟩ := hC
  obtain ⟨-, r2, -, r4, r5, r6, -⟩ := hR
  dsimp only at hz hs ⊢
  have e1 := hsum_le H E.1.heap.size s.heap.size b1
  have e2 := hsum_le s.heap E.1.heap.size s.heap.size b1
  have e3 : hsum s.heap s.heap.size = 0 := by unfold hsum; rw [List.drop_eq_nil_of_le (by simp)]; rfl
  have e4 : ((H.toList.drop E.1.heap.size).take (s.heap.size - E.1.heap.size)).map (·.slots.size) = ((s.heap.toList.drop E.1.heap.size).take (s.heap.size - E.1.heap.size)).map (·.slots.size) := by
    apply List.ext_getElem?
    intro i
    simp only [List.getElem?_map, List.getElem?_take, List.getElem?_drop]
    split
    · next hi =>
      have hlt : E.1.heap.size + i < s.heap.size := by omega
      obtain ⟨x', q1, q2⟩ := hs (E.1.heap.size + i) s.heap[E.1.heap.size + i] (by simp [hlt])
      have q3 : H.toList[E.1.heap.size + i]? = some x' := by rw [Array.getElem?_toList]; exact q1
      have q4 : s.heap.toList[E.1.heap.size + i]? = some s.heap[E.1.heap.size + i] := by rw [Array.getElem?_toList]; simp [hlt]
      rw [q3, q4]
      simp [q2]
    · rfl
  rw [e4] at e1
  constructor <;> omega
theorem z_callVG (hC : Cx C E cc nL own nm ret hh d) {idx b ci x N nLY d' np : Nat} {y : MethodName} {ws : List Cond} {Cn : String} {T : u_T} {ty : Nat → FieldType} {av : List Value} {Qo : Outcome → ZS → Prop} (cf : CF ci Cn T N ty) (cw : CodeW y ws nLY) (hdd : d' + 1 ≤ d) (hnY : nLY ≤ 45)
    (hM : MZ C.2.1 E n y ws d' σ (.ref (E.1.heap.size + b) :: av) Qo) (hd : decode cc pc = .ok (.invokevirtual idx, 3)) (hk : kK n σ b = (ci + 7, x)) (hl : Cond.methodLink own idx y ∈ lw_all) (hi : Cond.instanceMethod y ∈ lw_all) (hs : Cond.selects Cn y y ∈ lw_all)
    (hnp : (parseMethodDescriptor y.desc).map (fun d => d.parameters.length) = some np) (hal : av.length = np) (hW : (st.map fun v => v.category).sum ≤ 8) {st0 : List Value} (hst0 : av.reverse ++ .ref (E.1.heap.size + b) :: st = st0)
    (k : ∀ o σ', Qo o σ' → (∃ v, o = .returned v ∧ zz C E n nL σ' (pc + 3) L (v.toList ++ st)) ∨ (∃ x, o = .threw x ∧ zth C E n nL σ' pc L st x)) : zz C E n nL σ pc L st0 := by
  subst hst0
  have hC' := hC
  have k' := k
  obtain ⟨p, l, e, R, s, m, args, below, meth, c, Qo'⟩ := C
  intro H locs cells slots ls hR hlc hL
  refine W.exact fun hz hss => ?_
  obtain ⟨w1, w2⟩ := zcount hC' hR hz hss
  obtain ⟨hx, hb, hml, hown, hts, hWm, -, -, -, -, hE, -, -, -, hfr, hlo, hfl⟩ := hC
  obtain ⟨c1, c2, c3, c4, c5, c6⟩ := cf
  have hat := hR.1 b (hR.lt hk (by show ci + 7 ≠ 1000; omega))
  rw [ent_o hk] at hat
  obtain ⟨cellB, g1, g2, g3⟩ := va_recv (zK_at hE hWm) (va_1 hat) (q0 := 0) c1 rfl
  intro T hT X
  refine zcall_end (C := (p, l, e, R, s, m, args, below, meth, c, Qo')) hlc hL (callVX (hM hfl) (cw.cal hts (by omega) (by omega) hnY) X hx hown (hts _ hl) (hts _ hi) (hts _ hs) cw.2.2.2 (by rw [hT]; exact g1) g2 g3 (g := F0 m pc ls _) rfl (by rw [hml]; exact hL.1) hnp hal ?_ rfl hW rfl (by rw [hb]; exact hd) w1 w2 ?_) k'
  · intro mk methM q1 q2
    obtain ⟨mk', methM', r1, r2, r3⟩ := cw.sig hts
    cases q1.symm.trans r1
    cases q2.symm.trans r2
    exact r3
  · intro vm₁ hW₁
    exact ⟨rfl, by show Rl E n σ T.heap; rw [hT]; exact hR, State.WarmedH.trans hWm hW₁⟩
theorem z_callSG (hC : Cx C E cc nL own nm ret hh d) {idx nLY d' np : Nat} {y : MethodName} {ws : List Cond} {av : List Value} {Qo : Outcome → ZS → Prop} (cw : CodeW y ws nLY) (hdd : d' + 1 ≤ d) (hnY : nLY ≤ 45)
    (hM : MZ C.2.1 E n y ws d' σ av Qo) (hd : decode cc pc = .ok (.invokestatic idx, 3)) (hl : Cond.methodLink own idx y ∈ lw_all) (hi : Cond.static y ∈ lw_all)
    (hnp : (parseMethodDescriptor y.desc).map (fun d => d.parameters.length) = some np) (hal : av.length = np) (hW : (st.map fun v => v.category).sum ≤ 8) {st0 : List Value} (hst0 : av.reverse ++ st = st0)
    (k : ∀ o σ', Qo o σ' → (∃ v, o = .returned v ∧ zz C E n nL σ' (pc + 3) L (v.toList ++ st)) ∨ (∃ x, o = .threw x ∧ zth C E n nL σ' pc L st x)) : zz C E n nL σ pc L st0 := by
  subst hst0
  have hC' := hC
  have k' := k
  obtain ⟨p, l, e, R, s, m, args, below, meth, c, Qo'⟩ := C
  intro H locs cells slots ls hR hlc hL
  refine W.exact fun hz hss => ?_
  obtain ⟨w1, w2⟩ := zcount hC' hR hz hss
  obtain ⟨hx, hb, hml, hown, hts, hWm, -, -, -, -, hE, -, -, -, hfr, hlo, hfl⟩ := hC
  intro T hT X
  refine zcall_end (C := (p, l, e, R, s, m, args, below, meth, c, Qo')) hlc hL (callSX (hM hfl) (cw.cal hts (by omega) (by omega) hnY) X hx hown (hts _ hl) (hts _ hi) (hts _ cw.2.2.1) cw.2.2.2 (g := F0 m pc ls _) rfl (by rw [hml]; exact hL.1) hnp hal (cw.sig hts) rfl hW rfl (by rw [hb]; exact hd) w1 w2 ?_) k'
  intro vm₁ hW₁
  exact ⟨rfl, by show Rl E n σ T.heap; rw [hT]; exact hR, State.WarmedH.trans hWm hW₁⟩
theorem z_callIG (hC : Cx C E cc nL own nm ret hh d) {idx b nLY d' np : Nat} {y : MethodName} {ws : List Cond} {bytes : ByteArray} {av : List Value} {Qo : Outcome → ZS → Prop} (cw : CodeW y ws nLY) (hcode : Cond.code y bytes nLY none ∈ lw_all) (hdd : d' + 1 ≤ d) (hnY : nLY ≤ 45)
    (hM : MZ C.2.1 E n y ws d' σ (.ref (E.1.heap.size + b) :: av) Qo) (hd : decode cc pc = .ok (.invokespecial idx, 3)) (hy1 : y.name = "<init>") (hl : Cond.methodLink own idx y ∈ lw_all) (hi : Cond.instanceMethod y ∈ lw_all)
    (hnp : (parseMethodDescriptor y.desc).map (fun d => d.parameters.length) = some np) (hal : av.length = np) (hW : (st.map fun v => v.category).sum ≤ 8) {st0 : List Value} (hst0 : av.reverse ++ .ref (E.1.heap.size + b) :: st = st0)
    (k : ∀ o σ', Qo o σ' → (∃ v, o = .returned v ∧ zz C E n nL σ' (pc + 3) L (v.toList ++ st)) ∨ (∃ x, o = .threw x ∧ zth C E n nL σ' pc L st x)) : zz C E n nL σ pc L st0 := by
  subst hst0
  have hC' := hC
  have k' := k
  obtain ⟨p, l, e, R, s, m, args, below, meth, c, Qo'⟩ := C
  intro H locs cells slots ls hR hlc hL
  refine W.exact fun hz hss => ?_
  obtain ⟨w1, w2⟩ := zcount hC' hR hz hss
  obtain ⟨hx, hb, hml, hown, hts, hWm, -, -, -, -, hE, -, -, -, hfr, hlo, hfl⟩ := hC
  intro T hT X
  refine zcall_end (C := (p, l, e, R, s, m, args, below, meth, c, Qo')) hlc hL (callIX (hM hfl) (cw.cal hts (by omega) (by omega) hnY) X hx hown hy1 (hts _ hl) (hts _ hi) (hts _ hcode) cw.2.2.2 (g := F0 m pc ls _) rfl (by rw [hml]; exact hL.1) hnp hal rfl hW rfl (by rw [hb]; exact hd) w1 w2 ?_) k'
  intro vm₁ hW₁
  exact ⟨rfl, by show Rl E n σ T.heap; rw [hT]; exact hR, State.WarmedH.trans hWm hW₁⟩
theorem z_objInit (hC : Cx C E cc nL own nm ret hh d) {idx b : Nat} (hd : decode cc pc = .ok (.invokespecial idx, 3)) (hl : Cond.methodLink own idx objectInit ∈ lw_all) (hi : Cond.instanceMethod objectInit ∈ lw_all) (hcd : Cond.code objectInit ⟨#[0xb1]⟩ 1 none ∈ lw_all) (hdd : 1 ≤ d) (hW : (st.map fun v => v.category).sum ≤ 8)
    (k : zz C E n nL σ (pc + 3) L st) : zz C E n nL σ pc L (.ref (E.1.heap.size + b) :: st) := by
  obtain ⟨p, l, e, R, s, m, args, below, meth, c, Qo'⟩ := C
  intro H locs cells slots ls hR hlc hL
  obtain ⟨hx, hb, hml, hown, hts, hWm, -, -, -, -, hE, -, -, -, hfr, hlo, hfl⟩ := hC
  exact W.objInit hx hb hown (hts _ hl) (hts _ hi) (hts _ hcd) (g := F0 m pc ls _) rfl (by rw [hml]; exact hL.1) rfl hd (by omega) (by show 2 * 0 + _ + 12 ≤ _; omega) (k H locs cells slots ls hR hlc hL)
/-! answers -/
def rI (Ret : Int32 → ZS → Prop) : Outcome → ZS → Prop := fun o σ => ∃ r, o = .returned (some (.int r)) ∧ Ret r σ
def rJ (Ret : Int64 → ZS → Prop) : Outcome → ZS → Prop := fun o σ => ∃ r, o = .returned (some (.long r)) ∧ Ret r σ
def rV (Ret : ZS → Prop) : Outcome → ZS → Prop := fun o σ => o = .returned none ∧ Ret σ
def rP (B : Nat) (Ret : ZR → ZS → Prop) : Outcome → ZS → Prop := fun o σ => ∃ r, o = .returned (some (pv B r)) ∧ Ret r σ
/-- or a throw of an own object -/
def rT (B : Nat) (Q : Outcome → ZS → Prop) (Thr : Nat → ZS → Prop) : Outcome → ZS → Prop := fun o σ => Q o σ ∨ ∃ a, o = .threw (B + a) ∧ Thr a σ
theorem kI {Ret : Int32 → ZS → Prop} (k : ∀ r σ', Ret r σ' → zz C E n nL σ' (pc + 3) L (.int r :: st)) : ∀ o σ', rI Ret o σ' → (∃ v, o = .returned v ∧ zz C E n nL σ' (pc + 3) L (v.toList ++ st)) ∨ (∃ x, o = .threw x ∧ zth C E n nL σ' pc L st x) :=
  fun _ σ' ⟨r, h, hr⟩ => Or.inl ⟨_, h, k r σ' hr⟩
theorem kJ {Ret : Int64 → ZS → Prop} (k : ∀ r σ', Ret r σ' → zz C E n nL σ' (pc + 3) L (.long r :: st)) : ∀ o σ', rJ Ret o σ' → (∃ v, o = .returned v ∧ zz C E n nL σ' (pc + 3) L (v.toList ++ st)) ∨ (∃ x, o = .threw x ∧ zth C E n nL σ' pc L st x) :=
  fun _ σ' ⟨r, h, hr⟩ => Or.inl ⟨_, h, k r σ' hr⟩
theorem kV {Ret : ZS → Prop} (k : ∀ σ', Ret σ' → zz C E n nL σ' (pc + 3) L st) : ∀ o σ', rV Ret o σ' → (∃ v, o = .returned v ∧ zz C E n nL σ' (pc + 3) L (v.toList ++ st)) ∨ (∃ x, o = .threw x ∧ zth C E n nL σ' pc L st x) :=
  fun _ σ' ⟨h, hr⟩ => Or.inl ⟨_, h, k σ' hr⟩
theorem kR {Ret : ZR → ZS → Prop} (k : ∀ r σ', Ret r σ' → zz C E n nL σ' (pc + 3) L (pv E.1.heap.size r :: st)) : ∀ o σ', rP E.1.heap.size Ret o σ' → (∃ v, o = .returned v ∧ zz C E n nL σ' (pc + 3) L (v.toList ++ st)) ∨ (∃ x, o = .threw x ∧ zth C E n nL σ' pc L st x) :=
  fun _ σ' ⟨r, h, hr⟩ => Or.inl ⟨_, h, k r σ' hr⟩
theorem kT {Q : Outcome → ZS → Prop} {Thr : Nat → ZS → Prop} (h1 : ∀ o σ', Q o σ' → (∃ v, o = .returned v ∧ zz C E n nL σ' (pc + 3) L (v.toList ++ st)) ∨ (∃ x, o = .threw x ∧ zth C E n nL σ' pc L st x)) (h2 : ∀ a σ', Thr a σ' → zth C E n nL σ' pc L st (E.1.heap.size + a)) :
    ∀ o σ', rT E.1.heap.size Q Thr o σ' → (∃ v, o = .returned v ∧ zz C E n nL σ' (pc + 3) L (v.toList ++ st)) ∨ (∃ x, o = .threw x ∧ zth C E n nL σ' pc L st x) := by
  rintro o σ' (h | ⟨a, h, ht⟩)
  · exact h1 o σ' h
  · exact Or.inr ⟨_, h, h2 a σ' ht⟩
end ZA
