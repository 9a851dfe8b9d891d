/-! String constants (cells of the start), read alone -/
set_option maxRecDepth 100000
def FA (E : ZE) (v : Nat) (bs : List Int32) : Prop := va_T .byte v bs.length (fun j => .int (bs.getD j 0)) (fun q => E.1.heap.size ≤ q) E.1 E.1.heap
def FS (E : ZE) (q v : Nat) (bs : List Int32) : Prop := va_O "java/lang/String" q (fun q => E.1.heap.size ≤ q) E.1 E.1.heap ∧ va_OF "java/lang/String" "coder" "B" (.int 0) q (fun q => E.1.heap.size ≤ q) E.1 E.1.heap ∧ va_OF "java/lang/String" "value" "[B" (.ref v) q (fun q => E.1.heap.size ≤ q) E.1 E.1.heap ∧ FA E v bs
section ZF
variable {C : ZC} {E : ZE} {cc : ByteArray} {n nL pc d : Nat} {own nm : String} {ret : Option FieldType} {hh : List (Nat × Nat × Nat × Nat)} {σ : ZS} {L : List (Option Value)} {st : List Value}
theorem old_kept {E : ZE} {H : Heap} (hR : Rl E n σ H) : ∀ a : Nat, a < E.1.heap.size → ¬ E.1.heap.size ≤ a → H[a]? = E.1.heap[a]? := fun a h _ => hR.2.2.1 a h
theorem z_instF (hC : Cx C E cc nL own nm ret hh d) {idx q v : Nat} {bs : List Int32} (hF : FS E q v bs) (hd : decode cc pc = .ok (.instanceof idx, 3)) (hl : Cond.classLink own idx "java/lang/String" ∈ lw_all) (k : zz C E n nL σ (pc + 3) L (.int 1 :: st)) : zz C E n nL σ pc L (.ref q :: st) := by
  obtain ⟨p, l, e, R, s, m, args, below, meth, c, Qo⟩ := C
  intro H locs cells slots ls hR hlc hL
  obtain ⟨hx, hb, hml, hown, hts, hW, -, -, -, -, hE, -⟩ := hC
  obtain ⟨cell, h1, h2, h3, -⟩ := (hF.1.moved hW.alike).kept (old_kept hR)
  exact va_instE hx hb hown (hts _ hl) ⟨cell, h1, h2, h3⟩ hd (k H locs cells slots ls hR hlc hL)
theorem z_castF (hC : Cx C E cc nL own nm ret hh d) {idx q v : Nat} {bs : List Int32} (hF : FS E q v bs) (hd : decode cc pc = .ok (.checkcast idx, 3)) (hl : Cond.classLink own idx "java/lang/String" ∈ lw_all) (k : zz C E n nL σ (pc + 3) L (.ref q :: st)) : zz C E n nL σ pc L (.ref q :: st) := by
  obtain ⟨p, l, e, R, s, m, args, below, meth, c, Qo⟩ := C
  intro H locs cells slots ls hR hlc hL
  obtain ⟨hx, hb, hml, hown, hts, hW, -, -, -, -, hE, -⟩ := hC
  obtain ⟨cell, h1, h2, h3, -⟩ := (hF.1.moved hW.alike).kept (old_kept hR)
  exact va_castE hx hb hown (hts _ hl) ⟨cell, h1, h2, h3⟩ hd (k H locs cells slots ls hR hlc hL)
theorem z_getF (hC : Cx C E cc nL own nm ret hh d) {idx q : Nat} {fn ds : String} {w : Value} (hF : va_OF "java/lang/String" fn ds w q (fun q => E.1.heap.size ≤ q) E.1 E.1.heap) (hd : decode cc pc = .ok (.getfield idx, 3)) (hl : Cond.fieldLink own idx "java/lang/String" fn ds ∈ lw_all) (k : zz C E n nL σ (pc + 3) L (w :: st)) : zz C E n nL σ pc L (.ref q :: st) := by
  obtain ⟨p, l, e, R, s, m, args, below, meth, c, Qo⟩ := C
  intro H locs cells slots ls hR hlc hL
  obtain ⟨hx, hb, hml, hown, hts, hW, -, -, -, -, hE, -⟩ := hC
  obtain ⟨cf, k', fi, f, cell, h1, h2, h3, h4, h5, h6⟩ := (hF.moved hW.alike).kept (old_kept hR)
  exact W.getf hx hb hown (hts _ hl) h1 h2 h3 h4 (v := w) h5 rfl rfl hd (k H locs cells slots ls hR hlc hL)
theorem z_alenF (hC : Cx C E cc nL own nm ret hh d) {v : Nat} {bs : List Int32} (hF : FA E v bs) (hd : decode cc pc = .ok (.arraylength, 1)) (k : zz C E n nL σ (pc + 1) L (.int (Int32.ofNat bs.length) :: st)) : zz C E n nL σ pc L (.ref v :: st) := by
  obtain ⟨p, l, e, R, s, m, args, below, meth, c, Qo⟩ := C
  intro H locs cells slots ls hR hlc hL
  obtain ⟨hx, hb, hml, hown, hts, hW, -, -, -, -, hE, -⟩ := hC
  obtain ⟨cell, h1, h2, h3, h4, h5, h6, h7⟩ := (va_T.moved hW.alike hF).kept (old_kept hR)
  exact W.alen (n := Int32.ofNat bs.length) hx hb h1 h2 h5 rfl rfl hd (k H locs cells slots ls hR hlc hL)
theorem z_baldF (hC : Cx C E cc nL own nm ret hh d) {v : Nat} {bs : List Int32} {j : Int32} (hF : FA E v bs) (hd : decode cc pc = .ok (.baload, 1)) (hj : vp_in j bs.length) (k : zz C E n nL σ (pc + 1) L (.int (bs.getD (ix j) 0) :: st)) : zz C E n nL σ pc L (.int j :: .ref v :: st) := by
  obtain ⟨p, l, e, R, s, m, args, below, meth, c, Qo⟩ := C
  intro H locs cells slots ls hR hlc hL
  obtain ⟨hx, hb, hml, hown, hts, hW, -, -, -, -, hE, -⟩ := hC
  obtain ⟨cell, h1, h2, h3, h4, h5, h6, h7⟩ := (va_T.moved hW.alike hF).kept (old_kept hR)
  have hlt := ix_lt hj
  refine W.bald (v := .int (bs.getD (ix j) 0)) hx hb h1 h2 h3 ?_ (h6 _ hlt) rfl rfl hd (k H locs cells slots ls hR hlc hL)
  rintro (h | h)
  · exact hj (Or.inl h)
  · have : j.toNatClampNeg < bs.length := hlt
    omega
theorem z_acmpOF (hC : Cx C E cc nL own nm ret hh d) {a q v : Nat} {bs : List Int32} {off : Int} {tgt : Nat} (hF : FS E q v bs) (hd : decode cc pc = .ok (.if_acmp .ne off, 3)) (ht : (pc : Int) + off = (tgt : Int)) (k : zz C E n nL σ tgt L st) : zz C E n nL σ pc L (.ref q :: .ref (E.1.heap.size + a) :: st) := by
  obtain ⟨p, l, e, R, s, m, args, below, meth, c, Qo⟩ := C
  intro H locs cells slots ls hR hlc hL
  refine lv_acmp_ne (rx := some (E.1.heap.size + a)) (ry := some q) hC.1 hC.2.1 hd ht (fun _ => k H locs cells slots ls hR hlc hL) (fun h => ?_)
  obtain ⟨cell, h1, -, -, h4⟩ := hF.1
  exact absurd (Nat.le_add_right _ _) (by rw [Option.some.inj h]; exact h4)
/-- the String constant at entry k of the Reader's pool -/
theorem lit_of {E : ZE} (hE : EOK E) (k : Nat) (bs : List Int32) (hlen : bs.length < 2 ^ 31)
    (h1 : Cond.exactly (.string "RightTurns$Reader" k) "java/lang/String" ∈ flatC (Jvm.Cond.and given_1 narrow_1)) (h2 : Cond.eq (.field (.string "RightTurns$Reader" k) "java/lang/String" "coder" "B") (.int 0) ∈ flatC (Jvm.Cond.and given_1 narrow_1))
    (h3 : Cond.arrayOf (.field (.string "RightTurns$Reader" k) "java/lang/String" "value" "[B") .byte ∈ flatC (Jvm.Cond.and given_1 narrow_1)) (h4 : Cond.eq (.length (.field (.string "RightTurns$Reader" k) "java/lang/String" "value" "[B")) (.int (Int32.ofNat bs.length)) ∈ flatC (Jvm.Cond.and given_1 narrow_1))
    (h5 : ∀ j, j < bs.length → Cond.eq (.elem (.field (.string "RightTurns$Reader" k) "java/lang/String" "value" "[B") (.int (Int32.ofNat j))) (.int (bs.getD j 0)) ∈ flatC (Jvm.Cond.and given_1 narrow_1)) :
    ∃ q v : Nat, (Term.string "RightTurns$Reader" k).eval #[] E.1 none [] E.1 = some (.ref q) ∧ FS E q v bs := by
  obtain ⟨b, hb⟩ := nar_of hE
  have hA : ∀ a : Nat, a < E.1.heap.size → ¬ E.1.heap.size ≤ a := fun a h => Nat.not_le.mpr h
  obtain ⟨a, c, cA, kA, q1, q2, q3, q4, q5, q6, -⟩ := Cond.exactly_spec (hb _ h1)
  obtain ⟨t, ht, hT⟩ := va_Tof (f := fun j => .int (bs.getD j 0)) (A := fun q => E.1.heap.size ≤ q) hlen (hb _ h3) (va_eqt (hb _ h4)) (fun j hj => va_eqt (hb _ (h5 j hj))) hA
  have e0 : (Term.string "RightTurns$Reader" k).eval #[] E.1 none [] E.1 = some (.ref a) := by
    first | exact q1 | (rw [Term.string_eval_of_vm (args := #[]) rfl]; exact q1) | (rw [← q1]; rfl)
  exact ⟨a, t, e0, ⟨cA, q3, q5, by rw [q6]; exact q2, hA a (Array.getElem?_eq_some_iff.mp q3).1⟩, vk_OFof q1 (va_eqt (hb _ h2)) hA, vk_OFof q1 ht hA, hT⟩
theorem z_ldcS (hC : Cx C E cc nL "RightTurns$Reader" nm ret hh d) {k : Nat} {tx : String} {q v : Nat} {bs : List Int32} (hq : (Term.string "RightTurns$Reader" k).eval #[] E.1 none [] E.1 = some (.ref q)) (hd : decode cc pc = .ok (.ldc k, 2)) (hw : Cond.stringRef "RightTurns$Reader" k tx ∈ lw_tbl) (kk : zz C E n nL σ (pc + 2) L (.ref q :: st)) : zz C E n nL σ pc L st := by
  obtain ⟨p, l, e, R, s, m, args, below, meth, c, Qo⟩ := C
  intro H locs cells slots ls hR hlc hL
  obtain ⟨hx, hb, hml, hown, hts, hW, -, -, -, -, hE, -⟩ := hC
  obtain ⟨-, bb, t1, -⟩ := id hE
  have hr : vk_R "RightTurns$Reader" k tx q E.1 := vk_R.of (A := #[]) (by first | exact va_tabs rfl rfl (t1 _ hw) | exact t1 _ hw) hq
  exact va_ldcS hx hb hown (vk_R.warm hW hr) hd (kk H locs cells slots ls hR hlc hL)
end ZF
