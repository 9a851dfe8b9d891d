/-! the script: an int array of the start -/
set_option maxRecDepth 100000
def FI (E : ZE) (v : Nat) (ws : List Int32) : Prop := va_T .int v ws.length (fun j => .int (ws.getD j 0)) (fun q => E.1.heap.size ≤ q) E.1 E.1.heap
section ZSC
variable {C : ZC} {E : ZE} {cc : ByteArray} {n nL pc d : Nat} {own nm : String} {ret : Option FieldType} {hh : List (Nat × Nat × Nat × Nat)} {σ : ZS} {L : List (Option Value)} {st : List Value}
theorem z_alenI (hC : Cx C E cc nL own nm ret hh d) {v : Nat} {bs : List Int32} (hF : FI E v bs) (hd : decode cc pc = .ok (.arraylength, 1)) (k : zz C E n nL σ (pc + 1) L (.int (Int32.ofNat bs.length) :: st)) : zz C E n nL σ pc L (.ref v :: st) := by
  obtain ⟨p, l, e, R, s, m, args, below, meth, c, Qo⟩ := C
  intro H locs cells slots ls hR hlc hL
  obtain ⟨hx, hb, hml, hown, hts, hW, -, -, -, -, hE, -⟩ := hC
  obtain ⟨cell, h1, h2, h3, h4, h5, h6, h7⟩ := (va_T.moved hW.alike hF).kept (fun a h _ => hR.2.2.1 a h)
  exact W.alen (n := Int32.ofNat bs.length) hx hb h1 h2 h5 rfl rfl hd (k H locs cells slots ls hR hlc hL)
theorem z_ialdI (hC : Cx C E cc nL own nm ret hh d) {v : Nat} {bs : List Int32} {j : Int32} (hF : FI E v bs) (hd : decode cc pc = .ok (.iaload, 1)) (hj : vp_in j bs.length) (k : zz C E n nL σ (pc + 1) L (.int (bs.getD (ix j) 0) :: st)) : zz C E n nL σ pc L (.int j :: .ref v :: st) := by
  obtain ⟨p, l, e, R, s, m, args, below, meth, c, Qo⟩ := C
  intro H locs cells slots ls hR hlc hL
  obtain ⟨hx, hb, hml, hown, hts, hW, -, -, -, -, hE, -⟩ := hC
  obtain ⟨cell, h1, h2, h3, h4, h5, h6, h7⟩ := (va_T.moved hW.alike hF).kept (fun a h _ => hR.2.2.1 a h)
  have hlt := ix_lt hj
  refine W.iald (v := .int (bs.getD (ix j) 0)) hx hb h1 h2 h3 ?_ (h6 _ hlt) rfl rfl hd (k H locs cells slots ls hR hlc hL)
  rintro (h | h)
  · exact hj (Or.inl h)
  · have : j.toNatClampNeg < bs.length := hlt
    omega
end ZSC
