/-! rows: casts, arraycopy -/
set_option maxRecDepth 100000
def cI (σ : ZS) (b a sp dp n : Nat) : ZS := (fun c j => if c = a then va_cpy (σ.1 b) (σ.1 a) sp dp n j else σ.1 c j, σ.2)
def cJ (σ : ZS) (b a sp dp n : Nat) : ZS := (σ.1, fun c j => if c = a then va_cpy (σ.2.1 b) (σ.2.1 a) sp dp n j else σ.2.1 c j, σ.2.2)
theorem zI_cI (σ : ZS) (b a sp dp n c j : Nat) : zI (cI σ b a sp dp n) c j = if c = a then va_cpy (zI σ b) (zI σ a) sp dp n j else zI σ c j := rfl
theorem zJ_cJ (σ : ZS) (b a sp dp n c j : Nat) : zJ (cJ σ b a sp dp n) c j = if c = a then va_cpy (zJ σ b) (zJ σ a) sp dp n j else zJ σ c j := rfl
theorem zJ_cI (σ : ZS) (b a sp dp n c j : Nat) : zJ (cI σ b a sp dp n) c j = zJ σ c j := rfl
theorem zI_cJ (σ : ZS) (b a sp dp n c j : Nat) : zI (cJ σ b a sp dp n) c j = zI σ c j := rfl
section ZCP
variable {C : ZC} {E : ZE} {cc : ByteArray} {n nL pc d : Nat} {own nm : String} {ret : Option FieldType} {hh : List (Nat × Nat × Nat × Nat)} {σ : ZS} {L : List (Option Value)} {st : List Value}
theorem z_cast (hC : Cx C E cc nL own nm ret hh d) {idx a ci x N : Nat} {Cn : String} {T : u_T} {ty : Nat → FieldType} (cf : CF ci Cn T N ty) (hd : decode cc pc = .ok (.checkcast idx, 3)) (hk : kK n σ a = (ci + 7, x)) (hl : Cond.classLink own idx Cn ∈ lw_all) (k : zz C E n nL σ (pc + 3) L (.ref (E.1.heap.size + a) :: st)) : zz C E n nL σ pc L (.ref (E.1.heap.size + a) :: st) := by
  obtain ⟨p, l, e, R, s, m, args, below, meth, c, Qo⟩ := C
  intro H locs cells slots ls hR hlc hL
  obtain ⟨hx, hb, hml, hown, hts, hW, -, -, -, -, hE, -⟩ := hC
  obtain ⟨c1, c2, c3, c4, c5, c6⟩ := cf
  have hat := hR.1 a (hR.lt hk (by show ci + 7 ≠ 1000; omega))
  rw [ent_o hk] at hat
  exact va_castS hx hb hown (hts _ hl) ((zK_at hE hW).1 ci _ c1).2 (va_recv (zK_at hE hW) (va_1 hat) (q0 := 0) c1 rfl) hd (k H locs cells slots ls hR hlc hL)

theorem z_copy0 (hC : Cx C E cc nL own nm ret hh d) {idx a b n0 n1 : Nat} {sp dp m : Int32} (hd : decode cc pc = .ok (.invokestatic idx, 3)) (hl : Cond.methodLink own idx arraycopyName ∈ lw_all) (hdd : 2 ≤ d) (hks : kK n σ b = (0, n0)) (hkd : kK n σ a = (0, n1)) (h1 : ¬ sp < 0) (h2 : ¬ dp < 0) (h3 : ¬ m < 0) (h4 : ix sp + ix m ≤ n0) (h5 : ix dp + ix m ≤ n1) (hW8 : (st.map fun v => v.category).sum ≤ 8)
    (k : zz C E n nL (cI σ b a (ix sp) (ix dp) (ix m)) (pc + 3) L st) : zz C E n nL σ pc L (.int m :: .int dp :: .ref (E.1.heap.size + a) :: .int sp :: .ref (E.1.heap.size + b) :: st) := by
  obtain ⟨p, l, e, R, s, mm, args, below, meth, c, Qo⟩ := C
  intro H locs cells slots ls hR hlc hL
  obtain ⟨hx, hb, hml, hown, hts, hW, -, -, -, -, hE, -, -, -, hfr, hlo, hfl⟩ := hC
  have hK := zK_at hE hW
  have ha := hR.lt hkd (by simp)
  have hc0 := hR.1 b (hR.lt hks (by simp))
  have hc1 := hR.1 a ha
  rw [ent_0 hks] at hc0
  rw [ent_0 hkd] at hc1
  have nn : ∀ z : Int32, ¬ z < 0 → z.toInt = (z.toNatClampNeg : Int) := by
    intro z hz
    have hz0 : (0 : Int) ≤ z.toInt := by
      have := Int32.not_lt.mp hz
      simpa using Int32.le_iff_toInt_le.mp this
    show z.toInt = ((z.toInt.toNat : Nat) : Int)
    omega
  have h4' : sp.toNatClampNeg + m.toNatClampNeg ≤ n0 := h4
  have h5' : dp.toNatClampNeg + m.toNatClampNeg ≤ n1 := h5
  have hnfw : nativeFrameWords "java/lang/System" "arraycopy" 5 ≤ 40 := by decide +kernel
  intro T hT X
  obtain ⟨-, k0, hk0, cm0, hkk0⟩ := (hK.2 0 _ rfl).1 n0 (fun j => .int (zI σ b j))
  obtain ⟨vm', X', step⟩ := X.arraycopy hx hown (hts _ hl) (hts _ q299) (hts _ q298) (hts _ q132) (src := E.1.heap.size + b) (dst := E.1.heap.size + a) (cs := vp_cell (E.2.2 0) (n0, .inl (zI σ b))) (cd := vp_cell (E.2.2 0) (n1, .inl (zI σ a))) (srcPos := sp) (destPos := dp) (n := m) (by rw [hT]; exact hc0) (by rw [hT]; exact hc1)
    (fun _ h => by cases h) (fun _ h => by cases h) (fun h => by cases h) (fun h => by cases h) hk0 hk0 hkk0 hkk0 (by simp [refKind, aty]) h1 h2 h3
    (by rw [nn sp h1, nn m h3]; show ¬ _ > ((arrV (E.2.2 0) n0 (fun j => .int (zI σ b j))).slots.size : Int); rw [arrV_size]; omega)
    (by rw [nn dp h2, nn m h3]; show ¬ _ > ((arrV (E.2.2 0) n1 (fun j => .int (zI σ a j))).slots.size : Int); rw [arrV_size]; omega)
    (fun vm₁ _ i hi => by
      have e : (vp_cell (E.2.2 0) (n0, .inl (zI σ b))).slots.getD (sp.toNatClampNeg + i) .null = .int (zI σ b (sp.toNatClampNeg + i)) := by
        show (arrV (E.2.2 0) n0 (fun j => .int (zI σ b j))).slots.getD _ _ = _
        rw [Array.getD_eq_getD_getElem?, arrV_read _ _ (by omega)]
        rfl
      refine ⟨?_, ?_⟩
      · rw [e]
        rfl
      · rw [e]
        exact trivial)
    (g := F0 mm pc ls (.int m :: .int dp :: .ref (E.1.heap.size + a) :: .int sp :: .ref (E.1.heap.size + b) :: st)) rfl (by rw [hml]; exact hL.1) (rest := st) rfl (by rw [hb]; exact hd) (by omega) (by show 2 * 0 + _ + (_ + 11) ≤ _; omega)
  have e1 : copied (vp_cell (E.2.2 0) (n0, .inl (zI σ b))) (vp_cell (E.2.2 0) (n1, .inl (zI σ a))) sp dp m = vp_cell (E.2.2 0) (n1, .inl (va_cpy (zI σ b) (zI σ a) sp.toNatClampNeg dp.toNatClampNeg m.toNatClampNeg)) := va_copied (fun z => .int z) (E.2.2 0) (E.2.2 0) (zI σ b) (zI σ a) h4
  rw [e1] at X' step
  have hlt : E.1.heap.size + a < H.size := (Array.getElem?_eq_some_iff.mp hc1).1
  have hheap : ((T.setVm vm').setCell (E.1.heap.size + a) (vp_cell (E.2.2 0) (n1, .inl (va_cpy (zI σ b) (zI σ a) sp.toNatClampNeg dp.toNatClampNeg m.toNatClampNeg)))).heap = H.setIfInBounds (E.1.heap.size + a) (vp_cell (E.2.2 0) (n1, .inl (va_cpy (zI σ b) (zI σ a) sp.toNatClampNeg dp.toNatClampNeg m.toNatClampNeg))) := by rw [← hT]; rfl
  have oq : ∀ q : Nat, q ≠ E.1.heap.size + a → (H.setIfInBounds (E.1.heap.size + a) (vp_cell (E.2.2 0) (n1, .inl (va_cpy (zI σ b) (zI σ a) sp.toNatClampNeg dp.toNatClampNeg m.toNatClampNeg))))[q]? = H[q]? := fun q hq => by simp [Array.getElem?_setIfInBounds, Ne.symm hq]
  have hself : (H.setIfInBounds (E.1.heap.size + a) (vp_cell (E.2.2 0) (n1, .inl (va_cpy (zI σ b) (zI σ a) sp.toNatClampNeg dp.toNatClampNeg m.toNatClampNeg))))[E.1.heap.size + a]? = some (vp_cell (E.2.2 0) (n1, .inl (va_cpy (zI σ b) (zI σ a) sp.toNatClampNeg dp.toNatClampNeg m.toNatClampNeg))) := by simp [Array.getElem?_setIfInBounds, hlt]
  have hR' : Rl E n (cI σ b a (ix sp) (ix dp) (ix m)) (H.setIfInBounds (E.1.heap.size + a) (vp_cell (E.2.2 0) (n1, .inl (va_cpy (zI σ b) (zI σ a) sp.toNatClampNeg dp.toNatClampNeg m.toNatClampNeg)))) := by
    refine Rl_upd hR ha rfl rfl (fun _ => rfl) (fun q hq => ent_congr rfl (fun i => by rw [zI_cI, if_neg hq]) (fun _ => rfl) (fun _ => rfl)) ?_ (by simp) oq ?_
    · rw [ent_0 (show kK n (cI σ b a (ix sp) (ix dp) (ix m)) a = (0, n1) from hkd)]
      have e2 : zI (cI σ b a (ix sp) (ix dp) (ix m)) a = va_cpy (zI σ b) (zI σ a) (ix sp) (ix dp) (ix m) := by
        funext q
        rw [zI_cI, if_pos rfl]
      rw [e2]
      exact hself
    · refine hsum_congr (by simp) fun q => ?_
      by_cases h : q = E.1.heap.size + a
      · subst h
        rw [hself, hc1]
        show some (arrV _ _ _).slots.size = some (arrV _ _ _).slots.size
        rw [arrV_size, arrV_size]
      · rw [oq q h]
  obtain ⟨t, a1, b1⟩ := k _ _ cells slots ls hR' (fun q hq => by
      rcases List.mem_append.mp hq with h | h
      · exact hlc q h
      · obtain ⟨z, -, hz⟩ := List.mem_map.mp h
        rw [← hz]
        exact Nat.le_add_right _ _) hL _ hheap X'
  exact ⟨t, step t a1, b1⟩
theorem z_copy1 (hC : Cx C E cc nL own nm ret hh d) {idx a b n0 n1 : Nat} {sp dp m : Int32} (hd : decode cc pc = .ok (.invokestatic idx, 3)) (hl : Cond.methodLink own idx arraycopyName ∈ lw_all) (hdd : 2 ≤ d) (hks : kK n σ b = (1, n0)) (hkd : kK n σ a = (1, n1)) (h1 : ¬ sp < 0) (h2 : ¬ dp < 0) (h3 : ¬ m < 0) (h4 : ix sp + ix m ≤ n0) (h5 : ix dp + ix m ≤ n1) (hW8 : (st.map fun v => v.category).sum ≤ 8)
    (k : zz C E n nL (cJ σ b a (ix sp) (ix dp) (ix m)) (pc + 3) L st) : zz C E n nL σ pc L (.int m :: .int dp :: .ref (E.1.heap.size + a) :: .int sp :: .ref (E.1.heap.size + b) :: st) := by
  obtain ⟨p, l, e, R, s, mm, args, below, meth, c, Qo⟩ := C
  intro H locs cells slots ls hR hlc hL
  obtain ⟨hx, hb, hml, hown, hts, hW, -, -, -, -, hE, -, -, -, hfr, hlo, hfl⟩ := hC
  have hK := zK_at hE hW
  have ha := hR.lt hkd (by simp)
  have hc0 := hR.1 b (hR.lt hks (by simp))
  have hc1 := hR.1 a ha
  rw [ent_1 hks] at hc0
  rw [ent_1 hkd] at hc1
  have nn : ∀ z : Int32, ¬ z < 0 → z.toInt = (z.toNatClampNeg : Int) := by
    intro z hz
    have hz0 : (0 : Int) ≤ z.toInt := by
      have := Int32.not_lt.mp hz
      simpa using Int32.le_iff_toInt_le.mp this
    show z.toInt = ((z.toInt.toNat : Nat) : Int)
    omega
  have h4' : sp.toNatClampNeg + m.toNatClampNeg ≤ n0 := h4
  have h5' : dp.toNatClampNeg + m.toNatClampNeg ≤ n1 := h5
  have hnfw : nativeFrameWords "java/lang/System" "arraycopy" 5 ≤ 40 := by decide +kernel
  intro T hT X
  obtain ⟨-, k0, hk0, cm0, hkk0⟩ := (hK.2 1 _ rfl).1 n0 (fun j => .long (zJ σ b j))
  obtain ⟨vm', X', step⟩ := X.arraycopy hx hown (hts _ hl) (hts _ q299) (hts _ q298) (hts _ q132) (src := E.1.heap.size + b) (dst := E.1.heap.size + a) (cs := vp_cell (E.2.2 1) (n0, .inr (.inl (zJ σ b)))) (cd := vp_cell (E.2.2 1) (n1, .inr (.inl (zJ σ a)))) (srcPos := sp) (destPos := dp) (n := m) (by rw [hT]; exact hc0) (by rw [hT]; exact hc1)
    (fun _ h => by cases h) (fun _ h => by cases h) (fun h => by cases h) (fun h => by cases h) hk0 hk0 hkk0 hkk0 (by simp [refKind, aty]) h1 h2 h3
    (by rw [nn sp h1, nn m h3]; show ¬ _ > ((arrV (E.2.2 1) n0 (fun j => .long (zJ σ b j))).slots.size : Int); rw [arrV_size]; omega)
    (by rw [nn dp h2, nn m h3]; show ¬ _ > ((arrV (E.2.2 1) n1 (fun j => .long (zJ σ a j))).slots.size : Int); rw [arrV_size]; omega)
    (fun vm₁ _ i hi => by
      have e : (vp_cell (E.2.2 1) (n0, .inr (.inl (zJ σ b)))).slots.getD (sp.toNatClampNeg + i) .null = .long (zJ σ b (sp.toNatClampNeg + i)) := by
        show (arrV (E.2.2 1) n0 (fun j => .long (zJ σ b j))).slots.getD _ _ = _
        rw [Array.getD_eq_getD_getElem?, arrV_read _ _ (by omega)]
        rfl
      refine ⟨?_, ?_⟩
      · rw [e]
        rfl
      · rw [e]
        exact trivial)
    (g := F0 mm pc ls (.int m :: .int dp :: .ref (E.1.heap.size + a) :: .int sp :: .ref (E.1.heap.size + b) :: st)) rfl (by rw [hml]; exact hL.1) (rest := st) rfl (by rw [hb]; exact hd) (by omega) (by show 2 * 0 + _ + (_ + 11) ≤ _; omega)
  have e1 : copied (vp_cell (E.2.2 1) (n0, .inr (.inl (zJ σ b)))) (vp_cell (E.2.2 1) (n1, .inr (.inl (zJ σ a)))) sp dp m = vp_cell (E.2.2 1) (n1, .inr (.inl (va_cpy (zJ σ b) (zJ σ a) sp.toNatClampNeg dp.toNatClampNeg m.toNatClampNeg))) := va_copied (fun z => .long z) (E.2.2 1) (E.2.2 1) (zJ σ b) (zJ σ a) h4
  rw [e1] at X' step
  have hlt : E.1.heap.size + a < H.size := (Array.getElem?_eq_some_iff.mp hc1).1
  have hheap : ((T.setVm vm').setCell (E.1.heap.size + a) (vp_cell (E.2.2 1) (n1, .inr (.inl (va_cpy (zJ σ b) (zJ σ a) sp.toNatClampNeg dp.toNatClampNeg m.toNatClampNeg))))).heap = H.setIfInBounds (E.1.heap.size + a) (vp_cell (E.2.2 1) (n1, .inr (.inl (va_cpy (zJ σ b) (zJ σ a) sp.toNatClampNeg dp.toNatClampNeg m.toNatClampNeg)))) := by rw [← hT]; rfl
  have oq : ∀ q : Nat, q ≠ E.1.heap.size + a → (H.setIfInBounds (E.1.heap.size + a) (vp_cell (E.2.2 1) (n1, .inr (.inl (va_cpy (zJ σ b) (zJ σ a) sp.toNatClampNeg dp.toNatClampNeg m.toNatClampNeg)))))[q]? = H[q]? := fun q hq => by simp [Array.getElem?_setIfInBounds, Ne.symm hq]
  have hself : (H.setIfInBounds (E.1.heap.size + a) (vp_cell (E.2.2 1) (n1, .inr (.inl (va_cpy (zJ σ b) (zJ σ a) sp.toNatClampNeg dp.toNatClampNeg m.toNatClampNeg)))))[E.1.heap.size + a]? = some (vp_cell (E.2.2 1) (n1, .inr (.inl (va_cpy (zJ σ b) (zJ σ a) sp.toNatClampNeg dp.toNatClampNeg m.toNatClampNeg)))) := by simp [Array.getElem?_setIfInBounds, hlt]
  have hR' : Rl E n (cJ σ b a (ix sp) (ix dp) (ix m)) (H.setIfInBounds (E.1.heap.size + a) (vp_cell (E.2.2 1) (n1, .inr (.inl (va_cpy (zJ σ b) (zJ σ a) sp.toNatClampNeg dp.toNatClampNeg m.toNatClampNeg))))) := by
    refine Rl_upd hR ha rfl rfl (fun _ => rfl) (fun q hq => ent_congr rfl (fun _ => rfl) (fun i => by rw [zJ_cJ, if_neg hq]) (fun _ => rfl)) ?_ (by simp) oq ?_
    · rw [ent_1 (show kK n (cJ σ b a (ix sp) (ix dp) (ix m)) a = (1, n1) from hkd)]
      have e2 : zJ (cJ σ b a (ix sp) (ix dp) (ix m)) a = va_cpy (zJ σ b) (zJ σ a) (ix sp) (ix dp) (ix m) := by
        funext q
        rw [zJ_cJ, if_pos rfl]
      rw [e2]
      exact hself
    · refine hsum_congr (by simp) fun q => ?_
      by_cases h : q = E.1.heap.size + a
      · subst h
        rw [hself, hc1]
        show some (arrV _ _ _).slots.size = some (arrV _ _ _).slots.size
        rw [arrV_size, arrV_size]
      · rw [oq q h]
  obtain ⟨t, a1, b1⟩ := k _ _ cells slots ls hR' (fun q hq => by
      rcases List.mem_append.mp hq with h | h
      · exact hlc q h
      · obtain ⟨z, -, hz⟩ := List.mem_map.mp h
        rw [← hz]
        exact Nat.le_add_right _ _) hL _ hheap X'
  exact ⟨t, step t a1, b1⟩
theorem z_copy2 (hC : Cx C E cc nL own nm ret hh d) {idx a b n0 n1 : Nat} {sp dp m : Int32} (hd : decode cc pc = .ok (.invokestatic idx, 3)) (hl : Cond.methodLink own idx arraycopyName ∈ lw_all) (hdd : 2 ≤ d) (hks : kK n σ b = (2, n0)) (hkd : kK n σ a = (2, n1)) (h1 : ¬ sp < 0) (h2 : ¬ dp < 0) (h3 : ¬ m < 0) (h4 : ix sp + ix m ≤ n0) (h5 : ix dp + ix m ≤ n1) (hfit : ∀ i, i < ix m → fits .byte (.int (zI σ b (ix sp + i))) = true) (hW8 : (st.map fun v => v.category).sum ≤ 8)
    (k : zz C E n nL (cI σ b a (ix sp) (ix dp) (ix m)) (pc + 3) L st) : zz C E n nL σ pc L (.int m :: .int dp :: .ref (E.1.heap.size + a) :: .int sp :: .ref (E.1.heap.size + b) :: st) := by
  obtain ⟨p, l, e, R, s, mm, args, below, meth, c, Qo⟩ := C
  intro H locs cells slots ls hR hlc hL
  obtain ⟨hx, hb, hml, hown, hts, hW, -, -, -, -, hE, -, -, -, hfr, hlo, hfl⟩ := hC
  have hK := zK_at hE hW
  have ha := hR.lt hkd (by simp)
  have hc0 := hR.1 b (hR.lt hks (by simp))
  have hc1 := hR.1 a ha
  rw [ent_2 hks] at hc0
  rw [ent_2 hkd] at hc1
  have nn : ∀ z : Int32, ¬ z < 0 → z.toInt = (z.toNatClampNeg : Int) := by
    intro z hz
    have hz0 : (0 : Int) ≤ z.toInt := by
      have := Int32.not_lt.mp hz
      simpa using Int32.le_iff_toInt_le.mp this
    show z.toInt = ((z.toInt.toNat : Nat) : Int)
    omega
  have h4' : sp.toNatClampNeg + m.toNatClampNeg ≤ n0 := h4
  have h5' : dp.toNatClampNeg + m.toNatClampNeg ≤ n1 := h5
  have hnfw : nativeFrameWords "java/lang/System" "arraycopy" 5 ≤ 40 := by decide +kernel
  intro T hT X
  obtain ⟨-, k0, hk0, cm0, hkk0⟩ := (hK.2 2 _ rfl).1 n0 (fun j => .int (zI σ b j))
  obtain ⟨vm', X', step⟩ := X.arraycopy hx hown (hts _ hl) (hts _ q299) (hts _ q298) (hts _ q132) (src := E.1.heap.size + b) (dst := E.1.heap.size + a) (cs := vp_cell (E.2.2 2) (n0, .inl (zI σ b))) (cd := vp_cell (E.2.2 2) (n1, .inl (zI σ a))) (srcPos := sp) (destPos := dp) (n := m) (by rw [hT]; exact hc0) (by rw [hT]; exact hc1)
    (fun _ h => by cases h) (fun _ h => by cases h) (fun h => by cases h) (fun h => by cases h) hk0 hk0 hkk0 hkk0 (by simp [refKind, aty]) h1 h2 h3
    (by rw [nn sp h1, nn m h3]; show ¬ _ > ((arrV (E.2.2 2) n0 (fun j => .int (zI σ b j))).slots.size : Int); rw [arrV_size]; omega)
    (by rw [nn dp h2, nn m h3]; show ¬ _ > ((arrV (E.2.2 2) n1 (fun j => .int (zI σ a j))).slots.size : Int); rw [arrV_size]; omega)
    (fun vm₁ _ i hi => by
      have e : (vp_cell (E.2.2 2) (n0, .inl (zI σ b))).slots.getD (sp.toNatClampNeg + i) .null = .int (zI σ b (sp.toNatClampNeg + i)) := by
        show (arrV (E.2.2 2) n0 (fun j => .int (zI σ b j))).slots.getD _ _ = _
        rw [Array.getD_eq_getD_getElem?, arrV_read _ _ (by omega)]
        rfl
      refine ⟨?_, ?_⟩
      · rw [e]
        exact hfit i hi
      · rw [e]
        exact trivial)
    (g := F0 mm pc ls (.int m :: .int dp :: .ref (E.1.heap.size + a) :: .int sp :: .ref (E.1.heap.size + b) :: st)) rfl (by rw [hml]; exact hL.1) (rest := st) rfl (by rw [hb]; exact hd) (by omega) (by show 2 * 0 + _ + (_ + 11) ≤ _; omega)
  have e1 : copied (vp_cell (E.2.2 2) (n0, .inl (zI σ b))) (vp_cell (E.2.2 2) (n1, .inl (zI σ a))) sp dp m = vp_cell (E.2.2 2) (n1, .inl (va_cpy (zI σ b) (zI σ a) sp.toNatClampNeg dp.toNatClampNeg m.toNatClampNeg)) := va_copied (fun z => .int z) (E.2.2 2) (E.2.2 2) (zI σ b) (zI σ a) h4
  rw [e1] at X' step
  have hlt : E.1.heap.size + a < H.size := (Array.getElem?_eq_some_iff.mp hc1).1
  have hheap : ((T.setVm vm').setCell (E.1.heap.size + a) (vp_cell (E.2.2 2) (n1, .inl (va_cpy (zI σ b) (zI σ a) sp.toNatClampNeg dp.toNatClampNeg m.toNatClampNeg)))).heap = H.setIfInBounds (E.1.heap.size + a) (vp_cell (E.2.2 2) (n1, .inl (va_cpy (zI σ b) (zI σ a) sp.toNatClampNeg dp.toNatClampNeg m.toNatClampNeg))) := by rw [← hT]; rfl
  have oq : ∀ q : Nat, q ≠ E.1.heap.size + a → (H.setIfInBounds (E.1.heap.size + a) (vp_cell (E.2.2 2) (n1, .inl (va_cpy (zI σ b) (zI σ a) sp.toNatClampNeg dp.toNatClampNeg m.toNatClampNeg))))[q]? = H[q]? := fun q hq => by simp [Array.getElem?_setIfInBounds, Ne.symm hq]
  have hself : (H.setIfInBounds (E.1.heap.size + a) (vp_cell (E.2.2 2) (n1, .inl (va_cpy (zI σ b) (zI σ a) sp.toNatClampNeg dp.toNatClampNeg m.toNatClampNeg))))[E.1.heap.size + a]? = some (vp_cell (E.2.2 2) (n1, .inl (va_cpy (zI σ b) (zI σ a) sp.toNatClampNeg dp.toNatClampNeg m.toNatClampNeg))) := by simp [Array.getElem?_setIfInBounds, hlt]
  have hR' : Rl E n (cI σ b a (ix sp) (ix dp) (ix m)) (H.setIfInBounds (E.1.heap.size + a) (vp_cell (E.2.2 2) (n1, .inl (va_cpy (zI σ b) (zI σ a) sp.toNatClampNeg dp.toNatClampNeg m.toNatClampNeg)))) := by
    refine Rl_upd hR ha rfl rfl (fun _ => rfl) (fun q hq => ent_congr rfl (fun i => by rw [zI_cI, if_neg hq]) (fun _ => rfl) (fun _ => rfl)) ?_ (by simp) oq ?_
    · rw [ent_2 (show kK n (cI σ b a (ix sp) (ix dp) (ix m)) a = (2, n1) from hkd)]
      have e2 : zI (cI σ b a (ix sp) (ix dp) (ix m)) a = va_cpy (zI σ b) (zI σ a) (ix sp) (ix dp) (ix m) := by
        funext q
        rw [zI_cI, if_pos rfl]
      rw [e2]
      exact hself
    · refine hsum_congr (by simp) fun q => ?_
      by_cases h : q = E.1.heap.size + a
      · subst h
        rw [hself, hc1]
        show some (arrV _ _ _).slots.size = some (arrV _ _ _).slots.size
        rw [arrV_size, arrV_size]
      · rw [oq q h]
  obtain ⟨t, a1, b1⟩ := k _ _ cells slots ls hR' (fun q hq => by
      rcases List.mem_append.mp hq with h | h
      · exact hlc q h
      · obtain ⟨z, -, hz⟩ := List.mem_map.mp h
        rw [← hz]
        exact Nat.le_add_right _ _) hL _ hheap X'
  exact ⟨t, step t a1, b1⟩
end ZCP
