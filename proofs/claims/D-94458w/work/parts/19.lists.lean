/-! rows of lists of Corners, Streets, Riders -/
set_option maxRecDepth 100000
/-- an own Corner, Street or Rider -/
def isEl (n : Nat) (σ : ZS) (b : Nat) : Prop := (kK n σ b).1 = 13 ∨ (kK n σ b).1 = 14 ∨ (kK n σ b).1 = 15
def cP (n : Nat) (σ : ZS) (b a sp dp m : Nat) : ZS := (σ.1, σ.2.1, fun c j => if c = a then va_cpy (kP n σ b) (σ.2.2.1 a) sp dp m j else σ.2.2.1 c j, σ.2.2.2)
section ZL
variable {C : ZC} {E : ZE} {cc : ByteArray} {n nL pc d : Nat} {own nm : String} {ret : Option FieldType} {hh : List (Nat × Nat × Nat × Nat)} {σ : ZS} {L : List (Option Value)} {st : List Value}
theorem z_aastE (hC : Cx C E cc nL own nm ret hh d) (hd : decode cc pc = .ok (.aastore, 1)) {a len b : Nat} {j : Int32} (hk : kK n σ a = (6, len)) (hb : isEl n σ b) (hj : vp_in j len) (hf : pfree n a (ix j)) (k : zz C E n nL (sP σ a (ix j) (some (.inl b))) (pc + 1) L st) : zz C E n nL σ pc L (.ref (E.1.heap.size + b) :: .int j :: .ref (E.1.heap.size + a) :: st) := by
  rcases hb with h | h | h
  · exact z_aast6 hC hd hk cf6 q2226 (ci := 6) (x := (kK n σ b).2) (Prod.ext h rfl) hj hf k
  · exact z_aast6 hC hd hk cf7 q2227 (ci := 7) (x := (kK n σ b).2) (Prod.ext h rfl) hj hf k
  · exact z_aast6 hC hd hk cf8 q2228 (ci := 8) (x := (kK n σ b).2) (Prod.ext h rfl) hj hf k
theorem el_any {E : ZE} {H : Heap} {s : State} (hE : EOK E) (hW : E.1.WarmedH s.vm) (hR : Rl E n σ H) {b : Nat} (h : isEl n σ b) : va_Any "java/lang/Object" s H (E.1.heap.size + b) := by
  have key : ∀ (ci : Nat) (Cn : String) (T : u_T) (N : Nat) (ty : Nat → FieldType), CF ci Cn T N ty → Cond.castable Cn "java/lang/Object" ∈ lw_tbl → kK n σ b = (ci + 7, (kK n σ b).2) → va_Any "java/lang/Object" s H (E.1.heap.size + b) := by
    intro ci Cn T N ty cf hcast hkb
    obtain ⟨c1, c2, c3, c4, c5, c6⟩ := cf
    have hatb := hR.1 b (hR.lt hkb (by show ci + 7 ≠ 1000; omega))
    rw [ent_o hkb] at hatb
    have hcs : (Cond.castable Cn "java/lang/Object").before #[] s = true := by
      obtain ⟨-, bb, t1, -⟩ := id hE
      exact va_Nw.use rfl (va_Nw.warmC hW (va_Nw.of rfl (t1 _ hcast)))
    obtain ⟨c0, t0, f1, f2, f3⟩ := Cond.castable_spec hcs
    refine va_rAny (zK_at hE hW) (va_1 hatb) (q0 := 0) rfl c1 (fun comp c00 g1 g2 => ?_)
    cases f2.symm.trans g1
    cases f1.symm.trans g2
    exact f3
  rcases h with h | h | h
  · exact key 6 _ _ _ _ cf6 q2226 (Prod.ext h rfl)
  · exact key 7 _ _ _ _ cf7 q2227 (Prod.ext h rfl)
  · exact key 8 _ _ _ _ cf8 q2228 (Prod.ext h rfl)
theorem z_copy6 (hC : Cx C E cc nL own nm ret hh d) {idx a b n0 n1 : Nat} {sp dp m : Int32} (hd : decode cc pc = .ok (.invokestatic idx, 3)) (hl : Cond.methodLink own idx arraycopyName ∈ lw_all) (hdd : 2 ≤ d) (hks : kK n σ b = (6, n0)) (hkd : kK n σ a = (6, n1)) (hna : n ≤ a) (h1 : ¬ sp < 0) (h2 : ¬ dp < 0) (h3 : ¬ m < 0) (h4 : ix sp + ix m ≤ n0) (h5 : ix dp + ix m ≤ n1) (hel : ∀ i, i < ix m → ∃ q, kP n σ b (ix sp + i) = some (.inl q) ∧ isEl n σ q) (hW8 : (st.map fun v => v.category).sum ≤ 8)
    (k : zz C E n nL (cP n σ b a (ix sp) (ix dp) (ix m)) (pc + 3) L st) : zz C E n nL σ pc L (.int m :: .int dp :: .ref (E.1.heap.size + a) :: .int sp :: .ref (E.1.heap.size + b) :: st) := by
  obtain ⟨p, l, e, R, s, mm, args, below, meth, c, Qo⟩ := C
  intro H locs cells slots ls hR hlc hL
  obtain ⟨hx, hb, hml, hown, hts, hW, -, -, -, -, hE, -, -, -, hfr, hlo, hfl⟩ := hC
  have hK := zK_at hE hW
  have ha := hR.lt hkd (by simp)
  have hc0 := hR.1 b (hR.lt hks (by simp))
  have hc1 := hR.1 a ha
  rw [ent_6 hks] at hc0
  rw [ent_6 hkd] at hc1
  have nn : ∀ z : Int32, ¬ z < 0 → z.toInt = (z.toNatClampNeg : Int) := by
    intro z hz
    have hz0 : (0 : Int) ≤ z.toInt := by
      have := Int32.not_lt.mp hz
      simpa using Int32.le_iff_toInt_le.mp this
    show z.toInt = ((z.toInt.toNat : Nat) : Int)
    omega
  have h4' : sp.toNatClampNeg + m.toNatClampNeg ≤ n0 := h4
  have h5' : dp.toNatClampNeg + m.toNatClampNeg ≤ n1 := h5
  have hnfw : nativeFrameWords "java/lang/System" "arraycopy" 5 ≤ 40 := by decide +kernel
  generalize hf : (fun i => zrf E.1.heap.size (kP n σ b i)) = f at hc0
  generalize hg : (fun i => zrf E.1.heap.size (kP n σ a i)) = g at hc1
  intro T hT X
  obtain ⟨-, k0, hk0, cm0, hkk0⟩ := (hK.2 6 _ rfl).1 n0 (fun j => va_rf (f j))
  obtain ⟨vm', X', step⟩ := X.arraycopy hx hown (hts _ hl) (hts _ q299) (hts _ q298) (hts _ q132) (src := E.1.heap.size + b) (dst := E.1.heap.size + a) (cs := vp_cell (E.2.2 6) (n0, .inr (.inr (.inr (.inr f))))) (cd := vp_cell (E.2.2 6) (n1, .inr (.inr (.inr (.inr g))))) (srcPos := sp) (destPos := dp) (n := m) (by rw [hT]; exact hc0) (by rw [hT]; exact hc1)
    (fun _ h => by cases h) (fun _ h => by cases h) (fun h => by cases h) (fun h => by cases h) hk0 hk0 hkk0 hkk0 rfl h1 h2 h3
    (by rw [nn sp h1, nn m h3]; show ¬ _ > ((arrV (E.2.2 6) n0 (fun j => va_rf (f j))).slots.size : Int); rw [arrV_size]; omega)
    (by rw [nn dp h2, nn m h3]; show ¬ _ > ((arrV (E.2.2 6) n1 (fun j => va_rf (g j))).slots.size : Int); rw [arrV_size]; omega)
    (fun vm₁ hal i hi => by
      have e : (vp_cell (E.2.2 6) (n0, .inr (.inr (.inr (.inr f))))).slots.getD (sp.toNatClampNeg + i) .null = va_rf (f (sp.toNatClampNeg + i)) := by
        show (arrV (E.2.2 6) n0 (fun j => va_rf (f j))).slots.getD _ _ = _
        rw [Array.getD_eq_getD_getElem?, arrV_read _ _ (by omega)]
        rfl
      rw [e]
      obtain ⟨q, hq1, hq2⟩ := hel i hi
      have hfq : f (sp.toNatClampNeg + i) = some (E.1.heap.size + q) := by
        rw [← hf]
        show zrf _ (kP n σ b (sp.toNatClampNeg + i)) = _
        have hq1' : kP n σ b (sp.toNatClampNeg + i) = some (.inl q) := hq1
        rw [hq1']
        rfl
      rw [hfq]
      obtain ⟨cellV, g1, g2, ⟨kC, hkC⟩, hasg⟩ := el_any hE hW hR hq2
      obtain ⟨kA, comp, r1, r2, r3, -⟩ := (hK.2 6 _ rfl).2
      cases hk0.symm.trans r1
      cases hkk0.symm.trans r2
      obtain ⟨kE, hkE, -⟩ := Vm.findClass_spec r3
      obtain ⟨kC', hkC', -⟩ := hal.2.2 _ _ hkC
      obtain ⟨kE', hkE', -⟩ := hal.2.2 _ _ hkE
      refine ⟨rfl, cellV, (show T.heap[_]? = some cellV by rw [hT]; exact g1), (fun q h => by rw [h] at g2; cases g2), ⟨kC', hkC'⟩, ?_, ?_⟩
      · exact ⟨kE', hkE'⟩
      · show vm₁.assignable _ _ = true
        rw [hal.assignable]
        exact hasg _ r3)
    (g := F0 mm pc ls (.int m :: .int dp :: .ref (E.1.heap.size + a) :: .int sp :: .ref (E.1.heap.size + b) :: st)) rfl (by rw [hml]; exact hL.1) (rest := st) rfl (by rw [hb]; exact hd) (by omega) (by show 2 * 0 + _ + (_ + 11) ≤ _; omega)
  have e1 : copied (vp_cell (E.2.2 6) (n0, .inr (.inr (.inr (.inr f))))) (vp_cell (E.2.2 6) (n1, .inr (.inr (.inr (.inr g))))) sp dp m = vp_cell (E.2.2 6) (n1, .inr (.inr (.inr (.inr (va_cpy f g sp.toNatClampNeg dp.toNatClampNeg m.toNatClampNeg))))) := by
    rw [vp_cell_q, vp_cell_q, vp_cell_q]
    exact va_copied (fun z => va_rf z) (E.2.2 6) (E.2.2 6) f g h4
  rw [e1] at X' step
  generalize hcl : vp_cell (E.2.2 6) (n1, .inr (.inr (.inr (.inr (va_cpy f g sp.toNatClampNeg dp.toNatClampNeg m.toNatClampNeg))))) = cl at X' step
  have hlt : E.1.heap.size + a < H.size := (Array.getElem?_eq_some_iff.mp hc1).1
  have hheap : ((T.setVm vm').setCell (E.1.heap.size + a) cl).heap = H.setIfInBounds (E.1.heap.size + a) cl := by rw [← hT]; rfl
  have oq : ∀ q : Nat, q ≠ E.1.heap.size + a → (H.setIfInBounds (E.1.heap.size + a) cl)[q]? = H[q]? := fun q hq => by simp [Array.getElem?_setIfInBounds, Ne.symm hq]
  have hself : (H.setIfInBounds (E.1.heap.size + a) cl)[E.1.heap.size + a]? = some cl := by simp [Array.getElem?_setIfInBounds, hlt]
  have hkPa : ∀ c j, kP n (cP n σ b a (ix sp) (ix dp) (ix m)) c j = if c = a then va_cpy (kP n σ b) (kP n σ a) (ix sp) (ix dp) (ix m) j else kP n σ c j := by
    intro c j
    by_cases hca : c = a
    · subst hca
      rw [if_pos rfl]
      have h00 : ¬ c < n := by omega
      unfold kP
      rw [if_neg h00]
      show (if c = c then va_cpy (kP n σ b) (σ.2.2.1 c) (ix sp) (ix dp) (ix m) j else σ.2.2.1 c j) = _
      rw [if_pos rfl]
      unfold va_cpy
      split
      · rfl
      · rfl
    · rw [if_neg hca]
      have : zP (cP n σ b a (ix sp) (ix dp) (ix m)) c j = zP σ c j := if_neg hca
      unfold kP
      rw [this]
  have hR' : Rl E n (cP n σ b a (ix sp) (ix dp) (ix m)) (H.setIfInBounds (E.1.heap.size + a) cl) := by
    refine Rl_upd hR ha rfl rfl (fun _ => rfl) (fun q hq => ent_congr rfl (fun _ => rfl) (fun _ => rfl) (fun j => by rw [hkPa, if_neg hq])) ?_ (by simp) oq ?_
    · rw [ent_6 (show kK n (cP n σ b a (ix sp) (ix dp) (ix m)) a = (6, n1) from hkd)]
      show _ = some (vp_cell _ _)
      rw [hself, ← hcl]
      congr 7
      funext j
      show _ = zrf _ (kP n (cP n σ b a (ix sp) (ix dp) (ix m)) a j)
      rw [hkPa, if_pos rfl]
      unfold va_cpy
      show (if _ then f _ else g _) = _
      split
      · rw [← hf]
      · rw [← hg]
    · refine hsum_congr (by simp) fun q => ?_
      by_cases h : q = E.1.heap.size + a
      · subst h
        rw [hself, hc1, ← hcl]
        show some (arrV _ _ _).slots.size = some (arrV _ _ _).slots.size
        rw [arrV_size, arrV_size]
      · rw [oq q h]
  obtain ⟨t, a1, b1⟩ := k _ _ cells slots ls hR' (fun q hq => by
      rcases List.mem_append.mp hq with h | h
      · exact hlc q h
      · obtain ⟨z, -, hz⟩ := List.mem_map.mp h
        rw [← hz]
        exact Nat.le_add_right _ _) hL _ hheap X'
  exact ⟨t, step t a1, b1⟩
/-! the class object of Object[] -/
theorem miO_at {E : ZE} (hE : EOK E) {s : State} (hW : E.1.WarmedH s.vm) : va_Mi "[Ljava/lang/Object;" (miO E) s := by
  have h : ∃ mi, va_Mi "[Ljava/lang/Object;" mi E.1 := by
    obtain ⟨b, hb⟩ := nar_of hE
    exact va_Mi.of (hb _ (by decide +kernel))
  have : miO E = Classical.choose h := by unfold miO; rw [dif_pos h]
  rw [this]
  exact va_Mi.moved hW.alike (Classical.choose_spec h)
theorem z_getClass (hC : Cx C E cc nL own nm ret hh d) {idx a len : Nat} (hd : decode cc pc = .ok (.invokevirtual idx, 3)) (hl : Cond.methodLink own idx ⟨"java/lang/Object", "getClass", "()Ljava/lang/Class;"⟩ ∈ lw_all) (hk : kK n σ a = (6, len)) (hdd : 1 ≤ d) (hW8 : (st.map fun v => v.category).sum ≤ 8) (k : zz C E n nL σ (pc + 3) L (.ref (miO E) :: st)) : zz C E n nL σ pc L (.ref (E.1.heap.size + a) :: st) := by
  obtain ⟨p, l, e, R, s, m, args, below, meth, c, Qo⟩ := C
  intro H locs cells slots ls hR hlc hL
  obtain ⟨hx, hb, hml, hown, hts, hW, -, -, -, -, hE, -, -, -, hfr, hlo, hfl⟩ := hC
  have hat := hR.1 a (hR.lt hk (by simp))
  rw [ent_6 hk] at hat
  have hdec : (Cond.declares ⟨"java/lang/Object", "getClass", "()Ljava/lang/Class;"⟩).before args s = true := by
    obtain ⟨-, bb, t1, -⟩ := id hE
    exact va_Dc.use (va_Dc.moved hW.alike (va_Dc.of (t1 _ q2235)))
  refine va_getC (C := "[Ljava/lang/Object;") hx hb (by rw [hml]; exact hL.1.symm) hown (hts _ hl) hdec (hts _ q2234) (hts _ q1010) (hts _ q1029) (miO_at hE hW) ⟨_, hat, rfl, ?_⟩ (by omega) (by omega) hd (k H locs cells slots ls hR hlc hL)
  exact va_nmO ((zK_at hE hW).2 6 _ rfl).2 (by decide +kernel)
theorem z_ldcM (hC : Cx C E cc nL own nm ret hh d) {idx : Nat} (hd : decode cc pc = .ok (.ldc idx, 2)) (hl : Cond.classLink own idx "[Ljava/lang/Object;" ∈ lw_all) (k : zz C E n nL σ (pc + 2) L (.ref (miO E) :: st)) : zz C E n nL σ pc L st := by
  obtain ⟨p, l, e, R, s, m, args, below, meth, c, Qo⟩ := C
  intro H locs cells slots ls hR hlc hL
  obtain ⟨hx, hb, hml, hown, hts, hW, -, -, -, -, hE, -⟩ := hC
  exact va_ldcM hx hb hown (hts _ hl) (miO_at hE hW) hd (k H locs cells slots ls hR hlc hL)
theorem z_acmpNeM (hC : Cx C E cc nL own nm ret hh d) {x : Nat} {off : Int} {tgt : Nat} (hd : decode cc pc = .ok (.if_acmp .ne off, 3)) (ht : (pc : Int) + off = (tgt : Int)) (k : zz C E n nL σ (pc + 3) L st) : zz C E n nL σ pc L (.ref x :: .ref x :: st) := by
  obtain ⟨p, l, e, R, s, m, args, below, meth, c, Qo⟩ := C
  intro H locs cells slots ls hR hlc hL
  exact lv_acmp_ne (rx := some x) (ry := some x) hC.1 hC.2.1 hd ht (fun q => absurd rfl q) (fun _ => k H locs cells slots ls hR hlc hL)
end ZL
