/-! rows: references that may be null or foreign, in locals -/
set_option maxRecDepth 100000
section ZM
variable {C : ZC} {E : ZE} {cc : ByteArray} {n nL pc d : Nat} {own nm : String} {ret : Option FieldType} {hh : List (Nat × Nat × Nat × Nat)} {σ : ZS} {L : List (Option Value)} {st : List Value}
theorem z_aload_nZ (hC : Cx C E cc nL own nm ret hh d) {j : Fin 4} {i : Nat} {r : ZR} (hd : decode cc pc = .ok (.aload_n j, 1)) (hi : (j : Nat) = i) (hx : L[i]? = some (some (pv E.1.heap.size r))) (k : zz C E n nL σ (pc + 1) L (pv E.1.heap.size r :: st)) : zz C E n nL σ pc L st := by
  obtain ⟨p, l, e, R, s, m, args, below, meth, c, Qo⟩ := C
  intro H locs cells slots ls hR hl hL
  rcases r with _ | a | q
  · exact lv_aload_nN hC.1 hC.2.1 hd hi (hL.2.2 _ _ hx) (k H locs cells slots ls hR hl hL)
  · exact lv_aload_n hC.1 hC.2.1 hd hi (hL.2.2 _ _ hx) (k H locs cells slots ls hR hl hL)
  · exact lv_aload_n hC.1 hC.2.1 hd hi (hL.2.2 _ _ hx) (k H locs cells slots ls hR hl hL)
theorem z_aloadZ (hC : Cx C E cc nL own nm ret hh d) {i : Nat} {r : ZR} (hd : decode cc pc = .ok (.aload i, 2)) (hx : L[i]? = some (some (pv E.1.heap.size r))) (k : zz C E n nL σ (pc + 2) L (pv E.1.heap.size r :: st)) : zz C E n nL σ pc L st := by
  obtain ⟨p, l, e, R, s, m, args, below, meth, c, Qo⟩ := C
  intro H locs cells slots ls hR hl hL
  rcases r with _ | a | q
  · exact lv_aloadN hC.1 hC.2.1 hd (hL.2.2 _ _ hx) (k H locs cells slots ls hR hl hL)
  · exact lv_aload hC.1 hC.2.1 hd (hL.2.2 _ _ hx) (k H locs cells slots ls hR hl hL)
  · exact lv_aload hC.1 hC.2.1 hd (hL.2.2 _ _ hx) (k H locs cells slots ls hR hl hL)
theorem z_astore_nZ (hC : Cx C E cc nL own nm ret hh d) {j : Fin 4} {i : Nat} {r : ZR} (hd : decode cc pc = .ok (.astore_n j, 1)) (hi : (j : Nat) = i) (hn : i < nL) (hp : okPrev L i = true) {L' : List (Option Value)} (hL' : L.set i (some (pv E.1.heap.size r)) = L') (k : zz C E n nL σ (pc + 1) L' st) : zz C E n nL σ pc L (pv E.1.heap.size r :: st) := by
  subst hL'
  subst hi
  obtain ⟨p, l, e, R, s, m, args, below, meth, c, Qo⟩ := C
  intro H locs cells slots ls hR hl hL
  obtain ⟨ls', e', h'⟩ := hL.store1 (v := pv E.1.heap.size r) hn (by rcases r with _ | a | q <;> rfl) hp
  obtain ⟨hexec, hb, -⟩ := hC
  intro T hT X
  obtain ⟨t, a, b⟩ := k H locs cells slots ls' hR hl h' T hT X
  refine ⟨t, ?_, b⟩
  rcases r with _ | a | q <;>
    (simp only [pv] at e' ⊢
     jvm_step X.here [X.here.top, ↓top_set X.here.top, hexec, hb, hd, e']
     first | exact ‹Steps _ _ _ _ _› | exact ⟨rfl, ‹Steps _ _ _ _ _›⟩)
theorem z_astoreZ (hC : Cx C E cc nL own nm ret hh d) {i : Nat} {r : ZR} (hd : decode cc pc = .ok (.astore i, 2)) (hn : i < nL) (hp : okPrev L i = true) {L' : List (Option Value)} (hL' : L.set i (some (pv E.1.heap.size r)) = L') (k : zz C E n nL σ (pc + 2) L' st) : zz C E n nL σ pc L (pv E.1.heap.size r :: st) := by
  subst hL'
  obtain ⟨p, l, e, R, s, m, args, below, meth, c, Qo⟩ := C
  intro H locs cells slots ls hR hl hL
  obtain ⟨ls', e', h'⟩ := hL.store1 (v := pv E.1.heap.size r) hn (by rcases r with _ | a | q <;> rfl) hp
  obtain ⟨hexec, hb, -⟩ := hC
  intro T hT X
  obtain ⟨t, a, b⟩ := k H locs cells slots ls' hR hl h' T hT X
  refine ⟨t, ?_, b⟩
  rcases r with _ | a | q <;>
    (simp only [pv] at e' ⊢
     jvm_step X.here [X.here.top, ↓top_set X.here.top, hexec, hb, hd, e']
     first | exact ‹Steps _ _ _ _ _› | exact ⟨rfl, ‹Steps _ _ _ _ _›⟩)

theorem zm_max : Lib.Math.max.code = prog_23_method_65_code := by decide +kernel
theorem z_mmax (hC : Cx C E cc nL own nm ret hh d) {idx : Nat} {x y : Int32} (hd : decode cc pc = .ok (.invokestatic idx, 3)) (hl : Cond.methodLink own idx ⟨"java/lang/Math", "max", "(II)I"⟩ ∈ lw_all) (hdd : 1 ≤ d) (hW8 : (st.map fun v => v.category).sum ≤ 8) (k : zz C E n nL σ (pc + 3) L (.int (if x < y then y else x) :: st)) : zz C E n nL σ pc L (.int y :: .int x :: st) := by
  have hC' := hC
  obtain ⟨p, l, e, R, s, m, args, below, meth, c, Qo⟩ := C
  intro H locs cells slots ls hR hlc hL
  refine W.exact fun hz hss => ?_
  obtain ⟨w1, w2⟩ := zcount hC' hR hz hss
  dsimp only at w1 w2
  obtain ⟨hx, hb, hml, hown, hts, hW, -, -, -, -, hE, -, -, -, hfr, hlo, hfl⟩ := hC
  exact va_mmax hx hb (by rw [hml]; exact hL.1.symm) hown (hts _ hl) (hts _ q277) (hts _ q130) (by rw [zm_max]; exact hts _ q278) (by omega) (by omega) (by omega) (by omega) hd (k H locs _ _ ls hR hlc hL)
theorem zm_min : Lib.Math.min.code = prog_23_method_69_code := by decide +kernel
theorem z_mmin (hC : Cx C E cc nL own nm ret hh d) {idx : Nat} {x y : Int32} (hd : decode cc pc = .ok (.invokestatic idx, 3)) (hl : Cond.methodLink own idx ⟨"java/lang/Math", "min", "(II)I"⟩ ∈ lw_all) (hdd : 1 ≤ d) (hW8 : (st.map fun v => v.category).sum ≤ 8) (k : zz C E n nL σ (pc + 3) L (.int (if y < x then y else x) :: st)) : zz C E n nL σ pc L (.int y :: .int x :: st) := by
  have hC' := hC
  obtain ⟨p, l, e, R, s, m, args, below, meth, c, Qo⟩ := C
  intro H locs cells slots ls hR hlc hL
  refine W.exact fun hz hss => ?_
  obtain ⟨w1, w2⟩ := zcount hC' hR hz hss
  dsimp only at w1 w2
  obtain ⟨hx, hb, hml, hown, hts, hW, -, -, -, -, hE, -, -, -, hfr, hlo, hfl⟩ := hC
  exact va_mmin hx hb (by rw [hml]; exact hL.1.symm) hown (hts _ hl) (hts _ q295) (hts _ q130) (by rw [zm_min]; exact hts _ q296) (by omega) (by omega) (by omega) (by omega) hd (k H locs _ _ ls hR hlc hL)
end ZM
