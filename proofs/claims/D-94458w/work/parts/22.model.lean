set_option maxRecDepth 100000
theorem cw_X4_reachOf : CodeW yX4_reachOf (ws_ yX4_reachOf cX4_reachOf 5 (some .int)) 5 := ⟨fun w h => (List.mem_cons.mp h).elim (fun e => e ▸ q2013) id, Or.inl ⟨_, _, q2013⟩, q138, by decide, by decide⟩
theorem c_X4_319 {C : ZC} {E : ZE} {cc : ByteArray} {nL pc d : Nat} {nm : String} {ret : Option FieldType} {hh : List (Nat × Nat × Nat × Nat)} {σ : ZS} {L : List (Option Value)} {st : List Value} {a1 : Int32} {Ret : Int32 → ZS → Prop} (hC : Cx C E cc nL "RightTurnsModel" nm ret hh d) (hdd : 3 + 1 ≤ d) (hd : decode cc pc = .ok (.invokevirtual 319, 3)) (hW : (st.map fun v => v.category).sum ≤ 8) (hV : wp_X4_reachOf σ a1 Ret) (k : ∀ r σ', Ret r σ' → zz C E NS nL σ' (pc + 3) L (.int r :: st)) : zz C E NS nL σ pc L (.int a1 :: .ref (E.1.heap.size + 44) :: st) :=
  z_callVG hC cf3 cw_X4_reachOf hdd (by decide) (mz_X4_reachOf (cxE hC) hV) hd (k_44 σ) q2010 q2012 qs92 (np := 1) rfl rfl hW rfl (kI k)
theorem cw_X4_layReaches : CodeW yX4_layReaches (ws_ yX4_layReaches cX4_layReaches 3 none) 3 := ⟨fun w h => (List.mem_cons.mp h).elim (fun e => e ▸ q2009) id, Or.inl ⟨_, _, q2009⟩, q138, by decide, by decide⟩
theorem c_X4_322 {C : ZC} {E : ZE} {cc : ByteArray} {nL pc d : Nat} {nm : String} {ret : Option FieldType} {hh : List (Nat × Nat × Nat × Nat)} {σ : ZS} {L : List (Option Value)} {st : List Value} {Ret : ZS → Prop} (hC : Cx C E cc nL "RightTurnsModel" nm ret hh d) (hdd : 3 + 1 ≤ d) (hd : decode cc pc = .ok (.invokevirtual 322, 3)) (hW : (st.map fun v => v.category).sum ≤ 8) (hV : wp_X4_layReaches σ Ret) (k : ∀ σ', Ret σ' → zz C E NS nL σ' (pc + 3) L st) : zz C E NS nL σ pc L (.ref (E.1.heap.size + 44) :: st) :=
  z_callVG hC cf3 cw_X4_layReaches hdd (by decide) (mz_X4_layReaches (cxE hC) hV) hd (k_44 σ) q2006 q2008 qs91 (np := 0) rfl rfl hW rfl (kV k)
def VL_X4_pairs_12 (Ret : Int32 → ZS → Prop) : Nat → ZS → Int32 → Int32 → Prop
  | 0 => fun _ _ _ => False
  | k + 1 => fun σ x1 x2 =>
    let K12 := VL_X4_pairs_12 Ret k
    ((x2 < (zI σ 47 (ix 0)) → (wp_X4_reachOf σ x2 (fun r5 σ6 => wp_X4_ones σ6 r5 (fun r7 σ8 => ∀ y9 : Int32, y9 = x1 + (r7 - 1) → (∀ y10 : Int32, y10 = x2 + 1 → (K12 σ8 y9 y10)))))) ∧ (¬ x2 < (zI σ 47 (ix 0)) → (Ret x1 σ)))
def V_X4_pairs_12 (Ret : Int32 → ZS → Prop) (σ : ZS) (x1 : Int32) (x2 : Int32) : Prop := ∃ k, VL_X4_pairs_12 Ret k σ x1 x2
def wp_X4_pairs (σ : ZS) (Ret : Int32 → ZS → Prop) : Prop :=
    wp_X4_layFollows σ (fun σ2 => wp_X4_layReaches σ2 (fun σ4 => V_X4_pairs_12 Ret σ4 0 0))
set_option maxHeartbeats 4000000 in
theorem mz_X4_pairs {l : Launch} {E : ZE} (hE : EOK E) {σ : ZS} {Ret : Int32 → ZS → Prop} (hV : wp_X4_pairs σ Ret) : MZ l E NS yX4_pairs (ws_ yX4_pairs cX4_pairs 3 (some .int)) 6 σ [.ref (E.1.heap.size + 44)] (rI Ret) := by
  refine MZ.start (L := [some (.ref (E.1.heap.size + 44)), none, none]) hE (by decide) (Nat.le_of_ble_eq_true rfl) rfl fun C hCl hQo hC => ?_
  replace hC : Cx C E cX4_pairs 3 "RightTurnsModel" "pairs" (some .int) [] 6 := hC
  unfold wp_X4_pairs at hV
  have j_12 : ∀ (σ : ZS) (x1 : Int32) (x2 : Int32), V_X4_pairs_12 Ret σ x1 x2 → zz C E NS 3 σ 12 [some (.ref (E.1.heap.size + 44)), some (.int x1), some (.int x2)] [] := by
    intro σ x1 x2 ⟨k, hV⟩
    revert σ x1 x2
    induction k with
    | zero => exact fun _ _ _ hV => hV.elim
    | succ k j_12 =>
      intro σ x1 x2 hV
      simp only [VL_X4_pairs_12] at hV
      generalize hKe12 : VL_X4_pairs_12 Ret k = K12 at hV j_12
      clear hKe12
      refine z_iload_n hC dX4_pairs_12 rfl rfl ?_
      refine z_aload_n hC dX4_pairs_13 rfl rfl ?_
      refine g_X4_20_44 hC dX4_pairs_14 ?_
      refine z_iconst (v := 0) hC dX4_pairs_17 rfl ?_
      refine z_iald hC dX4_pairs_18 (k_47 _) (in_dec rfl) ?_
      refine z_icmp_ge (tgt := 41) hC dX4_pairs_19 (by decide) (fun hc => ?_) (fun hc => ?_)
      · replace hV := hV.2 hc
        refine z_iload_n hC dX4_pairs_41 rfl rfl ?_
        exact z_iret hC dX4_pairs_42 rfl (by rw [hQo]; exact ⟨_, rfl, hV⟩)
      · replace hV := hV.1 hc
        refine z_iload_n hC dX4_pairs_22 rfl rfl ?_
        refine z_aload_n hC dX4_pairs_23 rfl rfl ?_
        refine z_iload_n hC dX4_pairs_24 rfl rfl ?_
        refine c_X4_319 hC (by decide) dX4_pairs_25 (Nat.le_of_ble_eq_true rfl) hV (fun r5 σ6 hV => ?_)
        refine c_X4_187 hC (by decide) dX4_pairs_28 (Nat.le_of_ble_eq_true rfl) hV (fun r7 σ8 hV => ?_)
        refine z_iconst (v := 1) hC dX4_pairs_31 rfl ?_
        refine z_isub hC dX4_pairs_32 ?_
        refine z_iadd hC dX4_pairs_33 ?_
        obtain ⟨y9, e_y9⟩ : ∃ z, z = x1 + (r7 - 1) := ⟨_, rfl⟩
        rw [← e_y9]
        replace hV := hV _ e_y9
        refine z_istore_n hC dX4_pairs_34 rfl (Nat.le_of_ble_eq_true rfl) rfl rfl ?_
        obtain ⟨y10, e_y10⟩ : ∃ z : Int32, z = x2 + 1 := ⟨_, rfl⟩
        replace hV := hV _ e_y10
        refine z_iinc (v := y10) hC dX4_pairs_35 rfl (by rw [e_y10]; rfl) (Nat.le_of_ble_eq_true rfl) rfl rfl ?_
        refine z_goto (tgt := 12) hC dX4_pairs_38 (by decide) ?_
        refine zz_sub (L' := [some (.ref (E.1.heap.size + 44)), some (.int y9), some (.int y10)]) ⟨rfl, rfl, rfl, trivial⟩ ?_
        exact j_12 σ8 y9 y10 hV
  refine z_aload_n hC dX4_pairs_0 rfl rfl ?_
  refine c_X4_278 hC (by decide) dX4_pairs_1 (Nat.le_of_ble_eq_true rfl) hV (fun σ2 hV => ?_)
  refine z_aload_n hC dX4_pairs_4 rfl rfl ?_
  refine c_X4_322 hC (by decide) dX4_pairs_5 (Nat.le_of_ble_eq_true rfl) hV (fun σ4 hV => ?_)
  refine z_iconst (v := 0) hC dX4_pairs_8 rfl ?_
  refine z_istore_n hC dX4_pairs_9 rfl (Nat.le_of_ble_eq_true rfl) rfl rfl ?_
  refine z_iconst (v := 0) hC dX4_pairs_10 rfl ?_
  refine z_istore_n hC dX4_pairs_11 rfl (Nat.le_of_ble_eq_true rfl) rfl rfl ?_
  refine zz_sub (L' := [some (.ref (E.1.heap.size + 44)), some (.int 0), some (.int 0)]) ⟨rfl, rfl, rfl, trivial⟩ ?_
  exact j_12 σ4 0 0 hV
theorem cw_X4_pairs : CodeW yX4_pairs (ws_ yX4_pairs cX4_pairs 3 (some .int)) 3 := ⟨fun w h => (List.mem_cons.mp h).elim (fun e => e ▸ q2037) id, Or.inl ⟨_, _, q2037⟩, q138, by decide, by decide⟩
theorem c_X4_331 {C : ZC} {E : ZE} {cc : ByteArray} {nL pc d : Nat} {nm : String} {ret : Option FieldType} {hh : List (Nat × Nat × Nat × Nat)} {σ : ZS} {L : List (Option Value)} {st : List Value} {Ret : Int32 → ZS → Prop} (hC : Cx C E cc nL "RightTurnsModel" nm ret hh d) (hdd : 6 + 1 ≤ d) (hd : decode cc pc = .ok (.invokevirtual 331, 3)) (hW : (st.map fun v => v.category).sum ≤ 8) (hV : wp_X4_pairs σ Ret) (k : ∀ r σ', Ret r σ' → zz C E NS nL σ' (pc + 3) L (.int r :: st)) : zz C E NS nL σ pc L (.ref (E.1.heap.size + 44) :: st) :=
  z_callVG hC cf3 cw_X4_pairs hdd (by decide) (mz_X4_pairs (cxE hC) hV) hd (k_44 σ) q2034 q2036 qs95 (np := 0) rfl rfl hW rfl (kI k)
def wp_X4_isOpen (σ : ZS) (Ret : Int32 → ZS → Prop) : Prop :=
    wp_X4_pairs σ (fun r1 σ2 => ((r1 = ((zI σ2 47 (ix 0)) * ((zI σ2 47 (ix 0)) - 1)) → (Ret 1 σ2)) ∧ (¬ r1 = ((zI σ2 47 (ix 0)) * ((zI σ2 47 (ix 0)) - 1)) → (Ret 0 σ2))))
set_option maxHeartbeats 4000000 in
theorem mz_X4_isOpen {l : Launch} {E : ZE} (hE : EOK E) {σ : ZS} {Ret : Int32 → ZS → Prop} (hV : wp_X4_isOpen σ Ret) : MZ l E NS yX4_isOpen (ws_ yX4_isOpen cX4_isOpen 1 (some .boolean)) 7 σ [.ref (E.1.heap.size + 44)] (rI Ret) := by
  refine MZ.start (L := [some (.ref (E.1.heap.size + 44))]) hE (by decide) (Nat.le_of_ble_eq_true rfl) rfl fun C hCl hQo hC => ?_
  replace hC : Cx C E cX4_isOpen 1 "RightTurnsModel" "isOpen" (some .boolean) [] 7 := hC
  unfold wp_X4_isOpen at hV
  refine z_aload_n hC dX4_isOpen_0 rfl rfl ?_
  refine c_X4_331 hC (by decide) dX4_isOpen_1 (Nat.le_of_ble_eq_true rfl) hV (fun r1 σ2 hV => ?_)
  refine z_aload_n hC dX4_isOpen_4 rfl rfl ?_
  refine g_X4_20_44 hC dX4_isOpen_5 ?_
  refine z_iconst (v := 0) hC dX4_isOpen_8 rfl ?_
  refine z_iald hC dX4_isOpen_9 (k_47 _) (in_dec rfl) ?_
  refine z_aload_n hC dX4_isOpen_10 rfl rfl ?_
  refine g_X4_20_44 hC dX4_isOpen_11 ?_
  refine z_iconst (v := 0) hC dX4_isOpen_14 rfl ?_
  refine z_iald hC dX4_isOpen_15 (k_47 _) (in_dec rfl) ?_
  refine z_iconst (v := 1) hC dX4_isOpen_16 rfl ?_
  refine z_isub hC dX4_isOpen_17 ?_
  refine z_imul hC dX4_isOpen_18 ?_
  refine z_icmp_ne (tgt := 26) hC dX4_isOpen_19 (by decide) (fun hc => ?_) (fun hc => ?_)
  · replace hV := hV.2 hc
    refine z_iconst (v := 0) hC dX4_isOpen_26 rfl ?_
    exact z_iret hC dX4_isOpen_27 rfl (by rw [hQo]; exact ⟨_, rfl, hV⟩)
  · replace hV := hV.1 hc
    refine z_iconst (v := 1) hC dX4_isOpen_22 rfl ?_
    refine z_goto (tgt := 27) hC dX4_isOpen_23 (by decide) ?_
    exact z_iret hC dX4_isOpen_27 rfl (by rw [hQo]; exact ⟨_, rfl, hV⟩)
theorem g_X4_346_44 {C : ZC} {E : ZE} {cc : ByteArray} {nL pc d : Nat} {nm : String} {ret : Option FieldType} {hh : List (Nat × Nat × Nat × Nat)} {σ : ZS} {L : List (Option Value)} {st : List Value} (hC : Cx C E cc nL "RightTurnsModel" nm ret hh d) (hd : decode cc pc = .ok (.getfield 346, 3)) (k : zz C E NS nL σ (pc + 3) L (.int (zI σ 44 34) :: st)) : zz C E NS nL σ pc L (.ref (E.1.heap.size + 44) :: st) :=
  z_get hC cf3 hd (k_44 σ) (k := 34) (by decide) (Or.inl q1619) (Or.inl rfl) rfl k
theorem p_X4_346_c3 {C : ZC} {E : ZE} {cc : ByteArray} {n nL pc d a x : Nat} {nm : String} {ret : Option FieldType} {hh : List (Nat × Nat × Nat × Nat)} {σ : ZS} {L : List (Option Value)} {st : List Value} {v : Int32} (hC : Cx C E cc nL "RightTurnsModel" nm ret hh d) (hd : decode cc pc = .ok (.putfield 346, 3)) (hk : kK n σ a = (3 + 7, x)) (k : zz C E n nL (sI σ a 34 v) (pc + 3) L st) : zz C E n nL σ pc L (.int v :: .ref (E.1.heap.size + a) :: st) :=
  z_putI hC cf3 hd hk (k := 34) (by decide) (Or.inl q1619) (Or.inl rfl) (Or.inl rfl) rfl rfl rfl k
theorem p_X4_349_c3 {C : ZC} {E : ZE} {cc : ByteArray} {n nL pc d a x : Nat} {nm : String} {ret : Option FieldType} {hh : List (Nat × Nat × Nat × Nat)} {σ : ZS} {L : List (Option Value)} {st : List Value} {v : Int32} (hC : Cx C E cc nL "RightTurnsModel" nm ret hh d) (hd : decode cc pc = .ok (.putfield 349, 3)) (hk : kK n σ a = (3 + 7, x)) (k : zz C E n nL (sI σ a 35 v) (pc + 3) L st) : zz C E n nL σ pc L (.int v :: .ref (E.1.heap.size + a) :: st) :=
  z_putI hC cf3 hd hk (k := 35) (by decide) (Or.inl q1620) (Or.inl rfl) (Or.inl rfl) rfl rfl rfl k
theorem cw_X4_costOf : CodeW yX4_costOf (ws_ yX4_costOf cX4_costOf 2 (some .int)) 2 := ⟨fun w h => (List.mem_cons.mp h).elim (fun e => e ▸ q2073) id, Or.inl ⟨_, _, q2073⟩, q138, by decide, by decide⟩
theorem c_X4_352 {C : ZC} {E : ZE} {cc : ByteArray} {nL pc d : Nat} {nm : String} {ret : Option FieldType} {hh : List (Nat × Nat × Nat × Nat)} {σ : ZS} {L : List (Option Value)} {st : List Value} {a1 : Int32} {Ret : Int32 → ZS → Prop} (hC : Cx C E cc nL "RightTurnsModel" nm ret hh d) (hdd : 1 + 1 ≤ d) (hd : decode cc pc = .ok (.invokevirtual 352, 3)) (hW : (st.map fun v => v.category).sum ≤ 8) (hV : wp_X4_costOf σ a1 Ret) (k : ∀ r σ', Ret r σ' → zz C E NS nL σ' (pc + 3) L (.int r :: st)) : zz C E NS nL σ pc L (.int a1 :: .ref (E.1.heap.size + 44) :: st) :=
  z_callVG hC cf3 cw_X4_costOf hdd (by decide) (mz_X4_costOf (cxE hC) hV) hd (k_44 σ) q2070 q2072 qs100 (np := 1) rfl rfl hW rfl (kI k)
theorem cw_X4_flips : CodeW yX4_flips (ws_ yX4_flips cX4_flips 2 none) 2 := ⟨fun w h => (List.mem_cons.mp h).elim (fun e => e ▸ q2077) id, Or.inl ⟨_, _, q2077⟩, q138, by decide, by decide⟩
theorem c_X4_355 {C : ZC} {E : ZE} {cc : ByteArray} {nL pc d : Nat} {nm : String} {ret : Option FieldType} {hh : List (Nat × Nat × Nat × Nat)} {σ : ZS} {L : List (Option Value)} {st : List Value} {a1 : Int32} {Ret : ZS → Prop} (hC : Cx C E cc nL "RightTurnsModel" nm ret hh d) (hdd : 1 + 1 ≤ d) (hd : decode cc pc = .ok (.invokevirtual 355, 3)) (hW : (st.map fun v => v.category).sum ≤ 8) (hV : wp_X4_flips σ a1 Ret) (k : ∀ σ', Ret σ' → zz C E NS nL σ' (pc + 3) L st) : zz C E NS nL σ pc L (.int a1 :: .ref (E.1.heap.size + 44) :: st) :=
  z_callVG hC cf3 cw_X4_flips hdd (by decide) (mz_X4_flips (cxE hC) hV) hd (k_44 σ) q2074 q2076 qs101 (np := 1) rfl rfl hW rfl (kV k)
theorem cw_X4_isOpen : CodeW yX4_isOpen (ws_ yX4_isOpen cX4_isOpen 1 (some .boolean)) 1 := ⟨fun w h => (List.mem_cons.mp h).elim (fun e => e ▸ q2081) id, Or.inl ⟨_, _, q2081⟩, q138, by decide, by decide⟩
theorem c_X4_358 {C : ZC} {E : ZE} {cc : ByteArray} {nL pc d : Nat} {nm : String} {ret : Option FieldType} {hh : List (Nat × Nat × Nat × Nat)} {σ : ZS} {L : List (Option Value)} {st : List Value} {Ret : Int32 → ZS → Prop} (hC : Cx C E cc nL "RightTurnsModel" nm ret hh d) (hdd : 7 + 1 ≤ d) (hd : decode cc pc = .ok (.invokevirtual 358, 3)) (hW : (st.map fun v => v.category).sum ≤ 8) (hV : wp_X4_isOpen σ Ret) (k : ∀ r σ', Ret r σ' → zz C E NS nL σ' (pc + 3) L (.int r :: st)) : zz C E NS nL σ pc L (.ref (E.1.heap.size + 44) :: st) :=
  z_callVG hC cf3 cw_X4_isOpen hdd (by decide) (mz_X4_isOpen (cxE hC) hV) hd (k_44 σ) q2078 q2080 qs102 (np := 0) rfl rfl hW rfl (kI k)
def VL_X4_findSet_159 (K17 : ZS → Int32 → Int32 → Prop) (Ret : ZS → Prop) : Nat → ZS → Int32 → Int32 → Int32 → Prop
  | 0 => fun _ _ _ _ => False
  | k + 1 => fun σ x2 x3 x5 =>
    let K159 := VL_X4_findSet_159 K17 Ret k
    ((x5 < (zI σ 44 33) → (((((x3 >>> (x5 &&& 31)) &&& 1) = 1 → (vp_in x5 14 ∧ (wp_X4_flips σ (zI σ 1147 (ix x5)) (fun σ11 => ∀ y12 : Int32, y12 = x5 + 1 → (K159 σ11 x2 x3 y12))))) ∧ (¬ ((x3 >>> (x5 &&& 31)) &&& 1) = 1 → (∀ y8 : Int32, y8 = x5 + 1 → (K159 σ x2 x3 y8)))))) ∧ (¬ x5 < (zI σ 44 33) → (∀ y7 : Int32, y7 = x3 + 1 → (K17 σ x2 y7))))
def V_X4_findSet_159 (K17 : ZS → Int32 → Int32 → Prop) (Ret : ZS → Prop) (σ : ZS) (x2 : Int32) (x3 : Int32) (x5 : Int32) : Prop := ∃ k, VL_X4_findSet_159 K17 Ret k σ x2 x3 x5
def VL_X4_findSet_102 (K17 : ZS → Int32 → Int32 → Prop) (Ret : ZS → Prop) : Nat → ZS → Int32 → Int32 → Int32 → Int32 → Prop
  | 0 => fun _ _ _ _ _ => False
  | k + 1 => fun σ x2 x3 x4 x5 =>
    let K102 := VL_X4_findSet_102 K17 Ret k
    ((x5 < (zI σ 44 33) → (((((x3 >>> (x5 &&& 31)) &&& 1) = 1 → (vp_in x5 14 ∧ (wp_X4_flips σ (zI σ 1147 (ix x5)) (fun σ18 => ∀ y19 : Int32, y19 = x5 + 1 → (K102 σ18 x2 x3 x4 y19))))) ∧ (¬ ((x3 >>> (x5 &&& 31)) &&& 1) = 1 → (∀ y15 : Int32, y15 = x5 + 1 → (K102 σ x2 x3 x4 y15)))))) ∧ (¬ x5 < (zI σ 44 33) → (wp_X4_isOpen σ (fun r5 σ6 => ((r5 = 0 → (V_X4_findSet_159 K17 Ret σ6 x2 x3 0)) ∧ (¬ r5 = 0 → (∀ σ13 : ZS, σ13 = sI σ6 44 34 x4 → (∀ σ14 : ZS, σ14 = sI σ13 44 35 x3 → (V_X4_findSet_159 K17 Ret σ14 x2 x3 0)))))))))
def V_X4_findSet_102 (K17 : ZS → Int32 → Int32 → Prop) (Ret : ZS → Prop) (σ : ZS) (x2 : Int32) (x3 : Int32) (x4 : Int32) (x5 : Int32) : Prop := ∃ k, VL_X4_findSet_102 K17 Ret k σ x2 x3 x4 x5
def VL_X4_findSet_33 (K17 : ZS → Int32 → Int32 → Prop) (Ret : ZS → Prop) : Nat → ZS → Int32 → Int32 → Int32 → Int32 → Prop
  | 0 => fun _ _ _ _ _ => False
  | k + 1 => fun σ x2 x3 x4 x5 =>
    let K33 := VL_X4_findSet_33 K17 Ret k
    ((x5 < (zI σ 44 33) → (((x2 = 0 → (∀ y21 : Int32, y21 = x4 + (((x3 >>> (x5 &&& 31)) &&& 1) * 1) → (∀ y22 : Int32, y22 = x5 + 1 → (K33 σ x2 x3 y21 y22)))) ∧ (¬ x2 = 0 → (vp_in x5 14 ∧ (wp_X4_costOf σ (zI σ 1147 (ix x5)) (fun r24 σ25 => ∀ y26 : Int32, y26 = x4 + (((x3 >>> (x5 &&& 31)) &&& 1) * r24) → (∀ y27 : Int32, y27 = x5 + 1 → (K33 σ25 x2 x3 y26 y27))))))))) ∧ (¬ x5 < (zI σ 44 33) → ((((zI σ 44 34) = (-1) → (V_X4_findSet_102 K17 Ret σ x2 x3 x4 0)) ∧ (¬ (zI σ 44 34) = (-1) → (((x4 < (zI σ 44 34) → (V_X4_findSet_102 K17 Ret σ x2 x3 x4 0)) ∧ (¬ x4 < (zI σ 44 34) → (∀ y20 : Int32, y20 = x3 + 1 → (K17 σ x2 y20))))))))))
def V_X4_findSet_33 (K17 : ZS → Int32 → Int32 → Prop) (Ret : ZS → Prop) (σ : ZS) (x2 : Int32) (x3 : Int32) (x4 : Int32) (x5 : Int32) : Prop := ∃ k, VL_X4_findSet_33 K17 Ret k σ x2 x3 x4 x5
def VL_X4_findSet_17 (Ret : ZS → Prop) : Nat → ZS → Int32 → Int32 → Prop
  | 0 => fun _ _ _ => False
  | k + 1 => fun σ x2 x3 =>
    let K17 := VL_X4_findSet_17 Ret k
    ((x3 < ((1 : Int32) <<< ((zI σ 44 33) &&& 31)) → (V_X4_findSet_33 K17 Ret σ x2 x3 0 0)) ∧ (¬ x3 < ((1 : Int32) <<< ((zI σ 44 33) &&& 31)) → (Ret σ)))
def V_X4_findSet_17 (Ret : ZS → Prop) (σ : ZS) (x2 : Int32) (x3 : Int32) : Prop := ∃ k, VL_X4_findSet_17 Ret k σ x2 x3
def wp_X4_findSet (σ : ZS) (a1 : Int32) (a2 : Int32) (Ret : ZS → Prop) : Prop :=
    wp_X4_findLater σ a1 (fun σ2 => ∀ σ3 : ZS, σ3 = sI σ2 44 34 (-1) → (∀ σ4 : ZS, σ4 = sI σ3 44 35 (-1) → (V_X4_findSet_17 Ret σ4 a2 0)))
set_option maxHeartbeats 4000000 in
theorem mz_X4_findSet {l : Launch} {E : ZE} (hE : EOK E) {σ : ZS} {a1 : Int32} {a2 : Int32} {Ret : ZS → Prop} (hV : wp_X4_findSet σ a1 a2 Ret) : MZ l E NS yX4_findSet (ws_ yX4_findSet cX4_findSet 6 none) 8 σ [.ref (E.1.heap.size + 44), .int a1, .int a2] (rV Ret) := by
  refine MZ.start (L := [some (.ref (E.1.heap.size + 44)), some (.int a1), some (.int a2), none, none, none]) hE (by decide) (Nat.le_of_ble_eq_true rfl) rfl fun C hCl hQo hC => ?_
  replace hC : Cx C E cX4_findSet 6 "RightTurnsModel" "findSet" none [] 8 := hC
  unfold wp_X4_findSet at hV
  have j_17 : ∀ (σ : ZS) (x2 : Int32) (x3 : Int32), V_X4_findSet_17 Ret σ x2 x3 → zz C E NS 6 σ 17 [some (.ref (E.1.heap.size + 44)), none, some (.int x2), some (.int x3), none, none] [] := by
    intro σ x2 x3 ⟨k, hV⟩
    revert σ x2 x3
    induction k with
    | zero => exact fun _ _ _ hV => hV.elim
    | succ k j_17 =>
      intro σ x2 x3 hV
      simp only [VL_X4_findSet_17] at hV
      generalize hKe17 : VL_X4_findSet_17 Ret k = K17 at hV j_17
      clear hKe17
      have j_159 : ∀ (σ : ZS) (x2 : Int32) (x3 : Int32) (x5 : Int32), V_X4_findSet_159 K17 Ret σ x2 x3 x5 → zz C E NS 6 σ 159 [some (.ref (E.1.heap.size + 44)), none, some (.int x2), some (.int x3), none, some (.int x5)] [] := by
        intro σ x2 x3 x5 ⟨k, hV⟩
        revert σ x2 x3 x5
        induction k with
        | zero => exact fun _ _ _ _ hV => hV.elim
        | succ k j_159 =>
          intro σ x2 x3 x5 hV
          simp only [VL_X4_findSet_159] at hV
          generalize hKe159 : VL_X4_findSet_159 K17 Ret k = K159 at hV j_159
          clear hKe159
          refine z_iload hC dX4_findSet_159 rfl ?_
          refine z_aload_n hC dX4_findSet_161 rfl rfl ?_
          refine g_X4_334_44 hC dX4_findSet_162 ?_
          refine z_icmp_ge (tgt := 195) hC dX4_findSet_165 (by decide) (fun hc => ?_) (fun hc => ?_)
          · replace hV := hV.2 hc
            obtain ⟨y7, e_y7⟩ : ∃ z : Int32, z = x3 + 1 := ⟨_, rfl⟩
            replace hV := hV _ e_y7
            refine z_iinc (v := y7) hC dX4_findSet_195 rfl (by rw [e_y7]; rfl) (Nat.le_of_ble_eq_true rfl) rfl rfl ?_
            refine z_goto (tgt := 17) hC dX4_findSet_198 (by decide) ?_
            refine zz_sub (L' := [some (.ref (E.1.heap.size + 44)), none, some (.int x2), some (.int y7), none, none]) ⟨rfl, rfl, rfl, trivial⟩ ?_
            exact j_17 σ x2 y7 hV
          · replace hV := hV.1 hc
            refine z_iload_n hC dX4_findSet_168 rfl rfl ?_
            refine z_iload hC dX4_findSet_169 rfl ?_
            refine z_ishr hC dX4_findSet_171 ?_
            refine z_iconst (v := 1) hC dX4_findSet_172 rfl ?_
            refine z_iand hC dX4_findSet_173 ?_
            refine z_iconst (v := 1) hC dX4_findSet_174 rfl ?_
            refine z_icmp_ne (tgt := 189) hC dX4_findSet_175 (by decide) (fun hc => ?_) (fun hc => ?_)
            · replace hV := hV.2 hc
              obtain ⟨y8, e_y8⟩ : ∃ z : Int32, z = x5 + 1 := ⟨_, rfl⟩
              replace hV := hV _ e_y8
              refine z_iinc (v := y8) hC dX4_findSet_189 rfl (by rw [e_y8]; rfl) (Nat.le_of_ble_eq_true rfl) rfl rfl ?_
              refine z_goto (tgt := 159) hC dX4_findSet_192 (by decide) ?_
              refine zz_sub (L' := [some (.ref (E.1.heap.size + 44)), none, some (.int x2), some (.int x3), none, some (.int y8)]) ⟨rfl, rfl, rfl, rfl, trivial⟩ ?_
              exact j_159 σ x2 x3 y8 hV
            · replace hV := hV.1 hc
              refine z_aload_n hC dX4_findSet_178 rfl rfl ?_
              refine z_aload_n hC dX4_findSet_179 rfl rfl ?_
              refine g_X4_77_44 hC dX4_findSet_180 ?_
              refine z_iload hC dX4_findSet_183 rfl ?_
              obtain ⟨h9, hV⟩ := hV
              refine z_iald hC dX4_findSet_185 (k_1147 _) (h9) ?_
              refine c_X4_355 hC (by decide) dX4_findSet_186 (Nat.le_of_ble_eq_true rfl) hV (fun σ11 hV => ?_)
              obtain ⟨y12, e_y12⟩ : ∃ z : Int32, z = x5 + 1 := ⟨_, rfl⟩
              replace hV := hV _ e_y12
              refine z_iinc (v := y12) hC dX4_findSet_189 rfl (by rw [e_y12]; rfl) (Nat.le_of_ble_eq_true rfl) rfl rfl ?_
              refine z_goto (tgt := 159) hC dX4_findSet_192 (by decide) ?_
              refine zz_sub (L' := [some (.ref (E.1.heap.size + 44)), none, some (.int x2), some (.int x3), none, some (.int y12)]) ⟨rfl, rfl, rfl, rfl, trivial⟩ ?_
              exact j_159 σ11 x2 x3 y12 hV
      have j_102 : ∀ (σ : ZS) (x2 : Int32) (x3 : Int32) (x4 : Int32) (x5 : Int32), V_X4_findSet_102 K17 Ret σ x2 x3 x4 x5 → zz C E NS 6 σ 102 [some (.ref (E.1.heap.size + 44)), none, some (.int x2), some (.int x3), some (.int x4), some (.int x5)] [] := by
        intro σ x2 x3 x4 x5 ⟨k, hV⟩
        revert σ x2 x3 x4 x5
        induction k with
        | zero => exact fun _ _ _ _ _ hV => hV.elim
        | succ k j_102 =>
          intro σ x2 x3 x4 x5 hV
          simp only [VL_X4_findSet_102] at hV
          generalize hKe102 : VL_X4_findSet_102 K17 Ret k = K102 at hV j_102
          clear hKe102
          refine z_iload hC dX4_findSet_102 rfl ?_
          refine z_aload_n hC dX4_findSet_104 rfl rfl ?_
          refine g_X4_334_44 hC dX4_findSet_105 ?_
          refine z_icmp_ge (tgt := 138) hC dX4_findSet_108 (by decide) (fun hc => ?_) (fun hc => ?_)
          · replace hV := hV.2 hc
            refine z_aload_n hC dX4_findSet_138 rfl rfl ?_
            refine c_X4_358 hC (by decide) dX4_findSet_139 (Nat.le_of_ble_eq_true rfl) hV (fun r5 σ6 hV => ?_)
            refine z_if_eq (tgt := 156) hC dX4_findSet_142 (by decide) (fun hc => ?_) (fun hc => ?_)
            · replace hV := hV.1 hc
              refine z_iconst (v := 0) hC dX4_findSet_156 rfl ?_
              refine z_istore hC dX4_findSet_157 (Nat.le_of_ble_eq_true rfl) rfl rfl ?_
              refine zz_sub (L' := [some (.ref (E.1.heap.size + 44)), none, some (.int x2), some (.int x3), none, some (.int 0)]) ⟨rfl, rfl, rfl, rfl, trivial⟩ ?_
              exact j_159 σ6 x2 x3 0 hV
            · replace hV := hV.2 hc
              refine z_aload_n hC dX4_findSet_145 rfl rfl ?_
              refine z_iload hC dX4_findSet_146 rfl ?_
              refine p_X4_346_c3 hC dX4_findSet_148 (k_44 _) ?_
              obtain ⟨σ13, e_σ13⟩ : ∃ z : ZS, z = sI σ6 44 34 x4 := ⟨_, rfl⟩
              replace hV := hV _ e_σ13
              rw [← e_σ13]
              refine z_aload_n hC dX4_findSet_151 rfl rfl ?_
              refine z_iload_n hC dX4_findSet_152 rfl rfl ?_
              refine p_X4_349_c3 hC dX4_findSet_153 (k_44 _) ?_
              obtain ⟨σ14, e_σ14⟩ : ∃ z : ZS, z = sI σ13 44 35 x3 := ⟨_, rfl⟩
              replace hV := hV _ e_σ14
              rw [← e_σ14]
              refine z_iconst (v := 0) hC dX4_findSet_156 rfl ?_
              refine z_istore hC dX4_findSet_157 (Nat.le_of_ble_eq_true rfl) rfl rfl ?_
              refine zz_sub (L' := [some (.ref (E.1.heap.size + 44)), none, some (.int x2), some (.int x3), none, some (.int 0)]) ⟨rfl, rfl, rfl, rfl, trivial⟩ ?_
              exact j_159 σ14 x2 x3 0 hV
          · replace hV := hV.1 hc
            refine z_iload_n hC dX4_findSet_111 rfl rfl ?_
            refine z_iload hC dX4_findSet_112 rfl ?_
            refine z_ishr hC dX4_findSet_114 ?_
            refine z_iconst (v := 1) hC dX4_findSet_115 rfl ?_
            refine z_iand hC dX4_findSet_116 ?_
            refine z_iconst (v := 1) hC dX4_findSet_117 rfl ?_
            refine z_icmp_ne (tgt := 132) hC dX4_findSet_118 (by decide) (fun hc => ?_) (fun hc => ?_)
            · replace hV := hV.2 hc
              obtain ⟨y15, e_y15⟩ : ∃ z : Int32, z = x5 + 1 := ⟨_, rfl⟩
              replace hV := hV _ e_y15
              refine z_iinc (v := y15) hC dX4_findSet_132 rfl (by rw [e_y15]; rfl) (Nat.le_of_ble_eq_true rfl) rfl rfl ?_
              refine z_goto (tgt := 102) hC dX4_findSet_135 (by decide) ?_
              refine zz_sub (L' := [some (.ref (E.1.heap.size + 44)), none, some (.int x2), some (.int x3), some (.int x4), some (.int y15)]) ⟨rfl, rfl, rfl, rfl, rfl, trivial⟩ ?_
              exact j_102 σ x2 x3 x4 y15 hV
            · replace hV := hV.1 hc
              refine z_aload_n hC dX4_findSet_121 rfl rfl ?_
              refine z_aload_n hC dX4_findSet_122 rfl rfl ?_
              refine g_X4_77_44 hC dX4_findSet_123 ?_
              refine z_iload hC dX4_findSet_126 rfl ?_
              obtain ⟨h16, hV⟩ := hV
              refine z_iald hC dX4_findSet_128 (k_1147 _) (h16) ?_
              refine c_X4_355 hC (by decide) dX4_findSet_129 (Nat.le_of_ble_eq_true rfl) hV (fun σ18 hV => ?_)
              obtain ⟨y19, e_y19⟩ : ∃ z : Int32, z = x5 + 1 := ⟨_, rfl⟩
              replace hV := hV _ e_y19
              refine z_iinc (v := y19) hC dX4_findSet_132 rfl (by rw [e_y19]; rfl) (Nat.le_of_ble_eq_true rfl) rfl rfl ?_
              refine z_goto (tgt := 102) hC dX4_findSet_135 (by decide) ?_
              refine zz_sub (L' := [some (.ref (E.1.heap.size + 44)), none, some (.int x2), some (.int x3), some (.int x4), some (.int y19)]) ⟨rfl, rfl, rfl, rfl, rfl, trivial⟩ ?_
              exact j_102 σ18 x2 x3 x4 y19 hV
      have j_33 : ∀ (σ : ZS) (x2 : Int32) (x3 : Int32) (x4 : Int32) (x5 : Int32), V_X4_findSet_33 K17 Ret σ x2 x3 x4 x5 → zz C E NS 6 σ 33 [some (.ref (E.1.heap.size + 44)), none, some (.int x2), some (.int x3), some (.int x4), some (.int x5)] [] := by
        intro σ x2 x3 x4 x5 ⟨k, hV⟩
        revert σ x2 x3 x4 x5
        induction k with
        | zero => exact fun _ _ _ _ _ hV => hV.elim
        | succ k j_33 =>
          intro σ x2 x3 x4 x5 hV
          simp only [VL_X4_findSet_33] at hV
          generalize hKe33 : VL_X4_findSet_33 K17 Ret k = K33 at hV j_33
          clear hKe33
          refine z_iload hC dX4_findSet_33 rfl ?_
          refine z_aload_n hC dX4_findSet_35 rfl rfl ?_
          refine g_X4_334_44 hC dX4_findSet_36 ?_
          refine z_icmp_ge (tgt := 79) hC dX4_findSet_39 (by decide) (fun hc => ?_) (fun hc => ?_)
          · replace hV := hV.2 hc
            refine z_aload_n hC dX4_findSet_79 rfl rfl ?_
            refine g_X4_346_44 hC dX4_findSet_80 ?_
            refine z_iconst (v := (-1)) hC dX4_findSet_83 rfl ?_
            refine z_icmp_eq (tgt := 99) hC dX4_findSet_84 (by decide) (fun hc => ?_) (fun hc => ?_)
            · replace hV := hV.1 hc
              refine z_iconst (v := 0) hC dX4_findSet_99 rfl ?_
              refine z_istore hC dX4_findSet_100 (Nat.le_of_ble_eq_true rfl) rfl rfl ?_
              refine zz_sub (L' := [some (.ref (E.1.heap.size + 44)), none, some (.int x2), some (.int x3), some (.int x4), some (.int 0)]) ⟨rfl, rfl, rfl, rfl, rfl, trivial⟩ ?_
              exact j_102 σ x2 x3 x4 0 hV
            · replace hV := hV.2 hc
              refine z_iload hC dX4_findSet_87 rfl ?_
              refine z_aload_n hC dX4_findSet_89 rfl rfl ?_
              refine g_X4_346_44 hC dX4_findSet_90 ?_
              refine z_icmp_lt (tgt := 99) hC dX4_findSet_93 (by decide) (fun hc => ?_) (fun hc => ?_)
              · replace hV := hV.1 hc
                refine z_iconst (v := 0) hC dX4_findSet_99 rfl ?_
                refine z_istore hC dX4_findSet_100 (Nat.le_of_ble_eq_true rfl) rfl rfl ?_
                refine zz_sub (L' := [some (.ref (E.1.heap.size + 44)), none, some (.int x2), some (.int x3), some (.int x4), some (.int 0)]) ⟨rfl, rfl, rfl, rfl, rfl, trivial⟩ ?_
                exact j_102 σ x2 x3 x4 0 hV
              · replace hV := hV.2 hc
                refine z_goto (tgt := 195) hC dX4_findSet_96 (by decide) ?_
                obtain ⟨y20, e_y20⟩ : ∃ z : Int32, z = x3 + 1 := ⟨_, rfl⟩
                replace hV := hV _ e_y20
                refine z_iinc (v := y20) hC dX4_findSet_195 rfl (by rw [e_y20]; rfl) (Nat.le_of_ble_eq_true rfl) rfl rfl ?_
                refine z_goto (tgt := 17) hC dX4_findSet_198 (by decide) ?_
                refine zz_sub (L' := [some (.ref (E.1.heap.size + 44)), none, some (.int x2), some (.int y20), none, none]) ⟨rfl, rfl, rfl, trivial⟩ ?_
                exact j_17 σ x2 y20 hV
          · replace hV := hV.1 hc
            refine z_iload hC dX4_findSet_42 rfl ?_
            refine z_iload_n hC dX4_findSet_44 rfl rfl ?_
            refine z_iload hC dX4_findSet_45 rfl ?_
            refine z_ishr hC dX4_findSet_47 ?_
            refine z_iconst (v := 1) hC dX4_findSet_48 rfl ?_
            refine z_iand hC dX4_findSet_49 ?_
            refine z_iload_n hC dX4_findSet_50 rfl rfl ?_
            refine z_if_eq (tgt := 68) hC dX4_findSet_51 (by decide) (fun hc => ?_) (fun hc => ?_)
            · replace hV := hV.1 hc
              refine z_iconst (v := 1) hC dX4_findSet_68 rfl ?_
              refine z_imul hC dX4_findSet_69 ?_
              refine z_iadd hC dX4_findSet_70 ?_
              obtain ⟨y21, e_y21⟩ : ∃ z, z = x4 + (((x3 >>> (x5 &&& 31)) &&& 1) * 1) := ⟨_, rfl⟩
              rw [← e_y21]
              replace hV := hV _ e_y21
              refine z_istore hC dX4_findSet_71 (Nat.le_of_ble_eq_true rfl) rfl rfl ?_
              obtain ⟨y22, e_y22⟩ : ∃ z : Int32, z = x5 + 1 := ⟨_, rfl⟩
              replace hV := hV _ e_y22
              refine z_iinc (v := y22) hC dX4_findSet_73 rfl (by rw [e_y22]; rfl) (Nat.le_of_ble_eq_true rfl) rfl rfl ?_
              refine z_goto (tgt := 33) hC dX4_findSet_76 (by decide) ?_
              refine zz_sub (L' := [some (.ref (E.1.heap.size + 44)), none, some (.int x2), some (.int x3), some (.int y21), some (.int y22)]) ⟨rfl, rfl, rfl, rfl, rfl, trivial⟩ ?_
              exact j_33 σ x2 x3 y21 y22 hV
            · replace hV := hV.2 hc
              refine z_aload_n hC dX4_findSet_54 rfl rfl ?_
              refine z_aload_n hC dX4_findSet_55 rfl rfl ?_
              refine g_X4_77_44 hC dX4_findSet_56 ?_
              refine z_iload hC dX4_findSet_59 rfl ?_
              obtain ⟨h23, hV⟩ := hV
              refine z_iald hC dX4_findSet_61 (k_1147 _) (h23) ?_
              refine c_X4_352 hC (by decide) dX4_findSet_62 (Nat.le_of_ble_eq_true rfl) hV (fun r24 σ25 hV => ?_)
              refine z_goto (tgt := 69) hC dX4_findSet_65 (by decide) ?_
              refine z_imul hC dX4_findSet_69 ?_
              refine z_iadd hC dX4_findSet_70 ?_
              obtain ⟨y26, e_y26⟩ : ∃ z, z = x4 + (((x3 >>> (x5 &&& 31)) &&& 1) * r24) := ⟨_, rfl⟩
              rw [← e_y26]
              replace hV := hV _ e_y26
              refine z_istore hC dX4_findSet_71 (Nat.le_of_ble_eq_true rfl) rfl rfl ?_
              obtain ⟨y27, e_y27⟩ : ∃ z : Int32, z = x5 + 1 := ⟨_, rfl⟩
              replace hV := hV _ e_y27
              refine z_iinc (v := y27) hC dX4_findSet_73 rfl (by rw [e_y27]; rfl) (Nat.le_of_ble_eq_true rfl) rfl rfl ?_
              refine z_goto (tgt := 33) hC dX4_findSet_76 (by decide) ?_
              refine zz_sub (L' := [some (.ref (E.1.heap.size + 44)), none, some (.int x2), some (.int x3), some (.int y26), some (.int y27)]) ⟨rfl, rfl, rfl, rfl, rfl, trivial⟩ ?_
              exact j_33 σ25 x2 x3 y26 y27 hV
      refine z_iload_n hC dX4_findSet_17 rfl rfl ?_
      refine z_iconst (v := 1) hC dX4_findSet_18 rfl ?_
      refine z_aload_n hC dX4_findSet_19 rfl rfl ?_
      refine g_X4_334_44 hC dX4_findSet_20 ?_
      refine z_ishl hC dX4_findSet_23 ?_
      refine z_icmp_ge (tgt := 201) hC dX4_findSet_24 (by decide) (fun hc => ?_) (fun hc => ?_)
      · replace hV := hV.2 hc
        exact z_vret hC dX4_findSet_201 (by rw [hQo]; exact ⟨rfl, hV⟩)
      · replace hV := hV.1 hc
        refine z_iconst (v := 0) hC dX4_findSet_27 rfl ?_
        refine z_istore hC dX4_findSet_28 (Nat.le_of_ble_eq_true rfl) rfl rfl ?_
        refine z_iconst (v := 0) hC dX4_findSet_30 rfl ?_
        refine z_istore hC dX4_findSet_31 (Nat.le_of_ble_eq_true rfl) rfl rfl ?_
        refine zz_sub (L' := [some (.ref (E.1.heap.size + 44)), none, some (.int x2), some (.int x3), some (.int 0), some (.int 0)]) ⟨rfl, rfl, rfl, rfl, rfl, trivial⟩ ?_
        exact j_33 σ x2 x3 0 0 hV
  refine z_aload_n hC dX4_findSet_0 rfl rfl ?_
  refine z_iload_n hC dX4_findSet_1 rfl rfl ?_
  refine c_X4_343 hC (by decide) dX4_findSet_2 (Nat.le_of_ble_eq_true rfl) hV (fun σ2 hV => ?_)
  refine z_aload_n hC dX4_findSet_5 rfl rfl ?_
  refine z_iconst (v := (-1)) hC dX4_findSet_6 rfl ?_
  refine p_X4_346_c3 hC dX4_findSet_7 (k_44 _) ?_
  obtain ⟨σ3, e_σ3⟩ : ∃ z : ZS, z = sI σ2 44 34 (-1) := ⟨_, rfl⟩
  replace hV := hV _ e_σ3
  rw [← e_σ3]
  refine z_aload_n hC dX4_findSet_10 rfl rfl ?_
  refine z_iconst (v := (-1)) hC dX4_findSet_11 rfl ?_
  refine p_X4_349_c3 hC dX4_findSet_12 (k_44 _) ?_
  obtain ⟨σ4, e_σ4⟩ : ∃ z : ZS, z = sI σ3 44 35 (-1) := ⟨_, rfl⟩
  replace hV := hV _ e_σ4
  rw [← e_σ4]
  refine z_iconst (v := 0) hC dX4_findSet_15 rfl ?_
  refine z_istore_n hC dX4_findSet_16 rfl (Nat.le_of_ble_eq_true rfl) rfl rfl ?_
  refine zz_sub (L' := [some (.ref (E.1.heap.size + 44)), none, some (.int a2), some (.int 0), none, none]) ⟨rfl, rfl, rfl, trivial⟩ ?_
  exact j_17 σ4 a2 0 hV
theorem g_X4_349_44 {C : ZC} {E : ZE} {cc : ByteArray} {nL pc d : Nat} {nm : String} {ret : Option FieldType} {hh : List (Nat × Nat × Nat × Nat)} {σ : ZS} {L : List (Option Value)} {st : List Value} (hC : Cx C E cc nL "RightTurnsModel" nm ret hh d) (hd : decode cc pc = .ok (.getfield 349, 3)) (k : zz C E NS nL σ (pc + 3) L (.int (zI σ 44 35) :: st)) : zz C E NS nL σ pc L (.ref (E.1.heap.size + 44) :: st) :=
  z_get hC cf3 hd (k_44 σ) (k := 35) (by decide) (Or.inl q1620) (Or.inl rfl) rfl k
theorem cw_X4_findSet : CodeW yX4_findSet (ws_ yX4_findSet cX4_findSet 6 none) 6 := ⟨fun w h => (List.mem_cons.mp h).elim (fun e => e ▸ q2069) id, Or.inl ⟨_, _, q2069⟩, q138, by decide, by decide⟩
theorem c_X4_362 {C : ZC} {E : ZE} {cc : ByteArray} {nL pc d : Nat} {nm : String} {ret : Option FieldType} {hh : List (Nat × Nat × Nat × Nat)} {σ : ZS} {L : List (Option Value)} {st : List Value} {a1 : Int32} {a2 : Int32} {Ret : ZS → Prop} (hC : Cx C E cc nL "RightTurnsModel" nm ret hh d) (hdd : 8 + 1 ≤ d) (hd : decode cc pc = .ok (.invokevirtual 362, 3)) (hW : (st.map fun v => v.category).sum ≤ 8) (hV : wp_X4_findSet σ a1 a2 Ret) (k : ∀ σ', Ret σ' → zz C E NS nL σ' (pc + 3) L st) : zz C E NS nL σ pc L (.int a2 :: .int a1 :: .ref (E.1.heap.size + 44) :: st) :=
  z_callVG hC cf3 cw_X4_findSet hdd (by decide) (mz_X4_findSet (cxE hC) hV) hd (k_44 σ) q2066 q2068 qs99 (np := 2) rfl rfl hW rfl (kV k)
def V_X4_cheapest_28 (Ret : Int32 → ZS → Prop) (σ : ZS) (x1 : Int32) (x2 : Int32) (s0 : Int32) : Prop :=
    wp_X4_bad σ s0 1 (fun r4 σ5 => ((r4 = 0 → (wp_X4_findSet σ5 x1 1 (fun σ7 => ((x2 = 0 → (Ret (zI σ7 44 34) σ7)) ∧ (¬ x2 = 0 → (Ret (zI σ7 44 35) σ7)))))) ∧ (¬ r4 = 0 → (Ret 0 σ5))))
def V_X4_cheapest_23 (Ret : Int32 → ZS → Prop) (σ : ZS) (x1 : Int32) (x2 : Int32) : Prop :=
    V_X4_cheapest_28 Ret σ x1 x2 1
def wp_X4_cheapest (σ : ZS) (a1 : Int32) (a2 : Int32) (Ret : Int32 → ZS → Prop) : Prop :=
    ∀ σ1 : ZS, σ1 = sI σ 44 0 0 → (wp_X4_isTime σ1 a1 (fun r2 σ3 => ((r2 = 0 → (V_X4_cheapest_23 Ret σ3 a1 a2)) ∧ (¬ r2 = 0 → (wp_X4_in σ3 a2 0 1 (fun r8 σ9 => ((r8 = 0 → (V_X4_cheapest_23 Ret σ9 a1 a2)) ∧ (¬ r8 = 0 → (V_X4_cheapest_28 Ret σ9 a1 a2 0)))))))))
set_option maxHeartbeats 4000000 in
theorem mz_X4_cheapest {l : Launch} {E : ZE} (hE : EOK E) {σ : ZS} {a1 : Int32} {a2 : Int32} {Ret : Int32 → ZS → Prop} (hV : wp_X4_cheapest σ a1 a2 Ret) : MZ l E NS yX4_cheapest (ws_ yX4_cheapest cX4_cheapest 3 (some .int)) 9 σ [.ref (E.1.heap.size + 44), .int a1, .int a2] (rI Ret) := by
  refine MZ.start (L := [some (.ref (E.1.heap.size + 44)), some (.int a1), some (.int a2)]) hE (by decide) (Nat.le_of_ble_eq_true rfl) rfl fun C hCl hQo hC => ?_
  replace hC : Cx C E cX4_cheapest 3 "RightTurnsModel" "cheapest" (some .int) [] 9 := hC
  unfold wp_X4_cheapest at hV
  have j_28 : ∀ (σ : ZS) (x1 : Int32) (x2 : Int32) (s0 : Int32), V_X4_cheapest_28 Ret σ x1 x2 s0 → zz C E NS 3 σ 28 [some (.ref (E.1.heap.size + 44)), some (.int x1), some (.int x2)] [.int s0, .ref (E.1.heap.size + 44)] := by
    intro σ x1 x2 s0 hV
    unfold V_X4_cheapest_28 at hV
    refine z_iconst (v := 1) hC dX4_cheapest_28 rfl ?_
    refine c_X4_227 hC (by decide) dX4_cheapest_29 (Nat.le_of_ble_eq_true rfl) hV (fun r4 σ5 hV => ?_)
    refine z_if_eq (tgt := 37) hC dX4_cheapest_32 (by decide) (fun hc => ?_) (fun hc => ?_)
    · replace hV := hV.1 hc
      refine z_aload_n hC dX4_cheapest_37 rfl rfl ?_
      refine z_iload_n hC dX4_cheapest_38 rfl rfl ?_
      refine z_iconst (v := 1) hC dX4_cheapest_39 rfl ?_
      refine c_X4_362 hC (by decide) dX4_cheapest_40 (Nat.le_of_ble_eq_true rfl) hV (fun σ7 hV => ?_)
      refine z_iload_n hC dX4_cheapest_43 rfl rfl ?_
      refine z_if_ne (tgt := 54) hC dX4_cheapest_44 (by decide) (fun hc => ?_) (fun hc => ?_)
      · replace hV := hV.2 hc
        refine z_aload_n hC dX4_cheapest_54 rfl rfl ?_
        refine g_X4_349_44 hC dX4_cheapest_55 ?_
        exact z_iret hC dX4_cheapest_58 rfl (by rw [hQo]; exact ⟨_, rfl, hV⟩)
      · replace hV := hV.1 hc
        refine z_aload_n hC dX4_cheapest_47 rfl rfl ?_
        refine g_X4_346_44 hC dX4_cheapest_48 ?_
        refine z_goto (tgt := 58) hC dX4_cheapest_51 (by decide) ?_
        exact z_iret hC dX4_cheapest_58 rfl (by rw [hQo]; exact ⟨_, rfl, hV⟩)
    · replace hV := hV.2 hc
      refine z_iconst (v := 0) hC dX4_cheapest_35 rfl ?_
      exact z_iret hC dX4_cheapest_36 rfl (by rw [hQo]; exact ⟨_, rfl, hV⟩)
  have j_23 : ∀ (σ : ZS) (x1 : Int32) (x2 : Int32), V_X4_cheapest_23 Ret σ x1 x2 → zz C E NS 3 σ 23 [some (.ref (E.1.heap.size + 44)), some (.int x1), some (.int x2)] [.ref (E.1.heap.size + 44)] := by
    intro σ x1 x2 hV
    unfold V_X4_cheapest_23 at hV
    refine z_iconst (v := 1) hC dX4_cheapest_23 rfl ?_
    refine z_goto (tgt := 28) hC dX4_cheapest_24 (by decide) ?_
    refine zz_sub (L' := [some (.ref (E.1.heap.size + 44)), some (.int x1), some (.int x2)]) ⟨rfl, rfl, rfl, trivial⟩ ?_
    exact j_28 σ x1 x2 1 hV
  refine z_aload_n hC dX4_cheapest_0 rfl rfl ?_
  refine z_iconst (v := 0) hC dX4_cheapest_1 rfl ?_
  refine p_X4_131_c3 hC dX4_cheapest_2 (k_44 _) ?_
  obtain ⟨σ1, e_σ1⟩ : ∃ z : ZS, z = sI σ 44 0 0 := ⟨_, rfl⟩
  replace hV := hV _ e_σ1
  rw [← e_σ1]
  refine z_aload_n hC dX4_cheapest_5 rfl rfl ?_
  refine z_aload_n hC dX4_cheapest_6 rfl rfl ?_
  refine z_iload_n hC dX4_cheapest_7 rfl rfl ?_
  refine c_X4_281 hC (by decide) dX4_cheapest_8 (Nat.le_of_ble_eq_true rfl) hV (fun r2 σ3 hV => ?_)
  refine z_if_eq (tgt := 23) hC dX4_cheapest_11 (by decide) (fun hc => ?_) (fun hc => ?_)
  · replace hV := hV.1 hc
    refine zz_sub (L' := [some (.ref (E.1.heap.size + 44)), some (.int a1), some (.int a2)]) ⟨rfl, rfl, rfl, trivial⟩ ?_
    exact j_23 σ3 a1 a2 hV
  · replace hV := hV.2 hc
    refine z_iload_n hC dX4_cheapest_14 rfl rfl ?_
    refine z_iconst (v := 0) hC dX4_cheapest_15 rfl ?_
    refine z_iconst (v := 1) hC dX4_cheapest_16 rfl ?_
    refine c_X4_165 hC (by decide) dX4_cheapest_17 (Nat.le_of_ble_eq_true rfl) hV (fun r8 σ9 hV => ?_)
    refine z_if_ne (tgt := 27) hC dX4_cheapest_20 (by decide) (fun hc => ?_) (fun hc => ?_)
    · replace hV := hV.2 hc
      refine z_iconst (v := 0) hC dX4_cheapest_27 rfl ?_
      refine zz_sub (L' := [some (.ref (E.1.heap.size + 44)), some (.int a1), some (.int a2)]) ⟨rfl, rfl, rfl, trivial⟩ ?_
      exact j_28 σ9 a1 a2 0 hV
    · replace hV := hV.1 hc
      refine zz_sub (L' := [some (.ref (E.1.heap.size + 44)), some (.int a1), some (.int a2)]) ⟨rfl, rfl, rfl, trivial⟩ ?_
      exact j_23 σ9 a1 a2 hV
theorem g_X4_147_44 {C : ZC} {E : ZE} {cc : ByteArray} {nL pc d : Nat} {nm : String} {ret : Option FieldType} {hh : List (Nat × Nat × Nat × Nat)} {σ : ZS} {L : List (Option Value)} {st : List Value} (hC : Cx C E cc nL "RightTurnsModel" nm ret hh d) (hd : decode cc pc = .ok (.getfield 147, 3)) (k : zz C E NS nL σ (pc + 3) L (.int (zI σ 44 5) :: st)) : zz C E NS nL σ pc L (.ref (E.1.heap.size + 44) :: st) :=
  z_get hC cf3 hd (k_44 σ) (k := 5) (by decide) (Or.inl q1590) (Or.inl rfl) rfl k
theorem p_X4_147_c3 {C : ZC} {E : ZE} {cc : ByteArray} {n nL pc d a x : Nat} {nm : String} {ret : Option FieldType} {hh : List (Nat × Nat × Nat × Nat)} {σ : ZS} {L : List (Option Value)} {st : List Value} {v : Int32} (hC : Cx C E cc nL "RightTurnsModel" nm ret hh d) (hd : decode cc pc = .ok (.putfield 147, 3)) (hk : kK n σ a = (3 + 7, x)) (k : zz C E n nL (sI σ a 5 v) (pc + 3) L st) : zz C E n nL σ pc L (.int v :: .ref (E.1.heap.size + a) :: st) :=
  z_putI hC cf3 hd hk (k := 5) (by decide) (Or.inl q1590) (Or.inl rfl) (Or.inl rfl) rfl rfl rfl k
theorem p_X4_150_c3 {C : ZC} {E : ZE} {cc : ByteArray} {n nL pc d a x : Nat} {nm : String} {ret : Option FieldType} {hh : List (Nat × Nat × Nat × Nat)} {σ : ZS} {L : List (Option Value)} {st : List Value} {v : Int32} (hC : Cx C E cc nL "RightTurnsModel" nm ret hh d) (hd : decode cc pc = .ok (.putfield 150, 3)) (hk : kK n σ a = (3 + 7, x)) (k : zz C E n nL (sI σ a 6 v) (pc + 3) L st) : zz C E n nL σ pc L (.int v :: .ref (E.1.heap.size + a) :: st) :=
  z_putI hC cf3 hd hk (k := 6) (by decide) (Or.inl q1591) (Or.inl rfl) (Or.inl rfl) rfl rfl rfl k
def wp_X4_wrong (σ : ZS) (a1 : Int32) (a2 : Int32) (Ret : ZS → Prop) : Prop :=
    (((zI σ 44 5) = 0 → (∀ σ1 : ZS, σ1 = sI σ 44 5 a1 → (∀ σ2 : ZS, σ2 = sI σ1 44 6 a2 → (Ret σ2)))) ∧ (¬ (zI σ 44 5) = 0 → (Ret σ)))
set_option maxHeartbeats 4000000 in
theorem mz_X4_wrong {l : Launch} {E : ZE} (hE : EOK E) {σ : ZS} {a1 : Int32} {a2 : Int32} {Ret : ZS → Prop} (hV : wp_X4_wrong σ a1 a2 Ret) : MZ l E NS yX4_wrong (ws_ yX4_wrong cX4_wrong 3 none) 1 σ [.ref (E.1.heap.size + 44), .int a1, .int a2] (rV Ret) := by
  refine MZ.start (L := [some (.ref (E.1.heap.size + 44)), some (.int a1), some (.int a2)]) hE (by decide) (Nat.le_of_ble_eq_true rfl) rfl fun C hCl hQo hC => ?_
  replace hC : Cx C E cX4_wrong 3 "RightTurnsModel" "wrong" none [] 1 := hC
  unfold wp_X4_wrong at hV
  refine z_aload_n hC dX4_wrong_0 rfl rfl ?_
  refine g_X4_147_44 hC dX4_wrong_1 ?_
  refine z_if_ne (tgt := 17) hC dX4_wrong_4 (by decide) (fun hc => ?_) (fun hc => ?_)
  · replace hV := hV.2 hc
    exact z_vret hC dX4_wrong_17 (by rw [hQo]; exact ⟨rfl, hV⟩)
  · replace hV := hV.1 hc
    refine z_aload_n hC dX4_wrong_7 rfl rfl ?_
    refine z_iload_n hC dX4_wrong_8 rfl rfl ?_
    refine p_X4_147_c3 hC dX4_wrong_9 (k_44 _) ?_
    obtain ⟨σ1, e_σ1⟩ : ∃ z : ZS, z = sI σ 44 5 a1 := ⟨_, rfl⟩
    replace hV := hV _ e_σ1
    rw [← e_σ1]
    refine z_aload_n hC dX4_wrong_12 rfl rfl ?_
    refine z_iload_n hC dX4_wrong_13 rfl rfl ?_
    refine p_X4_150_c3 hC dX4_wrong_14 (k_44 _) ?_
    obtain ⟨σ2, e_σ2⟩ : ∃ z : ZS, z = sI σ1 44 6 a2 := ⟨_, rfl⟩
    replace hV := hV _ e_σ2
    rw [← e_σ2]
    exact z_vret hC dX4_wrong_17 (by rw [hQo]; exact ⟨rfl, hV⟩)
theorem cw_X4_blanks : CodeW yX4_blanks (ws_ yX4_blanks cX4_blanks 1 none) 1 := ⟨fun w h => (List.mem_cons.mp h).elim (fun e => e ▸ q1788) id, Or.inl ⟨_, _, q1788⟩, q138, by decide, by decide⟩
theorem c_X4_153 {C : ZC} {E : ZE} {cc : ByteArray} {nL pc d : Nat} {nm : String} {ret : Option FieldType} {hh : List (Nat × Nat × Nat × Nat)} {σ : ZS} {L : List (Option Value)} {st : List Value} {Ret : ZS → Prop} (hC : Cx C E cc nL "RightTurnsModel" nm ret hh d) (hdd : 2 + 1 ≤ d) (hd : decode cc pc = .ok (.invokevirtual 153, 3)) (hW : (st.map fun v => v.category).sum ≤ 8) (hV : wp_X4_blanks σ Ret) (k : ∀ σ', Ret σ' → zz C E NS nL σ' (pc + 3) L st) : zz C E NS nL σ pc L (.ref (E.1.heap.size + 44) :: st) :=
  z_callVG hC cf3 cw_X4_blanks hdd (by decide) (mz_X4_blanks (cxE hC) hV) hd (k_44 σ) q1785 q1787 qs52 (np := 0) rfl rfl hW rfl (kV k)
theorem cw_X4_wrong : CodeW yX4_wrong (ws_ yX4_wrong cX4_wrong 3 none) 3 := ⟨fun w h => (List.mem_cons.mp h).elim (fun e => e ▸ q1815) id, Or.inl ⟨_, _, q1815⟩, q138, by decide, by decide⟩
theorem c_X4_160 {C : ZC} {E : ZE} {cc : ByteArray} {nL pc d : Nat} {nm : String} {ret : Option FieldType} {hh : List (Nat × Nat × Nat × Nat)} {σ : ZS} {L : List (Option Value)} {st : List Value} {a1 : Int32} {a2 : Int32} {Ret : ZS → Prop} (hC : Cx C E cc nL "RightTurnsModel" nm ret hh d) (hdd : 1 + 1 ≤ d) (hd : decode cc pc = .ok (.invokevirtual 160, 3)) (hW : (st.map fun v => v.category).sum ≤ 8) (hV : wp_X4_wrong σ a1 a2 Ret) (k : ∀ σ', Ret σ' → zz C E NS nL σ' (pc + 3) L st) : zz C E NS nL σ pc L (.int a2 :: .int a1 :: .ref (E.1.heap.size + 44) :: st) :=
  z_callVG hC cf3 cw_X4_wrong hdd (by decide) (mz_X4_wrong (cxE hC) hV) hd (k_44 σ) q1812 q1814 qs58 (np := 2) rfl rfl hW rfl (kV k)
def wp_X4_closes (σ : ZS) (a1 : Int32) (Ret : ZS → Prop) : Prop :=
    (((zI σ 44 5) = 0 → (wp_X4_blanks σ (fun σ2 => wp_X4_byteAt σ2 (zI σ2 44 4) (fun r3 σ4 => ((r3 = a1 → (∀ σ7 : ZS, σ7 = sI σ4 44 4 ((zI σ4 44 4) + 1) → (Ret σ7))) ∧ (¬ r3 = a1 → (wp_X4_wrong σ4 1 (zI σ4 44 4) (fun σ6 => Ret σ6)))))))) ∧ (¬ (zI σ 44 5) = 0 → (Ret σ)))
set_option maxHeartbeats 4000000 in
theorem mz_X4_closes {l : Launch} {E : ZE} (hE : EOK E) {σ : ZS} {a1 : Int32} {Ret : ZS → Prop} (hV : wp_X4_closes σ a1 Ret) : MZ l E NS yX4_closes (ws_ yX4_closes cX4_closes 2 none) 3 σ [.ref (E.1.heap.size + 44), .int a1] (rV Ret) := by
  refine MZ.start (L := [some (.ref (E.1.heap.size + 44)), some (.int a1)]) hE (by decide) (Nat.le_of_ble_eq_true rfl) rfl fun C hCl hQo hC => ?_
  replace hC : Cx C E cX4_closes 2 "RightTurnsModel" "closes" none [] 3 := hC
  unfold wp_X4_closes at hV
  refine z_aload_n hC dX4_closes_0 rfl rfl ?_
  refine g_X4_147_44 hC dX4_closes_1 ?_
  refine z_if_eq (tgt := 8) hC dX4_closes_4 (by decide) (fun hc => ?_) (fun hc => ?_)
  · replace hV := hV.1 hc
    refine z_aload_n hC dX4_closes_8 rfl rfl ?_
    refine c_X4_153 hC (by decide) dX4_closes_9 (Nat.le_of_ble_eq_true rfl) hV (fun σ2 hV => ?_)
    refine z_aload_n hC dX4_closes_12 rfl rfl ?_
    refine z_aload_n hC dX4_closes_13 rfl rfl ?_
    refine g_X4_140_44 hC dX4_closes_14 ?_
    refine c_X4_143 hC (by decide) dX4_closes_17 (Nat.le_of_ble_eq_true rfl) hV (fun r3 σ4 hV => ?_)
    refine z_iload_n hC dX4_closes_20 rfl rfl ?_
    refine z_icmp_ne (tgt := 37) hC dX4_closes_21 (by decide) (fun hc => ?_) (fun hc => ?_)
    · replace hV := hV.2 hc
      refine z_aload_n hC dX4_closes_37 rfl rfl ?_
      refine z_iconst (v := 1) hC dX4_closes_38 rfl ?_
      refine z_aload_n hC dX4_closes_39 rfl rfl ?_
      refine g_X4_140_44 hC dX4_closes_40 ?_
      refine c_X4_160 hC (by decide) dX4_closes_43 (Nat.le_of_ble_eq_true rfl) hV (fun σ6 hV => ?_)
      exact z_vret hC dX4_closes_46 (by rw [hQo]; exact ⟨rfl, hV⟩)
    · replace hV := hV.1 hc
      refine z_aload_n hC dX4_closes_24 rfl rfl ?_
      refine z_dup hC dX4_closes_25 rfl ?_
      refine g_X4_140_44 hC dX4_closes_26 ?_
      refine z_iconst (v := 1) hC dX4_closes_29 rfl ?_
      refine z_iadd hC dX4_closes_30 ?_
      refine p_X4_140_c3 hC dX4_closes_31 (k_44 _) ?_
      obtain ⟨σ7, e_σ7⟩ : ∃ z : ZS, z = sI σ4 44 4 ((zI σ4 44 4) + 1) := ⟨_, rfl⟩
      replace hV := hV _ e_σ7
      rw [← e_σ7]
      refine z_goto (tgt := 46) hC dX4_closes_34 (by decide) ?_
      exact z_vret hC dX4_closes_46 (by rw [hQo]; exact ⟨rfl, hV⟩)
  · replace hV := hV.2 hc
    exact z_vret hC dX4_closes_7 (by rw [hQo]; exact ⟨rfl, hV⟩)
def V_X4_named_62 (Ret : Int32 → ZS → Prop) (σ : ZS) (x5 : Int32) (s0 : Int32) : Prop :=
    ((x5 = 0 → (Ret s0 σ)) ∧ (¬ x5 = 0 → (Ret ((27 * s0) + x5) σ)))
def V_X4_named_42 (Ret : Int32 → ZS → Prop) (σ : ZS) (x4 : Int32) (x5 : Int32) (s0 : Int32) : Prop :=
    ((x4 = 0 → (V_X4_named_62 Ret σ x5 s0)) ∧ (¬ x4 = 0 → (V_X4_named_62 Ret σ x5 ((27 * s0) + x4))))
def V_X4_named_24 (Ret : Int32 → ZS → Prop) (σ : ZS) (x3 : Int32) (x4 : Int32) (x5 : Int32) (s0 : Int32) : Prop :=
    ((x3 = 0 → (V_X4_named_42 Ret σ x4 x5 s0)) ∧ (¬ x3 = 0 → (V_X4_named_42 Ret σ x4 x5 ((27 * s0) + x3))))
def wp_X4_named (σ : ZS) (a0 : Int32) (a1 : Int32) (a2 : Int32) (a3 : Int32) (a4 : Int32) (a5 : Int32) (Ret : Int32 → ZS → Prop) : Prop :=
    ∀ y1 : Int32, y1 = (27 * a0) + a1 → (((a2 = 0 → (V_X4_named_24 Ret σ a3 a4 a5 y1)) ∧ (¬ a2 = 0 → (V_X4_named_24 Ret σ a3 a4 a5 ((27 * y1) + a2)))))
set_option maxHeartbeats 4000000 in
theorem mz_X4_named {l : Launch} {E : ZE} (hE : EOK E) {σ : ZS} {a0 : Int32} {a1 : Int32} {a2 : Int32} {a3 : Int32} {a4 : Int32} {a5 : Int32} {Ret : Int32 → ZS → Prop} (hV : wp_X4_named σ a0 a1 a2 a3 a4 a5 Ret) : MZ l E NS yX4_named (ws_ yX4_named cX4_named 7 (some .int)) 1 σ [.int a0, .int a1, .int a2, .int a3, .int a4, .int a5] (rI Ret) := by
  refine MZ.start (L := [some (.int a0), some (.int a1), some (.int a2), some (.int a3), some (.int a4), some (.int a5), none]) hE (by decide) (Nat.le_of_ble_eq_true rfl) rfl fun C hCl hQo hC => ?_
  replace hC : Cx C E cX4_named 7 "RightTurnsModel" "named" (some .int) [] 1 := hC
  unfold wp_X4_named at hV
  have j_62 : ∀ (σ : ZS) (x5 : Int32) (s0 : Int32), V_X4_named_62 Ret σ x5 s0 → zz C E NS 7 σ 62 [none, none, none, none, none, some (.int x5), none] [.int s0] := by
    intro σ x5 s0 hV
    unfold V_X4_named_62 at hV
    refine z_istore hC dX4_named_62 (Nat.le_of_ble_eq_true rfl) rfl rfl ?_
    refine z_iload hC dX4_named_64 rfl ?_
    refine z_if_ne (tgt := 74) hC dX4_named_66 (by decide) (fun hc => ?_) (fun hc => ?_)
    · replace hV := hV.2 hc
      refine z_bipush (v := 27) hC dX4_named_74 rfl ?_
      refine z_iload hC dX4_named_76 rfl ?_
      refine z_imul hC dX4_named_78 ?_
      refine z_iload hC dX4_named_79 rfl ?_
      refine z_iadd hC dX4_named_81 ?_
      exact z_iret hC dX4_named_82 rfl (by rw [hQo]; exact ⟨_, rfl, hV⟩)
    · replace hV := hV.1 hc
      refine z_iload hC dX4_named_69 rfl ?_
      refine z_goto (tgt := 82) hC dX4_named_71 (by decide) ?_
      exact z_iret hC dX4_named_82 rfl (by rw [hQo]; exact ⟨_, rfl, hV⟩)
  have j_42 : ∀ (σ : ZS) (x4 : Int32) (x5 : Int32) (s0 : Int32), V_X4_named_42 Ret σ x4 x5 s0 → zz C E NS 7 σ 42 [none, none, none, none, some (.int x4), some (.int x5), none] [.int s0] := by
    intro σ x4 x5 s0 hV
    unfold V_X4_named_42 at hV
    refine z_istore hC dX4_named_42 (Nat.le_of_ble_eq_true rfl) rfl rfl ?_
    refine z_iload hC dX4_named_44 rfl ?_
    refine z_if_ne (tgt := 54) hC dX4_named_46 (by decide) (fun hc => ?_) (fun hc => ?_)
    · replace hV := hV.2 hc
      refine z_bipush (v := 27) hC dX4_named_54 rfl ?_
      refine z_iload hC dX4_named_56 rfl ?_
      refine z_imul hC dX4_named_58 ?_
      refine z_iload hC dX4_named_59 rfl ?_
      refine z_iadd hC dX4_named_61 ?_
      refine zz_sub (L' := [none, none, none, none, none, some (.int x5), none]) ⟨rfl, trivial⟩ ?_
      exact j_62 σ x5 ((27 * s0) + x4) hV
    · replace hV := hV.1 hc
      refine z_iload hC dX4_named_49 rfl ?_
      refine z_goto (tgt := 62) hC dX4_named_51 (by decide) ?_
      refine zz_sub (L' := [none, none, none, none, none, some (.int x5), none]) ⟨rfl, trivial⟩ ?_
      exact j_62 σ x5 s0 hV
  have j_24 : ∀ (σ : ZS) (x3 : Int32) (x4 : Int32) (x5 : Int32) (s0 : Int32), V_X4_named_24 Ret σ x3 x4 x5 s0 → zz C E NS 7 σ 24 [none, none, none, some (.int x3), some (.int x4), some (.int x5), none] [.int s0] := by
    intro σ x3 x4 x5 s0 hV
    unfold V_X4_named_24 at hV
    refine z_istore hC dX4_named_24 (Nat.le_of_ble_eq_true rfl) rfl rfl ?_
    refine z_iload_n hC dX4_named_26 rfl rfl ?_
    refine z_if_ne (tgt := 35) hC dX4_named_27 (by decide) (fun hc => ?_) (fun hc => ?_)
    · replace hV := hV.2 hc
      refine z_bipush (v := 27) hC dX4_named_35 rfl ?_
      refine z_iload hC dX4_named_37 rfl ?_
      refine z_imul hC dX4_named_39 ?_
      refine z_iload_n hC dX4_named_40 rfl rfl ?_
      refine z_iadd hC dX4_named_41 ?_
      refine zz_sub (L' := [none, none, none, none, some (.int x4), some (.int x5), none]) ⟨rfl, rfl, trivial⟩ ?_
      exact j_42 σ x4 x5 ((27 * s0) + x3) hV
    · replace hV := hV.1 hc
      refine z_iload hC dX4_named_30 rfl ?_
      refine z_goto (tgt := 42) hC dX4_named_32 (by decide) ?_
      refine zz_sub (L' := [none, none, none, none, some (.int x4), some (.int x5), none]) ⟨rfl, rfl, trivial⟩ ?_
      exact j_42 σ x4 x5 s0 hV
  refine z_bipush (v := 27) hC dX4_named_0 rfl ?_
  refine z_iload_n hC dX4_named_2 rfl rfl ?_
  refine z_imul hC dX4_named_3 ?_
  refine z_iload_n hC dX4_named_4 rfl rfl ?_
  refine z_iadd hC dX4_named_5 ?_
  obtain ⟨y1, e_y1⟩ : ∃ z, z = (27 * a0) + a1 := ⟨_, rfl⟩
  rw [← e_y1]
  replace hV := hV _ e_y1
  refine z_istore hC dX4_named_6 (Nat.le_of_ble_eq_true rfl) rfl rfl ?_
  refine z_iload_n hC dX4_named_8 rfl rfl ?_
  refine z_if_ne (tgt := 17) hC dX4_named_9 (by decide) (fun hc => ?_) (fun hc => ?_)
  · replace hV := hV.2 hc
    refine z_bipush (v := 27) hC dX4_named_17 rfl ?_
    refine z_iload hC dX4_named_19 rfl ?_
    refine z_imul hC dX4_named_21 ?_
    refine z_iload_n hC dX4_named_22 rfl rfl ?_
    refine z_iadd hC dX4_named_23 ?_
    refine zz_sub (L' := [none, none, none, some (.int a3), some (.int a4), some (.int a5), none]) ⟨rfl, rfl, rfl, trivial⟩ ?_
    exact j_24 σ a3 a4 a5 ((27 * y1) + a2) hV
  · replace hV := hV.1 hc
    refine z_iload hC dX4_named_12 rfl ?_
    refine z_goto (tgt := 24) hC dX4_named_14 (by decide) ?_
    refine zz_sub (L' := [none, none, none, some (.int a3), some (.int a4), some (.int a5), none]) ⟨rfl, rfl, rfl, trivial⟩ ?_
    exact j_24 σ a3 a4 a5 y1 hV
def VL_X4_wordHere_8 (Ret : Int32 → ZS → Prop) : Nat → ZS → Int32 → Int32 → Prop
  | 0 => fun _ _ _ => False
  | k + 1 => fun σ x1 x2 =>
    let K8 := VL_X4_wordHere_8 Ret k
    wp_X4_byteAt σ ((zI σ 44 4) + x2) (fun r3 σ4 => ((r3 < 97 → (((6 < x2 → (Ret (-1) σ4)) ∧ (¬ 6 < x2 → (Ret x1 σ4))))) ∧ (¬ r3 < 97 → (wp_X4_byteAt σ4 ((zI σ4 44 4) + x2) (fun r5 σ6 => ((122 < r5 → (((6 < x2 → (Ret (-1) σ6)) ∧ (¬ 6 < x2 → (Ret x1 σ6))))) ∧ (¬ 122 < r5 → (((x2 < 6 → (wp_X4_byteAt σ6 ((zI σ6 44 4) + x2) (fun r8 σ9 => ∀ y10 : Int32, y10 = (((27 * x1) + r8) - 97) + 1 → (∀ y11 : Int32, y11 = x2 + 1 → (K8 σ9 y10 y11))))) ∧ (¬ x2 < 6 → (∀ y7 : Int32, y7 = x2 + 1 → (K8 σ6 x1 y7))))))))))))
def V_X4_wordHere_8 (Ret : Int32 → ZS → Prop) (σ : ZS) (x1 : Int32) (x2 : Int32) : Prop := ∃ k, VL_X4_wordHere_8 Ret k σ x1 x2
def wp_X4_wordHere (σ : ZS) (Ret : Int32 → ZS → Prop) : Prop :=
    wp_X4_blanks σ (fun σ2 => V_X4_wordHere_8 Ret σ2 0 0)
set_option maxHeartbeats 4000000 in
theorem mz_X4_wordHere {l : Launch} {E : ZE} (hE : EOK E) {σ : ZS} {Ret : Int32 → ZS → Prop} (hV : wp_X4_wordHere σ Ret) : MZ l E NS yX4_wordHere (ws_ yX4_wordHere cX4_wordHere 3 (some .int)) 3 σ [.ref (E.1.heap.size + 44)] (rI Ret) := by
  refine MZ.start (L := [some (.ref (E.1.heap.size + 44)), none, none]) hE (by decide) (Nat.le_of_ble_eq_true rfl) rfl fun C hCl hQo hC => ?_
  replace hC : Cx C E cX4_wordHere 3 "RightTurnsModel" "wordHere" (some .int) [] 3 := hC
  unfold wp_X4_wordHere at hV
  have j_8 : ∀ (σ : ZS) (x1 : Int32) (x2 : Int32), V_X4_wordHere_8 Ret σ x1 x2 → zz C E NS 3 σ 8 [some (.ref (E.1.heap.size + 44)), some (.int x1), some (.int x2)] [] := by
    intro σ x1 x2 ⟨k, hV⟩
    revert σ x1 x2
    induction k with
    | zero => exact fun _ _ _ hV => hV.elim
    | succ k j_8 =>
      intro σ x1 x2 hV
      simp only [VL_X4_wordHere_8] at hV
      generalize hKe8 : VL_X4_wordHere_8 Ret k = K8 at hV j_8
      clear hKe8
      refine z_aload_n hC dX4_wordHere_8 rfl rfl ?_
      refine z_aload_n hC dX4_wordHere_9 rfl rfl ?_
      refine g_X4_140_44 hC dX4_wordHere_10 ?_
      refine z_iload_n hC dX4_wordHere_13 rfl rfl ?_
      refine z_iadd hC dX4_wordHere_14 ?_
      refine c_X4_143 hC (by decide) dX4_wordHere_15 (Nat.le_of_ble_eq_true rfl) hV (fun r3 σ4 hV => ?_)
      refine z_bipush (v := 97) hC dX4_wordHere_18 rfl ?_
      refine z_icmp_lt (tgt := 75) hC dX4_wordHere_20 (by decide) (fun hc => ?_) (fun hc => ?_)
      · replace hV := hV.1 hc
        refine z_iload_n hC dX4_wordHere_75 rfl rfl ?_
        refine z_bipush (v := 6) hC dX4_wordHere_76 rfl ?_
        refine z_icmp_le (tgt := 85) hC dX4_wordHere_78 (by decide) (fun hc => ?_) (fun hc => ?_)
        · replace hV := hV.2 hc
          refine z_iload_n hC dX4_wordHere_85 rfl rfl ?_
          exact z_iret hC dX4_wordHere_86 rfl (by rw [hQo]; exact ⟨_, rfl, hV⟩)
        · replace hV := hV.1 hc
          refine z_iconst (v := (-1)) hC dX4_wordHere_81 rfl ?_
          refine z_goto (tgt := 86) hC dX4_wordHere_82 (by decide) ?_
          exact z_iret hC dX4_wordHere_86 rfl (by rw [hQo]; exact ⟨_, rfl, hV⟩)
      · replace hV := hV.2 hc
        refine z_aload_n hC dX4_wordHere_23 rfl rfl ?_
        refine z_aload_n hC dX4_wordHere_24 rfl rfl ?_
        refine g_X4_140_44 hC dX4_wordHere_25 ?_
        refine z_iload_n hC dX4_wordHere_28 rfl rfl ?_
        refine z_iadd hC dX4_wordHere_29 ?_
        refine c_X4_143 hC (by decide) dX4_wordHere_30 (Nat.le_of_ble_eq_true rfl) hV (fun r5 σ6 hV => ?_)
        refine z_bipush (v := 122) hC dX4_wordHere_33 rfl ?_
        refine z_icmp_gt (tgt := 75) hC dX4_wordHere_35 (by decide) (fun hc => ?_) (fun hc => ?_)
        · replace hV := hV.1 hc
          refine z_iload_n hC dX4_wordHere_75 rfl rfl ?_
          refine z_bipush (v := 6) hC dX4_wordHere_76 rfl ?_
          refine z_icmp_le (tgt := 85) hC dX4_wordHere_78 (by decide) (fun hc => ?_) (fun hc => ?_)
          · replace hV := hV.2 hc
            refine z_iload_n hC dX4_wordHere_85 rfl rfl ?_
            exact z_iret hC dX4_wordHere_86 rfl (by rw [hQo]; exact ⟨_, rfl, hV⟩)
          · replace hV := hV.1 hc
            refine z_iconst (v := (-1)) hC dX4_wordHere_81 rfl ?_
            refine z_goto (tgt := 86) hC dX4_wordHere_82 (by decide) ?_
            exact z_iret hC dX4_wordHere_86 rfl (by rw [hQo]; exact ⟨_, rfl, hV⟩)
        · replace hV := hV.2 hc
          refine z_iload_n hC dX4_wordHere_38 rfl rfl ?_
          refine z_bipush (v := 6) hC dX4_wordHere_39 rfl ?_
          refine z_icmp_ge (tgt := 67) hC dX4_wordHere_41 (by decide) (fun hc => ?_) (fun hc => ?_)
          · replace hV := hV.2 hc
            refine z_iload_n hC dX4_wordHere_67 rfl rfl ?_
            refine z_istore_n hC dX4_wordHere_68 rfl (Nat.le_of_ble_eq_true rfl) rfl rfl ?_
            obtain ⟨y7, e_y7⟩ : ∃ z : Int32, z = x2 + 1 := ⟨_, rfl⟩
            replace hV := hV _ e_y7
            refine z_iinc (v := y7) hC dX4_wordHere_69 rfl (by rw [e_y7]; rfl) (Nat.le_of_ble_eq_true rfl) rfl rfl ?_
            refine z_goto (tgt := 8) hC dX4_wordHere_72 (by decide) ?_
            refine zz_sub (L' := [some (.ref (E.1.heap.size + 44)), some (.int x1), some (.int y7)]) ⟨rfl, rfl, rfl, trivial⟩ ?_
            exact j_8 σ6 x1 y7 hV
          · replace hV := hV.1 hc
            refine z_bipush (v := 27) hC dX4_wordHere_44 rfl ?_
            refine z_iload_n hC dX4_wordHere_46 rfl rfl ?_
            refine z_imul hC dX4_wordHere_47 ?_
            refine z_aload_n hC dX4_wordHere_48 rfl rfl ?_
            refine z_aload_n hC dX4_wordHere_49 rfl rfl ?_
            refine g_X4_140_44 hC dX4_wordHere_50 ?_
            refine z_iload_n hC dX4_wordHere_53 rfl rfl ?_
            refine z_iadd hC dX4_wordHere_54 ?_
            refine c_X4_143 hC (by decide) dX4_wordHere_55 (Nat.le_of_ble_eq_true rfl) hV (fun r8 σ9 hV => ?_)
            refine z_iadd hC dX4_wordHere_58 ?_
            refine z_bipush (v := 97) hC dX4_wordHere_59 rfl ?_
            refine z_isub hC dX4_wordHere_61 ?_
            refine z_iconst (v := 1) hC dX4_wordHere_62 rfl ?_
            refine z_iadd hC dX4_wordHere_63 ?_
            refine z_goto (tgt := 68) hC dX4_wordHere_64 (by decide) ?_
            obtain ⟨y10, e_y10⟩ : ∃ z, z = (((27 * x1) + r8) - 97) + 1 := ⟨_, rfl⟩
            rw [← e_y10]
            replace hV := hV _ e_y10
            refine z_istore_n hC dX4_wordHere_68 rfl (Nat.le_of_ble_eq_true rfl) rfl rfl ?_
            obtain ⟨y11, e_y11⟩ : ∃ z : Int32, z = x2 + 1 := ⟨_, rfl⟩
            replace hV := hV _ e_y11
            refine z_iinc (v := y11) hC dX4_wordHere_69 rfl (by rw [e_y11]; rfl) (Nat.le_of_ble_eq_true rfl) rfl rfl ?_
            refine z_goto (tgt := 8) hC dX4_wordHere_72 (by decide) ?_
            refine zz_sub (L' := [some (.ref (E.1.heap.size + 44)), some (.int y10), some (.int y11)]) ⟨rfl, rfl, rfl, trivial⟩ ?_
            exact j_8 σ9 y10 y11 hV
  refine z_aload_n hC dX4_wordHere_0 rfl rfl ?_
  refine c_X4_153 hC (by decide) dX4_wordHere_1 (Nat.le_of_ble_eq_true rfl) hV (fun σ2 hV => ?_)
  refine z_iconst (v := 0) hC dX4_wordHere_4 rfl ?_
  refine z_istore_n hC dX4_wordHere_5 rfl (Nat.le_of_ble_eq_true rfl) rfl rfl ?_
  refine z_iconst (v := 0) hC dX4_wordHere_6 rfl ?_
  refine z_istore_n hC dX4_wordHere_7 rfl (Nat.le_of_ble_eq_true rfl) rfl rfl ?_
  refine zz_sub (L' := [some (.ref (E.1.heap.size + 44)), some (.int 0), some (.int 0)]) ⟨rfl, rfl, rfl, trivial⟩ ?_
  exact j_8 σ2 0 0 hV
theorem cw_X4_wordHere : CodeW yX4_wordHere (ws_ yX4_wordHere cX4_wordHere 3 (some .int)) 3 := ⟨fun w h => (List.mem_cons.mp h).elim (fun e => e ▸ q1808) id, Or.inl ⟨_, _, q1808⟩, q138, by decide, by decide⟩
theorem c_X4_169 {C : ZC} {E : ZE} {cc : ByteArray} {nL pc d : Nat} {nm : String} {ret : Option FieldType} {hh : List (Nat × Nat × Nat × Nat)} {σ : ZS} {L : List (Option Value)} {st : List Value} {Ret : Int32 → ZS → Prop} (hC : Cx C E cc nL "RightTurnsModel" nm ret hh d) (hdd : 3 + 1 ≤ d) (hd : decode cc pc = .ok (.invokevirtual 169, 3)) (hW : (st.map fun v => v.category).sum ≤ 8) (hV : wp_X4_wordHere σ Ret) (k : ∀ r σ', Ret r σ' → zz C E NS nL σ' (pc + 3) L (.int r :: st)) : zz C E NS nL σ pc L (.ref (E.1.heap.size + 44) :: st) :=
  z_callVG hC cf3 cw_X4_wordHere hdd (by decide) (mz_X4_wordHere (cxE hC) hV) hd (k_44 σ) q1805 q1807 qs57 (np := 0) rfl rfl hW rfl (kI k)
theorem cw_X4_named : CodeW yX4_named (ws_ yX4_named cX4_named 7 (some .int)) 7 := ⟨fun w h => (List.mem_cons.mp h).elim (fun e => e ▸ q1811) id, Or.inl ⟨_, _, q1811⟩, q138, by decide, by decide⟩
theorem c_X4_173 {C : ZC} {E : ZE} {cc : ByteArray} {nL pc d : Nat} {nm : String} {ret : Option FieldType} {hh : List (Nat × Nat × Nat × Nat)} {σ : ZS} {L : List (Option Value)} {st : List Value} {a0 : Int32} {a1 : Int32} {a2 : Int32} {a3 : Int32} {a4 : Int32} {a5 : Int32} {Ret : Int32 → ZS → Prop} (hC : Cx C E cc nL "RightTurnsModel" nm ret hh d) (hdd : 1 + 1 ≤ d) (hd : decode cc pc = .ok (.invokestatic 173, 3)) (hW : (st.map fun v => v.category).sum ≤ 8) (hV : wp_X4_named σ a0 a1 a2 a3 a4 a5 Ret) (k : ∀ r σ', Ret r σ' → zz C E NS nL σ' (pc + 3) L (.int r :: st)) : zz C E NS nL σ pc L (.int a5 :: .int a4 :: .int a3 :: .int a2 :: .int a1 :: .int a0 :: st) :=
  z_callSG hC cw_X4_named hdd (by decide) (mz_X4_named (cxE hC) hV) hd q1809 q1810 (np := 6) rfl rfl hW rfl (kI k)
def wp_X4_isWord (σ : ZS) (a1 : Int32) (a2 : Int32) (a3 : Int32) (a4 : Int32) (a5 : Int32) (a6 : Int32) (Ret : Int32 → ZS → Prop) : Prop :=
    (((zI σ 44 5) = 0 → (wp_X4_wordHere σ (fun r1 σ2 => wp_X4_named σ2 a1 a2 a3 a4 a5 a6 (fun r3 σ4 => ((r1 = r3 → (Ret 1 σ4)) ∧ (¬ r1 = r3 → (Ret 0 σ4))))))) ∧ (¬ (zI σ 44 5) = 0 → (Ret 0 σ)))
set_option maxHeartbeats 4000000 in
theorem mz_X4_isWord {l : Launch} {E : ZE} (hE : EOK E) {σ : ZS} {a1 : Int32} {a2 : Int32} {a3 : Int32} {a4 : Int32} {a5 : Int32} {a6 : Int32} {Ret : Int32 → ZS → Prop} (hV : wp_X4_isWord σ a1 a2 a3 a4 a5 a6 Ret) : MZ l E NS yX4_isWord (ws_ yX4_isWord cX4_isWord 7 (some .boolean)) 4 σ [.ref (E.1.heap.size + 44), .int a1, .int a2, .int a3, .int a4, .int a5, .int a6] (rI Ret) := by
  refine MZ.start (L := [some (.ref (E.1.heap.size + 44)), some (.int a1), some (.int a2), some (.int a3), some (.int a4), some (.int a5), some (.int a6)]) hE (by decide) (Nat.le_of_ble_eq_true rfl) rfl fun C hCl hQo hC => ?_
  replace hC : Cx C E cX4_isWord 7 "RightTurnsModel" "isWord" (some .boolean) [] 4 := hC
  unfold wp_X4_isWord at hV
  refine z_aload_n hC dX4_isWord_0 rfl rfl ?_
  refine g_X4_147_44 hC dX4_isWord_1 ?_
  refine z_if_ne (tgt := 30) hC dX4_isWord_4 (by decide) (fun hc => ?_) (fun hc => ?_)
  · replace hV := hV.2 hc
    refine z_iconst (v := 0) hC dX4_isWord_30 rfl ?_
    exact z_iret hC dX4_isWord_31 rfl (by rw [hQo]; exact ⟨_, rfl, hV⟩)
  · replace hV := hV.1 hc
    refine z_aload_n hC dX4_isWord_7 rfl rfl ?_
    refine c_X4_169 hC (by decide) dX4_isWord_8 (Nat.le_of_ble_eq_true rfl) hV (fun r1 σ2 hV => ?_)
    refine z_iload_n hC dX4_isWord_11 rfl rfl ?_
    refine z_iload_n hC dX4_isWord_12 rfl rfl ?_
    refine z_iload_n hC dX4_isWord_13 rfl rfl ?_
    refine z_iload hC dX4_isWord_14 rfl ?_
    refine z_iload hC dX4_isWord_16 rfl ?_
    refine z_iload hC dX4_isWord_18 rfl ?_
    refine c_X4_173 hC (by decide) dX4_isWord_20 (Nat.le_of_ble_eq_true rfl) hV (fun r3 σ4 hV => ?_)
    refine z_icmp_ne (tgt := 30) hC dX4_isWord_23 (by decide) (fun hc => ?_) (fun hc => ?_)
    · replace hV := hV.2 hc
      refine z_iconst (v := 0) hC dX4_isWord_30 rfl ?_
      exact z_iret hC dX4_isWord_31 rfl (by rw [hQo]; exact ⟨_, rfl, hV⟩)
    · replace hV := hV.1 hc
      refine z_iconst (v := 1) hC dX4_isWord_26 rfl ?_
      refine z_goto (tgt := 31) hC dX4_isWord_27 (by decide) ?_
      exact z_iret hC dX4_isWord_31 rfl (by rw [hQo]; exact ⟨_, rfl, hV⟩)
theorem cw_X4_isWord : CodeW yX4_isWord (ws_ yX4_isWord cX4_isWord 7 (some .boolean)) 7 := ⟨fun w h => (List.mem_cons.mp h).elim (fun e => e ▸ q1804) id, Or.inl ⟨_, _, q1804⟩, q138, by decide, by decide⟩
theorem c_X4_177 {C : ZC} {E : ZE} {cc : ByteArray} {nL pc d : Nat} {nm : String} {ret : Option FieldType} {hh : List (Nat × Nat × Nat × Nat)} {σ : ZS} {L : List (Option Value)} {st : List Value} {a1 : Int32} {a2 : Int32} {a3 : Int32} {a4 : Int32} {a5 : Int32} {a6 : Int32} {Ret : Int32 → ZS → Prop} (hC : Cx C E cc nL "RightTurnsModel" nm ret hh d) (hdd : 4 + 1 ≤ d) (hd : decode cc pc = .ok (.invokevirtual 177, 3)) (hW : (st.map fun v => v.category).sum ≤ 8) (hV : wp_X4_isWord σ a1 a2 a3 a4 a5 a6 Ret) (k : ∀ r σ', Ret r σ' → zz C E NS nL σ' (pc + 3) L (.int r :: st)) : zz C E NS nL σ pc L (.int a6 :: .int a5 :: .int a4 :: .int a3 :: .int a2 :: .int a1 :: .ref (E.1.heap.size + 44) :: st) :=
  z_callVG hC cf3 cw_X4_isWord hdd (by decide) (mz_X4_isWord (cxE hC) hV) hd (k_44 σ) q1801 q1803 qs56 (np := 6) rfl rfl hW rfl (kI k)
def wp_X4_kindHere (σ : ZS) (Ret : Int32 → ZS → Prop) : Prop :=
    wp_X4_isWord σ 3 15 18 14 5 18 (fun r1 σ2 => ((r1 = 0 → (wp_X4_isWord σ2 19 20 18 5 5 20 (fun r3 σ4 => ((r3 = 0 → (wp_X4_isWord σ4 15 14 5 0 0 0 (fun r5 σ6 => ((r5 = 0 → (wp_X4_isWord σ6 14 15 0 0 0 0 (fun r7 σ8 => ((r7 = 0 → (wp_X4_isWord σ8 13 1 25 0 0 0 (fun r9 σ10 => ((r9 = 0 → (wp_X4_isWord σ10 2 15 24 0 0 0 (fun r11 σ12 => ((r11 = 0 → (wp_X4_isWord σ12 18 9 4 5 18 0 (fun r13 σ14 => ((r13 = 0 → (Ret (-1) σ14)) ∧ (¬ r13 = 0 → (Ret 6 σ14)))))) ∧ (¬ r11 = 0 → (Ret 5 σ12)))))) ∧ (¬ r9 = 0 → (Ret 4 σ10)))))) ∧ (¬ r7 = 0 → (Ret 3 σ8)))))) ∧ (¬ r5 = 0 → (Ret 2 σ6)))))) ∧ (¬ r3 = 0 → (Ret 1 σ4)))))) ∧ (¬ r1 = 0 → (Ret 0 σ2))))
set_option maxHeartbeats 4000000 in
theorem mz_X4_kindHere {l : Launch} {E : ZE} (hE : EOK E) {σ : ZS} {Ret : Int32 → ZS → Prop} (hV : wp_X4_kindHere σ Ret) : MZ l E NS yX4_kindHere (ws_ yX4_kindHere cX4_kindHere 1 (some .int)) 5 σ [.ref (E.1.heap.size + 44)] (rI Ret) := by
  refine MZ.start (L := [some (.ref (E.1.heap.size + 44))]) hE (by decide) (Nat.le_of_ble_eq_true rfl) rfl fun C hCl hQo hC => ?_
  replace hC : Cx C E cX4_kindHere 1 "RightTurnsModel" "kindHere" (some .int) [] 5 := hC
  unfold wp_X4_kindHere at hV
  refine z_aload_n hC dX4_kindHere_0 rfl rfl ?_
  refine z_iconst (v := 3) hC dX4_kindHere_1 rfl ?_
  refine z_bipush (v := 15) hC dX4_kindHere_2 rfl ?_
  refine z_bipush (v := 18) hC dX4_kindHere_4 rfl ?_
  refine z_bipush (v := 14) hC dX4_kindHere_6 rfl ?_
  refine z_iconst (v := 5) hC dX4_kindHere_8 rfl ?_
  refine z_bipush (v := 18) hC dX4_kindHere_9 rfl ?_
  refine c_X4_177 hC (by decide) dX4_kindHere_11 (Nat.le_of_ble_eq_true rfl) hV (fun r1 σ2 hV => ?_)
  refine z_if_eq (tgt := 19) hC dX4_kindHere_14 (by decide) (fun hc => ?_) (fun hc => ?_)
  · replace hV := hV.1 hc
    refine z_aload_n hC dX4_kindHere_19 rfl rfl ?_
    refine z_bipush (v := 19) hC dX4_kindHere_20 rfl ?_
    refine z_bipush (v := 20) hC dX4_kindHere_22 rfl ?_
    refine z_bipush (v := 18) hC dX4_kindHere_24 rfl ?_
    refine z_iconst (v := 5) hC dX4_kindHere_26 rfl ?_
    refine z_iconst (v := 5) hC dX4_kindHere_27 rfl ?_
    refine z_bipush (v := 20) hC dX4_kindHere_28 rfl ?_
    refine c_X4_177 hC (by decide) dX4_kindHere_30 (Nat.le_of_ble_eq_true rfl) hV (fun r3 σ4 hV => ?_)
    refine z_if_eq (tgt := 38) hC dX4_kindHere_33 (by decide) (fun hc => ?_) (fun hc => ?_)
    · replace hV := hV.1 hc
      refine z_aload_n hC dX4_kindHere_38 rfl rfl ?_
      refine z_bipush (v := 15) hC dX4_kindHere_39 rfl ?_
      refine z_bipush (v := 14) hC dX4_kindHere_41 rfl ?_
      refine z_iconst (v := 5) hC dX4_kindHere_43 rfl ?_
      refine z_iconst (v := 0) hC dX4_kindHere_44 rfl ?_
      refine z_iconst (v := 0) hC dX4_kindHere_45 rfl ?_
      refine z_iconst (v := 0) hC dX4_kindHere_46 rfl ?_
      refine c_X4_177 hC (by decide) dX4_kindHere_47 (Nat.le_of_ble_eq_true rfl) hV (fun r5 σ6 hV => ?_)
      refine z_if_eq (tgt := 55) hC dX4_kindHere_50 (by decide) (fun hc => ?_) (fun hc => ?_)
      · replace hV := hV.1 hc
        refine z_aload_n hC dX4_kindHere_55 rfl rfl ?_
        refine z_bipush (v := 14) hC dX4_kindHere_56 rfl ?_
        refine z_bipush (v := 15) hC dX4_kindHere_58 rfl ?_
        refine z_iconst (v := 0) hC dX4_kindHere_60 rfl ?_
        refine z_iconst (v := 0) hC dX4_kindHere_61 rfl ?_
        refine z_iconst (v := 0) hC dX4_kindHere_62 rfl ?_
        refine z_iconst (v := 0) hC dX4_kindHere_63 rfl ?_
        refine c_X4_177 hC (by decide) dX4_kindHere_64 (Nat.le_of_ble_eq_true rfl) hV (fun r7 σ8 hV => ?_)
        refine z_if_eq (tgt := 72) hC dX4_kindHere_67 (by decide) (fun hc => ?_) (fun hc => ?_)
        · replace hV := hV.1 hc
          refine z_aload_n hC dX4_kindHere_72 rfl rfl ?_
          refine z_bipush (v := 13) hC dX4_kindHere_73 rfl ?_
          refine z_iconst (v := 1) hC dX4_kindHere_75 rfl ?_
          refine z_bipush (v := 25) hC dX4_kindHere_76 rfl ?_
          refine z_iconst (v := 0) hC dX4_kindHere_78 rfl ?_
          refine z_iconst (v := 0) hC dX4_kindHere_79 rfl ?_
          refine z_iconst (v := 0) hC dX4_kindHere_80 rfl ?_
          refine c_X4_177 hC (by decide) dX4_kindHere_81 (Nat.le_of_ble_eq_true rfl) hV (fun r9 σ10 hV => ?_)
          refine z_if_eq (tgt := 89) hC dX4_kindHere_84 (by decide) (fun hc => ?_) (fun hc => ?_)
          · replace hV := hV.1 hc
            refine z_aload_n hC dX4_kindHere_89 rfl rfl ?_
            refine z_iconst (v := 2) hC dX4_kindHere_90 rfl ?_
            refine z_bipush (v := 15) hC dX4_kindHere_91 rfl ?_
            refine z_bipush (v := 24) hC dX4_kindHere_93 rfl ?_
            refine z_iconst (v := 0) hC dX4_kindHere_95 rfl ?_
            refine z_iconst (v := 0) hC dX4_kindHere_96 rfl ?_
            refine z_iconst (v := 0) hC dX4_kindHere_97 rfl ?_
            refine c_X4_177 hC (by decide) dX4_kindHere_98 (Nat.le_of_ble_eq_true rfl) hV (fun r11 σ12 hV => ?_)
            refine z_if_eq (tgt := 106) hC dX4_kindHere_101 (by decide) (fun hc => ?_) (fun hc => ?_)
            · replace hV := hV.1 hc
              refine z_aload_n hC dX4_kindHere_106 rfl rfl ?_
              refine z_bipush (v := 18) hC dX4_kindHere_107 rfl ?_
              refine z_bipush (v := 9) hC dX4_kindHere_109 rfl ?_
              refine z_iconst (v := 4) hC dX4_kindHere_111 rfl ?_
              refine z_iconst (v := 5) hC dX4_kindHere_112 rfl ?_
              refine z_bipush (v := 18) hC dX4_kindHere_113 rfl ?_
              refine z_iconst (v := 0) hC dX4_kindHere_115 rfl ?_
              refine c_X4_177 hC (by decide) dX4_kindHere_116 (Nat.le_of_ble_eq_true rfl) hV (fun r13 σ14 hV => ?_)
              refine z_if_eq (tgt := 127) hC dX4_kindHere_119 (by decide) (fun hc => ?_) (fun hc => ?_)
              · replace hV := hV.1 hc
                refine z_iconst (v := (-1)) hC dX4_kindHere_127 rfl ?_
                exact z_iret hC dX4_kindHere_128 rfl (by rw [hQo]; exact ⟨_, rfl, hV⟩)
              · replace hV := hV.2 hc
                refine z_bipush (v := 6) hC dX4_kindHere_122 rfl ?_
                refine z_goto (tgt := 128) hC dX4_kindHere_124 (by decide) ?_
                exact z_iret hC dX4_kindHere_128 rfl (by rw [hQo]; exact ⟨_, rfl, hV⟩)
            · replace hV := hV.2 hc
              refine z_iconst (v := 5) hC dX4_kindHere_104 rfl ?_
              exact z_iret hC dX4_kindHere_105 rfl (by rw [hQo]; exact ⟨_, rfl, hV⟩)
          · replace hV := hV.2 hc
            refine z_iconst (v := 4) hC dX4_kindHere_87 rfl ?_
            exact z_iret hC dX4_kindHere_88 rfl (by rw [hQo]; exact ⟨_, rfl, hV⟩)
        · replace hV := hV.2 hc
          refine z_iconst (v := 3) hC dX4_kindHere_70 rfl ?_
          exact z_iret hC dX4_kindHere_71 rfl (by rw [hQo]; exact ⟨_, rfl, hV⟩)
      · replace hV := hV.2 hc
        refine z_iconst (v := 2) hC dX4_kindHere_53 rfl ?_
        exact z_iret hC dX4_kindHere_54 rfl (by rw [hQo]; exact ⟨_, rfl, hV⟩)
    · replace hV := hV.2 hc
      refine z_iconst (v := 1) hC dX4_kindHere_36 rfl ?_
      exact z_iret hC dX4_kindHere_37 rfl (by rw [hQo]; exact ⟨_, rfl, hV⟩)
  · replace hV := hV.2 hc
    refine z_iconst (v := 0) hC dX4_kindHere_17 rfl ?_
    exact z_iret hC dX4_kindHere_18 rfl (by rw [hQo]; exact ⟨_, rfl, hV⟩)
def wp_X4_isDigit (σ : ZS) (a0 : Int32) (Ret : Int32 → ZS → Prop) : Prop :=
    ((a0 < 48 → (Ret 0 σ)) ∧ (¬ a0 < 48 → (((57 < a0 → (Ret 0 σ)) ∧ (¬ 57 < a0 → (Ret 1 σ))))))
set_option maxHeartbeats 4000000 in
theorem mz_X4_isDigit {l : Launch} {E : ZE} (hE : EOK E) {σ : ZS} {a0 : Int32} {Ret : Int32 → ZS → Prop} (hV : wp_X4_isDigit σ a0 Ret) : MZ l E NS yX4_isDigit (ws_ yX4_isDigit cX4_isDigit 1 (some .boolean)) 1 σ [.int a0] (rI Ret) := by
  refine MZ.start (L := [some (.int a0)]) hE (by decide) (Nat.le_of_ble_eq_true rfl) rfl fun C hCl hQo hC => ?_
  replace hC : Cx C E cX4_isDigit 1 "RightTurnsModel" "isDigit" (some .boolean) [] 1 := hC
  unfold wp_X4_isDigit at hV
  refine z_iload_n hC dX4_isDigit_0 rfl rfl ?_
  refine z_bipush (v := 48) hC dX4_isDigit_1 rfl ?_
  refine z_icmp_lt (tgt := 16) hC dX4_isDigit_3 (by decide) (fun hc => ?_) (fun hc => ?_)
  · replace hV := hV.1 hc
    refine z_iconst (v := 0) hC dX4_isDigit_16 rfl ?_
    exact z_iret hC dX4_isDigit_17 rfl (by rw [hQo]; exact ⟨_, rfl, hV⟩)
  · replace hV := hV.2 hc
    refine z_iload_n hC dX4_isDigit_6 rfl rfl ?_
    refine z_bipush (v := 57) hC dX4_isDigit_7 rfl ?_
    refine z_icmp_gt (tgt := 16) hC dX4_isDigit_9 (by decide) (fun hc => ?_) (fun hc => ?_)
    · replace hV := hV.1 hc
      refine z_iconst (v := 0) hC dX4_isDigit_16 rfl ?_
      exact z_iret hC dX4_isDigit_17 rfl (by rw [hQo]; exact ⟨_, rfl, hV⟩)
    · replace hV := hV.2 hc
      refine z_iconst (v := 1) hC dX4_isDigit_12 rfl ?_
      refine z_goto (tgt := 17) hC dX4_isDigit_13 (by decide) ?_
      exact z_iret hC dX4_isDigit_17 rfl (by rw [hQo]; exact ⟨_, rfl, hV⟩)
theorem cw_X4_isDigit : CodeW yX4_isDigit (ws_ yX4_isDigit cX4_isDigit 1 (some .boolean)) 1 := ⟨fun w h => (List.mem_cons.mp h).elim (fun e => e ▸ q1833) id, Or.inl ⟨_, _, q1833⟩, q138, by decide, by decide⟩
theorem c_X4_156 {C : ZC} {E : ZE} {cc : ByteArray} {nL pc d : Nat} {nm : String} {ret : Option FieldType} {hh : List (Nat × Nat × Nat × Nat)} {σ : ZS} {L : List (Option Value)} {st : List Value} {a0 : Int32} {Ret : Int32 → ZS → Prop} (hC : Cx C E cc nL "RightTurnsModel" nm ret hh d) (hdd : 1 + 1 ≤ d) (hd : decode cc pc = .ok (.invokestatic 156, 3)) (hW : (st.map fun v => v.category).sum ≤ 8) (hV : wp_X4_isDigit σ a0 Ret) (k : ∀ r σ', Ret r σ' → zz C E NS nL σ' (pc + 3) L (.int r :: st)) : zz C E NS nL σ pc L (.int a0 :: st) :=
  z_callSG hC cw_X4_isDigit hdd (by decide) (mz_X4_isDigit (cxE hC) hV) hd q1831 q1832 (np := 1) rfl rfl hW rfl (kI k)
def V_X4_number_91 (K44 : ZS → Int32 → Int32 → Int32 → Int32 → Prop) (Ret : Int32 → ZS → Prop) (σ : ZS) (x1 : Int32) (x2 : Int32) (x3 : Int32) (s0 : Int32) : Prop :=
    ∀ σ19 : ZS, σ19 = sI σ 44 4 ((zI σ 44 4) + 1) → (K44 σ19 x1 x2 x3 s0)
def VL_X4_number_44 (Ret : Int32 → ZS → Prop) : Nat → ZS → Int32 → Int32 → Int32 → Int32 → Prop
  | 0 => fun _ _ _ _ _ => False
  | k + 1 => fun σ x1 x2 x3 x4 =>
    let K44 := VL_X4_number_44 Ret k
    wp_X4_byteAt σ (zI σ 44 4) (fun r8 σ9 => wp_X4_isDigit σ9 r8 (fun r10 σ11 => ((r10 = 0 → (wp_X4_in σ11 x4 x1 x2 (fun r12 σ13 => ((r12 = 0 → (wp_X4_wrong σ13 2 x3 (fun σ15 => (((zI σ15 44 5) = 0 → (Ret x4 σ15)) ∧ (¬ (zI σ15 44 5) = 0 → (Ret 0 σ15)))))) ∧ (¬ r12 = 0 → ((((zI σ13 44 5) = 0 → (Ret x4 σ13)) ∧ (¬ (zI σ13 44 5) = 0 → (Ret 0 σ13))))))))) ∧ (¬ r10 = 0 → (wp_X4_byteAt σ11 (zI σ11 44 4) (fun r16 σ17 => ∀ y18 : Int32, y18 = ((10 * x4) + r16) - 48 → (((100000 < y18 → (V_X4_number_91 K44 Ret σ17 x1 x2 x3 100000)) ∧ (¬ 100000 < y18 → (V_X4_number_91 K44 Ret σ17 x1 x2 x3 y18))))))))))
def V_X4_number_44 (Ret : Int32 → ZS → Prop) (σ : ZS) (x1 : Int32) (x2 : Int32) (x3 : Int32) (x4 : Int32) : Prop := ∃ k, VL_X4_number_44 Ret k σ x1 x2 x3 x4
def wp_X4_number (σ : ZS) (a1 : Int32) (a2 : Int32) (Ret : Int32 → ZS → Prop) : Prop :=
    (((zI σ 44 5) = 0 → (wp_X4_blanks σ (fun σ2 => ∀ y3 : Int32, y3 = zI σ2 44 4 → (wp_X4_byteAt σ2 (zI σ2 44 4) (fun r4 σ5 => wp_X4_isDigit σ5 r4 (fun r6 σ7 => ((r6 = 0 → (wp_X4_wrong σ7 1 (zI σ7 44 4) (fun σ21 => V_X4_number_44 Ret σ21 a1 a2 y3 0))) ∧ (¬ r6 = 0 → (V_X4_number_44 Ret σ7 a1 a2 y3 0))))))))) ∧ (¬ (zI σ 44 5) = 0 → (Ret 0 σ)))
set_option maxHeartbeats 4000000 in
theorem mz_X4_number {l : Launch} {E : ZE} (hE : EOK E) {σ : ZS} {a1 : Int32} {a2 : Int32} {Ret : Int32 → ZS → Prop} (hV : wp_X4_number σ a1 a2 Ret) : MZ l E NS yX4_number (ws_ yX4_number cX4_number 5 (some .int)) 3 σ [.ref (E.1.heap.size + 44), .int a1, .int a2] (rI Ret) := by
  refine MZ.start (L := [some (.ref (E.1.heap.size + 44)), some (.int a1), some (.int a2), none, none]) hE (by decide) (Nat.le_of_ble_eq_true rfl) rfl fun C hCl hQo hC => ?_
  replace hC : Cx C E cX4_number 5 "RightTurnsModel" "number" (some .int) [] 3 := hC
  unfold wp_X4_number at hV
  have j_44 : ∀ (σ : ZS) (x1 : Int32) (x2 : Int32) (x3 : Int32) (x4 : Int32), V_X4_number_44 Ret σ x1 x2 x3 x4 → zz C E NS 5 σ 44 [some (.ref (E.1.heap.size + 44)), some (.int x1), some (.int x2), some (.int x3), some (.int x4)] [] := by
    intro σ x1 x2 x3 x4 ⟨k, hV⟩
    revert σ x1 x2 x3 x4
    induction k with
    | zero => exact fun _ _ _ _ _ hV => hV.elim
    | succ k j_44 =>
      intro σ x1 x2 x3 x4 hV
      simp only [VL_X4_number_44] at hV
      generalize hKe44 : VL_X4_number_44 Ret k = K44 at hV j_44
      clear hKe44
      have j_91 : ∀ (σ : ZS) (x1 : Int32) (x2 : Int32) (x3 : Int32) (s0 : Int32), V_X4_number_91 K44 Ret σ x1 x2 x3 s0 → zz C E NS 5 σ 91 [some (.ref (E.1.heap.size + 44)), some (.int x1), some (.int x2), some (.int x3), none] [.int s0] := by
        intro σ x1 x2 x3 s0 hV
        unfold V_X4_number_91 at hV
        refine z_istore hC dX4_number_91 (Nat.le_of_ble_eq_true rfl) rfl rfl ?_
        refine z_aload_n hC dX4_number_93 rfl rfl ?_
        refine z_dup hC dX4_number_94 rfl ?_
        refine g_X4_140_44 hC dX4_number_95 ?_
        refine z_iconst (v := 1) hC dX4_number_98 rfl ?_
        refine z_iadd hC dX4_number_99 ?_
        refine p_X4_140_c3 hC dX4_number_100 (k_44 _) ?_
        obtain ⟨σ19, e_σ19⟩ : ∃ z : ZS, z = sI σ 44 4 ((zI σ 44 4) + 1) := ⟨_, rfl⟩
        replace hV := hV _ e_σ19
        rw [← e_σ19]
        refine z_goto (tgt := 44) hC dX4_number_103 (by decide) ?_
        refine zz_sub (L' := [some (.ref (E.1.heap.size + 44)), some (.int x1), some (.int x2), some (.int x3), some (.int s0)]) ⟨rfl, rfl, rfl, rfl, rfl, trivial⟩ ?_
        exact j_44 σ19 x1 x2 x3 s0 hV
      refine z_aload_n hC dX4_number_44 rfl rfl ?_
      refine z_aload_n hC dX4_number_45 rfl rfl ?_
      refine g_X4_140_44 hC dX4_number_46 ?_
      refine c_X4_143 hC (by decide) dX4_number_49 (Nat.le_of_ble_eq_true rfl) hV (fun r8 σ9 hV => ?_)
      refine c_X4_156 hC (by decide) dX4_number_52 (Nat.le_of_ble_eq_true rfl) hV (fun r10 σ11 hV => ?_)
      refine z_if_eq (tgt := 106) hC dX4_number_55 (by decide) (fun hc => ?_) (fun hc => ?_)
      · replace hV := hV.1 hc
        refine z_iload hC dX4_number_106 rfl ?_
        refine z_iload_n hC dX4_number_108 rfl rfl ?_
        refine z_iload_n hC dX4_number_109 rfl rfl ?_
        refine c_X4_165 hC (by decide) dX4_number_110 (Nat.le_of_ble_eq_true rfl) hV (fun r12 σ13 hV => ?_)
        refine z_if_ne (tgt := 122) hC dX4_number_113 (by decide) (fun hc => ?_) (fun hc => ?_)
        · replace hV := hV.2 hc
          refine z_aload_n hC dX4_number_122 rfl rfl ?_
          refine g_X4_147_44 hC dX4_number_123 ?_
          refine z_if_ne (tgt := 134) hC dX4_number_126 (by decide) (fun hc => ?_) (fun hc => ?_)
          · replace hV := hV.2 hc
            refine z_iconst (v := 0) hC dX4_number_134 rfl ?_
            exact z_iret hC dX4_number_135 rfl (by rw [hQo]; exact ⟨_, rfl, hV⟩)
          · replace hV := hV.1 hc
            refine z_iload hC dX4_number_129 rfl ?_
            refine z_goto (tgt := 135) hC dX4_number_131 (by decide) ?_
            exact z_iret hC dX4_number_135 rfl (by rw [hQo]; exact ⟨_, rfl, hV⟩)
        · replace hV := hV.1 hc
          refine z_aload_n hC dX4_number_116 rfl rfl ?_
          refine z_iconst (v := 2) hC dX4_number_117 rfl ?_
          refine z_iload_n hC dX4_number_118 rfl rfl ?_
          refine c_X4_160 hC (by decide) dX4_number_119 (Nat.le_of_ble_eq_true rfl) hV (fun σ15 hV => ?_)
          refine z_aload_n hC dX4_number_122 rfl rfl ?_
          refine g_X4_147_44 hC dX4_number_123 ?_
          refine z_if_ne (tgt := 134) hC dX4_number_126 (by decide) (fun hc => ?_) (fun hc => ?_)
          · replace hV := hV.2 hc
            refine z_iconst (v := 0) hC dX4_number_134 rfl ?_
            exact z_iret hC dX4_number_135 rfl (by rw [hQo]; exact ⟨_, rfl, hV⟩)
          · replace hV := hV.1 hc
            refine z_iload hC dX4_number_129 rfl ?_
            refine z_goto (tgt := 135) hC dX4_number_131 (by decide) ?_
            exact z_iret hC dX4_number_135 rfl (by rw [hQo]; exact ⟨_, rfl, hV⟩)
      · replace hV := hV.2 hc
        refine z_bipush (v := 10) hC dX4_number_58 rfl ?_
        refine z_iload hC dX4_number_60 rfl ?_
        refine z_imul hC dX4_number_62 ?_
        refine z_aload_n hC dX4_number_63 rfl rfl ?_
        refine z_aload_n hC dX4_number_64 rfl rfl ?_
        refine g_X4_140_44 hC dX4_number_65 ?_
        refine c_X4_143 hC (by decide) dX4_number_68 (Nat.le_of_ble_eq_true rfl) hV (fun r16 σ17 hV => ?_)
        refine z_iadd hC dX4_number_71 ?_
        refine z_bipush (v := 48) hC dX4_number_72 rfl ?_
        refine z_isub hC dX4_number_74 ?_
        obtain ⟨y18, e_y18⟩ : ∃ z, z = ((10 * x4) + r16) - 48 := ⟨_, rfl⟩
        rw [← e_y18]
        replace hV := hV _ e_y18
        refine z_istore hC dX4_number_75 (Nat.le_of_ble_eq_true rfl) rfl rfl ?_
        refine z_iload hC dX4_number_77 rfl ?_
        refine z_ldc hC dX4_number_79 q1834 ?_
        refine z_icmp_le (tgt := 89) hC dX4_number_81 (by decide) (fun hc => ?_) (fun hc => ?_)
        · replace hV := hV.2 hc
          refine z_iload hC dX4_number_89 rfl ?_
          refine zz_sub (L' := [some (.ref (E.1.heap.size + 44)), some (.int x1), some (.int x2), some (.int x3), none]) ⟨rfl, rfl, rfl, rfl, trivial⟩ ?_
          exact j_91 σ17 x1 x2 x3 y18 hV
        · replace hV := hV.1 hc
          refine z_ldc hC dX4_number_84 q1834 ?_
          refine z_goto (tgt := 91) hC dX4_number_86 (by decide) ?_
          refine zz_sub (L' := [some (.ref (E.1.heap.size + 44)), some (.int x1), some (.int x2), some (.int x3), none]) ⟨rfl, rfl, rfl, rfl, trivial⟩ ?_
          exact j_91 σ17 x1 x2 x3 100000 hV
  refine z_aload_n hC dX4_number_0 rfl rfl ?_
  refine g_X4_147_44 hC dX4_number_1 ?_
  refine z_if_eq (tgt := 9) hC dX4_number_4 (by decide) (fun hc => ?_) (fun hc => ?_)
  · replace hV := hV.1 hc
    refine z_aload_n hC dX4_number_9 rfl rfl ?_
    refine c_X4_153 hC (by decide) dX4_number_10 (Nat.le_of_ble_eq_true rfl) hV (fun σ2 hV => ?_)
    refine z_aload_n hC dX4_number_13 rfl rfl ?_
    refine g_X4_140_44 hC dX4_number_14 ?_
    obtain ⟨y3, e_y3⟩ : ∃ z, z = zI σ2 44 4 := ⟨_, rfl⟩
    rw [← e_y3]
    replace hV := hV _ e_y3
    refine z_istore_n hC dX4_number_17 rfl (Nat.le_of_ble_eq_true rfl) rfl rfl ?_
    refine z_iconst (v := 0) hC dX4_number_18 rfl ?_
    refine z_istore hC dX4_number_19 (Nat.le_of_ble_eq_true rfl) rfl rfl ?_
    refine z_aload_n hC dX4_number_21 rfl rfl ?_
    refine z_aload_n hC dX4_number_22 rfl rfl ?_
    refine g_X4_140_44 hC dX4_number_23 ?_
    refine c_X4_143 hC (by decide) dX4_number_26 (Nat.le_of_ble_eq_true rfl) hV (fun r4 σ5 hV => ?_)
    refine c_X4_156 hC (by decide) dX4_number_29 (Nat.le_of_ble_eq_true rfl) hV (fun r6 σ7 hV => ?_)
    refine z_if_ne (tgt := 44) hC dX4_number_32 (by decide) (fun hc => ?_) (fun hc => ?_)
    · replace hV := hV.2 hc
      refine zz_sub (L' := [some (.ref (E.1.heap.size + 44)), some (.int a1), some (.int a2), some (.int y3), some (.int 0)]) ⟨rfl, rfl, rfl, rfl, rfl, trivial⟩ ?_
      exact j_44 σ7 a1 a2 y3 0 hV
    · replace hV := hV.1 hc
      refine z_aload_n hC dX4_number_35 rfl rfl ?_
      refine z_iconst (v := 1) hC dX4_number_36 rfl ?_
      refine z_aload_n hC dX4_number_37 rfl rfl ?_
      refine g_X4_140_44 hC dX4_number_38 ?_
      refine c_X4_160 hC (by decide) dX4_number_41 (Nat.le_of_ble_eq_true rfl) hV (fun σ21 hV => ?_)
      refine zz_sub (L' := [some (.ref (E.1.heap.size + 44)), some (.int a1), some (.int a2), some (.int y3), some (.int 0)]) ⟨rfl, rfl, rfl, rfl, rfl, trivial⟩ ?_
      exact j_44 σ21 a1 a2 y3 0 hV
  · replace hV := hV.2 hc
    refine z_iconst (v := 0) hC dX4_number_7 rfl ?_
    exact z_iret hC dX4_number_8 rfl (by rw [hQo]; exact ⟨_, rfl, hV⟩)
theorem g_X4_17_44 {C : ZC} {E : ZE} {cc : ByteArray} {nL pc d : Nat} {nm : String} {ret : Option FieldType} {hh : List (Nat × Nat × Nat × Nat)} {σ : ZS} {L : List (Option Value)} {st : List Value} (hC : Cx C E cc nL "RightTurnsModel" nm ret hh d) (hd : decode cc pc = .ok (.getfield 17, 3)) (k : zz C E NS nL σ (pc + 3) L (.ref (E.1.heap.size + 46) :: st)) : zz C E NS nL σ pc L (.ref (E.1.heap.size + 44) :: st) :=
  z_get hC cf3 hd (k_44 σ) (k := 9) (by decide) (Or.inl q1594) (Or.inl rfl) rfl k
theorem cw_X4_number : CodeW yX4_number (ws_ yX4_number cX4_number 5 (some .int)) 5 := ⟨fun w h => (List.mem_cons.mp h).elim (fun e => e ▸ q1830) id, Or.inl ⟨_, _, q1830⟩, q138, by decide, by decide⟩
theorem c_X4_216 {C : ZC} {E : ZE} {cc : ByteArray} {nL pc d : Nat} {nm : String} {ret : Option FieldType} {hh : List (Nat × Nat × Nat × Nat)} {σ : ZS} {L : List (Option Value)} {st : List Value} {a1 : Int32} {a2 : Int32} {Ret : Int32 → ZS → Prop} (hC : Cx C E cc nL "RightTurnsModel" nm ret hh d) (hdd : 3 + 1 ≤ d) (hd : decode cc pc = .ok (.invokevirtual 216, 3)) (hW : (st.map fun v => v.category).sum ≤ 8) (hV : wp_X4_number σ a1 a2 Ret) (k : ∀ r σ', Ret r σ' → zz C E NS nL σ' (pc + 3) L (.int r :: st)) : zz C E NS nL σ pc L (.int a2 :: .int a1 :: .ref (E.1.heap.size + 44) :: st) :=
  z_callVG hC cf3 cw_X4_number hdd (by decide) (mz_X4_number (cxE hC) hV) hd (k_44 σ) q1827 q1829 qs61 (np := 2) rfl rfl hW rfl (kI k)
def wp_X4_readsBox (σ : ZS) (Ret : ZS → Prop) : Prop :=
    wp_X4_number σ 0 ((zI σ 46 (ix 0)) - 1) (fun r1 σ2 => (((zI σ2 44 5) = 0 → (∀ σ3 : ZS, σ3 = sI σ2 46 (ix 2) ((zI σ2 46 (ix 2)) ||| ((1 : Int32) <<< (r1 &&& 31))) → (Ret σ3))) ∧ (¬ (zI σ2 44 5) = 0 → (Ret σ2))))
set_option maxHeartbeats 4000000 in
theorem mz_X4_readsBox {l : Launch} {E : ZE} (hE : EOK E) {σ : ZS} {Ret : ZS → Prop} (hV : wp_X4_readsBox σ Ret) : MZ l E NS yX4_readsBox (ws_ yX4_readsBox cX4_readsBox 2 none) 4 σ [.ref (E.1.heap.size + 44)] (rV Ret) := by
  refine MZ.start (L := [some (.ref (E.1.heap.size + 44)), none]) hE (by decide) (Nat.le_of_ble_eq_true rfl) rfl fun C hCl hQo hC => ?_
  replace hC : Cx C E cX4_readsBox 2 "RightTurnsModel" "readsBox" none [] 4 := hC
  unfold wp_X4_readsBox at hV
  refine z_aload_n hC dX4_readsBox_0 rfl rfl ?_
  refine z_iconst (v := 0) hC dX4_readsBox_1 rfl ?_
  refine z_aload_n hC dX4_readsBox_2 rfl rfl ?_
  refine g_X4_17_44 hC dX4_readsBox_3 ?_
  refine z_iconst (v := 0) hC dX4_readsBox_6 rfl ?_
  refine z_iald hC dX4_readsBox_7 (k_46 _) (in_dec rfl) ?_
  refine z_iconst (v := 1) hC dX4_readsBox_8 rfl ?_
  refine z_isub hC dX4_readsBox_9 ?_
  refine c_X4_216 hC (by decide) dX4_readsBox_10 (Nat.le_of_ble_eq_true rfl) hV (fun r1 σ2 hV => ?_)
  refine z_istore_n hC dX4_readsBox_13 rfl (Nat.le_of_ble_eq_true rfl) rfl rfl ?_
  refine z_aload_n hC dX4_readsBox_14 rfl rfl ?_
  refine g_X4_147_44 hC dX4_readsBox_15 ?_
  refine z_if_ne (tgt := 33) hC dX4_readsBox_18 (by decide) (fun hc => ?_) (fun hc => ?_)
  · replace hV := hV.2 hc
    exact z_vret hC dX4_readsBox_33 (by rw [hQo]; exact ⟨rfl, hV⟩)
  · replace hV := hV.1 hc
    refine z_aload_n hC dX4_readsBox_21 rfl rfl ?_
    refine g_X4_17_44 hC dX4_readsBox_22 ?_
    refine z_iconst (v := 2) hC dX4_readsBox_25 rfl ?_
    refine z_dup2 hC dX4_readsBox_26 rfl rfl ?_
    refine z_iald hC dX4_readsBox_27 (k_46 _) (in_dec rfl) ?_
    refine z_iconst (v := 1) hC dX4_readsBox_28 rfl ?_
    refine z_iload_n hC dX4_readsBox_29 rfl rfl ?_
    refine z_ishl hC dX4_readsBox_30 ?_
    refine z_ior hC dX4_readsBox_31 ?_
    refine z_iast hC dX4_readsBox_32 (k_46 _) (in_dec rfl) ?_
    obtain ⟨σ3, e_σ3⟩ : ∃ z : ZS, z = sI σ2 46 (ix 2) ((zI σ2 46 (ix 2)) ||| ((1 : Int32) <<< (r1 &&& 31))) := ⟨_, rfl⟩
    replace hV := hV _ e_σ3
    rw [← e_σ3]
    exact z_vret hC dX4_readsBox_33 (by rw [hQo]; exact ⟨rfl, hV⟩)
theorem g_X4_25_44 {C : ZC} {E : ZE} {cc : ByteArray} {nL pc d : Nat} {nm : String} {ret : Option FieldType} {hh : List (Nat × Nat × Nat × Nat)} {σ : ZS} {L : List (Option Value)} {st : List Value} (hC : Cx C E cc nL "RightTurnsModel" nm ret hh d) (hd : decode cc pc = .ok (.getfield 25, 3)) (k : zz C E NS nL σ (pc + 3) L (.ref (E.1.heap.size + 48) :: st)) : zz C E NS nL σ pc L (.ref (E.1.heap.size + 44) :: st) :=
  z_get hC cf3 hd (k_44 σ) (k := 11) (by decide) (Or.inl q1596) (Or.inl rfl) rfl k
def VL_X4_readsCorner_28 (Ret : ZS → Prop) : Nat → ZS → Int32 → Int32 → Int32 → Int32 → Prop
  | 0 => fun _ _ _ _ _ => False
  | k + 1 => fun σ x1 x2 x3 x4 =>
    let K28 := VL_X4_readsCorner_28 Ret k
    ((x4 < (zI σ 46 (ix 0)) → (vp_in x4 16 ∧ ((((zI σ (48 + 1 + ix x4) (ix 0)) = x1 → (vp_in x4 16 ∧ ((((zI σ (48 + 1 + ix x4) (ix 1)) = x3 → (wp_X4_wrong σ 2 x2 (fun σ18 => ∀ y19 : Int32, y19 = x4 + 1 → (K28 σ18 x1 x2 x3 y19)))) ∧ (¬ (zI σ (48 + 1 + ix x4) (ix 1)) = x3 → (∀ y16 : Int32, y16 = x4 + 1 → (K28 σ x1 x2 x3 y16))))))) ∧ (¬ (zI σ (48 + 1 + ix x4) (ix 0)) = x1 → (∀ y14 : Int32, y14 = x4 + 1 → (K28 σ x1 x2 x3 y14))))))) ∧ (¬ x4 < (zI σ 46 (ix 0)) → ((((zI σ 44 5) = 0 → (vp_in (zI σ 46 (ix 0)) 16 ∧ (∀ σ9 : ZS, σ9 = sI σ (48 + 1 + ix (zI σ 46 (ix 0))) (ix 0) x1 → (vp_in (zI σ9 46 (ix 0)) 16 ∧ (∀ σ11 : ZS, σ11 = sI σ9 (48 + 1 + ix (zI σ9 46 (ix 0))) (ix 1) x3 → (∀ σ12 : ZS, σ12 = sI σ11 46 (ix 0) ((zI σ11 46 (ix 0)) + 1) → (Ret σ12))))))) ∧ (¬ (zI σ 44 5) = 0 → (Ret σ))))))
def V_X4_readsCorner_28 (Ret : ZS → Prop) (σ : ZS) (x1 : Int32) (x2 : Int32) (x3 : Int32) (x4 : Int32) : Prop := ∃ k, VL_X4_readsCorner_28 Ret k σ x1 x2 x3 x4
def wp_X4_readsCorner (σ : ZS) (Ret : ZS → Prop) : Prop :=
    wp_X4_number σ 0 99 (fun r1 σ2 => wp_X4_blanks σ2 (fun σ4 => ∀ y5 : Int32, y5 = zI σ4 44 4 → (wp_X4_number σ4 0 99 (fun r6 σ7 => V_X4_readsCorner_28 Ret σ7 r1 y5 r6 0))))
set_option maxHeartbeats 4000000 in
theorem mz_X4_readsCorner {l : Launch} {E : ZE} (hE : EOK E) {σ : ZS} {Ret : ZS → Prop} (hV : wp_X4_readsCorner σ Ret) : MZ l E NS yX4_readsCorner (ws_ yX4_readsCorner cX4_readsCorner 5 none) 4 σ [.ref (E.1.heap.size + 44)] (rV Ret) := by
  refine MZ.start (L := [some (.ref (E.1.heap.size + 44)), none, none, none, none]) hE (by decide) (Nat.le_of_ble_eq_true rfl) rfl fun C hCl hQo hC => ?_
  replace hC : Cx C E cX4_readsCorner 5 "RightTurnsModel" "readsCorner" none [] 4 := hC
  unfold wp_X4_readsCorner at hV
  have j_28 : ∀ (σ : ZS) (x1 : Int32) (x2 : Int32) (x3 : Int32) (x4 : Int32), V_X4_readsCorner_28 Ret σ x1 x2 x3 x4 → zz C E NS 5 σ 28 [some (.ref (E.1.heap.size + 44)), some (.int x1), some (.int x2), some (.int x3), some (.int x4)] [] := by
    intro σ x1 x2 x3 x4 ⟨k, hV⟩
    revert σ x1 x2 x3 x4
    induction k with
    | zero => exact fun _ _ _ _ _ hV => hV.elim
    | succ k j_28 =>
      intro σ x1 x2 x3 x4 hV
      simp only [VL_X4_readsCorner_28] at hV
      generalize hKe28 : VL_X4_readsCorner_28 Ret k = K28 at hV j_28
      clear hKe28
      refine z_iload hC dX4_readsCorner_28 rfl ?_
      refine z_aload_n hC dX4_readsCorner_30 rfl rfl ?_
      refine g_X4_17_44 hC dX4_readsCorner_31 ?_
      refine z_iconst (v := 0) hC dX4_readsCorner_34 rfl ?_
      refine z_iald hC dX4_readsCorner_35 (k_46 _) (in_dec rfl) ?_
      refine z_icmp_ge (tgt := 77) hC dX4_readsCorner_36 (by decide) (fun hc => ?_) (fun hc => ?_)
      · replace hV := hV.2 hc
        refine z_aload_n hC dX4_readsCorner_77 rfl rfl ?_
        refine g_X4_147_44 hC dX4_readsCorner_78 ?_
        refine z_if_eq (tgt := 85) hC dX4_readsCorner_81 (by decide) (fun hc => ?_) (fun hc => ?_)
        · replace hV := hV.1 hc
          refine z_aload_n hC dX4_readsCorner_85 rfl rfl ?_
          refine g_X4_25_44 hC dX4_readsCorner_86 ?_
          refine z_aload_n hC dX4_readsCorner_89 rfl rfl ?_
          refine g_X4_17_44 hC dX4_readsCorner_90 ?_
          refine z_iconst (v := 0) hC dX4_readsCorner_93 rfl ?_
          refine z_iald hC dX4_readsCorner_94 (k_46 _) (in_dec rfl) ?_
          obtain ⟨h8, hV⟩ := hV
          refine z_aalS hC dX4_readsCorner_95 (k_48 _) (by decide) ps_48 h8 ?_
          refine z_iconst (v := 0) hC dX4_readsCorner_96 rfl ?_
          refine z_iload_n hC dX4_readsCorner_97 rfl rfl ?_
          refine z_iast hC dX4_readsCorner_98 (kr_48 _ (ix_lt h8)) (in_dec rfl) ?_
          obtain ⟨σ9, e_σ9⟩ : ∃ z : ZS, z = sI σ (48 + 1 + ix (zI σ 46 (ix 0))) (ix 0) x1 := ⟨_, rfl⟩
          replace hV := hV _ e_σ9
          rw [← e_σ9]
          refine z_aload_n hC dX4_readsCorner_99 rfl rfl ?_
          refine g_X4_25_44 hC dX4_readsCorner_100 ?_
          refine z_aload_n hC dX4_readsCorner_103 rfl rfl ?_
          refine g_X4_17_44 hC dX4_readsCorner_104 ?_
          refine z_iconst (v := 0) hC dX4_readsCorner_107 rfl ?_
          refine z_iald hC dX4_readsCorner_108 (k_46 _) (in_dec rfl) ?_
          obtain ⟨h10, hV⟩ := hV
          refine z_aalS hC dX4_readsCorner_109 (k_48 _) (by decide) ps_48 h10 ?_
          refine z_iconst (v := 1) hC dX4_readsCorner_110 rfl ?_
          refine z_iload_n hC dX4_readsCorner_111 rfl rfl ?_
          refine z_iast hC dX4_readsCorner_112 (kr_48 _ (ix_lt h10)) (in_dec rfl) ?_
          obtain ⟨σ11, e_σ11⟩ : ∃ z : ZS, z = sI σ9 (48 + 1 + ix (zI σ9 46 (ix 0))) (ix 1) x3 := ⟨_, rfl⟩
          replace hV := hV _ e_σ11
          rw [← e_σ11]
          refine z_aload_n hC dX4_readsCorner_113 rfl rfl ?_
          refine g_X4_17_44 hC dX4_readsCorner_114 ?_
          refine z_iconst (v := 0) hC dX4_readsCorner_117 rfl ?_
          refine z_dup2 hC dX4_readsCorner_118 rfl rfl ?_
          refine z_iald hC dX4_readsCorner_119 (k_46 _) (in_dec rfl) ?_
          refine z_iconst (v := 1) hC dX4_readsCorner_120 rfl ?_
          refine z_iadd hC dX4_readsCorner_121 ?_
          refine z_iast hC dX4_readsCorner_122 (k_46 _) (in_dec rfl) ?_
          obtain ⟨σ12, e_σ12⟩ : ∃ z : ZS, z = sI σ11 46 (ix 0) ((zI σ11 46 (ix 0)) + 1) := ⟨_, rfl⟩
          replace hV := hV _ e_σ12
          rw [← e_σ12]
          exact z_vret hC dX4_readsCorner_123 (by rw [hQo]; exact ⟨rfl, hV⟩)
        · replace hV := hV.2 hc
          exact z_vret hC dX4_readsCorner_84 (by rw [hQo]; exact ⟨rfl, hV⟩)
      · replace hV := hV.1 hc
        refine z_aload_n hC dX4_readsCorner_39 rfl rfl ?_
        refine g_X4_25_44 hC dX4_readsCorner_40 ?_
        refine z_iload hC dX4_readsCorner_43 rfl ?_
        obtain ⟨h13, hV⟩ := hV
        refine z_aalS hC dX4_readsCorner_45 (k_48 _) (by decide) ps_48 h13 ?_
        refine z_iconst (v := 0) hC dX4_readsCorner_46 rfl ?_
        refine z_iald hC dX4_readsCorner_47 (kr_48 _ (ix_lt h13)) (in_dec rfl) ?_
        refine z_iload_n hC dX4_readsCorner_48 rfl rfl ?_
        refine z_icmp_ne (tgt := 71) hC dX4_readsCorner_49 (by decide) (fun hc => ?_) (fun hc => ?_)
        · replace hV := hV.2 hc
          obtain ⟨y14, e_y14⟩ : ∃ z : Int32, z = x4 + 1 := ⟨_, rfl⟩
          replace hV := hV _ e_y14
          refine z_iinc (v := y14) hC dX4_readsCorner_71 rfl (by rw [e_y14]; rfl) (Nat.le_of_ble_eq_true rfl) rfl rfl ?_
          refine z_goto (tgt := 28) hC dX4_readsCorner_74 (by decide) ?_
          refine zz_sub (L' := [some (.ref (E.1.heap.size + 44)), some (.int x1), some (.int x2), some (.int x3), some (.int y14)]) ⟨rfl, rfl, rfl, rfl, rfl, trivial⟩ ?_
          exact j_28 σ x1 x2 x3 y14 hV
        · replace hV := hV.1 hc
          refine z_aload_n hC dX4_readsCorner_52 rfl rfl ?_
          refine g_X4_25_44 hC dX4_readsCorner_53 ?_
          refine z_iload hC dX4_readsCorner_56 rfl ?_
          obtain ⟨h15, hV⟩ := hV
          refine z_aalS hC dX4_readsCorner_58 (k_48 _) (by decide) ps_48 h15 ?_
          refine z_iconst (v := 1) hC dX4_readsCorner_59 rfl ?_
          refine z_iald hC dX4_readsCorner_60 (kr_48 _ (ix_lt h15)) (in_dec rfl) ?_
          refine z_iload_n hC dX4_readsCorner_61 rfl rfl ?_
          refine z_icmp_ne (tgt := 71) hC dX4_readsCorner_62 (by decide) (fun hc => ?_) (fun hc => ?_)
          · replace hV := hV.2 hc
            obtain ⟨y16, e_y16⟩ : ∃ z : Int32, z = x4 + 1 := ⟨_, rfl⟩
            replace hV := hV _ e_y16
            refine z_iinc (v := y16) hC dX4_readsCorner_71 rfl (by rw [e_y16]; rfl) (Nat.le_of_ble_eq_true rfl) rfl rfl ?_
            refine z_goto (tgt := 28) hC dX4_readsCorner_74 (by decide) ?_
            refine zz_sub (L' := [some (.ref (E.1.heap.size + 44)), some (.int x1), some (.int x2), some (.int x3), some (.int y16)]) ⟨rfl, rfl, rfl, rfl, rfl, trivial⟩ ?_
            exact j_28 σ x1 x2 x3 y16 hV
          · replace hV := hV.1 hc
            refine z_aload_n hC dX4_readsCorner_65 rfl rfl ?_
            refine z_iconst (v := 2) hC dX4_readsCorner_66 rfl ?_
            refine z_iload_n hC dX4_readsCorner_67 rfl rfl ?_
            refine c_X4_160 hC (by decide) dX4_readsCorner_68 (Nat.le_of_ble_eq_true rfl) hV (fun σ18 hV => ?_)
            obtain ⟨y19, e_y19⟩ : ∃ z : Int32, z = x4 + 1 := ⟨_, rfl⟩
            replace hV := hV _ e_y19
            refine z_iinc (v := y19) hC dX4_readsCorner_71 rfl (by rw [e_y19]; rfl) (Nat.le_of_ble_eq_true rfl) rfl rfl ?_
            refine z_goto (tgt := 28) hC dX4_readsCorner_74 (by decide) ?_
            refine zz_sub (L' := [some (.ref (E.1.heap.size + 44)), some (.int x1), some (.int x2), some (.int x3), some (.int y19)]) ⟨rfl, rfl, rfl, rfl, rfl, trivial⟩ ?_
            exact j_28 σ18 x1 x2 x3 y19 hV
  refine z_aload_n hC dX4_readsCorner_0 rfl rfl ?_
  refine z_iconst (v := 0) hC dX4_readsCorner_1 rfl ?_
  refine z_bipush (v := 99) hC dX4_readsCorner_2 rfl ?_
  refine c_X4_216 hC (by decide) dX4_readsCorner_4 (Nat.le_of_ble_eq_true rfl) hV (fun r1 σ2 hV => ?_)
  refine z_istore_n hC dX4_readsCorner_7 rfl (Nat.le_of_ble_eq_true rfl) rfl rfl ?_
  refine z_aload_n hC dX4_readsCorner_8 rfl rfl ?_
  refine c_X4_153 hC (by decide) dX4_readsCorner_9 (Nat.le_of_ble_eq_true rfl) hV (fun σ4 hV => ?_)
  refine z_aload_n hC dX4_readsCorner_12 rfl rfl ?_
  refine g_X4_140_44 hC dX4_readsCorner_13 ?_
  obtain ⟨y5, e_y5⟩ : ∃ z, z = zI σ4 44 4 := ⟨_, rfl⟩
  rw [← e_y5]
  replace hV := hV _ e_y5
  refine z_istore_n hC dX4_readsCorner_16 rfl (Nat.le_of_ble_eq_true rfl) rfl rfl ?_
  refine z_aload_n hC dX4_readsCorner_17 rfl rfl ?_
  refine z_iconst (v := 0) hC dX4_readsCorner_18 rfl ?_
  refine z_bipush (v := 99) hC dX4_readsCorner_19 rfl ?_
  refine c_X4_216 hC (by decide) dX4_readsCorner_21 (Nat.le_of_ble_eq_true rfl) hV (fun r6 σ7 hV => ?_)
  refine z_istore_n hC dX4_readsCorner_24 rfl (Nat.le_of_ble_eq_true rfl) rfl rfl ?_
  refine z_iconst (v := 0) hC dX4_readsCorner_25 rfl ?_
  refine z_istore hC dX4_readsCorner_26 (Nat.le_of_ble_eq_true rfl) rfl rfl ?_
  refine zz_sub (L' := [some (.ref (E.1.heap.size + 44)), some (.int r1), some (.int y5), some (.int r6), some (.int 0)]) ⟨rfl, rfl, rfl, rfl, rfl, trivial⟩ ?_
  exact j_28 σ7 r1 y5 r6 0 hV
theorem g_X4_31_44 {C : ZC} {E : ZE} {cc : ByteArray} {nL pc d : Nat} {nm : String} {ret : Option FieldType} {hh : List (Nat × Nat × Nat × Nat)} {σ : ZS} {L : List (Option Value)} {st : List Value} (hC : Cx C E cc nL "RightTurnsModel" nm ret hh d) (hd : decode cc pc = .ok (.getfield 31, 3)) (k : zz C E NS nL σ (pc + 3) L (.ref (E.1.heap.size + 82) :: st)) : zz C E NS nL σ pc L (.ref (E.1.heap.size + 44) :: st) :=
  z_get hC cf3 hd (k_44 σ) (k := 13) (by decide) (Or.inl q1598) (Or.inl rfl) rfl k
def wp_X4_readsOne (σ : ZS) (Ret : ZS → Prop) : Prop :=
    wp_X4_number σ 0 ((zI σ 46 (ix 1)) - 1) (fun r1 σ2 => (((zI σ2 44 5) = 0 → (vp_in r1 24 ∧ (∀ σ4 : ZS, σ4 = sI σ2 (82 + 1 + ix r1) (ix 3) 1 → (Ret σ4)))) ∧ (¬ (zI σ2 44 5) = 0 → (Ret σ2))))
set_option maxHeartbeats 4000000 in
theorem mz_X4_readsOne {l : Launch} {E : ZE} (hE : EOK E) {σ : ZS} {Ret : ZS → Prop} (hV : wp_X4_readsOne σ Ret) : MZ l E NS yX4_readsOne (ws_ yX4_readsOne cX4_readsOne 2 none) 4 σ [.ref (E.1.heap.size + 44)] (rV Ret) := by
  refine MZ.start (L := [some (.ref (E.1.heap.size + 44)), none]) hE (by decide) (Nat.le_of_ble_eq_true rfl) rfl fun C hCl hQo hC => ?_
  replace hC : Cx C E cX4_readsOne 2 "RightTurnsModel" "readsOne" none [] 4 := hC
  unfold wp_X4_readsOne at hV
  refine z_aload_n hC dX4_readsOne_0 rfl rfl ?_
  refine z_iconst (v := 0) hC dX4_readsOne_1 rfl ?_
  refine z_aload_n hC dX4_readsOne_2 rfl rfl ?_
  refine g_X4_17_44 hC dX4_readsOne_3 ?_
  refine z_iconst (v := 1) hC dX4_readsOne_6 rfl ?_
  refine z_iald hC dX4_readsOne_7 (k_46 _) (in_dec rfl) ?_
  refine z_iconst (v := 1) hC dX4_readsOne_8 rfl ?_
  refine z_isub hC dX4_readsOne_9 ?_
  refine c_X4_216 hC (by decide) dX4_readsOne_10 (Nat.le_of_ble_eq_true rfl) hV (fun r1 σ2 hV => ?_)
  refine z_istore_n hC dX4_readsOne_13 rfl (Nat.le_of_ble_eq_true rfl) rfl rfl ?_
  refine z_aload_n hC dX4_readsOne_14 rfl rfl ?_
  refine g_X4_147_44 hC dX4_readsOne_15 ?_
  refine z_if_ne (tgt := 30) hC dX4_readsOne_18 (by decide) (fun hc => ?_) (fun hc => ?_)
  · replace hV := hV.2 hc
    exact z_vret hC dX4_readsOne_30 (by rw [hQo]; exact ⟨rfl, hV⟩)
  · replace hV := hV.1 hc
    refine z_aload_n hC dX4_readsOne_21 rfl rfl ?_
    refine g_X4_31_44 hC dX4_readsOne_22 ?_
    refine z_iload_n hC dX4_readsOne_25 rfl rfl ?_
    obtain ⟨h3, hV⟩ := hV
    refine z_aalS hC dX4_readsOne_26 (k_82 _) (by decide) ps_82 h3 ?_
    refine z_iconst (v := 3) hC dX4_readsOne_27 rfl ?_
    refine z_iconst (v := 1) hC dX4_readsOne_28 rfl ?_
    refine z_iast hC dX4_readsOne_29 (kr_82 _ (ix_lt h3)) (in_dec rfl) ?_
    obtain ⟨σ4, e_σ4⟩ : ∃ z : ZS, z = sI σ2 (82 + 1 + ix r1) (ix 3) 1 := ⟨_, rfl⟩
    replace hV := hV _ e_σ4
    rw [← e_σ4]
    exact z_vret hC dX4_readsOne_30 (by rw [hQo]; exact ⟨rfl, hV⟩)
def wp_X4_other (σ : ZS) (a1 : Int32) (a2 : Int32) (Ret : Int32 → ZS → Prop) : Prop :=
    wp_X4_blanks σ (fun σ2 => ∀ y3 : Int32, y3 = zI σ2 44 4 → (wp_X4_number σ2 0 a1 (fun r4 σ5 => ((r4 = a2 → (wp_X4_wrong σ5 2 y3 (fun σ7 => Ret r4 σ7))) ∧ (¬ r4 = a2 → (Ret r4 σ5))))))
set_option maxHeartbeats 4000000 in
theorem mz_X4_other {l : Launch} {E : ZE} (hE : EOK E) {σ : ZS} {a1 : Int32} {a2 : Int32} {Ret : Int32 → ZS → Prop} (hV : wp_X4_other σ a1 a2 Ret) : MZ l E NS yX4_other (ws_ yX4_other cX4_other 5 (some .int)) 4 σ [.ref (E.1.heap.size + 44), .int a1, .int a2] (rI Ret) := by
  refine MZ.start (L := [some (.ref (E.1.heap.size + 44)), some (.int a1), some (.int a2), none, none]) hE (by decide) (Nat.le_of_ble_eq_true rfl) rfl fun C hCl hQo hC => ?_
  replace hC : Cx C E cX4_other 5 "RightTurnsModel" "other" (some .int) [] 4 := hC
  unfold wp_X4_other at hV
  refine z_aload_n hC dX4_other_0 rfl rfl ?_
  refine c_X4_153 hC (by decide) dX4_other_1 (Nat.le_of_ble_eq_true rfl) hV (fun σ2 hV => ?_)
  refine z_aload_n hC dX4_other_4 rfl rfl ?_
  refine g_X4_140_44 hC dX4_other_5 ?_
  obtain ⟨y3, e_y3⟩ : ∃ z, z = zI σ2 44 4 := ⟨_, rfl⟩
  rw [← e_y3]
  replace hV := hV _ e_y3
  refine z_istore_n hC dX4_other_8 rfl (Nat.le_of_ble_eq_true rfl) rfl rfl ?_
  refine z_aload_n hC dX4_other_9 rfl rfl ?_
  refine z_iconst (v := 0) hC dX4_other_10 rfl ?_
  refine z_iload_n hC dX4_other_11 rfl rfl ?_
  refine c_X4_216 hC (by decide) dX4_other_12 (Nat.le_of_ble_eq_true rfl) hV (fun r4 σ5 hV => ?_)
  refine z_istore hC dX4_other_15 (Nat.le_of_ble_eq_true rfl) rfl rfl ?_
  refine z_iload hC dX4_other_17 rfl ?_
  refine z_iload_n hC dX4_other_19 rfl rfl ?_
  refine z_icmp_ne (tgt := 29) hC dX4_other_20 (by decide) (fun hc => ?_) (fun hc => ?_)
  · replace hV := hV.2 hc
    refine z_iload hC dX4_other_29 rfl ?_
    exact z_iret hC dX4_other_31 rfl (by rw [hQo]; exact ⟨_, rfl, hV⟩)
  · replace hV := hV.1 hc
    refine z_aload_n hC dX4_other_23 rfl rfl ?_
    refine z_iconst (v := 2) hC dX4_other_24 rfl ?_
    refine z_iload_n hC dX4_other_25 rfl rfl ?_
    refine c_X4_160 hC (by decide) dX4_other_26 (Nat.le_of_ble_eq_true rfl) hV (fun σ7 hV => ?_)
    refine z_iload hC dX4_other_29 rfl ?_
    exact z_iret hC dX4_other_31 rfl (by rw [hQo]; exact ⟨_, rfl, hV⟩)
theorem g_X4_37_44 {C : ZC} {E : ZE} {cc : ByteArray} {nL pc d : Nat} {nm : String} {ret : Option FieldType} {hh : List (Nat × Nat × Nat × Nat)} {σ : ZS} {L : List (Option Value)} {st : List Value} (hC : Cx C E cc nL "RightTurnsModel" nm ret hh d) (hd : decode cc pc = .ok (.getfield 37, 3)) (k : zz C E NS nL σ (pc + 3) L (.ref (E.1.heap.size + 132) :: st)) : zz C E NS nL σ pc L (.ref (E.1.heap.size + 44) :: st) :=
  z_get hC cf3 hd (k_44 σ) (k := 15) (by decide) (Or.inl q1600) (Or.inl rfl) rfl k
theorem cw_X4_other : CodeW yX4_other (ws_ yX4_other cX4_other 5 (some .int)) 5 := ⟨fun w h => (List.mem_cons.mp h).elim (fun e => e ▸ q1842) id, Or.inl ⟨_, _, q1842⟩, q138, by decide, by decide⟩
theorem c_X4_220 {C : ZC} {E : ZE} {cc : ByteArray} {nL pc d : Nat} {nm : String} {ret : Option FieldType} {hh : List (Nat × Nat × Nat × Nat)} {σ : ZS} {L : List (Option Value)} {st : List Value} {a1 : Int32} {a2 : Int32} {Ret : Int32 → ZS → Prop} (hC : Cx C E cc nL "RightTurnsModel" nm ret hh d) (hdd : 4 + 1 ≤ d) (hd : decode cc pc = .ok (.invokevirtual 220, 3)) (hW : (st.map fun v => v.category).sum ≤ 8) (hV : wp_X4_other σ a1 a2 Ret) (k : ∀ r σ', Ret r σ' → zz C E NS nL σ' (pc + 3) L (.int r :: st)) : zz C E NS nL σ pc L (.int a2 :: .int a1 :: .ref (E.1.heap.size + 44) :: st) :=
  z_callVG hC cf3 cw_X4_other hdd (by decide) (mz_X4_other (cxE hC) hV) hd (k_44 σ) q1839 q1841 qs63 (np := 2) rfl rfl hW rfl (kI k)
def wp_X4_readsRider (σ : ZS) (Ret : ZS → Prop) : Prop :=
    wp_X4_number σ 0 ((zI σ 46 (ix 0)) - 1) (fun r1 σ2 => wp_X4_other σ2 ((zI σ2 46 (ix 0)) - 1) r1 (fun r3 σ4 => wp_X4_number σ4 0 99 (fun r5 σ6 => (((zI σ6 44 5) = 0 → (vp_in (zI σ6 46 (ix 3)) 12 ∧ (∀ σ8 : ZS, σ8 = sI σ6 (132 + 1 + ix (zI σ6 46 (ix 3))) (ix 0) r1 → (∀ σ9 : ZS, σ9 = sI σ8 (132 + 1 + ix (zI σ6 46 (ix 3))) (ix 1) r3 → (∀ σ10 : ZS, σ10 = sI σ9 (132 + 1 + ix (zI σ6 46 (ix 3))) (ix 2) r5 → (∀ σ11 : ZS, σ11 = sI σ10 46 (ix 3) ((zI σ10 46 (ix 3)) + 1) → (Ret σ11))))))) ∧ (¬ (zI σ6 44 5) = 0 → (Ret σ6))))))
set_option maxHeartbeats 4000000 in
theorem mz_X4_readsRider {l : Launch} {E : ZE} (hE : EOK E) {σ : ZS} {Ret : ZS → Prop} (hV : wp_X4_readsRider σ Ret) : MZ l E NS yX4_readsRider (ws_ yX4_readsRider cX4_readsRider 5 none) 5 σ [.ref (E.1.heap.size + 44)] (rV Ret) := by
  refine MZ.start (L := [some (.ref (E.1.heap.size + 44)), none, none, none, none]) hE (by decide) (Nat.le_of_ble_eq_true rfl) rfl fun C hCl hQo hC => ?_
  replace hC : Cx C E cX4_readsRider 5 "RightTurnsModel" "readsRider" none [] 5 := hC
  unfold wp_X4_readsRider at hV
  refine z_aload_n hC dX4_readsRider_0 rfl rfl ?_
  refine z_iconst (v := 0) hC dX4_readsRider_1 rfl ?_
  refine z_aload_n hC dX4_readsRider_2 rfl rfl ?_
  refine g_X4_17_44 hC dX4_readsRider_3 ?_
  refine z_iconst (v := 0) hC dX4_readsRider_6 rfl ?_
  refine z_iald hC dX4_readsRider_7 (k_46 _) (in_dec rfl) ?_
  refine z_iconst (v := 1) hC dX4_readsRider_8 rfl ?_
  refine z_isub hC dX4_readsRider_9 ?_
  refine c_X4_216 hC (by decide) dX4_readsRider_10 (Nat.le_of_ble_eq_true rfl) hV (fun r1 σ2 hV => ?_)
  refine z_istore_n hC dX4_readsRider_13 rfl (Nat.le_of_ble_eq_true rfl) rfl rfl ?_
  refine z_aload_n hC dX4_readsRider_14 rfl rfl ?_
  refine z_aload_n hC dX4_readsRider_15 rfl rfl ?_
  refine g_X4_17_44 hC dX4_readsRider_16 ?_
  refine z_iconst (v := 0) hC dX4_readsRider_19 rfl ?_
  refine z_iald hC dX4_readsRider_20 (k_46 _) (in_dec rfl) ?_
  refine z_iconst (v := 1) hC dX4_readsRider_21 rfl ?_
  refine z_isub hC dX4_readsRider_22 ?_
  refine z_iload_n hC dX4_readsRider_23 rfl rfl ?_
  refine c_X4_220 hC (by decide) dX4_readsRider_24 (Nat.le_of_ble_eq_true rfl) hV (fun r3 σ4 hV => ?_)
  refine z_istore_n hC dX4_readsRider_27 rfl (Nat.le_of_ble_eq_true rfl) rfl rfl ?_
  refine z_aload_n hC dX4_readsRider_28 rfl rfl ?_
  refine z_iconst (v := 0) hC dX4_readsRider_29 rfl ?_
  refine z_bipush (v := 99) hC dX4_readsRider_30 rfl ?_
  refine c_X4_216 hC (by decide) dX4_readsRider_32 (Nat.le_of_ble_eq_true rfl) hV (fun r5 σ6 hV => ?_)
  refine z_istore_n hC dX4_readsRider_35 rfl (Nat.le_of_ble_eq_true rfl) rfl rfl ?_
  refine z_aload_n hC dX4_readsRider_36 rfl rfl ?_
  refine g_X4_147_44 hC dX4_readsRider_37 ?_
  refine z_if_eq (tgt := 44) hC dX4_readsRider_40 (by decide) (fun hc => ?_) (fun hc => ?_)
  · replace hV := hV.1 hc
    refine z_aload_n hC dX4_readsRider_44 rfl rfl ?_
    refine g_X4_37_44 hC dX4_readsRider_45 ?_
    refine z_aload_n hC dX4_readsRider_48 rfl rfl ?_
    refine g_X4_17_44 hC dX4_readsRider_49 ?_
    refine z_iconst (v := 3) hC dX4_readsRider_52 rfl ?_
    refine z_iald hC dX4_readsRider_53 (k_46 _) (in_dec rfl) ?_
    obtain ⟨h7, hV⟩ := hV
    refine z_aalS hC dX4_readsRider_54 (k_132 _) (by decide) ps_132 h7 ?_
    refine z_astore hC dX4_readsRider_55 (Nat.le_of_ble_eq_true rfl) rfl rfl ?_
    refine z_aload hC dX4_readsRider_57 rfl ?_
    refine z_iconst (v := 0) hC dX4_readsRider_59 rfl ?_
    refine z_iload_n hC dX4_readsRider_60 rfl rfl ?_
    refine z_iast hC dX4_readsRider_61 (kr_132 _ (ix_lt h7)) (in_dec rfl) ?_
    obtain ⟨σ8, e_σ8⟩ : ∃ z : ZS, z = sI σ6 (132 + 1 + ix (zI σ6 46 (ix 3))) (ix 0) r1 := ⟨_, rfl⟩
    replace hV := hV _ e_σ8
    rw [← e_σ8]
    refine z_aload hC dX4_readsRider_62 rfl ?_
    refine z_iconst (v := 1) hC dX4_readsRider_64 rfl ?_
    refine z_iload_n hC dX4_readsRider_65 rfl rfl ?_
    refine z_iast hC dX4_readsRider_66 (kr_132 _ (ix_lt h7)) (in_dec rfl) ?_
    obtain ⟨σ9, e_σ9⟩ : ∃ z : ZS, z = sI σ8 (132 + 1 + ix (zI σ6 46 (ix 3))) (ix 1) r3 := ⟨_, rfl⟩
    replace hV := hV _ e_σ9
    rw [← e_σ9]
    refine z_aload hC dX4_readsRider_67 rfl ?_
    refine z_iconst (v := 2) hC dX4_readsRider_69 rfl ?_
    refine z_iload_n hC dX4_readsRider_70 rfl rfl ?_
    refine z_iast hC dX4_readsRider_71 (kr_132 _ (ix_lt h7)) (in_dec rfl) ?_
    obtain ⟨σ10, e_σ10⟩ : ∃ z : ZS, z = sI σ9 (132 + 1 + ix (zI σ6 46 (ix 3))) (ix 2) r5 := ⟨_, rfl⟩
    replace hV := hV _ e_σ10
    rw [← e_σ10]
    refine z_aload_n hC dX4_readsRider_72 rfl rfl ?_
    refine g_X4_17_44 hC dX4_readsRider_73 ?_
    refine z_iconst (v := 3) hC dX4_readsRider_76 rfl ?_
    refine z_dup2 hC dX4_readsRider_77 rfl rfl ?_
    refine z_iald hC dX4_readsRider_78 (k_46 _) (in_dec rfl) ?_
    refine z_iconst (v := 1) hC dX4_readsRider_79 rfl ?_
    refine z_iadd hC dX4_readsRider_80 ?_
    refine z_iast hC dX4_readsRider_81 (k_46 _) (in_dec rfl) ?_
    obtain ⟨σ11, e_σ11⟩ : ∃ z : ZS, z = sI σ10 46 (ix 3) ((zI σ10 46 (ix 3)) + 1) := ⟨_, rfl⟩
    replace hV := hV _ e_σ11
    rw [← e_σ11]
    exact z_vret hC dX4_readsRider_82 (by rw [hQo]; exact ⟨rfl, hV⟩)
  · replace hV := hV.2 hc
    exact z_vret hC dX4_readsRider_43 (by rw [hQo]; exact ⟨rfl, hV⟩)
def wp_X4_readsStreet (σ : ZS) (Ret : ZS → Prop) : Prop :=
    wp_X4_number σ 0 ((zI σ 46 (ix 0)) - 1) (fun r1 σ2 => wp_X4_other σ2 ((zI σ2 46 (ix 0)) - 1) r1 (fun r3 σ4 => wp_X4_number σ4 1 99 (fun r5 σ6 => (((zI σ6 44 5) = 0 → (vp_in (zI σ6 46 (ix 1)) 24 ∧ (∀ σ8 : ZS, σ8 = sI σ6 (82 + 1 + ix (zI σ6 46 (ix 1))) (ix 0) r1 → (∀ σ9 : ZS, σ9 = sI σ8 (82 + 1 + ix (zI σ6 46 (ix 1))) (ix 1) r3 → (∀ σ10 : ZS, σ10 = sI σ9 (82 + 1 + ix (zI σ6 46 (ix 1))) (ix 2) r5 → (∀ σ11 : ZS, σ11 = sI σ10 (82 + 1 + ix (zI σ6 46 (ix 1))) (ix 3) 0 → (∀ σ12 : ZS, σ12 = sI σ11 46 (ix 1) ((zI σ11 46 (ix 1)) + 1) → (Ret σ12)))))))) ∧ (¬ (zI σ6 44 5) = 0 → (Ret σ6))))))
set_option maxHeartbeats 4000000 in
theorem mz_X4_readsStreet {l : Launch} {E : ZE} (hE : EOK E) {σ : ZS} {Ret : ZS → Prop} (hV : wp_X4_readsStreet σ Ret) : MZ l E NS yX4_readsStreet (ws_ yX4_readsStreet cX4_readsStreet 5 none) 5 σ [.ref (E.1.heap.size + 44)] (rV Ret) := by
  refine MZ.start (L := [some (.ref (E.1.heap.size + 44)), none, none, none, none]) hE (by decide) (Nat.le_of_ble_eq_true rfl) rfl fun C hCl hQo hC => ?_
  replace hC : Cx C E cX4_readsStreet 5 "RightTurnsModel" "readsStreet" none [] 5 := hC
  unfold wp_X4_readsStreet at hV
  refine z_aload_n hC dX4_readsStreet_0 rfl rfl ?_
  refine z_iconst (v := 0) hC dX4_readsStreet_1 rfl ?_
  refine z_aload_n hC dX4_readsStreet_2 rfl rfl ?_
  refine g_X4_17_44 hC dX4_readsStreet_3 ?_
  refine z_iconst (v := 0) hC dX4_readsStreet_6 rfl ?_
  refine z_iald hC dX4_readsStreet_7 (k_46 _) (in_dec rfl) ?_
  refine z_iconst (v := 1) hC dX4_readsStreet_8 rfl ?_
  refine z_isub hC dX4_readsStreet_9 ?_
  refine c_X4_216 hC (by decide) dX4_readsStreet_10 (Nat.le_of_ble_eq_true rfl) hV (fun r1 σ2 hV => ?_)
  refine z_istore_n hC dX4_readsStreet_13 rfl (Nat.le_of_ble_eq_true rfl) rfl rfl ?_
  refine z_aload_n hC dX4_readsStreet_14 rfl rfl ?_
  refine z_aload_n hC dX4_readsStreet_15 rfl rfl ?_
  refine g_X4_17_44 hC dX4_readsStreet_16 ?_
  refine z_iconst (v := 0) hC dX4_readsStreet_19 rfl ?_
  refine z_iald hC dX4_readsStreet_20 (k_46 _) (in_dec rfl) ?_
  refine z_iconst (v := 1) hC dX4_readsStreet_21 rfl ?_
  refine z_isub hC dX4_readsStreet_22 ?_
  refine z_iload_n hC dX4_readsStreet_23 rfl rfl ?_
  refine c_X4_220 hC (by decide) dX4_readsStreet_24 (Nat.le_of_ble_eq_true rfl) hV (fun r3 σ4 hV => ?_)
  refine z_istore_n hC dX4_readsStreet_27 rfl (Nat.le_of_ble_eq_true rfl) rfl rfl ?_
  refine z_aload_n hC dX4_readsStreet_28 rfl rfl ?_
  refine z_iconst (v := 1) hC dX4_readsStreet_29 rfl ?_
  refine z_bipush (v := 99) hC dX4_readsStreet_30 rfl ?_
  refine c_X4_216 hC (by decide) dX4_readsStreet_32 (Nat.le_of_ble_eq_true rfl) hV (fun r5 σ6 hV => ?_)
  refine z_istore_n hC dX4_readsStreet_35 rfl (Nat.le_of_ble_eq_true rfl) rfl rfl ?_
  refine z_aload_n hC dX4_readsStreet_36 rfl rfl ?_
  refine g_X4_147_44 hC dX4_readsStreet_37 ?_
  refine z_if_eq (tgt := 44) hC dX4_readsStreet_40 (by decide) (fun hc => ?_) (fun hc => ?_)
  · replace hV := hV.1 hc
    refine z_aload_n hC dX4_readsStreet_44 rfl rfl ?_
    refine g_X4_31_44 hC dX4_readsStreet_45 ?_
    refine z_aload_n hC dX4_readsStreet_48 rfl rfl ?_
    refine g_X4_17_44 hC dX4_readsStreet_49 ?_
    refine z_iconst (v := 1) hC dX4_readsStreet_52 rfl ?_
    refine z_iald hC dX4_readsStreet_53 (k_46 _) (in_dec rfl) ?_
    obtain ⟨h7, hV⟩ := hV
    refine z_aalS hC dX4_readsStreet_54 (k_82 _) (by decide) ps_82 h7 ?_
    refine z_astore hC dX4_readsStreet_55 (Nat.le_of_ble_eq_true rfl) rfl rfl ?_
    refine z_aload hC dX4_readsStreet_57 rfl ?_
    refine z_iconst (v := 0) hC dX4_readsStreet_59 rfl ?_
    refine z_iload_n hC dX4_readsStreet_60 rfl rfl ?_
    refine z_iast hC dX4_readsStreet_61 (kr_82 _ (ix_lt h7)) (in_dec rfl) ?_
    obtain ⟨σ8, e_σ8⟩ : ∃ z : ZS, z = sI σ6 (82 + 1 + ix (zI σ6 46 (ix 1))) (ix 0) r1 := ⟨_, rfl⟩
    replace hV := hV _ e_σ8
    rw [← e_σ8]
    refine z_aload hC dX4_readsStreet_62 rfl ?_
    refine z_iconst (v := 1) hC dX4_readsStreet_64 rfl ?_
    refine z_iload_n hC dX4_readsStreet_65 rfl rfl ?_
    refine z_iast hC dX4_readsStreet_66 (kr_82 _ (ix_lt h7)) (in_dec rfl) ?_
    obtain ⟨σ9, e_σ9⟩ : ∃ z : ZS, z = sI σ8 (82 + 1 + ix (zI σ6 46 (ix 1))) (ix 1) r3 := ⟨_, rfl⟩
    replace hV := hV _ e_σ9
    rw [← e_σ9]
    refine z_aload hC dX4_readsStreet_67 rfl ?_
    refine z_iconst (v := 2) hC dX4_readsStreet_69 rfl ?_
    refine z_iload_n hC dX4_readsStreet_70 rfl rfl ?_
    refine z_iast hC dX4_readsStreet_71 (kr_82 _ (ix_lt h7)) (in_dec rfl) ?_
    obtain ⟨σ10, e_σ10⟩ : ∃ z : ZS, z = sI σ9 (82 + 1 + ix (zI σ6 46 (ix 1))) (ix 2) r5 := ⟨_, rfl⟩
    replace hV := hV _ e_σ10
    rw [← e_σ10]
    refine z_aload hC dX4_readsStreet_72 rfl ?_
    refine z_iconst (v := 3) hC dX4_readsStreet_74 rfl ?_
    refine z_iconst (v := 0) hC dX4_readsStreet_75 rfl ?_
    refine z_iast hC dX4_readsStreet_76 (kr_82 _ (ix_lt h7)) (in_dec rfl) ?_
    obtain ⟨σ11, e_σ11⟩ : ∃ z : ZS, z = sI σ10 (82 + 1 + ix (zI σ6 46 (ix 1))) (ix 3) 0 := ⟨_, rfl⟩
    replace hV := hV _ e_σ11
    rw [← e_σ11]
    refine z_aload_n hC dX4_readsStreet_77 rfl rfl ?_
    refine g_X4_17_44 hC dX4_readsStreet_78 ?_
    refine z_iconst (v := 1) hC dX4_readsStreet_81 rfl ?_
    refine z_dup2 hC dX4_readsStreet_82 rfl rfl ?_
    refine z_iald hC dX4_readsStreet_83 (k_46 _) (in_dec rfl) ?_
    refine z_iconst (v := 1) hC dX4_readsStreet_84 rfl ?_
    refine z_iadd hC dX4_readsStreet_85 ?_
    refine z_iast hC dX4_readsStreet_86 (k_46 _) (in_dec rfl) ?_
    obtain ⟨σ12, e_σ12⟩ : ∃ z : ZS, z = sI σ11 46 (ix 1) ((zI σ11 46 (ix 1)) + 1) := ⟨_, rfl⟩
    replace hV := hV _ e_σ12
    rw [← e_σ12]
    exact z_vret hC dX4_readsStreet_87 (by rw [hQo]; exact ⟨rfl, hV⟩)
  · replace hV := hV.2 hc
    exact z_vret hC dX4_readsStreet_43 (by rw [hQo]; exact ⟨rfl, hV⟩)
def V_X4_readsTurn_64 (Ret : ZS → Prop) (σ : ZS) (x1 : Nat) (x2 : Int32) (x4 : Int32) : Prop :=
    (((zI σ 44 5) = 0 → (∃ n9, kK NS σ x1 = (0, n9) ∧ (vp_in x2 n9 ∧ (∃ n12, kK NS σ x1 = (0, n12) ∧ (vp_in x2 n12 ∧ (∀ σ14 : ZS, σ14 = sI σ x1 (ix x2) ((zI σ x1 (ix x2)) ||| ((1 : Int32) <<< (x4 &&& 31))) → (Ret σ14))))))) ∧ (¬ (zI σ 44 5) = 0 → (Ret σ)))
def wp_X4_readsTurn (σ : ZS) (a1 : Nat) (Ret : ZS → Prop) : Prop :=
    wp_X4_number σ 0 ((zI σ 46 (ix 1)) - 1) (fun r1 σ2 => wp_X4_blanks σ2 (fun σ4 => ∀ y5 : Int32, y5 = zI σ4 44 4 → (wp_X4_other σ4 ((zI σ4 46 (ix 1)) - 1) r1 (fun r6 σ7 => (((zI σ7 44 5) = 0 → (wp_X4_meet σ7 82 r1 r6 (fun r15 σ16 => ((r15 = 0 → (wp_X4_wrong σ16 2 y5 (fun σ18 => V_X4_readsTurn_64 Ret σ18 a1 r1 r6))) ∧ (¬ r15 = 0 → (V_X4_readsTurn_64 Ret σ16 a1 r1 r6)))))) ∧ (¬ (zI σ7 44 5) = 0 → (V_X4_readsTurn_64 Ret σ7 a1 r1 r6)))))))
set_option maxHeartbeats 4000000 in
theorem mz_X4_readsTurn {l : Launch} {E : ZE} (hE : EOK E) {σ : ZS} {a1 : Nat} {Ret : ZS → Prop} (hV : wp_X4_readsTurn σ a1 Ret) : MZ l E NS yX4_readsTurn (ws_ yX4_readsTurn cX4_readsTurn 5 none) 5 σ [.ref (E.1.heap.size + 44), .ref (E.1.heap.size + a1)] (rV Ret) := by
  refine MZ.start (L := [some (.ref (E.1.heap.size + 44)), some (.ref (E.1.heap.size + a1)), none, none, none]) hE (by decide) (Nat.le_of_ble_eq_true rfl) rfl fun C hCl hQo hC => ?_
  replace hC : Cx C E cX4_readsTurn 5 "RightTurnsModel" "readsTurn" none [] 5 := hC
  unfold wp_X4_readsTurn at hV
  have j_64 : ∀ (σ : ZS) (x1 : Nat) (x2 : Int32) (x4 : Int32), V_X4_readsTurn_64 Ret σ x1 x2 x4 → zz C E NS 5 σ 64 [some (.ref (E.1.heap.size + 44)), some (.ref (E.1.heap.size + x1)), some (.int x2), none, some (.int x4)] [] := by
    intro σ x1 x2 x4 hV
    unfold V_X4_readsTurn_64 at hV
    refine z_aload_n hC dX4_readsTurn_64 rfl rfl ?_
    refine g_X4_147_44 hC dX4_readsTurn_65 ?_
    refine z_if_ne (tgt := 81) hC dX4_readsTurn_68 (by decide) (fun hc => ?_) (fun hc => ?_)
    · replace hV := hV.2 hc
      exact z_vret hC dX4_readsTurn_81 (by rw [hQo]; exact ⟨rfl, hV⟩)
    · replace hV := hV.1 hc
      refine z_aload_n hC dX4_readsTurn_71 rfl rfl ?_
      refine z_iload_n hC dX4_readsTurn_72 rfl rfl ?_
      refine z_dup2 hC dX4_readsTurn_73 rfl rfl ?_
      obtain ⟨n9, h8, hV⟩ := hV
      obtain ⟨h10, hV⟩ := hV
      refine z_iald hC dX4_readsTurn_74 h8 (h10) ?_
      refine z_iconst (v := 1) hC dX4_readsTurn_75 rfl ?_
      refine z_iload hC dX4_readsTurn_76 rfl ?_
      refine z_ishl hC dX4_readsTurn_78 ?_
      refine z_ior hC dX4_readsTurn_79 ?_
      obtain ⟨n12, h11, hV⟩ := hV
      obtain ⟨h13, hV⟩ := hV
      refine z_iast hC dX4_readsTurn_80 h11 (h13) ?_
      obtain ⟨σ14, e_σ14⟩ : ∃ z : ZS, z = sI σ x1 (ix x2) ((zI σ x1 (ix x2)) ||| ((1 : Int32) <<< (x4 &&& 31))) := ⟨_, rfl⟩
      replace hV := hV _ e_σ14
      rw [← e_σ14]
      exact z_vret hC dX4_readsTurn_81 (by rw [hQo]; exact ⟨rfl, hV⟩)
  refine z_aload_n hC dX4_readsTurn_0 rfl rfl ?_
  refine z_iconst (v := 0) hC dX4_readsTurn_1 rfl ?_
  refine z_aload_n hC dX4_readsTurn_2 rfl rfl ?_
  refine g_X4_17_44 hC dX4_readsTurn_3 ?_
  refine z_iconst (v := 1) hC dX4_readsTurn_6 rfl ?_
  refine z_iald hC dX4_readsTurn_7 (k_46 _) (in_dec rfl) ?_
  refine z_iconst (v := 1) hC dX4_readsTurn_8 rfl ?_
  refine z_isub hC dX4_readsTurn_9 ?_
  refine c_X4_216 hC (by decide) dX4_readsTurn_10 (Nat.le_of_ble_eq_true rfl) hV (fun r1 σ2 hV => ?_)
  refine z_istore_n hC dX4_readsTurn_13 rfl (Nat.le_of_ble_eq_true rfl) rfl rfl ?_
  refine z_aload_n hC dX4_readsTurn_14 rfl rfl ?_
  refine c_X4_153 hC (by decide) dX4_readsTurn_15 (Nat.le_of_ble_eq_true rfl) hV (fun σ4 hV => ?_)
  refine z_aload_n hC dX4_readsTurn_18 rfl rfl ?_
  refine g_X4_140_44 hC dX4_readsTurn_19 ?_
  obtain ⟨y5, e_y5⟩ : ∃ z, z = zI σ4 44 4 := ⟨_, rfl⟩
  rw [← e_y5]
  replace hV := hV _ e_y5
  refine z_istore_n hC dX4_readsTurn_22 rfl (Nat.le_of_ble_eq_true rfl) rfl rfl ?_
  refine z_aload_n hC dX4_readsTurn_23 rfl rfl ?_
  refine z_aload_n hC dX4_readsTurn_24 rfl rfl ?_
  refine g_X4_17_44 hC dX4_readsTurn_25 ?_
  refine z_iconst (v := 1) hC dX4_readsTurn_28 rfl ?_
  refine z_iald hC dX4_readsTurn_29 (k_46 _) (in_dec rfl) ?_
  refine z_iconst (v := 1) hC dX4_readsTurn_30 rfl ?_
  refine z_isub hC dX4_readsTurn_31 ?_
  refine z_iload_n hC dX4_readsTurn_32 rfl rfl ?_
  refine c_X4_220 hC (by decide) dX4_readsTurn_33 (Nat.le_of_ble_eq_true rfl) hV (fun r6 σ7 hV => ?_)
  refine z_istore hC dX4_readsTurn_36 (Nat.le_of_ble_eq_true rfl) rfl rfl ?_
  refine z_aload_n hC dX4_readsTurn_38 rfl rfl ?_
  refine g_X4_147_44 hC dX4_readsTurn_39 ?_
  refine z_if_ne (tgt := 64) hC dX4_readsTurn_42 (by decide) (fun hc => ?_) (fun hc => ?_)
  · replace hV := hV.2 hc
    refine zz_sub (L' := [some (.ref (E.1.heap.size + 44)), some (.ref (E.1.heap.size + a1)), some (.int r1), none, some (.int r6)]) ⟨rfl, rfl, rfl, rfl, trivial⟩ ?_
    exact j_64 σ7 a1 r1 r6 hV
  · replace hV := hV.1 hc
    refine z_aload_n hC dX4_readsTurn_45 rfl rfl ?_
    refine g_X4_31_44 hC dX4_readsTurn_46 ?_
    refine z_iload_n hC dX4_readsTurn_49 rfl rfl ?_
    refine z_iload hC dX4_readsTurn_50 rfl ?_
    refine c_X4_223 hC (by decide) dX4_readsTurn_52 (Nat.le_of_ble_eq_true rfl) hV (fun r15 σ16 hV => ?_)
    refine z_if_ne (tgt := 64) hC dX4_readsTurn_55 (by decide) (fun hc => ?_) (fun hc => ?_)
    · replace hV := hV.2 hc
      refine zz_sub (L' := [some (.ref (E.1.heap.size + 44)), some (.ref (E.1.heap.size + a1)), some (.int r1), none, some (.int r6)]) ⟨rfl, rfl, rfl, rfl, trivial⟩ ?_
      exact j_64 σ16 a1 r1 r6 hV
    · replace hV := hV.1 hc
      refine z_aload_n hC dX4_readsTurn_58 rfl rfl ?_
      refine z_iconst (v := 2) hC dX4_readsTurn_59 rfl ?_
      refine z_iload_n hC dX4_readsTurn_60 rfl rfl ?_
      refine c_X4_160 hC (by decide) dX4_readsTurn_61 (Nat.le_of_ble_eq_true rfl) hV (fun σ18 hV => ?_)
      refine zz_sub (L' := [some (.ref (E.1.heap.size + 44)), some (.ref (E.1.heap.size + a1)), some (.int r1), none, some (.int r6)]) ⟨rfl, rfl, rfl, rfl, trivial⟩ ?_
      exact j_64 σ18 a1 r1 r6 hV
def VL_X4_skipWord_0 (Ret : ZS → Prop) : Nat → ZS → Prop
  | 0 => fun _ => False
  | k + 1 => fun σ =>
    let K0 := VL_X4_skipWord_0 Ret k
    wp_X4_byteAt σ (zI σ 44 4) (fun r1 σ2 => ((r1 < 97 → (Ret σ2)) ∧ (¬ r1 < 97 → (wp_X4_byteAt σ2 (zI σ2 44 4) (fun r3 σ4 => ((122 < r3 → (Ret σ4)) ∧ (¬ 122 < r3 → (∀ σ5 : ZS, σ5 = sI σ4 44 4 ((zI σ4 44 4) + 1) → (K0 σ5)))))))))
def V_X4_skipWord_0 (Ret : ZS → Prop) (σ : ZS) : Prop := ∃ k, VL_X4_skipWord_0 Ret k σ
def wp_X4_skipWord (σ : ZS) (Ret : ZS → Prop) : Prop :=
    V_X4_skipWord_0 Ret σ
set_option maxHeartbeats 4000000 in
theorem mz_X4_skipWord {l : Launch} {E : ZE} (hE : EOK E) {σ : ZS} {Ret : ZS → Prop} (hV : wp_X4_skipWord σ Ret) : MZ l E NS yX4_skipWord (ws_ yX4_skipWord cX4_skipWord 1 none) 2 σ [.ref (E.1.heap.size + 44)] (rV Ret) := by
  refine MZ.start (L := [some (.ref (E.1.heap.size + 44))]) hE (by decide) (Nat.le_of_ble_eq_true rfl) rfl fun C hCl hQo hC => ?_
  replace hC : Cx C E cX4_skipWord 1 "RightTurnsModel" "skipWord" none [] 2 := hC
  unfold wp_X4_skipWord at hV
  have j_0 : ∀ (σ : ZS), V_X4_skipWord_0 Ret σ → zz C E NS 1 σ 0 [some (.ref (E.1.heap.size + 44))] [] := by
    intro σ ⟨k, hV⟩
    revert σ
    induction k with
    | zero => exact fun _ hV => hV.elim
    | succ k j_0 =>
      intro σ hV
      simp only [VL_X4_skipWord_0] at hV
      generalize hKe0 : VL_X4_skipWord_0 Ret k = K0 at hV j_0
      clear hKe0
      refine z_aload_n hC dX4_skipWord_0 rfl rfl ?_
      refine z_aload_n hC dX4_skipWord_1 rfl rfl ?_
      refine g_X4_140_44 hC dX4_skipWord_2 ?_
      refine c_X4_143 hC (by decide) dX4_skipWord_5 (Nat.le_of_ble_eq_true rfl) hV (fun r1 σ2 hV => ?_)
      refine z_bipush (v := 97) hC dX4_skipWord_8 rfl ?_
      refine z_icmp_lt (tgt := 39) hC dX4_skipWord_10 (by decide) (fun hc => ?_) (fun hc => ?_)
      · replace hV := hV.1 hc
        exact z_vret hC dX4_skipWord_39 (by rw [hQo]; exact ⟨rfl, hV⟩)
      · replace hV := hV.2 hc
        refine z_aload_n hC dX4_skipWord_13 rfl rfl ?_
        refine z_aload_n hC dX4_skipWord_14 rfl rfl ?_
        refine g_X4_140_44 hC dX4_skipWord_15 ?_
        refine c_X4_143 hC (by decide) dX4_skipWord_18 (Nat.le_of_ble_eq_true rfl) hV (fun r3 σ4 hV => ?_)
        refine z_bipush (v := 122) hC dX4_skipWord_21 rfl ?_
        refine z_icmp_gt (tgt := 39) hC dX4_skipWord_23 (by decide) (fun hc => ?_) (fun hc => ?_)
        · replace hV := hV.1 hc
          exact z_vret hC dX4_skipWord_39 (by rw [hQo]; exact ⟨rfl, hV⟩)
        · replace hV := hV.2 hc
          refine z_aload_n hC dX4_skipWord_26 rfl rfl ?_
          refine z_dup hC dX4_skipWord_27 rfl ?_
          refine g_X4_140_44 hC dX4_skipWord_28 ?_
          refine z_iconst (v := 1) hC dX4_skipWord_31 rfl ?_
          refine z_iadd hC dX4_skipWord_32 ?_
          refine p_X4_140_c3 hC dX4_skipWord_33 (k_44 _) ?_
          obtain ⟨σ5, e_σ5⟩ : ∃ z : ZS, z = sI σ4 44 4 ((zI σ4 44 4) + 1) := ⟨_, rfl⟩
          replace hV := hV _ e_σ5
          rw [← e_σ5]
          refine z_goto (tgt := 0) hC dX4_skipWord_36 (by decide) ?_
          refine zz_sub (L' := [some (.ref (E.1.heap.size + 44))]) ⟨rfl, trivial⟩ ?_
          exact j_0 σ5 hV
  refine zz_sub (L' := [some (.ref (E.1.heap.size + 44))]) ⟨rfl, trivial⟩ ?_
  exact j_0 σ hV
theorem g_X4_184_44 {C : ZC} {E : ZE} {cc : ByteArray} {nL pc d : Nat} {nm : String} {ret : Option FieldType} {hh : List (Nat × Nat × Nat × Nat)} {σ : ZS} {L : List (Option Value)} {st : List Value} (hC : Cx C E cc nL "RightTurnsModel" nm ret hh d) (hd : decode cc pc = .ok (.getfield 184, 3)) (k : zz C E NS nL σ (pc + 3) L (.int (zI σ 44 7) :: st)) : zz C E NS nL σ pc L (.ref (E.1.heap.size + 44) :: st) :=
  z_get hC cf3 hd (k_44 σ) (k := 7) (by decide) (Or.inl q1592) (Or.inl rfl) rfl k
theorem g_X4_43_44 {C : ZC} {E : ZE} {cc : ByteArray} {nL pc d : Nat} {nm : String} {ret : Option FieldType} {hh : List (Nat × Nat × Nat × Nat)} {σ : ZS} {L : List (Option Value)} {st : List Value} (hC : Cx C E cc nL "RightTurnsModel" nm ret hh d) (hd : decode cc pc = .ok (.getfield 43, 3)) (k : zz C E NS nL σ (pc + 3) L (.ref (E.1.heap.size + 158) :: st)) : zz C E NS nL σ pc L (.ref (E.1.heap.size + 44) :: st) :=
  z_get hC cf3 hd (k_44 σ) (k := 17) (by decide) (Or.inl q1602) (Or.inl rfl) rfl k
theorem g_X4_46_44 {C : ZC} {E : ZE} {cc : ByteArray} {nL pc d : Nat} {nm : String} {ret : Option FieldType} {hh : List (Nat × Nat × Nat × Nat)} {σ : ZS} {L : List (Option Value)} {st : List Value} (hC : Cx C E cc nL "RightTurnsModel" nm ret hh d) (hd : decode cc pc = .ok (.getfield 46, 3)) (k : zz C E NS nL σ (pc + 3) L (.ref (E.1.heap.size + 159) :: st)) : zz C E NS nL σ pc L (.ref (E.1.heap.size + 44) :: st) :=
  z_get hC cf3 hd (k_44 σ) (k := 18) (by decide) (Or.inl q1603) (Or.inl rfl) rfl k
theorem p_X4_184_c3 {C : ZC} {E : ZE} {cc : ByteArray} {n nL pc d a x : Nat} {nm : String} {ret : Option FieldType} {hh : List (Nat × Nat × Nat × Nat)} {σ : ZS} {L : List (Option Value)} {st : List Value} {v : Int32} (hC : Cx C E cc nL "RightTurnsModel" nm ret hh d) (hd : decode cc pc = .ok (.putfield 184, 3)) (hk : kK n σ a = (3 + 7, x)) (k : zz C E n nL (sI σ a 7 v) (pc + 3) L st) : zz C E n nL σ pc L (.int v :: .ref (E.1.heap.size + a) :: st) :=
  z_putI hC cf3 hd hk (k := 7) (by decide) (Or.inl q1592) (Or.inl rfl) (Or.inl rfl) rfl rfl rfl k
theorem cw_X4_kindHere : CodeW yX4_kindHere (ws_ yX4_kindHere cX4_kindHere 1 (some .int)) 1 := ⟨fun w h => (List.mem_cons.mp h).elim (fun e => e ▸ q1800) id, Or.inl ⟨_, _, q1800⟩, q138, by decide, by decide⟩
theorem c_X4_181 {C : ZC} {E : ZE} {cc : ByteArray} {nL pc d : Nat} {nm : String} {ret : Option FieldType} {hh : List (Nat × Nat × Nat × Nat)} {σ : ZS} {L : List (Option Value)} {st : List Value} {Ret : Int32 → ZS → Prop} (hC : Cx C E cc nL "RightTurnsModel" nm ret hh d) (hdd : 5 + 1 ≤ d) (hd : decode cc pc = .ok (.invokevirtual 181, 3)) (hW : (st.map fun v => v.category).sum ≤ 8) (hV : wp_X4_kindHere σ Ret) (k : ∀ r σ', Ret r σ' → zz C E NS nL σ' (pc + 3) L (.int r :: st)) : zz C E NS nL σ pc L (.ref (E.1.heap.size + 44) :: st) :=
  z_callVG hC cf3 cw_X4_kindHere hdd (by decide) (mz_X4_kindHere (cxE hC) hV) hd (k_44 σ) q1797 q1799 qs55 (np := 0) rfl rfl hW rfl (kI k)
theorem cw_X4_skipWord : CodeW yX4_skipWord (ws_ yX4_skipWord cX4_skipWord 1 none) 1 := ⟨fun w h => (List.mem_cons.mp h).elim (fun e => e ▸ q1822) id, Or.inl ⟨_, _, q1822⟩, q138, by decide, by decide⟩
theorem c_X4_190 {C : ZC} {E : ZE} {cc : ByteArray} {nL pc d : Nat} {nm : String} {ret : Option FieldType} {hh : List (Nat × Nat × Nat × Nat)} {σ : ZS} {L : List (Option Value)} {st : List Value} {Ret : ZS → Prop} (hC : Cx C E cc nL "RightTurnsModel" nm ret hh d) (hdd : 2 + 1 ≤ d) (hd : decode cc pc = .ok (.invokevirtual 190, 3)) (hW : (st.map fun v => v.category).sum ≤ 8) (hV : wp_X4_skipWord σ Ret) (k : ∀ σ', Ret σ' → zz C E NS nL σ' (pc + 3) L st) : zz C E NS nL σ pc L (.ref (E.1.heap.size + 44) :: st) :=
  z_callVG hC cf3 cw_X4_skipWord hdd (by decide) (mz_X4_skipWord (cxE hC) hV) hd (k_44 σ) q1819 q1821 qs59 (np := 0) rfl rfl hW rfl (kV k)
theorem cw_X4_readsCorner : CodeW yX4_readsCorner (ws_ yX4_readsCorner cX4_readsCorner 5 none) 5 := ⟨fun w h => (List.mem_cons.mp h).elim (fun e => e ▸ q1826) id, Or.inl ⟨_, _, q1826⟩, q138, by decide, by decide⟩
theorem c_X4_193 {C : ZC} {E : ZE} {cc : ByteArray} {nL pc d : Nat} {nm : String} {ret : Option FieldType} {hh : List (Nat × Nat × Nat × Nat)} {σ : ZS} {L : List (Option Value)} {st : List Value} {Ret : ZS → Prop} (hC : Cx C E cc nL "RightTurnsModel" nm ret hh d) (hdd : 4 + 1 ≤ d) (hd : decode cc pc = .ok (.invokevirtual 193, 3)) (hW : (st.map fun v => v.category).sum ≤ 8) (hV : wp_X4_readsCorner σ Ret) (k : ∀ σ', Ret σ' → zz C E NS nL σ' (pc + 3) L st) : zz C E NS nL σ pc L (.ref (E.1.heap.size + 44) :: st) :=
  z_callVG hC cf3 cw_X4_readsCorner hdd (by decide) (mz_X4_readsCorner (cxE hC) hV) hd (k_44 σ) q1823 q1825 qs60 (np := 0) rfl rfl hW rfl (kV k)
theorem cw_X4_readsStreet : CodeW yX4_readsStreet (ws_ yX4_readsStreet cX4_readsStreet 5 none) 5 := ⟨fun w h => (List.mem_cons.mp h).elim (fun e => e ▸ q1838) id, Or.inl ⟨_, _, q1838⟩, q138, by decide, by decide⟩
theorem c_X4_196 {C : ZC} {E : ZE} {cc : ByteArray} {nL pc d : Nat} {nm : String} {ret : Option FieldType} {hh : List (Nat × Nat × Nat × Nat)} {σ : ZS} {L : List (Option Value)} {st : List Value} {Ret : ZS → Prop} (hC : Cx C E cc nL "RightTurnsModel" nm ret hh d) (hdd : 5 + 1 ≤ d) (hd : decode cc pc = .ok (.invokevirtual 196, 3)) (hW : (st.map fun v => v.category).sum ≤ 8) (hV : wp_X4_readsStreet σ Ret) (k : ∀ σ', Ret σ' → zz C E NS nL σ' (pc + 3) L st) : zz C E NS nL σ pc L (.ref (E.1.heap.size + 44) :: st) :=
  z_callVG hC cf3 cw_X4_readsStreet hdd (by decide) (mz_X4_readsStreet (cxE hC) hV) hd (k_44 σ) q1835 q1837 qs62 (np := 0) rfl rfl hW rfl (kV k)
theorem cw_X4_readsOne : CodeW yX4_readsOne (ws_ yX4_readsOne cX4_readsOne 2 none) 2 := ⟨fun w h => (List.mem_cons.mp h).elim (fun e => e ▸ q1846) id, Or.inl ⟨_, _, q1846⟩, q138, by decide, by decide⟩
theorem c_X4_199 {C : ZC} {E : ZE} {cc : ByteArray} {nL pc d : Nat} {nm : String} {ret : Option FieldType} {hh : List (Nat × Nat × Nat × Nat)} {σ : ZS} {L : List (Option Value)} {st : List Value} {Ret : ZS → Prop} (hC : Cx C E cc nL "RightTurnsModel" nm ret hh d) (hdd : 4 + 1 ≤ d) (hd : decode cc pc = .ok (.invokevirtual 199, 3)) (hW : (st.map fun v => v.category).sum ≤ 8) (hV : wp_X4_readsOne σ Ret) (k : ∀ σ', Ret σ' → zz C E NS nL σ' (pc + 3) L st) : zz C E NS nL σ pc L (.ref (E.1.heap.size + 44) :: st) :=
  z_callVG hC cf3 cw_X4_readsOne hdd (by decide) (mz_X4_readsOne (cxE hC) hV) hd (k_44 σ) q1843 q1845 qs64 (np := 0) rfl rfl hW rfl (kV k)
theorem cw_X4_readsTurn : CodeW yX4_readsTurn (ws_ yX4_readsTurn cX4_readsTurn 5 none) 5 := ⟨fun w h => (List.mem_cons.mp h).elim (fun e => e ▸ q1850) id, Or.inl ⟨_, _, q1850⟩, q138, by decide, by decide⟩
theorem c_X4_202 {C : ZC} {E : ZE} {cc : ByteArray} {nL pc d : Nat} {nm : String} {ret : Option FieldType} {hh : List (Nat × Nat × Nat × Nat)} {σ : ZS} {L : List (Option Value)} {st : List Value} {a1 : Nat} {Ret : ZS → Prop} (hC : Cx C E cc nL "RightTurnsModel" nm ret hh d) (hdd : 5 + 1 ≤ d) (hd : decode cc pc = .ok (.invokevirtual 202, 3)) (hW : (st.map fun v => v.category).sum ≤ 8) (hV : wp_X4_readsTurn σ a1 Ret) (k : ∀ σ', Ret σ' → zz C E NS nL σ' (pc + 3) L st) : zz C E NS nL σ pc L (.ref (E.1.heap.size + a1) :: .ref (E.1.heap.size + 44) :: st) :=
  z_callVG hC cf3 cw_X4_readsTurn hdd (by decide) (mz_X4_readsTurn (cxE hC) hV) hd (k_44 σ) q1847 q1849 qs65 (np := 1) rfl rfl hW rfl (kV k)
theorem cw_X4_readsBox : CodeW yX4_readsBox (ws_ yX4_readsBox cX4_readsBox 2 none) 2 := ⟨fun w h => (List.mem_cons.mp h).elim (fun e => e ▸ q1857) id, Or.inl ⟨_, _, q1857⟩, q138, by decide, by decide⟩
theorem c_X4_206 {C : ZC} {E : ZE} {cc : ByteArray} {nL pc d : Nat} {nm : String} {ret : Option FieldType} {hh : List (Nat × Nat × Nat × Nat)} {σ : ZS} {L : List (Option Value)} {st : List Value} {Ret : ZS → Prop} (hC : Cx C E cc nL "RightTurnsModel" nm ret hh d) (hdd : 4 + 1 ≤ d) (hd : decode cc pc = .ok (.invokevirtual 206, 3)) (hW : (st.map fun v => v.category).sum ≤ 8) (hV : wp_X4_readsBox σ Ret) (k : ∀ σ', Ret σ' → zz C E NS nL σ' (pc + 3) L st) : zz C E NS nL σ pc L (.ref (E.1.heap.size + 44) :: st) :=
  z_callVG hC cf3 cw_X4_readsBox hdd (by decide) (mz_X4_readsBox (cxE hC) hV) hd (k_44 σ) q1854 q1856 qs66 (np := 0) rfl rfl hW rfl (kV k)
theorem cw_X4_readsRider : CodeW yX4_readsRider (ws_ yX4_readsRider cX4_readsRider 5 none) 5 := ⟨fun w h => (List.mem_cons.mp h).elim (fun e => e ▸ q1861) id, Or.inl ⟨_, _, q1861⟩, q138, by decide, by decide⟩
theorem c_X4_209 {C : ZC} {E : ZE} {cc : ByteArray} {nL pc d : Nat} {nm : String} {ret : Option FieldType} {hh : List (Nat × Nat × Nat × Nat)} {σ : ZS} {L : List (Option Value)} {st : List Value} {Ret : ZS → Prop} (hC : Cx C E cc nL "RightTurnsModel" nm ret hh d) (hdd : 5 + 1 ≤ d) (hd : decode cc pc = .ok (.invokevirtual 209, 3)) (hW : (st.map fun v => v.category).sum ≤ 8) (hV : wp_X4_readsRider σ Ret) (k : ∀ σ', Ret σ' → zz C E NS nL σ' (pc + 3) L st) : zz C E NS nL σ pc L (.ref (E.1.heap.size + 44) :: st) :=
  z_callVG hC cf3 cw_X4_readsRider hdd (by decide) (mz_X4_readsRider (cxE hC) hV) hd (k_44 σ) q1858 q1860 qs67 (np := 0) rfl rfl hW rfl (kV k)
theorem cw_X4_closes : CodeW yX4_closes (ws_ yX4_closes cX4_closes 2 none) 2 := ⟨fun w h => (List.mem_cons.mp h).elim (fun e => e ▸ q1865) id, Or.inl ⟨_, _, q1865⟩, q138, by decide, by decide⟩
theorem c_X4_212 {C : ZC} {E : ZE} {cc : ByteArray} {nL pc d : Nat} {nm : String} {ret : Option FieldType} {hh : List (Nat × Nat × Nat × Nat)} {σ : ZS} {L : List (Option Value)} {st : List Value} {a1 : Int32} {Ret : ZS → Prop} (hC : Cx C E cc nL "RightTurnsModel" nm ret hh d) (hdd : 3 + 1 ≤ d) (hd : decode cc pc = .ok (.invokevirtual 212, 3)) (hW : (st.map fun v => v.category).sum ≤ 8) (hV : wp_X4_closes σ a1 Ret) (k : ∀ σ', Ret σ' → zz C E NS nL σ' (pc + 3) L st) : zz C E NS nL σ pc L (.int a1 :: .ref (E.1.heap.size + 44) :: st) :=
  z_callVG hC cf3 cw_X4_closes hdd (by decide) (mz_X4_closes (cxE hC) hV) hd (k_44 σ) q1862 q1864 qs68 (np := 1) rfl rfl hW rfl (kV k)
def V_X4_clause_107 (Ret : ZS → Prop) (σ : ZS) (x1 : Int32) : Prop :=
    (((zI σ 44 5) = 0 → (wp_X4_skipWord σ (fun σ6 => ∀ σ7 : ZS, σ7 = sI σ6 44 7 ((zI σ6 44 7) + 1) → (((x1 = 0 → (wp_X4_readsCorner σ7 (fun σ33 => wp_X4_closes σ33 59 (fun σ35 => Ret σ35)))) ∧ (¬ x1 = 0 → (((x1 = 1 → (wp_X4_readsStreet σ7 (fun σ29 => wp_X4_closes σ29 59 (fun σ31 => Ret σ31)))) ∧ (¬ x1 = 1 → (((x1 = 2 → (wp_X4_readsOne σ7 (fun σ25 => wp_X4_closes σ25 59 (fun σ27 => Ret σ27)))) ∧ (¬ x1 = 2 → (((x1 < 5 → (((x1 = 3 → (wp_X4_readsTurn σ7 158 (fun σ21 => wp_X4_closes σ21 59 (fun σ23 => Ret σ23)))) ∧ (¬ x1 = 3 → (wp_X4_readsTurn σ7 159 (fun σ17 => wp_X4_closes σ17 59 (fun σ19 => Ret σ19))))))) ∧ (¬ x1 < 5 → (((x1 = 5 → (wp_X4_readsBox σ7 (fun σ13 => wp_X4_closes σ13 59 (fun σ15 => Ret σ15)))) ∧ (¬ x1 = 5 → (wp_X4_readsRider σ7 (fun σ9 => wp_X4_closes σ9 59 (fun σ11 => Ret σ11))))))))))))))))))))) ∧ (¬ (zI σ 44 5) = 0 → (Ret σ)))
def V_X4_clause_98 (Ret : ZS → Prop) (σ : ZS) (x1 : Int32) : Prop :=
    wp_X4_wrong σ 3 (zI σ 44 4) (fun σ4 => V_X4_clause_107 Ret σ4 x1)
def V_X4_clause_81 (Ret : ZS → Prop) (σ : ZS) (x1 : Int32) : Prop :=
    ((x1 = 6 → ((((zI σ 46 (ix 3)) = 12 → (V_X4_clause_98 Ret σ x1)) ∧ (¬ (zI σ 46 (ix 3)) = 12 → (V_X4_clause_107 Ret σ x1))))) ∧ (¬ x1 = 6 → (V_X4_clause_107 Ret σ x1)))
def V_X4_clause_62 (Ret : ZS → Prop) (σ : ZS) (x1 : Int32) : Prop :=
    ((x1 = 5 → (wp_X4_ones σ (zI σ 46 (ix 2)) (fun r36 σ37 => ((r36 = 10 → (V_X4_clause_98 Ret σ37 x1)) ∧ (¬ r36 = 10 → (V_X4_clause_81 Ret σ37 x1)))))) ∧ (¬ x1 = 5 → (V_X4_clause_81 Ret σ x1)))
def V_X4_clause_46 (Ret : ZS → Prop) (σ : ZS) (x1 : Int32) : Prop :=
    ((x1 = 1 → ((((zI σ 46 (ix 1)) = 24 → (V_X4_clause_98 Ret σ x1)) ∧ (¬ (zI σ 46 (ix 1)) = 24 → (V_X4_clause_62 Ret σ x1))))) ∧ (¬ x1 = 1 → (V_X4_clause_62 Ret σ x1)))
def wp_X4_clause (σ : ZS) (Ret : ZS → Prop) : Prop :=
    wp_X4_kindHere σ (fun r1 σ2 => ((r1 = (-1) → (wp_X4_wrong σ2 1 (zI σ2 44 4) (fun σ39 => V_X4_clause_107 Ret σ39 r1))) ∧ (¬ r1 = (-1) → ((((zI σ2 44 7) = 60 → (V_X4_clause_98 Ret σ2 r1)) ∧ (¬ (zI σ2 44 7) = 60 → (((r1 = 0 → ((((zI σ2 46 (ix 0)) = 16 → (V_X4_clause_98 Ret σ2 r1)) ∧ (¬ (zI σ2 46 (ix 0)) = 16 → (V_X4_clause_46 Ret σ2 r1))))) ∧ (¬ r1 = 0 → (V_X4_clause_46 Ret σ2 r1))))))))))
set_option maxHeartbeats 4000000 in
theorem mz_X4_clause {l : Launch} {E : ZE} (hE : EOK E) {σ : ZS} {Ret : ZS → Prop} (hV : wp_X4_clause σ Ret) : MZ l E NS yX4_clause (ws_ yX4_clause cX4_clause 2 none) 6 σ [.ref (E.1.heap.size + 44)] (rV Ret) := by
  refine MZ.start (L := [some (.ref (E.1.heap.size + 44)), none]) hE (by decide) (Nat.le_of_ble_eq_true rfl) rfl fun C hCl hQo hC => ?_
  replace hC : Cx C E cX4_clause 2 "RightTurnsModel" "clause" none [] 6 := hC
  unfold wp_X4_clause at hV
  have j_107 : ∀ (σ : ZS) (x1 : Int32), V_X4_clause_107 Ret σ x1 → zz C E NS 2 σ 107 [some (.ref (E.1.heap.size + 44)), some (.int x1)] [] := by
    intro σ x1 hV
    unfold V_X4_clause_107 at hV
    refine z_aload_n hC dX4_clause_107 rfl rfl ?_
    refine g_X4_147_44 hC dX4_clause_108 ?_
    refine z_if_eq (tgt := 115) hC dX4_clause_111 (by decide) (fun hc => ?_) (fun hc => ?_)
    · replace hV := hV.1 hc
      refine z_aload_n hC dX4_clause_115 rfl rfl ?_
      refine c_X4_190 hC (by decide) dX4_clause_116 (Nat.le_of_ble_eq_true rfl) hV (fun σ6 hV => ?_)
      refine z_aload_n hC dX4_clause_119 rfl rfl ?_
      refine z_dup hC dX4_clause_120 rfl ?_
      refine g_X4_184_44 hC dX4_clause_121 ?_
      refine z_iconst (v := 1) hC dX4_clause_124 rfl ?_
      refine z_iadd hC dX4_clause_125 ?_
      refine p_X4_184_c3 hC dX4_clause_126 (k_44 _) ?_
      obtain ⟨σ7, e_σ7⟩ : ∃ z : ZS, z = sI σ6 44 7 ((zI σ6 44 7) + 1) := ⟨_, rfl⟩
      replace hV := hV _ e_σ7
      rw [← e_σ7]
      refine z_iload_n hC dX4_clause_129 rfl rfl ?_
      refine z_if_ne (tgt := 140) hC dX4_clause_130 (by decide) (fun hc => ?_) (fun hc => ?_)
      · replace hV := hV.2 hc
        refine z_iload_n hC dX4_clause_140 rfl rfl ?_
        refine z_iconst (v := 1) hC dX4_clause_141 rfl ?_
        refine z_icmp_ne (tgt := 152) hC dX4_clause_142 (by decide) (fun hc => ?_) (fun hc => ?_)
        · replace hV := hV.2 hc
          refine z_iload_n hC dX4_clause_152 rfl rfl ?_
          refine z_iconst (v := 2) hC dX4_clause_153 rfl ?_
          refine z_icmp_ne (tgt := 164) hC dX4_clause_154 (by decide) (fun hc => ?_) (fun hc => ?_)
          · replace hV := hV.2 hc
            refine z_iload_n hC dX4_clause_164 rfl rfl ?_
            refine z_iconst (v := 5) hC dX4_clause_165 rfl ?_
            refine z_icmp_ge (tgt := 192) hC dX4_clause_166 (by decide) (fun hc => ?_) (fun hc => ?_)
            · replace hV := hV.2 hc
              refine z_iload_n hC dX4_clause_192 rfl rfl ?_
              refine z_iconst (v := 5) hC dX4_clause_193 rfl ?_
              refine z_icmp_ne (tgt := 204) hC dX4_clause_194 (by decide) (fun hc => ?_) (fun hc => ?_)
              · replace hV := hV.2 hc
                refine z_aload_n hC dX4_clause_204 rfl rfl ?_
                refine c_X4_209 hC (by decide) dX4_clause_205 (Nat.le_of_ble_eq_true rfl) hV (fun σ9 hV => ?_)
                refine z_aload_n hC dX4_clause_208 rfl rfl ?_
                refine z_bipush (v := 59) hC dX4_clause_209 rfl ?_
                refine c_X4_212 hC (by decide) dX4_clause_211 (Nat.le_of_ble_eq_true rfl) hV (fun σ11 hV => ?_)
                exact z_vret hC dX4_clause_214 (by rw [hQo]; exact ⟨rfl, hV⟩)
              · replace hV := hV.1 hc
                refine z_aload_n hC dX4_clause_197 rfl rfl ?_
                refine c_X4_206 hC (by decide) dX4_clause_198 (Nat.le_of_ble_eq_true rfl) hV (fun σ13 hV => ?_)
                refine z_goto (tgt := 208) hC dX4_clause_201 (by decide) ?_
                refine z_aload_n hC dX4_clause_208 rfl rfl ?_
                refine z_bipush (v := 59) hC dX4_clause_209 rfl ?_
                refine c_X4_212 hC (by decide) dX4_clause_211 (Nat.le_of_ble_eq_true rfl) hV (fun σ15 hV => ?_)
                exact z_vret hC dX4_clause_214 (by rw [hQo]; exact ⟨rfl, hV⟩)
            · replace hV := hV.1 hc
              refine z_aload_n hC dX4_clause_169 rfl rfl ?_
              refine z_iload_n hC dX4_clause_170 rfl rfl ?_
              refine z_iconst (v := 3) hC dX4_clause_171 rfl ?_
              refine z_icmp_ne (tgt := 182) hC dX4_clause_172 (by decide) (fun hc => ?_) (fun hc => ?_)
              · replace hV := hV.2 hc
                refine z_aload_n hC dX4_clause_182 rfl rfl ?_
                refine g_X4_46_44 hC dX4_clause_183 ?_
                refine c_X4_202 hC (by decide) dX4_clause_186 (Nat.le_of_ble_eq_true rfl) hV (fun σ17 hV => ?_)
                refine z_goto (tgt := 208) hC dX4_clause_189 (by decide) ?_
                refine z_aload_n hC dX4_clause_208 rfl rfl ?_
                refine z_bipush (v := 59) hC dX4_clause_209 rfl ?_
                refine c_X4_212 hC (by decide) dX4_clause_211 (Nat.le_of_ble_eq_true rfl) hV (fun σ19 hV => ?_)
                exact z_vret hC dX4_clause_214 (by rw [hQo]; exact ⟨rfl, hV⟩)
              · replace hV := hV.1 hc
                refine z_aload_n hC dX4_clause_175 rfl rfl ?_
                refine g_X4_43_44 hC dX4_clause_176 ?_
                refine z_goto (tgt := 186) hC dX4_clause_179 (by decide) ?_
                refine c_X4_202 hC (by decide) dX4_clause_186 (Nat.le_of_ble_eq_true rfl) hV (fun σ21 hV => ?_)
                refine z_goto (tgt := 208) hC dX4_clause_189 (by decide) ?_
                refine z_aload_n hC dX4_clause_208 rfl rfl ?_
                refine z_bipush (v := 59) hC dX4_clause_209 rfl ?_
                refine c_X4_212 hC (by decide) dX4_clause_211 (Nat.le_of_ble_eq_true rfl) hV (fun σ23 hV => ?_)
                exact z_vret hC dX4_clause_214 (by rw [hQo]; exact ⟨rfl, hV⟩)
          · replace hV := hV.1 hc
            refine z_aload_n hC dX4_clause_157 rfl rfl ?_
            refine c_X4_199 hC (by decide) dX4_clause_158 (Nat.le_of_ble_eq_true rfl) hV (fun σ25 hV => ?_)
            refine z_goto (tgt := 208) hC dX4_clause_161 (by decide) ?_
            refine z_aload_n hC dX4_clause_208 rfl rfl ?_
            refine z_bipush (v := 59) hC dX4_clause_209 rfl ?_
            refine c_X4_212 hC (by decide) dX4_clause_211 (Nat.le_of_ble_eq_true rfl) hV (fun σ27 hV => ?_)
            exact z_vret hC dX4_clause_214 (by rw [hQo]; exact ⟨rfl, hV⟩)
        · replace hV := hV.1 hc
          refine z_aload_n hC dX4_clause_145 rfl rfl ?_
          refine c_X4_196 hC (by decide) dX4_clause_146 (Nat.le_of_ble_eq_true rfl) hV (fun σ29 hV => ?_)
          refine z_goto (tgt := 208) hC dX4_clause_149 (by decide) ?_
          refine z_aload_n hC dX4_clause_208 rfl rfl ?_
          refine z_bipush (v := 59) hC dX4_clause_209 rfl ?_
          refine c_X4_212 hC (by decide) dX4_clause_211 (Nat.le_of_ble_eq_true rfl) hV (fun σ31 hV => ?_)
          exact z_vret hC dX4_clause_214 (by rw [hQo]; exact ⟨rfl, hV⟩)
      · replace hV := hV.1 hc
        refine z_aload_n hC dX4_clause_133 rfl rfl ?_
        refine c_X4_193 hC (by decide) dX4_clause_134 (Nat.le_of_ble_eq_true rfl) hV (fun σ33 hV => ?_)
        refine z_goto (tgt := 208) hC dX4_clause_137 (by decide) ?_
        refine z_aload_n hC dX4_clause_208 rfl rfl ?_
        refine z_bipush (v := 59) hC dX4_clause_209 rfl ?_
        refine c_X4_212 hC (by decide) dX4_clause_211 (Nat.le_of_ble_eq_true rfl) hV (fun σ35 hV => ?_)
        exact z_vret hC dX4_clause_214 (by rw [hQo]; exact ⟨rfl, hV⟩)
    · replace hV := hV.2 hc
      exact z_vret hC dX4_clause_114 (by rw [hQo]; exact ⟨rfl, hV⟩)
  have j_98 : ∀ (σ : ZS) (x1 : Int32), V_X4_clause_98 Ret σ x1 → zz C E NS 2 σ 98 [some (.ref (E.1.heap.size + 44)), some (.int x1)] [] := by
    intro σ x1 hV
    unfold V_X4_clause_98 at hV
    refine z_aload_n hC dX4_clause_98 rfl rfl ?_
    refine z_iconst (v := 3) hC dX4_clause_99 rfl ?_
    refine z_aload_n hC dX4_clause_100 rfl rfl ?_
    refine g_X4_140_44 hC dX4_clause_101 ?_
    refine c_X4_160 hC (by decide) dX4_clause_104 (Nat.le_of_ble_eq_true rfl) hV (fun σ4 hV => ?_)
    refine zz_sub (L' := [some (.ref (E.1.heap.size + 44)), some (.int x1)]) ⟨rfl, rfl, trivial⟩ ?_
    exact j_107 σ4 x1 hV
  have j_81 : ∀ (σ : ZS) (x1 : Int32), V_X4_clause_81 Ret σ x1 → zz C E NS 2 σ 81 [some (.ref (E.1.heap.size + 44)), some (.int x1)] [] := by
    intro σ x1 hV
    unfold V_X4_clause_81 at hV
    refine z_iload_n hC dX4_clause_81 rfl rfl ?_
    refine z_bipush (v := 6) hC dX4_clause_82 rfl ?_
    refine z_icmp_ne (tgt := 107) hC dX4_clause_84 (by decide) (fun hc => ?_) (fun hc => ?_)
    · replace hV := hV.2 hc
      refine zz_sub (L' := [some (.ref (E.1.heap.size + 44)), some (.int x1)]) ⟨rfl, rfl, trivial⟩ ?_
      exact j_107 σ x1 hV
    · replace hV := hV.1 hc
      refine z_aload_n hC dX4_clause_87 rfl rfl ?_
      refine g_X4_17_44 hC dX4_clause_88 ?_
      refine z_iconst (v := 3) hC dX4_clause_91 rfl ?_
      refine z_iald hC dX4_clause_92 (k_46 _) (in_dec rfl) ?_
      refine z_bipush (v := 12) hC dX4_clause_93 rfl ?_
      refine z_icmp_ne (tgt := 107) hC dX4_clause_95 (by decide) (fun hc => ?_) (fun hc => ?_)
      · replace hV := hV.2 hc
        refine zz_sub (L' := [some (.ref (E.1.heap.size + 44)), some (.int x1)]) ⟨rfl, rfl, trivial⟩ ?_
        exact j_107 σ x1 hV
      · replace hV := hV.1 hc
        refine zz_sub (L' := [some (.ref (E.1.heap.size + 44)), some (.int x1)]) ⟨rfl, rfl, trivial⟩ ?_
        exact j_98 σ x1 hV
  have j_62 : ∀ (σ : ZS) (x1 : Int32), V_X4_clause_62 Ret σ x1 → zz C E NS 2 σ 62 [some (.ref (E.1.heap.size + 44)), some (.int x1)] [] := by
    intro σ x1 hV
    unfold V_X4_clause_62 at hV
    refine z_iload_n hC dX4_clause_62 rfl rfl ?_
    refine z_iconst (v := 5) hC dX4_clause_63 rfl ?_
    refine z_icmp_ne (tgt := 81) hC dX4_clause_64 (by decide) (fun hc => ?_) (fun hc => ?_)
    · replace hV := hV.2 hc
      refine zz_sub (L' := [some (.ref (E.1.heap.size + 44)), some (.int x1)]) ⟨rfl, rfl, trivial⟩ ?_
      exact j_81 σ x1 hV
    · replace hV := hV.1 hc
      refine z_aload_n hC dX4_clause_67 rfl rfl ?_
      refine g_X4_17_44 hC dX4_clause_68 ?_
      refine z_iconst (v := 2) hC dX4_clause_71 rfl ?_
      refine z_iald hC dX4_clause_72 (k_46 _) (in_dec rfl) ?_
      refine c_X4_187 hC (by decide) dX4_clause_73 (Nat.le_of_ble_eq_true rfl) hV (fun r36 σ37 hV => ?_)
      refine z_bipush (v := 10) hC dX4_clause_76 rfl ?_
      refine z_icmp_eq (tgt := 98) hC dX4_clause_78 (by decide) (fun hc => ?_) (fun hc => ?_)
      · replace hV := hV.1 hc
        refine zz_sub (L' := [some (.ref (E.1.heap.size + 44)), some (.int x1)]) ⟨rfl, rfl, trivial⟩ ?_
        exact j_98 σ37 x1 hV
      · replace hV := hV.2 hc
        refine zz_sub (L' := [some (.ref (E.1.heap.size + 44)), some (.int x1)]) ⟨rfl, rfl, trivial⟩ ?_
        exact j_81 σ37 x1 hV
  have j_46 : ∀ (σ : ZS) (x1 : Int32), V_X4_clause_46 Ret σ x1 → zz C E NS 2 σ 46 [some (.ref (E.1.heap.size + 44)), some (.int x1)] [] := by
    intro σ x1 hV
    unfold V_X4_clause_46 at hV
    refine z_iload_n hC dX4_clause_46 rfl rfl ?_
    refine z_iconst (v := 1) hC dX4_clause_47 rfl ?_
    refine z_icmp_ne (tgt := 62) hC dX4_clause_48 (by decide) (fun hc => ?_) (fun hc => ?_)
    · replace hV := hV.2 hc
      refine zz_sub (L' := [some (.ref (E.1.heap.size + 44)), some (.int x1)]) ⟨rfl, rfl, trivial⟩ ?_
      exact j_62 σ x1 hV
    · replace hV := hV.1 hc
      refine z_aload_n hC dX4_clause_51 rfl rfl ?_
      refine g_X4_17_44 hC dX4_clause_52 ?_
      refine z_iconst (v := 1) hC dX4_clause_55 rfl ?_
      refine z_iald hC dX4_clause_56 (k_46 _) (in_dec rfl) ?_
      refine z_bipush (v := 24) hC dX4_clause_57 rfl ?_
      refine z_icmp_eq (tgt := 98) hC dX4_clause_59 (by decide) (fun hc => ?_) (fun hc => ?_)
      · replace hV := hV.1 hc
        refine zz_sub (L' := [some (.ref (E.1.heap.size + 44)), some (.int x1)]) ⟨rfl, rfl, trivial⟩ ?_
        exact j_98 σ x1 hV
      · replace hV := hV.2 hc
        refine zz_sub (L' := [some (.ref (E.1.heap.size + 44)), some (.int x1)]) ⟨rfl, rfl, trivial⟩ ?_
        exact j_62 σ x1 hV
  refine z_aload_n hC dX4_clause_0 rfl rfl ?_
  refine c_X4_181 hC (by decide) dX4_clause_1 (Nat.le_of_ble_eq_true rfl) hV (fun r1 σ2 hV => ?_)
  refine z_istore_n hC dX4_clause_4 rfl (Nat.le_of_ble_eq_true rfl) rfl rfl ?_
  refine z_iload_n hC dX4_clause_5 rfl rfl ?_
  refine z_iconst (v := (-1)) hC dX4_clause_6 rfl ?_
  refine z_icmp_ne (tgt := 22) hC dX4_clause_7 (by decide) (fun hc => ?_) (fun hc => ?_)
  · replace hV := hV.2 hc
    refine z_aload_n hC dX4_clause_22 rfl rfl ?_
    refine g_X4_184_44 hC dX4_clause_23 ?_
    refine z_bipush (v := 60) hC dX4_clause_26 rfl ?_
    refine z_icmp_eq (tgt := 98) hC dX4_clause_28 (by decide) (fun hc => ?_) (fun hc => ?_)
    · replace hV := hV.1 hc
      refine zz_sub (L' := [some (.ref (E.1.heap.size + 44)), some (.int r1)]) ⟨rfl, rfl, trivial⟩ ?_
      exact j_98 σ2 r1 hV
    · replace hV := hV.2 hc
      refine z_iload_n hC dX4_clause_31 rfl rfl ?_
      refine z_if_ne (tgt := 46) hC dX4_clause_32 (by decide) (fun hc => ?_) (fun hc => ?_)
      · replace hV := hV.2 hc
        refine zz_sub (L' := [some (.ref (E.1.heap.size + 44)), some (.int r1)]) ⟨rfl, rfl, trivial⟩ ?_
        exact j_46 σ2 r1 hV
      · replace hV := hV.1 hc
        refine z_aload_n hC dX4_clause_35 rfl rfl ?_
        refine g_X4_17_44 hC dX4_clause_36 ?_
        refine z_iconst (v := 0) hC dX4_clause_39 rfl ?_
        refine z_iald hC dX4_clause_40 (k_46 _) (in_dec rfl) ?_
        refine z_bipush (v := 16) hC dX4_clause_41 rfl ?_
        refine z_icmp_eq (tgt := 98) hC dX4_clause_43 (by decide) (fun hc => ?_) (fun hc => ?_)
        · replace hV := hV.1 hc
          refine zz_sub (L' := [some (.ref (E.1.heap.size + 44)), some (.int r1)]) ⟨rfl, rfl, trivial⟩ ?_
          exact j_98 σ2 r1 hV
        · replace hV := hV.2 hc
          refine zz_sub (L' := [some (.ref (E.1.heap.size + 44)), some (.int r1)]) ⟨rfl, rfl, trivial⟩ ?_
          exact j_46 σ2 r1 hV
  · replace hV := hV.1 hc
    refine z_aload_n hC dX4_clause_10 rfl rfl ?_
    refine z_iconst (v := 1) hC dX4_clause_11 rfl ?_
    refine z_aload_n hC dX4_clause_12 rfl rfl ?_
    refine g_X4_140_44 hC dX4_clause_13 ?_
    refine c_X4_160 hC (by decide) dX4_clause_16 (Nat.le_of_ble_eq_true rfl) hV (fun σ39 hV => ?_)
    refine z_goto (tgt := 107) hC dX4_clause_19 (by decide) ?_
    refine zz_sub (L' := [some (.ref (E.1.heap.size + 44)), some (.int r1)]) ⟨rfl, rfl, trivial⟩ ?_
    exact j_107 σ39 r1 hV
