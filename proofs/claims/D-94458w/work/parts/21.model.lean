set_option maxRecDepth 100000
theorem g_X4_13_44 {C : ZC} {E : ZE} {cc : ByteArray} {nL pc d : Nat} {nm : String} {ret : Option FieldType} {hh : List (Nat × Nat × Nat × Nat)} {σ : ZS} {L : List (Option Value)} {st : List Value} (hC : Cx C E cc nL "RightTurnsModel" nm ret hh d) (hd : decode cc pc = .ok (.getfield 13, 3)) (k : zz C E NS nL σ (pc + 3) L (.ref (E.1.heap.size + 45) :: st)) : zz C E NS nL σ pc L (.ref (E.1.heap.size + 44) :: st) :=
  z_get hC cf3 hd (k_44 σ) (k := 8) (by decide) (Or.inl q1593) (Or.inl rfl) rfl k
theorem g_X4_137_44 {C : ZC} {E : ZE} {cc : ByteArray} {nL pc d : Nat} {nm : String} {ret : Option FieldType} {hh : List (Nat × Nat × Nat × Nat)} {σ : ZS} {L : List (Option Value)} {st : List Value} (hC : Cx C E cc nL "RightTurnsModel" nm ret hh d) (hd : decode cc pc = .ok (.getfield 137, 3)) (k : zz C E NS nL σ (pc + 3) L (.int (zI σ 44 2) :: st)) : zz C E NS nL σ pc L (.ref (E.1.heap.size + 44) :: st) :=
  z_get hC cf3 hd (k_44 σ) (k := 2) (by decide) (Or.inl q1587) (Or.inl rfl) rfl k
def wp_X4_byteAt (σ : ZS) (a1 : Int32) (Ret : Int32 → ZS → Prop) : Prop :=
    ((a1 < (zI σ 44 2) → (vp_in a1 500 ∧ (Ret (zI σ 45 (ix a1)) σ))) ∧ (¬ a1 < (zI σ 44 2) → (Ret (-1) σ)))
set_option maxHeartbeats 4000000 in
theorem mz_X4_byteAt {l : Launch} {E : ZE} (hE : EOK E) {σ : ZS} {a1 : Int32} {Ret : Int32 → ZS → Prop} (hV : wp_X4_byteAt σ a1 Ret) : MZ l E NS yX4_byteAt (ws_ yX4_byteAt cX4_byteAt 2 (some .int)) 1 σ [.ref (E.1.heap.size + 44), .int a1] (rI Ret) := by
  refine MZ.start (L := [some (.ref (E.1.heap.size + 44)), some (.int a1)]) hE (by decide) (Nat.le_of_ble_eq_true rfl) rfl fun C hCl hQo hC => ?_
  replace hC : Cx C E cX4_byteAt 2 "RightTurnsModel" "byteAt" (some .int) [] 1 := hC
  unfold wp_X4_byteAt at hV
  refine z_iload_n hC dX4_byteAt_0 rfl rfl ?_
  refine z_aload_n hC dX4_byteAt_1 rfl rfl ?_
  refine g_X4_137_44 hC dX4_byteAt_2 ?_
  refine z_icmp_lt (tgt := 12) hC dX4_byteAt_5 (by decide) (fun hc => ?_) (fun hc => ?_)
  · replace hV := hV.1 hc
    refine z_aload_n hC dX4_byteAt_12 rfl rfl ?_
    refine g_X4_13_44 hC dX4_byteAt_13 ?_
    refine z_iload_n hC dX4_byteAt_16 rfl rfl ?_
    obtain ⟨h1, hV⟩ := hV
    refine z_iald hC dX4_byteAt_17 (k_45 _) (h1) ?_
    exact z_iret hC dX4_byteAt_18 rfl (by rw [hQo]; exact ⟨_, rfl, hV⟩)
  · replace hV := hV.2 hc
    refine z_iconst (v := (-1)) hC dX4_byteAt_8 rfl ?_
    refine z_goto (tgt := 18) hC dX4_byteAt_9 (by decide) ?_
    exact z_iret hC dX4_byteAt_18 rfl (by rw [hQo]; exact ⟨_, rfl, hV⟩)
theorem g_X4_140_44 {C : ZC} {E : ZE} {cc : ByteArray} {nL pc d : Nat} {nm : String} {ret : Option FieldType} {hh : List (Nat × Nat × Nat × Nat)} {σ : ZS} {L : List (Option Value)} {st : List Value} (hC : Cx C E cc nL "RightTurnsModel" nm ret hh d) (hd : decode cc pc = .ok (.getfield 140, 3)) (k : zz C E NS nL σ (pc + 3) L (.int (zI σ 44 4) :: st)) : zz C E NS nL σ pc L (.ref (E.1.heap.size + 44) :: st) :=
  z_get hC cf3 hd (k_44 σ) (k := 4) (by decide) (Or.inl q1589) (Or.inl rfl) rfl k
theorem p_X4_140_c3 {C : ZC} {E : ZE} {cc : ByteArray} {n nL pc d a x : Nat} {nm : String} {ret : Option FieldType} {hh : List (Nat × Nat × Nat × Nat)} {σ : ZS} {L : List (Option Value)} {st : List Value} {v : Int32} (hC : Cx C E cc nL "RightTurnsModel" nm ret hh d) (hd : decode cc pc = .ok (.putfield 140, 3)) (hk : kK n σ a = (3 + 7, x)) (k : zz C E n nL (sI σ a 4 v) (pc + 3) L st) : zz C E n nL σ pc L (.int v :: .ref (E.1.heap.size + a) :: st) :=
  z_putI hC cf3 hd hk (k := 4) (by decide) (Or.inl q1589) (Or.inl rfl) (Or.inl rfl) rfl rfl rfl k
theorem cw_X4_byteAt : CodeW yX4_byteAt (ws_ yX4_byteAt cX4_byteAt 2 (some .int)) 2 := ⟨fun w h => (List.mem_cons.mp h).elim (fun e => e ▸ q1792) id, Or.inl ⟨_, _, q1792⟩, q138, by decide, by decide⟩
theorem c_X4_143 {C : ZC} {E : ZE} {cc : ByteArray} {nL pc d : Nat} {nm : String} {ret : Option FieldType} {hh : List (Nat × Nat × Nat × Nat)} {σ : ZS} {L : List (Option Value)} {st : List Value} {a1 : Int32} {Ret : Int32 → ZS → Prop} (hC : Cx C E cc nL "RightTurnsModel" nm ret hh d) (hdd : 1 + 1 ≤ d) (hd : decode cc pc = .ok (.invokevirtual 143, 3)) (hW : (st.map fun v => v.category).sum ≤ 8) (hV : wp_X4_byteAt σ a1 Ret) (k : ∀ r σ', Ret r σ' → zz C E NS nL σ' (pc + 3) L (.int r :: st)) : zz C E NS nL σ pc L (.int a1 :: .ref (E.1.heap.size + 44) :: st) :=
  z_callVG hC cf3 cw_X4_byteAt hdd (by decide) (mz_X4_byteAt (cxE hC) hV) hd (k_44 σ) q1789 q1791 qs53 (np := 1) rfl rfl hW rfl (kI k)
def VL_X4_blanks_0 (Ret : ZS → Prop) : Nat → ZS → Prop
  | 0 => fun _ => False
  | k + 1 => fun σ =>
    let K0 := VL_X4_blanks_0 Ret k
    wp_X4_byteAt σ (zI σ 44 4) (fun r1 σ2 => ((r1 = 32 → (∀ σ3 : ZS, σ3 = sI σ2 44 4 ((zI σ2 44 4) + 1) → (K0 σ3))) ∧ (¬ r1 = 32 → (Ret σ2))))
def V_X4_blanks_0 (Ret : ZS → Prop) (σ : ZS) : Prop := ∃ k, VL_X4_blanks_0 Ret k σ
def wp_X4_blanks (σ : ZS) (Ret : ZS → Prop) : Prop :=
    V_X4_blanks_0 Ret σ
set_option maxHeartbeats 4000000 in
theorem mz_X4_blanks {l : Launch} {E : ZE} (hE : EOK E) {σ : ZS} {Ret : ZS → Prop} (hV : wp_X4_blanks σ Ret) : MZ l E NS yX4_blanks (ws_ yX4_blanks cX4_blanks 1 none) 2 σ [.ref (E.1.heap.size + 44)] (rV Ret) := by
  refine MZ.start (L := [some (.ref (E.1.heap.size + 44))]) hE (by decide) (Nat.le_of_ble_eq_true rfl) rfl fun C hCl hQo hC => ?_
  replace hC : Cx C E cX4_blanks 1 "RightTurnsModel" "blanks" none [] 2 := hC
  unfold wp_X4_blanks at hV
  have j_0 : ∀ (σ : ZS), V_X4_blanks_0 Ret σ → zz C E NS 1 σ 0 [some (.ref (E.1.heap.size + 44))] [] := by
    intro σ ⟨k, hV⟩
    revert σ
    induction k with
    | zero => exact fun _ hV => hV.elim
    | succ k j_0 =>
      intro σ hV
      simp only [VL_X4_blanks_0] at hV
      generalize hKe0 : VL_X4_blanks_0 Ret k = K0 at hV j_0
      clear hKe0
      refine z_aload_n hC dX4_blanks_0 rfl rfl ?_
      refine z_aload_n hC dX4_blanks_1 rfl rfl ?_
      refine g_X4_140_44 hC dX4_blanks_2 ?_
      refine c_X4_143 hC (by decide) dX4_blanks_5 (Nat.le_of_ble_eq_true rfl) hV (fun r1 σ2 hV => ?_)
      refine z_bipush (v := 32) hC dX4_blanks_8 rfl ?_
      refine z_icmp_ne (tgt := 26) hC dX4_blanks_10 (by decide) (fun hc => ?_) (fun hc => ?_)
      · replace hV := hV.2 hc
        exact z_vret hC dX4_blanks_26 (by rw [hQo]; exact ⟨rfl, hV⟩)
      · replace hV := hV.1 hc
        refine z_aload_n hC dX4_blanks_13 rfl rfl ?_
        refine z_dup hC dX4_blanks_14 rfl ?_
        refine g_X4_140_44 hC dX4_blanks_15 ?_
        refine z_iconst (v := 1) hC dX4_blanks_18 rfl ?_
        refine z_iadd hC dX4_blanks_19 ?_
        refine p_X4_140_c3 hC dX4_blanks_20 (k_44 _) ?_
        obtain ⟨σ3, e_σ3⟩ : ∃ z : ZS, z = sI σ2 44 4 ((zI σ2 44 4) + 1) := ⟨_, rfl⟩
        replace hV := hV _ e_σ3
        rw [← e_σ3]
        refine z_goto (tgt := 0) hC dX4_blanks_23 (by decide) ?_
        refine zz_sub (L' := [some (.ref (E.1.heap.size + 44))]) ⟨rfl, trivial⟩ ?_
        exact j_0 σ3 hV
  refine zz_sub (L' := [some (.ref (E.1.heap.size + 44))]) ⟨rfl, trivial⟩ ?_
  exact j_0 σ hV
def wp_X4_isCorner (σ : ZS) (a1 : Int32) (Ret : Int32 → ZS → Prop) : Prop :=
    wp_X4_in σ a1 0 ((zI σ 47 (ix 0)) - 1) (fun r1 σ2 => isB r1 ∧ (Ret r1 σ2))
set_option maxHeartbeats 4000000 in
theorem mz_X4_isCorner {l : Launch} {E : ZE} (hE : EOK E) {σ : ZS} {a1 : Int32} {Ret : Int32 → ZS → Prop} (hV : wp_X4_isCorner σ a1 Ret) : MZ l E NS yX4_isCorner (ws_ yX4_isCorner cX4_isCorner 2 (some .boolean)) 2 σ [.ref (E.1.heap.size + 44), .int a1] (rI Ret) := by
  refine MZ.start (L := [some (.ref (E.1.heap.size + 44)), some (.int a1)]) hE (by decide) (Nat.le_of_ble_eq_true rfl) rfl fun C hCl hQo hC => ?_
  replace hC : Cx C E cX4_isCorner 2 "RightTurnsModel" "isCorner" (some .boolean) [] 2 := hC
  unfold wp_X4_isCorner at hV
  refine z_iload_n hC dX4_isCorner_0 rfl rfl ?_
  refine z_iconst (v := 0) hC dX4_isCorner_1 rfl ?_
  refine z_aload_n hC dX4_isCorner_2 rfl rfl ?_
  refine g_X4_20_44 hC dX4_isCorner_3 ?_
  refine z_iconst (v := 0) hC dX4_isCorner_6 rfl ?_
  refine z_iald hC dX4_isCorner_7 (k_47 _) (in_dec rfl) ?_
  refine z_iconst (v := 1) hC dX4_isCorner_8 rfl ?_
  refine z_isub hC dX4_isCorner_9 ?_
  refine c_X4_165 hC (by decide) dX4_isCorner_10 (Nat.le_of_ble_eq_true rfl) hV (fun r1 σ2 hV => ?_)
  obtain ⟨h3, hV⟩ := hV
  exact z_iret hC dX4_isCorner_13 h3 (by rw [hQo]; exact ⟨_, rfl, hV⟩)
def VL_X4_ones_4 (Ret : Int32 → ZS → Prop) : Nat → ZS → Int32 → Int32 → Int32 → Prop
  | 0 => fun _ _ _ _ => False
  | k + 1 => fun σ x0 x1 x2 =>
    let K4 := VL_X4_ones_4 Ret k
    ((x2 < 24 → (∀ y1 : Int32, y1 = x1 + ((x0 >>> (x2 &&& 31)) &&& 1) → (∀ y2 : Int32, y2 = x2 + 1 → (K4 σ x0 y1 y2)))) ∧ (¬ x2 < 24 → (Ret x1 σ)))
def V_X4_ones_4 (Ret : Int32 → ZS → Prop) (σ : ZS) (x0 : Int32) (x1 : Int32) (x2 : Int32) : Prop := ∃ k, VL_X4_ones_4 Ret k σ x0 x1 x2
def wp_X4_ones (σ : ZS) (a0 : Int32) (Ret : Int32 → ZS → Prop) : Prop :=
    V_X4_ones_4 Ret σ a0 0 0
set_option maxHeartbeats 4000000 in
theorem mz_X4_ones {l : Launch} {E : ZE} (hE : EOK E) {σ : ZS} {a0 : Int32} {Ret : Int32 → ZS → Prop} (hV : wp_X4_ones σ a0 Ret) : MZ l E NS yX4_ones (ws_ yX4_ones cX4_ones 3 (some .int)) 1 σ [.int a0] (rI Ret) := by
  refine MZ.start (L := [some (.int a0), none, none]) hE (by decide) (Nat.le_of_ble_eq_true rfl) rfl fun C hCl hQo hC => ?_
  replace hC : Cx C E cX4_ones 3 "RightTurnsModel" "ones" (some .int) [] 1 := hC
  unfold wp_X4_ones at hV
  have j_4 : ∀ (σ : ZS) (x0 : Int32) (x1 : Int32) (x2 : Int32), V_X4_ones_4 Ret σ x0 x1 x2 → zz C E NS 3 σ 4 [some (.int x0), some (.int x1), some (.int x2)] [] := by
    intro σ x0 x1 x2 ⟨k, hV⟩
    revert σ x0 x1 x2
    induction k with
    | zero => exact fun _ _ _ _ hV => hV.elim
    | succ k j_4 =>
      intro σ x0 x1 x2 hV
      simp only [VL_X4_ones_4] at hV
      generalize hKe4 : VL_X4_ones_4 Ret k = K4 at hV j_4
      clear hKe4
      refine z_iload_n hC dX4_ones_4 rfl rfl ?_
      refine z_bipush (v := 24) hC dX4_ones_5 rfl ?_
      refine z_icmp_ge (tgt := 24) hC dX4_ones_7 (by decide) (fun hc => ?_) (fun hc => ?_)
      · replace hV := hV.2 hc
        refine z_iload_n hC dX4_ones_24 rfl rfl ?_
        exact z_iret hC dX4_ones_25 rfl (by rw [hQo]; exact ⟨_, rfl, hV⟩)
      · replace hV := hV.1 hc
        refine z_iload_n hC dX4_ones_10 rfl rfl ?_
        refine z_iload_n hC dX4_ones_11 rfl rfl ?_
        refine z_iload_n hC dX4_ones_12 rfl rfl ?_
        refine z_ishr hC dX4_ones_13 ?_
        refine z_iconst (v := 1) hC dX4_ones_14 rfl ?_
        refine z_iand hC dX4_ones_15 ?_
        refine z_iadd hC dX4_ones_16 ?_
        obtain ⟨y1, e_y1⟩ : ∃ z, z = x1 + ((x0 >>> (x2 &&& 31)) &&& 1) := ⟨_, rfl⟩
        rw [← e_y1]
        replace hV := hV _ e_y1
        refine z_istore_n hC dX4_ones_17 rfl (Nat.le_of_ble_eq_true rfl) rfl rfl ?_
        obtain ⟨y2, e_y2⟩ : ∃ z : Int32, z = x2 + 1 := ⟨_, rfl⟩
        replace hV := hV _ e_y2
        refine z_iinc (v := y2) hC dX4_ones_18 rfl (by rw [e_y2]; rfl) (Nat.le_of_ble_eq_true rfl) rfl rfl ?_
        refine z_goto (tgt := 4) hC dX4_ones_21 (by decide) ?_
        refine zz_sub (L' := [some (.int x0), some (.int y1), some (.int y2)]) ⟨rfl, rfl, rfl, trivial⟩ ?_
        exact j_4 σ x0 y1 y2 hV
  refine z_iconst (v := 0) hC dX4_ones_0 rfl ?_
  refine z_istore_n hC dX4_ones_1 rfl (Nat.le_of_ble_eq_true rfl) rfl rfl ?_
  refine z_iconst (v := 0) hC dX4_ones_2 rfl ?_
  refine z_istore_n hC dX4_ones_3 rfl (Nat.le_of_ble_eq_true rfl) rfl rfl ?_
  refine zz_sub (L' := [some (.int a0), some (.int 0), some (.int 0)]) ⟨rfl, rfl, rfl, trivial⟩ ?_
  exact j_4 σ a0 0 0 hV
theorem g_X4_107_44 {C : ZC} {E : ZE} {cc : ByteArray} {nL pc d : Nat} {nm : String} {ret : Option FieldType} {hh : List (Nat × Nat × Nat × Nat)} {σ : ZS} {L : List (Option Value)} {st : List Value} (hC : Cx C E cc nL "RightTurnsModel" nm ret hh d) (hd : decode cc pc = .ok (.getfield 107, 3)) (k : zz C E NS nL σ (pc + 3) L (.ref (E.1.heap.size + 1220) :: st)) : zz C E NS nL σ pc L (.ref (E.1.heap.size + 44) :: st) :=
  z_get hC cf3 hd (k_44 σ) (k := 47) (by decide) (Or.inl q1632) (Or.inl rfl) rfl k
theorem g_X4_110_44 {C : ZC} {E : ZE} {cc : ByteArray} {nL pc d : Nat} {nm : String} {ret : Option FieldType} {hh : List (Nat × Nat × Nat × Nat)} {σ : ZS} {L : List (Option Value)} {st : List Value} (hC : Cx C E cc nL "RightTurnsModel" nm ret hh d) (hd : decode cc pc = .ok (.getfield 110, 3)) (k : zz C E NS nL σ (pc + 3) L (.ref (E.1.heap.size + 1221) :: st)) : zz C E NS nL σ pc L (.ref (E.1.heap.size + 44) :: st) :=
  z_get hC cf3 hd (k_44 σ) (k := 48) (by decide) (Or.inl q1633) (Or.inl rfl) rfl k
theorem g_X4_113_44 {C : ZC} {E : ZE} {cc : ByteArray} {nL pc d : Nat} {nm : String} {ret : Option FieldType} {hh : List (Nat × Nat × Nat × Nat)} {σ : ZS} {L : List (Option Value)} {st : List Value} (hC : Cx C E cc nL "RightTurnsModel" nm ret hh d) (hd : decode cc pc = .ok (.getfield 113, 3)) (k : zz C E NS nL σ (pc + 3) L (.ref (E.1.heap.size + 1233) :: st)) : zz C E NS nL σ pc L (.ref (E.1.heap.size + 44) :: st) :=
  z_get hC cf3 hd (k_44 σ) (k := 49) (by decide) (Or.inl q1634) (Or.inl rfl) rfl k
theorem cw_X4_ones : CodeW yX4_ones (ws_ yX4_ones cX4_ones 3 (some .int)) 3 := ⟨fun w h => (List.mem_cons.mp h).elim (fun e => e ▸ q1818) id, Or.inl ⟨_, _, q1818⟩, q138, by decide, by decide⟩
theorem c_X4_187 {C : ZC} {E : ZE} {cc : ByteArray} {nL pc d : Nat} {nm : String} {ret : Option FieldType} {hh : List (Nat × Nat × Nat × Nat)} {σ : ZS} {L : List (Option Value)} {st : List Value} {a0 : Int32} {Ret : Int32 → ZS → Prop} (hC : Cx C E cc nL "RightTurnsModel" nm ret hh d) (hdd : 1 + 1 ≤ d) (hd : decode cc pc = .ok (.invokestatic 187, 3)) (hW : (st.map fun v => v.category).sum ≤ 8) (hV : wp_X4_ones σ a0 Ret) (k : ∀ r σ', Ret r σ' → zz C E NS nL σ' (pc + 3) L (.int r :: st)) : zz C E NS nL σ pc L (.int a0 :: st) :=
  z_callSG hC cw_X4_ones hdd (by decide) (mz_X4_ones (cxE hC) hV) hd q1816 q1817 (np := 1) rfl rfl hW rfl (kI k)
theorem cw_X4_isCorner : CodeW yX4_isCorner (ws_ yX4_isCorner cX4_isCorner 2 (some .boolean)) 2 := ⟨fun w h => (List.mem_cons.mp h).elim (fun e => e ▸ q1964) id, Or.inl ⟨_, _, q1964⟩, q138, by decide, by decide⟩
theorem c_X4_307 {C : ZC} {E : ZE} {cc : ByteArray} {nL pc d : Nat} {nm : String} {ret : Option FieldType} {hh : List (Nat × Nat × Nat × Nat)} {σ : ZS} {L : List (Option Value)} {st : List Value} {a1 : Int32} {Ret : Int32 → ZS → Prop} (hC : Cx C E cc nL "RightTurnsModel" nm ret hh d) (hdd : 2 + 1 ≤ d) (hd : decode cc pc = .ok (.invokevirtual 307, 3)) (hW : (st.map fun v => v.category).sum ≤ 8) (hV : wp_X4_isCorner σ a1 Ret) (k : ∀ r σ', Ret r σ' → zz C E NS nL σ' (pc + 3) L (.int r :: st)) : zz C E NS nL σ pc L (.int a1 :: .ref (E.1.heap.size + 44) :: st) :=
  z_callVG hC cf3 cw_X4_isCorner hdd (by decide) (mz_X4_isCorner (cxE hC) hV) hd (k_44 σ) q1961 q1963 qs82 (np := 1) rfl rfl hW rfl (kI k)
def VL_X4_bound_270 (K253 : ZS → Int32 → Int32 → Int32 → Prop) (Ret : Int32 → ZS → Prop) : Nat → ZS → Int32 → Int32 → Int32 → Int32 → Int32 → Prop
  | 0 => fun _ _ _ _ _ _ => False
  | k + 1 => fun σ x4 x5 x6 x7 x8 =>
    let K270 := VL_X4_bound_270 K253 Ret k
    ((x8 < x4 → (((((x6 >>> (x8 &&& 31)) &&& 1) = 1 → (∀ y19 : Int32, y19 = x8 + 1 → (K270 σ x4 x5 x6 x7 y19))) ∧ (¬ ((x6 >>> (x8 &&& 31)) &&& 1) = 1 → (vp_in x7 11 ∧ (vp_in x8 11 ∧ ((((zI σ (1221 + 1 + ix x7) (ix x8)) = 1000000000 → (∀ y22 : Int32, y22 = x8 + 1 → (K270 σ x4 x5 x6 x7 y22))) ∧ (¬ (zI σ (1221 + 1 + ix x7) (ix x8)) = 1000000000 → (vp_in x6 2048 ∧ ((((zI σ 1233 (ix x6)) = 1000000000 → (∀ y37 : Int32, y37 = x8 + 1 → (K270 σ x4 x5 x6 x7 y37))) ∧ (¬ (zI σ 1233 (ix x6)) = 1000000000 → (vp_in x6 2048 ∧ (vp_in x7 11 ∧ (vp_in x8 11 ∧ (∀ y27 : Int32, y27 = (zI σ 1233 (ix x6)) + (zI σ (1221 + 1 + ix x7) (ix x8)) → (∀ y28 : Int32, y28 = x6 ||| ((1 : Int32) <<< (x8 &&& 31)) → (vp_in y28 2048 ∧ (((y27 < (zI σ 1233 (ix y28)) → (vp_in y28 2048 ∧ (∀ σ35 : ZS, σ35 = sI σ 1233 (ix y28) y27 → (∀ y36 : Int32, y36 = x8 + 1 → (K270 σ35 x4 x5 x6 x7 y36))))) ∧ (¬ y27 < (zI σ 1233 (ix y28)) → (vp_in y28 2048 ∧ (vp_in y28 2048 ∧ (∀ σ32 : ZS, σ32 = sI σ 1233 (ix y28) (zI σ 1233 (ix y28)) → (∀ y33 : Int32, y33 = x8 + 1 → (K270 σ32 x4 x5 x6 x7 y33))))))))))))))))))))))))))) ∧ (¬ x8 < x4 → (∀ y18 : Int32, y18 = x6 + 1 → (K253 σ x4 x5 y18))))
def V_X4_bound_270 (K253 : ZS → Int32 → Int32 → Int32 → Prop) (Ret : Int32 → ZS → Prop) (σ : ZS) (x4 : Int32) (x5 : Int32) (x6 : Int32) (x7 : Int32) (x8 : Int32) : Prop := ∃ k, VL_X4_bound_270 K253 Ret k σ x4 x5 x6 x7 x8
def VL_X4_bound_253 (Ret : Int32 → ZS → Prop) : Nat → ZS → Int32 → Int32 → Int32 → Prop
  | 0 => fun _ _ _ _ => False
  | k + 1 => fun σ x4 x5 x6 =>
    let K253 := VL_X4_bound_253 Ret k
    ((x6 < x5 → (wp_X4_ones σ x6 (fun r16 σ17 => V_X4_bound_270 K253 Ret σ17 x4 x5 x6 r16 0))) ∧ (¬ x6 < x5 → (vp_in x5 2048 ∧ ((((zI σ 1233 (ix x5)) = 1000000000 → (Ret (-1) σ)) ∧ (¬ (zI σ 1233 (ix x5)) = 1000000000 → (vp_in x5 2048 ∧ (Ret (zI σ 1233 (ix x5)) σ))))))))
def V_X4_bound_253 (Ret : Int32 → ZS → Prop) (σ : ZS) (x4 : Int32) (x5 : Int32) (x6 : Int32) : Prop := ∃ k, VL_X4_bound_253 Ret k σ x4 x5 x6
def VL_X4_bound_218 (Ret : Int32 → ZS → Prop) : Nat → ZS → Int32 → Int32 → Int32 → Prop
  | 0 => fun _ _ _ _ => False
  | k + 1 => fun σ x4 x5 x6 =>
    let K218 := VL_X4_bound_218 Ret k
    ((x5 < x6 → (V_X4_bound_253 Ret σ x4 x5 0)) ∧ (¬ x5 < x6 → (((x6 = 0 → (vp_in x6 2048 ∧ (∀ σ42 : ZS, σ42 = sI σ 1233 (ix x6) 0 → (∀ y43 : Int32, y43 = x6 + 1 → (K218 σ42 x4 x5 y43))))) ∧ (¬ x6 = 0 → (vp_in x6 2048 ∧ (∀ σ39 : ZS, σ39 = sI σ 1233 (ix x6) 1000000000 → (∀ y40 : Int32, y40 = x6 + 1 → (K218 σ39 x4 x5 y40)))))))))
def V_X4_bound_218 (Ret : Int32 → ZS → Prop) (σ : ZS) (x4 : Int32) (x5 : Int32) (x6 : Int32) : Prop := ∃ k, VL_X4_bound_218 Ret k σ x4 x5 x6
def V_X4_bound_169 (K123 : ZS → Int32 → Int32 → Prop) (K133 : ZS → Int32 → Int32 → Int32 → Prop) (Ret : Int32 → ZS → Prop) (σ : ZS) (x4 : Int32) (x5 : Int32) (x6 : Int32) (s0 : Int32) : Prop :=
    vp_in x5 11 ∧ (((s0 = (-1) → (vp_in x6 11 ∧ (∀ σ54 : ZS, σ54 = sI σ (1221 + 1 + ix x5) (ix x6) 1000000000 → (∀ y55 : Int32, y55 = x6 + 1 → (K133 σ54 x4 x5 y55))))) ∧ (¬ s0 = (-1) → (vp_in x6 11 ∧ (∀ σ51 : ZS, σ51 = sI σ (1221 + 1 + ix x5) (ix x6) s0 → (∀ y52 : Int32, y52 = x6 + 1 → (K133 σ51 x4 x5 y52)))))))
def VL_X4_bound_133 (K123 : ZS → Int32 → Int32 → Prop) (Ret : Int32 → ZS → Prop) : Nat → ZS → Int32 → Int32 → Int32 → Prop
  | 0 => fun _ _ _ _ => False
  | k + 1 => fun σ x4 x5 x6 =>
    let K133 := VL_X4_bound_133 K123 Ret k
    ((x6 < x4 → (((x5 = x6 → (V_X4_bound_169 K123 K133 Ret σ x4 x5 x6 (-1))) ∧ (¬ x5 = x6 → (vp_in x5 11 ∧ (vp_in x6 11 ∧ (wp_X4_rideOf σ (zI σ 1220 (ix x5)) (zI σ 1220 (ix x6)) (fun r47 σ48 => V_X4_bound_169 K123 K133 Ret σ48 x4 x5 x6 r47)))))))) ∧ (¬ x6 < x4 → (∀ y44 : Int32, y44 = x5 + 1 → (K123 σ x4 y44))))
def V_X4_bound_133 (K123 : ZS → Int32 → Int32 → Prop) (Ret : Int32 → ZS → Prop) (σ : ZS) (x4 : Int32) (x5 : Int32) (x6 : Int32) : Prop := ∃ k, VL_X4_bound_133 K123 Ret k σ x4 x5 x6
def VL_X4_bound_123 (Ret : Int32 → ZS → Prop) : Nat → ZS → Int32 → Int32 → Prop
  | 0 => fun _ _ _ => False
  | k + 1 => fun σ x4 x5 =>
    let K123 := VL_X4_bound_123 Ret k
    ((x5 < x4 → (V_X4_bound_133 K123 Ret σ x4 x5 0)) ∧ (¬ x5 < x4 → (∀ y13 : Int32, y13 = ((1 : Int32) <<< (x4 &&& 31)) - 1 → (V_X4_bound_218 Ret σ x4 y13 0))))
def V_X4_bound_123 (Ret : Int32 → ZS → Prop) (σ : ZS) (x4 : Int32) (x5 : Int32) : Prop := ∃ k, VL_X4_bound_123 Ret k σ x4 x5
def VL_X4_bound_71 (Ret : Int32 → ZS → Prop) : Nat → ZS → Int32 → Int32 → Int32 → Prop
  | 0 => fun _ _ _ _ => False
  | k + 1 => fun σ x3 x4 x5 =>
    let K71 := VL_X4_bound_71 Ret k
    ((x5 < (zI σ 47 (ix 0)) → (((((x3 >>> (x5 &&& 31)) &&& 1) = 0 → (∀ y60 : Int32, y60 = x5 + 1 → (K71 σ x3 x4 y60))) ∧ (¬ ((x3 >>> (x5 &&& 31)) &&& 1) = 0 → (vp_in x4 11 ∧ (∀ σ57 : ZS, σ57 = sI σ 1220 (ix x4) x5 → (∀ y58 : Int32, y58 = x4 + 1 → (∀ y59 : Int32, y59 = x5 + 1 → (K71 σ57 x3 y58 y59))))))))) ∧ (¬ x5 < (zI σ 47 (ix 0)) → (((x4 = 1 → (Ret 0 σ)) ∧ (¬ x4 = 1 → (V_X4_bound_123 Ret σ x4 0))))))
def V_X4_bound_71 (Ret : Int32 → ZS → Prop) (σ : ZS) (x3 : Int32) (x4 : Int32) (x5 : Int32) : Prop := ∃ k, VL_X4_bound_71 Ret k σ x3 x4 x5
def V_X4_bound_40 (Ret : Int32 → ZS → Prop) (σ : ZS) (x1 : Int32) (x2 : Int32) (s0 : Int32) : Prop :=
    wp_X4_bad σ s0 2 (fun r8 σ9 => ((r8 = 0 → (wp_X4_asks σ9 x2 (fun σ11 => ∀ y12 : Int32, y12 = (zI σ11 47 (ix 2)) ||| ((1 : Int32) <<< (x1 &&& 31)) → (V_X4_bound_71 Ret σ11 y12 0 0)))) ∧ (¬ r8 = 0 → (Ret 0 σ9))))
def V_X4_bound_19 (Ret : Int32 → ZS → Prop) (σ : ZS) (x1 : Int32) (x2 : Int32) (s0 : Int32) : Prop :=
    wp_X4_bad σ s0 1 (fun r4 σ5 => ((r4 = 0 → (wp_X4_isTime σ5 x2 (fun r6 σ7 => ((r6 = 0 → (V_X4_bound_40 Ret σ7 x1 x2 1)) ∧ (¬ r6 = 0 → (V_X4_bound_40 Ret σ7 x1 x2 0)))))) ∧ (¬ r4 = 0 → (Ret 0 σ5))))
def wp_X4_bound (σ : ZS) (a1 : Int32) (a2 : Int32) (Ret : Int32 → ZS → Prop) : Prop :=
    ∀ σ1 : ZS, σ1 = sI σ 44 0 0 → (wp_X4_isCorner σ1 a1 (fun r2 σ3 => ((r2 = 0 → (V_X4_bound_19 Ret σ3 a1 a2 1)) ∧ (¬ r2 = 0 → (V_X4_bound_19 Ret σ3 a1 a2 0)))))
set_option maxHeartbeats 4000000 in
theorem mz_X4_bound {l : Launch} {E : ZE} (hE : EOK E) {σ : ZS} {a1 : Int32} {a2 : Int32} {Ret : Int32 → ZS → Prop} (hV : wp_X4_bound σ a1 a2 Ret) : MZ l E NS yX4_bound (ws_ yX4_bound cX4_bound 11 (some .int)) 7 σ [.ref (E.1.heap.size + 44), .int a1, .int a2] (rI Ret) := by
  refine MZ.start (L := [some (.ref (E.1.heap.size + 44)), some (.int a1), some (.int a2), none, none, none, none, none, none, none, none]) hE (by decide) (Nat.le_of_ble_eq_true rfl) rfl fun C hCl hQo hC => ?_
  replace hC : Cx C E cX4_bound 11 "RightTurnsModel" "bound" (some .int) [] 7 := hC
  unfold wp_X4_bound at hV
  have j_253 : ∀ (σ : ZS) (x4 : Int32) (x5 : Int32) (x6 : Int32), V_X4_bound_253 Ret σ x4 x5 x6 → zz C E NS 11 σ 253 [some (.ref (E.1.heap.size + 44)), none, none, none, some (.int x4), some (.int x5), some (.int x6), none, none, none, none] [] := by
    intro σ x4 x5 x6 ⟨k, hV⟩
    revert σ x4 x5 x6
    induction k with
    | zero => exact fun _ _ _ _ hV => hV.elim
    | succ k j_253 =>
      intro σ x4 x5 x6 hV
      simp only [VL_X4_bound_253] at hV
      generalize hKe253 : VL_X4_bound_253 Ret k = K253 at hV j_253
      clear hKe253
      have j_270 : ∀ (σ : ZS) (x4 : Int32) (x5 : Int32) (x6 : Int32) (x7 : Int32) (x8 : Int32), V_X4_bound_270 K253 Ret σ x4 x5 x6 x7 x8 → zz C E NS 11 σ 270 [some (.ref (E.1.heap.size + 44)), none, none, none, some (.int x4), some (.int x5), some (.int x6), some (.int x7), some (.int x8), none, none] [] := by
        intro σ x4 x5 x6 x7 x8 ⟨k, hV⟩
        revert σ x4 x5 x6 x7 x8
        induction k with
        | zero => exact fun _ _ _ _ _ _ hV => hV.elim
        | succ k j_270 =>
          intro σ x4 x5 x6 x7 x8 hV
          simp only [VL_X4_bound_270] at hV
          generalize hKe270 : VL_X4_bound_270 K253 Ret k = K270 at hV j_270
          clear hKe270
          refine z_iload hC dX4_bound_270 rfl ?_
          refine z_iload hC dX4_bound_272 rfl ?_
          refine z_icmp_ge (tgt := 386) hC dX4_bound_274 (by decide) (fun hc => ?_) (fun hc => ?_)
          · replace hV := hV.2 hc
            obtain ⟨y18, e_y18⟩ : ∃ z : Int32, z = x6 + 1 := ⟨_, rfl⟩
            replace hV := hV _ e_y18
            refine z_iinc (v := y18) hC dX4_bound_386 rfl (by rw [e_y18]; rfl) (Nat.le_of_ble_eq_true rfl) rfl rfl ?_
            refine z_goto (tgt := 253) hC dX4_bound_389 (by decide) ?_
            refine zz_sub (L' := [some (.ref (E.1.heap.size + 44)), none, none, none, some (.int x4), some (.int x5), some (.int y18), none, none, none, none]) ⟨rfl, rfl, rfl, rfl, trivial⟩ ?_
            exact j_253 σ x4 x5 y18 hV
          · replace hV := hV.1 hc
            refine z_iload hC dX4_bound_277 rfl ?_
            refine z_iload hC dX4_bound_279 rfl ?_
            refine z_ishr hC dX4_bound_281 ?_
            refine z_iconst (v := 1) hC dX4_bound_282 rfl ?_
            refine z_iand hC dX4_bound_283 ?_
            refine z_iconst (v := 1) hC dX4_bound_284 rfl ?_
            refine z_icmp_eq (tgt := 380) hC dX4_bound_285 (by decide) (fun hc => ?_) (fun hc => ?_)
            · replace hV := hV.1 hc
              obtain ⟨y19, e_y19⟩ : ∃ z : Int32, z = x8 + 1 := ⟨_, rfl⟩
              replace hV := hV _ e_y19
              refine z_iinc (v := y19) hC dX4_bound_380 rfl (by rw [e_y19]; rfl) (Nat.le_of_ble_eq_true rfl) rfl rfl ?_
              refine z_goto (tgt := 270) hC dX4_bound_383 (by decide) ?_
              refine zz_sub (L' := [some (.ref (E.1.heap.size + 44)), none, none, none, some (.int x4), some (.int x5), some (.int x6), some (.int x7), some (.int y19), none, none]) ⟨rfl, rfl, rfl, rfl, rfl, rfl, trivial⟩ ?_
              exact j_270 σ x4 x5 x6 x7 y19 hV
            · replace hV := hV.2 hc
              refine z_aload_n hC dX4_bound_288 rfl rfl ?_
              refine g_X4_110_44 hC dX4_bound_289 ?_
              refine z_iload hC dX4_bound_292 rfl ?_
              obtain ⟨h20, hV⟩ := hV
              refine z_aalS hC dX4_bound_294 (k_1221 _) (by decide) ps_1221 h20 ?_
              refine z_iload hC dX4_bound_295 rfl ?_
              obtain ⟨h21, hV⟩ := hV
              refine z_iald hC dX4_bound_297 (kr_1221 _ (ix_lt h20)) (h21) ?_
              refine z_ldcw hC dX4_bound_298 q1981 ?_
              refine z_icmp_eq (tgt := 380) hC dX4_bound_301 (by decide) (fun hc => ?_) (fun hc => ?_)
              · replace hV := hV.1 hc
                obtain ⟨y22, e_y22⟩ : ∃ z : Int32, z = x8 + 1 := ⟨_, rfl⟩
                replace hV := hV _ e_y22
                refine z_iinc (v := y22) hC dX4_bound_380 rfl (by rw [e_y22]; rfl) (Nat.le_of_ble_eq_true rfl) rfl rfl ?_
                refine z_goto (tgt := 270) hC dX4_bound_383 (by decide) ?_
                refine zz_sub (L' := [some (.ref (E.1.heap.size + 44)), none, none, none, some (.int x4), some (.int x5), some (.int x6), some (.int x7), some (.int y22), none, none]) ⟨rfl, rfl, rfl, rfl, rfl, rfl, trivial⟩ ?_
                exact j_270 σ x4 x5 x6 x7 y22 hV
              · replace hV := hV.2 hc
                refine z_aload_n hC dX4_bound_304 rfl rfl ?_
                refine g_X4_113_44 hC dX4_bound_305 ?_
                refine z_iload hC dX4_bound_308 rfl ?_
                obtain ⟨h23, hV⟩ := hV
                refine z_iald hC dX4_bound_310 (k_1233 _) (h23) ?_
                refine z_ldcw hC dX4_bound_311 q1981 ?_
                refine z_icmp_ne (tgt := 320) hC dX4_bound_314 (by decide) (fun hc => ?_) (fun hc => ?_)
                · replace hV := hV.2 hc
                  refine z_aload_n hC dX4_bound_320 rfl rfl ?_
                  refine g_X4_113_44 hC dX4_bound_321 ?_
                  refine z_iload hC dX4_bound_324 rfl ?_
                  obtain ⟨h24, hV⟩ := hV
                  refine z_iald hC dX4_bound_326 (k_1233 _) (h24) ?_
                  refine z_aload_n hC dX4_bound_327 rfl rfl ?_
                  refine g_X4_110_44 hC dX4_bound_328 ?_
                  refine z_iload hC dX4_bound_331 rfl ?_
                  obtain ⟨h25, hV⟩ := hV
                  refine z_aalS hC dX4_bound_333 (k_1221 _) (by decide) ps_1221 h25 ?_
                  refine z_iload hC dX4_bound_334 rfl ?_
                  obtain ⟨h26, hV⟩ := hV
                  refine z_iald hC dX4_bound_336 (kr_1221 _ (ix_lt h25)) (h26) ?_
                  refine z_iadd hC dX4_bound_337 ?_
                  obtain ⟨y27, e_y27⟩ : ∃ z, z = (zI σ 1233 (ix x6)) + (zI σ (1221 + 1 + ix x7) (ix x8)) := ⟨_, rfl⟩
                  rw [← e_y27]
                  replace hV := hV _ e_y27
                  refine z_istore hC dX4_bound_338 (Nat.le_of_ble_eq_true rfl) rfl rfl ?_
                  refine z_iload hC dX4_bound_340 rfl ?_
                  refine z_iconst (v := 1) hC dX4_bound_342 rfl ?_
                  refine z_iload hC dX4_bound_343 rfl ?_
                  refine z_ishl hC dX4_bound_345 ?_
                  refine z_ior hC dX4_bound_346 ?_
                  obtain ⟨y28, e_y28⟩ : ∃ z, z = x6 ||| ((1 : Int32) <<< (x8 &&& 31)) := ⟨_, rfl⟩
                  rw [← e_y28]
                  replace hV := hV _ e_y28
                  refine z_istore hC dX4_bound_347 (Nat.le_of_ble_eq_true rfl) rfl rfl ?_
                  refine z_aload_n hC dX4_bound_349 rfl rfl ?_
                  refine g_X4_113_44 hC dX4_bound_350 ?_
                  refine z_iload hC dX4_bound_353 rfl ?_
                  refine z_iload hC dX4_bound_355 rfl ?_
                  refine z_aload_n hC dX4_bound_357 rfl rfl ?_
                  refine g_X4_113_44 hC dX4_bound_358 ?_
                  refine z_iload hC dX4_bound_361 rfl ?_
                  obtain ⟨h29, hV⟩ := hV
                  refine z_iald hC dX4_bound_363 (k_1233 _) (h29) ?_
                  refine z_icmp_ge (tgt := 372) hC dX4_bound_364 (by decide) (fun hc => ?_) (fun hc => ?_)
                  · replace hV := hV.2 hc
                    refine z_aload_n hC dX4_bound_372 rfl rfl ?_
                    refine g_X4_113_44 hC dX4_bound_373 ?_
                    refine z_iload hC dX4_bound_376 rfl ?_
                    obtain ⟨h30, hV⟩ := hV
                    refine z_iald hC dX4_bound_378 (k_1233 _) (h30) ?_
                    obtain ⟨h31, hV⟩ := hV
                    refine z_iast hC dX4_bound_379 (k_1233 _) (h31) ?_
                    obtain ⟨σ32, e_σ32⟩ : ∃ z : ZS, z = sI σ 1233 (ix y28) (zI σ 1233 (ix y28)) := ⟨_, rfl⟩
                    replace hV := hV _ e_σ32
                    rw [← e_σ32]
                    obtain ⟨y33, e_y33⟩ : ∃ z : Int32, z = x8 + 1 := ⟨_, rfl⟩
                    replace hV := hV _ e_y33
                    refine z_iinc (v := y33) hC dX4_bound_380 rfl (by rw [e_y33]; rfl) (Nat.le_of_ble_eq_true rfl) rfl rfl ?_
                    refine z_goto (tgt := 270) hC dX4_bound_383 (by decide) ?_
                    refine zz_sub (L' := [some (.ref (E.1.heap.size + 44)), none, none, none, some (.int x4), some (.int x5), some (.int x6), some (.int x7), some (.int y33), none, none]) ⟨rfl, rfl, rfl, rfl, rfl, rfl, trivial⟩ ?_
                    exact j_270 σ32 x4 x5 x6 x7 y33 hV
                  · replace hV := hV.1 hc
                    refine z_iload hC dX4_bound_367 rfl ?_
                    refine z_goto (tgt := 379) hC dX4_bound_369 (by decide) ?_
                    obtain ⟨h34, hV⟩ := hV
                    refine z_iast hC dX4_bound_379 (k_1233 _) (h34) ?_
                    obtain ⟨σ35, e_σ35⟩ : ∃ z : ZS, z = sI σ 1233 (ix y28) y27 := ⟨_, rfl⟩
                    replace hV := hV _ e_σ35
                    rw [← e_σ35]
                    obtain ⟨y36, e_y36⟩ : ∃ z : Int32, z = x8 + 1 := ⟨_, rfl⟩
                    replace hV := hV _ e_y36
                    refine z_iinc (v := y36) hC dX4_bound_380 rfl (by rw [e_y36]; rfl) (Nat.le_of_ble_eq_true rfl) rfl rfl ?_
                    refine z_goto (tgt := 270) hC dX4_bound_383 (by decide) ?_
                    refine zz_sub (L' := [some (.ref (E.1.heap.size + 44)), none, none, none, some (.int x4), some (.int x5), some (.int x6), some (.int x7), some (.int y36), none, none]) ⟨rfl, rfl, rfl, rfl, rfl, rfl, trivial⟩ ?_
                    exact j_270 σ35 x4 x5 x6 x7 y36 hV
                · replace hV := hV.1 hc
                  refine z_goto (tgt := 380) hC dX4_bound_317 (by decide) ?_
                  obtain ⟨y37, e_y37⟩ : ∃ z : Int32, z = x8 + 1 := ⟨_, rfl⟩
                  replace hV := hV _ e_y37
                  refine z_iinc (v := y37) hC dX4_bound_380 rfl (by rw [e_y37]; rfl) (Nat.le_of_ble_eq_true rfl) rfl rfl ?_
                  refine z_goto (tgt := 270) hC dX4_bound_383 (by decide) ?_
                  refine zz_sub (L' := [some (.ref (E.1.heap.size + 44)), none, none, none, some (.int x4), some (.int x5), some (.int x6), some (.int x7), some (.int y37), none, none]) ⟨rfl, rfl, rfl, rfl, rfl, rfl, trivial⟩ ?_
                  exact j_270 σ x4 x5 x6 x7 y37 hV
      refine z_iload hC dX4_bound_253 rfl ?_
      refine z_iload hC dX4_bound_255 rfl ?_
      refine z_icmp_ge (tgt := 392) hC dX4_bound_257 (by decide) (fun hc => ?_) (fun hc => ?_)
      · replace hV := hV.2 hc
        refine z_aload_n hC dX4_bound_392 rfl rfl ?_
        refine g_X4_113_44 hC dX4_bound_393 ?_
        refine z_iload hC dX4_bound_396 rfl ?_
        obtain ⟨h14, hV⟩ := hV
        refine z_iald hC dX4_bound_398 (k_1233 _) (h14) ?_
        refine z_ldcw hC dX4_bound_399 q1981 ?_
        refine z_icmp_ne (tgt := 409) hC dX4_bound_402 (by decide) (fun hc => ?_) (fun hc => ?_)
        · replace hV := hV.2 hc
          refine z_aload_n hC dX4_bound_409 rfl rfl ?_
          refine g_X4_113_44 hC dX4_bound_410 ?_
          refine z_iload hC dX4_bound_413 rfl ?_
          obtain ⟨h15, hV⟩ := hV
          refine z_iald hC dX4_bound_415 (k_1233 _) (h15) ?_
          exact z_iret hC dX4_bound_416 rfl (by rw [hQo]; exact ⟨_, rfl, hV⟩)
        · replace hV := hV.1 hc
          refine z_iconst (v := (-1)) hC dX4_bound_405 rfl ?_
          refine z_goto (tgt := 416) hC dX4_bound_406 (by decide) ?_
          exact z_iret hC dX4_bound_416 rfl (by rw [hQo]; exact ⟨_, rfl, hV⟩)
      · replace hV := hV.1 hc
        refine z_iload hC dX4_bound_260 rfl ?_
        refine c_X4_187 hC (by decide) dX4_bound_262 (Nat.le_of_ble_eq_true rfl) hV (fun r16 σ17 hV => ?_)
        refine z_istore hC dX4_bound_265 (Nat.le_of_ble_eq_true rfl) rfl rfl ?_
        refine z_iconst (v := 0) hC dX4_bound_267 rfl ?_
        refine z_istore hC dX4_bound_268 (Nat.le_of_ble_eq_true rfl) rfl rfl ?_
        refine zz_sub (L' := [some (.ref (E.1.heap.size + 44)), none, none, none, some (.int x4), some (.int x5), some (.int x6), some (.int r16), some (.int 0), none, none]) ⟨rfl, rfl, rfl, rfl, rfl, rfl, trivial⟩ ?_
        exact j_270 σ17 x4 x5 x6 r16 0 hV
  have j_218 : ∀ (σ : ZS) (x4 : Int32) (x5 : Int32) (x6 : Int32), V_X4_bound_218 Ret σ x4 x5 x6 → zz C E NS 11 σ 218 [some (.ref (E.1.heap.size + 44)), none, none, none, some (.int x4), some (.int x5), some (.int x6), none, none, none, none] [] := by
    intro σ x4 x5 x6 ⟨k, hV⟩
    revert σ x4 x5 x6
    induction k with
    | zero => exact fun _ _ _ _ hV => hV.elim
    | succ k j_218 =>
      intro σ x4 x5 x6 hV
      simp only [VL_X4_bound_218] at hV
      generalize hKe218 : VL_X4_bound_218 Ret k = K218 at hV j_218
      clear hKe218
      refine z_iload hC dX4_bound_218 rfl ?_
      refine z_iload hC dX4_bound_220 rfl ?_
      refine z_icmp_gt (tgt := 250) hC dX4_bound_222 (by decide) (fun hc => ?_) (fun hc => ?_)
      · replace hV := hV.1 hc
        refine z_iconst (v := 0) hC dX4_bound_250 rfl ?_
        refine z_istore hC dX4_bound_251 (Nat.le_of_ble_eq_true rfl) rfl rfl ?_
        refine zz_sub (L' := [some (.ref (E.1.heap.size + 44)), none, none, none, some (.int x4), some (.int x5), some (.int 0), none, none, none, none]) ⟨rfl, rfl, rfl, rfl, trivial⟩ ?_
        exact j_253 σ x4 x5 0 hV
      · replace hV := hV.2 hc
        refine z_aload_n hC dX4_bound_225 rfl rfl ?_
        refine g_X4_113_44 hC dX4_bound_226 ?_
        refine z_iload hC dX4_bound_229 rfl ?_
        refine z_iload hC dX4_bound_231 rfl ?_
        refine z_if_ne (tgt := 240) hC dX4_bound_233 (by decide) (fun hc => ?_) (fun hc => ?_)
        · replace hV := hV.2 hc
          refine z_ldcw hC dX4_bound_240 q1981 ?_
          obtain ⟨h38, hV⟩ := hV
          refine z_iast hC dX4_bound_243 (k_1233 _) (h38) ?_
          obtain ⟨σ39, e_σ39⟩ : ∃ z : ZS, z = sI σ 1233 (ix x6) 1000000000 := ⟨_, rfl⟩
          replace hV := hV _ e_σ39
          rw [← e_σ39]
          obtain ⟨y40, e_y40⟩ : ∃ z : Int32, z = x6 + 1 := ⟨_, rfl⟩
          replace hV := hV _ e_y40
          refine z_iinc (v := y40) hC dX4_bound_244 rfl (by rw [e_y40]; rfl) (Nat.le_of_ble_eq_true rfl) rfl rfl ?_
          refine z_goto (tgt := 218) hC dX4_bound_247 (by decide) ?_
          refine zz_sub (L' := [some (.ref (E.1.heap.size + 44)), none, none, none, some (.int x4), some (.int x5), some (.int y40), none, none, none, none]) ⟨rfl, rfl, rfl, rfl, trivial⟩ ?_
          exact j_218 σ39 x4 x5 y40 hV
        · replace hV := hV.1 hc
          refine z_iconst (v := 0) hC dX4_bound_236 rfl ?_
          refine z_goto (tgt := 243) hC dX4_bound_237 (by decide) ?_
          obtain ⟨h41, hV⟩ := hV
          refine z_iast hC dX4_bound_243 (k_1233 _) (h41) ?_
          obtain ⟨σ42, e_σ42⟩ : ∃ z : ZS, z = sI σ 1233 (ix x6) 0 := ⟨_, rfl⟩
          replace hV := hV _ e_σ42
          rw [← e_σ42]
          obtain ⟨y43, e_y43⟩ : ∃ z : Int32, z = x6 + 1 := ⟨_, rfl⟩
          replace hV := hV _ e_y43
          refine z_iinc (v := y43) hC dX4_bound_244 rfl (by rw [e_y43]; rfl) (Nat.le_of_ble_eq_true rfl) rfl rfl ?_
          refine z_goto (tgt := 218) hC dX4_bound_247 (by decide) ?_
          refine zz_sub (L' := [some (.ref (E.1.heap.size + 44)), none, none, none, some (.int x4), some (.int x5), some (.int y43), none, none, none, none]) ⟨rfl, rfl, rfl, rfl, trivial⟩ ?_
          exact j_218 σ42 x4 x5 y43 hV
  have j_123 : ∀ (σ : ZS) (x4 : Int32) (x5 : Int32), V_X4_bound_123 Ret σ x4 x5 → zz C E NS 11 σ 123 [some (.ref (E.1.heap.size + 44)), none, none, none, some (.int x4), some (.int x5), none, none, none, none, none] [] := by
    intro σ x4 x5 ⟨k, hV⟩
    revert σ x4 x5
    induction k with
    | zero => exact fun _ _ _ hV => hV.elim
    | succ k j_123 =>
      intro σ x4 x5 hV
      simp only [VL_X4_bound_123] at hV
      generalize hKe123 : VL_X4_bound_123 Ret k = K123 at hV j_123
      clear hKe123
      have j_133 : ∀ (σ : ZS) (x4 : Int32) (x5 : Int32) (x6 : Int32), V_X4_bound_133 K123 Ret σ x4 x5 x6 → zz C E NS 11 σ 133 [some (.ref (E.1.heap.size + 44)), none, none, none, some (.int x4), some (.int x5), some (.int x6), none, none, none, none] [] := by
        intro σ x4 x5 x6 ⟨k, hV⟩
        revert σ x4 x5 x6
        induction k with
        | zero => exact fun _ _ _ _ hV => hV.elim
        | succ k j_133 =>
          intro σ x4 x5 x6 hV
          simp only [VL_X4_bound_133] at hV
          generalize hKe133 : VL_X4_bound_133 K123 Ret k = K133 at hV j_133
          clear hKe133
          have j_169 : ∀ (σ : ZS) (x4 : Int32) (x5 : Int32) (x6 : Int32) (s0 : Int32), V_X4_bound_169 K123 K133 Ret σ x4 x5 x6 s0 → zz C E NS 11 σ 169 [some (.ref (E.1.heap.size + 44)), none, none, none, some (.int x4), some (.int x5), some (.int x6), none, none, none, none] [.int s0] := by
            intro σ x4 x5 x6 s0 hV
            unfold V_X4_bound_169 at hV
            refine z_istore hC dX4_bound_169 (Nat.le_of_ble_eq_true rfl) rfl rfl ?_
            refine z_aload_n hC dX4_bound_171 rfl rfl ?_
            refine g_X4_110_44 hC dX4_bound_172 ?_
            refine z_iload hC dX4_bound_175 rfl ?_
            obtain ⟨h49, hV⟩ := hV
            refine z_aalS hC dX4_bound_177 (k_1221 _) (by decide) ps_1221 h49 ?_
            refine z_iload hC dX4_bound_178 rfl ?_
            refine z_iload hC dX4_bound_180 rfl ?_
            refine z_iconst (v := (-1)) hC dX4_bound_182 rfl ?_
            refine z_icmp_ne (tgt := 192) hC dX4_bound_183 (by decide) (fun hc => ?_) (fun hc => ?_)
            · replace hV := hV.2 hc
              refine z_iload hC dX4_bound_192 rfl ?_
              obtain ⟨h50, hV⟩ := hV
              refine z_iast hC dX4_bound_194 (kr_1221 _ (ix_lt h49)) (h50) ?_
              obtain ⟨σ51, e_σ51⟩ : ∃ z : ZS, z = sI σ (1221 + 1 + ix x5) (ix x6) s0 := ⟨_, rfl⟩
              replace hV := hV _ e_σ51
              rw [← e_σ51]
              obtain ⟨y52, e_y52⟩ : ∃ z : Int32, z = x6 + 1 := ⟨_, rfl⟩
              replace hV := hV _ e_y52
              refine z_iinc (v := y52) hC dX4_bound_195 rfl (by rw [e_y52]; rfl) (Nat.le_of_ble_eq_true rfl) rfl rfl ?_
              refine z_goto (tgt := 133) hC dX4_bound_198 (by decide) ?_
              refine zz_sub (L' := [some (.ref (E.1.heap.size + 44)), none, none, none, some (.int x4), some (.int x5), some (.int y52), none, none, none, none]) ⟨rfl, rfl, rfl, rfl, trivial⟩ ?_
              exact j_133 σ51 x4 x5 y52 hV
            · replace hV := hV.1 hc
              refine z_ldcw hC dX4_bound_186 q1981 ?_
              refine z_goto (tgt := 194) hC dX4_bound_189 (by decide) ?_
              obtain ⟨h53, hV⟩ := hV
              refine z_iast hC dX4_bound_194 (kr_1221 _ (ix_lt h49)) (h53) ?_
              obtain ⟨σ54, e_σ54⟩ : ∃ z : ZS, z = sI σ (1221 + 1 + ix x5) (ix x6) 1000000000 := ⟨_, rfl⟩
              replace hV := hV _ e_σ54
              rw [← e_σ54]
              obtain ⟨y55, e_y55⟩ : ∃ z : Int32, z = x6 + 1 := ⟨_, rfl⟩
              replace hV := hV _ e_y55
              refine z_iinc (v := y55) hC dX4_bound_195 rfl (by rw [e_y55]; rfl) (Nat.le_of_ble_eq_true rfl) rfl rfl ?_
              refine z_goto (tgt := 133) hC dX4_bound_198 (by decide) ?_
              refine zz_sub (L' := [some (.ref (E.1.heap.size + 44)), none, none, none, some (.int x4), some (.int x5), some (.int y55), none, none, none, none]) ⟨rfl, rfl, rfl, rfl, trivial⟩ ?_
              exact j_133 σ54 x4 x5 y55 hV
          refine z_iload hC dX4_bound_133 rfl ?_
          refine z_iload hC dX4_bound_135 rfl ?_
          refine z_icmp_ge (tgt := 201) hC dX4_bound_137 (by decide) (fun hc => ?_) (fun hc => ?_)
          · replace hV := hV.2 hc
            obtain ⟨y44, e_y44⟩ : ∃ z : Int32, z = x5 + 1 := ⟨_, rfl⟩
            replace hV := hV _ e_y44
            refine z_iinc (v := y44) hC dX4_bound_201 rfl (by rw [e_y44]; rfl) (Nat.le_of_ble_eq_true rfl) rfl rfl ?_
            refine z_goto (tgt := 123) hC dX4_bound_204 (by decide) ?_
            refine zz_sub (L' := [some (.ref (E.1.heap.size + 44)), none, none, none, some (.int x4), some (.int y44), none, none, none, none, none]) ⟨rfl, rfl, rfl, trivial⟩ ?_
            exact j_123 σ x4 y44 hV
          · replace hV := hV.1 hc
            refine z_iload hC dX4_bound_140 rfl ?_
            refine z_iload hC dX4_bound_142 rfl ?_
            refine z_icmp_ne (tgt := 151) hC dX4_bound_144 (by decide) (fun hc => ?_) (fun hc => ?_)
            · replace hV := hV.2 hc
              refine z_aload_n hC dX4_bound_151 rfl rfl ?_
              refine z_aload_n hC dX4_bound_152 rfl rfl ?_
              refine g_X4_107_44 hC dX4_bound_153 ?_
              refine z_iload hC dX4_bound_156 rfl ?_
              obtain ⟨h45, hV⟩ := hV
              refine z_iald hC dX4_bound_158 (k_1220 _) (h45) ?_
              refine z_aload_n hC dX4_bound_159 rfl rfl ?_
              refine g_X4_107_44 hC dX4_bound_160 ?_
              refine z_iload hC dX4_bound_163 rfl ?_
              obtain ⟨h46, hV⟩ := hV
              refine z_iald hC dX4_bound_165 (k_1220 _) (h46) ?_
              refine c_X4_313 hC (by decide) dX4_bound_166 (Nat.le_of_ble_eq_true rfl) hV (fun r47 σ48 hV => ?_)
              refine zz_sub (L' := [some (.ref (E.1.heap.size + 44)), none, none, none, some (.int x4), some (.int x5), some (.int x6), none, none, none, none]) ⟨rfl, rfl, rfl, rfl, trivial⟩ ?_
              exact j_169 σ48 x4 x5 x6 r47 hV
            · replace hV := hV.1 hc
              refine z_iconst (v := (-1)) hC dX4_bound_147 rfl ?_
              refine z_goto (tgt := 169) hC dX4_bound_148 (by decide) ?_
              refine zz_sub (L' := [some (.ref (E.1.heap.size + 44)), none, none, none, some (.int x4), some (.int x5), some (.int x6), none, none, none, none]) ⟨rfl, rfl, rfl, rfl, trivial⟩ ?_
              exact j_169 σ x4 x5 x6 (-1) hV
      refine z_iload hC dX4_bound_123 rfl ?_
      refine z_iload hC dX4_bound_125 rfl ?_
      refine z_icmp_ge (tgt := 207) hC dX4_bound_127 (by decide) (fun hc => ?_) (fun hc => ?_)
      · replace hV := hV.2 hc
        refine z_iconst (v := 1) hC dX4_bound_207 rfl ?_
        refine z_iload hC dX4_bound_208 rfl ?_
        refine z_ishl hC dX4_bound_210 ?_
        refine z_iconst (v := 1) hC dX4_bound_211 rfl ?_
        refine z_isub hC dX4_bound_212 ?_
        obtain ⟨y13, e_y13⟩ : ∃ z, z = ((1 : Int32) <<< (x4 &&& 31)) - 1 := ⟨_, rfl⟩
        rw [← e_y13]
        replace hV := hV _ e_y13
        refine z_istore hC dX4_bound_213 (Nat.le_of_ble_eq_true rfl) rfl rfl ?_
        refine z_iconst (v := 0) hC dX4_bound_215 rfl ?_
        refine z_istore hC dX4_bound_216 (Nat.le_of_ble_eq_true rfl) rfl rfl ?_
        refine zz_sub (L' := [some (.ref (E.1.heap.size + 44)), none, none, none, some (.int x4), some (.int y13), some (.int 0), none, none, none, none]) ⟨rfl, rfl, rfl, rfl, trivial⟩ ?_
        exact j_218 σ x4 y13 0 hV
      · replace hV := hV.1 hc
        refine z_iconst (v := 0) hC dX4_bound_130 rfl ?_
        refine z_istore hC dX4_bound_131 (Nat.le_of_ble_eq_true rfl) rfl rfl ?_
        refine zz_sub (L' := [some (.ref (E.1.heap.size + 44)), none, none, none, some (.int x4), some (.int x5), some (.int 0), none, none, none, none]) ⟨rfl, rfl, rfl, rfl, trivial⟩ ?_
        exact j_133 σ x4 x5 0 hV
  have j_71 : ∀ (σ : ZS) (x3 : Int32) (x4 : Int32) (x5 : Int32), V_X4_bound_71 Ret σ x3 x4 x5 → zz C E NS 11 σ 71 [some (.ref (E.1.heap.size + 44)), none, none, some (.int x3), some (.int x4), some (.int x5), none, none, none, none, none] [] := by
    intro σ x3 x4 x5 ⟨k, hV⟩
    revert σ x3 x4 x5
    induction k with
    | zero => exact fun _ _ _ _ hV => hV.elim
    | succ k j_71 =>
      intro σ x3 x4 x5 hV
      simp only [VL_X4_bound_71] at hV
      generalize hKe71 : VL_X4_bound_71 Ret k = K71 at hV j_71
      clear hKe71
      refine z_iload hC dX4_bound_71 rfl ?_
      refine z_aload_n hC dX4_bound_73 rfl rfl ?_
      refine g_X4_20_44 hC dX4_bound_74 ?_
      refine z_iconst (v := 0) hC dX4_bound_77 rfl ?_
      refine z_iald hC dX4_bound_78 (k_47 _) (in_dec rfl) ?_
      refine z_icmp_ge (tgt := 112) hC dX4_bound_79 (by decide) (fun hc => ?_) (fun hc => ?_)
      · replace hV := hV.2 hc
        refine z_iload hC dX4_bound_112 rfl ?_
        refine z_iconst (v := 1) hC dX4_bound_114 rfl ?_
        refine z_icmp_ne (tgt := 120) hC dX4_bound_115 (by decide) (fun hc => ?_) (fun hc => ?_)
        · replace hV := hV.2 hc
          refine z_iconst (v := 0) hC dX4_bound_120 rfl ?_
          refine z_istore hC dX4_bound_121 (Nat.le_of_ble_eq_true rfl) rfl rfl ?_
          refine zz_sub (L' := [some (.ref (E.1.heap.size + 44)), none, none, none, some (.int x4), some (.int 0), none, none, none, none, none]) ⟨rfl, rfl, rfl, trivial⟩ ?_
          exact j_123 σ x4 0 hV
        · replace hV := hV.1 hc
          refine z_iconst (v := 0) hC dX4_bound_118 rfl ?_
          exact z_iret hC dX4_bound_119 rfl (by rw [hQo]; exact ⟨_, rfl, hV⟩)
      · replace hV := hV.1 hc
        refine z_iload_n hC dX4_bound_82 rfl rfl ?_
        refine z_iload hC dX4_bound_83 rfl ?_
        refine z_ishr hC dX4_bound_85 ?_
        refine z_iconst (v := 1) hC dX4_bound_86 rfl ?_
        refine z_iand hC dX4_bound_87 ?_
        refine z_if_ne (tgt := 94) hC dX4_bound_88 (by decide) (fun hc => ?_) (fun hc => ?_)
        · replace hV := hV.2 hc
          refine z_aload_n hC dX4_bound_94 rfl rfl ?_
          refine g_X4_107_44 hC dX4_bound_95 ?_
          refine z_iload hC dX4_bound_98 rfl ?_
          refine z_iload hC dX4_bound_100 rfl ?_
          obtain ⟨h56, hV⟩ := hV
          refine z_iast hC dX4_bound_102 (k_1220 _) (h56) ?_
          obtain ⟨σ57, e_σ57⟩ : ∃ z : ZS, z = sI σ 1220 (ix x4) x5 := ⟨_, rfl⟩
          replace hV := hV _ e_σ57
          rw [← e_σ57]
          obtain ⟨y58, e_y58⟩ : ∃ z : Int32, z = x4 + 1 := ⟨_, rfl⟩
          replace hV := hV _ e_y58
          refine z_iinc (v := y58) hC dX4_bound_103 rfl (by rw [e_y58]; rfl) (Nat.le_of_ble_eq_true rfl) rfl rfl ?_
          obtain ⟨y59, e_y59⟩ : ∃ z : Int32, z = x5 + 1 := ⟨_, rfl⟩
          replace hV := hV _ e_y59
          refine z_iinc (v := y59) hC dX4_bound_106 rfl (by rw [e_y59]; rfl) (Nat.le_of_ble_eq_true rfl) rfl rfl ?_
          refine z_goto (tgt := 71) hC dX4_bound_109 (by decide) ?_
          refine zz_sub (L' := [some (.ref (E.1.heap.size + 44)), none, none, some (.int x3), some (.int y58), some (.int y59), none, none, none, none, none]) ⟨rfl, rfl, rfl, rfl, trivial⟩ ?_
          exact j_71 σ57 x3 y58 y59 hV
        · replace hV := hV.1 hc
          refine z_goto (tgt := 106) hC dX4_bound_91 (by decide) ?_
          obtain ⟨y60, e_y60⟩ : ∃ z : Int32, z = x5 + 1 := ⟨_, rfl⟩
          replace hV := hV _ e_y60
          refine z_iinc (v := y60) hC dX4_bound_106 rfl (by rw [e_y60]; rfl) (Nat.le_of_ble_eq_true rfl) rfl rfl ?_
          refine z_goto (tgt := 71) hC dX4_bound_109 (by decide) ?_
          refine zz_sub (L' := [some (.ref (E.1.heap.size + 44)), none, none, some (.int x3), some (.int x4), some (.int y60), none, none, none, none, none]) ⟨rfl, rfl, rfl, rfl, trivial⟩ ?_
          exact j_71 σ x3 x4 y60 hV
  have j_40 : ∀ (σ : ZS) (x1 : Int32) (x2 : Int32) (s0 : Int32), V_X4_bound_40 Ret σ x1 x2 s0 → zz C E NS 11 σ 40 [some (.ref (E.1.heap.size + 44)), some (.int x1), some (.int x2), none, none, none, none, none, none, none, none] [.int s0, .ref (E.1.heap.size + 44)] := by
    intro σ x1 x2 s0 hV
    unfold V_X4_bound_40 at hV
    refine z_iconst (v := 2) hC dX4_bound_40 rfl ?_
    refine c_X4_227 hC (by decide) dX4_bound_41 (Nat.le_of_ble_eq_true rfl) hV (fun r8 σ9 hV => ?_)
    refine z_if_eq (tgt := 49) hC dX4_bound_44 (by decide) (fun hc => ?_) (fun hc => ?_)
    · replace hV := hV.1 hc
      refine z_aload_n hC dX4_bound_49 rfl rfl ?_
      refine z_iload_n hC dX4_bound_50 rfl rfl ?_
      refine c_X4_310 hC (by decide) dX4_bound_51 (Nat.le_of_ble_eq_true rfl) hV (fun σ11 hV => ?_)
      refine z_aload_n hC dX4_bound_54 rfl rfl ?_
      refine g_X4_20_44 hC dX4_bound_55 ?_
      refine z_iconst (v := 2) hC dX4_bound_58 rfl ?_
      refine z_iald hC dX4_bound_59 (k_47 _) (in_dec rfl) ?_
      refine z_iconst (v := 1) hC dX4_bound_60 rfl ?_
      refine z_iload_n hC dX4_bound_61 rfl rfl ?_
      refine z_ishl hC dX4_bound_62 ?_
      refine z_ior hC dX4_bound_63 ?_
      obtain ⟨y12, e_y12⟩ : ∃ z, z = (zI σ11 47 (ix 2)) ||| ((1 : Int32) <<< (x1 &&& 31)) := ⟨_, rfl⟩
      rw [← e_y12]
      replace hV := hV _ e_y12
      refine z_istore_n hC dX4_bound_64 rfl (Nat.le_of_ble_eq_true rfl) rfl rfl ?_
      refine z_iconst (v := 0) hC dX4_bound_65 rfl ?_
      refine z_istore hC dX4_bound_66 (Nat.le_of_ble_eq_true rfl) rfl rfl ?_
      refine z_iconst (v := 0) hC dX4_bound_68 rfl ?_
      refine z_istore hC dX4_bound_69 (Nat.le_of_ble_eq_true rfl) rfl rfl ?_
      refine zz_sub (L' := [some (.ref (E.1.heap.size + 44)), none, none, some (.int y12), some (.int 0), some (.int 0), none, none, none, none, none]) ⟨rfl, rfl, rfl, rfl, trivial⟩ ?_
      exact j_71 σ11 y12 0 0 hV
    · replace hV := hV.2 hc
      refine z_iconst (v := 0) hC dX4_bound_47 rfl ?_
      exact z_iret hC dX4_bound_48 rfl (by rw [hQo]; exact ⟨_, rfl, hV⟩)
  have j_19 : ∀ (σ : ZS) (x1 : Int32) (x2 : Int32) (s0 : Int32), V_X4_bound_19 Ret σ x1 x2 s0 → zz C E NS 11 σ 19 [some (.ref (E.1.heap.size + 44)), some (.int x1), some (.int x2), none, none, none, none, none, none, none, none] [.int s0, .ref (E.1.heap.size + 44)] := by
    intro σ x1 x2 s0 hV
    unfold V_X4_bound_19 at hV
    refine z_iconst (v := 1) hC dX4_bound_19 rfl ?_
    refine c_X4_227 hC (by decide) dX4_bound_20 (Nat.le_of_ble_eq_true rfl) hV (fun r4 σ5 hV => ?_)
    refine z_if_ne (tgt := 47) hC dX4_bound_23 (by decide) (fun hc => ?_) (fun hc => ?_)
    · replace hV := hV.2 hc
      refine z_iconst (v := 0) hC dX4_bound_47 rfl ?_
      exact z_iret hC dX4_bound_48 rfl (by rw [hQo]; exact ⟨_, rfl, hV⟩)
    · replace hV := hV.1 hc
      refine z_aload_n hC dX4_bound_26 rfl rfl ?_
      refine z_aload_n hC dX4_bound_27 rfl rfl ?_
      refine z_iload_n hC dX4_bound_28 rfl rfl ?_
      refine c_X4_281 hC (by decide) dX4_bound_29 (Nat.le_of_ble_eq_true rfl) hV (fun r6 σ7 hV => ?_)
      refine z_if_ne (tgt := 39) hC dX4_bound_32 (by decide) (fun hc => ?_) (fun hc => ?_)
      · replace hV := hV.2 hc
        refine z_iconst (v := 0) hC dX4_bound_39 rfl ?_
        refine zz_sub (L' := [some (.ref (E.1.heap.size + 44)), some (.int x1), some (.int x2), none, none, none, none, none, none, none, none]) ⟨rfl, rfl, rfl, trivial⟩ ?_
        exact j_40 σ7 x1 x2 0 hV
      · replace hV := hV.1 hc
        refine z_iconst (v := 1) hC dX4_bound_35 rfl ?_
        refine z_goto (tgt := 40) hC dX4_bound_36 (by decide) ?_
        refine zz_sub (L' := [some (.ref (E.1.heap.size + 44)), some (.int x1), some (.int x2), none, none, none, none, none, none, none, none]) ⟨rfl, rfl, rfl, trivial⟩ ?_
        exact j_40 σ7 x1 x2 1 hV
  refine z_aload_n hC dX4_bound_0 rfl rfl ?_
  refine z_iconst (v := 0) hC dX4_bound_1 rfl ?_
  refine p_X4_131_c3 hC dX4_bound_2 (k_44 _) ?_
  obtain ⟨σ1, e_σ1⟩ : ∃ z : ZS, z = sI σ 44 0 0 := ⟨_, rfl⟩
  replace hV := hV _ e_σ1
  rw [← e_σ1]
  refine z_aload_n hC dX4_bound_5 rfl rfl ?_
  refine z_aload_n hC dX4_bound_6 rfl rfl ?_
  refine z_iload_n hC dX4_bound_7 rfl rfl ?_
  refine c_X4_307 hC (by decide) dX4_bound_8 (Nat.le_of_ble_eq_true rfl) hV (fun r2 σ3 hV => ?_)
  refine z_if_ne (tgt := 18) hC dX4_bound_11 (by decide) (fun hc => ?_) (fun hc => ?_)
  · replace hV := hV.2 hc
    refine z_iconst (v := 0) hC dX4_bound_18 rfl ?_
    refine zz_sub (L' := [some (.ref (E.1.heap.size + 44)), some (.int a1), some (.int a2), none, none, none, none, none, none, none, none]) ⟨rfl, rfl, rfl, trivial⟩ ?_
    exact j_19 σ3 a1 a2 0 hV
  · replace hV := hV.1 hc
    refine z_iconst (v := 1) hC dX4_bound_14 rfl ?_
    refine z_goto (tgt := 19) hC dX4_bound_15 (by decide) ?_
    refine zz_sub (L' := [some (.ref (E.1.heap.size + 44)), some (.int a1), some (.int a2), none, none, none, none, none, none, none, none]) ⟨rfl, rfl, rfl, trivial⟩ ?_
    exact j_19 σ3 a1 a2 1 hV
def VL_X4_boxAt_15 (Ret : Int32 → ZS → Prop) : Nat → ZS → Int32 → Int32 → Int32 → Int32 → Prop
  | 0 => fun _ _ _ _ _ => False
  | k + 1 => fun σ x1 x2 x3 x4 =>
    let K15 := VL_X4_boxAt_15 Ret k
    ((x4 < x1 → (∀ y1 : Int32, y1 = x3 + ((x2 >>> (x4 &&& 31)) &&& 1) → (∀ y2 : Int32, y2 = x4 + 1 → (K15 σ x1 x2 y1 y2)))) ∧ (¬ x4 < x1 → (Ret ((1 : Int32) <<< (x3 &&& 31)) σ)))
def V_X4_boxAt_15 (Ret : Int32 → ZS → Prop) (σ : ZS) (x1 : Int32) (x2 : Int32) (x3 : Int32) (x4 : Int32) : Prop := ∃ k, VL_X4_boxAt_15 Ret k σ x1 x2 x3 x4
def wp_X4_boxAt (σ : ZS) (a1 : Int32) (a2 : Int32) (Ret : Int32 → ZS → Prop) : Prop :=
    ((((a2 >>> (a1 &&& 31)) &&& 1) = 0 → (Ret 0 σ)) ∧ (¬ ((a2 >>> (a1 &&& 31)) &&& 1) = 0 → (V_X4_boxAt_15 Ret σ a1 a2 0 0)))
set_option maxHeartbeats 4000000 in
theorem mz_X4_boxAt {l : Launch} {E : ZE} (hE : EOK E) {σ : ZS} {a1 : Int32} {a2 : Int32} {Ret : Int32 → ZS → Prop} (hV : wp_X4_boxAt σ a1 a2 Ret) : MZ l E NS yX4_boxAt (ws_ yX4_boxAt cX4_boxAt 5 (some .int)) 1 σ [.ref (E.1.heap.size + 44), .int a1, .int a2] (rI Ret) := by
  refine MZ.start (L := [some (.ref (E.1.heap.size + 44)), some (.int a1), some (.int a2), none, none]) hE (by decide) (Nat.le_of_ble_eq_true rfl) rfl fun C hCl hQo hC => ?_
  replace hC : Cx C E cX4_boxAt 5 "RightTurnsModel" "boxAt" (some .int) [] 1 := hC
  unfold wp_X4_boxAt at hV
  have j_15 : ∀ (σ : ZS) (x1 : Int32) (x2 : Int32) (x3 : Int32) (x4 : Int32), V_X4_boxAt_15 Ret σ x1 x2 x3 x4 → zz C E NS 5 σ 15 [none, some (.int x1), some (.int x2), some (.int x3), some (.int x4)] [] := by
    intro σ x1 x2 x3 x4 ⟨k, hV⟩
    revert σ x1 x2 x3 x4
    induction k with
    | zero => exact fun _ _ _ _ _ hV => hV.elim
    | succ k j_15 =>
      intro σ x1 x2 x3 x4 hV
      simp only [VL_X4_boxAt_15] at hV
      generalize hKe15 : VL_X4_boxAt_15 Ret k = K15 at hV j_15
      clear hKe15
      refine z_iload hC dX4_boxAt_15 rfl ?_
      refine z_iload_n hC dX4_boxAt_17 rfl rfl ?_
      refine z_icmp_ge (tgt := 36) hC dX4_boxAt_18 (by decide) (fun hc => ?_) (fun hc => ?_)
      · replace hV := hV.2 hc
        refine z_iconst (v := 1) hC dX4_boxAt_36 rfl ?_
        refine z_iload_n hC dX4_boxAt_37 rfl rfl ?_
        refine z_ishl hC dX4_boxAt_38 ?_
        exact z_iret hC dX4_boxAt_39 rfl (by rw [hQo]; exact ⟨_, rfl, hV⟩)
      · replace hV := hV.1 hc
        refine z_iload_n hC dX4_boxAt_21 rfl rfl ?_
        refine z_iload_n hC dX4_boxAt_22 rfl rfl ?_
        refine z_iload hC dX4_boxAt_23 rfl ?_
        refine z_ishr hC dX4_boxAt_25 ?_
        refine z_iconst (v := 1) hC dX4_boxAt_26 rfl ?_
        refine z_iand hC dX4_boxAt_27 ?_
        refine z_iadd hC dX4_boxAt_28 ?_
        obtain ⟨y1, e_y1⟩ : ∃ z, z = x3 + ((x2 >>> (x4 &&& 31)) &&& 1) := ⟨_, rfl⟩
        rw [← e_y1]
        replace hV := hV _ e_y1
        refine z_istore_n hC dX4_boxAt_29 rfl (Nat.le_of_ble_eq_true rfl) rfl rfl ?_
        obtain ⟨y2, e_y2⟩ : ∃ z : Int32, z = x4 + 1 := ⟨_, rfl⟩
        replace hV := hV _ e_y2
        refine z_iinc (v := y2) hC dX4_boxAt_30 rfl (by rw [e_y2]; rfl) (Nat.le_of_ble_eq_true rfl) rfl rfl ?_
        refine z_goto (tgt := 15) hC dX4_boxAt_33 (by decide) ?_
        refine zz_sub (L' := [none, some (.int x1), some (.int x2), some (.int y1), some (.int y2)]) ⟨rfl, rfl, rfl, rfl, trivial⟩ ?_
        exact j_15 σ x1 x2 y1 y2 hV
  refine z_iconst (v := 0) hC dX4_boxAt_0 rfl ?_
  refine z_istore_n hC dX4_boxAt_1 rfl (Nat.le_of_ble_eq_true rfl) rfl rfl ?_
  refine z_iload_n hC dX4_boxAt_2 rfl rfl ?_
  refine z_iload_n hC dX4_boxAt_3 rfl rfl ?_
  refine z_ishr hC dX4_boxAt_4 ?_
  refine z_iconst (v := 1) hC dX4_boxAt_5 rfl ?_
  refine z_iand hC dX4_boxAt_6 ?_
  refine z_if_ne (tgt := 12) hC dX4_boxAt_7 (by decide) (fun hc => ?_) (fun hc => ?_)
  · replace hV := hV.2 hc
    refine z_iconst (v := 0) hC dX4_boxAt_12 rfl ?_
    refine z_istore hC dX4_boxAt_13 (Nat.le_of_ble_eq_true rfl) rfl rfl ?_
    refine zz_sub (L' := [none, some (.int a1), some (.int a2), some (.int 0), some (.int 0)]) ⟨rfl, rfl, rfl, rfl, trivial⟩ ?_
    exact j_15 σ a1 a2 0 0 hV
  · replace hV := hV.1 hc
    refine z_iconst (v := 0) hC dX4_boxAt_10 rfl ?_
    exact z_iret hC dX4_boxAt_11 rfl (by rw [hQo]; exact ⟨_, rfl, hV⟩)
theorem g_X4_116_44 {C : ZC} {E : ZE} {cc : ByteArray} {nL pc d : Nat} {nm : String} {ret : Option FieldType} {hh : List (Nat × Nat × Nat × Nat)} {σ : ZS} {L : List (Option Value)} {st : List Value} (hC : Cx C E cc nL "RightTurnsModel" nm ret hh d) (hd : decode cc pc = .ok (.getfield 116, 3)) (k : zz C E NS nL σ (pc + 3) L (.ref (E.1.heap.size + 1234) :: st)) : zz C E NS nL σ pc L (.ref (E.1.heap.size + 44) :: st) :=
  z_get hC cf3 hd (k_44 σ) (k := 50) (by decide) (Or.inl q1635) (Or.inl rfl) rfl k
theorem g_X4_119_44 {C : ZC} {E : ZE} {cc : ByteArray} {nL pc d : Nat} {nm : String} {ret : Option FieldType} {hh : List (Nat × Nat × Nat × Nat)} {σ : ZS} {L : List (Option Value)} {st : List Value} (hC : Cx C E cc nL "RightTurnsModel" nm ret hh d) (hd : decode cc pc = .ok (.getfield 119, 3)) (k : zz C E NS nL σ (pc + 3) L (.ref (E.1.heap.size + 1235) :: st)) : zz C E NS nL σ pc L (.ref (E.1.heap.size + 44) :: st) :=
  z_get hC cf3 hd (k_44 σ) (k := 51) (by decide) (Or.inl q1636) (Or.inl rfl) rfl k
theorem g_X4_122_44 {C : ZC} {E : ZE} {cc : ByteArray} {nL pc d : Nat} {nm : String} {ret : Option FieldType} {hh : List (Nat × Nat × Nat × Nat)} {σ : ZS} {L : List (Option Value)} {st : List Value} (hC : Cx C E cc nL "RightTurnsModel" nm ret hh d) (hd : decode cc pc = .ok (.getfield 122, 3)) (k : zz C E NS nL σ (pc + 3) L (.ref (E.1.heap.size + 1236) :: st)) : zz C E NS nL σ pc L (.ref (E.1.heap.size + 44) :: st) :=
  z_get hC cf3 hd (k_44 σ) (k := 52) (by decide) (Or.inl q1637) (Or.inl rfl) rfl k
theorem g_X4_125_44 {C : ZC} {E : ZE} {cc : ByteArray} {nL pc d : Nat} {nm : String} {ret : Option FieldType} {hh : List (Nat × Nat × Nat × Nat)} {σ : ZS} {L : List (Option Value)} {st : List Value} (hC : Cx C E cc nL "RightTurnsModel" nm ret hh d) (hd : decode cc pc = .ok (.getfield 125, 3)) (k : zz C E NS nL σ (pc + 3) L (.ref (E.1.heap.size + 1237) :: st)) : zz C E NS nL σ pc L (.ref (E.1.heap.size + 44) :: st) :=
  z_get hC cf3 hd (k_44 σ) (k := 53) (by decide) (Or.inl q1638) (Or.inl rfl) rfl k
theorem g_X4_128_44 {C : ZC} {E : ZE} {cc : ByteArray} {nL pc d : Nat} {nm : String} {ret : Option FieldType} {hh : List (Nat × Nat × Nat × Nat)} {σ : ZS} {L : List (Option Value)} {st : List Value} (hC : Cx C E cc nL "RightTurnsModel" nm ret hh d) (hd : decode cc pc = .ok (.getfield 128, 3)) (k : zz C E NS nL σ (pc + 3) L (.int (zI σ 44 54) :: st)) : zz C E NS nL σ pc L (.ref (E.1.heap.size + 44) :: st) :=
  z_get hC cf3 hd (k_44 σ) (k := 54) (by decide) (Or.inl q1639) (Or.inl rfl) rfl k
theorem g_X4_405_44 {C : ZC} {E : ZE} {cc : ByteArray} {nL pc d : Nat} {nm : String} {ret : Option FieldType} {hh : List (Nat × Nat × Nat × Nat)} {σ : ZS} {L : List (Option Value)} {st : List Value} (hC : Cx C E cc nL "RightTurnsModel" nm ret hh d) (hd : decode cc pc = .ok (.getfield 405, 3)) (k : zz C E NS nL σ (pc + 3) L (.int (zI σ 44 55) :: st)) : zz C E NS nL σ pc L (.ref (E.1.heap.size + 44) :: st) :=
  z_get hC cf3 hd (k_44 σ) (k := 55) (by decide) (Or.inl q1640) (Or.inl rfl) rfl k
theorem g_X4_74_44 {C : ZC} {E : ZE} {cc : ByteArray} {nL pc d : Nat} {nm : String} {ret : Option FieldType} {hh : List (Nat × Nat × Nat × Nat)} {σ : ZS} {L : List (Option Value)} {st : List Value} (hC : Cx C E cc nL "RightTurnsModel" nm ret hh d) (hd : decode cc pc = .ok (.getfield 74, 3)) (k : zz C E NS nL σ (pc + 3) L (.ref (E.1.heap.size + 1146) :: st)) : zz C E NS nL σ pc L (.ref (E.1.heap.size + 44) :: st) :=
  z_get hC cf3 hd (k_44 σ) (k := 31) (by decide) (Or.inl q1616) (Or.inl rfl) rfl k
def V_X4_comes_218 (K76 : ZS → Int32 → Int32 → Prop) (Ret : ZS → Prop) (σ : ZS) (x2 : Int32) (x3 : Int32) (x5 : Int32) (s0 : Int64) (s1 : Int32) (s2 : Nat) : Prop :=
    ∃ n23, kK NS σ s2 = (1, n23) ∧ (vp_in s1 n23 ∧ (∀ σ25 : ZS, σ25 = sJ σ s2 (ix s1) s0 → (vp_in x2 48 ∧ (∀ σ27 : ZS, σ27 = sI σ25 1235 (ix x2) x5 → (∀ y28 : Int32, y28 = x3 + 1 → (K76 σ27 x2 y28))))))
def V_X4_comes_163 (K76 : ZS → Int32 → Int32 → Prop) (Ret : ZS → Prop) (σ : ZS) (x2 : Int32) (x3 : Int32) (s0 : Int32) (s1 : Int32) : Prop :=
    ∀ y17 : Int32, y17 = s1 + s0 → (vp_in x2 48 ∧ ((((zI σ 1235 (ix x2)) < y17 → (∀ y30 : Int32, y30 = x3 + 1 → (K76 σ x2 y30))) ∧ (¬ (zI σ 1235 (ix x2)) < y17 → (vp_in x2 48 ∧ (((y17 < (zI σ 1235 (ix x2)) → (vp_in x3 48 ∧ (V_X4_comes_218 K76 Ret σ x2 x3 y17 (zJ σ 1236 (ix x3)) x2 1237))) ∧ (¬ y17 < (zI σ 1235 (ix x2)) → (vp_in x2 48 ∧ (vp_in x3 48 ∧ (V_X4_comes_218 K76 Ret σ x2 x3 y17 ((zJ σ 1237 (ix x2)) + (zJ σ 1236 (ix x3))) x2 1237)))))))))))
def V_X4_comes_147 (K76 : ZS → Int32 → Int32 → Prop) (Ret : ZS → Prop) (σ : ZS) (x2 : Int32) (x3 : Int32) (x4 : Int32) : Prop :=
    vp_in x3 48 ∧ (((x4 = 0 → (V_X4_comes_163 K76 Ret σ x2 x3 0 (zI σ 1234 (ix x3)))) ∧ (¬ x4 = 0 → (V_X4_comes_163 K76 Ret σ x2 x3 1 (zI σ 1234 (ix x3))))))
def V_X4_comes_117 (K76 : ZS → Int32 → Int32 → Prop) (Ret : ZS → Prop) (σ : ZS) (x2 : Int32) (x3 : Int32) (s0 : Int32) : Prop :=
    ((s0 = 0 → (V_X4_comes_147 K76 Ret σ x2 x3 s0)) ∧ (¬ s0 = 0 → ((((x3 / 2) = (zI σ 44 54) → ((((x2 / 2) = (zI σ 44 55) → (∀ y31 : Int32, y31 = x3 + 1 → (K76 σ x2 y31))) ∧ (¬ (x2 / 2) = (zI σ 44 55) → (V_X4_comes_147 K76 Ret σ x2 x3 s0))))) ∧ (¬ (x3 / 2) = (zI σ 44 54) → (V_X4_comes_147 K76 Ret σ x2 x3 s0))))))
def VL_X4_comes_76 (Ret : ZS → Prop) : Nat → ZS → Int32 → Int32 → Prop
  | 0 => fun _ _ _ => False
  | k + 1 => fun σ x2 x3 =>
    let K76 := VL_X4_comes_76 Ret k
    ((x3 < (2 * (zI σ 47 (ix 1))) → (vp_in x3 48 ∧ ((((zI σ 1234 (ix x3)) = 1000000000 → (∀ y32 : Int32, y32 = x3 + 1 → (K76 σ x2 y32))) ∧ (¬ (zI σ 1234 (ix x3)) = 1000000000 → (wp_X4_mayNow σ x3 x2 (fun r14 σ15 => ((r14 = 0 → (V_X4_comes_117 K76 Ret σ15 x2 x3 1)) ∧ (¬ r14 = 0 → (V_X4_comes_117 K76 Ret σ15 x2 x3 0)))))))))) ∧ (¬ x3 < (2 * (zI σ 47 (ix 1))) → (Ret σ)))
def V_X4_comes_76 (Ret : ZS → Prop) (σ : ZS) (x2 : Int32) (x3 : Int32) : Prop := ∃ k, VL_X4_comes_76 Ret k σ x2 x3
def wp_X4_comes (σ : ZS) (a1 : Int32) (a2 : Int32) (Ret : ZS → Prop) : Prop :=
    vp_in a2 48 ∧ (∀ σ2 : ZS, σ2 = sI σ 1235 (ix a2) 1000000000 → (vp_in a2 48 ∧ (∀ σ4 : ZS, σ4 = sJ σ2 1237 (ix a2) 0 → (wp_X4_isArc σ4 a2 (fun r5 σ6 => ((r5 = 0 → (Ret σ6)) ∧ (¬ r5 = 0 → (wp_X4_beginOf σ6 a2 (fun r7 σ8 => vp_in a1 12 ∧ (((r7 = (zI σ8 1146 (ix a1)) → (wp_X4_endOf σ8 a2 (fun r10 σ11 => vp_in (a1 + 1) 12 ∧ (((r10 = (zI σ11 1146 (ix (a1 + 1))) → (((a1 = 0 → (vp_in a2 48 ∧ (∀ σ34 : ZS, σ34 = sI σ11 1235 (ix a2) 0 → (vp_in a2 48 ∧ (∀ σ36 : ZS, σ36 = sJ σ34 1237 (ix a2) 1 → (Ret σ36)))))) ∧ (¬ a1 = 0 → (V_X4_comes_76 Ret σ11 a2 0))))) ∧ (¬ r10 = (zI σ11 1146 (ix (a1 + 1))) → (Ret σ11))))))) ∧ (¬ r7 = (zI σ8 1146 (ix a1)) → (Ret σ8)))))))))))))
set_option maxHeartbeats 4000000 in
theorem mz_X4_comes {l : Launch} {E : ZE} (hE : EOK E) {σ : ZS} {a1 : Int32} {a2 : Int32} {Ret : ZS → Prop} (hV : wp_X4_comes σ a1 a2 Ret) : MZ l E NS yX4_comes (ws_ yX4_comes cX4_comes 6 none) 5 σ [.ref (E.1.heap.size + 44), .int a1, .int a2] (rV Ret) := by
  refine MZ.start (L := [some (.ref (E.1.heap.size + 44)), some (.int a1), some (.int a2), none, none, none]) hE (by decide) (Nat.le_of_ble_eq_true rfl) rfl fun C hCl hQo hC => ?_
  replace hC : Cx C E cX4_comes 6 "RightTurnsModel" "comes" none [] 5 := hC
  unfold wp_X4_comes at hV
  have j_76 : ∀ (σ : ZS) (x2 : Int32) (x3 : Int32), V_X4_comes_76 Ret σ x2 x3 → zz C E NS 6 σ 76 [some (.ref (E.1.heap.size + 44)), none, some (.int x2), some (.int x3), none, none] [] := by
    intro σ x2 x3 ⟨k, hV⟩
    revert σ x2 x3
    induction k with
    | zero => exact fun _ _ _ hV => hV.elim
    | succ k j_76 =>
      intro σ x2 x3 hV
      simp only [VL_X4_comes_76] at hV
      generalize hKe76 : VL_X4_comes_76 Ret k = K76 at hV j_76
      clear hKe76
      have j_218 : ∀ (σ : ZS) (x2 : Int32) (x3 : Int32) (x5 : Int32) (s0 : Int64) (s1 : Int32) (s2 : Nat), V_X4_comes_218 K76 Ret σ x2 x3 x5 s0 s1 s2 → zz C E NS 6 σ 218 [some (.ref (E.1.heap.size + 44)), none, some (.int x2), some (.int x3), none, some (.int x5)] [.long s0, .int s1, .ref (E.1.heap.size + s2)] := by
        intro σ x2 x3 x5 s0 s1 s2 hV
        unfold V_X4_comes_218 at hV
        obtain ⟨n23, h22, hV⟩ := hV
        obtain ⟨h24, hV⟩ := hV
        refine z_last hC dX4_comes_218 h22 (h24) ?_
        obtain ⟨σ25, e_σ25⟩ : ∃ z : ZS, z = sJ σ s2 (ix s1) s0 := ⟨_, rfl⟩
        replace hV := hV _ e_σ25
        rw [← e_σ25]
        refine z_aload_n hC dX4_comes_219 rfl rfl ?_
        refine g_X4_119_44 hC dX4_comes_220 ?_
        refine z_iload_n hC dX4_comes_223 rfl rfl ?_
        refine z_iload hC dX4_comes_224 rfl ?_
        obtain ⟨h26, hV⟩ := hV
        refine z_iast hC dX4_comes_226 (k_1235 _) (h26) ?_
        obtain ⟨σ27, e_σ27⟩ : ∃ z : ZS, z = sI σ25 1235 (ix x2) x5 := ⟨_, rfl⟩
        replace hV := hV _ e_σ27
        rw [← e_σ27]
        obtain ⟨y28, e_y28⟩ : ∃ z : Int32, z = x3 + 1 := ⟨_, rfl⟩
        replace hV := hV _ e_y28
        refine z_iinc (v := y28) hC dX4_comes_227 rfl (by rw [e_y28]; rfl) (Nat.le_of_ble_eq_true rfl) rfl rfl ?_
        refine z_goto (tgt := 76) hC dX4_comes_230 (by decide) ?_
        refine zz_sub (L' := [some (.ref (E.1.heap.size + 44)), none, some (.int x2), some (.int y28), none, none]) ⟨rfl, rfl, rfl, trivial⟩ ?_
        exact j_76 σ27 x2 y28 hV
      have j_163 : ∀ (σ : ZS) (x2 : Int32) (x3 : Int32) (s0 : Int32) (s1 : Int32), V_X4_comes_163 K76 Ret σ x2 x3 s0 s1 → zz C E NS 6 σ 163 [some (.ref (E.1.heap.size + 44)), none, some (.int x2), some (.int x3), none, none] [.int s0, .int s1] := by
        intro σ x2 x3 s0 s1 hV
        unfold V_X4_comes_163 at hV
        refine z_iadd hC dX4_comes_163 ?_
        obtain ⟨y17, e_y17⟩ : ∃ z, z = s1 + s0 := ⟨_, rfl⟩
        rw [← e_y17]
        replace hV := hV _ e_y17
        refine z_istore hC dX4_comes_164 (Nat.le_of_ble_eq_true rfl) rfl rfl ?_
        refine z_iload hC dX4_comes_166 rfl ?_
        refine z_aload_n hC dX4_comes_168 rfl rfl ?_
        refine g_X4_119_44 hC dX4_comes_169 ?_
        refine z_iload_n hC dX4_comes_172 rfl rfl ?_
        obtain ⟨h18, hV⟩ := hV
        refine z_iald hC dX4_comes_173 (k_1235 _) (h18) ?_
        refine z_icmp_le (tgt := 180) hC dX4_comes_174 (by decide) (fun hc => ?_) (fun hc => ?_)
        · replace hV := hV.2 hc
          refine z_aload_n hC dX4_comes_180 rfl rfl ?_
          refine g_X4_125_44 hC dX4_comes_181 ?_
          refine z_iload_n hC dX4_comes_184 rfl rfl ?_
          refine z_iload hC dX4_comes_185 rfl ?_
          refine z_aload_n hC dX4_comes_187 rfl rfl ?_
          refine g_X4_119_44 hC dX4_comes_188 ?_
          refine z_iload_n hC dX4_comes_191 rfl rfl ?_
          obtain ⟨h19, hV⟩ := hV
          refine z_iald hC dX4_comes_192 (k_1235 _) (h19) ?_
          refine z_icmp_ge (tgt := 205) hC dX4_comes_193 (by decide) (fun hc => ?_) (fun hc => ?_)
          · replace hV := hV.2 hc
            refine z_aload_n hC dX4_comes_205 rfl rfl ?_
            refine g_X4_125_44 hC dX4_comes_206 ?_
            refine z_iload_n hC dX4_comes_209 rfl rfl ?_
            obtain ⟨h20, hV⟩ := hV
            refine z_lald hC dX4_comes_210 (k_1237 _) (h20) ?_
            refine z_aload_n hC dX4_comes_211 rfl rfl ?_
            refine g_X4_122_44 hC dX4_comes_212 ?_
            refine z_iload_n hC dX4_comes_215 rfl rfl ?_
            obtain ⟨h21, hV⟩ := hV
            refine z_lald hC dX4_comes_216 (k_1236 _) (h21) ?_
            refine z_ladd hC dX4_comes_217 ?_
            refine zz_sub (L' := [some (.ref (E.1.heap.size + 44)), none, some (.int x2), some (.int x3), none, some (.int y17)]) ⟨rfl, rfl, rfl, rfl, trivial⟩ ?_
            exact j_218 σ x2 x3 y17 ((zJ σ 1237 (ix x2)) + (zJ σ 1236 (ix x3))) x2 1237 hV
          · replace hV := hV.1 hc
            refine z_aload_n hC dX4_comes_196 rfl rfl ?_
            refine g_X4_122_44 hC dX4_comes_197 ?_
            refine z_iload_n hC dX4_comes_200 rfl rfl ?_
            obtain ⟨h29, hV⟩ := hV
            refine z_lald hC dX4_comes_201 (k_1236 _) (h29) ?_
            refine z_goto (tgt := 218) hC dX4_comes_202 (by decide) ?_
            refine zz_sub (L' := [some (.ref (E.1.heap.size + 44)), none, some (.int x2), some (.int x3), none, some (.int y17)]) ⟨rfl, rfl, rfl, rfl, trivial⟩ ?_
            exact j_218 σ x2 x3 y17 (zJ σ 1236 (ix x3)) x2 1237 hV
        · replace hV := hV.1 hc
          refine z_goto (tgt := 227) hC dX4_comes_177 (by decide) ?_
          obtain ⟨y30, e_y30⟩ : ∃ z : Int32, z = x3 + 1 := ⟨_, rfl⟩
          replace hV := hV _ e_y30
          refine z_iinc (v := y30) hC dX4_comes_227 rfl (by rw [e_y30]; rfl) (Nat.le_of_ble_eq_true rfl) rfl rfl ?_
          refine z_goto (tgt := 76) hC dX4_comes_230 (by decide) ?_
          refine zz_sub (L' := [some (.ref (E.1.heap.size + 44)), none, some (.int x2), some (.int y30), none, none]) ⟨rfl, rfl, rfl, trivial⟩ ?_
          exact j_76 σ x2 y30 hV
      have j_147 : ∀ (σ : ZS) (x2 : Int32) (x3 : Int32) (x4 : Int32), V_X4_comes_147 K76 Ret σ x2 x3 x4 → zz C E NS 6 σ 147 [some (.ref (E.1.heap.size + 44)), none, some (.int x2), some (.int x3), some (.int x4), none] [] := by
        intro σ x2 x3 x4 hV
        unfold V_X4_comes_147 at hV
        refine z_aload_n hC dX4_comes_147 rfl rfl ?_
        refine g_X4_116_44 hC dX4_comes_148 ?_
        refine z_iload_n hC dX4_comes_151 rfl rfl ?_
        obtain ⟨h16, hV⟩ := hV
        refine z_iald hC dX4_comes_152 (k_1234 _) (h16) ?_
        refine z_iload hC dX4_comes_153 rfl ?_
        refine z_if_eq (tgt := 162) hC dX4_comes_155 (by decide) (fun hc => ?_) (fun hc => ?_)
        · replace hV := hV.1 hc
          refine z_iconst (v := 0) hC dX4_comes_162 rfl ?_
          refine zz_sub (L' := [some (.ref (E.1.heap.size + 44)), none, some (.int x2), some (.int x3), none, none]) ⟨rfl, rfl, rfl, trivial⟩ ?_
          exact j_163 σ x2 x3 0 (zI σ 1234 (ix x3)) hV
        · replace hV := hV.2 hc
          refine z_iconst (v := 1) hC dX4_comes_158 rfl ?_
          refine z_goto (tgt := 163) hC dX4_comes_159 (by decide) ?_
          refine zz_sub (L' := [some (.ref (E.1.heap.size + 44)), none, some (.int x2), some (.int x3), none, none]) ⟨rfl, rfl, rfl, trivial⟩ ?_
          exact j_163 σ x2 x3 1 (zI σ 1234 (ix x3)) hV
      have j_117 : ∀ (σ : ZS) (x2 : Int32) (x3 : Int32) (s0 : Int32), V_X4_comes_117 K76 Ret σ x2 x3 s0 → zz C E NS 6 σ 117 [some (.ref (E.1.heap.size + 44)), none, some (.int x2), some (.int x3), none, none] [.int s0] := by
        intro σ x2 x3 s0 hV
        unfold V_X4_comes_117 at hV
        refine z_istore hC dX4_comes_117 (Nat.le_of_ble_eq_true rfl) rfl rfl ?_
        refine z_iload hC dX4_comes_119 rfl ?_
        refine z_if_eq (tgt := 147) hC dX4_comes_121 (by decide) (fun hc => ?_) (fun hc => ?_)
        · replace hV := hV.1 hc
          refine zz_sub (L' := [some (.ref (E.1.heap.size + 44)), none, some (.int x2), some (.int x3), some (.int s0), none]) ⟨rfl, rfl, rfl, rfl, trivial⟩ ?_
          exact j_147 σ x2 x3 s0 hV
        · replace hV := hV.2 hc
          refine z_iload_n hC dX4_comes_124 rfl rfl ?_
          refine z_iconst (v := 2) hC dX4_comes_125 rfl ?_
          refine z_idiv hC dX4_comes_126 (by decide) ?_
          refine z_aload_n hC dX4_comes_127 rfl rfl ?_
          refine g_X4_128_44 hC dX4_comes_128 ?_
          refine z_icmp_ne (tgt := 147) hC dX4_comes_131 (by decide) (fun hc => ?_) (fun hc => ?_)
          · replace hV := hV.2 hc
            refine zz_sub (L' := [some (.ref (E.1.heap.size + 44)), none, some (.int x2), some (.int x3), some (.int s0), none]) ⟨rfl, rfl, rfl, rfl, trivial⟩ ?_
            exact j_147 σ x2 x3 s0 hV
          · replace hV := hV.1 hc
            refine z_iload_n hC dX4_comes_134 rfl rfl ?_
            refine z_iconst (v := 2) hC dX4_comes_135 rfl ?_
            refine z_idiv hC dX4_comes_136 (by decide) ?_
            refine z_aload_n hC dX4_comes_137 rfl rfl ?_
            refine g_X4_405_44 hC dX4_comes_138 ?_
            refine z_icmp_ne (tgt := 147) hC dX4_comes_141 (by decide) (fun hc => ?_) (fun hc => ?_)
            · replace hV := hV.2 hc
              refine zz_sub (L' := [some (.ref (E.1.heap.size + 44)), none, some (.int x2), some (.int x3), some (.int s0), none]) ⟨rfl, rfl, rfl, rfl, trivial⟩ ?_
              exact j_147 σ x2 x3 s0 hV
            · replace hV := hV.1 hc
              refine z_goto (tgt := 227) hC dX4_comes_144 (by decide) ?_
              obtain ⟨y31, e_y31⟩ : ∃ z : Int32, z = x3 + 1 := ⟨_, rfl⟩
              replace hV := hV _ e_y31
              refine z_iinc (v := y31) hC dX4_comes_227 rfl (by rw [e_y31]; rfl) (Nat.le_of_ble_eq_true rfl) rfl rfl ?_
              refine z_goto (tgt := 76) hC dX4_comes_230 (by decide) ?_
              refine zz_sub (L' := [some (.ref (E.1.heap.size + 44)), none, some (.int x2), some (.int y31), none, none]) ⟨rfl, rfl, rfl, trivial⟩ ?_
              exact j_76 σ x2 y31 hV
      refine z_iload_n hC dX4_comes_76 rfl rfl ?_
      refine z_iconst (v := 2) hC dX4_comes_77 rfl ?_
      refine z_aload_n hC dX4_comes_78 rfl rfl ?_
      refine g_X4_20_44 hC dX4_comes_79 ?_
      refine z_iconst (v := 1) hC dX4_comes_82 rfl ?_
      refine z_iald hC dX4_comes_83 (k_47 _) (in_dec rfl) ?_
      refine z_imul hC dX4_comes_84 ?_
      refine z_icmp_ge (tgt := 233) hC dX4_comes_85 (by decide) (fun hc => ?_) (fun hc => ?_)
      · replace hV := hV.2 hc
        exact z_vret hC dX4_comes_233 (by rw [hQo]; exact ⟨rfl, hV⟩)
      · replace hV := hV.1 hc
        refine z_aload_n hC dX4_comes_88 rfl rfl ?_
        refine g_X4_116_44 hC dX4_comes_89 ?_
        refine z_iload_n hC dX4_comes_92 rfl rfl ?_
        obtain ⟨h13, hV⟩ := hV
        refine z_iald hC dX4_comes_93 (k_1234 _) (h13) ?_
        refine z_ldcw hC dX4_comes_94 q1981 ?_
        refine z_icmp_ne (tgt := 103) hC dX4_comes_97 (by decide) (fun hc => ?_) (fun hc => ?_)
        · replace hV := hV.2 hc
          refine z_aload_n hC dX4_comes_103 rfl rfl ?_
          refine z_iload_n hC dX4_comes_104 rfl rfl ?_
          refine z_iload_n hC dX4_comes_105 rfl rfl ?_
          refine c_X4_271 hC (by decide) dX4_comes_106 (Nat.le_of_ble_eq_true rfl) hV (fun r14 σ15 hV => ?_)
          refine z_if_ne (tgt := 116) hC dX4_comes_109 (by decide) (fun hc => ?_) (fun hc => ?_)
          · replace hV := hV.2 hc
            refine z_iconst (v := 0) hC dX4_comes_116 rfl ?_
            refine zz_sub (L' := [some (.ref (E.1.heap.size + 44)), none, some (.int x2), some (.int x3), none, none]) ⟨rfl, rfl, rfl, trivial⟩ ?_
            exact j_117 σ15 x2 x3 0 hV
          · replace hV := hV.1 hc
            refine z_iconst (v := 1) hC dX4_comes_112 rfl ?_
            refine z_goto (tgt := 117) hC dX4_comes_113 (by decide) ?_
            refine zz_sub (L' := [some (.ref (E.1.heap.size + 44)), none, some (.int x2), some (.int x3), none, none]) ⟨rfl, rfl, rfl, trivial⟩ ?_
            exact j_117 σ15 x2 x3 1 hV
        · replace hV := hV.1 hc
          refine z_goto (tgt := 227) hC dX4_comes_100 (by decide) ?_
          obtain ⟨y32, e_y32⟩ : ∃ z : Int32, z = x3 + 1 := ⟨_, rfl⟩
          replace hV := hV _ e_y32
          refine z_iinc (v := y32) hC dX4_comes_227 rfl (by rw [e_y32]; rfl) (Nat.le_of_ble_eq_true rfl) rfl rfl ?_
          refine z_goto (tgt := 76) hC dX4_comes_230 (by decide) ?_
          refine zz_sub (L' := [some (.ref (E.1.heap.size + 44)), none, some (.int x2), some (.int y32), none, none]) ⟨rfl, rfl, rfl, trivial⟩ ?_
          exact j_76 σ x2 y32 hV
  refine z_aload_n hC dX4_comes_0 rfl rfl ?_
  refine g_X4_119_44 hC dX4_comes_1 ?_
  refine z_iload_n hC dX4_comes_4 rfl rfl ?_
  refine z_ldcw hC dX4_comes_5 q1981 ?_
  obtain ⟨h1, hV⟩ := hV
  refine z_iast hC dX4_comes_8 (k_1235 _) (h1) ?_
  obtain ⟨σ2, e_σ2⟩ : ∃ z : ZS, z = sI σ 1235 (ix a2) 1000000000 := ⟨_, rfl⟩
  replace hV := hV _ e_σ2
  rw [← e_σ2]
  refine z_aload_n hC dX4_comes_9 rfl rfl ?_
  refine g_X4_125_44 hC dX4_comes_10 ?_
  refine z_iload_n hC dX4_comes_13 rfl rfl ?_
  refine z_lconst (v := 0) hC dX4_comes_14 rfl ?_
  obtain ⟨h3, hV⟩ := hV
  refine z_last hC dX4_comes_15 (k_1237 _) (h3) ?_
  obtain ⟨σ4, e_σ4⟩ : ∃ z : ZS, z = sJ σ2 1237 (ix a2) 0 := ⟨_, rfl⟩
  replace hV := hV _ e_σ4
  rw [← e_σ4]
  refine z_aload_n hC dX4_comes_16 rfl rfl ?_
  refine z_iload_n hC dX4_comes_17 rfl rfl ?_
  refine c_X4_262 hC (by decide) dX4_comes_18 (Nat.le_of_ble_eq_true rfl) hV (fun r5 σ6 hV => ?_)
  refine z_if_eq (tgt := 54) hC dX4_comes_21 (by decide) (fun hc => ?_) (fun hc => ?_)
  · replace hV := hV.1 hc
    exact z_vret hC dX4_comes_54 (by rw [hQo]; exact ⟨rfl, hV⟩)
  · replace hV := hV.2 hc
    refine z_aload_n hC dX4_comes_24 rfl rfl ?_
    refine z_iload_n hC dX4_comes_25 rfl rfl ?_
    refine c_X4_253 hC (by decide) dX4_comes_26 (Nat.le_of_ble_eq_true rfl) hV (fun r7 σ8 hV => ?_)
    refine z_aload_n hC dX4_comes_29 rfl rfl ?_
    refine g_X4_74_44 hC dX4_comes_30 ?_
    refine z_iload_n hC dX4_comes_33 rfl rfl ?_
    obtain ⟨h9, hV⟩ := hV
    refine z_iald hC dX4_comes_34 (k_1146 _) (h9) ?_
    refine z_icmp_ne (tgt := 54) hC dX4_comes_35 (by decide) (fun hc => ?_) (fun hc => ?_)
    · replace hV := hV.2 hc
      exact z_vret hC dX4_comes_54 (by rw [hQo]; exact ⟨rfl, hV⟩)
    · replace hV := hV.1 hc
      refine z_aload_n hC dX4_comes_38 rfl rfl ?_
      refine z_iload_n hC dX4_comes_39 rfl rfl ?_
      refine c_X4_250 hC (by decide) dX4_comes_40 (Nat.le_of_ble_eq_true rfl) hV (fun r10 σ11 hV => ?_)
      refine z_aload_n hC dX4_comes_43 rfl rfl ?_
      refine g_X4_74_44 hC dX4_comes_44 ?_
      refine z_iload_n hC dX4_comes_47 rfl rfl ?_
      refine z_iconst (v := 1) hC dX4_comes_48 rfl ?_
      refine z_iadd hC dX4_comes_49 ?_
      obtain ⟨h12, hV⟩ := hV
      refine z_iald hC dX4_comes_50 (k_1146 _) (h12) ?_
      refine z_icmp_eq (tgt := 55) hC dX4_comes_51 (by decide) (fun hc => ?_) (fun hc => ?_)
      · replace hV := hV.1 hc
        refine z_iload_n hC dX4_comes_55 rfl rfl ?_
        refine z_if_ne (tgt := 74) hC dX4_comes_56 (by decide) (fun hc => ?_) (fun hc => ?_)
        · replace hV := hV.2 hc
          refine z_iconst (v := 0) hC dX4_comes_74 rfl ?_
          refine z_istore_n hC dX4_comes_75 rfl (Nat.le_of_ble_eq_true rfl) rfl rfl ?_
          refine zz_sub (L' := [some (.ref (E.1.heap.size + 44)), none, some (.int a2), some (.int 0), none, none]) ⟨rfl, rfl, rfl, trivial⟩ ?_
          exact j_76 σ11 a2 0 hV
        · replace hV := hV.1 hc
          refine z_aload_n hC dX4_comes_59 rfl rfl ?_
          refine g_X4_119_44 hC dX4_comes_60 ?_
          refine z_iload_n hC dX4_comes_63 rfl rfl ?_
          refine z_iconst (v := 0) hC dX4_comes_64 rfl ?_
          obtain ⟨h33, hV⟩ := hV
          refine z_iast hC dX4_comes_65 (k_1235 _) (h33) ?_
          obtain ⟨σ34, e_σ34⟩ : ∃ z : ZS, z = sI σ11 1235 (ix a2) 0 := ⟨_, rfl⟩
          replace hV := hV _ e_σ34
          rw [← e_σ34]
          refine z_aload_n hC dX4_comes_66 rfl rfl ?_
          refine g_X4_125_44 hC dX4_comes_67 ?_
          refine z_iload_n hC dX4_comes_70 rfl rfl ?_
          refine z_lconst (v := 1) hC dX4_comes_71 rfl ?_
          obtain ⟨h35, hV⟩ := hV
          refine z_last hC dX4_comes_72 (k_1237 _) (h35) ?_
          obtain ⟨σ36, e_σ36⟩ : ∃ z : ZS, z = sJ σ34 1237 (ix a2) 1 := ⟨_, rfl⟩
          replace hV := hV _ e_σ36
          rw [← e_σ36]
          exact z_vret hC dX4_comes_73 (by rw [hQo]; exact ⟨rfl, hV⟩)
      · replace hV := hV.2 hc
        exact z_vret hC dX4_comes_54 (by rw [hQo]; exact ⟨rfl, hV⟩)
theorem g_X4_241_44 {C : ZC} {E : ZE} {cc : ByteArray} {nL pc d : Nat} {nm : String} {ret : Option FieldType} {hh : List (Nat × Nat × Nat × Nat)} {σ : ZS} {L : List (Option Value)} {st : List Value} (hC : Cx C E cc nL "RightTurnsModel" nm ret hh d) (hd : decode cc pc = .ok (.getfield 241, 3)) (k : zz C E NS nL σ (pc + 3) L (.int (zI σ 44 28) :: st)) : zz C E NS nL σ pc L (.ref (E.1.heap.size + 44) :: st) :=
  z_get hC cf3 hd (k_44 σ) (k := 28) (by decide) (Or.inl q1613) (Or.inl rfl) rfl k
theorem g_X4_393_44 {C : ZC} {E : ZE} {cc : ByteArray} {nL pc d : Nat} {nm : String} {ret : Option FieldType} {hh : List (Nat × Nat × Nat × Nat)} {σ : ZS} {L : List (Option Value)} {st : List Value} (hC : Cx C E cc nL "RightTurnsModel" nm ret hh d) (hd : decode cc pc = .ok (.getfield 393, 3)) (k : zz C E NS nL σ (pc + 3) L (.int (zI σ 44 56) :: st)) : zz C E NS nL σ pc L (.ref (E.1.heap.size + 44) :: st) :=
  z_get hC cf3 hd (k_44 σ) (k := 56) (by decide) (Or.inl q1641) (Or.inl rfl) rfl k
theorem g_X4_398_44 {C : ZC} {E : ZE} {cc : ByteArray} {nL pc d : Nat} {nm : String} {ret : Option FieldType} {hh : List (Nat × Nat × Nat × Nat)} {σ : ZS} {L : List (Option Value)} {st : List Value} (hC : Cx C E cc nL "RightTurnsModel" nm ret hh d) (hd : decode cc pc = .ok (.getfield 398, 3)) (k : zz C E NS nL σ (pc + 3) L (.long (zJ σ 44 57) :: st)) : zz C E NS nL σ pc L (.ref (E.1.heap.size + 44) :: st) :=
  z_get hC cf3 hd (k_44 σ) (k := 57) (by decide) (Or.inl q1642) (Or.inl rfl) rfl k
theorem p_X4_393_c3 {C : ZC} {E : ZE} {cc : ByteArray} {n nL pc d a x : Nat} {nm : String} {ret : Option FieldType} {hh : List (Nat × Nat × Nat × Nat)} {σ : ZS} {L : List (Option Value)} {st : List Value} {v : Int32} (hC : Cx C E cc nL "RightTurnsModel" nm ret hh d) (hd : decode cc pc = .ok (.putfield 393, 3)) (hk : kK n σ a = (3 + 7, x)) (k : zz C E n nL (sI σ a 56 v) (pc + 3) L st) : zz C E n nL σ pc L (.int v :: .ref (E.1.heap.size + a) :: st) :=
  z_putI hC cf3 hd hk (k := 56) (by decide) (Or.inl q1641) (Or.inl rfl) (Or.inl rfl) rfl rfl rfl k
theorem p_X4_398_c3 {C : ZC} {E : ZE} {cc : ByteArray} {n nL pc d a x : Nat} {nm : String} {ret : Option FieldType} {hh : List (Nat × Nat × Nat × Nat)} {σ : ZS} {L : List (Option Value)} {st : List Value} {v : Int64} (hC : Cx C E cc nL "RightTurnsModel" nm ret hh d) (hd : decode cc pc = .ok (.putfield 398, 3)) (hk : kK n σ a = (3 + 7, x)) (k : zz C E n nL (sJ σ a 57 v) (pc + 3) L st) : zz C E n nL σ pc L (.long v :: .ref (E.1.heap.size + a) :: st) :=
  z_putJ hC cf3 hd hk (k := 57) (by decide) (Or.inl q1642) (Or.inl rfl) (Or.inl rfl) rfl rfl rfl k
theorem cw_X4_comes : CodeW yX4_comes (ws_ yX4_comes cX4_comes 6 none) 6 := ⟨fun w h => (List.mem_cons.mp h).elim (fun e => e ▸ q2157) id, Or.inl ⟨_, _, q2157⟩, q138, by decide, by decide⟩
theorem c_X4_402 {C : ZC} {E : ZE} {cc : ByteArray} {nL pc d : Nat} {nm : String} {ret : Option FieldType} {hh : List (Nat × Nat × Nat × Nat)} {σ : ZS} {L : List (Option Value)} {st : List Value} {a1 : Int32} {a2 : Int32} {Ret : ZS → Prop} (hC : Cx C E cc nL "RightTurnsModel" nm ret hh d) (hdd : 5 + 1 ≤ d) (hd : decode cc pc = .ok (.invokevirtual 402, 3)) (hW : (st.map fun v => v.category).sum ≤ 8) (hV : wp_X4_comes σ a1 a2 Ret) (k : ∀ σ', Ret σ' → zz C E NS nL σ' (pc + 3) L st) : zz C E NS nL σ pc L (.int a2 :: .int a1 :: .ref (E.1.heap.size + 44) :: st) :=
  z_callVG hC cf3 cw_X4_comes hdd (by decide) (mz_X4_comes (cxE hC) hV) hd (k_44 σ) q2154 q2156 qs111 (np := 2) rfl rfl hW rfl (kV k)
def V_X4_findBreaks_176 (K102 : ZS → Int32 → Prop) (Ret : ZS → Prop) (σ : ZS) (x1 : Int32) (s0 : Int64) : Prop :=
    ∀ σ8 : ZS, σ8 = sJ σ 44 57 s0 → (vp_in x1 48 ∧ (∀ σ10 : ZS, σ10 = sI σ8 44 56 (zI σ8 1234 (ix x1)) → (∀ y11 : Int32, y11 = x1 + 1 → (K102 σ10 y11))))
def VL_X4_findBreaks_102 (Ret : ZS → Prop) : Nat → ZS → Int32 → Prop
  | 0 => fun _ _ => False
  | k + 1 => fun σ x1 =>
    let K102 := VL_X4_findBreaks_102 Ret k
    ((x1 < (2 * (zI σ 47 (ix 1))) → (vp_in x1 48 ∧ ((((zI σ 44 56) < (zI σ 1234 (ix x1)) → (∀ y4 : Int32, y4 = x1 + 1 → (K102 σ y4))) ∧ (¬ (zI σ 44 56) < (zI σ 1234 (ix x1)) → (vp_in x1 48 ∧ ((((zI σ 1234 (ix x1)) = 1000000000 → (∀ y13 : Int32, y13 = x1 + 1 → (K102 σ y13))) ∧ (¬ (zI σ 1234 (ix x1)) = 1000000000 → (vp_in x1 48 ∧ ((((zI σ 1234 (ix x1)) < (zI σ 44 56) → (vp_in x1 48 ∧ (V_X4_findBreaks_176 K102 Ret σ x1 (zJ σ 1236 (ix x1))))) ∧ (¬ (zI σ 1234 (ix x1)) < (zI σ 44 56) → (vp_in x1 48 ∧ (V_X4_findBreaks_176 K102 Ret σ x1 ((zJ σ 44 57) + (zJ σ 1236 (ix x1)))))))))))))))))) ∧ (¬ x1 < (2 * (zI σ 47 (ix 1))) → (Ret σ)))
def V_X4_findBreaks_102 (Ret : ZS → Prop) (σ : ZS) (x1 : Int32) : Prop := ∃ k, VL_X4_findBreaks_102 Ret k σ x1
def VL_X4_findBreaks_40 (K2 : ZS → Int32 → Prop) (Ret : ZS → Prop) : Nat → ZS → Int32 → Int32 → Prop
  | 0 => fun _ _ _ => False
  | k + 1 => fun σ x1 x2 =>
    let K40 := VL_X4_findBreaks_40 K2 Ret k
    ((x2 < (2 * (zI σ 47 (ix 1))) → (vp_in x2 48 ∧ (vp_in x2 48 ∧ (∀ σ17 : ZS, σ17 = sI σ 1234 (ix x2) (zI σ 1235 (ix x2)) → (vp_in x2 48 ∧ (vp_in x2 48 ∧ (∀ σ20 : ZS, σ20 = sJ σ17 1236 (ix x2) (zJ σ17 1237 (ix x2)) → (∀ y21 : Int32, y21 = x2 + 1 → (K40 σ20 x1 y21))))))))) ∧ (¬ x2 < (2 * (zI σ 47 (ix 1))) → (∀ y14 : Int32, y14 = x1 + 1 → (K2 σ y14))))
def V_X4_findBreaks_40 (K2 : ZS → Int32 → Prop) (Ret : ZS → Prop) (σ : ZS) (x1 : Int32) (x2 : Int32) : Prop := ∃ k, VL_X4_findBreaks_40 K2 Ret k σ x1 x2
def VL_X4_findBreaks_14 (K2 : ZS → Int32 → Prop) (Ret : ZS → Prop) : Nat → ZS → Int32 → Int32 → Prop
  | 0 => fun _ _ _ => False
  | k + 1 => fun σ x1 x2 =>
    let K14 := VL_X4_findBreaks_14 K2 Ret k
    ((x2 < (2 * (zI σ 47 (ix 1))) → (wp_X4_comes σ x1 x2 (fun σ23 => ∀ y24 : Int32, y24 = x2 + 1 → (K14 σ23 x1 y24)))) ∧ (¬ x2 < (2 * (zI σ 47 (ix 1))) → (V_X4_findBreaks_40 K2 Ret σ x1 0)))
def V_X4_findBreaks_14 (K2 : ZS → Int32 → Prop) (Ret : ZS → Prop) (σ : ZS) (x1 : Int32) (x2 : Int32) : Prop := ∃ k, VL_X4_findBreaks_14 K2 Ret k σ x1 x2
def VL_X4_findBreaks_2 (Ret : ZS → Prop) : Nat → ZS → Int32 → Prop
  | 0 => fun _ _ => False
  | k + 1 => fun σ x1 =>
    let K2 := VL_X4_findBreaks_2 Ret k
    (((x1 + 1) < (zI σ 44 28) → (V_X4_findBreaks_14 K2 Ret σ x1 0)) ∧ (¬ (x1 + 1) < (zI σ 44 28) → (∀ σ1 : ZS, σ1 = sI σ 44 56 1000000000 → (∀ σ2 : ZS, σ2 = sJ σ1 44 57 0 → (V_X4_findBreaks_102 Ret σ2 0)))))
def V_X4_findBreaks_2 (Ret : ZS → Prop) (σ : ZS) (x1 : Int32) : Prop := ∃ k, VL_X4_findBreaks_2 Ret k σ x1
def wp_X4_findBreaks (σ : ZS) (Ret : ZS → Prop) : Prop :=
    V_X4_findBreaks_2 Ret σ 0
set_option maxHeartbeats 4000000 in
theorem mz_X4_findBreaks {l : Launch} {E : ZE} (hE : EOK E) {σ : ZS} {Ret : ZS → Prop} (hV : wp_X4_findBreaks σ Ret) : MZ l E NS yX4_findBreaks (ws_ yX4_findBreaks cX4_findBreaks 3 none) 6 σ [.ref (E.1.heap.size + 44)] (rV Ret) := by
  refine MZ.start (L := [some (.ref (E.1.heap.size + 44)), none, none]) hE (by decide) (Nat.le_of_ble_eq_true rfl) rfl fun C hCl hQo hC => ?_
  replace hC : Cx C E cX4_findBreaks 3 "RightTurnsModel" "findBreaks" none [] 6 := hC
  unfold wp_X4_findBreaks at hV
  have j_102 : ∀ (σ : ZS) (x1 : Int32), V_X4_findBreaks_102 Ret σ x1 → zz C E NS 3 σ 102 [some (.ref (E.1.heap.size + 44)), some (.int x1), none] [] := by
    intro σ x1 ⟨k, hV⟩
    revert σ x1
    induction k with
    | zero => exact fun _ _ hV => hV.elim
    | succ k j_102 =>
      intro σ x1 hV
      simp only [VL_X4_findBreaks_102] at hV
      generalize hKe102 : VL_X4_findBreaks_102 Ret k = K102 at hV j_102
      clear hKe102
      have j_176 : ∀ (σ : ZS) (x1 : Int32) (s0 : Int64), V_X4_findBreaks_176 K102 Ret σ x1 s0 → zz C E NS 3 σ 176 [some (.ref (E.1.heap.size + 44)), some (.int x1), none] [.long s0, .ref (E.1.heap.size + 44)] := by
        intro σ x1 s0 hV
        unfold V_X4_findBreaks_176 at hV
        refine p_X4_398_c3 hC dX4_findBreaks_176 (k_44 _) ?_
        obtain ⟨σ8, e_σ8⟩ : ∃ z : ZS, z = sJ σ 44 57 s0 := ⟨_, rfl⟩
        replace hV := hV _ e_σ8
        rw [← e_σ8]
        refine z_aload_n hC dX4_findBreaks_179 rfl rfl ?_
        refine z_aload_n hC dX4_findBreaks_180 rfl rfl ?_
        refine g_X4_116_44 hC dX4_findBreaks_181 ?_
        refine z_iload_n hC dX4_findBreaks_184 rfl rfl ?_
        obtain ⟨h9, hV⟩ := hV
        refine z_iald hC dX4_findBreaks_185 (k_1234 _) (h9) ?_
        refine p_X4_393_c3 hC dX4_findBreaks_186 (k_44 _) ?_
        obtain ⟨σ10, e_σ10⟩ : ∃ z : ZS, z = sI σ8 44 56 (zI σ8 1234 (ix x1)) := ⟨_, rfl⟩
        replace hV := hV _ e_σ10
        rw [← e_σ10]
        obtain ⟨y11, e_y11⟩ : ∃ z : Int32, z = x1 + 1 := ⟨_, rfl⟩
        replace hV := hV _ e_y11
        refine z_iinc (v := y11) hC dX4_findBreaks_189 rfl (by rw [e_y11]; rfl) (Nat.le_of_ble_eq_true rfl) rfl rfl ?_
        refine z_goto (tgt := 102) hC dX4_findBreaks_192 (by decide) ?_
        refine zz_sub (L' := [some (.ref (E.1.heap.size + 44)), some (.int y11), none]) ⟨rfl, rfl, trivial⟩ ?_
        exact j_102 σ10 y11 hV
      refine z_iload_n hC dX4_findBreaks_102 rfl rfl ?_
      refine z_iconst (v := 2) hC dX4_findBreaks_103 rfl ?_
      refine z_aload_n hC dX4_findBreaks_104 rfl rfl ?_
      refine g_X4_20_44 hC dX4_findBreaks_105 ?_
      refine z_iconst (v := 1) hC dX4_findBreaks_108 rfl ?_
      refine z_iald hC dX4_findBreaks_109 (k_47 _) (in_dec rfl) ?_
      refine z_imul hC dX4_findBreaks_110 ?_
      refine z_icmp_ge (tgt := 195) hC dX4_findBreaks_111 (by decide) (fun hc => ?_) (fun hc => ?_)
      · replace hV := hV.2 hc
        exact z_vret hC dX4_findBreaks_195 (by rw [hQo]; exact ⟨rfl, hV⟩)
      · replace hV := hV.1 hc
        refine z_aload_n hC dX4_findBreaks_114 rfl rfl ?_
        refine g_X4_116_44 hC dX4_findBreaks_115 ?_
        refine z_iload_n hC dX4_findBreaks_118 rfl rfl ?_
        obtain ⟨h3, hV⟩ := hV
        refine z_iald hC dX4_findBreaks_119 (k_1234 _) (h3) ?_
        refine z_aload_n hC dX4_findBreaks_120 rfl rfl ?_
        refine g_X4_393_44 hC dX4_findBreaks_121 ?_
        refine z_icmp_gt (tgt := 189) hC dX4_findBreaks_124 (by decide) (fun hc => ?_) (fun hc => ?_)
        · replace hV := hV.1 hc
          obtain ⟨y4, e_y4⟩ : ∃ z : Int32, z = x1 + 1 := ⟨_, rfl⟩
          replace hV := hV _ e_y4
          refine z_iinc (v := y4) hC dX4_findBreaks_189 rfl (by rw [e_y4]; rfl) (Nat.le_of_ble_eq_true rfl) rfl rfl ?_
          refine z_goto (tgt := 102) hC dX4_findBreaks_192 (by decide) ?_
          refine zz_sub (L' := [some (.ref (E.1.heap.size + 44)), some (.int y4), none]) ⟨rfl, rfl, trivial⟩ ?_
          exact j_102 σ y4 hV
        · replace hV := hV.2 hc
          refine z_aload_n hC dX4_findBreaks_127 rfl rfl ?_
          refine g_X4_116_44 hC dX4_findBreaks_128 ?_
          refine z_iload_n hC dX4_findBreaks_131 rfl rfl ?_
          obtain ⟨h5, hV⟩ := hV
          refine z_iald hC dX4_findBreaks_132 (k_1234 _) (h5) ?_
          refine z_ldcw hC dX4_findBreaks_133 q1981 ?_
          refine z_icmp_ne (tgt := 142) hC dX4_findBreaks_136 (by decide) (fun hc => ?_) (fun hc => ?_)
          · replace hV := hV.2 hc
            refine z_aload_n hC dX4_findBreaks_142 rfl rfl ?_
            refine z_aload_n hC dX4_findBreaks_143 rfl rfl ?_
            refine g_X4_116_44 hC dX4_findBreaks_144 ?_
            refine z_iload_n hC dX4_findBreaks_147 rfl rfl ?_
            obtain ⟨h6, hV⟩ := hV
            refine z_iald hC dX4_findBreaks_148 (k_1234 _) (h6) ?_
            refine z_aload_n hC dX4_findBreaks_149 rfl rfl ?_
            refine g_X4_393_44 hC dX4_findBreaks_150 ?_
            refine z_icmp_ge (tgt := 165) hC dX4_findBreaks_153 (by decide) (fun hc => ?_) (fun hc => ?_)
            · replace hV := hV.2 hc
              refine z_aload_n hC dX4_findBreaks_165 rfl rfl ?_
              refine g_X4_398_44 hC dX4_findBreaks_166 ?_
              refine z_aload_n hC dX4_findBreaks_169 rfl rfl ?_
              refine g_X4_122_44 hC dX4_findBreaks_170 ?_
              refine z_iload_n hC dX4_findBreaks_173 rfl rfl ?_
              obtain ⟨h7, hV⟩ := hV
              refine z_lald hC dX4_findBreaks_174 (k_1236 _) (h7) ?_
              refine z_ladd hC dX4_findBreaks_175 ?_
              refine zz_sub (L' := [some (.ref (E.1.heap.size + 44)), some (.int x1), none]) ⟨rfl, rfl, trivial⟩ ?_
              exact j_176 σ x1 ((zJ σ 44 57) + (zJ σ 1236 (ix x1))) hV
            · replace hV := hV.1 hc
              refine z_aload_n hC dX4_findBreaks_156 rfl rfl ?_
              refine g_X4_122_44 hC dX4_findBreaks_157 ?_
              refine z_iload_n hC dX4_findBreaks_160 rfl rfl ?_
              obtain ⟨h12, hV⟩ := hV
              refine z_lald hC dX4_findBreaks_161 (k_1236 _) (h12) ?_
              refine z_goto (tgt := 176) hC dX4_findBreaks_162 (by decide) ?_
              refine zz_sub (L' := [some (.ref (E.1.heap.size + 44)), some (.int x1), none]) ⟨rfl, rfl, trivial⟩ ?_
              exact j_176 σ x1 (zJ σ 1236 (ix x1)) hV
          · replace hV := hV.1 hc
            refine z_goto (tgt := 189) hC dX4_findBreaks_139 (by decide) ?_
            obtain ⟨y13, e_y13⟩ : ∃ z : Int32, z = x1 + 1 := ⟨_, rfl⟩
            replace hV := hV _ e_y13
            refine z_iinc (v := y13) hC dX4_findBreaks_189 rfl (by rw [e_y13]; rfl) (Nat.le_of_ble_eq_true rfl) rfl rfl ?_
            refine z_goto (tgt := 102) hC dX4_findBreaks_192 (by decide) ?_
            refine zz_sub (L' := [some (.ref (E.1.heap.size + 44)), some (.int y13), none]) ⟨rfl, rfl, trivial⟩ ?_
            exact j_102 σ y13 hV
  have j_2 : ∀ (σ : ZS) (x1 : Int32), V_X4_findBreaks_2 Ret σ x1 → zz C E NS 3 σ 2 [some (.ref (E.1.heap.size + 44)), some (.int x1), none] [] := by
    intro σ x1 ⟨k, hV⟩
    revert σ x1
    induction k with
    | zero => exact fun _ _ hV => hV.elim
    | succ k j_2 =>
      intro σ x1 hV
      simp only [VL_X4_findBreaks_2] at hV
      generalize hKe2 : VL_X4_findBreaks_2 Ret k = K2 at hV j_2
      clear hKe2
      have j_40 : ∀ (σ : ZS) (x1 : Int32) (x2 : Int32), V_X4_findBreaks_40 K2 Ret σ x1 x2 → zz C E NS 3 σ 40 [some (.ref (E.1.heap.size + 44)), some (.int x1), some (.int x2)] [] := by
        intro σ x1 x2 ⟨k, hV⟩
        revert σ x1 x2
        induction k with
        | zero => exact fun _ _ _ hV => hV.elim
        | succ k j_40 =>
          intro σ x1 x2 hV
          simp only [VL_X4_findBreaks_40] at hV
          generalize hKe40 : VL_X4_findBreaks_40 K2 Ret k = K40 at hV j_40
          clear hKe40
          refine z_iload_n hC dX4_findBreaks_40 rfl rfl ?_
          refine z_iconst (v := 2) hC dX4_findBreaks_41 rfl ?_
          refine z_aload_n hC dX4_findBreaks_42 rfl rfl ?_
          refine g_X4_20_44 hC dX4_findBreaks_43 ?_
          refine z_iconst (v := 1) hC dX4_findBreaks_46 rfl ?_
          refine z_iald hC dX4_findBreaks_47 (k_47 _) (in_dec rfl) ?_
          refine z_imul hC dX4_findBreaks_48 ?_
          refine z_icmp_ge (tgt := 82) hC dX4_findBreaks_49 (by decide) (fun hc => ?_) (fun hc => ?_)
          · replace hV := hV.2 hc
            obtain ⟨y14, e_y14⟩ : ∃ z : Int32, z = x1 + 1 := ⟨_, rfl⟩
            replace hV := hV _ e_y14
            refine z_iinc (v := y14) hC dX4_findBreaks_82 rfl (by rw [e_y14]; rfl) (Nat.le_of_ble_eq_true rfl) rfl rfl ?_
            refine z_goto (tgt := 2) hC dX4_findBreaks_85 (by decide) ?_
            refine zz_sub (L' := [some (.ref (E.1.heap.size + 44)), some (.int y14), none]) ⟨rfl, rfl, trivial⟩ ?_
            exact j_2 σ y14 hV
          · replace hV := hV.1 hc
            refine z_aload_n hC dX4_findBreaks_52 rfl rfl ?_
            refine g_X4_116_44 hC dX4_findBreaks_53 ?_
            refine z_iload_n hC dX4_findBreaks_56 rfl rfl ?_
            refine z_aload_n hC dX4_findBreaks_57 rfl rfl ?_
            refine g_X4_119_44 hC dX4_findBreaks_58 ?_
            refine z_iload_n hC dX4_findBreaks_61 rfl rfl ?_
            obtain ⟨h15, hV⟩ := hV
            refine z_iald hC dX4_findBreaks_62 (k_1235 _) (h15) ?_
            obtain ⟨h16, hV⟩ := hV
            refine z_iast hC dX4_findBreaks_63 (k_1234 _) (h16) ?_
            obtain ⟨σ17, e_σ17⟩ : ∃ z : ZS, z = sI σ 1234 (ix x2) (zI σ 1235 (ix x2)) := ⟨_, rfl⟩
            replace hV := hV _ e_σ17
            rw [← e_σ17]
            refine z_aload_n hC dX4_findBreaks_64 rfl rfl ?_
            refine g_X4_122_44 hC dX4_findBreaks_65 ?_
            refine z_iload_n hC dX4_findBreaks_68 rfl rfl ?_
            refine z_aload_n hC dX4_findBreaks_69 rfl rfl ?_
            refine g_X4_125_44 hC dX4_findBreaks_70 ?_
            refine z_iload_n hC dX4_findBreaks_73 rfl rfl ?_
            obtain ⟨h18, hV⟩ := hV
            refine z_lald hC dX4_findBreaks_74 (k_1237 _) (h18) ?_
            obtain ⟨h19, hV⟩ := hV
            refine z_last hC dX4_findBreaks_75 (k_1236 _) (h19) ?_
            obtain ⟨σ20, e_σ20⟩ : ∃ z : ZS, z = sJ σ17 1236 (ix x2) (zJ σ17 1237 (ix x2)) := ⟨_, rfl⟩
            replace hV := hV _ e_σ20
            rw [← e_σ20]
            obtain ⟨y21, e_y21⟩ : ∃ z : Int32, z = x2 + 1 := ⟨_, rfl⟩
            replace hV := hV _ e_y21
            refine z_iinc (v := y21) hC dX4_findBreaks_76 rfl (by rw [e_y21]; rfl) (Nat.le_of_ble_eq_true rfl) rfl rfl ?_
            refine z_goto (tgt := 40) hC dX4_findBreaks_79 (by decide) ?_
            refine zz_sub (L' := [some (.ref (E.1.heap.size + 44)), some (.int x1), some (.int y21)]) ⟨rfl, rfl, rfl, trivial⟩ ?_
            exact j_40 σ20 x1 y21 hV
      have j_14 : ∀ (σ : ZS) (x1 : Int32) (x2 : Int32), V_X4_findBreaks_14 K2 Ret σ x1 x2 → zz C E NS 3 σ 14 [some (.ref (E.1.heap.size + 44)), some (.int x1), some (.int x2)] [] := by
        intro σ x1 x2 ⟨k, hV⟩
        revert σ x1 x2
        induction k with
        | zero => exact fun _ _ _ hV => hV.elim
        | succ k j_14 =>
          intro σ x1 x2 hV
          simp only [VL_X4_findBreaks_14] at hV
          generalize hKe14 : VL_X4_findBreaks_14 K2 Ret k = K14 at hV j_14
          clear hKe14
          refine z_iload_n hC dX4_findBreaks_14 rfl rfl ?_
          refine z_iconst (v := 2) hC dX4_findBreaks_15 rfl ?_
          refine z_aload_n hC dX4_findBreaks_16 rfl rfl ?_
          refine g_X4_20_44 hC dX4_findBreaks_17 ?_
          refine z_iconst (v := 1) hC dX4_findBreaks_20 rfl ?_
          refine z_iald hC dX4_findBreaks_21 (k_47 _) (in_dec rfl) ?_
          refine z_imul hC dX4_findBreaks_22 ?_
          refine z_icmp_ge (tgt := 38) hC dX4_findBreaks_23 (by decide) (fun hc => ?_) (fun hc => ?_)
          · replace hV := hV.2 hc
            refine z_iconst (v := 0) hC dX4_findBreaks_38 rfl ?_
            refine z_istore_n hC dX4_findBreaks_39 rfl (Nat.le_of_ble_eq_true rfl) rfl rfl ?_
            refine zz_sub (L' := [some (.ref (E.1.heap.size + 44)), some (.int x1), some (.int 0)]) ⟨rfl, rfl, rfl, trivial⟩ ?_
            exact j_40 σ x1 0 hV
          · replace hV := hV.1 hc
            refine z_aload_n hC dX4_findBreaks_26 rfl rfl ?_
            refine z_iload_n hC dX4_findBreaks_27 rfl rfl ?_
            refine z_iload_n hC dX4_findBreaks_28 rfl rfl ?_
            refine c_X4_402 hC (by decide) dX4_findBreaks_29 (Nat.le_of_ble_eq_true rfl) hV (fun σ23 hV => ?_)
            obtain ⟨y24, e_y24⟩ : ∃ z : Int32, z = x2 + 1 := ⟨_, rfl⟩
            replace hV := hV _ e_y24
            refine z_iinc (v := y24) hC dX4_findBreaks_32 rfl (by rw [e_y24]; rfl) (Nat.le_of_ble_eq_true rfl) rfl rfl ?_
            refine z_goto (tgt := 14) hC dX4_findBreaks_35 (by decide) ?_
            refine zz_sub (L' := [some (.ref (E.1.heap.size + 44)), some (.int x1), some (.int y24)]) ⟨rfl, rfl, rfl, trivial⟩ ?_
            exact j_14 σ23 x1 y24 hV
      refine z_iload_n hC dX4_findBreaks_2 rfl rfl ?_
      refine z_iconst (v := 1) hC dX4_findBreaks_3 rfl ?_
      refine z_iadd hC dX4_findBreaks_4 ?_
      refine z_aload_n hC dX4_findBreaks_5 rfl rfl ?_
      refine g_X4_241_44 hC dX4_findBreaks_6 ?_
      refine z_icmp_ge (tgt := 88) hC dX4_findBreaks_9 (by decide) (fun hc => ?_) (fun hc => ?_)
      · replace hV := hV.2 hc
        refine z_aload_n hC dX4_findBreaks_88 rfl rfl ?_
        refine z_ldcw hC dX4_findBreaks_89 q1981 ?_
        refine p_X4_393_c3 hC dX4_findBreaks_92 (k_44 _) ?_
        obtain ⟨σ1, e_σ1⟩ : ∃ z : ZS, z = sI σ 44 56 1000000000 := ⟨_, rfl⟩
        replace hV := hV _ e_σ1
        rw [← e_σ1]
        refine z_aload_n hC dX4_findBreaks_95 rfl rfl ?_
        refine z_lconst (v := 0) hC dX4_findBreaks_96 rfl ?_
        refine p_X4_398_c3 hC dX4_findBreaks_97 (k_44 _) ?_
        obtain ⟨σ2, e_σ2⟩ : ∃ z : ZS, z = sJ σ1 44 57 0 := ⟨_, rfl⟩
        replace hV := hV _ e_σ2
        rw [← e_σ2]
        refine z_iconst (v := 0) hC dX4_findBreaks_100 rfl ?_
        refine z_istore_n hC dX4_findBreaks_101 rfl (Nat.le_of_ble_eq_true rfl) rfl rfl ?_
        refine zz_sub (L' := [some (.ref (E.1.heap.size + 44)), some (.int 0), none]) ⟨rfl, rfl, trivial⟩ ?_
        exact j_102 σ2 0 hV
      · replace hV := hV.1 hc
        refine z_iconst (v := 0) hC dX4_findBreaks_12 rfl ?_
        refine z_istore_n hC dX4_findBreaks_13 rfl (Nat.le_of_ble_eq_true rfl) rfl rfl ?_
        refine zz_sub (L' := [some (.ref (E.1.heap.size + 44)), some (.int x1), some (.int 0)]) ⟨rfl, rfl, rfl, trivial⟩ ?_
        exact j_14 σ x1 0 hV
  refine z_iconst (v := 0) hC dX4_findBreaks_0 rfl ?_
  refine z_istore_n hC dX4_findBreaks_1 rfl (Nat.le_of_ble_eq_true rfl) rfl rfl ?_
  refine zz_sub (L' := [some (.ref (E.1.heap.size + 44)), some (.int 0), none]) ⟨rfl, rfl, trivial⟩ ?_
  exact j_2 σ 0 hV
theorem cw_X4_findBreaks : CodeW yX4_findBreaks (ws_ yX4_findBreaks cX4_findBreaks 3 none) 3 := ⟨fun w h => (List.mem_cons.mp h).elim (fun e => e ▸ q2153) id, Or.inl ⟨_, _, q2153⟩, q138, by decide, by decide⟩
theorem c_X4_390 {C : ZC} {E : ZE} {cc : ByteArray} {nL pc d : Nat} {nm : String} {ret : Option FieldType} {hh : List (Nat × Nat × Nat × Nat)} {σ : ZS} {L : List (Option Value)} {st : List Value} {Ret : ZS → Prop} (hC : Cx C E cc nL "RightTurnsModel" nm ret hh d) (hdd : 6 + 1 ≤ d) (hd : decode cc pc = .ok (.invokevirtual 390, 3)) (hW : (st.map fun v => v.category).sum ≤ 8) (hV : wp_X4_findBreaks σ Ret) (k : ∀ σ', Ret σ' → zz C E NS nL σ' (pc + 3) L st) : zz C E NS nL σ pc L (.ref (E.1.heap.size + 44) :: st) :=
  z_callVG hC cf3 cw_X4_findBreaks hdd (by decide) (mz_X4_findBreaks (cxE hC) hV) hd (k_44 σ) q2150 q2152 qs110 (np := 0) rfl rfl hW rfl (kV k)
def V_X4_breaks_28 (Ret : Int64 → ZS → Prop) (σ : ZS) (x1 : Int32) (x2 : Int32) (s0 : Int32) : Prop :=
    wp_X4_bad σ s0 1 (fun r4 σ5 => ((r4 = 0 → ((((zI σ5 44 28) < 2 → (Ret 0 σ5)) ∧ (¬ (zI σ5 44 28) < 2 → (wp_X4_laysTime σ5 x1 (fun σ7 => wp_X4_findBreaks σ7 (fun σ9 => (((zI σ9 44 56) = 1000000000 → (Ret (-1) σ9)) ∧ (¬ (zI σ9 44 56) = 1000000000 → (((x2 = 0 → (Ret ((zI σ9 44 56).toInt64) σ9)) ∧ (¬ x2 = 0 → (Ret (zJ σ9 44 57) σ9))))))))))))) ∧ (¬ r4 = 0 → (Ret 0 σ5))))
def V_X4_breaks_23 (Ret : Int64 → ZS → Prop) (σ : ZS) (x1 : Int32) (x2 : Int32) : Prop :=
    V_X4_breaks_28 Ret σ x1 x2 1
def wp_X4_breaks (σ : ZS) (a1 : Int32) (a2 : Int32) (Ret : Int64 → ZS → Prop) : Prop :=
    ∀ σ1 : ZS, σ1 = sI σ 44 0 0 → (wp_X4_isTime σ1 a1 (fun r2 σ3 => ((r2 = 0 → (V_X4_breaks_23 Ret σ3 a1 a2)) ∧ (¬ r2 = 0 → (wp_X4_in σ3 a2 0 1 (fun r10 σ11 => ((r10 = 0 → (V_X4_breaks_23 Ret σ11 a1 a2)) ∧ (¬ r10 = 0 → (V_X4_breaks_28 Ret σ11 a1 a2 0)))))))))
set_option maxHeartbeats 4000000 in
theorem mz_X4_breaks {l : Launch} {E : ZE} (hE : EOK E) {σ : ZS} {a1 : Int32} {a2 : Int32} {Ret : Int64 → ZS → Prop} (hV : wp_X4_breaks σ a1 a2 Ret) : MZ l E NS yX4_breaks (ws_ yX4_breaks cX4_breaks 3 (some .long)) 7 σ [.ref (E.1.heap.size + 44), .int a1, .int a2] (rJ Ret) := by
  refine MZ.start (L := [some (.ref (E.1.heap.size + 44)), some (.int a1), some (.int a2)]) hE (by decide) (Nat.le_of_ble_eq_true rfl) rfl fun C hCl hQo hC => ?_
  replace hC : Cx C E cX4_breaks 3 "RightTurnsModel" "breaks" (some .long) [] 7 := hC
  unfold wp_X4_breaks at hV
  have j_28 : ∀ (σ : ZS) (x1 : Int32) (x2 : Int32) (s0 : Int32), V_X4_breaks_28 Ret σ x1 x2 s0 → zz C E NS 3 σ 28 [some (.ref (E.1.heap.size + 44)), some (.int x1), some (.int x2)] [.int s0, .ref (E.1.heap.size + 44)] := by
    intro σ x1 x2 s0 hV
    unfold V_X4_breaks_28 at hV
    refine z_iconst (v := 1) hC dX4_breaks_28 rfl ?_
    refine c_X4_227 hC (by decide) dX4_breaks_29 (Nat.le_of_ble_eq_true rfl) hV (fun r4 σ5 hV => ?_)
    refine z_if_eq (tgt := 37) hC dX4_breaks_32 (by decide) (fun hc => ?_) (fun hc => ?_)
    · replace hV := hV.1 hc
      refine z_aload_n hC dX4_breaks_37 rfl rfl ?_
      refine g_X4_241_44 hC dX4_breaks_38 ?_
      refine z_iconst (v := 2) hC dX4_breaks_41 rfl ?_
      refine z_icmp_ge (tgt := 47) hC dX4_breaks_42 (by decide) (fun hc => ?_) (fun hc => ?_)
      · replace hV := hV.2 hc
        refine z_aload_n hC dX4_breaks_47 rfl rfl ?_
        refine z_iload_n hC dX4_breaks_48 rfl rfl ?_
        refine c_X4_275 hC (by decide) dX4_breaks_49 (Nat.le_of_ble_eq_true rfl) hV (fun σ7 hV => ?_)
        refine z_aload_n hC dX4_breaks_52 rfl rfl ?_
        refine c_X4_390 hC (by decide) dX4_breaks_53 (Nat.le_of_ble_eq_true rfl) hV (fun σ9 hV => ?_)
        refine z_aload_n hC dX4_breaks_56 rfl rfl ?_
        refine g_X4_393_44 hC dX4_breaks_57 ?_
        refine z_ldcw hC dX4_breaks_60 q1981 ?_
        refine z_icmp_ne (tgt := 72) hC dX4_breaks_63 (by decide) (fun hc => ?_) (fun hc => ?_)
        · replace hV := hV.2 hc
          refine z_iload_n hC dX4_breaks_72 rfl rfl ?_
          refine z_if_ne (tgt := 84) hC dX4_breaks_73 (by decide) (fun hc => ?_) (fun hc => ?_)
          · replace hV := hV.2 hc
            refine z_aload_n hC dX4_breaks_84 rfl rfl ?_
            refine g_X4_398_44 hC dX4_breaks_85 ?_
            exact z_lret hC dX4_breaks_88 (by rw [hQo]; exact ⟨_, rfl, hV⟩)
          · replace hV := hV.1 hc
            refine z_aload_n hC dX4_breaks_76 rfl rfl ?_
            refine g_X4_393_44 hC dX4_breaks_77 ?_
            refine z_i2l hC dX4_breaks_80 ?_
            refine z_goto (tgt := 88) hC dX4_breaks_81 (by decide) ?_
            exact z_lret hC dX4_breaks_88 (by rw [hQo]; exact ⟨_, rfl, hV⟩)
        · replace hV := hV.1 hc
          refine z_ldc2 hC dX4_breaks_66 q2158 ?_
          refine z_goto (tgt := 88) hC dX4_breaks_69 (by decide) ?_
          exact z_lret hC dX4_breaks_88 (by rw [hQo]; exact ⟨_, rfl, hV⟩)
      · replace hV := hV.1 hc
        refine z_lconst (v := 0) hC dX4_breaks_45 rfl ?_
        exact z_lret hC dX4_breaks_46 (by rw [hQo]; exact ⟨_, rfl, hV⟩)
    · replace hV := hV.2 hc
      refine z_lconst (v := 0) hC dX4_breaks_35 rfl ?_
      exact z_lret hC dX4_breaks_36 (by rw [hQo]; exact ⟨_, rfl, hV⟩)
  have j_23 : ∀ (σ : ZS) (x1 : Int32) (x2 : Int32), V_X4_breaks_23 Ret σ x1 x2 → zz C E NS 3 σ 23 [some (.ref (E.1.heap.size + 44)), some (.int x1), some (.int x2)] [.ref (E.1.heap.size + 44)] := by
    intro σ x1 x2 hV
    unfold V_X4_breaks_23 at hV
    refine z_iconst (v := 1) hC dX4_breaks_23 rfl ?_
    refine z_goto (tgt := 28) hC dX4_breaks_24 (by decide) ?_
    refine zz_sub (L' := [some (.ref (E.1.heap.size + 44)), some (.int x1), some (.int x2)]) ⟨rfl, rfl, rfl, trivial⟩ ?_
    exact j_28 σ x1 x2 1 hV
  refine z_aload_n hC dX4_breaks_0 rfl rfl ?_
  refine z_iconst (v := 0) hC dX4_breaks_1 rfl ?_
  refine p_X4_131_c3 hC dX4_breaks_2 (k_44 _) ?_
  obtain ⟨σ1, e_σ1⟩ : ∃ z : ZS, z = sI σ 44 0 0 := ⟨_, rfl⟩
  replace hV := hV _ e_σ1
  rw [← e_σ1]
  refine z_aload_n hC dX4_breaks_5 rfl rfl ?_
  refine z_aload_n hC dX4_breaks_6 rfl rfl ?_
  refine z_iload_n hC dX4_breaks_7 rfl rfl ?_
  refine c_X4_281 hC (by decide) dX4_breaks_8 (Nat.le_of_ble_eq_true rfl) hV (fun r2 σ3 hV => ?_)
  refine z_if_eq (tgt := 23) hC dX4_breaks_11 (by decide) (fun hc => ?_) (fun hc => ?_)
  · replace hV := hV.1 hc
    refine zz_sub (L' := [some (.ref (E.1.heap.size + 44)), some (.int a1), some (.int a2)]) ⟨rfl, rfl, rfl, trivial⟩ ?_
    exact j_23 σ3 a1 a2 hV
  · replace hV := hV.2 hc
    refine z_iload_n hC dX4_breaks_14 rfl rfl ?_
    refine z_iconst (v := 0) hC dX4_breaks_15 rfl ?_
    refine z_iconst (v := 1) hC dX4_breaks_16 rfl ?_
    refine c_X4_165 hC (by decide) dX4_breaks_17 (Nat.le_of_ble_eq_true rfl) hV (fun r10 σ11 hV => ?_)
    refine z_if_ne (tgt := 27) hC dX4_breaks_20 (by decide) (fun hc => ?_) (fun hc => ?_)
    · replace hV := hV.2 hc
      refine z_iconst (v := 0) hC dX4_breaks_27 rfl ?_
      refine zz_sub (L' := [some (.ref (E.1.heap.size + 44)), some (.int a1), some (.int a2)]) ⟨rfl, rfl, rfl, trivial⟩ ?_
      exact j_28 σ11 a1 a2 0 hV
    · replace hV := hV.1 hc
      refine zz_sub (L' := [some (.ref (E.1.heap.size + 44)), some (.int a1), some (.int a2)]) ⟨rfl, rfl, rfl, trivial⟩ ?_
      exact j_23 σ11 a1 a2 hV
theorem g_X4_71_44 {C : ZC} {E : ZE} {cc : ByteArray} {nL pc d : Nat} {nm : String} {ret : Option FieldType} {hh : List (Nat × Nat × Nat × Nat)} {σ : ZS} {L : List (Option Value)} {st : List Value} (hC : Cx C E cc nL "RightTurnsModel" nm ret hh d) (hd : decode cc pc = .ok (.getfield 71, 3)) (k : zz C E NS nL σ (pc + 3) L (.ref (E.1.heap.size + 569) :: st)) : zz C E NS nL σ pc L (.ref (E.1.heap.size + 44) :: st) :=
  z_get hC cf3 hd (k_44 σ) (k := 30) (by decide) (Or.inl q1615) (Or.inl rfl) rfl k
def wp_X4_isAllowed (σ : ZS) (a1 : Int32) (Ret : Int32 → ZS → Prop) : Prop :=
    vp_in a1 576 ∧ (vp_in (zI σ (569 + 1 + ix a1) (ix 0)) 24 ∧ (vp_in a1 576 ∧ ((((((zI σ 565 (ix (zI σ (569 + 1 + ix a1) (ix 0)))) >>> ((zI σ (569 + 1 + ix a1) (ix 1)) &&& 31)) &&& 1) = 1 → (Ret 1 σ)) ∧ (¬ (((zI σ 565 (ix (zI σ (569 + 1 + ix a1) (ix 0)))) >>> ((zI σ (569 + 1 + ix a1) (ix 1)) &&& 31)) &&& 1) = 1 → (Ret 0 σ))))))
set_option maxHeartbeats 4000000 in
theorem mz_X4_isAllowed {l : Launch} {E : ZE} (hE : EOK E) {σ : ZS} {a1 : Int32} {Ret : Int32 → ZS → Prop} (hV : wp_X4_isAllowed σ a1 Ret) : MZ l E NS yX4_isAllowed (ws_ yX4_isAllowed cX4_isAllowed 2 (some .boolean)) 1 σ [.ref (E.1.heap.size + 44), .int a1] (rI Ret) := by
  refine MZ.start (L := [some (.ref (E.1.heap.size + 44)), some (.int a1)]) hE (by decide) (Nat.le_of_ble_eq_true rfl) rfl fun C hCl hQo hC => ?_
  replace hC : Cx C E cX4_isAllowed 2 "RightTurnsModel" "isAllowed" (some .boolean) [] 1 := hC
  unfold wp_X4_isAllowed at hV
  refine z_aload_n hC dX4_isAllowed_0 rfl rfl ?_
  refine g_X4_58_44 hC dX4_isAllowed_1 ?_
  refine z_aload_n hC dX4_isAllowed_4 rfl rfl ?_
  refine g_X4_71_44 hC dX4_isAllowed_5 ?_
  refine z_iload_n hC dX4_isAllowed_8 rfl rfl ?_
  obtain ⟨h1, hV⟩ := hV
  refine z_aalS hC dX4_isAllowed_9 (k_569 _) (by decide) ps_569 h1 ?_
  refine z_iconst (v := 0) hC dX4_isAllowed_10 rfl ?_
  refine z_iald hC dX4_isAllowed_11 (kr_569 _ (ix_lt h1)) (in_dec rfl) ?_
  obtain ⟨h2, hV⟩ := hV
  refine z_iald hC dX4_isAllowed_12 (k_565 _) (h2) ?_
  refine z_aload_n hC dX4_isAllowed_13 rfl rfl ?_
  refine g_X4_71_44 hC dX4_isAllowed_14 ?_
  refine z_iload_n hC dX4_isAllowed_17 rfl rfl ?_
  obtain ⟨h3, hV⟩ := hV
  refine z_aalS hC dX4_isAllowed_18 (k_569 _) (by decide) ps_569 h3 ?_
  refine z_iconst (v := 1) hC dX4_isAllowed_19 rfl ?_
  refine z_iald hC dX4_isAllowed_20 (kr_569 _ (ix_lt h3)) (in_dec rfl) ?_
  refine z_ishr hC dX4_isAllowed_21 ?_
  refine z_iconst (v := 1) hC dX4_isAllowed_22 rfl ?_
  refine z_iand hC dX4_isAllowed_23 ?_
  refine z_iconst (v := 1) hC dX4_isAllowed_24 rfl ?_
  refine z_icmp_ne (tgt := 32) hC dX4_isAllowed_25 (by decide) (fun hc => ?_) (fun hc => ?_)
  · replace hV := hV.2 hc
    refine z_iconst (v := 0) hC dX4_isAllowed_32 rfl ?_
    exact z_iret hC dX4_isAllowed_33 rfl (by rw [hQo]; exact ⟨_, rfl, hV⟩)
  · replace hV := hV.1 hc
    refine z_iconst (v := 1) hC dX4_isAllowed_28 rfl ?_
    refine z_goto (tgt := 33) hC dX4_isAllowed_29 (by decide) ?_
    exact z_iret hC dX4_isAllowed_33 rfl (by rw [hQo]; exact ⟨_, rfl, hV⟩)
def wp_X4_isSigned (σ : ZS) (a1 : Int32) (Ret : Int32 → ZS → Prop) : Prop :=
    vp_in a1 576 ∧ (vp_in (zI σ (569 + 1 + ix a1) (ix 0)) 24 ∧ (vp_in a1 576 ∧ ((((((zI σ 564 (ix (zI σ (569 + 1 + ix a1) (ix 0)))) >>> ((zI σ (569 + 1 + ix a1) (ix 1)) &&& 31)) &&& 1) = 1 → (Ret 1 σ)) ∧ (¬ (((zI σ 564 (ix (zI σ (569 + 1 + ix a1) (ix 0)))) >>> ((zI σ (569 + 1 + ix a1) (ix 1)) &&& 31)) &&& 1) = 1 → (Ret 0 σ))))))
set_option maxHeartbeats 4000000 in
theorem mz_X4_isSigned {l : Launch} {E : ZE} (hE : EOK E) {σ : ZS} {a1 : Int32} {Ret : Int32 → ZS → Prop} (hV : wp_X4_isSigned σ a1 Ret) : MZ l E NS yX4_isSigned (ws_ yX4_isSigned cX4_isSigned 2 (some .boolean)) 1 σ [.ref (E.1.heap.size + 44), .int a1] (rI Ret) := by
  refine MZ.start (L := [some (.ref (E.1.heap.size + 44)), some (.int a1)]) hE (by decide) (Nat.le_of_ble_eq_true rfl) rfl fun C hCl hQo hC => ?_
  replace hC : Cx C E cX4_isSigned 2 "RightTurnsModel" "isSigned" (some .boolean) [] 1 := hC
  unfold wp_X4_isSigned at hV
  refine z_aload_n hC dX4_isSigned_0 rfl rfl ?_
  refine g_X4_55_44 hC dX4_isSigned_1 ?_
  refine z_aload_n hC dX4_isSigned_4 rfl rfl ?_
  refine g_X4_71_44 hC dX4_isSigned_5 ?_
  refine z_iload_n hC dX4_isSigned_8 rfl rfl ?_
  obtain ⟨h1, hV⟩ := hV
  refine z_aalS hC dX4_isSigned_9 (k_569 _) (by decide) ps_569 h1 ?_
  refine z_iconst (v := 0) hC dX4_isSigned_10 rfl ?_
  refine z_iald hC dX4_isSigned_11 (kr_569 _ (ix_lt h1)) (in_dec rfl) ?_
  obtain ⟨h2, hV⟩ := hV
  refine z_iald hC dX4_isSigned_12 (k_564 _) (h2) ?_
  refine z_aload_n hC dX4_isSigned_13 rfl rfl ?_
  refine g_X4_71_44 hC dX4_isSigned_14 ?_
  refine z_iload_n hC dX4_isSigned_17 rfl rfl ?_
  obtain ⟨h3, hV⟩ := hV
  refine z_aalS hC dX4_isSigned_18 (k_569 _) (by decide) ps_569 h3 ?_
  refine z_iconst (v := 1) hC dX4_isSigned_19 rfl ?_
  refine z_iald hC dX4_isSigned_20 (kr_569 _ (ix_lt h3)) (in_dec rfl) ?_
  refine z_ishr hC dX4_isSigned_21 ?_
  refine z_iconst (v := 1) hC dX4_isSigned_22 rfl ?_
  refine z_iand hC dX4_isSigned_23 ?_
  refine z_iconst (v := 1) hC dX4_isSigned_24 rfl ?_
  refine z_icmp_ne (tgt := 32) hC dX4_isSigned_25 (by decide) (fun hc => ?_) (fun hc => ?_)
  · replace hV := hV.2 hc
    refine z_iconst (v := 0) hC dX4_isSigned_32 rfl ?_
    exact z_iret hC dX4_isSigned_33 rfl (by rw [hQo]; exact ⟨_, rfl, hV⟩)
  · replace hV := hV.1 hc
    refine z_iconst (v := 1) hC dX4_isSigned_28 rfl ?_
    refine z_goto (tgt := 33) hC dX4_isSigned_29 (by decide) ?_
    exact z_iret hC dX4_isSigned_33 rfl (by rw [hQo]; exact ⟨_, rfl, hV⟩)
theorem g_X4_259_44 {C : ZC} {E : ZE} {cc : ByteArray} {nL pc d : Nat} {nm : String} {ret : Option FieldType} {hh : List (Nat × Nat × Nat × Nat)} {σ : ZS} {L : List (Option Value)} {st : List Value} (hC : Cx C E cc nL "RightTurnsModel" nm ret hh d) (hd : decode cc pc = .ok (.getfield 259, 3)) (k : zz C E NS nL σ (pc + 3) L (.int (zI σ 44 27) :: st)) : zz C E NS nL σ pc L (.ref (E.1.heap.size + 44) :: st) :=
  z_get hC cf3 hd (k_44 σ) (k := 27) (by decide) (Or.inl q1612) (Or.inl rfl) rfl k
theorem g_X4_334_44 {C : ZC} {E : ZE} {cc : ByteArray} {nL pc d : Nat} {nm : String} {ret : Option FieldType} {hh : List (Nat × Nat × Nat × Nat)} {σ : ZS} {L : List (Option Value)} {st : List Value} (hC : Cx C E cc nL "RightTurnsModel" nm ret hh d) (hd : decode cc pc = .ok (.getfield 334, 3)) (k : zz C E NS nL σ (pc + 3) L (.int (zI σ 44 33) :: st)) : zz C E NS nL σ pc L (.ref (E.1.heap.size + 44) :: st) :=
  z_get hC cf3 hd (k_44 σ) (k := 33) (by decide) (Or.inl q1618) (Or.inl rfl) rfl k
theorem g_X4_77_44 {C : ZC} {E : ZE} {cc : ByteArray} {nL pc d : Nat} {nm : String} {ret : Option FieldType} {hh : List (Nat × Nat × Nat × Nat)} {σ : ZS} {L : List (Option Value)} {st : List Value} (hC : Cx C E cc nL "RightTurnsModel" nm ret hh d) (hd : decode cc pc = .ok (.getfield 77, 3)) (k : zz C E NS nL σ (pc + 3) L (.ref (E.1.heap.size + 1147) :: st)) : zz C E NS nL σ pc L (.ref (E.1.heap.size + 44) :: st) :=
  z_get hC cf3 hd (k_44 σ) (k := 32) (by decide) (Or.inl q1617) (Or.inl rfl) rfl k
theorem p_X4_334_c3 {C : ZC} {E : ZE} {cc : ByteArray} {n nL pc d a x : Nat} {nm : String} {ret : Option FieldType} {hh : List (Nat × Nat × Nat × Nat)} {σ : ZS} {L : List (Option Value)} {st : List Value} {v : Int32} (hC : Cx C E cc nL "RightTurnsModel" nm ret hh d) (hd : decode cc pc = .ok (.putfield 334, 3)) (hk : kK n σ a = (3 + 7, x)) (k : zz C E n nL (sI σ a 33 v) (pc + 3) L st) : zz C E n nL σ pc L (.int v :: .ref (E.1.heap.size + a) :: st) :=
  z_putI hC cf3 hd hk (k := 33) (by decide) (Or.inl q1618) (Or.inl rfl) (Or.inl rfl) rfl rfl rfl k
theorem cw_X4_isAllowed : CodeW yX4_isAllowed (ws_ yX4_isAllowed cX4_isAllowed 2 (some .boolean)) 2 := ⟨fun w h => (List.mem_cons.mp h).elim (fun e => e ▸ q2057) id, Or.inl ⟨_, _, q2057⟩, q138, by decide, by decide⟩
theorem c_X4_337 {C : ZC} {E : ZE} {cc : ByteArray} {nL pc d : Nat} {nm : String} {ret : Option FieldType} {hh : List (Nat × Nat × Nat × Nat)} {σ : ZS} {L : List (Option Value)} {st : List Value} {a1 : Int32} {Ret : Int32 → ZS → Prop} (hC : Cx C E cc nL "RightTurnsModel" nm ret hh d) (hdd : 1 + 1 ≤ d) (hd : decode cc pc = .ok (.invokevirtual 337, 3)) (hW : (st.map fun v => v.category).sum ≤ 8) (hV : wp_X4_isAllowed σ a1 Ret) (k : ∀ r σ', Ret r σ' → zz C E NS nL σ' (pc + 3) L (.int r :: st)) : zz C E NS nL σ pc L (.int a1 :: .ref (E.1.heap.size + 44) :: st) :=
  z_callVG hC cf3 cw_X4_isAllowed hdd (by decide) (mz_X4_isAllowed (cxE hC) hV) hd (k_44 σ) q2054 q2056 qs97 (np := 1) rfl rfl hW rfl (kI k)
theorem cw_X4_isSigned : CodeW yX4_isSigned (ws_ yX4_isSigned cX4_isSigned 2 (some .boolean)) 2 := ⟨fun w h => (List.mem_cons.mp h).elim (fun e => e ▸ q2061) id, Or.inl ⟨_, _, q2061⟩, q138, by decide, by decide⟩
theorem c_X4_340 {C : ZC} {E : ZE} {cc : ByteArray} {nL pc d : Nat} {nm : String} {ret : Option FieldType} {hh : List (Nat × Nat × Nat × Nat)} {σ : ZS} {L : List (Option Value)} {st : List Value} {a1 : Int32} {Ret : Int32 → ZS → Prop} (hC : Cx C E cc nL "RightTurnsModel" nm ret hh d) (hdd : 1 + 1 ≤ d) (hd : decode cc pc = .ok (.invokevirtual 340, 3)) (hW : (st.map fun v => v.category).sum ≤ 8) (hV : wp_X4_isSigned σ a1 Ret) (k : ∀ r σ', Ret r σ' → zz C E NS nL σ' (pc + 3) L (.int r :: st)) : zz C E NS nL σ pc L (.int a1 :: .ref (E.1.heap.size + 44) :: st) :=
  z_callVG hC cf3 cw_X4_isSigned hdd (by decide) (mz_X4_isSigned (cxE hC) hV) hd (k_44 σ) q2058 q2060 qs98 (np := 1) rfl rfl hW rfl (kI k)
def VL_X4_findLater_12 (Ret : ZS → Prop) : Nat → ZS → Int32 → Prop
  | 0 => fun _ _ => False
  | k + 1 => fun σ x2 =>
    let K12 := VL_X4_findLater_12 Ret k
    ((x2 < (zI σ 44 27) → ((((zI σ 44 33) < 14 → (wp_X4_isAllowed σ x2 (fun r4 σ5 => ((r4 = 0 → (wp_X4_isSigned σ5 x2 (fun r7 σ8 => ((r7 = 0 → (vp_in (zI σ8 44 33) 14 ∧ (∀ σ10 : ZS, σ10 = sI σ8 1147 (ix (zI σ8 44 33)) x2 → (∀ σ11 : ZS, σ11 = sI σ10 44 33 ((zI σ10 44 33) + 1) → (∀ y12 : Int32, y12 = x2 + 1 → (K12 σ11 y12)))))) ∧ (¬ r7 = 0 → (∀ y13 : Int32, y13 = x2 + 1 → (K12 σ8 y13))))))) ∧ (¬ r4 = 0 → (∀ y6 : Int32, y6 = x2 + 1 → (K12 σ5 y6))))))) ∧ (¬ (zI σ 44 33) < 14 → (Ret σ))))) ∧ (¬ x2 < (zI σ 44 27) → (Ret σ)))
def V_X4_findLater_12 (Ret : ZS → Prop) (σ : ZS) (x2 : Int32) : Prop := ∃ k, VL_X4_findLater_12 Ret k σ x2
def wp_X4_findLater (σ : ZS) (a1 : Int32) (Ret : ZS → Prop) : Prop :=
    wp_X4_laysTime σ a1 (fun σ2 => ∀ σ3 : ZS, σ3 = sI σ2 44 33 0 → (V_X4_findLater_12 Ret σ3 0))
set_option maxHeartbeats 4000000 in
theorem mz_X4_findLater {l : Launch} {E : ZE} (hE : EOK E) {σ : ZS} {a1 : Int32} {Ret : ZS → Prop} (hV : wp_X4_findLater σ a1 Ret) : MZ l E NS yX4_findLater (ws_ yX4_findLater cX4_findLater 3 none) 2 σ [.ref (E.1.heap.size + 44), .int a1] (rV Ret) := by
  refine MZ.start (L := [some (.ref (E.1.heap.size + 44)), some (.int a1), none]) hE (by decide) (Nat.le_of_ble_eq_true rfl) rfl fun C hCl hQo hC => ?_
  replace hC : Cx C E cX4_findLater 3 "RightTurnsModel" "findLater" none [] 2 := hC
  unfold wp_X4_findLater at hV
  have j_12 : ∀ (σ : ZS) (x2 : Int32), V_X4_findLater_12 Ret σ x2 → zz C E NS 3 σ 12 [some (.ref (E.1.heap.size + 44)), none, some (.int x2)] [] := by
    intro σ x2 ⟨k, hV⟩
    revert σ x2
    induction k with
    | zero => exact fun _ _ hV => hV.elim
    | succ k j_12 =>
      intro σ x2 hV
      simp only [VL_X4_findLater_12] at hV
      generalize hKe12 : VL_X4_findLater_12 Ret k = K12 at hV j_12
      clear hKe12
      refine z_iload_n hC dX4_findLater_12 rfl rfl ?_
      refine z_aload_n hC dX4_findLater_13 rfl rfl ?_
      refine g_X4_259_44 hC dX4_findLater_14 ?_
      refine z_icmp_ge (tgt := 74) hC dX4_findLater_17 (by decide) (fun hc => ?_) (fun hc => ?_)
      · replace hV := hV.2 hc
        exact z_vret hC dX4_findLater_74 (by rw [hQo]; exact ⟨rfl, hV⟩)
      · replace hV := hV.1 hc
        refine z_aload_n hC dX4_findLater_20 rfl rfl ?_
        refine g_X4_334_44 hC dX4_findLater_21 ?_
        refine z_bipush (v := 14) hC dX4_findLater_24 rfl ?_
        refine z_icmp_ge (tgt := 74) hC dX4_findLater_26 (by decide) (fun hc => ?_) (fun hc => ?_)
        · replace hV := hV.2 hc
          exact z_vret hC dX4_findLater_74 (by rw [hQo]; exact ⟨rfl, hV⟩)
        · replace hV := hV.1 hc
          refine z_aload_n hC dX4_findLater_29 rfl rfl ?_
          refine z_iload_n hC dX4_findLater_30 rfl rfl ?_
          refine c_X4_337 hC (by decide) dX4_findLater_31 (Nat.le_of_ble_eq_true rfl) hV (fun r4 σ5 hV => ?_)
          refine z_if_ne (tgt := 68) hC dX4_findLater_34 (by decide) (fun hc => ?_) (fun hc => ?_)
          · replace hV := hV.2 hc
            obtain ⟨y6, e_y6⟩ : ∃ z : Int32, z = x2 + 1 := ⟨_, rfl⟩
            replace hV := hV _ e_y6
            refine z_iinc (v := y6) hC dX4_findLater_68 rfl (by rw [e_y6]; rfl) (Nat.le_of_ble_eq_true rfl) rfl rfl ?_
            refine z_goto (tgt := 12) hC dX4_findLater_71 (by decide) ?_
            refine zz_sub (L' := [some (.ref (E.1.heap.size + 44)), none, some (.int y6)]) ⟨rfl, rfl, trivial⟩ ?_
            exact j_12 σ5 y6 hV
          · replace hV := hV.1 hc
            refine z_aload_n hC dX4_findLater_37 rfl rfl ?_
            refine z_iload_n hC dX4_findLater_38 rfl rfl ?_
            refine c_X4_340 hC (by decide) dX4_findLater_39 (Nat.le_of_ble_eq_true rfl) hV (fun r7 σ8 hV => ?_)
            refine z_if_eq (tgt := 48) hC dX4_findLater_42 (by decide) (fun hc => ?_) (fun hc => ?_)
            · replace hV := hV.1 hc
              refine z_aload_n hC dX4_findLater_48 rfl rfl ?_
              refine g_X4_77_44 hC dX4_findLater_49 ?_
              refine z_aload_n hC dX4_findLater_52 rfl rfl ?_
              refine g_X4_334_44 hC dX4_findLater_53 ?_
              refine z_iload_n hC dX4_findLater_56 rfl rfl ?_
              obtain ⟨h9, hV⟩ := hV
              refine z_iast hC dX4_findLater_57 (k_1147 _) (h9) ?_
              obtain ⟨σ10, e_σ10⟩ : ∃ z : ZS, z = sI σ8 1147 (ix (zI σ8 44 33)) x2 := ⟨_, rfl⟩
              replace hV := hV _ e_σ10
              rw [← e_σ10]
              refine z_aload_n hC dX4_findLater_58 rfl rfl ?_
              refine z_dup hC dX4_findLater_59 rfl ?_
              refine g_X4_334_44 hC dX4_findLater_60 ?_
              refine z_iconst (v := 1) hC dX4_findLater_63 rfl ?_
              refine z_iadd hC dX4_findLater_64 ?_
              refine p_X4_334_c3 hC dX4_findLater_65 (k_44 _) ?_
              obtain ⟨σ11, e_σ11⟩ : ∃ z : ZS, z = sI σ10 44 33 ((zI σ10 44 33) + 1) := ⟨_, rfl⟩
              replace hV := hV _ e_σ11
              rw [← e_σ11]
              obtain ⟨y12, e_y12⟩ : ∃ z : Int32, z = x2 + 1 := ⟨_, rfl⟩
              replace hV := hV _ e_y12
              refine z_iinc (v := y12) hC dX4_findLater_68 rfl (by rw [e_y12]; rfl) (Nat.le_of_ble_eq_true rfl) rfl rfl ?_
              refine z_goto (tgt := 12) hC dX4_findLater_71 (by decide) ?_
              refine zz_sub (L' := [some (.ref (E.1.heap.size + 44)), none, some (.int y12)]) ⟨rfl, rfl, trivial⟩ ?_
              exact j_12 σ11 y12 hV
            · replace hV := hV.2 hc
              refine z_goto (tgt := 68) hC dX4_findLater_45 (by decide) ?_
              obtain ⟨y13, e_y13⟩ : ∃ z : Int32, z = x2 + 1 := ⟨_, rfl⟩
              replace hV := hV _ e_y13
              refine z_iinc (v := y13) hC dX4_findLater_68 rfl (by rw [e_y13]; rfl) (Nat.le_of_ble_eq_true rfl) rfl rfl ?_
              refine z_goto (tgt := 12) hC dX4_findLater_71 (by decide) ?_
              refine zz_sub (L' := [some (.ref (E.1.heap.size + 44)), none, some (.int y13)]) ⟨rfl, rfl, trivial⟩ ?_
              exact j_12 σ8 y13 hV
  refine z_aload_n hC dX4_findLater_0 rfl rfl ?_
  refine z_iload_n hC dX4_findLater_1 rfl rfl ?_
  refine c_X4_275 hC (by decide) dX4_findLater_2 (Nat.le_of_ble_eq_true rfl) hV (fun σ2 hV => ?_)
  refine z_aload_n hC dX4_findLater_5 rfl rfl ?_
  refine z_iconst (v := 0) hC dX4_findLater_6 rfl ?_
  refine p_X4_334_c3 hC dX4_findLater_7 (k_44 _) ?_
  obtain ⟨σ3, e_σ3⟩ : ∃ z : ZS, z = sI σ2 44 33 0 := ⟨_, rfl⟩
  replace hV := hV _ e_σ3
  rw [← e_σ3]
  refine z_iconst (v := 0) hC dX4_findLater_10 rfl ?_
  refine z_istore_n hC dX4_findLater_11 rfl (Nat.le_of_ble_eq_true rfl) rfl rfl ?_
  refine zz_sub (L' := [some (.ref (E.1.heap.size + 44)), none, some (.int 0)]) ⟨rfl, rfl, trivial⟩ ?_
  exact j_12 σ3 0 hV
theorem cw_X4_findLater : CodeW yX4_findLater (ws_ yX4_findLater cX4_findLater 3 none) 3 := ⟨fun w h => (List.mem_cons.mp h).elim (fun e => e ▸ q2053) id, Or.inl ⟨_, _, q2053⟩, q138, by decide, by decide⟩
theorem c_X4_343 {C : ZC} {E : ZE} {cc : ByteArray} {nL pc d : Nat} {nm : String} {ret : Option FieldType} {hh : List (Nat × Nat × Nat × Nat)} {σ : ZS} {L : List (Option Value)} {st : List Value} {a1 : Int32} {Ret : ZS → Prop} (hC : Cx C E cc nL "RightTurnsModel" nm ret hh d) (hdd : 2 + 1 ≤ d) (hd : decode cc pc = .ok (.invokevirtual 343, 3)) (hW : (st.map fun v => v.category).sum ≤ 8) (hV : wp_X4_findLater σ a1 Ret) (k : ∀ σ', Ret σ' → zz C E NS nL σ' (pc + 3) L st) : zz C E NS nL σ pc L (.int a1 :: .ref (E.1.heap.size + 44) :: st) :=
  z_callVG hC cf3 cw_X4_findLater hdd (by decide) (mz_X4_findLater (cxE hC) hV) hd (k_44 σ) q2050 q2052 qs96 (np := 1) rfl rfl hW rfl (kV k)
def V_X4_candidates_19 (Ret : Int32 → ZS → Prop) (σ : ZS) (x1 : Int32) (s0 : Int32) : Prop :=
    wp_X4_bad σ s0 1 (fun r4 σ5 => ((r4 = 0 → (wp_X4_findLater σ5 x1 (fun σ7 => Ret (zI σ7 44 33) σ7))) ∧ (¬ r4 = 0 → (Ret 0 σ5))))
def wp_X4_candidates (σ : ZS) (a1 : Int32) (Ret : Int32 → ZS → Prop) : Prop :=
    ∀ σ1 : ZS, σ1 = sI σ 44 0 0 → (wp_X4_isTime σ1 a1 (fun r2 σ3 => ((r2 = 0 → (V_X4_candidates_19 Ret σ3 a1 1)) ∧ (¬ r2 = 0 → (V_X4_candidates_19 Ret σ3 a1 0)))))
set_option maxHeartbeats 4000000 in
theorem mz_X4_candidates {l : Launch} {E : ZE} (hE : EOK E) {σ : ZS} {a1 : Int32} {Ret : Int32 → ZS → Prop} (hV : wp_X4_candidates σ a1 Ret) : MZ l E NS yX4_candidates (ws_ yX4_candidates cX4_candidates 2 (some .int)) 3 σ [.ref (E.1.heap.size + 44), .int a1] (rI Ret) := by
  refine MZ.start (L := [some (.ref (E.1.heap.size + 44)), some (.int a1)]) hE (by decide) (Nat.le_of_ble_eq_true rfl) rfl fun C hCl hQo hC => ?_
  replace hC : Cx C E cX4_candidates 2 "RightTurnsModel" "candidates" (some .int) [] 3 := hC
  unfold wp_X4_candidates at hV
  have j_19 : ∀ (σ : ZS) (x1 : Int32) (s0 : Int32), V_X4_candidates_19 Ret σ x1 s0 → zz C E NS 2 σ 19 [some (.ref (E.1.heap.size + 44)), some (.int x1)] [.int s0, .ref (E.1.heap.size + 44)] := by
    intro σ x1 s0 hV
    unfold V_X4_candidates_19 at hV
    refine z_iconst (v := 1) hC dX4_candidates_19 rfl ?_
    refine c_X4_227 hC (by decide) dX4_candidates_20 (Nat.le_of_ble_eq_true rfl) hV (fun r4 σ5 hV => ?_)
    refine z_if_eq (tgt := 28) hC dX4_candidates_23 (by decide) (fun hc => ?_) (fun hc => ?_)
    · replace hV := hV.1 hc
      refine z_aload_n hC dX4_candidates_28 rfl rfl ?_
      refine z_iload_n hC dX4_candidates_29 rfl rfl ?_
      refine c_X4_343 hC (by decide) dX4_candidates_30 (Nat.le_of_ble_eq_true rfl) hV (fun σ7 hV => ?_)
      refine z_aload_n hC dX4_candidates_33 rfl rfl ?_
      refine g_X4_334_44 hC dX4_candidates_34 ?_
      exact z_iret hC dX4_candidates_37 rfl (by rw [hQo]; exact ⟨_, rfl, hV⟩)
    · replace hV := hV.2 hc
      refine z_iconst (v := 0) hC dX4_candidates_26 rfl ?_
      exact z_iret hC dX4_candidates_27 rfl (by rw [hQo]; exact ⟨_, rfl, hV⟩)
  refine z_aload_n hC dX4_candidates_0 rfl rfl ?_
  refine z_iconst (v := 0) hC dX4_candidates_1 rfl ?_
  refine p_X4_131_c3 hC dX4_candidates_2 (k_44 _) ?_
  obtain ⟨σ1, e_σ1⟩ : ∃ z : ZS, z = sI σ 44 0 0 := ⟨_, rfl⟩
  replace hV := hV _ e_σ1
  rw [← e_σ1]
  refine z_aload_n hC dX4_candidates_5 rfl rfl ?_
  refine z_aload_n hC dX4_candidates_6 rfl rfl ?_
  refine z_iload_n hC dX4_candidates_7 rfl rfl ?_
  refine c_X4_281 hC (by decide) dX4_candidates_8 (Nat.le_of_ble_eq_true rfl) hV (fun r2 σ3 hV => ?_)
  refine z_if_ne (tgt := 18) hC dX4_candidates_11 (by decide) (fun hc => ?_) (fun hc => ?_)
  · replace hV := hV.2 hc
    refine z_iconst (v := 0) hC dX4_candidates_18 rfl ?_
    refine zz_sub (L' := [some (.ref (E.1.heap.size + 44)), some (.int a1)]) ⟨rfl, rfl, trivial⟩ ?_
    exact j_19 σ3 a1 0 hV
  · replace hV := hV.1 hc
    refine z_iconst (v := 1) hC dX4_candidates_14 rfl ?_
    refine z_goto (tgt := 19) hC dX4_candidates_15 (by decide) ?_
    refine zz_sub (L' := [some (.ref (E.1.heap.size + 44)), some (.int a1)]) ⟨rfl, rfl, trivial⟩ ?_
    exact j_19 σ3 a1 1 hV
def wp_X4_costOf (σ : ZS) (a1 : Int32) (Ret : Int32 → ZS → Prop) : Prop :=
    vp_in a1 576 ∧ (vp_in (zI σ (569 + 1 + ix a1) (ix 0)) 24 ∧ (vp_in a1 576 ∧ (vp_in (zI σ (569 + 1 + ix a1) (ix 1)) 24 ∧ (Ret (1 + (((zI σ (107 + 1 + ix (zI σ (569 + 1 + ix a1) (ix 0))) (ix 2)) + (zI σ (107 + 1 + ix (zI σ (569 + 1 + ix a1) (ix 1))) (ix 2))) / 10)) σ))))
set_option maxHeartbeats 4000000 in
theorem mz_X4_costOf {l : Launch} {E : ZE} (hE : EOK E) {σ : ZS} {a1 : Int32} {Ret : Int32 → ZS → Prop} (hV : wp_X4_costOf σ a1 Ret) : MZ l E NS yX4_costOf (ws_ yX4_costOf cX4_costOf 2 (some .int)) 1 σ [.ref (E.1.heap.size + 44), .int a1] (rI Ret) := by
  refine MZ.start (L := [some (.ref (E.1.heap.size + 44)), some (.int a1)]) hE (by decide) (Nat.le_of_ble_eq_true rfl) rfl fun C hCl hQo hC => ?_
  replace hC : Cx C E cX4_costOf 2 "RightTurnsModel" "costOf" (some .int) [] 1 := hC
  unfold wp_X4_costOf at hV
  refine z_iconst (v := 1) hC dX4_costOf_0 rfl ?_
  refine z_aload_n hC dX4_costOf_1 rfl rfl ?_
  refine g_X4_34_44 hC dX4_costOf_2 ?_
  refine z_aload_n hC dX4_costOf_5 rfl rfl ?_
  refine g_X4_71_44 hC dX4_costOf_6 ?_
  refine z_iload_n hC dX4_costOf_9 rfl rfl ?_
  obtain ⟨h1, hV⟩ := hV
  refine z_aalS hC dX4_costOf_10 (k_569 _) (by decide) ps_569 h1 ?_
  refine z_iconst (v := 0) hC dX4_costOf_11 rfl ?_
  refine z_iald hC dX4_costOf_12 (kr_569 _ (ix_lt h1)) (in_dec rfl) ?_
  obtain ⟨h2, hV⟩ := hV
  refine z_aalS hC dX4_costOf_13 (k_107 _) (by decide) ps_107 h2 ?_
  refine z_iconst (v := 2) hC dX4_costOf_14 rfl ?_
  refine z_iald hC dX4_costOf_15 (kr_107 _ (ix_lt h2)) (in_dec rfl) ?_
  refine z_aload_n hC dX4_costOf_16 rfl rfl ?_
  refine g_X4_34_44 hC dX4_costOf_17 ?_
  refine z_aload_n hC dX4_costOf_20 rfl rfl ?_
  refine g_X4_71_44 hC dX4_costOf_21 ?_
  refine z_iload_n hC dX4_costOf_24 rfl rfl ?_
  obtain ⟨h3, hV⟩ := hV
  refine z_aalS hC dX4_costOf_25 (k_569 _) (by decide) ps_569 h3 ?_
  refine z_iconst (v := 1) hC dX4_costOf_26 rfl ?_
  refine z_iald hC dX4_costOf_27 (kr_569 _ (ix_lt h3)) (in_dec rfl) ?_
  obtain ⟨h4, hV⟩ := hV
  refine z_aalS hC dX4_costOf_28 (k_107 _) (by decide) ps_107 h4 ?_
  refine z_iconst (v := 2) hC dX4_costOf_29 rfl ?_
  refine z_iald hC dX4_costOf_30 (kr_107 _ (ix_lt h4)) (in_dec rfl) ?_
  refine z_iadd hC dX4_costOf_31 ?_
  refine z_bipush (v := 10) hC dX4_costOf_32 rfl ?_
  refine z_idiv hC dX4_costOf_34 (by decide) ?_
  refine z_iadd hC dX4_costOf_35 ?_
  exact z_iret hC dX4_costOf_36 rfl (by rw [hQo]; exact ⟨_, rfl, hV⟩)
def wp_X4_flips (σ : ZS) (a1 : Int32) (Ret : ZS → Prop) : Prop :=
    vp_in a1 576 ∧ (∀ y2 : Int32, y2 = zI σ (569 + 1 + ix a1) (ix 0) → (vp_in y2 24 ∧ (vp_in a1 576 ∧ (vp_in y2 24 ∧ (∀ σ6 : ZS, σ6 = sI σ 565 (ix y2) ((zI σ 565 (ix y2)) ^^^ ((1 : Int32) <<< ((zI σ (569 + 1 + ix a1) (ix 1)) &&& 31))) → (Ret σ6))))))
set_option maxHeartbeats 4000000 in
theorem mz_X4_flips {l : Launch} {E : ZE} (hE : EOK E) {σ : ZS} {a1 : Int32} {Ret : ZS → Prop} (hV : wp_X4_flips σ a1 Ret) : MZ l E NS yX4_flips (ws_ yX4_flips cX4_flips 2 none) 1 σ [.ref (E.1.heap.size + 44), .int a1] (rV Ret) := by
  refine MZ.start (L := [some (.ref (E.1.heap.size + 44)), some (.int a1)]) hE (by decide) (Nat.le_of_ble_eq_true rfl) rfl fun C hCl hQo hC => ?_
  replace hC : Cx C E cX4_flips 2 "RightTurnsModel" "flips" none [] 1 := hC
  unfold wp_X4_flips at hV
  refine z_aload_n hC dX4_flips_0 rfl rfl ?_
  refine g_X4_58_44 hC dX4_flips_1 ?_
  refine z_aload_n hC dX4_flips_4 rfl rfl ?_
  refine g_X4_71_44 hC dX4_flips_5 ?_
  refine z_iload_n hC dX4_flips_8 rfl rfl ?_
  obtain ⟨h1, hV⟩ := hV
  refine z_aalS hC dX4_flips_9 (k_569 _) (by decide) ps_569 h1 ?_
  refine z_iconst (v := 0) hC dX4_flips_10 rfl ?_
  refine z_iald hC dX4_flips_11 (kr_569 _ (ix_lt h1)) (in_dec rfl) ?_
  obtain ⟨y2, e_y2⟩ : ∃ z, z = zI σ (569 + 1 + ix a1) (ix 0) := ⟨_, rfl⟩
  rw [← e_y2]
  replace hV := hV _ e_y2
  refine z_dup2 hC dX4_flips_12 rfl rfl ?_
  obtain ⟨h3, hV⟩ := hV
  refine z_iald hC dX4_flips_13 (k_565 _) (h3) ?_
  refine z_iconst (v := 1) hC dX4_flips_14 rfl ?_
  refine z_aload_n hC dX4_flips_15 rfl rfl ?_
  refine g_X4_71_44 hC dX4_flips_16 ?_
  refine z_iload_n hC dX4_flips_19 rfl rfl ?_
  obtain ⟨h4, hV⟩ := hV
  refine z_aalS hC dX4_flips_20 (k_569 _) (by decide) ps_569 h4 ?_
  refine z_iconst (v := 1) hC dX4_flips_21 rfl ?_
  refine z_iald hC dX4_flips_22 (kr_569 _ (ix_lt h4)) (in_dec rfl) ?_
  refine z_ishl hC dX4_flips_23 ?_
  refine z_ixor hC dX4_flips_24 ?_
  obtain ⟨h5, hV⟩ := hV
  refine z_iast hC dX4_flips_25 (k_565 _) (h5) ?_
  obtain ⟨σ6, e_σ6⟩ : ∃ z : ZS, z = sI σ 565 (ix y2) ((zI σ 565 (ix y2)) ^^^ ((1 : Int32) <<< ((zI σ (569 + 1 + ix a1) (ix 1)) &&& 31))) := ⟨_, rfl⟩
  replace hV := hV _ e_σ6
  rw [← e_σ6]
  exact z_vret hC dX4_flips_26 (by rw [hQo]; exact ⟨rfl, hV⟩)
def VL_X4_layReaches_64 (K50 : ZS → Int32 → Prop) (Ret : ZS → Prop) : Nat → ZS → Int32 → Int32 → Prop
  | 0 => fun _ _ _ => False
  | k + 1 => fun σ x1 x2 =>
    let K64 := VL_X4_layReaches_64 K50 Ret k
    ((x2 < (2 * (zI σ 47 (ix 1))) → (vp_in x2 48 ∧ ((((lg_cmp ((((zJ σ 567 (ix x2)).toUInt64 >>> (x1.toInt64.toUInt64 &&& Int64.toUInt64 63)).toInt64) &&& 1) 1) = 0 → (vp_in x2 48 ∧ (vp_in x1 48 ∧ (vp_in x2 48 ∧ (∀ σ7 : ZS, σ7 = sJ σ 567 (ix x2) ((zJ σ 567 (ix x2)) ||| (zJ σ 567 (ix x1))) → (∀ y8 : Int32, y8 = x2 + 1 → (K64 σ7 x1 y8))))))) ∧ (¬ (lg_cmp ((((zJ σ 567 (ix x2)).toUInt64 >>> (x1.toInt64.toUInt64 &&& Int64.toUInt64 63)).toInt64) &&& 1) 1) = 0 → (∀ y3 : Int32, y3 = x2 + 1 → (K64 σ x1 y3))))))) ∧ (¬ x2 < (2 * (zI σ 47 (ix 1))) → (∀ y1 : Int32, y1 = x1 + 1 → (K50 σ y1))))
def V_X4_layReaches_64 (K50 : ZS → Int32 → Prop) (Ret : ZS → Prop) (σ : ZS) (x1 : Int32) (x2 : Int32) : Prop := ∃ k, VL_X4_layReaches_64 K50 Ret k σ x1 x2
def VL_X4_layReaches_50 (Ret : ZS → Prop) : Nat → ZS → Int32 → Prop
  | 0 => fun _ _ => False
  | k + 1 => fun σ x1 =>
    let K50 := VL_X4_layReaches_50 Ret k
    ((x1 < (2 * (zI σ 47 (ix 1))) → (V_X4_layReaches_64 K50 Ret σ x1 0)) ∧ (¬ x1 < (2 * (zI σ 47 (ix 1))) → (Ret σ)))
def V_X4_layReaches_50 (Ret : ZS → Prop) (σ : ZS) (x1 : Int32) : Prop := ∃ k, VL_X4_layReaches_50 Ret k σ x1
def VL_X4_layReaches_2 (Ret : ZS → Prop) : Nat → ZS → Int32 → Prop
  | 0 => fun _ _ => False
  | k + 1 => fun σ x1 =>
    let K2 := VL_X4_layReaches_2 Ret k
    ((x1 < (2 * (zI σ 47 (ix 1))) → (wp_X4_isArc σ x1 (fun r9 σ10 => ((r9 = 0 → (vp_in x1 48 ∧ (∀ σ12 : ZS, σ12 = sJ σ10 567 (ix x1) 0 → (∀ y13 : Int32, y13 = x1 + 1 → (K2 σ12 y13))))) ∧ (¬ r9 = 0 → (vp_in x1 48 ∧ (vp_in x1 48 ∧ (∀ σ16 : ZS, σ16 = sJ σ10 567 (ix x1) ((zJ σ10 566 (ix x1)) ||| ((1 : Int64) <<< (x1.toInt64 &&& 63))) → (∀ y17 : Int32, y17 = x1 + 1 → (K2 σ16 y17)))))))))) ∧ (¬ x1 < (2 * (zI σ 47 (ix 1))) → (V_X4_layReaches_50 Ret σ 0)))
def V_X4_layReaches_2 (Ret : ZS → Prop) (σ : ZS) (x1 : Int32) : Prop := ∃ k, VL_X4_layReaches_2 Ret k σ x1
def wp_X4_layReaches (σ : ZS) (Ret : ZS → Prop) : Prop :=
    V_X4_layReaches_2 Ret σ 0
set_option maxHeartbeats 4000000 in
theorem mz_X4_layReaches {l : Launch} {E : ZE} (hE : EOK E) {σ : ZS} {Ret : ZS → Prop} (hV : wp_X4_layReaches σ Ret) : MZ l E NS yX4_layReaches (ws_ yX4_layReaches cX4_layReaches 3 none) 3 σ [.ref (E.1.heap.size + 44)] (rV Ret) := by
  refine MZ.start (L := [some (.ref (E.1.heap.size + 44)), none, none]) hE (by decide) (Nat.le_of_ble_eq_true rfl) rfl fun C hCl hQo hC => ?_
  replace hC : Cx C E cX4_layReaches 3 "RightTurnsModel" "layReaches" none [] 3 := hC
  unfold wp_X4_layReaches at hV
  have j_50 : ∀ (σ : ZS) (x1 : Int32), V_X4_layReaches_50 Ret σ x1 → zz C E NS 3 σ 50 [some (.ref (E.1.heap.size + 44)), some (.int x1), none] [] := by
    intro σ x1 ⟨k, hV⟩
    revert σ x1
    induction k with
    | zero => exact fun _ _ hV => hV.elim
    | succ k j_50 =>
      intro σ x1 hV
      simp only [VL_X4_layReaches_50] at hV
      generalize hKe50 : VL_X4_layReaches_50 Ret k = K50 at hV j_50
      clear hKe50
      have j_64 : ∀ (σ : ZS) (x1 : Int32) (x2 : Int32), V_X4_layReaches_64 K50 Ret σ x1 x2 → zz C E NS 3 σ 64 [some (.ref (E.1.heap.size + 44)), some (.int x1), some (.int x2)] [] := by
        intro σ x1 x2 ⟨k, hV⟩
        revert σ x1 x2
        induction k with
        | zero => exact fun _ _ _ hV => hV.elim
        | succ k j_64 =>
          intro σ x1 x2 hV
          simp only [VL_X4_layReaches_64] at hV
          generalize hKe64 : VL_X4_layReaches_64 K50 Ret k = K64 at hV j_64
          clear hKe64
          refine z_iload_n hC dX4_layReaches_64 rfl rfl ?_
          refine z_iconst (v := 2) hC dX4_layReaches_65 rfl ?_
          refine z_aload_n hC dX4_layReaches_66 rfl rfl ?_
          refine g_X4_20_44 hC dX4_layReaches_67 ?_
          refine z_iconst (v := 1) hC dX4_layReaches_70 rfl ?_
          refine z_iald hC dX4_layReaches_71 (k_47 _) (in_dec rfl) ?_
          refine z_imul hC dX4_layReaches_72 ?_
          refine z_icmp_ge (tgt := 112) hC dX4_layReaches_73 (by decide) (fun hc => ?_) (fun hc => ?_)
          · replace hV := hV.2 hc
            obtain ⟨y1, e_y1⟩ : ∃ z : Int32, z = x1 + 1 := ⟨_, rfl⟩
            replace hV := hV _ e_y1
            refine z_iinc (v := y1) hC dX4_layReaches_112 rfl (by rw [e_y1]; rfl) (Nat.le_of_ble_eq_true rfl) rfl rfl ?_
            refine z_goto (tgt := 50) hC dX4_layReaches_115 (by decide) ?_
            refine zz_sub (L' := [some (.ref (E.1.heap.size + 44)), some (.int y1), none]) ⟨rfl, rfl, trivial⟩ ?_
            exact j_50 σ y1 hV
          · replace hV := hV.1 hc
            refine z_aload_n hC dX4_layReaches_76 rfl rfl ?_
            refine g_X4_65_44 hC dX4_layReaches_77 ?_
            refine z_iload_n hC dX4_layReaches_80 rfl rfl ?_
            obtain ⟨h2, hV⟩ := hV
            refine z_lald hC dX4_layReaches_81 (k_567 _) (h2) ?_
            refine z_iload_n hC dX4_layReaches_82 rfl rfl ?_
            refine z_lushr hC dX4_layReaches_83 ?_
            refine z_lconst (v := 1) hC dX4_layReaches_84 rfl ?_
            refine z_land hC dX4_layReaches_85 ?_
            refine z_lconst (v := 1) hC dX4_layReaches_86 rfl ?_
            refine z_lcmp hC dX4_layReaches_87 ?_
            refine z_if_ne (tgt := 106) hC dX4_layReaches_88 (by decide) (fun hc => ?_) (fun hc => ?_)
            · replace hV := hV.2 hc
              obtain ⟨y3, e_y3⟩ : ∃ z : Int32, z = x2 + 1 := ⟨_, rfl⟩
              replace hV := hV _ e_y3
              refine z_iinc (v := y3) hC dX4_layReaches_106 rfl (by rw [e_y3]; rfl) (Nat.le_of_ble_eq_true rfl) rfl rfl ?_
              refine z_goto (tgt := 64) hC dX4_layReaches_109 (by decide) ?_
              refine zz_sub (L' := [some (.ref (E.1.heap.size + 44)), some (.int x1), some (.int y3)]) ⟨rfl, rfl, rfl, trivial⟩ ?_
              exact j_64 σ x1 y3 hV
            · replace hV := hV.1 hc
              refine z_aload_n hC dX4_layReaches_91 rfl rfl ?_
              refine g_X4_65_44 hC dX4_layReaches_92 ?_
              refine z_iload_n hC dX4_layReaches_95 rfl rfl ?_
              refine z_dup2 hC dX4_layReaches_96 rfl rfl ?_
              obtain ⟨h4, hV⟩ := hV
              refine z_lald hC dX4_layReaches_97 (k_567 _) (h4) ?_
              refine z_aload_n hC dX4_layReaches_98 rfl rfl ?_
              refine g_X4_65_44 hC dX4_layReaches_99 ?_
              refine z_iload_n hC dX4_layReaches_102 rfl rfl ?_
              obtain ⟨h5, hV⟩ := hV
              refine z_lald hC dX4_layReaches_103 (k_567 _) (h5) ?_
              refine z_lor hC dX4_layReaches_104 ?_
              obtain ⟨h6, hV⟩ := hV
              refine z_last hC dX4_layReaches_105 (k_567 _) (h6) ?_
              obtain ⟨σ7, e_σ7⟩ : ∃ z : ZS, z = sJ σ 567 (ix x2) ((zJ σ 567 (ix x2)) ||| (zJ σ 567 (ix x1))) := ⟨_, rfl⟩
              replace hV := hV _ e_σ7
              rw [← e_σ7]
              obtain ⟨y8, e_y8⟩ : ∃ z : Int32, z = x2 + 1 := ⟨_, rfl⟩
              replace hV := hV _ e_y8
              refine z_iinc (v := y8) hC dX4_layReaches_106 rfl (by rw [e_y8]; rfl) (Nat.le_of_ble_eq_true rfl) rfl rfl ?_
              refine z_goto (tgt := 64) hC dX4_layReaches_109 (by decide) ?_
              refine zz_sub (L' := [some (.ref (E.1.heap.size + 44)), some (.int x1), some (.int y8)]) ⟨rfl, rfl, rfl, trivial⟩ ?_
              exact j_64 σ7 x1 y8 hV
      refine z_iload_n hC dX4_layReaches_50 rfl rfl ?_
      refine z_iconst (v := 2) hC dX4_layReaches_51 rfl ?_
      refine z_aload_n hC dX4_layReaches_52 rfl rfl ?_
      refine g_X4_20_44 hC dX4_layReaches_53 ?_
      refine z_iconst (v := 1) hC dX4_layReaches_56 rfl ?_
      refine z_iald hC dX4_layReaches_57 (k_47 _) (in_dec rfl) ?_
      refine z_imul hC dX4_layReaches_58 ?_
      refine z_icmp_ge (tgt := 118) hC dX4_layReaches_59 (by decide) (fun hc => ?_) (fun hc => ?_)
      · replace hV := hV.2 hc
        exact z_vret hC dX4_layReaches_118 (by rw [hQo]; exact ⟨rfl, hV⟩)
      · replace hV := hV.1 hc
        refine z_iconst (v := 0) hC dX4_layReaches_62 rfl ?_
        refine z_istore_n hC dX4_layReaches_63 rfl (Nat.le_of_ble_eq_true rfl) rfl rfl ?_
        refine zz_sub (L' := [some (.ref (E.1.heap.size + 44)), some (.int x1), some (.int 0)]) ⟨rfl, rfl, rfl, trivial⟩ ?_
        exact j_64 σ x1 0 hV
  have j_2 : ∀ (σ : ZS) (x1 : Int32), V_X4_layReaches_2 Ret σ x1 → zz C E NS 3 σ 2 [some (.ref (E.1.heap.size + 44)), some (.int x1), none] [] := by
    intro σ x1 ⟨k, hV⟩
    revert σ x1
    induction k with
    | zero => exact fun _ _ hV => hV.elim
    | succ k j_2 =>
      intro σ x1 hV
      simp only [VL_X4_layReaches_2] at hV
      generalize hKe2 : VL_X4_layReaches_2 Ret k = K2 at hV j_2
      clear hKe2
      refine z_iload_n hC dX4_layReaches_2 rfl rfl ?_
      refine z_iconst (v := 2) hC dX4_layReaches_3 rfl ?_
      refine z_aload_n hC dX4_layReaches_4 rfl rfl ?_
      refine g_X4_20_44 hC dX4_layReaches_5 ?_
      refine z_iconst (v := 1) hC dX4_layReaches_8 rfl ?_
      refine z_iald hC dX4_layReaches_9 (k_47 _) (in_dec rfl) ?_
      refine z_imul hC dX4_layReaches_10 ?_
      refine z_icmp_ge (tgt := 48) hC dX4_layReaches_11 (by decide) (fun hc => ?_) (fun hc => ?_)
      · replace hV := hV.2 hc
        refine z_iconst (v := 0) hC dX4_layReaches_48 rfl ?_
        refine z_istore_n hC dX4_layReaches_49 rfl (Nat.le_of_ble_eq_true rfl) rfl rfl ?_
        refine zz_sub (L' := [some (.ref (E.1.heap.size + 44)), some (.int 0), none]) ⟨rfl, rfl, trivial⟩ ?_
        exact j_50 σ 0 hV
      · replace hV := hV.1 hc
        refine z_aload_n hC dX4_layReaches_14 rfl rfl ?_
        refine g_X4_65_44 hC dX4_layReaches_15 ?_
        refine z_iload_n hC dX4_layReaches_18 rfl rfl ?_
        refine z_aload_n hC dX4_layReaches_19 rfl rfl ?_
        refine z_iload_n hC dX4_layReaches_20 rfl rfl ?_
        refine c_X4_262 hC (by decide) dX4_layReaches_21 (Nat.le_of_ble_eq_true rfl) hV (fun r9 σ10 hV => ?_)
        refine z_if_eq (tgt := 40) hC dX4_layReaches_24 (by decide) (fun hc => ?_) (fun hc => ?_)
        · replace hV := hV.1 hc
          refine z_lconst (v := 0) hC dX4_layReaches_40 rfl ?_
          obtain ⟨h11, hV⟩ := hV
          refine z_last hC dX4_layReaches_41 (k_567 _) (h11) ?_
          obtain ⟨σ12, e_σ12⟩ : ∃ z : ZS, z = sJ σ10 567 (ix x1) 0 := ⟨_, rfl⟩
          replace hV := hV _ e_σ12
          rw [← e_σ12]
          obtain ⟨y13, e_y13⟩ : ∃ z : Int32, z = x1 + 1 := ⟨_, rfl⟩
          replace hV := hV _ e_y13
          refine z_iinc (v := y13) hC dX4_layReaches_42 rfl (by rw [e_y13]; rfl) (Nat.le_of_ble_eq_true rfl) rfl rfl ?_
          refine z_goto (tgt := 2) hC dX4_layReaches_45 (by decide) ?_
          refine zz_sub (L' := [some (.ref (E.1.heap.size + 44)), some (.int y13), none]) ⟨rfl, rfl, trivial⟩ ?_
          exact j_2 σ12 y13 hV
        · replace hV := hV.2 hc
          refine z_aload_n hC dX4_layReaches_27 rfl rfl ?_
          refine g_X4_61_44 hC dX4_layReaches_28 ?_
          refine z_iload_n hC dX4_layReaches_31 rfl rfl ?_
          obtain ⟨h14, hV⟩ := hV
          refine z_lald hC dX4_layReaches_32 (k_566 _) (h14) ?_
          refine z_lconst (v := 1) hC dX4_layReaches_33 rfl ?_
          refine z_iload_n hC dX4_layReaches_34 rfl rfl ?_
          refine z_lshl hC dX4_layReaches_35 ?_
          refine z_lor hC dX4_layReaches_36 ?_
          refine z_goto (tgt := 41) hC dX4_layReaches_37 (by decide) ?_
          obtain ⟨h15, hV⟩ := hV
          refine z_last hC dX4_layReaches_41 (k_567 _) (h15) ?_
          obtain ⟨σ16, e_σ16⟩ : ∃ z : ZS, z = sJ σ10 567 (ix x1) ((zJ σ10 566 (ix x1)) ||| ((1 : Int64) <<< (x1.toInt64 &&& 63))) := ⟨_, rfl⟩
          replace hV := hV _ e_σ16
          rw [← e_σ16]
          obtain ⟨y17, e_y17⟩ : ∃ z : Int32, z = x1 + 1 := ⟨_, rfl⟩
          replace hV := hV _ e_y17
          refine z_iinc (v := y17) hC dX4_layReaches_42 rfl (by rw [e_y17]; rfl) (Nat.le_of_ble_eq_true rfl) rfl rfl ?_
          refine z_goto (tgt := 2) hC dX4_layReaches_45 (by decide) ?_
          refine zz_sub (L' := [some (.ref (E.1.heap.size + 44)), some (.int y17), none]) ⟨rfl, rfl, trivial⟩ ?_
          exact j_2 σ16 y17 hV
  refine z_iconst (v := 0) hC dX4_layReaches_0 rfl ?_
  refine z_istore_n hC dX4_layReaches_1 rfl (Nat.le_of_ble_eq_true rfl) rfl rfl ?_
  refine zz_sub (L' := [some (.ref (E.1.heap.size + 44)), some (.int 0), none]) ⟨rfl, rfl, trivial⟩ ?_
  exact j_2 σ 0 hV
def VL_X4_reachOf_41 (K6 : ZS → Int32 → Int32 → Int32 → Prop) (Ret : Int32 → ZS → Prop) : Nat → ZS → Int32 → Int32 → Int32 → Int32 → Prop
  | 0 => fun _ _ _ _ _ => False
  | k + 1 => fun σ x1 x2 x3 x4 =>
    let K41 := VL_X4_reachOf_41 K6 Ret k
    ((x4 < (2 * (zI σ 47 (ix 1))) → (vp_in x3 48 ∧ ((((lg_cmp ((((zJ σ 567 (ix x3)).toUInt64 >>> (x4.toInt64.toUInt64 &&& Int64.toUInt64 63)).toInt64) &&& 1) 1) = 0 → (wp_X4_endOf σ x4 (fun r10 σ11 => ∀ y12 : Int32, y12 = x2 ||| ((1 : Int32) <<< (r10 &&& 31)) → (∀ y13 : Int32, y13 = x4 + 1 → (K41 σ11 x1 y12 x3 y13))))) ∧ (¬ (lg_cmp ((((zJ σ 567 (ix x3)).toUInt64 >>> (x4.toInt64.toUInt64 &&& Int64.toUInt64 63)).toInt64) &&& 1) 1) = 0 → (∀ y9 : Int32, y9 = x4 + 1 → (K41 σ x1 x2 x3 y9))))))) ∧ (¬ x4 < (2 * (zI σ 47 (ix 1))) → (∀ y7 : Int32, y7 = x3 + 1 → (K6 σ x1 x2 y7))))
def V_X4_reachOf_41 (K6 : ZS → Int32 → Int32 → Int32 → Prop) (Ret : Int32 → ZS → Prop) (σ : ZS) (x1 : Int32) (x2 : Int32) (x3 : Int32) (x4 : Int32) : Prop := ∃ k, VL_X4_reachOf_41 K6 Ret k σ x1 x2 x3 x4
def VL_X4_reachOf_6 (Ret : Int32 → ZS → Prop) : Nat → ZS → Int32 → Int32 → Int32 → Prop
  | 0 => fun _ _ _ _ => False
  | k + 1 => fun σ x1 x2 x3 =>
    let K6 := VL_X4_reachOf_6 Ret k
    ((x3 < (2 * (zI σ 47 (ix 1))) → (wp_X4_isArc σ x3 (fun r2 σ3 => ((r2 = 0 → (∀ y4 : Int32, y4 = x3 + 1 → (K6 σ3 x1 x2 y4))) ∧ (¬ r2 = 0 → (wp_X4_beginOf σ3 x3 (fun r5 σ6 => ((r5 = x1 → (V_X4_reachOf_41 K6 Ret σ6 x1 x2 x3 0)) ∧ (¬ r5 = x1 → (∀ y14 : Int32, y14 = x3 + 1 → (K6 σ6 x1 x2 y14))))))))))) ∧ (¬ x3 < (2 * (zI σ 47 (ix 1))) → (Ret x2 σ)))
def V_X4_reachOf_6 (Ret : Int32 → ZS → Prop) (σ : ZS) (x1 : Int32) (x2 : Int32) (x3 : Int32) : Prop := ∃ k, VL_X4_reachOf_6 Ret k σ x1 x2 x3
def wp_X4_reachOf (σ : ZS) (a1 : Int32) (Ret : Int32 → ZS → Prop) : Prop :=
    ∀ y1 : Int32, y1 = (1 : Int32) <<< (a1 &&& 31) → (V_X4_reachOf_6 Ret σ a1 y1 0)
set_option maxHeartbeats 4000000 in
theorem mz_X4_reachOf {l : Launch} {E : ZE} (hE : EOK E) {σ : ZS} {a1 : Int32} {Ret : Int32 → ZS → Prop} (hV : wp_X4_reachOf σ a1 Ret) : MZ l E NS yX4_reachOf (ws_ yX4_reachOf cX4_reachOf 5 (some .int)) 3 σ [.ref (E.1.heap.size + 44), .int a1] (rI Ret) := by
  refine MZ.start (L := [some (.ref (E.1.heap.size + 44)), some (.int a1), none, none, none]) hE (by decide) (Nat.le_of_ble_eq_true rfl) rfl fun C hCl hQo hC => ?_
  replace hC : Cx C E cX4_reachOf 5 "RightTurnsModel" "reachOf" (some .int) [] 3 := hC
  unfold wp_X4_reachOf at hV
  have j_6 : ∀ (σ : ZS) (x1 : Int32) (x2 : Int32) (x3 : Int32), V_X4_reachOf_6 Ret σ x1 x2 x3 → zz C E NS 5 σ 6 [some (.ref (E.1.heap.size + 44)), some (.int x1), some (.int x2), some (.int x3), none] [] := by
    intro σ x1 x2 x3 ⟨k, hV⟩
    revert σ x1 x2 x3
    induction k with
    | zero => exact fun _ _ _ _ hV => hV.elim
    | succ k j_6 =>
      intro σ x1 x2 x3 hV
      simp only [VL_X4_reachOf_6] at hV
      generalize hKe6 : VL_X4_reachOf_6 Ret k = K6 at hV j_6
      clear hKe6
      have j_41 : ∀ (σ : ZS) (x1 : Int32) (x2 : Int32) (x3 : Int32) (x4 : Int32), V_X4_reachOf_41 K6 Ret σ x1 x2 x3 x4 → zz C E NS 5 σ 41 [some (.ref (E.1.heap.size + 44)), some (.int x1), some (.int x2), some (.int x3), some (.int x4)] [] := by
        intro σ x1 x2 x3 x4 ⟨k, hV⟩
        revert σ x1 x2 x3 x4
        induction k with
        | zero => exact fun _ _ _ _ _ hV => hV.elim
        | succ k j_41 =>
          intro σ x1 x2 x3 x4 hV
          simp only [VL_X4_reachOf_41] at hV
          generalize hKe41 : VL_X4_reachOf_41 K6 Ret k = K41 at hV j_41
          clear hKe41
          refine z_iload hC dX4_reachOf_41 rfl ?_
          refine z_iconst (v := 2) hC dX4_reachOf_43 rfl ?_
          refine z_aload_n hC dX4_reachOf_44 rfl rfl ?_
          refine g_X4_20_44 hC dX4_reachOf_45 ?_
          refine z_iconst (v := 1) hC dX4_reachOf_48 rfl ?_
          refine z_iald hC dX4_reachOf_49 (k_47 _) (in_dec rfl) ?_
          refine z_imul hC dX4_reachOf_50 ?_
          refine z_icmp_ge (tgt := 87) hC dX4_reachOf_51 (by decide) (fun hc => ?_) (fun hc => ?_)
          · replace hV := hV.2 hc
            obtain ⟨y7, e_y7⟩ : ∃ z : Int32, z = x3 + 1 := ⟨_, rfl⟩
            replace hV := hV _ e_y7
            refine z_iinc (v := y7) hC dX4_reachOf_87 rfl (by rw [e_y7]; rfl) (Nat.le_of_ble_eq_true rfl) rfl rfl ?_
            refine z_goto (tgt := 6) hC dX4_reachOf_90 (by decide) ?_
            refine zz_sub (L' := [some (.ref (E.1.heap.size + 44)), some (.int x1), some (.int x2), some (.int y7), none]) ⟨rfl, rfl, rfl, rfl, trivial⟩ ?_
            exact j_6 σ x1 x2 y7 hV
          · replace hV := hV.1 hc
            refine z_aload_n hC dX4_reachOf_54 rfl rfl ?_
            refine g_X4_65_44 hC dX4_reachOf_55 ?_
            refine z_iload_n hC dX4_reachOf_58 rfl rfl ?_
            obtain ⟨h8, hV⟩ := hV
            refine z_lald hC dX4_reachOf_59 (k_567 _) (h8) ?_
            refine z_iload hC dX4_reachOf_60 rfl ?_
            refine z_lushr hC dX4_reachOf_62 ?_
            refine z_lconst (v := 1) hC dX4_reachOf_63 rfl ?_
            refine z_land hC dX4_reachOf_64 ?_
            refine z_lconst (v := 1) hC dX4_reachOf_65 rfl ?_
            refine z_lcmp hC dX4_reachOf_66 ?_
            refine z_if_ne (tgt := 81) hC dX4_reachOf_67 (by decide) (fun hc => ?_) (fun hc => ?_)
            · replace hV := hV.2 hc
              obtain ⟨y9, e_y9⟩ : ∃ z : Int32, z = x4 + 1 := ⟨_, rfl⟩
              replace hV := hV _ e_y9
              refine z_iinc (v := y9) hC dX4_reachOf_81 rfl (by rw [e_y9]; rfl) (Nat.le_of_ble_eq_true rfl) rfl rfl ?_
              refine z_goto (tgt := 41) hC dX4_reachOf_84 (by decide) ?_
              refine zz_sub (L' := [some (.ref (E.1.heap.size + 44)), some (.int x1), some (.int x2), some (.int x3), some (.int y9)]) ⟨rfl, rfl, rfl, rfl, rfl, trivial⟩ ?_
              exact j_41 σ x1 x2 x3 y9 hV
            · replace hV := hV.1 hc
              refine z_iload_n hC dX4_reachOf_70 rfl rfl ?_
              refine z_iconst (v := 1) hC dX4_reachOf_71 rfl ?_
              refine z_aload_n hC dX4_reachOf_72 rfl rfl ?_
              refine z_iload hC dX4_reachOf_73 rfl ?_
              refine c_X4_250 hC (by decide) dX4_reachOf_75 (Nat.le_of_ble_eq_true rfl) hV (fun r10 σ11 hV => ?_)
              refine z_ishl hC dX4_reachOf_78 ?_
              refine z_ior hC dX4_reachOf_79 ?_
              obtain ⟨y12, e_y12⟩ : ∃ z, z = x2 ||| ((1 : Int32) <<< (r10 &&& 31)) := ⟨_, rfl⟩
              rw [← e_y12]
              replace hV := hV _ e_y12
              refine z_istore_n hC dX4_reachOf_80 rfl (Nat.le_of_ble_eq_true rfl) rfl rfl ?_
              obtain ⟨y13, e_y13⟩ : ∃ z : Int32, z = x4 + 1 := ⟨_, rfl⟩
              replace hV := hV _ e_y13
              refine z_iinc (v := y13) hC dX4_reachOf_81 rfl (by rw [e_y13]; rfl) (Nat.le_of_ble_eq_true rfl) rfl rfl ?_
              refine z_goto (tgt := 41) hC dX4_reachOf_84 (by decide) ?_
              refine zz_sub (L' := [some (.ref (E.1.heap.size + 44)), some (.int x1), some (.int y12), some (.int x3), some (.int y13)]) ⟨rfl, rfl, rfl, rfl, rfl, trivial⟩ ?_
              exact j_41 σ11 x1 y12 x3 y13 hV
      refine z_iload_n hC dX4_reachOf_6 rfl rfl ?_
      refine z_iconst (v := 2) hC dX4_reachOf_7 rfl ?_
      refine z_aload_n hC dX4_reachOf_8 rfl rfl ?_
      refine g_X4_20_44 hC dX4_reachOf_9 ?_
      refine z_iconst (v := 1) hC dX4_reachOf_12 rfl ?_
      refine z_iald hC dX4_reachOf_13 (k_47 _) (in_dec rfl) ?_
      refine z_imul hC dX4_reachOf_14 ?_
      refine z_icmp_ge (tgt := 93) hC dX4_reachOf_15 (by decide) (fun hc => ?_) (fun hc => ?_)
      · replace hV := hV.2 hc
        refine z_iload_n hC dX4_reachOf_93 rfl rfl ?_
        exact z_iret hC dX4_reachOf_94 rfl (by rw [hQo]; exact ⟨_, rfl, hV⟩)
      · replace hV := hV.1 hc
        refine z_aload_n hC dX4_reachOf_18 rfl rfl ?_
        refine z_iload_n hC dX4_reachOf_19 rfl rfl ?_
        refine c_X4_262 hC (by decide) dX4_reachOf_20 (Nat.le_of_ble_eq_true rfl) hV (fun r2 σ3 hV => ?_)
        refine z_if_eq (tgt := 87) hC dX4_reachOf_23 (by decide) (fun hc => ?_) (fun hc => ?_)
        · replace hV := hV.1 hc
          obtain ⟨y4, e_y4⟩ : ∃ z : Int32, z = x3 + 1 := ⟨_, rfl⟩
          replace hV := hV _ e_y4
          refine z_iinc (v := y4) hC dX4_reachOf_87 rfl (by rw [e_y4]; rfl) (Nat.le_of_ble_eq_true rfl) rfl rfl ?_
          refine z_goto (tgt := 6) hC dX4_reachOf_90 (by decide) ?_
          refine zz_sub (L' := [some (.ref (E.1.heap.size + 44)), some (.int x1), some (.int x2), some (.int y4), none]) ⟨rfl, rfl, rfl, rfl, trivial⟩ ?_
          exact j_6 σ3 x1 x2 y4 hV
        · replace hV := hV.2 hc
          refine z_aload_n hC dX4_reachOf_26 rfl rfl ?_
          refine z_iload_n hC dX4_reachOf_27 rfl rfl ?_
          refine c_X4_253 hC (by decide) dX4_reachOf_28 (Nat.le_of_ble_eq_true rfl) hV (fun r5 σ6 hV => ?_)
          refine z_iload_n hC dX4_reachOf_31 rfl rfl ?_
          refine z_icmp_eq (tgt := 38) hC dX4_reachOf_32 (by decide) (fun hc => ?_) (fun hc => ?_)
          · replace hV := hV.1 hc
            refine z_iconst (v := 0) hC dX4_reachOf_38 rfl ?_
            refine z_istore hC dX4_reachOf_39 (Nat.le_of_ble_eq_true rfl) rfl rfl ?_
            refine zz_sub (L' := [some (.ref (E.1.heap.size + 44)), some (.int x1), some (.int x2), some (.int x3), some (.int 0)]) ⟨rfl, rfl, rfl, rfl, rfl, trivial⟩ ?_
            exact j_41 σ6 x1 x2 x3 0 hV
          · replace hV := hV.2 hc
            refine z_goto (tgt := 87) hC dX4_reachOf_35 (by decide) ?_
            obtain ⟨y14, e_y14⟩ : ∃ z : Int32, z = x3 + 1 := ⟨_, rfl⟩
            replace hV := hV _ e_y14
            refine z_iinc (v := y14) hC dX4_reachOf_87 rfl (by rw [e_y14]; rfl) (Nat.le_of_ble_eq_true rfl) rfl rfl ?_
            refine z_goto (tgt := 6) hC dX4_reachOf_90 (by decide) ?_
            refine zz_sub (L' := [some (.ref (E.1.heap.size + 44)), some (.int x1), some (.int x2), some (.int y14), none]) ⟨rfl, rfl, rfl, rfl, trivial⟩ ?_
            exact j_6 σ6 x1 x2 y14 hV
  refine z_iconst (v := 1) hC dX4_reachOf_0 rfl ?_
  refine z_iload_n hC dX4_reachOf_1 rfl rfl ?_
  refine z_ishl hC dX4_reachOf_2 ?_
  obtain ⟨y1, e_y1⟩ : ∃ z, z = (1 : Int32) <<< (a1 &&& 31) := ⟨_, rfl⟩
  rw [← e_y1]
  replace hV := hV _ e_y1
  refine z_istore_n hC dX4_reachOf_3 rfl (Nat.le_of_ble_eq_true rfl) rfl rfl ?_
  refine z_iconst (v := 0) hC dX4_reachOf_4 rfl ?_
  refine z_istore_n hC dX4_reachOf_5 rfl (Nat.le_of_ble_eq_true rfl) rfl rfl ?_
  refine zz_sub (L' := [some (.ref (E.1.heap.size + 44)), some (.int a1), some (.int y1), some (.int 0), none]) ⟨rfl, rfl, rfl, rfl, trivial⟩ ?_
  exact j_6 σ a1 y1 0 hV
