set_option maxRecDepth 100000
def l_corner : List Int32 := [99, 111, 114, 110, 101, 114]
theorem lit_corner {E : ZE} (hE : EOK E) : ∃ q v : Nat, (Term.string "RightTurns$Reader" 101).eval #[] E.1 none [] E.1 = some (.ref q) ∧ FS E q v l_corner := lit_of hE 101 l_corner (by decide) (by decide +kernel) (by decide +kernel) (by decide +kernel) (by decide +kernel) (by decide +kernel)
def l_street : List Int32 := [115, 116, 114, 101, 101, 116]
theorem lit_street {E : ZE} (hE : EOK E) : ∃ q v : Nat, (Term.string "RightTurns$Reader" 107).eval #[] E.1 none [] E.1 = some (.ref q) ∧ FS E q v l_street := lit_of hE 107 l_street (by decide) (by decide +kernel) (by decide +kernel) (by decide +kernel) (by decide +kernel) (by decide +kernel)
def l_rider : List Int32 := [114, 105, 100, 101, 114]
theorem lit_rider {E : ZE} (hE : EOK E) : ∃ q v : Nat, (Term.string "RightTurns$Reader" 109).eval #[] E.1 none [] E.1 = some (.ref q) ∧ FS E q v l_rider := lit_of hE 109 l_rider (by decide) (by decide +kernel) (by decide +kernel) (by decide +kernel) (by decide +kernel) (by decide +kernel)
def l_box : List Int32 := [98, 111, 120]
theorem lit_box {E : ZE} (hE : EOK E) : ∃ q v : Nat, (Term.string "RightTurns$Reader" 111).eval #[] E.1 none [] E.1 = some (.ref q) ∧ FS E q v l_box := lit_of hE 111 l_box (by decide) (by decide +kernel) (by decide +kernel) (by decide +kernel) (by decide +kernel) (by decide +kernel)
def l_one : List Int32 := [111, 110, 101]
theorem lit_one {E : ZE} (hE : EOK E) : ∃ q v : Nat, (Term.string "RightTurns$Reader" 113).eval #[] E.1 none [] E.1 = some (.ref q) ∧ FS E q v l_one := lit_of hE 113 l_one (by decide) (by decide +kernel) (by decide +kernel) (by decide +kernel) (by decide +kernel) (by decide +kernel)
def l_no : List Int32 := [110, 111]
theorem lit_no {E : ZE} (hE : EOK E) : ∃ q v : Nat, (Term.string "RightTurns$Reader" 115).eval #[] E.1 none [] E.1 = some (.ref q) ∧ FS E q v l_no := lit_of hE 115 l_no (by decide) (by decide +kernel) (by decide +kernel) (by decide +kernel) (by decide +kernel) (by decide +kernel)
def l_may : List Int32 := [109, 97, 121]
theorem lit_may {E : ZE} (hE : EOK E) : ∃ q v : Nat, (Term.string "RightTurns$Reader" 117).eval #[] E.1 none [] E.1 = some (.ref q) ∧ FS E q v l_may := lit_of hE 117 l_may (by decide) (by decide +kernel) (by decide +kernel) (by decide +kernel) (by decide +kernel) (by decide +kernel)
def wp_J16_bitCount (σ : ZS) (a0 : Int32) (Ret : Int32 → ZS → Prop) : Prop :=
    ∀ y1 : Int32, y1 = a0 - (((a0.toUInt32 >>> ((1 : Int32).toUInt32 &&& Int32.toUInt32 31)).toInt32) &&& 1431655765) → (∀ y2 : Int32, y2 = (y1 &&& 858993459) + (((y1.toUInt32 >>> ((2 : Int32).toUInt32 &&& Int32.toUInt32 31)).toInt32) &&& 858993459) → (∀ y3 : Int32, y3 = (y2 + ((y2.toUInt32 >>> ((4 : Int32).toUInt32 &&& Int32.toUInt32 31)).toInt32)) &&& 252645135 → (∀ y4 : Int32, y4 = y3 + ((y3.toUInt32 >>> ((8 : Int32).toUInt32 &&& Int32.toUInt32 31)).toInt32) → (∀ y5 : Int32, y5 = y4 + ((y4.toUInt32 >>> ((16 : Int32).toUInt32 &&& Int32.toUInt32 31)).toInt32) → (Ret (y5 &&& 63) σ)))))
set_option maxHeartbeats 4000000 in
theorem mz_J16_bitCount {l : Launch} {E : ZE} (hE : EOK E) {σ : ZS} {a0 : Int32} {Ret : Int32 → ZS → Prop} (hV : wp_J16_bitCount σ a0 Ret) : MZ l E NS yJ16_bitCount (ws_ yJ16_bitCount cJ16_bitCount 1 (some .int)) 1 σ [.int a0] (rI Ret) := by
  refine MZ.start (L := [some (.int a0)]) hE (by decide) (Nat.le_of_ble_eq_true rfl) rfl fun C hCl hQo hC => ?_
  replace hC : Cx C E cJ16_bitCount 1 "java/lang/Integer" "bitCount" (some .int) [] 1 := hC
  unfold wp_J16_bitCount at hV
  refine z_iload_n hC dJ16_bitCount_0 rfl rfl ?_
  refine z_iload_n hC dJ16_bitCount_1 rfl rfl ?_
  refine z_iconst (v := 1) hC dJ16_bitCount_2 rfl ?_
  refine z_iushr hC dJ16_bitCount_3 ?_
  refine z_ldcw hC dJ16_bitCount_4 q913 ?_
  refine z_iand hC dJ16_bitCount_7 ?_
  refine z_isub hC dJ16_bitCount_8 ?_
  obtain ⟨y1, e_y1⟩ : ∃ z, z = a0 - (((a0.toUInt32 >>> ((1 : Int32).toUInt32 &&& Int32.toUInt32 31)).toInt32) &&& 1431655765) := ⟨_, rfl⟩
  rw [← e_y1]
  replace hV := hV _ e_y1
  refine z_istore_n hC dJ16_bitCount_9 rfl (Nat.le_of_ble_eq_true rfl) rfl rfl ?_
  refine z_iload_n hC dJ16_bitCount_10 rfl rfl ?_
  refine z_ldcw hC dJ16_bitCount_11 q914 ?_
  refine z_iand hC dJ16_bitCount_14 ?_
  refine z_iload_n hC dJ16_bitCount_15 rfl rfl ?_
  refine z_iconst (v := 2) hC dJ16_bitCount_16 rfl ?_
  refine z_iushr hC dJ16_bitCount_17 ?_
  refine z_ldcw hC dJ16_bitCount_18 q914 ?_
  refine z_iand hC dJ16_bitCount_21 ?_
  refine z_iadd hC dJ16_bitCount_22 ?_
  obtain ⟨y2, e_y2⟩ : ∃ z, z = (y1 &&& 858993459) + (((y1.toUInt32 >>> ((2 : Int32).toUInt32 &&& Int32.toUInt32 31)).toInt32) &&& 858993459) := ⟨_, rfl⟩
  rw [← e_y2]
  replace hV := hV _ e_y2
  refine z_istore_n hC dJ16_bitCount_23 rfl (Nat.le_of_ble_eq_true rfl) rfl rfl ?_
  refine z_iload_n hC dJ16_bitCount_24 rfl rfl ?_
  refine z_iload_n hC dJ16_bitCount_25 rfl rfl ?_
  refine z_iconst (v := 4) hC dJ16_bitCount_26 rfl ?_
  refine z_iushr hC dJ16_bitCount_27 ?_
  refine z_iadd hC dJ16_bitCount_28 ?_
  refine z_ldcw hC dJ16_bitCount_29 q915 ?_
  refine z_iand hC dJ16_bitCount_32 ?_
  obtain ⟨y3, e_y3⟩ : ∃ z, z = (y2 + ((y2.toUInt32 >>> ((4 : Int32).toUInt32 &&& Int32.toUInt32 31)).toInt32)) &&& 252645135 := ⟨_, rfl⟩
  rw [← e_y3]
  replace hV := hV _ e_y3
  refine z_istore_n hC dJ16_bitCount_33 rfl (Nat.le_of_ble_eq_true rfl) rfl rfl ?_
  refine z_iload_n hC dJ16_bitCount_34 rfl rfl ?_
  refine z_iload_n hC dJ16_bitCount_35 rfl rfl ?_
  refine z_bipush (v := 8) hC dJ16_bitCount_36 rfl ?_
  refine z_iushr hC dJ16_bitCount_38 ?_
  refine z_iadd hC dJ16_bitCount_39 ?_
  obtain ⟨y4, e_y4⟩ : ∃ z, z = y3 + ((y3.toUInt32 >>> ((8 : Int32).toUInt32 &&& Int32.toUInt32 31)).toInt32) := ⟨_, rfl⟩
  rw [← e_y4]
  replace hV := hV _ e_y4
  refine z_istore_n hC dJ16_bitCount_40 rfl (Nat.le_of_ble_eq_true rfl) rfl rfl ?_
  refine z_iload_n hC dJ16_bitCount_41 rfl rfl ?_
  refine z_iload_n hC dJ16_bitCount_42 rfl rfl ?_
  refine z_bipush (v := 16) hC dJ16_bitCount_43 rfl ?_
  refine z_iushr hC dJ16_bitCount_45 ?_
  refine z_iadd hC dJ16_bitCount_46 ?_
  obtain ⟨y5, e_y5⟩ : ∃ z, z = y4 + ((y4.toUInt32 >>> ((16 : Int32).toUInt32 &&& Int32.toUInt32 31)).toInt32) := ⟨_, rfl⟩
  rw [← e_y5]
  replace hV := hV _ e_y5
  refine z_istore_n hC dJ16_bitCount_47 rfl (Nat.le_of_ble_eq_true rfl) rfl rfl ?_
  refine z_iload_n hC dJ16_bitCount_48 rfl rfl ?_
  refine z_bipush (v := 63) hC dJ16_bitCount_49 rfl ?_
  refine z_iand hC dJ16_bitCount_51 ?_
  exact z_iret hC dJ16_bitCount_52 rfl (by rw [hQo]; exact ⟨_, rfl, hV⟩)
def wp_J14_checkIndex (σ : ZS) (a0 : Int32) (a1 : Int32) (a2 : ZR) (Ret : Int32 → ZS → Prop) : Prop :=
    ((a0 < 0 → (False)) ∧ (¬ a0 < 0 → (((a0 < a1 → (Ret a0 σ)) ∧ (¬ a0 < a1 → (False))))))
set_option maxHeartbeats 4000000 in
theorem mz_J14_checkIndex {l : Launch} {E : ZE} (hE : EOK E) {σ : ZS} {a0 : Int32} {a1 : Int32} {a2 : ZR} {Ret : Int32 → ZS → Prop} (hV : wp_J14_checkIndex σ a0 a1 a2 Ret) : MZ l E NS yJ14_checkIndex (ws_ yJ14_checkIndex cJ14_checkIndex 3 (some .int)) 1 σ [.int a0, .int a1, pv E.1.heap.size a2] (rI Ret) := by
  refine MZ.start (L := [some (.int a0), some (.int a1), some (pv E.1.heap.size a2)]) hE (by decide) (by rcases a2 with _ | z | z <;> exact Nat.le_of_ble_eq_true rfl) (by rcases a2 with _ | z | z <;> rfl) fun C hCl hQo hC => ?_
  replace hC : Cx C E cJ14_checkIndex 3 "jdk/internal/util/Preconditions" "checkIndex" (some .int) [] 1 := hC
  unfold wp_J14_checkIndex at hV
  refine z_iload_n hC dJ14_checkIndex_0 rfl rfl ?_
  refine z_if_lt (tgt := 9) hC dJ14_checkIndex_1 (by decide) (fun hc => ?_) (fun hc => ?_)
  · replace hV := hV.1 hc
    exact hV.elim
  · replace hV := hV.2 hc
    refine z_iload_n hC dJ14_checkIndex_4 rfl rfl ?_
    refine z_iload_n hC dJ14_checkIndex_5 rfl rfl ?_
    refine z_icmp_lt (tgt := 16) hC dJ14_checkIndex_6 (by decide) (fun hc => ?_) (fun hc => ?_)
    · replace hV := hV.1 hc
      refine z_iload_n hC dJ14_checkIndex_16 rfl rfl ?_
      exact z_iret hC dJ14_checkIndex_17 rfl (by rw [hQo]; exact ⟨_, rfl, hV⟩)
    · replace hV := hV.2 hc
      exact hV.elim
theorem cw_J14_checkIndex : CodeW yJ14_checkIndex (ws_ yJ14_checkIndex cJ14_checkIndex 3 (some .int)) 3 := ⟨fun w h => (List.mem_cons.mp h).elim (fun e => e ▸ q824) id, Or.inl ⟨_, _, q824⟩, q133, by decide, by decide⟩
theorem c_J17_105 {C : ZC} {E : ZE} {cc : ByteArray} {nL pc d : Nat} {nm : String} {ret : Option FieldType} {hh : List (Nat × Nat × Nat × Nat)} {σ : ZS} {L : List (Option Value)} {st : List Value} {a0 : Int32} {a1 : Int32} {a2 : ZR} {Ret : Int32 → ZS → Prop} (hC : Cx C E cc nL "java/util/Objects" nm ret hh d) (hdd : 1 + 1 ≤ d) (hd : decode cc pc = .ok (.invokestatic 105, 3)) (hW : (st.map fun v => v.category).sum ≤ 8) (hV : wp_J14_checkIndex σ a0 a1 a2 Ret) (k : ∀ r σ', Ret r σ' → zz C E NS nL σ' (pc + 3) L (.int r :: st)) : zz C E NS nL σ pc L (pv E.1.heap.size a2 :: .int a1 :: .int a0 :: st) :=
  z_callSG hC cw_J14_checkIndex hdd (by decide) (mz_J14_checkIndex (cxE hC) hV) hd q961 q823 (np := 3) rfl rfl hW rfl (kI k)
def wp_J17_checkIndex (σ : ZS) (a0 : Int32) (a1 : Int32) (Ret : Int32 → ZS → Prop) : Prop :=
    wp_J14_checkIndex σ a0 a1 none (fun r1 σ2 => Ret r1 σ2)
set_option maxHeartbeats 4000000 in
theorem mz_J17_checkIndex {l : Launch} {E : ZE} (hE : EOK E) {σ : ZS} {a0 : Int32} {a1 : Int32} {Ret : Int32 → ZS → Prop} (hV : wp_J17_checkIndex σ a0 a1 Ret) : MZ l E NS yJ17_checkIndex (ws_ yJ17_checkIndex cJ17_checkIndex 2 (some .int)) 2 σ [.int a0, .int a1] (rI Ret) := by
  refine MZ.start (L := [some (.int a0), some (.int a1)]) hE (by decide) (Nat.le_of_ble_eq_true rfl) rfl fun C hCl hQo hC => ?_
  replace hC : Cx C E cJ17_checkIndex 2 "java/util/Objects" "checkIndex" (some .int) [] 2 := hC
  unfold wp_J17_checkIndex at hV
  refine z_iload_n hC dJ17_checkIndex_0 rfl rfl ?_
  refine z_iload_n hC dJ17_checkIndex_1 rfl rfl ?_
  refine z_null hC dJ17_checkIndex_2 ?_
  refine c_J17_105 hC (by decide) dJ17_checkIndex_3 (Nat.le_of_ble_eq_true rfl) hV (fun r1 σ2 hV => ?_)
  exact z_iret hC dJ17_checkIndex_6 rfl (by rw [hQo]; exact ⟨_, rfl, hV⟩)
theorem g_J2_48_c9 {a x : Nat} {C : ZC} {E : ZE} {cc : ByteArray} {n nL pc d : Nat} {nm : String} {ret : Option FieldType} {hh : List (Nat × Nat × Nat × Nat)} {σ : ZS} {L : List (Option Value)} {st : List Value} (hC : Cx C E cc nL "java/util/ArrayList" nm ret hh d) (hd : decode cc pc = .ok (.getfield 48, 3)) (hk : kK n σ a = (9 + 7, x)) (k : zz C E n nL σ (pc + 3) L (.int (zI σ a 2) :: st)) : zz C E n nL σ pc L (.ref (E.1.heap.size + a) :: st) :=
  z_get hC cf9 hd hk (k := 2) (by decide) (Or.inl q495) (Or.inl rfl) rfl k
def wp_J2_size (σ : ZS) (a0 : Nat) (Ret : Int32 → ZS → Prop) : Prop :=
    (∃ n2, kK NS σ a0 = (16, n2)) ∧ (Ret (zI σ a0 2) σ)
set_option maxHeartbeats 4000000 in
theorem mz_J2_size {l : Launch} {E : ZE} (hE : EOK E) {σ : ZS} {a0 : Nat} {Ret : Int32 → ZS → Prop} (hV : wp_J2_size σ a0 Ret) : MZ l E NS yJ2_size (ws_ yJ2_size cJ2_size 1 (some .int)) 1 σ [.ref (E.1.heap.size + a0)] (rI Ret) := by
  refine MZ.start (L := [some (.ref (E.1.heap.size + a0))]) hE (by decide) (Nat.le_of_ble_eq_true rfl) rfl fun C hCl hQo hC => ?_
  replace hC : Cx C E cJ2_size 1 "java/util/ArrayList" "size" (some .int) [] 1 := hC
  unfold wp_J2_size at hV
  refine z_aload_n hC dJ2_size_0 rfl rfl ?_
  obtain ⟨⟨n2, h1⟩, hV⟩ := hV
  refine g_J2_48_c9 hC dJ2_size_1 h1 ?_
  exact z_iret hC dJ2_size_4 rfl (by rw [hQo]; exact ⟨_, rfl, hV⟩)
theorem g_J2_9_c9 {a x : Nat} {C : ZC} {E : ZE} {cc : ByteArray} {n nL pc d : Nat} {nm : String} {ret : Option FieldType} {hh : List (Nat × Nat × Nat × Nat)} {σ : ZS} {L : List (Option Value)} {st : List Value} (hC : Cx C E cc nL "java/util/ArrayList" nm ret hh d) (hd : decode cc pc = .ok (.getfield 9, 3)) (hk : kK n σ a = (9 + 7, x)) (k : zz C E n nL σ (pc + 3) L (pv E.1.heap.size (kP n σ a 1) :: st)) : zz C E n nL σ pc L (.ref (E.1.heap.size + a) :: st) :=
  z_get hC cf9 hd hk (k := 1) (by decide) (Or.inl q494) (Or.inl rfl) rfl k
def wp_J2_elementData (σ : ZS) (a0 : Nat) (a1 : Int32) (Ret : ZR → ZS → Prop) : Prop :=
    (∃ n2, kK NS σ a0 = (16, n2)) ∧ ((kP NS σ a0 1) = some (.inl (zo (kP NS σ a0 1))) ∧ (∃ n5, kK NS σ (zo (kP NS σ a0 1)) = (6, n5) ∧ (vp_in a1 n5 ∧ (Ret (kP NS σ (zo (kP NS σ a0 1)) (ix a1)) σ))))
set_option maxHeartbeats 4000000 in
theorem mz_J2_elementData {l : Launch} {E : ZE} (hE : EOK E) {σ : ZS} {a0 : Nat} {a1 : Int32} {Ret : ZR → ZS → Prop} (hV : wp_J2_elementData σ a0 a1 Ret) : MZ l E NS yJ2_elementData (ws_ yJ2_elementData cJ2_elementData 2 (Option.some (FieldType.object "java/lang/Object"))) 1 σ [.ref (E.1.heap.size + a0), .int a1] (rP E.1.heap.size Ret) := by
  refine MZ.start (L := [some (.ref (E.1.heap.size + a0)), some (.int a1)]) hE (by decide) (Nat.le_of_ble_eq_true rfl) rfl fun C hCl hQo hC => ?_
  replace hC : Cx C E cJ2_elementData 2 "java/util/ArrayList" "elementData" (Option.some (FieldType.object "java/lang/Object")) [] 1 := hC
  unfold wp_J2_elementData at hV
  refine z_aload_n hC dJ2_elementData_0 rfl rfl ?_
  obtain ⟨⟨n2, h1⟩, hV⟩ := hV
  refine g_J2_9_c9 hC dJ2_elementData_1 h1 ?_
  obtain ⟨h3, hV⟩ := hV
  refine zz_at rfl (by rw [pvo h3]) ?_
  refine z_iload_n hC dJ2_elementData_4 rfl rfl ?_
  obtain ⟨n5, h4, hV⟩ := hV
  obtain ⟨h6, hV⟩ := hV
  refine z_aald6 hC dJ2_elementData_5 h4 (h6) rfl ?_
  exact z_aret (r := (kP NS σ (zo (kP NS σ a0 1)) (ix a1))) hC (Or.inl ⟨_, rfl⟩) dJ2_elementData_6 (by rw [hQo]; exact ⟨_, rfl, hV⟩)
theorem cw_J17_checkIndex : CodeW yJ17_checkIndex (ws_ yJ17_checkIndex cJ17_checkIndex 2 (some .int)) 2 := ⟨fun w h => (List.mem_cons.mp h).elim (fun e => e ▸ q960) id, Or.inl ⟨_, _, q960⟩, q141, by decide, by decide⟩
theorem c_J2_118 {C : ZC} {E : ZE} {cc : ByteArray} {nL pc d : Nat} {nm : String} {ret : Option FieldType} {hh : List (Nat × Nat × Nat × Nat)} {σ : ZS} {L : List (Option Value)} {st : List Value} {a0 : Int32} {a1 : Int32} {Ret : Int32 → ZS → Prop} (hC : Cx C E cc nL "java/util/ArrayList" nm ret hh d) (hdd : 2 + 1 ≤ d) (hd : decode cc pc = .ok (.invokestatic 118, 3)) (hW : (st.map fun v => v.category).sum ≤ 8) (hV : wp_J17_checkIndex σ a0 a1 Ret) (k : ∀ r σ', Ret r σ' → zz C E NS nL σ' (pc + 3) L (.int r :: st)) : zz C E NS nL σ pc L (.int a1 :: .int a0 :: st) :=
  z_callSG hC cw_J17_checkIndex hdd (by decide) (mz_J17_checkIndex (cxE hC) hV) hd q958 q959 (np := 2) rfl rfl hW rfl (kI k)
theorem cw_J2_elementData : CodeW yJ2_elementData (ws_ yJ2_elementData cJ2_elementData 2 (Option.some (FieldType.object "java/lang/Object"))) 2 := ⟨fun w h => (List.mem_cons.mp h).elim (fun e => e ▸ q965) id, Or.inl ⟨_, _, q965⟩, q120, by decide, by decide⟩
theorem c_J2_123 {C : ZC} {E : ZE} {cc : ByteArray} {nL pc d : Nat} {nm : String} {ret : Option FieldType} {hh : List (Nat × Nat × Nat × Nat)} {σ : ZS} {L : List (Option Value)} {st : List Value} {a0 : Nat} {a1 : Int32} {Ret : ZR → ZS → Prop} (hC : Cx C E cc nL "java/util/ArrayList" nm ret hh d) (hdd : 1 + 1 ≤ d) (hd : decode cc pc = .ok (.invokevirtual 123, 3)) (hW : (st.map fun v => v.category).sum ≤ 8) {x : Nat} (hk : kK NS σ a0 = (9 + 7, x)) (hV : wp_J2_elementData σ a0 a1 Ret) (k : ∀ r σ', Ret r σ' → zz C E NS nL σ' (pc + 3) L (pv E.1.heap.size r :: st)) : zz C E NS nL σ pc L (.int a1 :: .ref (E.1.heap.size + a0) :: st) :=
  z_callVG hC cf9 cw_J2_elementData hdd (by decide) (mz_J2_elementData (cxE hC) hV) hd hk q962 q963 q964 (np := 1) rfl rfl hW rfl (kR k)
def wp_J2_get (σ : ZS) (a0 : Nat) (a1 : Int32) (Ret : ZR → ZS → Prop) : Prop :=
    (∃ n2, kK NS σ a0 = (16, n2)) ∧ (wp_J17_checkIndex σ a1 (zI σ a0 2) (fun r3 σ4 => (∃ n8, kK NS σ4 a0 = (16, n8)) ∧ (wp_J2_elementData σ4 a0 a1 (fun r5 σ6 => Ret r5 σ6))))
set_option maxHeartbeats 4000000 in
theorem mz_J2_get {l : Launch} {E : ZE} (hE : EOK E) {σ : ZS} {a0 : Nat} {a1 : Int32} {Ret : ZR → ZS → Prop} (hV : wp_J2_get σ a0 a1 Ret) : MZ l E NS yJ2_get (ws_ yJ2_get cJ2_get 2 (Option.some (FieldType.object "java/lang/Object"))) 3 σ [.ref (E.1.heap.size + a0), .int a1] (rP E.1.heap.size Ret) := by
  refine MZ.start (L := [some (.ref (E.1.heap.size + a0)), some (.int a1)]) hE (by decide) (Nat.le_of_ble_eq_true rfl) rfl fun C hCl hQo hC => ?_
  replace hC : Cx C E cJ2_get 2 "java/util/ArrayList" "get" (Option.some (FieldType.object "java/lang/Object")) [] 3 := hC
  unfold wp_J2_get at hV
  refine z_iload_n hC dJ2_get_0 rfl rfl ?_
  refine z_aload_n hC dJ2_get_1 rfl rfl ?_
  obtain ⟨⟨n2, h1⟩, hV⟩ := hV
  refine g_J2_48_c9 hC dJ2_get_2 h1 ?_
  refine c_J2_118 hC (by decide) dJ2_get_5 (Nat.le_of_ble_eq_true rfl) hV (fun r3 σ4 hV => ?_)
  refine z_pop hC dJ2_get_8 rfl ?_
  refine z_aload_n hC dJ2_get_9 rfl rfl ?_
  refine z_iload_n hC dJ2_get_10 rfl rfl ?_
  obtain ⟨⟨n8, h7⟩, hV⟩ := hV
  refine c_J2_123 hC (by decide) dJ2_get_11 (Nat.le_of_ble_eq_true rfl) h7 hV (fun r5 σ6 hV => ?_)
  exact z_aret (r := r5) hC (Or.inl ⟨_, rfl⟩) dJ2_get_14 (by rw [hQo]; exact ⟨_, rfl, hV⟩)
def wp_J0_init (n : Nat) (σ : ZS) (a0 : Nat) (Ret : ZS → Prop) : Prop :=
    Ret σ
set_option maxHeartbeats 4000000 in
theorem mz_J0_init {l : Launch} {E : ZE} (hE : EOK E) {n : Nat} {σ : ZS} {a0 : Nat} {Ret : ZS → Prop} (hV : wp_J0_init n σ a0 Ret) : MZ l E n yJ0_init (ws_ yJ0_init cJ0_init 1 none) 1 σ [.ref (E.1.heap.size + a0)] (rV Ret) := by
  refine MZ.start (L := [some (.ref (E.1.heap.size + a0))]) hE (by decide) (Nat.le_of_ble_eq_true rfl) rfl fun C hCl hQo hC => ?_
  replace hC : Cx C E cJ0_init 1 "java/util/AbstractCollection" "<init>" none [] 1 := hC
  unfold wp_J0_init at hV
  refine z_aload_n hC dJ0_init_0 rfl rfl ?_
  refine z_objInit hC dJ0_init_1 q173 q154 qobj (by decide) (Nat.le_of_ble_eq_true rfl) ?_
  exact z_vret hC dJ0_init_4 (by rw [hQo]; exact ⟨rfl, hV⟩)
theorem p_J1_7i_c9 {C : ZC} {E : ZE} {cc : ByteArray} {n nL pc d a x : Nat} {ret : Option FieldType} {hh : List (Nat × Nat × Nat × Nat)} {σ : ZS} {L : List (Option Value)} {st : List Value} {v : Int32} (hC : Cx C E cc nL "java/util/AbstractList" "<init>" ret hh d) (hd : decode cc pc = .ok (.putfield 7, 3)) (hk : kK n σ a = (9 + 7, x)) (k : zz C E n nL (sI σ a 0 v) (pc + 3) L st) : zz C E n nL σ pc L (.int v :: .ref (E.1.heap.size + a) :: st) :=
  z_putI hC cf9 hd hk (k := 0) (by decide) (Or.inl q496) (Or.inl rfl) (Or.inl rfl) rfl rfl rfl k
theorem cw_J0_init : CodeW yJ0_init (ws_ yJ0_init cJ0_init 1 none) 1 := ⟨fun w h => (List.mem_cons.mp h).elim (fun e => e ▸ q172) id, Or.inl ⟨_, _, q172⟩, q118, by decide, by decide⟩
theorem c_J1_1 {C : ZC} {E : ZE} {cc : ByteArray} {n nL pc d : Nat} {nm : String} {ret : Option FieldType} {hh : List (Nat × Nat × Nat × Nat)} {σ : ZS} {L : List (Option Value)} {st : List Value} {a0 : Nat} {Ret : ZS → Prop} (hC : Cx C E cc nL "java/util/AbstractList" nm ret hh d) (hdd : 1 + 1 ≤ d) (hd : decode cc pc = .ok (.invokespecial 1, 3)) (hW : (st.map fun v => v.category).sum ≤ 8) (hV : wp_J0_init n σ a0 Ret) (k : ∀ σ', Ret σ' → zz C E n nL σ' (pc + 3) L st) : zz C E n nL σ pc L (.ref (E.1.heap.size + a0) :: st) :=
  z_callIG hC cw_J0_init q172 hdd (by decide) (mz_J0_init (cxE hC) hV) hd rfl q170 q171 (np := 0) rfl rfl hW rfl (kV k)
def wp_J1_init (n : Nat) (σ : ZS) (a0 : Nat) (Ret : ZS → Prop) : Prop :=
    wp_J0_init n σ a0 (fun σ2 => (∃ n4, kK n σ2 a0 = (16, n4)) ∧ (∀ σ5 : ZS, σ5 = sI σ2 a0 0 0 → (Ret σ5)))
set_option maxHeartbeats 4000000 in
theorem mz_J1_init {l : Launch} {E : ZE} (hE : EOK E) {n : Nat} {σ : ZS} {a0 : Nat} {Ret : ZS → Prop} (hV : wp_J1_init n σ a0 Ret) : MZ l E n yJ1_init (ws_ yJ1_init cJ1_init 1 none) 2 σ [.ref (E.1.heap.size + a0)] (rV Ret) := by
  refine MZ.start (L := [some (.ref (E.1.heap.size + a0))]) hE (by decide) (Nat.le_of_ble_eq_true rfl) rfl fun C hCl hQo hC => ?_
  replace hC : Cx C E cJ1_init 1 "java/util/AbstractList" "<init>" none [] 2 := hC
  unfold wp_J1_init at hV
  refine z_aload_n hC dJ1_init_0 rfl rfl ?_
  refine c_J1_1 hC (by decide) dJ1_init_1 (Nat.le_of_ble_eq_true rfl) hV (fun σ2 hV => ?_)
  refine z_aload_n hC dJ1_init_4 rfl rfl ?_
  refine z_iconst (v := 0) hC dJ1_init_5 rfl ?_
  obtain ⟨⟨n4, h3⟩, hV⟩ := hV
  refine p_J1_7i_c9 hC dJ1_init_6 h3 ?_
  obtain ⟨σ5, e_σ5⟩ : ∃ z : ZS, z = sI σ2 a0 0 0 := ⟨_, rfl⟩
  replace hV := hV _ e_σ5
  rw [← e_σ5]
  exact z_vret hC dJ1_init_9 (by rw [hQo]; exact ⟨rfl, hV⟩)
theorem dv_10 : ∀ k, k < 4 → defaultValue (tyJ8 k) = (match fty 10 k with | 0 => Value.int 0 | 1 => .long 0 | _ => .null) := by decide +kernel
theorem p_J2_9i_c9 {C : ZC} {E : ZE} {cc : ByteArray} {n nL pc d a x : Nat} {ret : Option FieldType} {hh : List (Nat × Nat × Nat × Nat)} {σ : ZS} {L : List (Option Value)} {st : List Value} {r : ZR} (hC : Cx C E cc nL "java/util/ArrayList" "<init>" ret hh d) (hd : decode cc pc = .ok (.putfield 9, 3)) (hk : kK n σ a = (9 + 7, x)) (hf : pfree n a 1) (k : zz C E n nL (sP σ a 1 r) (pc + 3) L st) : zz C E n nL σ pc L (pv E.1.heap.size r :: .ref (E.1.heap.size + a) :: st) :=
  z_putP hC cf9 hd hk (k := 1) (by decide) (Or.inl q494) (Or.inl rfl) (Or.inl rfl) (Or.inr ⟨_, rfl⟩) rfl hf k
theorem cw_J1_init : CodeW yJ1_init (ws_ yJ1_init cJ1_init 1 none) 1 := ⟨fun w h => (List.mem_cons.mp h).elim (fun e => e ▸ q169) id, Or.inl ⟨_, _, q169⟩, q119, by decide, by decide⟩
theorem c_J2_1 {C : ZC} {E : ZE} {cc : ByteArray} {n nL pc d : Nat} {nm : String} {ret : Option FieldType} {hh : List (Nat × Nat × Nat × Nat)} {σ : ZS} {L : List (Option Value)} {st : List Value} {a0 : Nat} {Ret : ZS → Prop} (hC : Cx C E cc nL "java/util/ArrayList" nm ret hh d) (hdd : 2 + 1 ≤ d) (hd : decode cc pc = .ok (.invokespecial 1, 3)) (hW : (st.map fun v => v.category).sum ≤ 8) (hV : wp_J1_init n σ a0 Ret) (k : ∀ σ', Ret σ' → zz C E n nL σ' (pc + 3) L st) : zz C E n nL σ pc L (.ref (E.1.heap.size + a0) :: st) :=
  z_callIG hC cw_J1_init q169 hdd (by decide) (mz_J1_init (cxE hC) hV) hd rfl q167 q168 (np := 0) rfl rfl hW rfl (kV k)
def wp_J2_init (n : Nat) (σ : ZS) (a0 : Nat) (a1 : Int32) (Ret : ZS → Prop) : Prop :=
    wp_J1_init n σ a0 (fun σ2 => ((0 < a1 → (¬ a1 < 0 ∧ ((n ≤ zt σ2 ∧ zt σ2 + 1 ≤ NB ∧ zn σ2 + (ix a1) ≤ SB) ∧ (∀ σ13 : ZS, σ13 = sA σ2 (6, (ix a1)) (ix a1) → ((∃ n15, kK n σ13 a0 = (16, n15)) ∧ (n ≤ a0 ∧ (∀ σ17 : ZS, σ17 = sP σ13 a0 1 (some (.inl (zt σ2))) → (Ret σ17)))))))) ∧ (¬ 0 < a1 → (((a1 = 0 → (∀ r5 : ZR, frn r5 → ((∃ n8, kK n σ2 a0 = (16, n8)) ∧ (n ≤ a0 ∧ (∀ σ10 : ZS, σ10 = sP σ2 a0 1 r5 → (Ret σ10)))))) ∧ (¬ a1 = 0 → (False)))))))
set_option maxHeartbeats 4000000 in
theorem mz_J2_init {l : Launch} {E : ZE} (hE : EOK E) {n : Nat} {σ : ZS} {a0 : Nat} {a1 : Int32} {Ret : ZS → Prop} (hV : wp_J2_init n σ a0 a1 Ret) : MZ l E n yJ2_init (ws_ yJ2_init cJ2_init 2 none) 3 σ [.ref (E.1.heap.size + a0), .int a1] (rV Ret) := by
  refine MZ.start (L := [some (.ref (E.1.heap.size + a0)), some (.int a1)]) hE (by decide) (Nat.le_of_ble_eq_true rfl) rfl fun C hCl hQo hC => ?_
  replace hC : Cx C E cJ2_init 2 "java/util/ArrayList" "<init>" none [] 3 := hC
  unfold wp_J2_init at hV
  refine z_aload_n hC dJ2_init_0 rfl rfl ?_
  refine c_J2_1 hC (by decide) dJ2_init_1 (Nat.le_of_ble_eq_true rfl) hV (fun σ2 hV => ?_)
  refine z_iload_n hC dJ2_init_4 rfl rfl ?_
  refine z_if_le (tgt := 19) hC dJ2_init_5 (by decide) (fun hc => ?_) (fun hc => ?_)
  · replace hV := hV.2 hc
    refine z_iload_n hC dJ2_init_19 rfl rfl ?_
    refine z_if_ne (tgt := 33) hC dJ2_init_20 (by decide) (fun hc => ?_) (fun hc => ?_)
    · replace hV := hV.2 hc
      exact hV.elim
    · replace hV := hV.1 hc
      refine z_aload_n hC dJ2_init_23 rfl rfl ?_
      refine z_getsR hC dJ2_init_24 q176 q177 q120 (by decide +kernel) (fun r5 h6 => ?_)
      replace hV := hV r5 h6
      obtain ⟨⟨n8, h7⟩, hV⟩ := hV
      obtain ⟨h9, hV⟩ := hV
      refine p_J2_9i_c9 (r := r5) hC dJ2_init_27 h7 (pf_dyn h9) ?_
      obtain ⟨σ10, e_σ10⟩ : ∃ z : ZS, z = sP σ2 a0 1 r5 := ⟨_, rfl⟩
      replace hV := hV _ e_σ10
      rw [← e_σ10]
      refine z_goto (tgt := 60) hC dJ2_init_30 (by decide) ?_
      exact z_vret hC dJ2_init_60 (by rw [hQo]; exact ⟨rfl, hV⟩)
  · replace hV := hV.1 hc
    refine z_aload_n hC dJ2_init_8 rfl rfl ?_
    refine z_iload_n hC dJ2_init_9 rfl rfl ?_
    obtain ⟨h11, hV⟩ := hV
    obtain ⟨h12, hV⟩ := hV
    refine z_anew6 (len := (ix a1)) hC dJ2_init_10 q174 h11 rfl h12.1 h12.2.1 h12.2.2 ?_
    obtain ⟨σ13, e_σ13⟩ : ∃ z : ZS, z = sA σ2 (6, (ix a1)) (ix a1) := ⟨_, rfl⟩
    replace hV := hV _ e_σ13
    rw [← e_σ13]
    obtain ⟨⟨n15, h14⟩, hV⟩ := hV
    obtain ⟨h16, hV⟩ := hV
    refine p_J2_9i_c9 (r := (some (.inl (zt σ2)))) hC dJ2_init_13 h14 (pf_dyn h16) ?_
    obtain ⟨σ17, e_σ17⟩ : ∃ z : ZS, z = sP σ13 a0 1 (some (.inl (zt σ2))) := ⟨_, rfl⟩
    replace hV := hV _ e_σ17
    rw [← e_σ17]
    refine z_goto (tgt := 60) hC dJ2_init_16 (by decide) ?_
    exact z_vret hC dJ2_init_60 (by rw [hQo]; exact ⟨rfl, hV⟩)
theorem dv_9 : ∀ k, k < 3 → defaultValue (tyJ2 k) = (match fty 9 k with | 0 => Value.int 0 | 1 => .long 0 | _ => .null) := by decide +kernel
theorem p_X2_14i_c1 {C : ZC} {E : ZE} {cc : ByteArray} {n nL pc d a x : Nat} {ret : Option FieldType} {hh : List (Nat × Nat × Nat × Nat)} {σ : ZS} {L : List (Option Value)} {st : List Value} {r : ZR} (hC : Cx C E cc nL "RightTurns$Town" "<init>" ret hh d) (hd : decode cc pc = .ok (.putfield 14, 3)) (hk : kK n σ a = (1 + 7, x)) (hf : pfree n a 0) (k : zz C E n nL (sP σ a 0 r) (pc + 3) L st) : zz C E n nL σ pc L (pv E.1.heap.size r :: .ref (E.1.heap.size + a) :: st) :=
  z_putP hC cf1 hd hk (k := 0) (by decide) (Or.inl q506) (Or.inl rfl) (Or.inr ⟨rfl, rfl, rfl, q506⟩) (Or.inl ⟨_, rfl⟩) rfl hf k
theorem p_X2_20i_c1 {C : ZC} {E : ZE} {cc : ByteArray} {n nL pc d a x : Nat} {ret : Option FieldType} {hh : List (Nat × Nat × Nat × Nat)} {σ : ZS} {L : List (Option Value)} {st : List Value} {r : ZR} (hC : Cx C E cc nL "RightTurns$Town" "<init>" ret hh d) (hd : decode cc pc = .ok (.putfield 20, 3)) (hk : kK n σ a = (1 + 7, x)) (hf : pfree n a 1) (k : zz C E n nL (sP σ a 1 r) (pc + 3) L st) : zz C E n nL σ pc L (pv E.1.heap.size r :: .ref (E.1.heap.size + a) :: st) :=
  z_putP hC cf1 hd hk (k := 1) (by decide) (Or.inl q509) (Or.inl rfl) (Or.inr ⟨rfl, rfl, rfl, q509⟩) (Or.inl ⟨_, rfl⟩) rfl hf k
theorem p_X2_23i_c1 {C : ZC} {E : ZE} {cc : ByteArray} {n nL pc d a x : Nat} {ret : Option FieldType} {hh : List (Nat × Nat × Nat × Nat)} {σ : ZS} {L : List (Option Value)} {st : List Value} {r : ZR} (hC : Cx C E cc nL "RightTurns$Town" "<init>" ret hh d) (hd : decode cc pc = .ok (.putfield 23, 3)) (hk : kK n σ a = (1 + 7, x)) (hf : pfree n a 2) (k : zz C E n nL (sP σ a 2 r) (pc + 3) L st) : zz C E n nL σ pc L (pv E.1.heap.size r :: .ref (E.1.heap.size + a) :: st) :=
  z_putP hC cf1 hd hk (k := 2) (by decide) (Or.inl q512) (Or.inl rfl) (Or.inr ⟨rfl, rfl, rfl, q512⟩) (Or.inl ⟨_, rfl⟩) rfl hf k
theorem p_X2_26i_c1 {C : ZC} {E : ZE} {cc : ByteArray} {n nL pc d a x : Nat} {ret : Option FieldType} {hh : List (Nat × Nat × Nat × Nat)} {σ : ZS} {L : List (Option Value)} {st : List Value} {r : ZR} (hC : Cx C E cc nL "RightTurns$Town" "<init>" ret hh d) (hd : decode cc pc = .ok (.putfield 26, 3)) (hk : kK n σ a = (1 + 7, x)) (hf : pfree n a 3) (k : zz C E n nL (sP σ a 3 r) (pc + 3) L st) : zz C E n nL σ pc L (pv E.1.heap.size r :: .ref (E.1.heap.size + a) :: st) :=
  z_putP hC cf1 hd hk (k := 3) (by decide) (Or.inl q515) (Or.inl rfl) (Or.inr ⟨rfl, rfl, rfl, q515⟩) (Or.inr ⟨_, rfl⟩) rfl hf k
theorem p_X2_30i_c1 {C : ZC} {E : ZE} {cc : ByteArray} {n nL pc d a x : Nat} {ret : Option FieldType} {hh : List (Nat × Nat × Nat × Nat)} {σ : ZS} {L : List (Option Value)} {st : List Value} {r : ZR} (hC : Cx C E cc nL "RightTurns$Town" "<init>" ret hh d) (hd : decode cc pc = .ok (.putfield 30, 3)) (hk : kK n σ a = (1 + 7, x)) (hf : pfree n a 4) (k : zz C E n nL (sP σ a 4 r) (pc + 3) L st) : zz C E n nL σ pc L (pv E.1.heap.size r :: .ref (E.1.heap.size + a) :: st) :=
  z_putP hC cf1 hd hk (k := 4) (by decide) (Or.inl q518) (Or.inl rfl) (Or.inr ⟨rfl, rfl, rfl, q518⟩) (Or.inr ⟨_, rfl⟩) rfl hf k
theorem p_X2_33i_c1 {C : ZC} {E : ZE} {cc : ByteArray} {n nL pc d a x : Nat} {ret : Option FieldType} {hh : List (Nat × Nat × Nat × Nat)} {σ : ZS} {L : List (Option Value)} {st : List Value} {r : ZR} (hC : Cx C E cc nL "RightTurns$Town" "<init>" ret hh d) (hd : decode cc pc = .ok (.putfield 33, 3)) (hk : kK n σ a = (1 + 7, x)) (hf : pfree n a 5) (k : zz C E n nL (sP σ a 5 r) (pc + 3) L st) : zz C E n nL σ pc L (pv E.1.heap.size r :: .ref (E.1.heap.size + a) :: st) :=
  z_putP hC cf1 hd hk (k := 5) (by decide) (Or.inl q521) (Or.inl rfl) (Or.inr ⟨rfl, rfl, rfl, q521⟩) (Or.inr ⟨_, rfl⟩) rfl hf k
theorem p_X2_36i_c1 {C : ZC} {E : ZE} {cc : ByteArray} {n nL pc d a x : Nat} {ret : Option FieldType} {hh : List (Nat × Nat × Nat × Nat)} {σ : ZS} {L : List (Option Value)} {st : List Value} {r : ZR} (hC : Cx C E cc nL "RightTurns$Town" "<init>" ret hh d) (hd : decode cc pc = .ok (.putfield 36, 3)) (hk : kK n σ a = (1 + 7, x)) (hf : pfree n a 6) (k : zz C E n nL (sP σ a 6 r) (pc + 3) L st) : zz C E n nL σ pc L (pv E.1.heap.size r :: .ref (E.1.heap.size + a) :: st) :=
  z_putP hC cf1 hd hk (k := 6) (by decide) (Or.inl q523) (Or.inl rfl) (Or.inr ⟨rfl, rfl, rfl, q523⟩) (Or.inr ⟨_, rfl⟩) rfl hf k
theorem cw_J2_init : CodeW yJ2_init (ws_ yJ2_init cJ2_init 2 none) 2 := ⟨fun w h => (List.mem_cons.mp h).elim (fun e => e ▸ q166) id, Or.inl ⟨_, _, q166⟩, q120, by decide, by decide⟩
theorem c_X2_11 {C : ZC} {E : ZE} {cc : ByteArray} {n nL pc d : Nat} {nm : String} {ret : Option FieldType} {hh : List (Nat × Nat × Nat × Nat)} {σ : ZS} {L : List (Option Value)} {st : List Value} {a0 : Nat} {a1 : Int32} {Ret : ZS → Prop} (hC : Cx C E cc nL "RightTurns$Town" nm ret hh d) (hdd : 3 + 1 ≤ d) (hd : decode cc pc = .ok (.invokespecial 11, 3)) (hW : (st.map fun v => v.category).sum ≤ 8) (hV : wp_J2_init n σ a0 a1 Ret) (k : ∀ σ', Ret σ' → zz C E n nL σ' (pc + 3) L st) : zz C E n nL σ pc L (.int a1 :: .ref (E.1.heap.size + a0) :: st) :=
  z_callIG hC cw_J2_init q166 hdd (by decide) (mz_J2_init (cxE hC) hV) hd rfl q164 q165 (np := 1) rfl rfl hW rfl (kV k)
def wp_X2_init (n : Nat) (σ : ZS) (a0 : Nat) (Ret : ZS → Prop) : Prop :=
    (n ≤ zt σ ∧ zt σ + 1 ≤ NB ∧ zn σ + 3 ≤ SB) ∧ (∀ σ2 : ZS, σ2 = sA σ (16, 0) 3 → (wp_J2_init n σ2 (zt σ) 2 (fun σ4 => (∃ n6, kK n σ4 a0 = (8, n6)) ∧ (n ≤ a0 ∧ (∀ σ8 : ZS, σ8 = sP σ4 a0 0 (some (.inl (zt σ))) → ((n ≤ zt σ8 ∧ zt σ8 + 1 ≤ NB ∧ zn σ8 + 3 ≤ SB) ∧ (∀ σ10 : ZS, σ10 = sA σ8 (16, 0) 3 → (wp_J2_init n σ10 (zt σ8) 2 (fun σ12 => (∃ n14, kK n σ12 a0 = (8, n14)) ∧ (n ≤ a0 ∧ (∀ σ16 : ZS, σ16 = sP σ12 a0 1 (some (.inl (zt σ8))) → ((n ≤ zt σ16 ∧ zt σ16 + 1 ≤ NB ∧ zn σ16 + 3 ≤ SB) ∧ (∀ σ18 : ZS, σ18 = sA σ16 (16, 0) 3 → (wp_J2_init n σ18 (zt σ16) 1 (fun σ20 => (∃ n22, kK n σ20 a0 = (8, n22)) ∧ (n ≤ a0 ∧ (∀ σ24 : ZS, σ24 = sP σ20 a0 2 (some (.inl (zt σ16))) → ((n ≤ zt σ24 ∧ zt σ24 + 1 ≤ NB ∧ zn σ24 + 24 ≤ SB) ∧ (∀ σ26 : ZS, σ26 = sA σ24 (0, 24) 24 → ((∃ n28, kK n σ26 a0 = (8, n28)) ∧ (n ≤ a0 ∧ (∀ σ30 : ZS, σ30 = sP σ26 a0 3 (some (.inl (zt σ24))) → ((n ≤ zt σ30 ∧ zt σ30 + 1 ≤ NB ∧ zn σ30 + 24 ≤ SB) ∧ (∀ σ32 : ZS, σ32 = sA σ30 (0, 24) 24 → ((∃ n34, kK n σ32 a0 = (8, n34)) ∧ (n ≤ a0 ∧ (∀ σ36 : ZS, σ36 = sP σ32 a0 4 (some (.inl (zt σ30))) → ((n ≤ zt σ36 ∧ zt σ36 + 1 ≤ NB ∧ zn σ36 + 576 ≤ SB) ∧ (∀ σ38 : ZS, σ38 = sA σ36 (0, 576) 576 → ((∃ n40, kK n σ38 a0 = (8, n40)) ∧ (n ≤ a0 ∧ (∀ σ42 : ZS, σ42 = sP σ38 a0 5 (some (.inl (zt σ36))) → ((n ≤ zt σ42 ∧ zt σ42 + 1 ≤ NB ∧ zn σ42 + 576 ≤ SB) ∧ (∀ σ44 : ZS, σ44 = sA σ42 (0, 576) 576 → ((∃ n46, kK n σ44 a0 = (8, n46)) ∧ (n ≤ a0 ∧ (∀ σ48 : ZS, σ48 = sP σ44 a0 6 (some (.inl (zt σ42))) → (Ret σ48))))))))))))))))))))))))))))))))))))))
set_option maxHeartbeats 4000000 in
theorem mz_X2_init {l : Launch} {E : ZE} (hE : EOK E) {n : Nat} {σ : ZS} {a0 : Nat} {Ret : ZS → Prop} (hV : wp_X2_init n σ a0 Ret) : MZ l E n yX2_init (ws_ yX2_init cX2_init 1 none) 4 σ [.ref (E.1.heap.size + a0)] (rV Ret) := by
  refine MZ.start (L := [some (.ref (E.1.heap.size + a0))]) hE (by decide) (Nat.le_of_ble_eq_true rfl) rfl fun C hCl hQo hC => ?_
  replace hC : Cx C E cX2_init 1 "RightTurns$Town" "<init>" none [] 4 := hC
  unfold wp_X2_init at hV
  refine z_aload_n hC dX2_init_0 rfl rfl ?_
  refine z_objInit hC dX2_init_1 q161 q154 qobj (by decide) (Nat.le_of_ble_eq_true rfl) ?_
  refine z_aload_n hC dX2_init_4 rfl rfl ?_
  obtain ⟨h1, hV⟩ := hV
  refine z_new hC cf9 dX2_init_5 q162 q163 q120 dv_9 h1.1 h1.2.1 h1.2.2 ?_
  obtain ⟨σ2, e_σ2⟩ : ∃ z : ZS, z = sA σ (16, 0) 3 := ⟨_, rfl⟩
  replace hV := hV _ e_σ2
  rw [← e_σ2]
  refine z_dup hC dX2_init_8 rfl ?_
  refine z_iconst (v := 2) hC dX2_init_9 rfl ?_
  refine c_X2_11 hC (by decide) dX2_init_10 (Nat.le_of_ble_eq_true rfl) hV (fun σ4 hV => ?_)
  obtain ⟨⟨n6, h5⟩, hV⟩ := hV
  obtain ⟨h7, hV⟩ := hV
  refine p_X2_14i_c1 (r := (some (.inl (zt σ)))) hC dX2_init_13 h5 (pf_dyn h7) ?_
  obtain ⟨σ8, e_σ8⟩ : ∃ z : ZS, z = sP σ4 a0 0 (some (.inl (zt σ))) := ⟨_, rfl⟩
  replace hV := hV _ e_σ8
  rw [← e_σ8]
  refine z_aload_n hC dX2_init_16 rfl rfl ?_
  obtain ⟨h9, hV⟩ := hV
  refine z_new hC cf9 dX2_init_17 q162 q163 q120 dv_9 h9.1 h9.2.1 h9.2.2 ?_
  obtain ⟨σ10, e_σ10⟩ : ∃ z : ZS, z = sA σ8 (16, 0) 3 := ⟨_, rfl⟩
  replace hV := hV _ e_σ10
  rw [← e_σ10]
  refine z_dup hC dX2_init_20 rfl ?_
  refine z_iconst (v := 2) hC dX2_init_21 rfl ?_
  refine c_X2_11 hC (by decide) dX2_init_22 (Nat.le_of_ble_eq_true rfl) hV (fun σ12 hV => ?_)
  obtain ⟨⟨n14, h13⟩, hV⟩ := hV
  obtain ⟨h15, hV⟩ := hV
  refine p_X2_20i_c1 (r := (some (.inl (zt σ8)))) hC dX2_init_25 h13 (pf_dyn h15) ?_
  obtain ⟨σ16, e_σ16⟩ : ∃ z : ZS, z = sP σ12 a0 1 (some (.inl (zt σ8))) := ⟨_, rfl⟩
  replace hV := hV _ e_σ16
  rw [← e_σ16]
  refine z_aload_n hC dX2_init_28 rfl rfl ?_
  obtain ⟨h17, hV⟩ := hV
  refine z_new hC cf9 dX2_init_29 q162 q163 q120 dv_9 h17.1 h17.2.1 h17.2.2 ?_
  obtain ⟨σ18, e_σ18⟩ : ∃ z : ZS, z = sA σ16 (16, 0) 3 := ⟨_, rfl⟩
  replace hV := hV _ e_σ18
  rw [← e_σ18]
  refine z_dup hC dX2_init_32 rfl ?_
  refine z_iconst (v := 1) hC dX2_init_33 rfl ?_
  refine c_X2_11 hC (by decide) dX2_init_34 (Nat.le_of_ble_eq_true rfl) hV (fun σ20 hV => ?_)
  obtain ⟨⟨n22, h21⟩, hV⟩ := hV
  obtain ⟨h23, hV⟩ := hV
  refine p_X2_23i_c1 (r := (some (.inl (zt σ16)))) hC dX2_init_37 h21 (pf_dyn h23) ?_
  obtain ⟨σ24, e_σ24⟩ : ∃ z : ZS, z = sP σ20 a0 2 (some (.inl (zt σ16))) := ⟨_, rfl⟩
  replace hV := hV _ e_σ24
  rw [← e_σ24]
  refine z_aload_n hC dX2_init_40 rfl rfl ?_
  refine z_bipush (v := 24) hC dX2_init_41 rfl ?_
  obtain ⟨h25, hV⟩ := hV
  refine z_newa0 (len := 24) hC dX2_init_43 (by decide) rfl h25.1 h25.2.1 h25.2.2 ?_
  obtain ⟨σ26, e_σ26⟩ : ∃ z : ZS, z = sA σ24 (0, 24) 24 := ⟨_, rfl⟩
  replace hV := hV _ e_σ26
  rw [← e_σ26]
  obtain ⟨⟨n28, h27⟩, hV⟩ := hV
  obtain ⟨h29, hV⟩ := hV
  refine p_X2_26i_c1 (r := (some (.inl (zt σ24)))) hC dX2_init_45 h27 (pf_dyn h29) ?_
  obtain ⟨σ30, e_σ30⟩ : ∃ z : ZS, z = sP σ26 a0 3 (some (.inl (zt σ24))) := ⟨_, rfl⟩
  replace hV := hV _ e_σ30
  rw [← e_σ30]
  refine z_aload_n hC dX2_init_48 rfl rfl ?_
  refine z_bipush (v := 24) hC dX2_init_49 rfl ?_
  obtain ⟨h31, hV⟩ := hV
  refine z_newa0 (len := 24) hC dX2_init_51 (by decide) rfl h31.1 h31.2.1 h31.2.2 ?_
  obtain ⟨σ32, e_σ32⟩ : ∃ z : ZS, z = sA σ30 (0, 24) 24 := ⟨_, rfl⟩
  replace hV := hV _ e_σ32
  rw [← e_σ32]
  obtain ⟨⟨n34, h33⟩, hV⟩ := hV
  obtain ⟨h35, hV⟩ := hV
  refine p_X2_30i_c1 (r := (some (.inl (zt σ30)))) hC dX2_init_53 h33 (pf_dyn h35) ?_
  obtain ⟨σ36, e_σ36⟩ : ∃ z : ZS, z = sP σ32 a0 4 (some (.inl (zt σ30))) := ⟨_, rfl⟩
  replace hV := hV _ e_σ36
  rw [← e_σ36]
  refine z_aload_n hC dX2_init_56 rfl rfl ?_
  refine z_sipush (v := 576) hC dX2_init_57 rfl ?_
  obtain ⟨h37, hV⟩ := hV
  refine z_newa0 (len := 576) hC dX2_init_60 (by decide) rfl h37.1 h37.2.1 h37.2.2 ?_
  obtain ⟨σ38, e_σ38⟩ : ∃ z : ZS, z = sA σ36 (0, 576) 576 := ⟨_, rfl⟩
  replace hV := hV _ e_σ38
  rw [← e_σ38]
  obtain ⟨⟨n40, h39⟩, hV⟩ := hV
  obtain ⟨h41, hV⟩ := hV
  refine p_X2_33i_c1 (r := (some (.inl (zt σ36)))) hC dX2_init_62 h39 (pf_dyn h41) ?_
  obtain ⟨σ42, e_σ42⟩ : ∃ z : ZS, z = sP σ38 a0 5 (some (.inl (zt σ36))) := ⟨_, rfl⟩
  replace hV := hV _ e_σ42
  rw [← e_σ42]
  refine z_aload_n hC dX2_init_65 rfl rfl ?_
  refine z_sipush (v := 576) hC dX2_init_66 rfl ?_
  obtain ⟨h43, hV⟩ := hV
  refine z_newa0 (len := 576) hC dX2_init_69 (by decide) rfl h43.1 h43.2.1 h43.2.2 ?_
  obtain ⟨σ44, e_σ44⟩ : ∃ z : ZS, z = sA σ42 (0, 576) 576 := ⟨_, rfl⟩
  replace hV := hV _ e_σ44
  rw [← e_σ44]
  obtain ⟨⟨n46, h45⟩, hV⟩ := hV
  obtain ⟨h47, hV⟩ := hV
  refine p_X2_36i_c1 (r := (some (.inl (zt σ42)))) hC dX2_init_71 h45 (pf_dyn h47) ?_
  obtain ⟨σ48, e_σ48⟩ : ∃ z : ZS, z = sP σ44 a0 6 (some (.inl (zt σ42))) := ⟨_, rfl⟩
  replace hV := hV _ e_σ48
  rw [← e_σ48]
  exact z_vret hC dX2_init_74 (by rw [hQo]; exact ⟨rfl, hV⟩)
theorem p_X3_15i_c2 {C : ZC} {E : ZE} {cc : ByteArray} {n nL pc d a x : Nat} {ret : Option FieldType} {hh : List (Nat × Nat × Nat × Nat)} {σ : ZS} {L : List (Option Value)} {st : List Value} {r : ZR} (hC : Cx C E cc nL "RightTurns$State" "<init>" ret hh d) (hd : decode cc pc = .ok (.putfield 15, 3)) (hk : kK n σ a = (2 + 7, x)) (hf : pfree n a 1) (k : zz C E n nL (sP σ a 1 r) (pc + 3) L st) : zz C E n nL σ pc L (pv E.1.heap.size r :: .ref (E.1.heap.size + a) :: st) :=
  z_putP hC cf2 hd hk (k := 1) (by decide) (Or.inl q560) (Or.inl rfl) (Or.inr ⟨rfl, rfl, rfl, q560⟩) (Or.inr ⟨_, rfl⟩) rfl hf k
theorem p_X3_18i_c2 {C : ZC} {E : ZE} {cc : ByteArray} {n nL pc d a x : Nat} {ret : Option FieldType} {hh : List (Nat × Nat × Nat × Nat)} {σ : ZS} {L : List (Option Value)} {st : List Value} {r : ZR} (hC : Cx C E cc nL "RightTurns$State" "<init>" ret hh d) (hd : decode cc pc = .ok (.putfield 18, 3)) (hk : kK n σ a = (2 + 7, x)) (hf : pfree n a 2) (k : zz C E n nL (sP σ a 2 r) (pc + 3) L st) : zz C E n nL σ pc L (pv E.1.heap.size r :: .ref (E.1.heap.size + a) :: st) :=
  z_putP hC cf2 hd hk (k := 2) (by decide) (Or.inl q562) (Or.inl rfl) (Or.inr ⟨rfl, rfl, rfl, q562⟩) (Or.inr ⟨_, rfl⟩) rfl hf k
theorem p_X3_9i_c2 {C : ZC} {E : ZE} {cc : ByteArray} {n nL pc d a x : Nat} {ret : Option FieldType} {hh : List (Nat × Nat × Nat × Nat)} {σ : ZS} {L : List (Option Value)} {st : List Value} {r : ZR} (hC : Cx C E cc nL "RightTurns$State" "<init>" ret hh d) (hd : decode cc pc = .ok (.putfield 9, 3)) (hk : kK n σ a = (2 + 7, x)) (hf : pfree n a 0) (k : zz C E n nL (sP σ a 0 r) (pc + 3) L st) : zz C E n nL σ pc L (pv E.1.heap.size r :: .ref (E.1.heap.size + a) :: st) :=
  z_putP hC cf2 hd hk (k := 0) (by decide) (Or.inl q558) (Or.inl rfl) (Or.inr ⟨rfl, rfl, rfl, q558⟩) (Or.inr ⟨_, rfl⟩) rfl hf k
def wp_X3_init (n : Nat) (σ : ZS) (a0 : Nat) (Ret : ZS → Prop) : Prop :=
    (n ≤ zt σ ∧ zt σ + 1 ≤ NB ∧ zn σ + 4824 ≤ SB) ∧ (∀ σ2 : ZS, σ2 = sA σ (0, 4824) 4824 → ((∃ n4, kK n σ2 a0 = (9, n4)) ∧ (n ≤ a0 ∧ (∀ σ6 : ZS, σ6 = sP σ2 a0 0 (some (.inl (zt σ))) → ((n ≤ zt σ6 ∧ zt σ6 + 1 ≤ NB ∧ zn σ6 + 4824 ≤ SB) ∧ (∀ σ8 : ZS, σ8 = sA σ6 (0, 4824) 4824 → ((∃ n10, kK n σ8 a0 = (9, n10)) ∧ (n ≤ a0 ∧ (∀ σ12 : ZS, σ12 = sP σ8 a0 1 (some (.inl (zt σ6))) → ((n ≤ zt σ12 ∧ zt σ12 + 1 ≤ NB ∧ zn σ12 + 12 ≤ SB) ∧ (∀ σ14 : ZS, σ14 = sA σ12 (0, 12) 12 → ((∃ n16, kK n σ14 a0 = (9, n16)) ∧ (n ≤ a0 ∧ (∀ σ18 : ZS, σ18 = sP σ14 a0 2 (some (.inl (zt σ12))) → (Ret σ18)))))))))))))))
set_option maxHeartbeats 4000000 in
theorem mz_X3_init {l : Launch} {E : ZE} (hE : EOK E) {n : Nat} {σ : ZS} {a0 : Nat} {Ret : ZS → Prop} (hV : wp_X3_init n σ a0 Ret) : MZ l E n yX3_init (ws_ yX3_init cX3_init 1 none) 1 σ [.ref (E.1.heap.size + a0)] (rV Ret) := by
  refine MZ.start (L := [some (.ref (E.1.heap.size + a0))]) hE (by decide) (Nat.le_of_ble_eq_true rfl) rfl fun C hCl hQo hC => ?_
  replace hC : Cx C E cX3_init 1 "RightTurns$State" "<init>" none [] 1 := hC
  unfold wp_X3_init at hV
  refine z_aload_n hC dX3_init_0 rfl rfl ?_
  refine z_objInit hC dX3_init_1 q557 q154 qobj (by decide) (Nat.le_of_ble_eq_true rfl) ?_
  refine z_aload_n hC dX3_init_4 rfl rfl ?_
  refine z_sipush (v := 4824) hC dX3_init_5 rfl ?_
  obtain ⟨h1, hV⟩ := hV
  refine z_newa0 (len := 4824) hC dX3_init_8 (by decide) rfl h1.1 h1.2.1 h1.2.2 ?_
  obtain ⟨σ2, e_σ2⟩ : ∃ z : ZS, z = sA σ (0, 4824) 4824 := ⟨_, rfl⟩
  replace hV := hV _ e_σ2
  rw [← e_σ2]
  obtain ⟨⟨n4, h3⟩, hV⟩ := hV
  obtain ⟨h5, hV⟩ := hV
  refine p_X3_9i_c2 (r := (some (.inl (zt σ)))) hC dX3_init_10 h3 (pf_dyn h5) ?_
  obtain ⟨σ6, e_σ6⟩ : ∃ z : ZS, z = sP σ2 a0 0 (some (.inl (zt σ))) := ⟨_, rfl⟩
  replace hV := hV _ e_σ6
  rw [← e_σ6]
  refine z_aload_n hC dX3_init_13 rfl rfl ?_
  refine z_sipush (v := 4824) hC dX3_init_14 rfl ?_
  obtain ⟨h7, hV⟩ := hV
  refine z_newa0 (len := 4824) hC dX3_init_17 (by decide) rfl h7.1 h7.2.1 h7.2.2 ?_
  obtain ⟨σ8, e_σ8⟩ : ∃ z : ZS, z = sA σ6 (0, 4824) 4824 := ⟨_, rfl⟩
  replace hV := hV _ e_σ8
  rw [← e_σ8]
  obtain ⟨⟨n10, h9⟩, hV⟩ := hV
  obtain ⟨h11, hV⟩ := hV
  refine p_X3_15i_c2 (r := (some (.inl (zt σ6)))) hC dX3_init_19 h9 (pf_dyn h11) ?_
  obtain ⟨σ12, e_σ12⟩ : ∃ z : ZS, z = sP σ8 a0 1 (some (.inl (zt σ6))) := ⟨_, rfl⟩
  replace hV := hV _ e_σ12
  rw [← e_σ12]
  refine z_aload_n hC dX3_init_22 rfl rfl ?_
  refine z_bipush (v := 12) hC dX3_init_23 rfl ?_
  obtain ⟨h13, hV⟩ := hV
  refine z_newa0 (len := 12) hC dX3_init_25 (by decide) rfl h13.1 h13.2.1 h13.2.2 ?_
  obtain ⟨σ14, e_σ14⟩ : ∃ z : ZS, z = sA σ12 (0, 12) 12 := ⟨_, rfl⟩
  replace hV := hV _ e_σ14
  rw [← e_σ14]
  obtain ⟨⟨n16, h15⟩, hV⟩ := hV
  obtain ⟨h17, hV⟩ := hV
  refine p_X3_18i_c2 (r := (some (.inl (zt σ12)))) hC dX3_init_27 h15 (pf_dyn h17) ?_
  obtain ⟨σ18, e_σ18⟩ : ∃ z : ZS, z = sP σ14 a0 2 (some (.inl (zt σ12))) := ⟨_, rfl⟩
  replace hV := hV _ e_σ18
  rw [← e_σ18]
  exact z_vret hC dX3_init_30 (by rw [hQo]; exact ⟨rfl, hV⟩)
theorem p_X7_13i_c6 {C : ZC} {E : ZE} {cc : ByteArray} {n nL pc d a x : Nat} {ret : Option FieldType} {hh : List (Nat × Nat × Nat × Nat)} {σ : ZS} {L : List (Option Value)} {st : List Value} {v : Int32} (hC : Cx C E cc nL "RightTurns$Corner" "<init>" ret hh d) (hd : decode cc pc = .ok (.putfield 13, 3)) (hk : kK n σ a = (6 + 7, x)) (k : zz C E n nL (sI σ a 1 v) (pc + 3) L st) : zz C E n nL σ pc L (.int v :: .ref (E.1.heap.size + a) :: st) :=
  z_putI hC cf6 hd hk (k := 1) (by decide) (Or.inl q979) (Or.inl rfl) (Or.inr ⟨rfl, rfl, rfl, q979⟩) rfl rfl rfl k
theorem p_X7_7i_c6 {C : ZC} {E : ZE} {cc : ByteArray} {n nL pc d a x : Nat} {ret : Option FieldType} {hh : List (Nat × Nat × Nat × Nat)} {σ : ZS} {L : List (Option Value)} {st : List Value} {v : Int32} (hC : Cx C E cc nL "RightTurns$Corner" "<init>" ret hh d) (hd : decode cc pc = .ok (.putfield 7, 3)) (hk : kK n σ a = (6 + 7, x)) (k : zz C E n nL (sI σ a 0 v) (pc + 3) L st) : zz C E n nL σ pc L (.int v :: .ref (E.1.heap.size + a) :: st) :=
  z_putI hC cf6 hd hk (k := 0) (by decide) (Or.inl q976) (Or.inl rfl) (Or.inr ⟨rfl, rfl, rfl, q976⟩) rfl rfl rfl k
def wp_X7_init (σ : ZS) (a0 : Nat) (a1 : Int32) (a2 : Int32) (Ret : ZS → Prop) : Prop :=
    (∃ n2, kK NS σ a0 = (13, n2)) ∧ (∀ σ3 : ZS, σ3 = sI σ a0 0 a1 → ((∃ n5, kK NS σ3 a0 = (13, n5)) ∧ (∀ σ6 : ZS, σ6 = sI σ3 a0 1 a2 → (Ret σ6))))
set_option maxHeartbeats 4000000 in
theorem mz_X7_init {l : Launch} {E : ZE} (hE : EOK E) {σ : ZS} {a0 : Nat} {a1 : Int32} {a2 : Int32} {Ret : ZS → Prop} (hV : wp_X7_init σ a0 a1 a2 Ret) : MZ l E NS yX7_init (ws_ yX7_init cX7_init 3 none) 1 σ [.ref (E.1.heap.size + a0), .int a1, .int a2] (rV Ret) := by
  refine MZ.start (L := [some (.ref (E.1.heap.size + a0)), some (.int a1), some (.int a2)]) hE (by decide) (Nat.le_of_ble_eq_true rfl) rfl fun C hCl hQo hC => ?_
  replace hC : Cx C E cX7_init 3 "RightTurns$Corner" "<init>" none [] 1 := hC
  unfold wp_X7_init at hV
  refine z_aload_n hC dX7_init_0 rfl rfl ?_
  refine z_objInit hC dX7_init_1 q975 q154 qobj (by decide) (Nat.le_of_ble_eq_true rfl) ?_
  refine z_aload_n hC dX7_init_4 rfl rfl ?_
  refine z_iload_n hC dX7_init_5 rfl rfl ?_
  obtain ⟨⟨n2, h1⟩, hV⟩ := hV
  refine p_X7_7i_c6 hC dX7_init_6 h1 ?_
  obtain ⟨σ3, e_σ3⟩ : ∃ z : ZS, z = sI σ a0 0 a1 := ⟨_, rfl⟩
  replace hV := hV _ e_σ3
  rw [← e_σ3]
  refine z_aload_n hC dX7_init_9 rfl rfl ?_
  refine z_iload_n hC dX7_init_10 rfl rfl ?_
  obtain ⟨⟨n5, h4⟩, hV⟩ := hV
  refine p_X7_13i_c6 hC dX7_init_11 h4 ?_
  obtain ⟨σ6, e_σ6⟩ : ∃ z : ZS, z = sI σ3 a0 1 a2 := ⟨_, rfl⟩
  replace hV := hV _ e_σ6
  rw [← e_σ6]
  exact z_vret hC dX7_init_14 (by rw [hQo]; exact ⟨rfl, hV⟩)
theorem p_X8_13i_c7 {C : ZC} {E : ZE} {cc : ByteArray} {n nL pc d a x : Nat} {ret : Option FieldType} {hh : List (Nat × Nat × Nat × Nat)} {σ : ZS} {L : List (Option Value)} {st : List Value} {v : Int32} (hC : Cx C E cc nL "RightTurns$Street" "<init>" ret hh d) (hd : decode cc pc = .ok (.putfield 13, 3)) (hk : kK n σ a = (7 + 7, x)) (k : zz C E n nL (sI σ a 1 v) (pc + 3) L st) : zz C E n nL σ pc L (.int v :: .ref (E.1.heap.size + a) :: st) :=
  z_putI hC cf7 hd hk (k := 1) (by decide) (Or.inl q1049) (Or.inl rfl) (Or.inr ⟨rfl, rfl, rfl, q1049⟩) rfl rfl rfl k
theorem p_X8_16i_c7 {C : ZC} {E : ZE} {cc : ByteArray} {n nL pc d a x : Nat} {ret : Option FieldType} {hh : List (Nat × Nat × Nat × Nat)} {σ : ZS} {L : List (Option Value)} {st : List Value} {v : Int32} (hC : Cx C E cc nL "RightTurns$Street" "<init>" ret hh d) (hd : decode cc pc = .ok (.putfield 16, 3)) (hk : kK n σ a = (7 + 7, x)) (k : zz C E n nL (sI σ a 2 v) (pc + 3) L st) : zz C E n nL σ pc L (.int v :: .ref (E.1.heap.size + a) :: st) :=
  z_putI hC cf7 hd hk (k := 2) (by decide) (Or.inl q1052) (Or.inl rfl) (Or.inr ⟨rfl, rfl, rfl, q1052⟩) rfl rfl rfl k
theorem p_X8_7i_c7 {C : ZC} {E : ZE} {cc : ByteArray} {n nL pc d a x : Nat} {ret : Option FieldType} {hh : List (Nat × Nat × Nat × Nat)} {σ : ZS} {L : List (Option Value)} {st : List Value} {v : Int32} (hC : Cx C E cc nL "RightTurns$Street" "<init>" ret hh d) (hd : decode cc pc = .ok (.putfield 7, 3)) (hk : kK n σ a = (7 + 7, x)) (k : zz C E n nL (sI σ a 0 v) (pc + 3) L st) : zz C E n nL σ pc L (.int v :: .ref (E.1.heap.size + a) :: st) :=
  z_putI hC cf7 hd hk (k := 0) (by decide) (Or.inl q1046) (Or.inl rfl) (Or.inr ⟨rfl, rfl, rfl, q1046⟩) rfl rfl rfl k
def wp_X8_init (σ : ZS) (a0 : Nat) (a1 : Int32) (a2 : Int32) (a3 : Int32) (Ret : ZS → Prop) : Prop :=
    (∃ n2, kK NS σ a0 = (14, n2)) ∧ (∀ σ3 : ZS, σ3 = sI σ a0 0 a1 → ((∃ n5, kK NS σ3 a0 = (14, n5)) ∧ (∀ σ6 : ZS, σ6 = sI σ3 a0 1 a2 → ((∃ n8, kK NS σ6 a0 = (14, n8)) ∧ (∀ σ9 : ZS, σ9 = sI σ6 a0 2 a3 → (Ret σ9))))))
set_option maxHeartbeats 4000000 in
theorem mz_X8_init {l : Launch} {E : ZE} (hE : EOK E) {σ : ZS} {a0 : Nat} {a1 : Int32} {a2 : Int32} {a3 : Int32} {Ret : ZS → Prop} (hV : wp_X8_init σ a0 a1 a2 a3 Ret) : MZ l E NS yX8_init (ws_ yX8_init cX8_init 4 none) 1 σ [.ref (E.1.heap.size + a0), .int a1, .int a2, .int a3] (rV Ret) := by
  refine MZ.start (L := [some (.ref (E.1.heap.size + a0)), some (.int a1), some (.int a2), some (.int a3)]) hE (by decide) (Nat.le_of_ble_eq_true rfl) rfl fun C hCl hQo hC => ?_
  replace hC : Cx C E cX8_init 4 "RightTurns$Street" "<init>" none [] 1 := hC
  unfold wp_X8_init at hV
  refine z_aload_n hC dX8_init_0 rfl rfl ?_
  refine z_objInit hC dX8_init_1 q1045 q154 qobj (by decide) (Nat.le_of_ble_eq_true rfl) ?_
  refine z_aload_n hC dX8_init_4 rfl rfl ?_
  refine z_iload_n hC dX8_init_5 rfl rfl ?_
  obtain ⟨⟨n2, h1⟩, hV⟩ := hV
  refine p_X8_7i_c7 hC dX8_init_6 h1 ?_
  obtain ⟨σ3, e_σ3⟩ : ∃ z : ZS, z = sI σ a0 0 a1 := ⟨_, rfl⟩
  replace hV := hV _ e_σ3
  rw [← e_σ3]
  refine z_aload_n hC dX8_init_9 rfl rfl ?_
  refine z_iload_n hC dX8_init_10 rfl rfl ?_
  obtain ⟨⟨n5, h4⟩, hV⟩ := hV
  refine p_X8_13i_c7 hC dX8_init_11 h4 ?_
  obtain ⟨σ6, e_σ6⟩ : ∃ z : ZS, z = sI σ3 a0 1 a2 := ⟨_, rfl⟩
  replace hV := hV _ e_σ6
  rw [← e_σ6]
  refine z_aload_n hC dX8_init_14 rfl rfl ?_
  refine z_iload_n hC dX8_init_15 rfl rfl ?_
  obtain ⟨⟨n8, h7⟩, hV⟩ := hV
  refine p_X8_16i_c7 hC dX8_init_16 h7 ?_
  obtain ⟨σ9, e_σ9⟩ : ∃ z : ZS, z = sI σ6 a0 2 a3 := ⟨_, rfl⟩
  replace hV := hV _ e_σ9
  rw [← e_σ9]
  exact z_vret hC dX8_init_19 (by rw [hQo]; exact ⟨rfl, hV⟩)
theorem p_X9_13i_c8 {C : ZC} {E : ZE} {cc : ByteArray} {n nL pc d a x : Nat} {ret : Option FieldType} {hh : List (Nat × Nat × Nat × Nat)} {σ : ZS} {L : List (Option Value)} {st : List Value} {v : Int32} (hC : Cx C E cc nL "RightTurns$Rider" "<init>" ret hh d) (hd : decode cc pc = .ok (.putfield 13, 3)) (hk : kK n σ a = (8 + 7, x)) (k : zz C E n nL (sI σ a 1 v) (pc + 3) L st) : zz C E n nL σ pc L (.int v :: .ref (E.1.heap.size + a) :: st) :=
  z_putI hC cf8 hd hk (k := 1) (by decide) (Or.inl q1083) (Or.inl rfl) (Or.inr ⟨rfl, rfl, rfl, q1083⟩) rfl rfl rfl k
theorem p_X9_16i_c8 {C : ZC} {E : ZE} {cc : ByteArray} {n nL pc d a x : Nat} {ret : Option FieldType} {hh : List (Nat × Nat × Nat × Nat)} {σ : ZS} {L : List (Option Value)} {st : List Value} {v : Int32} (hC : Cx C E cc nL "RightTurns$Rider" "<init>" ret hh d) (hd : decode cc pc = .ok (.putfield 16, 3)) (hk : kK n σ a = (8 + 7, x)) (k : zz C E n nL (sI σ a 2 v) (pc + 3) L st) : zz C E n nL σ pc L (.int v :: .ref (E.1.heap.size + a) :: st) :=
  z_putI hC cf8 hd hk (k := 2) (by decide) (Or.inl q1085) (Or.inl rfl) (Or.inr ⟨rfl, rfl, rfl, q1085⟩) rfl rfl rfl k
theorem p_X9_7i_c8 {C : ZC} {E : ZE} {cc : ByteArray} {n nL pc d a x : Nat} {ret : Option FieldType} {hh : List (Nat × Nat × Nat × Nat)} {σ : ZS} {L : List (Option Value)} {st : List Value} {v : Int32} (hC : Cx C E cc nL "RightTurns$Rider" "<init>" ret hh d) (hd : decode cc pc = .ok (.putfield 7, 3)) (hk : kK n σ a = (8 + 7, x)) (k : zz C E n nL (sI σ a 0 v) (pc + 3) L st) : zz C E n nL σ pc L (.int v :: .ref (E.1.heap.size + a) :: st) :=
  z_putI hC cf8 hd hk (k := 0) (by decide) (Or.inl q1081) (Or.inl rfl) (Or.inr ⟨rfl, rfl, rfl, q1081⟩) rfl rfl rfl k
def wp_X9_init (σ : ZS) (a0 : Nat) (a1 : Int32) (a2 : Int32) (a3 : Int32) (Ret : ZS → Prop) : Prop :=
    (∃ n2, kK NS σ a0 = (15, n2)) ∧ (∀ σ3 : ZS, σ3 = sI σ a0 0 a1 → ((∃ n5, kK NS σ3 a0 = (15, n5)) ∧ (∀ σ6 : ZS, σ6 = sI σ3 a0 1 a2 → ((∃ n8, kK NS σ6 a0 = (15, n8)) ∧ (∀ σ9 : ZS, σ9 = sI σ6 a0 2 a3 → (Ret σ9))))))
set_option maxHeartbeats 4000000 in
theorem mz_X9_init {l : Launch} {E : ZE} (hE : EOK E) {σ : ZS} {a0 : Nat} {a1 : Int32} {a2 : Int32} {a3 : Int32} {Ret : ZS → Prop} (hV : wp_X9_init σ a0 a1 a2 a3 Ret) : MZ l E NS yX9_init (ws_ yX9_init cX9_init 4 none) 1 σ [.ref (E.1.heap.size + a0), .int a1, .int a2, .int a3] (rV Ret) := by
  refine MZ.start (L := [some (.ref (E.1.heap.size + a0)), some (.int a1), some (.int a2), some (.int a3)]) hE (by decide) (Nat.le_of_ble_eq_true rfl) rfl fun C hCl hQo hC => ?_
  replace hC : Cx C E cX9_init 4 "RightTurns$Rider" "<init>" none [] 1 := hC
  unfold wp_X9_init at hV
  refine z_aload_n hC dX9_init_0 rfl rfl ?_
  refine z_objInit hC dX9_init_1 q1080 q154 qobj (by decide) (Nat.le_of_ble_eq_true rfl) ?_
  refine z_aload_n hC dX9_init_4 rfl rfl ?_
  refine z_iload_n hC dX9_init_5 rfl rfl ?_
  obtain ⟨⟨n2, h1⟩, hV⟩ := hV
  refine p_X9_7i_c8 hC dX9_init_6 h1 ?_
  obtain ⟨σ3, e_σ3⟩ : ∃ z : ZS, z = sI σ a0 0 a1 := ⟨_, rfl⟩
  replace hV := hV _ e_σ3
  rw [← e_σ3]
  refine z_aload_n hC dX9_init_9 rfl rfl ?_
  refine z_iload_n hC dX9_init_10 rfl rfl ?_
  obtain ⟨⟨n5, h4⟩, hV⟩ := hV
  refine p_X9_13i_c8 hC dX9_init_11 h4 ?_
  obtain ⟨σ6, e_σ6⟩ : ∃ z : ZS, z = sI σ3 a0 1 a2 := ⟨_, rfl⟩
  replace hV := hV _ e_σ6
  rw [← e_σ6]
  refine z_aload_n hC dX9_init_14 rfl rfl ?_
  refine z_iload_n hC dX9_init_15 rfl rfl ?_
  obtain ⟨⟨n8, h7⟩, hV⟩ := hV
  refine p_X9_16i_c8 hC dX9_init_16 h7 ?_
  obtain ⟨σ9, e_σ9⟩ : ∃ z : ZS, z = sI σ6 a0 2 a3 := ⟨_, rfl⟩
  replace hV := hV _ e_σ9
  rw [← e_σ9]
  exact z_vret hC dX9_init_19 (by rw [hQo]; exact ⟨rfl, hV⟩)
def wp_J11_newLength (σ : ZS) (a0 : Int32) (a1 : Int32) (a2 : Int32) (Ret : Int32 → ZS → Prop) : Prop :=
    ∀ y2 : Int32, y2 = a0 + (if a1 < a2 then a2 else a1) → (((0 < y2 → (((2147483639 < y2 → (False)) ∧ (¬ 2147483639 < y2 → (Ret y2 σ))))) ∧ (¬ 0 < y2 → (False))))
set_option maxHeartbeats 4000000 in
theorem mz_J11_newLength {l : Launch} {E : ZE} (hE : EOK E) {σ : ZS} {a0 : Int32} {a1 : Int32} {a2 : Int32} {Ret : Int32 → ZS → Prop} (hV : wp_J11_newLength σ a0 a1 a2 Ret) : MZ l E NS yJ11_newLength (ws_ yJ11_newLength cJ11_newLength 4 (some .int)) 2 σ [.int a0, .int a1, .int a2] (rI Ret) := by
  refine MZ.start (L := [some (.int a0), some (.int a1), some (.int a2), none]) hE (by decide) (Nat.le_of_ble_eq_true rfl) rfl fun C hCl hQo hC => ?_
  replace hC : Cx C E cJ11_newLength 4 "jdk/internal/util/ArraysSupport" "newLength" (some .int) [] 2 := hC
  unfold wp_J11_newLength at hV
  refine z_iload_n hC dJ11_newLength_0 rfl rfl ?_
  refine z_iload_n hC dJ11_newLength_1 rfl rfl ?_
  refine z_iload_n hC dJ11_newLength_2 rfl rfl ?_
  refine z_mmax hC dJ11_newLength_3 q276 (by decide) (Nat.le_of_ble_eq_true rfl) ?_
  refine z_iadd hC dJ11_newLength_6 ?_
  obtain ⟨y2, e_y2⟩ : ∃ z, z = a0 + (if a1 < a2 then a2 else a1) := ⟨_, rfl⟩
  rw [← e_y2]
  replace hV := hV _ e_y2
  refine z_istore_n hC dJ11_newLength_7 rfl (Nat.le_of_ble_eq_true rfl) rfl rfl ?_
  refine z_iconst (v := 0) hC dJ11_newLength_8 rfl ?_
  refine z_iload_n hC dJ11_newLength_9 rfl rfl ?_
  refine z_icmp_ge (tgt := 21) hC dJ11_newLength_10 (by decide) (fun hc => ?_) (fun hc => ?_)
  · replace hV := hV.2 hc
    exact hV.elim
  · replace hV := hV.1 hc
    refine z_iload_n hC dJ11_newLength_13 rfl rfl ?_
    refine z_ldc hC dJ11_newLength_14 q279 ?_
    refine z_icmp_gt (tgt := 21) hC dJ11_newLength_16 (by decide) (fun hc => ?_) (fun hc => ?_)
    · replace hV := hV.1 hc
      exact hV.elim
    · replace hV := hV.2 hc
      refine z_iload_n hC dJ11_newLength_19 rfl rfl ?_
      exact z_iret hC dJ11_newLength_20 rfl (by rw [hQo]; exact ⟨_, rfl, hV⟩)
def V_J13_copyOf_3_24 (Ret : ZR → ZS → Prop) (σ : ZS) (x0 : Nat) (x1 : Int32) (s0 : Nat) : Prop :=
    ∃ n5, kK NS σ x0 = (6, n5) ∧ (∃ n8, kK NS σ x0 = (6, n8) ∧ (∃ n10, kK NS σ s0 = (6, n10) ∧ ((¬ (0 : Int32) < 0 ∧ ¬ (0 : Int32) < 0 ∧ ¬ (if x1 < (Int32.ofNat n5) then x1 else (Int32.ofNat n5)) < 0 ∧ ix 0 + ix (if x1 < (Int32.ofNat n5) then x1 else (Int32.ofNat n5)) ≤ n8 ∧ ix 0 + ix (if x1 < (Int32.ofNat n5) then x1 else (Int32.ofNat n5)) ≤ n10) ∧ (NS ≤ s0 ∧ (∀ i, i < ix (if x1 < (Int32.ofNat n5) then x1 else (Int32.ofNat n5)) → ∃ q, kP NS σ x0 (ix 0 + i) = some (.inl q) ∧ isEl NS σ q) ∧ (∀ σ14 : ZS, σ14 = cP NS σ x0 s0 (ix 0) (ix 0) (ix (if x1 < (Int32.ofNat n5) then x1 else (Int32.ofNat n5))) → (Ret (some (.inl s0)) σ14))))))
def wp_J13_copyOf_3 (σ : ZS) (a0 : Nat) (a1 : Int32) (Ret : ZR → ZS → Prop) : Prop :=
    ¬ a1 < 0 ∧ ((NS ≤ zt σ ∧ zt σ + 1 ≤ NB ∧ zn σ + (ix a1) ≤ SB) ∧ (∀ σ3 : ZS, σ3 = sA σ (6, (ix a1)) (ix a1) → (V_J13_copyOf_3_24 Ret σ3 a0 a1 (zt σ))))
set_option maxHeartbeats 4000000 in
theorem mz_J13_copyOf_3 {l : Launch} {E : ZE} (hE : EOK E) {σ : ZS} {a0 : Nat} {a1 : Int32} {Ret : ZR → ZS → Prop} (hV : wp_J13_copyOf_3 σ a0 a1 Ret) : MZ l E NS yJ13_copyOf_3 (ws_ yJ13_copyOf_3 cJ13_copyOf_3 4 (Option.some (FieldType.array (FieldType.object "java/lang/Object")))) 2 σ [.ref (E.1.heap.size + a0), .int a1, .ref (miO E)] (rP E.1.heap.size Ret) := by
  refine MZ.start (L := [some (.ref (E.1.heap.size + a0)), some (.int a1), some (.ref (miO E)), none]) hE (by decide) (Nat.le_of_ble_eq_true rfl) rfl fun C hCl hQo hC => ?_
  replace hC : Cx C E cJ13_copyOf_3 4 "java/util/Arrays" "copyOf" (Option.some (FieldType.array (FieldType.object "java/lang/Object"))) [] 2 := hC
  unfold wp_J13_copyOf_3 at hV
  have j_24 : ∀ (σ : ZS) (x0 : Nat) (x1 : Int32) (s0 : Nat), V_J13_copyOf_3_24 Ret σ x0 x1 s0 → zz C E NS 4 σ 24 [some (.ref (E.1.heap.size + x0)), some (.int x1), none, none] [.ref (E.1.heap.size + s0)] := by
    intro σ x0 x1 s0 hV
    unfold V_J13_copyOf_3_24 at hV
    refine z_astore_n hC dJ13_copyOf_3_24 rfl (Nat.le_of_ble_eq_true rfl) rfl rfl ?_
    refine z_aload_n hC dJ13_copyOf_3_25 rfl rfl ?_
    refine z_iconst (v := 0) hC dJ13_copyOf_3_26 rfl ?_
    refine z_aload_n hC dJ13_copyOf_3_27 rfl rfl ?_
    refine z_iconst (v := 0) hC dJ13_copyOf_3_28 rfl ?_
    refine z_aload_n hC dJ13_copyOf_3_29 rfl rfl ?_
    obtain ⟨n5, h4, hV⟩ := hV
    refine z_alen hC dJ13_copyOf_3_30 h4 (by decide) rfl ?_
    refine z_iload_n hC dJ13_copyOf_3_31 rfl rfl ?_
    refine z_mmin hC dJ13_copyOf_3_32 q294 (by decide) (Nat.le_of_ble_eq_true rfl) ?_
    obtain ⟨n8, h7, hV⟩ := hV
    obtain ⟨n10, h9, hV⟩ := hV
    obtain ⟨h11, hV⟩ := hV
    obtain ⟨h12, h13, hV⟩ := hV
    refine z_copy6 hC dJ13_copyOf_3_35 q297 (by decide) h7 h9 h12 h11.1 h11.2.1 h11.2.2.1 h11.2.2.2.1 h11.2.2.2.2 h13 (Nat.le_of_ble_eq_true rfl) ?_
    obtain ⟨σ14, e_σ14⟩ : ∃ z : ZS, z = cP NS σ x0 s0 (ix 0) (ix 0) (ix (if x1 < (Int32.ofNat n5) then x1 else (Int32.ofNat n5))) := ⟨_, rfl⟩
    replace hV := hV _ e_σ14
    rw [← e_σ14]
    refine z_aload_n hC dJ13_copyOf_3_38 rfl rfl ?_
    exact z_aret (r := (some (.inl s0))) hC (Or.inr ⟨_, rfl⟩) dJ13_copyOf_3_39 (by rw [hQo]; exact ⟨_, rfl, hV⟩)
  refine z_aload_n hC dJ13_copyOf_3_0 rfl rfl ?_
  refine z_ldcM hC dJ13_copyOf_3_1 q1033 ?_
  refine z_acmpNeM (tgt := 13) hC dJ13_copyOf_3_3 (by decide) ?_
  refine z_iload_n hC dJ13_copyOf_3_6 rfl rfl ?_
  obtain ⟨h1, hV⟩ := hV
  obtain ⟨h2, hV⟩ := hV
  refine z_anew6 (len := (ix a1)) hC dJ13_copyOf_3_7 q1034 h1 rfl h2.1 h2.2.1 h2.2.2 ?_
  obtain ⟨σ3, e_σ3⟩ : ∃ z : ZS, z = sA σ (6, (ix a1)) (ix a1) := ⟨_, rfl⟩
  replace hV := hV _ e_σ3
  rw [← e_σ3]
  refine z_goto (tgt := 24) hC dJ13_copyOf_3_10 (by decide) ?_
  refine zz_sub (L' := [some (.ref (E.1.heap.size + a0)), some (.int a1), none, none]) ⟨rfl, rfl, trivial⟩ ?_
  exact j_24 σ3 a0 a1 (zt σ) hV
theorem cw_J13_copyOf_3 : CodeW yJ13_copyOf_3 (ws_ yJ13_copyOf_3 cJ13_copyOf_3 4 (Option.some (FieldType.array (FieldType.object "java/lang/Object")))) 4 := ⟨fun w h => (List.mem_cons.mp h).elim (fun e => e ▸ q1032) id, Or.inl ⟨_, _, q1032⟩, q131, by decide, by decide⟩
theorem c_J13_300 {C : ZC} {E : ZE} {cc : ByteArray} {nL pc d : Nat} {nm : String} {ret : Option FieldType} {hh : List (Nat × Nat × Nat × Nat)} {σ : ZS} {L : List (Option Value)} {st : List Value} {a0 : Nat} {a1 : Int32} {Ret : ZR → ZS → Prop} (hC : Cx C E cc nL "java/util/Arrays" nm ret hh d) (hdd : 2 + 1 ≤ d) (hd : decode cc pc = .ok (.invokestatic 300, 3)) (hW : (st.map fun v => v.category).sum ≤ 8) (hV : wp_J13_copyOf_3 σ a0 a1 Ret) (k : ∀ r σ', Ret r σ' → zz C E NS nL σ' (pc + 3) L (pv E.1.heap.size r :: st)) : zz C E NS nL σ pc L (.ref (miO E) :: .int a1 :: .ref (E.1.heap.size + a0) :: st) :=
  z_callSG hC cw_J13_copyOf_3 hdd (by decide) (mz_J13_copyOf_3 (cxE hC) hV) hd q1030 q1031 (np := 3) rfl rfl hW rfl (kR k)
def wp_J13_copyOf_2 (σ : ZS) (a0 : Nat) (a1 : Int32) (Ret : ZR → ZS → Prop) : Prop :=
    ∃ n2, kK NS σ a0 = (6, n2) ∧ (wp_J13_copyOf_3 σ a0 a1 (fun r3 σ4 => Ret r3 σ4))
set_option maxHeartbeats 4000000 in
theorem mz_J13_copyOf_2 {l : Launch} {E : ZE} (hE : EOK E) {σ : ZS} {a0 : Nat} {a1 : Int32} {Ret : ZR → ZS → Prop} (hV : wp_J13_copyOf_2 σ a0 a1 Ret) : MZ l E NS yJ13_copyOf_2 (ws_ yJ13_copyOf_2 cJ13_copyOf_2 2 (Option.some (FieldType.array (FieldType.object "java/lang/Object")))) 3 σ [.ref (E.1.heap.size + a0), .int a1] (rP E.1.heap.size Ret) := by
  refine MZ.start (L := [some (.ref (E.1.heap.size + a0)), some (.int a1)]) hE (by decide) (Nat.le_of_ble_eq_true rfl) rfl fun C hCl hQo hC => ?_
  replace hC : Cx C E cJ13_copyOf_2 2 "java/util/Arrays" "copyOf" (Option.some (FieldType.array (FieldType.object "java/lang/Object"))) [] 3 := hC
  unfold wp_J13_copyOf_2 at hV
  refine z_aload_n hC dJ13_copyOf_2_0 rfl rfl ?_
  refine z_iload_n hC dJ13_copyOf_2_1 rfl rfl ?_
  refine z_aload_n hC dJ13_copyOf_2_2 rfl rfl ?_
  obtain ⟨n2, h1, hV⟩ := hV
  refine z_getClass hC dJ13_copyOf_2_3 q1009 h1 (by decide) (Nat.le_of_ble_eq_true rfl) ?_
  refine c_J13_300 hC (by decide) dJ13_copyOf_2_6 (Nat.le_of_ble_eq_true rfl) hV (fun r3 σ4 hV => ?_)
  exact z_aret (r := r3) hC (Or.inr ⟨_, rfl⟩) dJ13_copyOf_2_9 (by rw [hQo]; exact ⟨_, rfl, hV⟩)
theorem p_J2_9_c9 {C : ZC} {E : ZE} {cc : ByteArray} {n nL pc d a x : Nat} {nm : String} {ret : Option FieldType} {hh : List (Nat × Nat × Nat × Nat)} {σ : ZS} {L : List (Option Value)} {st : List Value} {r : ZR} (hC : Cx C E cc nL "java/util/ArrayList" nm ret hh d) (hd : decode cc pc = .ok (.putfield 9, 3)) (hk : kK n σ a = (9 + 7, x)) (hf : pfree n a 1) (k : zz C E n nL (sP σ a 1 r) (pc + 3) L st) : zz C E n nL σ pc L (pv E.1.heap.size r :: .ref (E.1.heap.size + a) :: st) :=
  z_putP hC cf9 hd hk (k := 1) (by decide) (Or.inl q494) (Or.inl rfl) (Or.inl rfl) (Or.inr ⟨_, rfl⟩) rfl hf k
theorem cw_J13_copyOf_2 : CodeW yJ13_copyOf_2 (ws_ yJ13_copyOf_2 cJ13_copyOf_2 2 (Option.some (FieldType.array (FieldType.object "java/lang/Object")))) 2 := ⟨fun w h => (List.mem_cons.mp h).elim (fun e => e ▸ q1008) id, Or.inl ⟨_, _, q1008⟩, q131, by decide, by decide⟩
theorem c_J2_66 {C : ZC} {E : ZE} {cc : ByteArray} {nL pc d : Nat} {nm : String} {ret : Option FieldType} {hh : List (Nat × Nat × Nat × Nat)} {σ : ZS} {L : List (Option Value)} {st : List Value} {a0 : Nat} {a1 : Int32} {Ret : ZR → ZS → Prop} (hC : Cx C E cc nL "java/util/ArrayList" nm ret hh d) (hdd : 3 + 1 ≤ d) (hd : decode cc pc = .ok (.invokestatic 66, 3)) (hW : (st.map fun v => v.category).sum ≤ 8) (hV : wp_J13_copyOf_2 σ a0 a1 Ret) (k : ∀ r σ', Ret r σ' → zz C E NS nL σ' (pc + 3) L (pv E.1.heap.size r :: st)) : zz C E NS nL σ pc L (.int a1 :: .ref (E.1.heap.size + a0) :: st) :=
  z_callSG hC cw_J13_copyOf_2 hdd (by decide) (mz_J13_copyOf_2 (cxE hC) hV) hd q1006 q1007 (np := 2) rfl rfl hW rfl (kR k)
theorem cw_J11_newLength : CodeW yJ11_newLength (ws_ yJ11_newLength cJ11_newLength 4 (some .int)) 4 := ⟨fun w h => (List.mem_cons.mp h).elim (fun e => e ▸ q275) id, Or.inl ⟨_, _, q275⟩, q129, by decide, by decide⟩
theorem c_J2_73 {C : ZC} {E : ZE} {cc : ByteArray} {nL pc d : Nat} {nm : String} {ret : Option FieldType} {hh : List (Nat × Nat × Nat × Nat)} {σ : ZS} {L : List (Option Value)} {st : List Value} {a0 : Int32} {a1 : Int32} {a2 : Int32} {Ret : Int32 → ZS → Prop} (hC : Cx C E cc nL "java/util/ArrayList" nm ret hh d) (hdd : 2 + 1 ≤ d) (hd : decode cc pc = .ok (.invokestatic 73, 3)) (hW : (st.map fun v => v.category).sum ≤ 8) (hV : wp_J11_newLength σ a0 a1 a2 Ret) (k : ∀ r σ', Ret r σ' → zz C E NS nL σ' (pc + 3) L (.int r :: st)) : zz C E NS nL σ pc L (.int a2 :: .int a1 :: .int a0 :: st) :=
  z_callSG hC cw_J11_newLength hdd (by decide) (mz_J11_newLength (cxE hC) hV) hd q1005 q274 (np := 3) rfl rfl hW rfl (kI k)
def V_J2_grow_2_20 (Ret : ZR → ZS → Prop) (σ : ZS) (x0 : Nat) (x1 : Int32) (x2 : Int32) : Prop :=
    wp_J11_newLength σ x2 (x1 - x2) (x2 >>> (1 &&& 31)) (fun r7 σ8 => (∃ n10, kK NS σ8 x0 = (16, n10)) ∧ ((kP NS σ8 x0 1) = some (.inl (zo (kP NS σ8 x0 1))) ∧ (wp_J13_copyOf_2 σ8 (zo (kP NS σ8 x0 1)) r7 (fun r12 σ13 => r12 = some (.inl (zo r12)) ∧ ((∃ n16, kK NS σ13 x0 = (16, n16)) ∧ (NS ≤ x0 ∧ (∀ σ18 : ZS, σ18 = sP σ13 x0 1 (some (.inl (zo r12))) → (Ret (some (.inl (zo r12))) σ18))))))))
def wp_J2_grow_2 (σ : ZS) (a0 : Nat) (a1 : Int32) (Ret : ZR → ZS → Prop) : Prop :=
    (∃ n2, kK NS σ a0 = (16, n2)) ∧ ((kP NS σ a0 1) = some (.inl (zo (kP NS σ a0 1))) ∧ (∃ n5, kK NS σ (zo (kP NS σ a0 1)) = (6, n5) ∧ (∀ y6 : Int32, y6 = Int32.ofNat n5 → (((0 < y6 → (V_J2_grow_2_20 Ret σ a0 a1 y6)) ∧ (¬ 0 < y6 → (False)))))))
set_option maxHeartbeats 4000000 in
theorem mz_J2_grow_2 {l : Launch} {E : ZE} (hE : EOK E) {σ : ZS} {a0 : Nat} {a1 : Int32} {Ret : ZR → ZS → Prop} (hV : wp_J2_grow_2 σ a0 a1 Ret) : MZ l E NS yJ2_grow_2 (ws_ yJ2_grow_2 cJ2_grow_2 4 (Option.some (FieldType.array (FieldType.object "java/lang/Object")))) 4 σ [.ref (E.1.heap.size + a0), .int a1] (rP E.1.heap.size Ret) := by
  refine MZ.start (L := [some (.ref (E.1.heap.size + a0)), some (.int a1), none, none]) hE (by decide) (Nat.le_of_ble_eq_true rfl) rfl fun C hCl hQo hC => ?_
  replace hC : Cx C E cJ2_grow_2 4 "java/util/ArrayList" "grow" (Option.some (FieldType.array (FieldType.object "java/lang/Object"))) [] 4 := hC
  unfold wp_J2_grow_2 at hV
  have j_20 : ∀ (σ : ZS) (x0 : Nat) (x1 : Int32) (x2 : Int32), V_J2_grow_2_20 Ret σ x0 x1 x2 → zz C E NS 4 σ 20 [some (.ref (E.1.heap.size + x0)), some (.int x1), some (.int x2), none] [] := by
    intro σ x0 x1 x2 hV
    unfold V_J2_grow_2_20 at hV
    refine z_iload_n hC dJ2_grow_2_20 rfl rfl ?_
    refine z_iload_n hC dJ2_grow_2_21 rfl rfl ?_
    refine z_iload_n hC dJ2_grow_2_22 rfl rfl ?_
    refine z_isub hC dJ2_grow_2_23 ?_
    refine z_iload_n hC dJ2_grow_2_24 rfl rfl ?_
    refine z_iconst (v := 1) hC dJ2_grow_2_25 rfl ?_
    refine z_ishr hC dJ2_grow_2_26 ?_
    refine c_J2_73 hC (by decide) dJ2_grow_2_27 (Nat.le_of_ble_eq_true rfl) hV (fun r7 σ8 hV => ?_)
    refine z_istore_n hC dJ2_grow_2_30 rfl (Nat.le_of_ble_eq_true rfl) rfl rfl ?_
    refine z_aload_n hC dJ2_grow_2_31 rfl rfl ?_
    refine z_aload_n hC dJ2_grow_2_32 rfl rfl ?_
    obtain ⟨⟨n10, h9⟩, hV⟩ := hV
    refine g_J2_9_c9 hC dJ2_grow_2_33 h9 ?_
    obtain ⟨h11, hV⟩ := hV
    refine zz_at rfl (by rw [pvo h11]) ?_
    refine z_iload_n hC dJ2_grow_2_36 rfl rfl ?_
    refine c_J2_66 hC (by decide) dJ2_grow_2_37 (Nat.le_of_ble_eq_true rfl) hV (fun r12 σ13 hV => ?_)
    obtain ⟨h14, hV⟩ := hV
    refine zz_at rfl (by rw [pvo h14]) ?_
    refine z_dup_x1 hC dJ2_grow_2_40 rfl rfl ?_
    obtain ⟨⟨n16, h15⟩, hV⟩ := hV
    obtain ⟨h17, hV⟩ := hV
    refine p_J2_9_c9 (r := (some (.inl (zo r12)))) hC dJ2_grow_2_41 h15 (pf_dyn h17) ?_
    obtain ⟨σ18, e_σ18⟩ : ∃ z : ZS, z = sP σ13 x0 1 (some (.inl (zo r12))) := ⟨_, rfl⟩
    replace hV := hV _ e_σ18
    rw [← e_σ18]
    exact z_aret (r := (some (.inl (zo r12)))) hC (Or.inr ⟨_, rfl⟩) dJ2_grow_2_44 (by rw [hQo]; exact ⟨_, rfl, hV⟩)
  refine z_aload_n hC dJ2_grow_2_0 rfl rfl ?_
  obtain ⟨⟨n2, h1⟩, hV⟩ := hV
  refine g_J2_9_c9 hC dJ2_grow_2_1 h1 ?_
  obtain ⟨h3, hV⟩ := hV
  refine zz_at rfl (by rw [pvo h3]) ?_
  obtain ⟨n5, h4, hV⟩ := hV
  refine z_alen hC dJ2_grow_2_4 h4 (by decide) rfl ?_
  obtain ⟨y6, e_y6⟩ : ∃ z, z = Int32.ofNat n5 := ⟨_, rfl⟩
  rw [← e_y6]
  replace hV := hV _ e_y6
  refine z_istore_n hC dJ2_grow_2_5 rfl (Nat.le_of_ble_eq_true rfl) rfl rfl ?_
  refine z_iload_n hC dJ2_grow_2_6 rfl rfl ?_
  refine z_if_gt (tgt := 20) hC dJ2_grow_2_7 (by decide) (fun hc => ?_) (fun hc => ?_)
  · replace hV := hV.1 hc
    refine zz_sub (L' := [some (.ref (E.1.heap.size + a0)), some (.int a1), some (.int y6), none]) ⟨rfl, rfl, rfl, trivial⟩ ?_
    exact j_20 σ a0 a1 y6 hV
  · replace hV := hV.2 hc
    exact hV.elim
theorem cw_J2_grow_2 : CodeW yJ2_grow_2 (ws_ yJ2_grow_2 cJ2_grow_2 4 (Option.some (FieldType.array (FieldType.object "java/lang/Object")))) 4 := ⟨fun w h => (List.mem_cons.mp h).elim (fun e => e ▸ q1002) id, Or.inl ⟨_, _, q1002⟩, q120, by decide, by decide⟩
theorem c_J2_69 {C : ZC} {E : ZE} {cc : ByteArray} {nL pc d : Nat} {nm : String} {ret : Option FieldType} {hh : List (Nat × Nat × Nat × Nat)} {σ : ZS} {L : List (Option Value)} {st : List Value} {a0 : Nat} {a1 : Int32} {Ret : ZR → ZS → Prop} (hC : Cx C E cc nL "java/util/ArrayList" nm ret hh d) (hdd : 4 + 1 ≤ d) (hd : decode cc pc = .ok (.invokevirtual 69, 3)) (hW : (st.map fun v => v.category).sum ≤ 8) {x : Nat} (hk : kK NS σ a0 = (9 + 7, x)) (hV : wp_J2_grow_2 σ a0 a1 Ret) (k : ∀ r σ', Ret r σ' → zz C E NS nL σ' (pc + 3) L (pv E.1.heap.size r :: st)) : zz C E NS nL σ pc L (.int a1 :: .ref (E.1.heap.size + a0) :: st) :=
  z_callVG hC cf9 cw_J2_grow_2 hdd (by decide) (mz_J2_grow_2 (cxE hC) hV) hd hk q999 q1001 qs10 (np := 1) rfl rfl hW rfl (kR k)
def wp_J2_grow (σ : ZS) (a0 : Nat) (Ret : ZR → ZS → Prop) : Prop :=
    (∃ n2, kK NS σ a0 = (16, n2)) ∧ ((∃ n6, kK NS σ a0 = (16, n6)) ∧ (wp_J2_grow_2 σ a0 ((zI σ a0 2) + 1) (fun r3 σ4 => Ret r3 σ4)))
set_option maxHeartbeats 4000000 in
theorem mz_J2_grow {l : Launch} {E : ZE} (hE : EOK E) {σ : ZS} {a0 : Nat} {Ret : ZR → ZS → Prop} (hV : wp_J2_grow σ a0 Ret) : MZ l E NS yJ2_grow (ws_ yJ2_grow cJ2_grow 1 (Option.some (FieldType.array (FieldType.object "java/lang/Object")))) 5 σ [.ref (E.1.heap.size + a0)] (rP E.1.heap.size Ret) := by
  refine MZ.start (L := [some (.ref (E.1.heap.size + a0))]) hE (by decide) (Nat.le_of_ble_eq_true rfl) rfl fun C hCl hQo hC => ?_
  replace hC : Cx C E cJ2_grow 1 "java/util/ArrayList" "grow" (Option.some (FieldType.array (FieldType.object "java/lang/Object"))) [] 5 := hC
  unfold wp_J2_grow at hV
  refine z_aload_n hC dJ2_grow_0 rfl rfl ?_
  refine z_aload_n hC dJ2_grow_1 rfl rfl ?_
  obtain ⟨⟨n2, h1⟩, hV⟩ := hV
  refine g_J2_48_c9 hC dJ2_grow_2 h1 ?_
  refine z_iconst (v := 1) hC dJ2_grow_5 rfl ?_
  refine z_iadd hC dJ2_grow_6 ?_
  obtain ⟨⟨n6, h5⟩, hV⟩ := hV
  refine c_J2_69 hC (by decide) dJ2_grow_7 (Nat.le_of_ble_eq_true rfl) h5 hV (fun r3 σ4 hV => ?_)
  exact z_aret (r := r3) hC (Or.inr ⟨_, rfl⟩) dJ2_grow_10 (by rw [hQo]; exact ⟨_, rfl, hV⟩)
theorem p_J2_48_c9 {C : ZC} {E : ZE} {cc : ByteArray} {n nL pc d a x : Nat} {nm : String} {ret : Option FieldType} {hh : List (Nat × Nat × Nat × Nat)} {σ : ZS} {L : List (Option Value)} {st : List Value} {v : Int32} (hC : Cx C E cc nL "java/util/ArrayList" nm ret hh d) (hd : decode cc pc = .ok (.putfield 48, 3)) (hk : kK n σ a = (9 + 7, x)) (k : zz C E n nL (sI σ a 2 v) (pc + 3) L st) : zz C E n nL σ pc L (.int v :: .ref (E.1.heap.size + a) :: st) :=
  z_putI hC cf9 hd hk (k := 2) (by decide) (Or.inl q495) (Or.inl rfl) (Or.inl rfl) rfl rfl rfl k
theorem cw_J2_grow : CodeW yJ2_grow (ws_ yJ2_grow cJ2_grow 1 (Option.some (FieldType.array (FieldType.object "java/lang/Object")))) 1 := ⟨fun w h => (List.mem_cons.mp h).elim (fun e => e ▸ q998) id, Or.inl ⟨_, _, q998⟩, q120, by decide, by decide⟩
theorem c_J2_129 {C : ZC} {E : ZE} {cc : ByteArray} {nL pc d : Nat} {nm : String} {ret : Option FieldType} {hh : List (Nat × Nat × Nat × Nat)} {σ : ZS} {L : List (Option Value)} {st : List Value} {a0 : Nat} {Ret : ZR → ZS → Prop} (hC : Cx C E cc nL "java/util/ArrayList" nm ret hh d) (hdd : 5 + 1 ≤ d) (hd : decode cc pc = .ok (.invokevirtual 129, 3)) (hW : (st.map fun v => v.category).sum ≤ 8) {x : Nat} (hk : kK NS σ a0 = (9 + 7, x)) (hV : wp_J2_grow σ a0 Ret) (k : ∀ r σ', Ret r σ' → zz C E NS nL σ' (pc + 3) L (pv E.1.heap.size r :: st)) : zz C E NS nL σ pc L (.ref (E.1.heap.size + a0) :: st) :=
  z_callVG hC cf9 cw_J2_grow hdd (by decide) (mz_J2_grow (cxE hC) hV) hd hk q995 q997 qs9 (np := 0) rfl rfl hW rfl (kR k)
def V_J2_add_2_11 (Ret : ZS → Prop) (σ : ZS) (x0 : Nat) (x1 : Nat) (x2 : Nat) (x3 : Int32) : Prop :=
    ∃ n4, kK NS σ x2 = (6, n4) ∧ (vp_in x3 n4 ∧ (isEl NS σ x1 ∧ (NS ≤ x2 ∧ (∀ σ8 : ZS, σ8 = sP σ x2 (ix x3) (some (.inl x1)) → ((∃ n10, kK NS σ8 x0 = (16, n10)) ∧ (∀ σ11 : ZS, σ11 = sI σ8 x0 2 (x3 + 1) → (Ret σ11)))))))
def wp_J2_add_2 (σ : ZS) (a0 : Nat) (a1 : Nat) (a2 : Nat) (a3 : Int32) (Ret : ZS → Prop) : Prop :=
    ∃ n2, kK NS σ a2 = (6, n2) ∧ (((a3 = (Int32.ofNat n2) → ((∃ n15, kK NS σ a0 = (16, n15)) ∧ (wp_J2_grow σ a0 (fun r12 σ13 => r12 = some (.inl (zo r12)) ∧ (V_J2_add_2_11 Ret σ13 a0 a1 (zo r12) a3))))) ∧ (¬ a3 = (Int32.ofNat n2) → (V_J2_add_2_11 Ret σ a0 a1 a2 a3))))
set_option maxHeartbeats 4000000 in
theorem mz_J2_add_2 {l : Launch} {E : ZE} (hE : EOK E) {σ : ZS} {a0 : Nat} {a1 : Nat} {a2 : Nat} {a3 : Int32} {Ret : ZS → Prop} (hV : wp_J2_add_2 σ a0 a1 a2 a3 Ret) : MZ l E NS yJ2_add_2 (ws_ yJ2_add_2 cJ2_add_2 4 none) 6 σ [.ref (E.1.heap.size + a0), .ref (E.1.heap.size + a1), .ref (E.1.heap.size + a2), .int a3] (rV Ret) := by
  refine MZ.start (L := [some (.ref (E.1.heap.size + a0)), some (.ref (E.1.heap.size + a1)), some (.ref (E.1.heap.size + a2)), some (.int a3)]) hE (by decide) (Nat.le_of_ble_eq_true rfl) rfl fun C hCl hQo hC => ?_
  replace hC : Cx C E cJ2_add_2 4 "java/util/ArrayList" "add" none [] 6 := hC
  unfold wp_J2_add_2 at hV
  have j_11 : ∀ (σ : ZS) (x0 : Nat) (x1 : Nat) (x2 : Nat) (x3 : Int32), V_J2_add_2_11 Ret σ x0 x1 x2 x3 → zz C E NS 4 σ 11 [some (.ref (E.1.heap.size + x0)), some (.ref (E.1.heap.size + x1)), some (.ref (E.1.heap.size + x2)), some (.int x3)] [] := by
    intro σ x0 x1 x2 x3 hV
    unfold V_J2_add_2_11 at hV
    refine z_aload_n hC dJ2_add_2_11 rfl rfl ?_
    refine z_iload_n hC dJ2_add_2_12 rfl rfl ?_
    refine z_aload_n hC dJ2_add_2_13 rfl rfl ?_
    obtain ⟨n4, h3, hV⟩ := hV
    obtain ⟨h5, hV⟩ := hV
    obtain ⟨h6, hV⟩ := hV
    obtain ⟨h7, hV⟩ := hV
    refine z_aastE hC dJ2_add_2_14 h3 h6 (h5) (pf_dyn h7) ?_
    obtain ⟨σ8, e_σ8⟩ : ∃ z : ZS, z = sP σ x2 (ix x3) (some (.inl x1)) := ⟨_, rfl⟩
    replace hV := hV _ e_σ8
    rw [← e_σ8]
    refine z_aload_n hC dJ2_add_2_15 rfl rfl ?_
    refine z_iload_n hC dJ2_add_2_16 rfl rfl ?_
    refine z_iconst (v := 1) hC dJ2_add_2_17 rfl ?_
    refine z_iadd hC dJ2_add_2_18 ?_
    obtain ⟨⟨n10, h9⟩, hV⟩ := hV
    refine p_J2_48_c9 hC dJ2_add_2_19 h9 ?_
    obtain ⟨σ11, e_σ11⟩ : ∃ z : ZS, z = sI σ8 x0 2 (x3 + 1) := ⟨_, rfl⟩
    replace hV := hV _ e_σ11
    rw [← e_σ11]
    exact z_vret hC dJ2_add_2_22 (by rw [hQo]; exact ⟨rfl, hV⟩)
  refine z_iload_n hC dJ2_add_2_0 rfl rfl ?_
  refine z_aload_n hC dJ2_add_2_1 rfl rfl ?_
  obtain ⟨n2, h1, hV⟩ := hV
  refine z_alen hC dJ2_add_2_2 h1 (by decide) rfl ?_
  refine z_icmp_ne (tgt := 11) hC dJ2_add_2_3 (by decide) (fun hc => ?_) (fun hc => ?_)
  · replace hV := hV.2 hc
    refine zz_sub (L' := [some (.ref (E.1.heap.size + a0)), some (.ref (E.1.heap.size + a1)), some (.ref (E.1.heap.size + a2)), some (.int a3)]) ⟨rfl, rfl, rfl, rfl, trivial⟩ ?_
    exact j_11 σ a0 a1 a2 a3 hV
  · replace hV := hV.1 hc
    refine z_aload_n hC dJ2_add_2_6 rfl rfl ?_
    obtain ⟨⟨n15, h14⟩, hV⟩ := hV
    refine c_J2_129 hC (by decide) dJ2_add_2_7 (Nat.le_of_ble_eq_true rfl) h14 hV (fun r12 σ13 hV => ?_)
    obtain ⟨h16, hV⟩ := hV
    refine zz_at rfl (by rw [pvo h16]) ?_
    refine z_astore_n hC dJ2_add_2_10 rfl (Nat.le_of_ble_eq_true rfl) rfl rfl ?_
    refine zz_sub (L' := [some (.ref (E.1.heap.size + a0)), some (.ref (E.1.heap.size + a1)), some (.ref (E.1.heap.size + (zo r12))), some (.int a3)]) ⟨rfl, rfl, rfl, rfl, trivial⟩ ?_
    exact j_11 σ13 a0 a1 (zo r12) a3 hV
theorem g_J2_63_c9 {a x : Nat} {C : ZC} {E : ZE} {cc : ByteArray} {n nL pc d : Nat} {nm : String} {ret : Option FieldType} {hh : List (Nat × Nat × Nat × Nat)} {σ : ZS} {L : List (Option Value)} {st : List Value} (hC : Cx C E cc nL "java/util/ArrayList" nm ret hh d) (hd : decode cc pc = .ok (.getfield 63, 3)) (hk : kK n σ a = (9 + 7, x)) (k : zz C E n nL σ (pc + 3) L (.int (zI σ a 0) :: st)) : zz C E n nL σ pc L (.ref (E.1.heap.size + a) :: st) :=
  z_get hC cf9 hd hk (k := 0) (by decide) (Or.inl q497) (Or.inr q498) rfl k
theorem p_J2_63_c9 {C : ZC} {E : ZE} {cc : ByteArray} {n nL pc d a x : Nat} {nm : String} {ret : Option FieldType} {hh : List (Nat × Nat × Nat × Nat)} {σ : ZS} {L : List (Option Value)} {st : List Value} {v : Int32} (hC : Cx C E cc nL "java/util/ArrayList" nm ret hh d) (hd : decode cc pc = .ok (.putfield 63, 3)) (hk : kK n σ a = (9 + 7, x)) (k : zz C E n nL (sI σ a 0 v) (pc + 3) L st) : zz C E n nL σ pc L (.int v :: .ref (E.1.heap.size + a) :: st) :=
  z_putI hC cf9 hd hk (k := 0) (by decide) (Or.inl q497) (Or.inr q498) (Or.inl rfl) rfl rfl rfl k
theorem cw_J2_add_2 : CodeW yJ2_add_2 (ws_ yJ2_add_2 cJ2_add_2 4 none) 4 := ⟨fun w h => (List.mem_cons.mp h).elim (fun e => e ▸ q994) id, Or.inl ⟨_, _, q994⟩, q120, by decide, by decide⟩
theorem c_J2_131 {C : ZC} {E : ZE} {cc : ByteArray} {nL pc d : Nat} {nm : String} {ret : Option FieldType} {hh : List (Nat × Nat × Nat × Nat)} {σ : ZS} {L : List (Option Value)} {st : List Value} {a0 : Nat} {a1 : Nat} {a2 : Nat} {a3 : Int32} {Ret : ZS → Prop} (hC : Cx C E cc nL "java/util/ArrayList" nm ret hh d) (hdd : 6 + 1 ≤ d) (hd : decode cc pc = .ok (.invokevirtual 131, 3)) (hW : (st.map fun v => v.category).sum ≤ 8) {x : Nat} (hk : kK NS σ a0 = (9 + 7, x)) (hV : wp_J2_add_2 σ a0 a1 a2 a3 Ret) (k : ∀ σ', Ret σ' → zz C E NS nL σ' (pc + 3) L st) : zz C E NS nL σ pc L (.int a3 :: .ref (E.1.heap.size + a2) :: .ref (E.1.heap.size + a1) :: .ref (E.1.heap.size + a0) :: st) :=
  z_callVG hC cf9 cw_J2_add_2 hdd (by decide) (mz_J2_add_2 (cxE hC) hV) hd hk q991 q993 qs8 (np := 3) rfl rfl hW rfl (kV k)
def wp_J2_add (σ : ZS) (a0 : Nat) (a1 : Nat) (Ret : Int32 → ZS → Prop) : Prop :=
    (∃ n2, kK NS σ a0 = (16, n2)) ∧ ((∃ n4, kK NS σ a0 = (16, n4)) ∧ (∀ σ5 : ZS, σ5 = sI σ a0 0 ((zI σ a0 0) + 1) → ((∃ n7, kK NS σ5 a0 = (16, n7)) ∧ ((kP NS σ5 a0 1) = some (.inl (zo (kP NS σ5 a0 1))) ∧ ((∃ n10, kK NS σ5 a0 = (16, n10)) ∧ ((∃ n14, kK NS σ5 a0 = (16, n14)) ∧ (wp_J2_add_2 σ5 a0 a1 (zo (kP NS σ5 a0 1)) (zI σ5 a0 2) (fun σ12 => Ret 1 σ12))))))))
set_option maxHeartbeats 4000000 in
theorem mz_J2_add {l : Launch} {E : ZE} (hE : EOK E) {σ : ZS} {a0 : Nat} {a1 : Nat} {Ret : Int32 → ZS → Prop} (hV : wp_J2_add σ a0 a1 Ret) : MZ l E NS yJ2_add (ws_ yJ2_add cJ2_add 2 (some .boolean)) 7 σ [.ref (E.1.heap.size + a0), .ref (E.1.heap.size + a1)] (rI Ret) := by
  refine MZ.start (L := [some (.ref (E.1.heap.size + a0)), some (.ref (E.1.heap.size + a1))]) hE (by decide) (Nat.le_of_ble_eq_true rfl) rfl fun C hCl hQo hC => ?_
  replace hC : Cx C E cJ2_add 2 "java/util/ArrayList" "add" (some .boolean) [] 7 := hC
  unfold wp_J2_add at hV
  refine z_aload_n hC dJ2_add_0 rfl rfl ?_
  refine z_dup hC dJ2_add_1 rfl ?_
  obtain ⟨⟨n2, h1⟩, hV⟩ := hV
  refine g_J2_63_c9 hC dJ2_add_2 h1 ?_
  refine z_iconst (v := 1) hC dJ2_add_5 rfl ?_
  refine z_iadd hC dJ2_add_6 ?_
  obtain ⟨⟨n4, h3⟩, hV⟩ := hV
  refine p_J2_63_c9 hC dJ2_add_7 h3 ?_
  obtain ⟨σ5, e_σ5⟩ : ∃ z : ZS, z = sI σ a0 0 ((zI σ a0 0) + 1) := ⟨_, rfl⟩
  replace hV := hV _ e_σ5
  rw [← e_σ5]
  refine z_aload_n hC dJ2_add_10 rfl rfl ?_
  refine z_aload_n hC dJ2_add_11 rfl rfl ?_
  refine z_aload_n hC dJ2_add_12 rfl rfl ?_
  obtain ⟨⟨n7, h6⟩, hV⟩ := hV
  refine g_J2_9_c9 hC dJ2_add_13 h6 ?_
  obtain ⟨h8, hV⟩ := hV
  refine zz_at rfl (by rw [pvo h8]) ?_
  refine z_aload_n hC dJ2_add_16 rfl rfl ?_
  obtain ⟨⟨n10, h9⟩, hV⟩ := hV
  refine g_J2_48_c9 hC dJ2_add_17 h9 ?_
  obtain ⟨⟨n14, h13⟩, hV⟩ := hV
  refine c_J2_131 hC (by decide) dJ2_add_20 (Nat.le_of_ble_eq_true rfl) h13 hV (fun σ12 hV => ?_)
  refine z_iconst (v := 1) hC dJ2_add_23 rfl ?_
  exact z_iret hC dJ2_add_24 rfl (by rw [hQo]; exact ⟨_, rfl, hV⟩)
theorem p_J7_15i_c10 {C : ZC} {E : ZE} {cc : ByteArray} {n nL pc d a x : Nat} {ret : Option FieldType} {hh : List (Nat × Nat × Nat × Nat)} {σ : ZS} {L : List (Option Value)} {st : List Value} {r : ZR} (hC : Cx C E cc nL "java/lang/AbstractStringBuilder" "<init>" ret hh d) (hd : decode cc pc = .ok (.putfield 15, 3)) (hk : kK n σ a = (10 + 7, x)) (hf : pfree n a 0) (k : zz C E n nL (sP σ a 0 r) (pc + 3) L st) : zz C E n nL σ pc L (pv E.1.heap.size r :: .ref (E.1.heap.size + a) :: st) :=
  z_putP hC cf10 hd hk (k := 0) (by decide) (Or.inl q239) (Or.inl rfl) (Or.inl rfl) (Or.inr ⟨_, rfl⟩) rfl hf k
theorem p_J7_22i_c10 {C : ZC} {E : ZE} {cc : ByteArray} {n nL pc d a x : Nat} {ret : Option FieldType} {hh : List (Nat × Nat × Nat × Nat)} {σ : ZS} {L : List (Option Value)} {st : List Value} {v : Int32} (hC : Cx C E cc nL "java/lang/AbstractStringBuilder" "<init>" ret hh d) (hd : decode cc pc = .ok (.putfield 22, 3)) (hk : kK n σ a = (10 + 7, x)) (hb1 : narrow .byte (.int v) = .int v) (hb2 : fits .byte (.int v) = true) (k : zz C E n nL (sI σ a 1 v) (pc + 3) L st) : zz C E n nL σ pc L (.int v :: .ref (E.1.heap.size + a) :: st) :=
  z_putI hC cf10 hd hk (k := 1) (by decide) (Or.inl q240) (Or.inl rfl) (Or.inl rfl) hb1 hb2 rfl k
def wp_J7_init (σ : ZS) (a0 : Nat) (a1 : Int32) (Ret : ZS → Prop) : Prop :=
    (((1 : Int32) = 0 → (False)) ∧ (¬ (1 : Int32) = 0 → (¬ a1 < 0 ∧ ((NS ≤ zt σ ∧ zt σ + 1 ≤ NB ∧ zn σ + (ix a1) ≤ SB) ∧ (∀ σ3 : ZS, σ3 = sA σ (2, (ix a1)) (ix a1) → ((∃ n5, kK NS σ3 a0 = (17, n5)) ∧ (NS ≤ a0 ∧ (∀ σ7 : ZS, σ7 = sP σ3 a0 0 (some (.inl (zt σ))) → ((∃ n9, kK NS σ7 a0 = (17, n9)) ∧ (∀ σ10 : ZS, σ10 = sI σ7 a0 1 0 → (Ret σ10)))))))))))
set_option maxHeartbeats 4000000 in
theorem mz_J7_init {l : Launch} {E : ZE} (hE : EOK E) {σ : ZS} {a0 : Nat} {a1 : Int32} {Ret : ZS → Prop} (hV : wp_J7_init σ a0 a1 Ret) : MZ l E NS yJ7_init (ws_ yJ7_init cJ7_init 2 none) 1 σ [.ref (E.1.heap.size + a0), .int a1] (rV Ret) := by
  refine MZ.start (L := [some (.ref (E.1.heap.size + a0)), some (.int a1)]) hE (by decide) (Nat.le_of_ble_eq_true rfl) rfl fun C hCl hQo hC => ?_
  replace hC : Cx C E cJ7_init 2 "java/lang/AbstractStringBuilder" "<init>" none [] 1 := hC
  unfold wp_J7_init at hV
  refine z_aload_n hC dJ7_init_0 rfl rfl ?_
  refine z_objInit hC dJ7_init_1 q229 q154 qobj (by decide) (Nat.le_of_ble_eq_true rfl) ?_
  refine z_getsI (v := 1) hC dJ7_init_4 q230 q231 q127 (by decide +kernel) ?_
  refine z_if_eq (tgt := 25) hC dJ7_init_7 (by decide) (fun hc => ?_) (fun hc => ?_)
  · replace hV := hV.1 hc
    exact hV.elim
  · replace hV := hV.2 hc
    refine z_aload_n hC dJ7_init_10 rfl rfl ?_
    refine z_iload_n hC dJ7_init_11 rfl rfl ?_
    obtain ⟨h1, hV⟩ := hV
    obtain ⟨h2, hV⟩ := hV
    refine z_newa2 (len := (ix a1)) hC dJ7_init_12 h1 rfl h2.1 h2.2.1 h2.2.2 ?_
    obtain ⟨σ3, e_σ3⟩ : ∃ z : ZS, z = sA σ (2, (ix a1)) (ix a1) := ⟨_, rfl⟩
    replace hV := hV _ e_σ3
    rw [← e_σ3]
    obtain ⟨⟨n5, h4⟩, hV⟩ := hV
    obtain ⟨h6, hV⟩ := hV
    refine p_J7_15i_c10 (r := (some (.inl (zt σ)))) hC dJ7_init_14 h4 (pf_dyn h6) ?_
    obtain ⟨σ7, e_σ7⟩ : ∃ z : ZS, z = sP σ3 a0 0 (some (.inl (zt σ))) := ⟨_, rfl⟩
    replace hV := hV _ e_σ7
    rw [← e_σ7]
    refine z_aload_n hC dJ7_init_17 rfl rfl ?_
    refine z_iconst (v := 0) hC dJ7_init_18 rfl ?_
    obtain ⟨⟨n9, h8⟩, hV⟩ := hV
    refine p_J7_22i_c10 hC dJ7_init_19 h8 rfl rfl ?_
    obtain ⟨σ10, e_σ10⟩ : ∃ z : ZS, z = sI σ7 a0 1 0 := ⟨_, rfl⟩
    replace hV := hV _ e_σ10
    rw [← e_σ10]
    refine z_goto (tgt := 38) hC dJ7_init_22 (by decide) ?_
    exact z_vret hC dJ7_init_38 (by rw [hQo]; exact ⟨rfl, hV⟩)
theorem cw_J7_init : CodeW yJ7_init (ws_ yJ7_init cJ7_init 2 none) 2 := ⟨fun w h => (List.mem_cons.mp h).elim (fun e => e ▸ q228) id, Or.inl ⟨_, _, q228⟩, q125, by decide, by decide⟩
theorem c_J8_1 {C : ZC} {E : ZE} {cc : ByteArray} {nL pc d : Nat} {nm : String} {ret : Option FieldType} {hh : List (Nat × Nat × Nat × Nat)} {σ : ZS} {L : List (Option Value)} {st : List Value} {a0 : Nat} {a1 : Int32} {Ret : ZS → Prop} (hC : Cx C E cc nL "java/lang/StringBuilder" nm ret hh d) (hdd : 1 + 1 ≤ d) (hd : decode cc pc = .ok (.invokespecial 1, 3)) (hW : (st.map fun v => v.category).sum ≤ 8) (hV : wp_J7_init σ a0 a1 Ret) (k : ∀ σ', Ret σ' → zz C E NS nL σ' (pc + 3) L st) : zz C E NS nL σ pc L (.int a1 :: .ref (E.1.heap.size + a0) :: st) :=
  z_callIG hC cw_J7_init q228 hdd (by decide) (mz_J7_init (cxE hC) hV) hd rfl q226 q227 (np := 1) rfl rfl hW rfl (kV k)
def wp_J8_init (σ : ZS) (a0 : Nat) (Ret : ZS → Prop) : Prop :=
    wp_J7_init σ a0 16 (fun σ2 => Ret σ2)
set_option maxHeartbeats 4000000 in
theorem mz_J8_init {l : Launch} {E : ZE} (hE : EOK E) {σ : ZS} {a0 : Nat} {Ret : ZS → Prop} (hV : wp_J8_init σ a0 Ret) : MZ l E NS yJ8_init (ws_ yJ8_init cJ8_init 1 none) 2 σ [.ref (E.1.heap.size + a0)] (rV Ret) := by
  refine MZ.start (L := [some (.ref (E.1.heap.size + a0))]) hE (by decide) (Nat.le_of_ble_eq_true rfl) rfl fun C hCl hQo hC => ?_
  replace hC : Cx C E cJ8_init 1 "java/lang/StringBuilder" "<init>" none [] 2 := hC
  unfold wp_J8_init at hV
  refine z_aload_n hC dJ8_init_0 rfl rfl ?_
  refine z_bipush (v := 16) hC dJ8_init_1 rfl ?_
  refine c_J8_1 hC (by decide) dJ8_init_3 (Nat.le_of_ble_eq_true rfl) hV (fun σ2 hV => ?_)
  exact z_vret hC dJ8_init_6 (by rw [hQo]; exact ⟨rfl, hV⟩)
theorem g_J7_22_c10 {a x : Nat} {C : ZC} {E : ZE} {cc : ByteArray} {n nL pc d : Nat} {nm : String} {ret : Option FieldType} {hh : List (Nat × Nat × Nat × Nat)} {σ : ZS} {L : List (Option Value)} {st : List Value} (hC : Cx C E cc nL "java/lang/AbstractStringBuilder" nm ret hh d) (hd : decode cc pc = .ok (.getfield 22, 3)) (hk : kK n σ a = (10 + 7, x)) (k : zz C E n nL σ (pc + 3) L (.int (zI σ a 1) :: st)) : zz C E n nL σ pc L (.ref (E.1.heap.size + a) :: st) :=
  z_get hC cf10 hd hk (k := 1) (by decide) (Or.inl q240) (Or.inl rfl) rfl k
def wp_J7_isLatin1 (σ : ZS) (a0 : Nat) (Ret : Int32 → ZS → Prop) : Prop :=
    (((1 : Int32) = 0 → (Ret 0 σ)) ∧ (¬ (1 : Int32) = 0 → ((∃ n2, kK NS σ a0 = (17, n2)) ∧ ((((zI σ a0 1) = 0 → (Ret 1 σ)) ∧ (¬ (zI σ a0 1) = 0 → (Ret 0 σ)))))))
set_option maxHeartbeats 4000000 in
theorem mz_J7_isLatin1 {l : Launch} {E : ZE} (hE : EOK E) {σ : ZS} {a0 : Nat} {Ret : Int32 → ZS → Prop} (hV : wp_J7_isLatin1 σ a0 Ret) : MZ l E NS yJ7_isLatin1 (ws_ yJ7_isLatin1 cJ7_isLatin1 1 (some .boolean)) 1 σ [.ref (E.1.heap.size + a0)] (rI Ret) := by
  refine MZ.start (L := [some (.ref (E.1.heap.size + a0))]) hE (by decide) (Nat.le_of_ble_eq_true rfl) rfl fun C hCl hQo hC => ?_
  replace hC : Cx C E cJ7_isLatin1 1 "java/lang/AbstractStringBuilder" "isLatin1" (some .boolean) [] 1 := hC
  unfold wp_J7_isLatin1 at hV
  refine z_getsI (v := 1) hC dJ7_isLatin1_0 q230 q231 q127 (by decide +kernel) ?_
  refine z_if_eq (tgt := 17) hC dJ7_isLatin1_3 (by decide) (fun hc => ?_) (fun hc => ?_)
  · replace hV := hV.1 hc
    refine z_iconst (v := 0) hC dJ7_isLatin1_17 rfl ?_
    exact z_iret hC dJ7_isLatin1_18 rfl (by rw [hQo]; exact ⟨_, rfl, hV⟩)
  · replace hV := hV.2 hc
    refine z_aload_n hC dJ7_isLatin1_6 rfl rfl ?_
    obtain ⟨⟨n2, h1⟩, hV⟩ := hV
    refine g_J7_22_c10 hC dJ7_isLatin1_7 h1 ?_
    refine z_if_ne (tgt := 17) hC dJ7_isLatin1_10 (by decide) (fun hc => ?_) (fun hc => ?_)
    · replace hV := hV.2 hc
      refine z_iconst (v := 0) hC dJ7_isLatin1_17 rfl ?_
      exact z_iret hC dJ7_isLatin1_18 rfl (by rw [hQo]; exact ⟨_, rfl, hV⟩)
    · replace hV := hV.1 hc
      refine z_iconst (v := 1) hC dJ7_isLatin1_13 rfl ?_
      refine z_goto (tgt := 18) hC dJ7_isLatin1_14 (by decide) ?_
      exact z_iret hC dJ7_isLatin1_18 rfl (by rw [hQo]; exact ⟨_, rfl, hV⟩)
theorem g_J7_15_c10 {a x : Nat} {C : ZC} {E : ZE} {cc : ByteArray} {n nL pc d : Nat} {nm : String} {ret : Option FieldType} {hh : List (Nat × Nat × Nat × Nat)} {σ : ZS} {L : List (Option Value)} {st : List Value} (hC : Cx C E cc nL "java/lang/AbstractStringBuilder" nm ret hh d) (hd : decode cc pc = .ok (.getfield 15, 3)) (hk : kK n σ a = (10 + 7, x)) (k : zz C E n nL σ (pc + 3) L (pv E.1.heap.size (kP n σ a 0) :: st)) : zz C E n nL σ pc L (.ref (E.1.heap.size + a) :: st) :=
  z_get hC cf10 hd hk (k := 0) (by decide) (Or.inl q239) (Or.inl rfl) rfl k
def wp_J7_ensureCapacityInternal (σ : ZS) (a0 : Nat) (a1 : Int32) (Ret : ZS → Prop) : Prop :=
    (∃ n2, kK NS σ a0 = (17, n2)) ∧ ((kP NS σ a0 0) = some (.inl (zo (kP NS σ a0 0))) ∧ (∃ n5, kK NS σ (zo (kP NS σ a0 0)) = (2, n5) ∧ ((∃ n7, kK NS σ a0 = (17, n7)) ∧ (∀ y8 : Int32, y8 = (Int32.ofNat n5) >>> ((zI σ a0 1) &&& 31) → (((0 < (a1 - y8) → (False)) ∧ (¬ 0 < (a1 - y8) → (Ret σ))))))))
set_option maxHeartbeats 4000000 in
theorem mz_J7_ensureCapacityInternal {l : Launch} {E : ZE} (hE : EOK E) {σ : ZS} {a0 : Nat} {a1 : Int32} {Ret : ZS → Prop} (hV : wp_J7_ensureCapacityInternal σ a0 a1 Ret) : MZ l E NS yJ7_ensureCapacityInternal (ws_ yJ7_ensureCapacityInternal cJ7_ensureCapacityInternal 3 none) 1 σ [.ref (E.1.heap.size + a0), .int a1] (rV Ret) := by
  refine MZ.start (L := [some (.ref (E.1.heap.size + a0)), some (.int a1), none]) hE (by decide) (Nat.le_of_ble_eq_true rfl) rfl fun C hCl hQo hC => ?_
  replace hC : Cx C E cJ7_ensureCapacityInternal 3 "java/lang/AbstractStringBuilder" "ensureCapacityInternal" none [] 1 := hC
  unfold wp_J7_ensureCapacityInternal at hV
  refine z_aload_n hC dJ7_ensureCapacityInternal_0 rfl rfl ?_
  obtain ⟨⟨n2, h1⟩, hV⟩ := hV
  refine g_J7_15_c10 hC dJ7_ensureCapacityInternal_1 h1 ?_
  obtain ⟨h3, hV⟩ := hV
  refine zz_at rfl (by rw [pvo h3]) ?_
  obtain ⟨n5, h4, hV⟩ := hV
  refine z_alen hC dJ7_ensureCapacityInternal_4 h4 (by decide) rfl ?_
  refine z_aload_n hC dJ7_ensureCapacityInternal_5 rfl rfl ?_
  obtain ⟨⟨n7, h6⟩, hV⟩ := hV
  refine g_J7_22_c10 hC dJ7_ensureCapacityInternal_6 h6 ?_
  refine z_ishr hC dJ7_ensureCapacityInternal_9 ?_
  obtain ⟨y8, e_y8⟩ : ∃ z, z = (Int32.ofNat n5) >>> ((zI σ a0 1) &&& 31) := ⟨_, rfl⟩
  rw [← e_y8]
  replace hV := hV _ e_y8
  refine z_istore_n hC dJ7_ensureCapacityInternal_10 rfl (Nat.le_of_ble_eq_true rfl) rfl rfl ?_
  refine z_iload_n hC dJ7_ensureCapacityInternal_11 rfl rfl ?_
  refine z_iload_n hC dJ7_ensureCapacityInternal_12 rfl rfl ?_
  refine z_isub hC dJ7_ensureCapacityInternal_13 ?_
  refine z_if_le (tgt := 38) hC dJ7_ensureCapacityInternal_14 (by decide) (fun hc => ?_) (fun hc => ?_)
  · replace hV := hV.2 hc
    exact z_vret hC dJ7_ensureCapacityInternal_38 (by rw [hQo]; exact ⟨rfl, hV⟩)
  · replace hV := hV.1 hc
    exact hV.elim
def wp_J15_canEncode (σ : ZS) (a0 : Int32) (Ret : Int32 → ZS → Prop) : Prop :=
    ((255 < a0 → (Ret 0 σ)) ∧ (¬ 255 < a0 → (Ret 1 σ)))
set_option maxHeartbeats 4000000 in
theorem mz_J15_canEncode {l : Launch} {E : ZE} (hE : EOK E) {σ : ZS} {a0 : Int32} {Ret : Int32 → ZS → Prop} (hV : wp_J15_canEncode σ a0 Ret) : MZ l E NS yJ15_canEncode (ws_ yJ15_canEncode cJ15_canEncode 1 (some .boolean)) 1 σ [.int a0] (rI Ret) := by
  refine MZ.start (L := [some (.int a0)]) hE (by decide) (Nat.le_of_ble_eq_true rfl) rfl fun C hCl hQo hC => ?_
  replace hC : Cx C E cJ15_canEncode 1 "java/lang/StringLatin1" "canEncode" (some .boolean) [] 1 := hC
  unfold wp_J15_canEncode at hV
  refine z_iload_n hC dJ15_canEncode_0 rfl rfl ?_
  refine z_sipush (v := 255) hC dJ15_canEncode_1 rfl ?_
  refine z_icmp_gt (tgt := 11) hC dJ15_canEncode_4 (by decide) (fun hc => ?_) (fun hc => ?_)
  · replace hV := hV.1 hc
    refine z_iconst (v := 0) hC dJ15_canEncode_11 rfl ?_
    exact z_iret hC dJ15_canEncode_12 rfl (by rw [hQo]; exact ⟨_, rfl, hV⟩)
  · replace hV := hV.2 hc
    refine z_iconst (v := 1) hC dJ15_canEncode_7 rfl ?_
    refine z_goto (tgt := 12) hC dJ15_canEncode_8 (by decide) ?_
    exact z_iret hC dJ15_canEncode_12 rfl (by rw [hQo]; exact ⟨_, rfl, hV⟩)
theorem g_J7_79_c10 {a x : Nat} {C : ZC} {E : ZE} {cc : ByteArray} {n nL pc d : Nat} {nm : String} {ret : Option FieldType} {hh : List (Nat × Nat × Nat × Nat)} {σ : ZS} {L : List (Option Value)} {st : List Value} (hC : Cx C E cc nL "java/lang/AbstractStringBuilder" nm ret hh d) (hd : decode cc pc = .ok (.getfield 79, 3)) (hk : kK n σ a = (10 + 7, x)) (k : zz C E n nL σ (pc + 3) L (.int (zI σ a 3) :: st)) : zz C E n nL σ pc L (.ref (E.1.heap.size + a) :: st) :=
  z_get hC cf10 hd hk (k := 3) (by decide) (Or.inl q242) (Or.inl rfl) rfl k
theorem p_J7_79_c10 {C : ZC} {E : ZE} {cc : ByteArray} {n nL pc d a x : Nat} {nm : String} {ret : Option FieldType} {hh : List (Nat × Nat × Nat × Nat)} {σ : ZS} {L : List (Option Value)} {st : List Value} {v : Int32} (hC : Cx C E cc nL "java/lang/AbstractStringBuilder" nm ret hh d) (hd : decode cc pc = .ok (.putfield 79, 3)) (hk : kK n σ a = (10 + 7, x)) (k : zz C E n nL (sI σ a 3 v) (pc + 3) L st) : zz C E n nL σ pc L (.int v :: .ref (E.1.heap.size + a) :: st) :=
  z_putI hC cf10 hd hk (k := 3) (by decide) (Or.inl q242) (Or.inl rfl) (Or.inl rfl) rfl rfl rfl k
theorem cw_J7_ensureCapacityInternal : CodeW yJ7_ensureCapacityInternal (ws_ yJ7_ensureCapacityInternal cJ7_ensureCapacityInternal 3 none) 3 := ⟨fun w h => (List.mem_cons.mp h).elim (fun e => e ▸ q268) id, Or.inl ⟨_, _, q268⟩, q125, by decide, by decide⟩
theorem c_J7_100 {C : ZC} {E : ZE} {cc : ByteArray} {nL pc d : Nat} {nm : String} {ret : Option FieldType} {hh : List (Nat × Nat × Nat × Nat)} {σ : ZS} {L : List (Option Value)} {st : List Value} {a0 : Nat} {a1 : Int32} {Ret : ZS → Prop} (hC : Cx C E cc nL "java/lang/AbstractStringBuilder" nm ret hh d) (hdd : 1 + 1 ≤ d) (hd : decode cc pc = .ok (.invokevirtual 100, 3)) (hW : (st.map fun v => v.category).sum ≤ 8) {x : Nat} (hk : kK NS σ a0 = (10 + 7, x)) (hV : wp_J7_ensureCapacityInternal σ a0 a1 Ret) (k : ∀ σ', Ret σ' → zz C E NS nL σ' (pc + 3) L st) : zz C E NS nL σ pc L (.int a1 :: .ref (E.1.heap.size + a0) :: st) :=
  z_callPG hC cf10 cw_J7_ensureCapacityInternal hdd (by decide) (mz_J7_ensureCapacityInternal (cxE hC) hV) hd hk q265 q267 q266 q2206 (np := 1) rfl rfl hW rfl (kV k)
theorem cw_J15_canEncode : CodeW yJ15_canEncode (ws_ yJ15_canEncode cJ15_canEncode 1 (some .boolean)) 1 := ⟨fun w h => (List.mem_cons.mp h).elim (fun e => e ▸ q812) id, Or.inl ⟨_, _, q812⟩, q134, by decide, by decide⟩
theorem c_J7_191 {C : ZC} {E : ZE} {cc : ByteArray} {nL pc d : Nat} {nm : String} {ret : Option FieldType} {hh : List (Nat × Nat × Nat × Nat)} {σ : ZS} {L : List (Option Value)} {st : List Value} {a0 : Int32} {Ret : Int32 → ZS → Prop} (hC : Cx C E cc nL "java/lang/AbstractStringBuilder" nm ret hh d) (hdd : 1 + 1 ≤ d) (hd : decode cc pc = .ok (.invokestatic 191, 3)) (hW : (st.map fun v => v.category).sum ≤ 8) (hV : wp_J15_canEncode σ a0 Ret) (k : ∀ r σ', Ret r σ' → zz C E NS nL σ' (pc + 3) L (.int r :: st)) : zz C E NS nL σ pc L (.int a0 :: st) :=
  z_callSG hC cw_J15_canEncode hdd (by decide) (mz_J15_canEncode (cxE hC) hV) hd q810 q811 (np := 1) rfl rfl hW rfl (kI k)
theorem cw_J7_isLatin1 : CodeW yJ7_isLatin1 (ws_ yJ7_isLatin1 cJ7_isLatin1 1 (some .boolean)) 1 := ⟨fun w h => (List.mem_cons.mp h).elim (fun e => e ▸ q304) id, Or.inl ⟨_, _, q304⟩, q125, by decide, by decide⟩
theorem c_J7_83 {C : ZC} {E : ZE} {cc : ByteArray} {nL pc d : Nat} {nm : String} {ret : Option FieldType} {hh : List (Nat × Nat × Nat × Nat)} {σ : ZS} {L : List (Option Value)} {st : List Value} {a0 : Nat} {Ret : Int32 → ZS → Prop} (hC : Cx C E cc nL "java/lang/AbstractStringBuilder" nm ret hh d) (hdd : 1 + 1 ≤ d) (hd : decode cc pc = .ok (.invokevirtual 83, 3)) (hW : (st.map fun v => v.category).sum ≤ 8) {x : Nat} (hk : kK NS σ a0 = (10 + 7, x)) (hV : wp_J7_isLatin1 σ a0 Ret) (k : ∀ r σ', Ret r σ' → zz C E NS nL σ' (pc + 3) L (.int r :: st)) : zz C E NS nL σ pc L (.ref (E.1.heap.size + a0) :: st) :=
  z_callUG hC cf10 cw_J7_isLatin1 hdd (by decide) (mz_J7_isLatin1 (cxE hC) hV) hd hk q300 q302 q301 q304 q301 q303 (by decide) (np := 0) rfl rfl hW rfl (kI k)
def V_J7_append_3_56 (Ret : ZR → ZS → Prop) (σ : ZS) (x0 : Nat) (x1 : Int32) : Prop :=
    False
def V_J7_append_3_45 (Ret : ZR → ZS → Prop) (σ : ZS) (x0 : Nat) (x1 : Int32) : Prop :=
    (∃ n14, kK NS σ x0 = (17, n14)) ∧ (wp_J7_isLatin1 σ x0 (fun r11 σ12 => ((r11 = 0 → (V_J7_append_3_56 Ret σ12 x0 x1)) ∧ (¬ r11 = 0 → (False)))))
def wp_J7_append_3 (σ : ZS) (a0 : Nat) (a1 : Int32) (Ret : ZR → ZS → Prop) : Prop :=
    (∃ n2, kK NS σ a0 = (17, n2)) ∧ ((∃ n6, kK NS σ a0 = (17, n6)) ∧ (wp_J7_ensureCapacityInternal σ a0 ((zI σ a0 3) + 1) (fun σ4 => (∃ n10, kK NS σ4 a0 = (17, n10)) ∧ (wp_J7_isLatin1 σ4 a0 (fun r7 σ8 => ((r7 = 0 → (V_J7_append_3_45 Ret σ8 a0 a1)) ∧ (¬ r7 = 0 → (wp_J15_canEncode σ8 a1 (fun r23 σ24 => ((r23 = 0 → (V_J7_append_3_45 Ret σ24 a0 a1)) ∧ (¬ r23 = 0 → ((∃ n26, kK NS σ24 a0 = (17, n26)) ∧ ((kP NS σ24 a0 0) = some (.inl (zo (kP NS σ24 a0 0))) ∧ ((∃ n29, kK NS σ24 a0 = (17, n29)) ∧ ((∃ n31, kK NS σ24 a0 = (17, n31)) ∧ (∀ σ32 : ZS, σ32 = sI σ24 a0 3 ((zI σ24 a0 3) + 1) → (∃ n34, kK NS σ32 (zo (kP NS σ24 a0 0)) = (2, n34) ∧ (vp_in (zI σ24 a0 3) n34 ∧ (∀ σ36 : ZS, σ36 = sI σ32 (zo (kP NS σ24 a0 0)) (ix (zI σ24 a0 3)) (vp_nar .byte a1.toInt8.toInt32) → (Ret (some (.inl a0)) σ36))))))))))))))))))))
set_option maxHeartbeats 4000000 in
theorem mz_J7_append_3 {l : Launch} {E : ZE} (hE : EOK E) {σ : ZS} {a0 : Nat} {a1 : Int32} {Ret : ZR → ZS → Prop} (hV : wp_J7_append_3 σ a0 a1 Ret) : MZ l E NS yJ7_append_3 (ws_ yJ7_append_3 cJ7_append_3 2 (Option.some (FieldType.object "java/lang/AbstractStringBuilder"))) 2 σ [.ref (E.1.heap.size + a0), .int a1] (rP E.1.heap.size Ret) := by
  refine MZ.start (L := [some (.ref (E.1.heap.size + a0)), some (.int a1)]) hE (by decide) (Nat.le_of_ble_eq_true rfl) rfl fun C hCl hQo hC => ?_
  replace hC : Cx C E cJ7_append_3 2 "java/lang/AbstractStringBuilder" "append" (Option.some (FieldType.object "java/lang/AbstractStringBuilder")) [] 2 := hC
  unfold wp_J7_append_3 at hV
  have j_56 : ∀ (σ : ZS) (x0 : Nat) (x1 : Int32), V_J7_append_3_56 Ret σ x0 x1 → zz C E NS 2 σ 56 [some (.ref (E.1.heap.size + x0)), some (.int x1)] [] := by
    intro σ x0 x1 hV
    unfold V_J7_append_3_56 at hV
    exact hV.elim
  have j_45 : ∀ (σ : ZS) (x0 : Nat) (x1 : Int32), V_J7_append_3_45 Ret σ x0 x1 → zz C E NS 2 σ 45 [some (.ref (E.1.heap.size + x0)), some (.int x1)] [] := by
    intro σ x0 x1 hV
    unfold V_J7_append_3_45 at hV
    refine z_aload_n hC dJ7_append_3_45 rfl rfl ?_
    obtain ⟨⟨n14, h13⟩, hV⟩ := hV
    refine c_J7_83 hC (by decide) dJ7_append_3_46 (Nat.le_of_ble_eq_true rfl) h13 hV (fun r11 σ12 hV => ?_)
    refine z_if_eq (tgt := 56) hC dJ7_append_3_49 (by decide) (fun hc => ?_) (fun hc => ?_)
    · replace hV := hV.1 hc
      refine zz_sub (L' := [some (.ref (E.1.heap.size + x0)), some (.int x1)]) ⟨rfl, rfl, trivial⟩ ?_
      exact j_56 σ12 x0 x1 hV
    · replace hV := hV.2 hc
      exact hV.elim
  refine z_aload_n hC dJ7_append_3_0 rfl rfl ?_
  refine z_aload_n hC dJ7_append_3_1 rfl rfl ?_
  obtain ⟨⟨n2, h1⟩, hV⟩ := hV
  refine g_J7_79_c10 hC dJ7_append_3_2 h1 ?_
  refine z_iconst (v := 1) hC dJ7_append_3_5 rfl ?_
  refine z_iadd hC dJ7_append_3_6 ?_
  obtain ⟨⟨n6, h5⟩, hV⟩ := hV
  refine c_J7_100 hC (by decide) dJ7_append_3_7 (Nat.le_of_ble_eq_true rfl) h5 hV (fun σ4 hV => ?_)
  refine z_aload_n hC dJ7_append_3_10 rfl rfl ?_
  obtain ⟨⟨n10, h9⟩, hV⟩ := hV
  refine c_J7_83 hC (by decide) dJ7_append_3_11 (Nat.le_of_ble_eq_true rfl) h9 hV (fun r7 σ8 hV => ?_)
  refine z_if_eq (tgt := 45) hC dJ7_append_3_14 (by decide) (fun hc => ?_) (fun hc => ?_)
  · replace hV := hV.1 hc
    refine zz_sub (L' := [some (.ref (E.1.heap.size + a0)), some (.int a1)]) ⟨rfl, rfl, trivial⟩ ?_
    exact j_45 σ8 a0 a1 hV
  · replace hV := hV.2 hc
    refine z_iload_n hC dJ7_append_3_17 rfl rfl ?_
    refine c_J7_191 hC (by decide) dJ7_append_3_18 (Nat.le_of_ble_eq_true rfl) hV (fun r23 σ24 hV => ?_)
    refine z_if_eq (tgt := 45) hC dJ7_append_3_21 (by decide) (fun hc => ?_) (fun hc => ?_)
    · replace hV := hV.1 hc
      refine zz_sub (L' := [some (.ref (E.1.heap.size + a0)), some (.int a1)]) ⟨rfl, rfl, trivial⟩ ?_
      exact j_45 σ24 a0 a1 hV
    · replace hV := hV.2 hc
      refine z_aload_n hC dJ7_append_3_24 rfl rfl ?_
      obtain ⟨⟨n26, h25⟩, hV⟩ := hV
      refine g_J7_15_c10 hC dJ7_append_3_25 h25 ?_
      obtain ⟨h27, hV⟩ := hV
      refine zz_at rfl (by rw [pvo h27]) ?_
      refine z_aload_n hC dJ7_append_3_28 rfl rfl ?_
      refine z_dup hC dJ7_append_3_29 rfl ?_
      obtain ⟨⟨n29, h28⟩, hV⟩ := hV
      refine g_J7_79_c10 hC dJ7_append_3_30 h28 ?_
      refine z_dup_x1 hC dJ7_append_3_33 rfl rfl ?_
      refine z_iconst (v := 1) hC dJ7_append_3_34 rfl ?_
      refine z_iadd hC dJ7_append_3_35 ?_
      obtain ⟨⟨n31, h30⟩, hV⟩ := hV
      refine p_J7_79_c10 hC dJ7_append_3_36 h30 ?_
      obtain ⟨σ32, e_σ32⟩ : ∃ z : ZS, z = sI σ24 a0 3 ((zI σ24 a0 3) + 1) := ⟨_, rfl⟩
      replace hV := hV _ e_σ32
      rw [← e_σ32]
      refine z_iload_n hC dJ7_append_3_39 rfl rfl ?_
      refine z_i2b hC dJ7_append_3_40 ?_
      obtain ⟨n34, h33, hV⟩ := hV
      obtain ⟨h35, hV⟩ := hV
      refine z_bast hC dJ7_append_3_41 h33 (h35) ?_
      obtain ⟨σ36, e_σ36⟩ : ∃ z : ZS, z = sI σ32 (zo (kP NS σ24 a0 0)) (ix (zI σ24 a0 3)) (vp_nar .byte a1.toInt8.toInt32) := ⟨_, rfl⟩
      replace hV := hV _ e_σ36
      rw [← e_σ36]
      refine z_goto (tgt := 75) hC dJ7_append_3_42 (by decide) ?_
      refine z_aload_n hC dJ7_append_3_75 rfl rfl ?_
      exact z_aret (r := (some (.inl a0))) hC (Or.inl ⟨_, rfl⟩) dJ7_append_3_76 (by rw [hQo]; exact ⟨_, rfl, hV⟩)
theorem cw_J7_append_3 : CodeW yJ7_append_3 (ws_ yJ7_append_3 cJ7_append_3 2 (Option.some (FieldType.object "java/lang/AbstractStringBuilder"))) 2 := ⟨fun w h => (List.mem_cons.mp h).elim (fun e => e ▸ q809) id, Or.inl ⟨_, _, q809⟩, q125, by decide, by decide⟩
theorem c_J8_50 {C : ZC} {E : ZE} {cc : ByteArray} {nL pc d : Nat} {nm : String} {ret : Option FieldType} {hh : List (Nat × Nat × Nat × Nat)} {σ : ZS} {L : List (Option Value)} {st : List Value} {a0 : Nat} {a1 : Int32} {Ret : ZR → ZS → Prop} (hC : Cx C E cc nL "java/lang/StringBuilder" nm ret hh d) (hdd : 2 + 1 ≤ d) (hd : decode cc pc = .ok (.invokespecial 50, 3)) (hW : (st.map fun v => v.category).sum ≤ 8) {x : Nat} (hk : kK NS σ a0 = (10 + 7, x)) (hV : wp_J7_append_3 σ a0 a1 Ret) (k : ∀ r σ', Ret r σ' → zz C E NS nL σ' (pc + 3) L (pv E.1.heap.size r :: st)) : zz C E NS nL σ pc L (.int a1 :: .ref (E.1.heap.size + a0) :: st) :=
  z_callSUG hC cf10 cw_J7_append_3 hdd (by decide) (mz_J7_append_3 (cxE hC) hV) hd (by decide) hk q807 q2213 q251 q808 (np := 1) rfl rfl hW rfl (kR k)
def wp_J8_append_3 (σ : ZS) (a0 : Nat) (a1 : Int32) (Ret : ZR → ZS → Prop) : Prop :=
    (∃ n4, kK NS σ a0 = (17, n4)) ∧ (wp_J7_append_3 σ a0 a1 (fun r1 σ2 => Ret (some (.inl a0)) σ2))
set_option maxHeartbeats 4000000 in
theorem mz_J8_append_3 {l : Launch} {E : ZE} (hE : EOK E) {σ : ZS} {a0 : Nat} {a1 : Int32} {Ret : ZR → ZS → Prop} (hV : wp_J8_append_3 σ a0 a1 Ret) : MZ l E NS yJ8_append_3 (ws_ yJ8_append_3 cJ8_append_3 2 (Option.some (FieldType.object "java/lang/StringBuilder"))) 3 σ [.ref (E.1.heap.size + a0), .int a1] (rP E.1.heap.size Ret) := by
  refine MZ.start (L := [some (.ref (E.1.heap.size + a0)), some (.int a1)]) hE (by decide) (Nat.le_of_ble_eq_true rfl) rfl fun C hCl hQo hC => ?_
  replace hC : Cx C E cJ8_append_3 2 "java/lang/StringBuilder" "append" (Option.some (FieldType.object "java/lang/StringBuilder")) [] 3 := hC
  unfold wp_J8_append_3 at hV
  refine z_aload_n hC dJ8_append_3_0 rfl rfl ?_
  refine z_iload_n hC dJ8_append_3_1 rfl rfl ?_
  obtain ⟨⟨n4, h3⟩, hV⟩ := hV
  refine c_J8_50 hC (by decide) dJ8_append_3_2 (Nat.le_of_ble_eq_true rfl) h3 hV (fun r1 σ2 hV => ?_)
  refine z_pop hC dJ8_append_3_5 (pv_cat _ _) ?_
  refine z_aload_n hC dJ8_append_3_6 rfl rfl ?_
  exact z_aret (r := (some (.inl a0))) hC (Or.inl ⟨_, rfl⟩) dJ8_append_3_7 (by rw [hQo]; exact ⟨_, rfl, hV⟩)
def wp_J7_length (σ : ZS) (a0 : Nat) (Ret : Int32 → ZS → Prop) : Prop :=
    (∃ n2, kK NS σ a0 = (17, n2)) ∧ (Ret (zI σ a0 3) σ)
set_option maxHeartbeats 4000000 in
theorem mz_J7_length {l : Launch} {E : ZE} (hE : EOK E) {σ : ZS} {a0 : Nat} {Ret : Int32 → ZS → Prop} (hV : wp_J7_length σ a0 Ret) : MZ l E NS yJ7_length (ws_ yJ7_length cJ7_length 1 (some .int)) 1 σ [.ref (E.1.heap.size + a0)] (rI Ret) := by
  refine MZ.start (L := [some (.ref (E.1.heap.size + a0))]) hE (by decide) (Nat.le_of_ble_eq_true rfl) rfl fun C hCl hQo hC => ?_
  replace hC : Cx C E cJ7_length 1 "java/lang/AbstractStringBuilder" "length" (some .int) [] 1 := hC
  unfold wp_J7_length at hV
  refine z_aload_n hC dJ7_length_0 rfl rfl ?_
  obtain ⟨⟨n2, h1⟩, hV⟩ := hV
  refine g_J7_79_c10 hC dJ7_length_1 h1 ?_
  exact z_iret hC dJ7_length_4 rfl (by rw [hQo]; exact ⟨_, rfl, hV⟩)
theorem cw_J7_length : CodeW yJ7_length (ws_ yJ7_length cJ7_length 1 (some .int)) 1 := ⟨fun w h => (List.mem_cons.mp h).elim (fun e => e ▸ q424) id, Or.inl ⟨_, _, q424⟩, q125, by decide, by decide⟩
theorem c_J8_343 {C : ZC} {E : ZE} {cc : ByteArray} {nL pc d : Nat} {nm : String} {ret : Option FieldType} {hh : List (Nat × Nat × Nat × Nat)} {σ : ZS} {L : List (Option Value)} {st : List Value} {a0 : Nat} {Ret : Int32 → ZS → Prop} (hC : Cx C E cc nL "java/lang/StringBuilder" nm ret hh d) (hdd : 1 + 1 ≤ d) (hd : decode cc pc = .ok (.invokespecial 343, 3)) (hW : (st.map fun v => v.category).sum ≤ 8) {x : Nat} (hk : kK NS σ a0 = (10 + 7, x)) (hV : wp_J7_length σ a0 Ret) (k : ∀ r σ', Ret r σ' → zz C E NS nL σ' (pc + 3) L (.int r :: st)) : zz C E NS nL σ pc L (.ref (E.1.heap.size + a0) :: st) :=
  z_callSUG hC cf10 cw_J7_length hdd (by decide) (mz_J7_length (cxE hC) hV) hd (by decide) hk q423 q419 q251 q418 (np := 0) rfl rfl hW rfl (kI k)
def wp_J8_length (σ : ZS) (a0 : Nat) (Ret : Int32 → ZS → Prop) : Prop :=
    (∃ n4, kK NS σ a0 = (17, n4)) ∧ (wp_J7_length σ a0 (fun r1 σ2 => Ret r1 σ2))
set_option maxHeartbeats 4000000 in
theorem mz_J8_length {l : Launch} {E : ZE} (hE : EOK E) {σ : ZS} {a0 : Nat} {Ret : Int32 → ZS → Prop} (hV : wp_J8_length σ a0 Ret) : MZ l E NS yJ8_length (ws_ yJ8_length cJ8_length 1 (some .int)) 2 σ [.ref (E.1.heap.size + a0)] (rI Ret) := by
  refine MZ.start (L := [some (.ref (E.1.heap.size + a0))]) hE (by decide) (Nat.le_of_ble_eq_true rfl) rfl fun C hCl hQo hC => ?_
  replace hC : Cx C E cJ8_length 1 "java/lang/StringBuilder" "length" (some .int) [] 2 := hC
  unfold wp_J8_length at hV
  refine z_aload_n hC dJ8_length_0 rfl rfl ?_
  obtain ⟨⟨n4, h3⟩, hV⟩ := hV
  refine c_J8_343 hC (by decide) dJ8_length_1 (Nat.le_of_ble_eq_true rfl) h3 hV (fun r1 σ2 hV => ?_)
  exact z_iret hC dJ8_length_4 rfl (by rw [hQo]; exact ⟨_, rfl, hV⟩)
def wp_J7_getValue (σ : ZS) (a0 : Nat) (Ret : ZR → ZS → Prop) : Prop :=
    (∃ n2, kK NS σ a0 = (17, n2)) ∧ (Ret (kP NS σ a0 0) σ)
set_option maxHeartbeats 4000000 in
theorem mz_J7_getValue {l : Launch} {E : ZE} (hE : EOK E) {σ : ZS} {a0 : Nat} {Ret : ZR → ZS → Prop} (hV : wp_J7_getValue σ a0 Ret) : MZ l E NS yJ7_getValue (ws_ yJ7_getValue cJ7_getValue 1 (Option.some (FieldType.array FieldType.byte))) 1 σ [.ref (E.1.heap.size + a0)] (rP E.1.heap.size Ret) := by
  refine MZ.start (L := [some (.ref (E.1.heap.size + a0))]) hE (by decide) (Nat.le_of_ble_eq_true rfl) rfl fun C hCl hQo hC => ?_
  replace hC : Cx C E cJ7_getValue 1 "java/lang/AbstractStringBuilder" "getValue" (Option.some (FieldType.array FieldType.byte)) [] 1 := hC
  unfold wp_J7_getValue at hV
  refine z_aload_n hC dJ7_getValue_0 rfl rfl ?_
  obtain ⟨⟨n2, h1⟩, hV⟩ := hV
  refine g_J7_15_c10 hC dJ7_getValue_1 h1 ?_
  exact z_aret (r := (kP NS σ a0 0)) hC (Or.inr ⟨_, rfl⟩) dJ7_getValue_4 (by rw [hQo]; exact ⟨_, rfl, hV⟩)
theorem cw_J8_init : CodeW yJ8_init (ws_ yJ8_init cJ8_init 1 none) 1 := ⟨fun w h => (List.mem_cons.mp h).elim (fun e => e ▸ q225) id, Or.inl ⟨_, _, q225⟩, q126, by decide, by decide⟩
theorem c_J13_47 {C : ZC} {E : ZE} {cc : ByteArray} {nL pc d : Nat} {nm : String} {ret : Option FieldType} {hh : List (Nat × Nat × Nat × Nat)} {σ : ZS} {L : List (Option Value)} {st : List Value} {a0 : Nat} {Ret : ZS → Prop} (hC : Cx C E cc nL "java/util/Arrays" nm ret hh d) (hdd : 2 + 1 ≤ d) (hd : decode cc pc = .ok (.invokespecial 47, 3)) (hW : (st.map fun v => v.category).sum ≤ 8) (hV : wp_J8_init σ a0 Ret) (k : ∀ σ', Ret σ' → zz C E NS nL σ' (pc + 3) L st) : zz C E NS nL σ pc L (.ref (E.1.heap.size + a0) :: st) :=
  z_callIG hC cw_J8_init q225 hdd (by decide) (mz_J8_init (cxE hC) hV) hd rfl q437 q224 (np := 0) rfl rfl hW rfl (kV k)
def wp_J13_checkLength (σ : ZS) (a0 : Int32) (a1 : Int32) (Ret : ZS → Prop) : Prop :=
    ((a1 < a0 → (False)) ∧ (¬ a1 < a0 → (Ret σ)))
set_option maxHeartbeats 4000000 in
theorem mz_J13_checkLength {l : Launch} {E : ZE} (hE : EOK E) {σ : ZS} {a0 : Int32} {a1 : Int32} {Ret : ZS → Prop} (hV : wp_J13_checkLength σ a0 a1 Ret) : MZ l E NS yJ13_checkLength (ws_ yJ13_checkLength cJ13_checkLength 2 none) 3 σ [.int a0, .int a1] (rV Ret) := by
  refine MZ.start (L := [some (.int a0), some (.int a1)]) hE (by decide) (Nat.le_of_ble_eq_true rfl) rfl fun C hCl hQo hC => ?_
  replace hC : Cx C E cJ13_checkLength 2 "java/util/Arrays" "checkLength" none [] 3 := hC
  unfold wp_J13_checkLength at hV
  refine z_iload_n hC dJ13_checkLength_0 rfl rfl ?_
  refine z_iload_n hC dJ13_checkLength_1 rfl rfl ?_
  refine z_icmp_ge (tgt := 37) hC dJ13_checkLength_2 (by decide) (fun hc => ?_) (fun hc => ?_)
  · replace hV := hV.2 hc
    exact z_vret hC dJ13_checkLength_37 (by rw [hQo]; exact ⟨rfl, hV⟩)
  · replace hV := hV.1 hc
    exact hV.elim
theorem cw_J13_checkLength : CodeW yJ13_checkLength (ws_ yJ13_checkLength cJ13_checkLength 2 none) 2 := ⟨fun w h => (List.mem_cons.mp h).elim (fun e => e ▸ q434) id, Or.inl ⟨_, _, q434⟩, q131, by decide, by decide⟩
theorem c_J13_343 {C : ZC} {E : ZE} {cc : ByteArray} {nL pc d : Nat} {nm : String} {ret : Option FieldType} {hh : List (Nat × Nat × Nat × Nat)} {σ : ZS} {L : List (Option Value)} {st : List Value} {a0 : Int32} {a1 : Int32} {Ret : ZS → Prop} (hC : Cx C E cc nL "java/util/Arrays" nm ret hh d) (hdd : 3 + 1 ≤ d) (hd : decode cc pc = .ok (.invokestatic 343, 3)) (hW : (st.map fun v => v.category).sum ≤ 8) (hV : wp_J13_checkLength σ a0 a1 Ret) (k : ∀ σ', Ret σ' → zz C E NS nL σ' (pc + 3) L st) : zz C E NS nL σ pc L (.int a1 :: .int a0 :: st) :=
  z_callSG hC cw_J13_checkLength hdd (by decide) (mz_J13_checkLength (cxE hC) hV) hd q432 q433 (np := 2) rfl rfl hW rfl (kV k)
def wp_J13_copyOfRangeByte (σ : ZS) (a0 : Nat) (a1 : Int32) (a2 : Int32) (Ret : ZR → ZS → Prop) : Prop :=
    wp_J13_checkLength σ a1 a2 (fun σ2 => ∀ y3 : Int32, y3 = a2 - a1 → (¬ y3 < 0 ∧ ((NS ≤ zt σ2 ∧ zt σ2 + 1 ≤ NB ∧ zn σ2 + (ix y3) ≤ SB) ∧ (∀ σ6 : ZS, σ6 = sA σ2 (2, (ix y3)) (ix y3) → (∃ n8, kK NS σ6 a0 = (2, n8) ∧ (∃ n11, kK NS σ6 a0 = (2, n11) ∧ (∃ n13, kK NS σ6 (zt σ2) = (2, n13) ∧ ((¬ a1 < 0 ∧ ¬ (0 : Int32) < 0 ∧ ¬ (if y3 < ((Int32.ofNat n8) - a1) then y3 else ((Int32.ofNat n8) - a1)) < 0 ∧ ix a1 + ix (if y3 < ((Int32.ofNat n8) - a1) then y3 else ((Int32.ofNat n8) - a1)) ≤ n11 ∧ ix 0 + ix (if y3 < ((Int32.ofNat n8) - a1) then y3 else ((Int32.ofNat n8) - a1)) ≤ n13) ∧ ((∀ i, i < ix (if y3 < ((Int32.ofNat n8) - a1) then y3 else ((Int32.ofNat n8) - a1)) → fits .byte (.int (zI σ6 a0 (ix a1 + i))) = true) ∧ (∀ σ16 : ZS, σ16 = cI σ6 a0 (zt σ2) (ix a1) (ix 0) (ix (if y3 < ((Int32.ofNat n8) - a1) then y3 else ((Int32.ofNat n8) - a1))) → (Ret (some (.inl (zt σ2))) σ16)))))))))))
set_option maxHeartbeats 4000000 in
theorem mz_J13_copyOfRangeByte {l : Launch} {E : ZE} (hE : EOK E) {σ : ZS} {a0 : Nat} {a1 : Int32} {a2 : Int32} {Ret : ZR → ZS → Prop} (hV : wp_J13_copyOfRangeByte σ a0 a1 a2 Ret) : MZ l E NS yJ13_copyOfRangeByte (ws_ yJ13_copyOfRangeByte cJ13_copyOfRangeByte 5 (Option.some (FieldType.array FieldType.byte))) 4 σ [.ref (E.1.heap.size + a0), .int a1, .int a2] (rP E.1.heap.size Ret) := by
  refine MZ.start (L := [some (.ref (E.1.heap.size + a0)), some (.int a1), some (.int a2), none, none]) hE (by decide) (Nat.le_of_ble_eq_true rfl) rfl fun C hCl hQo hC => ?_
  replace hC : Cx C E cJ13_copyOfRangeByte 5 "java/util/Arrays" "copyOfRangeByte" (Option.some (FieldType.array FieldType.byte)) [] 4 := hC
  unfold wp_J13_copyOfRangeByte at hV
  refine z_iload_n hC dJ13_copyOfRangeByte_0 rfl rfl ?_
  refine z_iload_n hC dJ13_copyOfRangeByte_1 rfl rfl ?_
  refine c_J13_343 hC (by decide) dJ13_copyOfRangeByte_2 (Nat.le_of_ble_eq_true rfl) hV (fun σ2 hV => ?_)
  refine z_iload_n hC dJ13_copyOfRangeByte_5 rfl rfl ?_
  refine z_iload_n hC dJ13_copyOfRangeByte_6 rfl rfl ?_
  refine z_isub hC dJ13_copyOfRangeByte_7 ?_
  obtain ⟨y3, e_y3⟩ : ∃ z, z = a2 - a1 := ⟨_, rfl⟩
  rw [← e_y3]
  replace hV := hV _ e_y3
  refine z_istore_n hC dJ13_copyOfRangeByte_8 rfl (Nat.le_of_ble_eq_true rfl) rfl rfl ?_
  refine z_iload_n hC dJ13_copyOfRangeByte_9 rfl rfl ?_
  obtain ⟨h4, hV⟩ := hV
  obtain ⟨h5, hV⟩ := hV
  refine z_newa2 (len := (ix y3)) hC dJ13_copyOfRangeByte_10 h4 rfl h5.1 h5.2.1 h5.2.2 ?_
  obtain ⟨σ6, e_σ6⟩ : ∃ z : ZS, z = sA σ2 (2, (ix y3)) (ix y3) := ⟨_, rfl⟩
  replace hV := hV _ e_σ6
  rw [← e_σ6]
  refine z_astore hC dJ13_copyOfRangeByte_12 (Nat.le_of_ble_eq_true rfl) rfl rfl ?_
  refine z_aload_n hC dJ13_copyOfRangeByte_14 rfl rfl ?_
  refine z_iload_n hC dJ13_copyOfRangeByte_15 rfl rfl ?_
  refine z_aload hC dJ13_copyOfRangeByte_16 rfl ?_
  refine z_iconst (v := 0) hC dJ13_copyOfRangeByte_18 rfl ?_
  refine z_aload_n hC dJ13_copyOfRangeByte_19 rfl rfl ?_
  obtain ⟨n8, h7, hV⟩ := hV
  refine z_alen hC dJ13_copyOfRangeByte_20 h7 (by decide) rfl ?_
  refine z_iload_n hC dJ13_copyOfRangeByte_21 rfl rfl ?_
  refine z_isub hC dJ13_copyOfRangeByte_22 ?_
  refine z_iload_n hC dJ13_copyOfRangeByte_23 rfl rfl ?_
  refine z_mmin hC dJ13_copyOfRangeByte_24 q294 (by decide) (Nat.le_of_ble_eq_true rfl) ?_
  obtain ⟨n11, h10, hV⟩ := hV
  obtain ⟨n13, h12, hV⟩ := hV
  obtain ⟨h14, hV⟩ := hV
  obtain ⟨h15, hV⟩ := hV
  refine z_copy2 hC dJ13_copyOfRangeByte_27 q297 (by decide) h10 h12 h14.1 h14.2.1 h14.2.2.1 h14.2.2.2.1 h14.2.2.2.2 h15 (Nat.le_of_ble_eq_true rfl) ?_
  obtain ⟨σ16, e_σ16⟩ : ∃ z : ZS, z = cI σ6 a0 (zt σ2) (ix a1) (ix 0) (ix (if y3 < ((Int32.ofNat n8) - a1) then y3 else ((Int32.ofNat n8) - a1))) := ⟨_, rfl⟩
  replace hV := hV _ e_σ16
  rw [← e_σ16]
  refine z_aload hC dJ13_copyOfRangeByte_30 rfl ?_
  exact z_aret (r := (some (.inl (zt σ2)))) hC (Or.inr ⟨_, rfl⟩) dJ13_copyOfRangeByte_32 (by rw [hQo]; exact ⟨_, rfl, hV⟩)
theorem cw_J13_copyOfRangeByte : CodeW yJ13_copyOfRangeByte (ws_ yJ13_copyOfRangeByte cJ13_copyOfRangeByte 5 (Option.some (FieldType.array FieldType.byte))) 5 := ⟨fun w h => (List.mem_cons.mp h).elim (fun e => e ▸ q431) id, Or.inl ⟨_, _, q431⟩, q131, by decide, by decide⟩
theorem c_J13_339 {C : ZC} {E : ZE} {cc : ByteArray} {nL pc d : Nat} {nm : String} {ret : Option FieldType} {hh : List (Nat × Nat × Nat × Nat)} {σ : ZS} {L : List (Option Value)} {st : List Value} {a0 : Nat} {a1 : Int32} {a2 : Int32} {Ret : ZR → ZS → Prop} (hC : Cx C E cc nL "java/util/Arrays" nm ret hh d) (hdd : 4 + 1 ≤ d) (hd : decode cc pc = .ok (.invokestatic 339, 3)) (hW : (st.map fun v => v.category).sum ≤ 8) (hV : wp_J13_copyOfRangeByte σ a0 a1 a2 Ret) (k : ∀ r σ', Ret r σ' → zz C E NS nL σ' (pc + 3) L (pv E.1.heap.size r :: st)) : zz C E NS nL σ pc L (.int a2 :: .int a1 :: .ref (E.1.heap.size + a0) :: st) :=
  z_callSG hC cw_J13_copyOfRangeByte hdd (by decide) (mz_J13_copyOfRangeByte (cxE hC) hV) hd q429 q430 (np := 3) rfl rfl hW rfl (kR k)
def wp_J13_copyOfRange (σ : ZS) (a0 : Nat) (a1 : Int32) (a2 : Int32) (Ret : ZR → ZS → Prop) : Prop :=
    ((a1 = 0 → (∃ n4, kK NS σ a0 = (2, n4) ∧ (((a2 = (Int32.ofNat n4) → (False)) ∧ (¬ a2 = (Int32.ofNat n4) → (wp_J13_copyOfRangeByte σ a0 a1 a2 (fun r5 σ6 => Ret r5 σ6))))))) ∧ (¬ a1 = 0 → (wp_J13_copyOfRangeByte σ a0 a1 a2 (fun r1 σ2 => Ret r1 σ2))))
set_option maxHeartbeats 4000000 in
theorem mz_J13_copyOfRange {l : Launch} {E : ZE} (hE : EOK E) {σ : ZS} {a0 : Nat} {a1 : Int32} {a2 : Int32} {Ret : ZR → ZS → Prop} (hV : wp_J13_copyOfRange σ a0 a1 a2 Ret) : MZ l E NS yJ13_copyOfRange (ws_ yJ13_copyOfRange cJ13_copyOfRange 3 (Option.some (FieldType.array FieldType.byte))) 5 σ [.ref (E.1.heap.size + a0), .int a1, .int a2] (rP E.1.heap.size Ret) := by
  refine MZ.start (L := [some (.ref (E.1.heap.size + a0)), some (.int a1), some (.int a2)]) hE (by decide) (Nat.le_of_ble_eq_true rfl) rfl fun C hCl hQo hC => ?_
  replace hC : Cx C E cJ13_copyOfRange 3 "java/util/Arrays" "copyOfRange" (Option.some (FieldType.array FieldType.byte)) [] 5 := hC
  unfold wp_J13_copyOfRange at hV
  refine z_iload_n hC dJ13_copyOfRange_0 rfl rfl ?_
  refine z_if_ne (tgt := 10) hC dJ13_copyOfRange_1 (by decide) (fun hc => ?_) (fun hc => ?_)
  · replace hV := hV.2 hc
    refine z_aload_n hC dJ13_copyOfRange_10 rfl rfl ?_
    refine z_iload_n hC dJ13_copyOfRange_11 rfl rfl ?_
    refine z_iload_n hC dJ13_copyOfRange_12 rfl rfl ?_
    refine c_J13_339 hC (by decide) dJ13_copyOfRange_13 (Nat.le_of_ble_eq_true rfl) hV (fun r1 σ2 hV => ?_)
    exact z_aret (r := r1) hC (Or.inr ⟨_, rfl⟩) dJ13_copyOfRange_16 (by rw [hQo]; exact ⟨_, rfl, hV⟩)
  · replace hV := hV.1 hc
    refine z_iload_n hC dJ13_copyOfRange_4 rfl rfl ?_
    refine z_aload_n hC dJ13_copyOfRange_5 rfl rfl ?_
    obtain ⟨n4, h3, hV⟩ := hV
    refine z_alen hC dJ13_copyOfRange_6 h3 (by decide) rfl ?_
    refine z_icmp_eq (tgt := 17) hC dJ13_copyOfRange_7 (by decide) (fun hc => ?_) (fun hc => ?_)
    · replace hV := hV.1 hc
      exact hV.elim
    · replace hV := hV.2 hc
      refine z_aload_n hC dJ13_copyOfRange_10 rfl rfl ?_
      refine z_iload_n hC dJ13_copyOfRange_11 rfl rfl ?_
      refine z_iload_n hC dJ13_copyOfRange_12 rfl rfl ?_
      refine c_J13_339 hC (by decide) dJ13_copyOfRange_13 (Nat.le_of_ble_eq_true rfl) hV (fun r5 σ6 hV => ?_)
      exact z_aret (r := r5) hC (Or.inr ⟨_, rfl⟩) dJ13_copyOfRange_16 (by rw [hQo]; exact ⟨_, rfl, hV⟩)
theorem g_J9_1048_c10 {a x : Nat} {C : ZC} {E : ZE} {cc : ByteArray} {n nL pc d : Nat} {nm : String} {ret : Option FieldType} {hh : List (Nat × Nat × Nat × Nat)} {σ : ZS} {L : List (Option Value)} {st : List Value} (hC : Cx C E cc nL "java/lang/String" nm ret hh d) (hd : decode cc pc = .ok (.getfield 1048, 3)) (hk : kK n σ a = (10 + 7, x)) (k : zz C E n nL σ (pc + 3) L (.int (zI σ a 2) :: st)) : zz C E n nL σ pc L (.ref (E.1.heap.size + a) :: st) :=
  z_get hC cf10 hd hk (k := 2) (by decide) (Or.inl q241) (Or.inl rfl) rfl k
theorem p_J9_15i_c11 {C : ZC} {E : ZE} {cc : ByteArray} {n nL pc d a x : Nat} {ret : Option FieldType} {hh : List (Nat × Nat × Nat × Nat)} {σ : ZS} {L : List (Option Value)} {st : List Value} {v : Int32} (hC : Cx C E cc nL "java/lang/String" "<init>" ret hh d) (hd : decode cc pc = .ok (.putfield 15, 3)) (hk : kK n σ a = (11 + 7, x)) (hb1 : narrow .byte (.int v) = .int v) (hb2 : fits .byte (.int v) = true) (k : zz C E n nL (sI σ a 1 v) (pc + 3) L st) : zz C E n nL σ pc L (.int v :: .ref (E.1.heap.size + a) :: st) :=
  z_putI hC cf11 hd hk (k := 1) (by decide) (Or.inl q481) (Or.inl rfl) (Or.inr ⟨rfl, rfl, rfl, q481⟩) hb1 hb2 rfl k
theorem p_J9_9i_c11 {C : ZC} {E : ZE} {cc : ByteArray} {n nL pc d a x : Nat} {ret : Option FieldType} {hh : List (Nat × Nat × Nat × Nat)} {σ : ZS} {L : List (Option Value)} {st : List Value} {r : ZR} (hC : Cx C E cc nL "java/lang/String" "<init>" ret hh d) (hd : decode cc pc = .ok (.putfield 9, 3)) (hk : kK n σ a = (11 + 7, x)) (hf : pfree n a 0) (k : zz C E n nL (sP σ a 0 r) (pc + 3) L st) : zz C E n nL σ pc L (pv E.1.heap.size r :: .ref (E.1.heap.size + a) :: st) :=
  z_putP hC cf11 hd hk (k := 0) (by decide) (Or.inl q480) (Or.inl rfl) (Or.inr ⟨rfl, rfl, rfl, q480⟩) (Or.inr ⟨_, rfl⟩) rfl hf k
theorem c_J9_1047 {C : ZC} {E : ZE} {cc : ByteArray} {nL pc d : Nat} {nm : String} {ret : Option FieldType} {hh : List (Nat × Nat × Nat × Nat)} {σ : ZS} {L : List (Option Value)} {st : List Value} {a0 : Nat} {Ret : Int32 → ZS → Prop} (hC : Cx C E cc nL "java/lang/String" nm ret hh d) (hdd : 1 + 1 ≤ d) (hd : decode cc pc = .ok (.invokevirtual 1047, 3)) (hW : (st.map fun v => v.category).sum ≤ 8) {x : Nat} (hk : kK NS σ a0 = (10 + 7, x)) (hV : wp_J7_isLatin1 σ a0 Ret) (k : ∀ r σ', Ret r σ' → zz C E NS nL σ' (pc + 3) L (.int r :: st)) : zz C E NS nL σ pc L (.ref (E.1.heap.size + a0) :: st) :=
  z_callUG hC cf10 cw_J7_isLatin1 hdd (by decide) (mz_J7_isLatin1 (cxE hC) hV) hd hk q425 q302 q301 q304 q301 q303 (by decide) (np := 0) rfl rfl hW rfl (kI k)
theorem cw_J13_copyOfRange : CodeW yJ13_copyOfRange (ws_ yJ13_copyOfRange cJ13_copyOfRange 3 (Option.some (FieldType.array FieldType.byte))) 3 := ⟨fun w h => (List.mem_cons.mp h).elim (fun e => e ▸ q428) id, Or.inl ⟨_, _, q428⟩, q131, by decide, by decide⟩
theorem c_J9_54 {C : ZC} {E : ZE} {cc : ByteArray} {nL pc d : Nat} {nm : String} {ret : Option FieldType} {hh : List (Nat × Nat × Nat × Nat)} {σ : ZS} {L : List (Option Value)} {st : List Value} {a0 : Nat} {a1 : Int32} {a2 : Int32} {Ret : ZR → ZS → Prop} (hC : Cx C E cc nL "java/lang/String" nm ret hh d) (hdd : 5 + 1 ≤ d) (hd : decode cc pc = .ok (.invokestatic 54, 3)) (hW : (st.map fun v => v.category).sum ≤ 8) (hV : wp_J13_copyOfRange σ a0 a1 a2 Ret) (k : ∀ r σ', Ret r σ' → zz C E NS nL σ' (pc + 3) L (pv E.1.heap.size r :: st)) : zz C E NS nL σ pc L (.int a2 :: .int a1 :: .ref (E.1.heap.size + a0) :: st) :=
  z_callSG hC cw_J13_copyOfRange hdd (by decide) (mz_J13_copyOfRange (cxE hC) hV) hd q426 q427 (np := 3) rfl rfl hW rfl (kR k)
theorem cw_J8_length : CodeW yJ8_length (ws_ yJ8_length cJ8_length 1 (some .int)) 1 := ⟨fun w h => (List.mem_cons.mp h).elim (fun e => e ▸ q422) id, Or.inl ⟨_, _, q422⟩, q126, by decide, by decide⟩
theorem c_J9_549 {C : ZC} {E : ZE} {cc : ByteArray} {nL pc d : Nat} {nm : String} {ret : Option FieldType} {hh : List (Nat × Nat × Nat × Nat)} {σ : ZS} {L : List (Option Value)} {st : List Value} {a0 : Nat} {Ret : Int32 → ZS → Prop} (hC : Cx C E cc nL "java/lang/String" nm ret hh d) (hdd : 2 + 1 ≤ d) (hd : decode cc pc = .ok (.invokevirtual 549, 3)) (hW : (st.map fun v => v.category).sum ≤ 8) {x : Nat} (hk : kK NS σ a0 = (10 + 7, x)) (hV : wp_J8_length σ a0 Ret) (k : ∀ r σ', Ret r σ' → zz C E NS nL σ' (pc + 3) L (.int r :: st)) : zz C E NS nL σ pc L (.ref (E.1.heap.size + a0) :: st) :=
  z_callUG hC cf10 cw_J8_length hdd (by decide) (mz_J8_length (cxE hC) hV) hd hk q417 q419 q418 q424 q421 q420 (by decide) (np := 0) rfl rfl hW rfl (kI k)
theorem cw_J7_getValue : CodeW yJ7_getValue (ws_ yJ7_getValue cJ7_getValue 1 (Option.some (FieldType.array FieldType.byte))) 1 := ⟨fun w h => (List.mem_cons.mp h).elim (fun e => e ▸ q416) id, Or.inl ⟨_, _, q416⟩, q125, by decide, by decide⟩
theorem c_J9_552 {C : ZC} {E : ZE} {cc : ByteArray} {nL pc d : Nat} {nm : String} {ret : Option FieldType} {hh : List (Nat × Nat × Nat × Nat)} {σ : ZS} {L : List (Option Value)} {st : List Value} {a0 : Nat} {Ret : ZR → ZS → Prop} (hC : Cx C E cc nL "java/lang/String" nm ret hh d) (hdd : 1 + 1 ≤ d) (hd : decode cc pc = .ok (.invokevirtual 552, 3)) (hW : (st.map fun v => v.category).sum ≤ 8) {x : Nat} (hk : kK NS σ a0 = (10 + 7, x)) (hV : wp_J7_getValue σ a0 Ret) (k : ∀ r σ', Ret r σ' → zz C E NS nL σ' (pc + 3) L (pv E.1.heap.size r :: st)) : zz C E NS nL σ pc L (.ref (E.1.heap.size + a0) :: st) :=
  z_callUG hC cf10 cw_J7_getValue hdd (by decide) (mz_J7_getValue (cxE hC) hV) hd hk q412 q414 q413 q416 q413 q415 (by decide) (np := 0) rfl rfl hW rfl (kR k)
def V_J9_init_2_79 (Ret : ZS → Prop) (σ : ZS) (x0 : Nat) (x3 : Nat) (x4 : Int32) : Prop :=
    (∃ n15, kK NS σ x0 = (18, n15)) ∧ (∀ σ16 : ZS, σ16 = sI σ x0 1 1 → (wp_J13_copyOfRange σ16 x3 0 (x4 <<< (1 &&& 31)) (fun r17 σ18 => r17 = some (.inl (zo r17)) ∧ ((∃ n21, kK NS σ18 x0 = (18, n21)) ∧ (NS ≤ x0 ∧ (∀ σ23 : ZS, σ23 = sP σ18 x0 0 (some (.inl (zo r17))) → (Ret σ23)))))))
def wp_J9_init_2 (σ : ZS) (a0 : Nat) (a1 : Nat) (a2 : ZR) (Ret : ZS → Prop) : Prop :=
    (∃ n4, kK NS σ a1 = (17, n4)) ∧ (wp_J7_getValue σ a1 (fun r1 σ2 => r1 = some (.inl (zo r1)) ∧ ((∃ n9, kK NS σ2 a1 = (17, n9)) ∧ (wp_J8_length σ2 a1 (fun r6 σ7 => (∃ n13, kK NS σ7 a1 = (17, n13)) ∧ (wp_J7_isLatin1 σ7 a1 (fun r10 σ11 => ((r10 = 0 → ((((1 : Int32) = 0 → (V_J9_init_2_79 Ret σ11 a0 (zo r1) r6)) ∧ (¬ (1 : Int32) = 0 → ((∃ n25, kK NS σ11 a1 = (17, n25)) ∧ ((((zI σ11 a1 2) = 0 → (V_J9_init_2_79 Ret σ11 a0 (zo r1) r6)) ∧ (¬ (zI σ11 a1 2) = 0 → (False))))))))) ∧ (¬ r10 = 0 → ((∃ n27, kK NS σ11 a0 = (18, n27)) ∧ (∀ σ28 : ZS, σ28 = sI σ11 a0 1 0 → (wp_J13_copyOfRange σ28 (zo r1) 0 r6 (fun r29 σ30 => r29 = some (.inl (zo r29)) ∧ ((∃ n33, kK NS σ30 a0 = (18, n33)) ∧ (NS ≤ a0 ∧ (∀ σ35 : ZS, σ35 = sP σ30 a0 0 (some (.inl (zo r29))) → (Ret σ35)))))))))))))))))
set_option maxHeartbeats 4000000 in
theorem mz_J9_init_2 {l : Launch} {E : ZE} (hE : EOK E) {σ : ZS} {a0 : Nat} {a1 : Nat} {a2 : ZR} {Ret : ZS → Prop} (hV : wp_J9_init_2 σ a0 a1 a2 Ret) : MZ l E NS yJ9_init_2 (ws_ yJ9_init_2 cJ9_init_2 5 none) 6 σ [.ref (E.1.heap.size + a0), .ref (E.1.heap.size + a1), pv E.1.heap.size a2] (rV Ret) := by
  refine MZ.start (L := [some (.ref (E.1.heap.size + a0)), some (.ref (E.1.heap.size + a1)), some (pv E.1.heap.size a2), none, none]) hE (by decide) (by rcases a2 with _ | z | z <;> exact Nat.le_of_ble_eq_true rfl) (by rcases a2 with _ | z | z <;> rfl) fun C hCl hQo hC => ?_
  replace hC : Cx C E cJ9_init_2 5 "java/lang/String" "<init>" none [] 6 := hC
  unfold wp_J9_init_2 at hV
  have j_79 : ∀ (σ : ZS) (x0 : Nat) (x3 : Nat) (x4 : Int32), V_J9_init_2_79 Ret σ x0 x3 x4 → zz C E NS 5 σ 79 [some (.ref (E.1.heap.size + x0)), none, none, some (.ref (E.1.heap.size + x3)), some (.int x4)] [] := by
    intro σ x0 x3 x4 hV
    unfold V_J9_init_2_79 at hV
    refine z_aload_n hC dJ9_init_2_79 rfl rfl ?_
    refine z_iconst (v := 1) hC dJ9_init_2_80 rfl ?_
    obtain ⟨⟨n15, h14⟩, hV⟩ := hV
    refine p_J9_15i_c11 hC dJ9_init_2_81 h14 rfl rfl ?_
    obtain ⟨σ16, e_σ16⟩ : ∃ z : ZS, z = sI σ x0 1 1 := ⟨_, rfl⟩
    replace hV := hV _ e_σ16
    rw [← e_σ16]
    refine z_aload_n hC dJ9_init_2_84 rfl rfl ?_
    refine z_aload_n hC dJ9_init_2_85 rfl rfl ?_
    refine z_iconst (v := 0) hC dJ9_init_2_86 rfl ?_
    refine z_iload hC dJ9_init_2_87 rfl ?_
    refine z_iconst (v := 1) hC dJ9_init_2_89 rfl ?_
    refine z_ishl hC dJ9_init_2_90 ?_
    refine c_J9_54 hC (by decide) dJ9_init_2_91 (Nat.le_of_ble_eq_true rfl) hV (fun r17 σ18 hV => ?_)
    obtain ⟨h19, hV⟩ := hV
    refine zz_at rfl (by rw [pvo h19]) ?_
    obtain ⟨⟨n21, h20⟩, hV⟩ := hV
    obtain ⟨h22, hV⟩ := hV
    refine p_J9_9i_c11 (r := (some (.inl (zo r17)))) hC dJ9_init_2_94 h20 (pf_dyn h22) ?_
    obtain ⟨σ23, e_σ23⟩ : ∃ z : ZS, z = sP σ18 x0 0 (some (.inl (zo r17))) := ⟨_, rfl⟩
    replace hV := hV _ e_σ23
    rw [← e_σ23]
    exact z_vret hC dJ9_init_2_97 (by rw [hQo]; exact ⟨rfl, hV⟩)
  refine z_aload_n hC dJ9_init_2_0 rfl rfl ?_
  refine z_objInit hC dJ9_init_2_1 q411 q154 qobj (by decide) (Nat.le_of_ble_eq_true rfl) ?_
  refine z_aload_n hC dJ9_init_2_4 rfl rfl ?_
  obtain ⟨⟨n4, h3⟩, hV⟩ := hV
  refine c_J9_552 hC (by decide) dJ9_init_2_5 (Nat.le_of_ble_eq_true rfl) h3 hV (fun r1 σ2 hV => ?_)
  obtain ⟨h5, hV⟩ := hV
  refine zz_at rfl (by rw [pvo h5]) ?_
  refine z_astore_n hC dJ9_init_2_8 rfl (Nat.le_of_ble_eq_true rfl) (by simp [okPrev, pv_cat]) rfl ?_
  refine z_aload_n hC dJ9_init_2_9 rfl rfl ?_
  obtain ⟨⟨n9, h8⟩, hV⟩ := hV
  refine c_J9_549 hC (by decide) dJ9_init_2_10 (Nat.le_of_ble_eq_true rfl) h8 hV (fun r6 σ7 hV => ?_)
  refine z_istore hC dJ9_init_2_13 (Nat.le_of_ble_eq_true rfl) rfl rfl ?_
  refine z_aload_n hC dJ9_init_2_15 rfl rfl ?_
  obtain ⟨⟨n13, h12⟩, hV⟩ := hV
  refine c_J9_1047 hC (by decide) dJ9_init_2_16 (Nat.le_of_ble_eq_true rfl) h12 hV (fun r10 σ11 hV => ?_)
  refine z_if_eq (tgt := 41) hC dJ9_init_2_19 (by decide) (fun hc => ?_) (fun hc => ?_)
  · replace hV := hV.1 hc
    refine z_getsI (v := 1) hC dJ9_init_2_41 q339 q231 q127 (by decide +kernel) ?_
    refine z_if_eq (tgt := 79) hC dJ9_init_2_44 (by decide) (fun hc => ?_) (fun hc => ?_)
    · replace hV := hV.1 hc
      refine zz_sub (L' := [some (.ref (E.1.heap.size + a0)), none, none, some (.ref (E.1.heap.size + (zo r1))), some (.int r6)]) ⟨rfl, rfl, rfl, trivial⟩ ?_
      exact j_79 σ11 a0 (zo r1) r6 hV
    · replace hV := hV.2 hc
      refine z_aload_n hC dJ9_init_2_47 rfl rfl ?_
      obtain ⟨⟨n25, h24⟩, hV⟩ := hV
      refine g_J9_1048_c10 hC dJ9_init_2_48 h24 ?_
      refine z_if_eq (tgt := 79) hC dJ9_init_2_51 (by decide) (fun hc => ?_) (fun hc => ?_)
      · replace hV := hV.1 hc
        refine zz_sub (L' := [some (.ref (E.1.heap.size + a0)), none, none, some (.ref (E.1.heap.size + (zo r1))), some (.int r6)]) ⟨rfl, rfl, rfl, trivial⟩ ?_
        exact j_79 σ11 a0 (zo r1) r6 hV
      · replace hV := hV.2 hc
        exact hV.elim
  · replace hV := hV.2 hc
    refine z_aload_n hC dJ9_init_2_22 rfl rfl ?_
    refine z_iconst (v := 0) hC dJ9_init_2_23 rfl ?_
    obtain ⟨⟨n27, h26⟩, hV⟩ := hV
    refine p_J9_15i_c11 hC dJ9_init_2_24 h26 rfl rfl ?_
    obtain ⟨σ28, e_σ28⟩ : ∃ z : ZS, z = sI σ11 a0 1 0 := ⟨_, rfl⟩
    replace hV := hV _ e_σ28
    rw [← e_σ28]
    refine z_aload_n hC dJ9_init_2_27 rfl rfl ?_
    refine z_aload_n hC dJ9_init_2_28 rfl rfl ?_
    refine z_iconst (v := 0) hC dJ9_init_2_29 rfl ?_
    refine z_iload hC dJ9_init_2_30 rfl ?_
    refine c_J9_54 hC (by decide) dJ9_init_2_32 (Nat.le_of_ble_eq_true rfl) hV (fun r29 σ30 hV => ?_)
    obtain ⟨h31, hV⟩ := hV
    refine zz_at rfl (by rw [pvo h31]) ?_
    obtain ⟨⟨n33, h32⟩, hV⟩ := hV
    obtain ⟨h34, hV⟩ := hV
    refine p_J9_9i_c11 (r := (some (.inl (zo r29)))) hC dJ9_init_2_35 h32 (pf_dyn h34) ?_
    obtain ⟨σ35, e_σ35⟩ : ∃ z : ZS, z = sP σ30 a0 0 (some (.inl (zo r29))) := ⟨_, rfl⟩
    replace hV := hV _ e_σ35
    rw [← e_σ35]
    refine z_goto (tgt := 97) hC dJ9_init_2_38 (by decide) ?_
    exact z_vret hC dJ9_init_2_97 (by rw [hQo]; exact ⟨rfl, hV⟩)
theorem cw_J9_init_2 : CodeW yJ9_init_2 (ws_ yJ9_init_2 cJ9_init_2 5 none) 5 := ⟨fun w h => (List.mem_cons.mp h).elim (fun e => e ▸ q410) id, Or.inl ⟨_, _, q410⟩, q127, by decide, by decide⟩
theorem c_J9_489 {C : ZC} {E : ZE} {cc : ByteArray} {nL pc d : Nat} {nm : String} {ret : Option FieldType} {hh : List (Nat × Nat × Nat × Nat)} {σ : ZS} {L : List (Option Value)} {st : List Value} {a0 : Nat} {a1 : Nat} {a2 : ZR} {Ret : ZS → Prop} (hC : Cx C E cc nL "java/lang/String" nm ret hh d) (hdd : 6 + 1 ≤ d) (hd : decode cc pc = .ok (.invokespecial 489, 3)) (hW : (st.map fun v => v.category).sum ≤ 8) (hV : wp_J9_init_2 σ a0 a1 a2 Ret) (k : ∀ σ', Ret σ' → zz C E NS nL σ' (pc + 3) L st) : zz C E NS nL σ pc L (pv E.1.heap.size a2 :: .ref (E.1.heap.size + a1) :: .ref (E.1.heap.size + a0) :: st) :=
  z_callIG hC cw_J9_init_2 q410 hdd (by decide) (mz_J9_init_2 (cxE hC) hV) hd rfl q408 q409 (np := 2) rfl rfl hW rfl (kV k)
def wp_J9_init (σ : ZS) (a0 : Nat) (a1 : Nat) (Ret : ZS → Prop) : Prop :=
    wp_J9_init_2 σ a0 a1 none (fun σ2 => Ret σ2)
set_option maxHeartbeats 4000000 in
theorem mz_J9_init {l : Launch} {E : ZE} (hE : EOK E) {σ : ZS} {a0 : Nat} {a1 : Nat} {Ret : ZS → Prop} (hV : wp_J9_init σ a0 a1 Ret) : MZ l E NS yJ9_init (ws_ yJ9_init cJ9_init 2 none) 7 σ [.ref (E.1.heap.size + a0), .ref (E.1.heap.size + a1)] (rV Ret) := by
  refine MZ.start (L := [some (.ref (E.1.heap.size + a0)), some (.ref (E.1.heap.size + a1))]) hE (by decide) (Nat.le_of_ble_eq_true rfl) rfl fun C hCl hQo hC => ?_
  replace hC : Cx C E cJ9_init 2 "java/lang/String" "<init>" none [] 7 := hC
  unfold wp_J9_init at hV
  refine z_aload_n hC dJ9_init_0 rfl rfl ?_
  refine z_aload_n hC dJ9_init_1 rfl rfl ?_
  refine z_null hC dJ9_init_2 ?_
  refine c_J9_489 hC (by decide) dJ9_init_3 (Nat.le_of_ble_eq_true rfl) hV (fun σ2 hV => ?_)
  exact z_vret hC dJ9_init_6 (by rw [hQo]; exact ⟨rfl, hV⟩)
theorem dv_11 : ∀ k, k < 4 → defaultValue (tyJ9 k) = (match fty 11 k with | 0 => Value.int 0 | 1 => .long 0 | _ => .null) := by decide +kernel
theorem cw_J9_init : CodeW yJ9_init (ws_ yJ9_init cJ9_init 2 none) 2 := ⟨fun w h => (List.mem_cons.mp h).elim (fun e => e ▸ q407) id, Or.inl ⟨_, _, q407⟩, q127, by decide, by decide⟩
theorem c_J8_137 {C : ZC} {E : ZE} {cc : ByteArray} {nL pc d : Nat} {nm : String} {ret : Option FieldType} {hh : List (Nat × Nat × Nat × Nat)} {σ : ZS} {L : List (Option Value)} {st : List Value} {a0 : Nat} {a1 : Nat} {Ret : ZS → Prop} (hC : Cx C E cc nL "java/lang/StringBuilder" nm ret hh d) (hdd : 7 + 1 ≤ d) (hd : decode cc pc = .ok (.invokespecial 137, 3)) (hW : (st.map fun v => v.category).sum ≤ 8) (hV : wp_J9_init σ a0 a1 Ret) (k : ∀ σ', Ret σ' → zz C E NS nL σ' (pc + 3) L st) : zz C E NS nL σ pc L (.ref (E.1.heap.size + a1) :: .ref (E.1.heap.size + a0) :: st) :=
  z_callIG hC cw_J9_init q407 hdd (by decide) (mz_J9_init (cxE hC) hV) hd rfl q405 q406 (np := 1) rfl rfl hW rfl (kV k)
def wp_J8_toString (σ : ZS) (a0 : Nat) (Ret : ZR → ZS → Prop) : Prop :=
    (NS ≤ zt σ ∧ zt σ + 1 ≤ NB ∧ zn σ + 4 ≤ SB) ∧ (∀ σ2 : ZS, σ2 = sA σ (18, 0) 4 → (wp_J9_init σ2 (zt σ) a0 (fun σ4 => Ret (some (.inl (zt σ))) σ4)))
set_option maxHeartbeats 4000000 in
theorem mz_J8_toString {l : Launch} {E : ZE} (hE : EOK E) {σ : ZS} {a0 : Nat} {Ret : ZR → ZS → Prop} (hV : wp_J8_toString σ a0 Ret) : MZ l E NS yJ8_toString (ws_ yJ8_toString cJ8_toString 1 (Option.some (FieldType.object "java/lang/String"))) 8 σ [.ref (E.1.heap.size + a0)] (rP E.1.heap.size Ret) := by
  refine MZ.start (L := [some (.ref (E.1.heap.size + a0))]) hE (by decide) (Nat.le_of_ble_eq_true rfl) rfl fun C hCl hQo hC => ?_
  replace hC : Cx C E cJ8_toString 1 "java/lang/StringBuilder" "toString" (Option.some (FieldType.object "java/lang/String")) [] 8 := hC
  unfold wp_J8_toString at hV
  obtain ⟨h1, hV⟩ := hV
  refine z_new hC cf11 dJ8_toString_0 q403 q404 q127 dv_11 h1.1 h1.2.1 h1.2.2 ?_
  obtain ⟨σ2, e_σ2⟩ : ∃ z : ZS, z = sA σ (18, 0) 4 := ⟨_, rfl⟩
  replace hV := hV _ e_σ2
  rw [← e_σ2]
  refine z_dup hC dJ8_toString_3 rfl ?_
  refine z_aload_n hC dJ8_toString_4 rfl rfl ?_
  refine c_J8_137 hC (by decide) dJ8_toString_5 (Nat.le_of_ble_eq_true rfl) hV (fun σ4 hV => ?_)
  exact z_aret (r := (some (.inl (zt σ)))) hC (Or.inl ⟨_, rfl⟩) dJ8_toString_8 (by rw [hQo]; exact ⟨_, rfl, hV⟩)
theorem g_J9_15_c11 {a x : Nat} {C : ZC} {E : ZE} {cc : ByteArray} {n nL pc d : Nat} {nm : String} {ret : Option FieldType} {hh : List (Nat × Nat × Nat × Nat)} {σ : ZS} {L : List (Option Value)} {st : List Value} (hC : Cx C E cc nL "java/lang/String" nm ret hh d) (hd : decode cc pc = .ok (.getfield 15, 3)) (hk : kK n σ a = (11 + 7, x)) (k : zz C E n nL σ (pc + 3) L (.int (zI σ a 1) :: st)) : zz C E n nL σ pc L (.ref (E.1.heap.size + a) :: st) :=
  z_get hC cf11 hd hk (k := 1) (by decide) (Or.inl q481) (Or.inl rfl) rfl k
def wp_J9_coder (σ : ZS) (a0 : Nat) (Ret : Int32 → ZS → Prop) : Prop :=
    (((1 : Int32) = 0 → (Ret 1 σ)) ∧ (¬ (1 : Int32) = 0 → ((∃ n2, kK NS σ a0 = (18, n2)) ∧ (narrow .byte (.int (zI σ a0 1)) = .int (zI σ a0 1) ∧ (Ret (zI σ a0 1) σ)))))
set_option maxHeartbeats 4000000 in
theorem mz_J9_coder {l : Launch} {E : ZE} (hE : EOK E) {σ : ZS} {a0 : Nat} {Ret : Int32 → ZS → Prop} (hV : wp_J9_coder σ a0 Ret) : MZ l E NS yJ9_coder (ws_ yJ9_coder cJ9_coder 1 (some .byte)) 1 σ [.ref (E.1.heap.size + a0)] (rI Ret) := by
  refine MZ.start (L := [some (.ref (E.1.heap.size + a0))]) hE (by decide) (Nat.le_of_ble_eq_true rfl) rfl fun C hCl hQo hC => ?_
  replace hC : Cx C E cJ9_coder 1 "java/lang/String" "coder" (some .byte) [] 1 := hC
  unfold wp_J9_coder at hV
  refine z_getsI (v := 1) hC dJ9_coder_0 q339 q231 q127 (by decide +kernel) ?_
  refine z_if_eq (tgt := 13) hC dJ9_coder_3 (by decide) (fun hc => ?_) (fun hc => ?_)
  · replace hV := hV.1 hc
    refine z_iconst (v := 1) hC dJ9_coder_13 rfl ?_
    exact z_iret hC dJ9_coder_14 rfl (by rw [hQo]; exact ⟨_, rfl, hV⟩)
  · replace hV := hV.2 hc
    refine z_aload_n hC dJ9_coder_6 rfl rfl ?_
    obtain ⟨⟨n2, h1⟩, hV⟩ := hV
    refine g_J9_15_c11 hC dJ9_coder_7 h1 ?_
    refine z_goto (tgt := 14) hC dJ9_coder_10 (by decide) ?_
    obtain ⟨h3, hV⟩ := hV
    exact z_iret hC dJ9_coder_14 h3 (by rw [hQo]; exact ⟨_, rfl, hV⟩)
theorem g_J9_9_c11 {a x : Nat} {C : ZC} {E : ZE} {cc : ByteArray} {n nL pc d : Nat} {nm : String} {ret : Option FieldType} {hh : List (Nat × Nat × Nat × Nat)} {σ : ZS} {L : List (Option Value)} {st : List Value} (hC : Cx C E cc nL "java/lang/String" nm ret hh d) (hd : decode cc pc = .ok (.getfield 9, 3)) (hk : kK n σ a = (11 + 7, x)) (k : zz C E n nL σ (pc + 3) L (pv E.1.heap.size (kP n σ a 0) :: st)) : zz C E n nL σ pc L (.ref (E.1.heap.size + a) :: st) :=
  z_get hC cf11 hd hk (k := 0) (by decide) (Or.inl q480) (Or.inl rfl) rfl k
theorem cw_J9_coder : CodeW yJ9_coder (ws_ yJ9_coder cJ9_coder 1 (some .byte)) 1 := ⟨fun w h => (List.mem_cons.mp h).elim (fun e => e ▸ q338) id, Or.inl ⟨_, _, q338⟩, q127, by decide, by decide⟩
theorem c_J9_335 {C : ZC} {E : ZE} {cc : ByteArray} {nL pc d : Nat} {nm : String} {ret : Option FieldType} {hh : List (Nat × Nat × Nat × Nat)} {σ : ZS} {L : List (Option Value)} {st : List Value} {a0 : Nat} {Ret : Int32 → ZS → Prop} (hC : Cx C E cc nL "java/lang/String" nm ret hh d) (hdd : 1 + 1 ≤ d) (hd : decode cc pc = .ok (.invokevirtual 335, 3)) (hW : (st.map fun v => v.category).sum ≤ 8) {x : Nat} (hk : kK NS σ a0 = (11 + 7, x)) (hV : wp_J9_coder σ a0 Ret) (k : ∀ r σ', Ret r σ' → zz C E NS nL σ' (pc + 3) L (.int r :: st)) : zz C E NS nL σ pc L (.ref (E.1.heap.size + a0) :: st) :=
  z_callVG hC cf11 cw_J9_coder hdd (by decide) (mz_J9_coder (cxE hC) hV) hd hk q335 q336 q337 (np := 0) rfl rfl hW rfl (kI k)
def wp_J9_length (σ : ZS) (a0 : Nat) (Ret : Int32 → ZS → Prop) : Prop :=
    (∃ n2, kK NS σ a0 = (18, n2)) ∧ ((kP NS σ a0 0) = some (.inl (zo (kP NS σ a0 0))) ∧ (∃ n5, kK NS σ (zo (kP NS σ a0 0)) = (2, n5) ∧ ((∃ n9, kK NS σ a0 = (18, n9)) ∧ (wp_J9_coder σ a0 (fun r6 σ7 => Ret ((Int32.ofNat n5) >>> (r6 &&& 31)) σ7)))))
set_option maxHeartbeats 4000000 in
theorem mz_J9_length {l : Launch} {E : ZE} (hE : EOK E) {σ : ZS} {a0 : Nat} {Ret : Int32 → ZS → Prop} (hV : wp_J9_length σ a0 Ret) : MZ l E NS yJ9_length (ws_ yJ9_length cJ9_length 1 (some .int)) 2 σ [.ref (E.1.heap.size + a0)] (rI Ret) := by
  refine MZ.start (L := [some (.ref (E.1.heap.size + a0))]) hE (by decide) (Nat.le_of_ble_eq_true rfl) rfl fun C hCl hQo hC => ?_
  replace hC : Cx C E cJ9_length 1 "java/lang/String" "length" (some .int) [] 2 := hC
  unfold wp_J9_length at hV
  refine z_aload_n hC dJ9_length_0 rfl rfl ?_
  obtain ⟨⟨n2, h1⟩, hV⟩ := hV
  refine g_J9_9_c11 hC dJ9_length_1 h1 ?_
  obtain ⟨h3, hV⟩ := hV
  refine zz_at rfl (by rw [pvo h3]) ?_
  obtain ⟨n5, h4, hV⟩ := hV
  refine z_alen hC dJ9_length_4 h4 (by decide) rfl ?_
  refine z_aload_n hC dJ9_length_5 rfl rfl ?_
  obtain ⟨⟨n9, h8⟩, hV⟩ := hV
  refine c_J9_335 hC (by decide) dJ9_length_6 (Nat.le_of_ble_eq_true rfl) h8 hV (fun r6 σ7 hV => ?_)
  refine z_ishr hC dJ9_length_9 ?_
  exact z_iret hC dJ9_length_10 rfl (by rw [hQo]; exact ⟨_, rfl, hV⟩)
def wp_J9_isLatin1 (σ : ZS) (a0 : Nat) (Ret : Int32 → ZS → Prop) : Prop :=
    (((1 : Int32) = 0 → (Ret 0 σ)) ∧ (¬ (1 : Int32) = 0 → ((∃ n2, kK NS σ a0 = (18, n2)) ∧ ((((zI σ a0 1) = 0 → (Ret 1 σ)) ∧ (¬ (zI σ a0 1) = 0 → (Ret 0 σ)))))))
set_option maxHeartbeats 4000000 in
theorem mz_J9_isLatin1 {l : Launch} {E : ZE} (hE : EOK E) {σ : ZS} {a0 : Nat} {Ret : Int32 → ZS → Prop} (hV : wp_J9_isLatin1 σ a0 Ret) : MZ l E NS yJ9_isLatin1 (ws_ yJ9_isLatin1 cJ9_isLatin1 1 (some .boolean)) 1 σ [.ref (E.1.heap.size + a0)] (rI Ret) := by
  refine MZ.start (L := [some (.ref (E.1.heap.size + a0))]) hE (by decide) (Nat.le_of_ble_eq_true rfl) rfl fun C hCl hQo hC => ?_
  replace hC : Cx C E cJ9_isLatin1 1 "java/lang/String" "isLatin1" (some .boolean) [] 1 := hC
  unfold wp_J9_isLatin1 at hV
  refine z_getsI (v := 1) hC dJ9_isLatin1_0 q339 q231 q127 (by decide +kernel) ?_
  refine z_if_eq (tgt := 17) hC dJ9_isLatin1_3 (by decide) (fun hc => ?_) (fun hc => ?_)
  · replace hV := hV.1 hc
    refine z_iconst (v := 0) hC dJ9_isLatin1_17 rfl ?_
    exact z_iret hC dJ9_isLatin1_18 rfl (by rw [hQo]; exact ⟨_, rfl, hV⟩)
  · replace hV := hV.2 hc
    refine z_aload_n hC dJ9_isLatin1_6 rfl rfl ?_
    obtain ⟨⟨n2, h1⟩, hV⟩ := hV
    refine g_J9_15_c11 hC dJ9_isLatin1_7 h1 ?_
    refine z_if_ne (tgt := 17) hC dJ9_isLatin1_10 (by decide) (fun hc => ?_) (fun hc => ?_)
    · replace hV := hV.2 hc
      refine z_iconst (v := 0) hC dJ9_isLatin1_17 rfl ?_
      exact z_iret hC dJ9_isLatin1_18 rfl (by rw [hQo]; exact ⟨_, rfl, hV⟩)
    · replace hV := hV.1 hc
      refine z_iconst (v := 1) hC dJ9_isLatin1_13 rfl ?_
      refine z_goto (tgt := 18) hC dJ9_isLatin1_14 (by decide) ?_
      exact z_iret hC dJ9_isLatin1_18 rfl (by rw [hQo]; exact ⟨_, rfl, hV⟩)
def VL_J11_signedHashCode_8 (Ret : Int32 → ZS → Prop) : Nat → ZS → Int32 → Nat → Int32 → Int32 → Prop
  | 0 => fun _ _ _ _ _ => False
  | k + 1 => fun σ x0 x1 x4 x5 =>
    let K8 := VL_J11_signedHashCode_8 Ret k
    ((x5 < x4 → (∃ n3, kK NS σ x1 = (2, n3) ∧ (vp_in x5 n3 ∧ (∀ y5 : Int32, y5 = (31 * x0) + ((zI σ x1 (ix x5)) &&& 255) → (∀ y6 : Int32, y6 = x5 + 1 → (K8 σ y5 x1 x4 y6)))))) ∧ (¬ x5 < x4 → (Ret x0 σ)))
def V_J11_signedHashCode_8 (Ret : Int32 → ZS → Prop) (σ : ZS) (x0 : Int32) (x1 : Nat) (x4 : Int32) (x5 : Int32) : Prop := ∃ k, VL_J11_signedHashCode_8 Ret k σ x0 x1 x4 x5
def wp_J11_signedHashCode (σ : ZS) (a0 : Int32) (a1 : Nat) (a2 : Int32) (a3 : Int32) (Ret : Int32 → ZS → Prop) : Prop :=
    ∀ y1 : Int32, y1 = a2 + a3 → (V_J11_signedHashCode_8 Ret σ a0 a1 y1 a2)
set_option maxHeartbeats 4000000 in
theorem mz_J11_signedHashCode {l : Launch} {E : ZE} (hE : EOK E) {σ : ZS} {a0 : Int32} {a1 : Nat} {a2 : Int32} {a3 : Int32} {Ret : Int32 → ZS → Prop} (hV : wp_J11_signedHashCode σ a0 a1 a2 a3 Ret) : MZ l E NS yJ11_signedHashCode (ws_ yJ11_signedHashCode cJ11_signedHashCode 6 (some .int)) 1 σ [.int a0, .ref (E.1.heap.size + a1), .int a2, .int a3] (rI Ret) := by
  refine MZ.start (L := [some (.int a0), some (.ref (E.1.heap.size + a1)), some (.int a2), some (.int a3), none, none]) hE (by decide) (Nat.le_of_ble_eq_true rfl) rfl fun C hCl hQo hC => ?_
  replace hC : Cx C E cJ11_signedHashCode 6 "jdk/internal/util/ArraysSupport" "signedHashCode" (some .int) [] 1 := hC
  unfold wp_J11_signedHashCode at hV
  have j_8 : ∀ (σ : ZS) (x0 : Int32) (x1 : Nat) (x4 : Int32) (x5 : Int32), V_J11_signedHashCode_8 Ret σ x0 x1 x4 x5 → zz C E NS 6 σ 8 [some (.int x0), some (.ref (E.1.heap.size + x1)), none, none, some (.int x4), some (.int x5)] [] := by
    intro σ x0 x1 x4 x5 ⟨k, hV⟩
    revert σ x0 x1 x4 x5
    induction k with
    | zero => exact fun _ _ _ _ _ hV => hV.elim
    | succ k j_8 =>
      intro σ x0 x1 x4 x5 hV
      simp only [VL_J11_signedHashCode_8] at hV
      generalize hKe8 : VL_J11_signedHashCode_8 Ret k = K8 at hV j_8
      clear hKe8
      refine z_iload hC dJ11_signedHashCode_8 rfl ?_
      refine z_iload hC dJ11_signedHashCode_10 rfl ?_
      refine z_icmp_ge (tgt := 35) hC dJ11_signedHashCode_12 (by decide) (fun hc => ?_) (fun hc => ?_)
      · replace hV := hV.2 hc
        refine z_iload_n hC dJ11_signedHashCode_35 rfl rfl ?_
        exact z_iret hC dJ11_signedHashCode_36 rfl (by rw [hQo]; exact ⟨_, rfl, hV⟩)
      · replace hV := hV.1 hc
        refine z_bipush (v := 31) hC dJ11_signedHashCode_15 rfl ?_
        refine z_iload_n hC dJ11_signedHashCode_17 rfl rfl ?_
        refine z_imul hC dJ11_signedHashCode_18 ?_
        refine z_aload_n hC dJ11_signedHashCode_19 rfl rfl ?_
        refine z_iload hC dJ11_signedHashCode_20 rfl ?_
        obtain ⟨n3, h2, hV⟩ := hV
        obtain ⟨h4, hV⟩ := hV
        refine z_bald hC dJ11_signedHashCode_22 h2 (h4) ?_
        refine z_sipush (v := 255) hC dJ11_signedHashCode_23 rfl ?_
        refine z_iand hC dJ11_signedHashCode_26 ?_
        refine z_iadd hC dJ11_signedHashCode_27 ?_
        obtain ⟨y5, e_y5⟩ : ∃ z, z = (31 * x0) + ((zI σ x1 (ix x5)) &&& 255) := ⟨_, rfl⟩
        rw [← e_y5]
        replace hV := hV _ e_y5
        refine z_istore_n hC dJ11_signedHashCode_28 rfl (Nat.le_of_ble_eq_true rfl) rfl rfl ?_
        obtain ⟨y6, e_y6⟩ : ∃ z : Int32, z = x5 + 1 := ⟨_, rfl⟩
        replace hV := hV _ e_y6
        refine z_iinc (v := y6) hC dJ11_signedHashCode_29 rfl (by rw [e_y6]; rfl) (Nat.le_of_ble_eq_true rfl) rfl rfl ?_
        refine z_goto (tgt := 8) hC dJ11_signedHashCode_32 (by decide) ?_
        refine zz_sub (L' := [some (.int y5), some (.ref (E.1.heap.size + x1)), none, none, some (.int x4), some (.int y6)]) ⟨rfl, rfl, rfl, rfl, trivial⟩ ?_
        exact j_8 σ y5 x1 x4 y6 hV
  refine z_iload_n hC dJ11_signedHashCode_0 rfl rfl ?_
  refine z_iload_n hC dJ11_signedHashCode_1 rfl rfl ?_
  refine z_iadd hC dJ11_signedHashCode_2 ?_
  obtain ⟨y1, e_y1⟩ : ∃ z, z = a2 + a3 := ⟨_, rfl⟩
  rw [← e_y1]
  replace hV := hV _ e_y1
  refine z_istore hC dJ11_signedHashCode_3 (Nat.le_of_ble_eq_true rfl) rfl rfl ?_
  refine z_iload_n hC dJ11_signedHashCode_5 rfl rfl ?_
  refine z_istore hC dJ11_signedHashCode_6 (Nat.le_of_ble_eq_true rfl) rfl rfl ?_
  refine zz_sub (L' := [some (.int a0), some (.ref (E.1.heap.size + a1)), none, none, some (.int y1), some (.int a2)]) ⟨rfl, rfl, rfl, rfl, trivial⟩ ?_
  exact j_8 σ a0 a1 y1 a2 hV
theorem cw_J11_signedHashCode : CodeW yJ11_signedHashCode (ws_ yJ11_signedHashCode cJ11_signedHashCode 6 (some .int)) 6 := ⟨fun w h => (List.mem_cons.mp h).elim (fun e => e ▸ q847) id, Or.inl ⟨_, _, q847⟩, q129, by decide, by decide⟩
theorem c_J11_62 {C : ZC} {E : ZE} {cc : ByteArray} {nL pc d : Nat} {nm : String} {ret : Option FieldType} {hh : List (Nat × Nat × Nat × Nat)} {σ : ZS} {L : List (Option Value)} {st : List Value} {a0 : Int32} {a1 : Nat} {a2 : Int32} {a3 : Int32} {Ret : Int32 → ZS → Prop} (hC : Cx C E cc nL "jdk/internal/util/ArraysSupport" nm ret hh d) (hdd : 1 + 1 ≤ d) (hd : decode cc pc = .ok (.invokestatic 62, 3)) (hW : (st.map fun v => v.category).sum ≤ 8) (hV : wp_J11_signedHashCode σ a0 a1 a2 a3 Ret) (k : ∀ r σ', Ret r σ' → zz C E NS nL σ' (pc + 3) L (.int r :: st)) : zz C E NS nL σ pc L (.int a3 :: .int a2 :: .ref (E.1.heap.size + a1) :: .int a0 :: st) :=
  z_callSG hC cw_J11_signedHashCode hdd (by decide) (mz_J11_signedHashCode (cxE hC) hV) hd q845 q846 (np := 4) rfl rfl hW rfl (kI k)
theorem c_J11_91 {C : ZC} {E : ZE} {cc : ByteArray} {nL pc d : Nat} {nm : String} {ret : Option FieldType} {hh : List (Nat × Nat × Nat × Nat)} {σ : ZS} {L : List (Option Value)} {st : List Value} {a0 : Nat} {Ret : ZS → Prop} (hC : Cx C E cc nL "jdk/internal/util/ArraysSupport" nm ret hh d) (hdd : 2 + 1 ≤ d) (hd : decode cc pc = .ok (.invokespecial 91, 3)) (hW : (st.map fun v => v.category).sum ≤ 8) (hV : wp_J8_init σ a0 Ret) (k : ∀ σ', Ret σ' → zz C E NS nL σ' (pc + 3) L st) : zz C E NS nL σ pc L (.ref (E.1.heap.size + a0) :: st) :=
  z_callIG hC cw_J8_init q225 hdd (by decide) (mz_J8_init (cxE hC) hV) hd rfl q881 q224 (np := 0) rfl rfl hW rfl (kV k)
def V_J11_vectorizedHashCode_129 (Ret : Int32 → ZS → Prop) (σ : ZS) (x4 : Int32) : Prop :=
    False
def wp_J11_vectorizedHashCode (σ : ZS) (a0 : Nat) (a1 : Int32) (a2 : Int32) (a3 : Int32) (a4 : Int32) (Ret : Int32 → ZS → Prop) : Prop :=
    ((a4 = 4 → (∃ n2, kK NS σ a0 = (2, n2) ∧ (wp_J11_signedHashCode σ a3 a0 a1 a2 (fun r3 σ4 => Ret r3 σ4)))) ∧ (¬ a4 = 4 → (((a4 = 5 → (False)) ∧ (¬ a4 = 5 → (((a4 = 6 → (V_J11_vectorizedHashCode_129 Ret σ a4)) ∧ (¬ a4 = 6 → (((a4 = 7 → (V_J11_vectorizedHashCode_129 Ret σ a4)) ∧ (¬ a4 = 7 → (((a4 = 8 → (False)) ∧ (¬ a4 = 8 → (((a4 = 9 → (False)) ∧ (¬ a4 = 9 → (((a4 = 10 → (False)) ∧ (¬ a4 = 10 → (V_J11_vectorizedHashCode_129 Ret σ a4)))))))))))))))))))))
set_option maxHeartbeats 4000000 in
theorem mz_J11_vectorizedHashCode {l : Launch} {E : ZE} (hE : EOK E) {σ : ZS} {a0 : Nat} {a1 : Int32} {a2 : Int32} {a3 : Int32} {a4 : Int32} {Ret : Int32 → ZS → Prop} (hV : wp_J11_vectorizedHashCode σ a0 a1 a2 a3 a4 Ret) : MZ l E NS yJ11_vectorizedHashCode (ws_ yJ11_vectorizedHashCode cJ11_vectorizedHashCode 5 (some .int)) 3 σ [.ref (E.1.heap.size + a0), .int a1, .int a2, .int a3, .int a4] (rI Ret) := by
  refine MZ.start (L := [some (.ref (E.1.heap.size + a0)), some (.int a1), some (.int a2), some (.int a3), some (.int a4)]) hE (by decide) (Nat.le_of_ble_eq_true rfl) rfl fun C hCl hQo hC => ?_
  replace hC : Cx C E cJ11_vectorizedHashCode 5 "jdk/internal/util/ArraysSupport" "vectorizedHashCode" (some .int) [] 3 := hC
  unfold wp_J11_vectorizedHashCode at hV
  have j_129 : ∀ (σ : ZS) (x4 : Int32), V_J11_vectorizedHashCode_129 Ret σ x4 → zz C E NS 5 σ 129 [none, none, none, none, some (.int x4)] [] := by
    intro σ x4 hV
    unfold V_J11_vectorizedHashCode_129 at hV
    exact hV.elim
  refine z_iload hC dJ11_vectorizedHashCode_0 rfl ?_
  by_cases hc4 : a4 = 4
  · replace hV := hV.1 hc4
    refine z_tableIn (tgt := 44) (off := 42) hC dJ11_vectorizedHashCode_2 (by rw [hc4]; decide) (by rw [hc4]; decide) (by rw [hc4]; rfl) (by decide) ?_
    refine z_iload_n hC dJ11_vectorizedHashCode_44 rfl rfl ?_
    refine z_aload_n hC dJ11_vectorizedHashCode_45 rfl rfl ?_
    obtain ⟨n2, h1, hV⟩ := hV
    refine z_castB hC dJ11_vectorizedHashCode_46 h1 q844 ?_
    refine z_iload_n hC dJ11_vectorizedHashCode_49 rfl rfl ?_
    refine z_iload_n hC dJ11_vectorizedHashCode_50 rfl rfl ?_
    refine c_J11_62 hC (by decide) dJ11_vectorizedHashCode_51 (Nat.le_of_ble_eq_true rfl) hV (fun r3 σ4 hV => ?_)
    refine z_goto (tgt := 157) hC dJ11_vectorizedHashCode_54 (by decide) ?_
    exact z_iret hC dJ11_vectorizedHashCode_157 rfl (by rw [hQo]; exact ⟨_, rfl, hV⟩)
  replace hV := hV.2 hc4
  by_cases hc5 : a4 = 5
  · replace hV := hV.1 hc5
    refine z_tableIn (tgt := 57) (off := 55) hC dJ11_vectorizedHashCode_2 (by rw [hc5]; decide) (by rw [hc5]; decide) (by rw [hc5]; rfl) (by decide) ?_
    exact hV.elim
  replace hV := hV.2 hc5
  by_cases hc6 : a4 = 6
  · replace hV := hV.1 hc6
    refine z_tableIn (tgt := 129) (off := 127) hC dJ11_vectorizedHashCode_2 (by rw [hc6]; decide) (by rw [hc6]; decide) (by rw [hc6]; rfl) (by decide) ?_
    refine zz_sub (L' := [none, none, none, none, some (.int a4)]) ⟨rfl, trivial⟩ ?_
    exact j_129 σ a4 hV
  replace hV := hV.2 hc6
  by_cases hc7 : a4 = 7
  · replace hV := hV.1 hc7
    refine z_tableIn (tgt := 129) (off := 127) hC dJ11_vectorizedHashCode_2 (by rw [hc7]; decide) (by rw [hc7]; decide) (by rw [hc7]; rfl) (by decide) ?_
    refine zz_sub (L' := [none, none, none, none, some (.int a4)]) ⟨rfl, trivial⟩ ?_
    exact j_129 σ a4 hV
  replace hV := hV.2 hc7
  by_cases hc8 : a4 = 8
  · replace hV := hV.1 hc8
    refine z_tableIn (tgt := 90) (off := 88) hC dJ11_vectorizedHashCode_2 (by rw [hc8]; decide) (by rw [hc8]; decide) (by rw [hc8]; rfl) (by decide) ?_
    exact hV.elim
  replace hV := hV.2 hc8
  by_cases hc9 : a4 = 9
  · replace hV := hV.1 hc9
    refine z_tableIn (tgt := 103) (off := 101) hC dJ11_vectorizedHashCode_2 (by rw [hc9]; decide) (by rw [hc9]; decide) (by rw [hc9]; rfl) (by decide) ?_
    exact hV.elim
  replace hV := hV.2 hc9
  by_cases hc10 : a4 = 10
  · replace hV := hV.1 hc10
    refine z_tableIn (tgt := 116) (off := 114) hC dJ11_vectorizedHashCode_2 (by rw [hc10]; decide) (by rw [hc10]; decide) (by rw [hc10]; rfl) (by decide) ?_
    exact hV.elim
  replace hV := hV.2 hc10
  refine z_tableOut (tgt := 129) hC dJ11_vectorizedHashCode_2 (tb_out (lo := 4) (hi := 10) (x := a4) (fun i h1 h2 => ?_)) (by decide) ?_
  · rcases (show i = 4 ∨ i = 5 ∨ i = 6 ∨ i = 7 ∨ i = 8 ∨ i = 9 ∨ i = 10 by omega) with rfl | rfl | rfl | rfl | rfl | rfl | rfl
    · exact fun q => hc4 (Int32.toInt_inj.mp (q.trans (by decide)))
    · exact fun q => hc5 (Int32.toInt_inj.mp (q.trans (by decide)))
    · exact fun q => hc6 (Int32.toInt_inj.mp (q.trans (by decide)))
    · exact fun q => hc7 (Int32.toInt_inj.mp (q.trans (by decide)))
    · exact fun q => hc8 (Int32.toInt_inj.mp (q.trans (by decide)))
    · exact fun q => hc9 (Int32.toInt_inj.mp (q.trans (by decide)))
    · exact fun q => hc10 (Int32.toInt_inj.mp (q.trans (by decide)))
  · refine zz_sub (L' := [none, none, none, none, some (.int a4)]) ⟨rfl, trivial⟩ ?_
    exact j_129 σ a4 hV
theorem cw_J11_vectorizedHashCode : CodeW yJ11_vectorizedHashCode (ws_ yJ11_vectorizedHashCode cJ11_vectorizedHashCode 5 (some .int)) 5 := ⟨fun w h => (List.mem_cons.mp h).elim (fun e => e ▸ q843) id, Or.inl ⟨_, _, q843⟩, q129, by decide, by decide⟩
theorem c_J15_84 {C : ZC} {E : ZE} {cc : ByteArray} {nL pc d : Nat} {nm : String} {ret : Option FieldType} {hh : List (Nat × Nat × Nat × Nat)} {σ : ZS} {L : List (Option Value)} {st : List Value} {a0 : Nat} {a1 : Int32} {a2 : Int32} {a3 : Int32} {a4 : Int32} {Ret : Int32 → ZS → Prop} (hC : Cx C E cc nL "java/lang/StringLatin1" nm ret hh d) (hdd : 3 + 1 ≤ d) (hd : decode cc pc = .ok (.invokestatic 84, 3)) (hW : (st.map fun v => v.category).sum ≤ 8) (hV : wp_J11_vectorizedHashCode σ a0 a1 a2 a3 a4 Ret) (k : ∀ r σ', Ret r σ' → zz C E NS nL σ' (pc + 3) L (.int r :: st)) : zz C E NS nL σ pc L (.int a4 :: .int a3 :: .int a2 :: .int a1 :: .ref (E.1.heap.size + a0) :: st) :=
  z_callSG hC cw_J11_vectorizedHashCode hdd (by decide) (mz_J11_vectorizedHashCode (cxE hC) hV) hd q841 q842 (np := 5) rfl rfl hW rfl (kI k)
def wp_J15_hashCode (σ : ZS) (a0 : Nat) (Ret : Int32 → ZS → Prop) : Prop :=
    ∃ n2, kK NS σ a0 = (2, n2) ∧ ((((Int32.ofNat n2) = 0 → (Ret 0 σ)) ∧ (¬ (Int32.ofNat n2) = 0 → ((((Int32.ofNat n2) = 1 → (∃ n4, kK NS σ a0 = (2, n4) ∧ (vp_in 0 n4 ∧ (Ret ((zI σ a0 (ix 0)) &&& 255) σ)))) ∧ (¬ (Int32.ofNat n2) = 1 → (∃ n7, kK NS σ a0 = (2, n7) ∧ (wp_J11_vectorizedHashCode σ a0 0 (Int32.ofNat n7) 0 4 (fun r8 σ9 => Ret r8 σ9)))))))))
set_option maxHeartbeats 4000000 in
theorem mz_J15_hashCode {l : Launch} {E : ZE} (hE : EOK E) {σ : ZS} {a0 : Nat} {Ret : Int32 → ZS → Prop} (hV : wp_J15_hashCode σ a0 Ret) : MZ l E NS yJ15_hashCode (ws_ yJ15_hashCode cJ15_hashCode 1 (some .int)) 4 σ [.ref (E.1.heap.size + a0)] (rI Ret) := by
  refine MZ.start (L := [some (.ref (E.1.heap.size + a0))]) hE (by decide) (Nat.le_of_ble_eq_true rfl) rfl fun C hCl hQo hC => ?_
  replace hC : Cx C E cJ15_hashCode 1 "java/lang/StringLatin1" "hashCode" (some .int) [] 4 := hC
  unfold wp_J15_hashCode at hV
  refine z_aload_n hC dJ15_hashCode_0 rfl rfl ?_
  obtain ⟨n2, h1, hV⟩ := hV
  refine z_alen hC dJ15_hashCode_1 h1 (by decide) rfl ?_
  by_cases hc0 : (Int32.ofNat n2) = 0
  · replace hV := hV.1 hc0
    refine z_lookup (tgt := 28) (off := 26) hC dJ15_hashCode_2 rfl (by rw [hc0]; rfl) (by decide) ?_
    refine z_iconst (v := 0) hC dJ15_hashCode_28 rfl ?_
    refine z_goto (tgt := 51) hC dJ15_hashCode_29 (by decide) ?_
    exact z_iret hC dJ15_hashCode_51 rfl (by rw [hQo]; exact ⟨_, rfl, hV⟩)
  replace hV := hV.2 hc0
  by_cases hc1 : (Int32.ofNat n2) = 1
  · replace hV := hV.1 hc1
    refine z_lookup (tgt := 32) (off := 30) hC dJ15_hashCode_2 rfl (by rw [hc1]; rfl) (by decide) ?_
    refine z_aload_n hC dJ15_hashCode_32 rfl rfl ?_
    refine z_iconst (v := 0) hC dJ15_hashCode_33 rfl ?_
    obtain ⟨n4, h3, hV⟩ := hV
    obtain ⟨h5, hV⟩ := hV
    refine z_bald hC dJ15_hashCode_34 h3 (h5) ?_
    refine z_sipush (v := 255) hC dJ15_hashCode_35 rfl ?_
    refine z_iand hC dJ15_hashCode_38 ?_
    refine z_goto (tgt := 51) hC dJ15_hashCode_39 (by decide) ?_
    exact z_iret hC dJ15_hashCode_51 rfl (by rw [hQo]; exact ⟨_, rfl, hV⟩)
  replace hV := hV.2 hc1
  refine z_lookup (tgt := 42) (off := 40) hC dJ15_hashCode_2 rfl (by show Op.lookupswitch.offset [(0, 26), (1, 30)] 40 _ = 40; rw [lv_osw (a := 0) hc0 (by decide)]; rw [lv_osw (a := 1) hc1 (by decide)]; rfl) (by decide) ?_
  refine z_aload_n hC dJ15_hashCode_42 rfl rfl ?_
  refine z_iconst (v := 0) hC dJ15_hashCode_43 rfl ?_
  refine z_aload_n hC dJ15_hashCode_44 rfl rfl ?_
  obtain ⟨n7, h6, hV⟩ := hV
  refine z_alen hC dJ15_hashCode_45 h6 (by decide) rfl ?_
  refine z_iconst (v := 0) hC dJ15_hashCode_46 rfl ?_
  refine z_iconst (v := 4) hC dJ15_hashCode_47 rfl ?_
  refine c_J15_84 hC (by decide) dJ15_hashCode_48 (Nat.le_of_ble_eq_true rfl) hV (fun r8 σ9 hV => ?_)
  exact z_iret hC dJ15_hashCode_51 rfl (by rw [hQo]; exact ⟨_, rfl, hV⟩)
