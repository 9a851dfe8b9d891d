set_option maxRecDepth 100000
def wp_X5_good (σ : ZS) (a0 : Nat) (a1 : Int32) (Thr : Nat → ZS → Prop) (Ret : ZS → Prop) : Prop :=
    ((a1 = 0 → ((NS ≤ zt σ ∧ zt σ + 1 ≤ NB ∧ zn σ + 8 ≤ SB) ∧ (∀ σ2 : ZS, σ2 = sA σ (12, 0) 8 → ((∃ n4, kK NS σ2 a0 = (11, n4)) ∧ (wp_X6_init σ2 (zt σ) 2 (zI σ2 a0 3) (fun σ6 => Thr (zt σ) σ6)))))) ∧ (¬ a1 = 0 → (Ret σ)))
set_option maxHeartbeats 4000000 in
theorem mz_X5_good {l : Launch} {E : ZE} (hE : EOK E) {σ : ZS} {a0 : Nat} {a1 : Int32} {Thr : Nat → ZS → Prop} {Ret : ZS → Prop} (hV : wp_X5_good σ a0 a1 Thr Ret) : MZ l E NS yX5_good (ws_ yX5_good cX5_good 2 none) 4 σ [.ref (E.1.heap.size + a0), .int a1] (rT E.1.heap.size (rV Ret) Thr) := by
  refine MZ.start (L := [some (.ref (E.1.heap.size + a0)), some (.int a1)]) hE (by decide) (Nat.le_of_ble_eq_true rfl) rfl fun C hCl hQo hC => ?_
  replace hC : Cx C E cX5_good 2 "RightTurns$Reader" "good" none [] 4 := hC
  unfold wp_X5_good at hV
  refine z_iload_n hC dX5_good_0 rfl rfl ?_
  refine z_if_ne (tgt := 17) hC dX5_good_1 (by decide) (fun hc => ?_) (fun hc => ?_)
  · replace hV := hV.2 hc
    exact z_vret hC dX5_good_17 (by rw [hQo]; exact Or.inl ⟨rfl, hV⟩)
  · replace hV := hV.1 hc
    obtain ⟨h1, hV⟩ := hV
    refine z_new hC cf5 dX5_good_4 q920 q921 q140 dv_5 h1.1 h1.2.1 h1.2.2 ?_
    obtain ⟨σ2, e_σ2⟩ : ∃ z : ZS, z = sA σ (12, 0) 8 := ⟨_, rfl⟩
    replace hV := hV _ e_σ2
    rw [← e_σ2]
    refine z_dup hC dX5_good_7 rfl ?_
    refine z_iconst (v := 2) hC dX5_good_8 rfl ?_
    refine z_aload_n hC dX5_good_9 rfl rfl ?_
    obtain ⟨⟨n4, h3⟩, hV⟩ := hV
    refine g_X5_56_c4 hC dX5_good_10 h3 ?_
    refine c_X5_49 hC (by decide) dX5_good_13 (Nat.le_of_ble_eq_true rfl) hV (fun σ6 hV => ?_)
    exact z_athrow hC dX5_good_16 (zth_out hC (by rw [hQo]; exact Or.inr ⟨_, rfl, hV⟩))
theorem g_X5_12_c4 {a x : Nat} {C : ZC} {E : ZE} {cc : ByteArray} {n nL pc d : Nat} {nm : String} {ret : Option FieldType} {hh : List (Nat × Nat × Nat × Nat)} {σ : ZS} {L : List (Option Value)} {st : List Value} (hC : Cx C E cc nL "RightTurns$Reader" nm ret hh d) (hd : decode cc pc = .ok (.getfield 12, 3)) (hk : kK n σ a = (4 + 7, x)) (k : zz C E n nL σ (pc + 3) L (pv E.1.heap.size (kP n σ a 4) :: st)) : zz C E n nL σ pc L (.ref (E.1.heap.size + a) :: st) :=
  z_get hC cf4 hd hk (k := 4) (by decide) (Or.inl q776) (Or.inl rfl) rfl k
theorem g_X5_65_c1 {a x : Nat} {C : ZC} {E : ZE} {cc : ByteArray} {n nL pc d : Nat} {nm : String} {ret : Option FieldType} {hh : List (Nat × Nat × Nat × Nat)} {σ : ZS} {L : List (Option Value)} {st : List Value} (hC : Cx C E cc nL "RightTurns$Reader" nm ret hh d) (hd : decode cc pc = .ok (.getfield 65, 3)) (hk : kK n σ a = (1 + 7, x)) (k : zz C E n nL σ (pc + 3) L (pv E.1.heap.size (kP n σ a 0) :: st)) : zz C E n nL σ pc L (.ref (E.1.heap.size + a) :: st) :=
  z_get hC cf1 hd hk (k := 0) (by decide) (Or.inr ⟨_, q508⟩) (Or.inl rfl) rfl k
theorem c_X5_69 {C : ZC} {E : ZE} {cc : ByteArray} {nL pc d : Nat} {nm : String} {ret : Option FieldType} {hh : List (Nat × Nat × Nat × Nat)} {σ : ZS} {L : List (Option Value)} {st : List Value} {a0 : Nat} {Ret : Int32 → ZS → Prop} (hC : Cx C E cc nL "RightTurns$Reader" nm ret hh d) (hdd : 1 + 1 ≤ d) (hd : decode cc pc = .ok (.invokevirtual 69, 3)) (hW : (st.map fun v => v.category).sum ≤ 8) {x : Nat} (hk : kK NS σ a0 = (9 + 7, x)) (hV : wp_J2_size σ a0 Ret) (k : ∀ r σ', Ret r σ' → zz C E NS nL σ' (pc + 3) L (.int r :: st)) : zz C E NS nL σ pc L (.ref (E.1.heap.size + a0) :: st) :=
  z_callVG hC cf9 cw_J2_size hdd (by decide) (mz_J2_size (cxE hC) hV) hd hk q906 q907 q908 (np := 0) rfl rfl hW rfl (kI k)
theorem cw_X5_number : CodeW yX5_number (ws_ yX5_number cX5_number 5 (some .int)) 5 := ⟨fun w h => (List.mem_cons.mp h).elim (fun e => e ▸ q952) id, Or.inl ⟨_, _, q952⟩, q139, by decide, by decide⟩
theorem c_X5_73 {C : ZC} {E : ZE} {cc : ByteArray} {nL pc d : Nat} {nm : String} {ret : Option FieldType} {hh : List (Nat × Nat × Nat × Nat)} {σ : ZS} {L : List (Option Value)} {st : List Value} {a0 : Nat} {a1 : Int32} {a2 : Int32} {Ret : Int32 → ZS → Prop} {Thr : Nat → ZS → Prop} (hC : Cx C E cc nL "RightTurns$Reader" nm ret hh d) (hdd : 5 + 1 ≤ d) (hd : decode cc pc = .ok (.invokevirtual 73, 3)) (hW : (st.map fun v => v.category).sum ≤ 8) {x : Nat} (hk : kK NS σ a0 = (4 + 7, x)) (hV : wp_X5_number σ a0 a1 a2 Thr Ret) (k : ∀ r σ', Ret r σ' → zz C E NS nL σ' (pc + 3) L (.int r :: st)) (kt : ∀ a σ', Thr a σ' → zth C E NS nL σ' pc L st (E.1.heap.size + a)) : zz C E NS nL σ pc L (.int a2 :: .int a1 :: .ref (E.1.heap.size + a0) :: st) :=
  z_callVG hC cf4 cw_X5_number hdd (by decide) (mz_X5_number (cxE hC) hV) hd hk q949 q951 qs6 (np := 2) rfl rfl hW rfl (kT (kI k) kt)
def wp_X5_corner (σ : ZS) (a0 : Nat) (Thr : Nat → ZS → Prop) (Ret : Int32 → ZS → Prop) : Prop :=
    (∃ n2, kK NS σ a0 = (11, n2)) ∧ ((kP NS σ a0 4) = some (.inl (zo (kP NS σ a0 4))) ∧ ((∃ n5, kK NS σ (zo (kP NS σ a0 4)) = (8, n5)) ∧ ((kP NS σ (zo (kP NS σ a0 4)) 0) = some (.inl (zo (kP NS σ (zo (kP NS σ a0 4)) 0))) ∧ ((∃ n10, kK NS σ (zo (kP NS σ (zo (kP NS σ a0 4)) 0)) = (16, n10)) ∧ (wp_J2_size σ (zo (kP NS σ (zo (kP NS σ a0 4)) 0)) (fun r7 σ8 => (∃ n14, kK NS σ8 a0 = (11, n14)) ∧ (wp_X5_number σ8 a0 0 (r7 - 1) (fun x σ => Thr x σ) (fun r11 σ12 => Ret r11 σ12))))))))
set_option maxHeartbeats 4000000 in
theorem mz_X5_corner {l : Launch} {E : ZE} (hE : EOK E) {σ : ZS} {a0 : Nat} {Thr : Nat → ZS → Prop} {Ret : Int32 → ZS → Prop} (hV : wp_X5_corner σ a0 Thr Ret) : MZ l E NS yX5_corner (ws_ yX5_corner cX5_corner 1 (some .int)) 6 σ [.ref (E.1.heap.size + a0)] (rT E.1.heap.size (rI Ret) Thr) := by
  refine MZ.start (L := [some (.ref (E.1.heap.size + a0))]) hE (by decide) (Nat.le_of_ble_eq_true rfl) rfl fun C hCl hQo hC => ?_
  replace hC : Cx C E cX5_corner 1 "RightTurns$Reader" "corner" (some .int) [] 6 := hC
  unfold wp_X5_corner at hV
  refine z_aload_n hC dX5_corner_0 rfl rfl ?_
  refine z_iconst (v := 0) hC dX5_corner_1 rfl ?_
  refine z_aload_n hC dX5_corner_2 rfl rfl ?_
  obtain ⟨⟨n2, h1⟩, hV⟩ := hV
  refine g_X5_12_c4 hC dX5_corner_3 h1 ?_
  obtain ⟨h3, hV⟩ := hV
  refine zz_at rfl (by rw [pvo h3]) ?_
  obtain ⟨⟨n5, h4⟩, hV⟩ := hV
  refine g_X5_65_c1 hC dX5_corner_6 h4 ?_
  obtain ⟨h6, hV⟩ := hV
  refine zz_at rfl (by rw [pvo h6]) ?_
  obtain ⟨⟨n10, h9⟩, hV⟩ := hV
  refine c_X5_69 hC (by decide) dX5_corner_9 (Nat.le_of_ble_eq_true rfl) h9 hV (fun r7 σ8 hV => ?_)
  refine z_iconst (v := 1) hC dX5_corner_12 rfl ?_
  refine z_isub hC dX5_corner_13 ?_
  obtain ⟨⟨n14, h13⟩, hV⟩ := hV
  refine c_X5_73 hC (by decide) dX5_corner_14 (Nat.le_of_ble_eq_true rfl) h13 hV (fun r11 σ12 hV => ?_) (fun x σ hV => zth_out hC (by rw [hQo]; exact Or.inr ⟨_, rfl, hV⟩))
  exact z_iret hC dX5_corner_17 rfl (by rw [hQo]; exact Or.inl ⟨_, rfl, hV⟩)
theorem g_X5_76_c1 {a x : Nat} {C : ZC} {E : ZE} {cc : ByteArray} {n nL pc d : Nat} {nm : String} {ret : Option FieldType} {hh : List (Nat × Nat × Nat × Nat)} {σ : ZS} {L : List (Option Value)} {st : List Value} (hC : Cx C E cc nL "RightTurns$Reader" nm ret hh d) (hd : decode cc pc = .ok (.getfield 76, 3)) (hk : kK n σ a = (1 + 7, x)) (k : zz C E n nL σ (pc + 3) L (pv E.1.heap.size (kP n σ a 1) :: st)) : zz C E n nL σ pc L (.ref (E.1.heap.size + a) :: st) :=
  z_get hC cf1 hd hk (k := 1) (by decide) (Or.inr ⟨_, q511⟩) (Or.inl rfl) rfl k
def wp_X5_street (σ : ZS) (a0 : Nat) (Thr : Nat → ZS → Prop) (Ret : Int32 → ZS → Prop) : Prop :=
    (∃ n2, kK NS σ a0 = (11, n2)) ∧ ((kP NS σ a0 4) = some (.inl (zo (kP NS σ a0 4))) ∧ ((∃ n5, kK NS σ (zo (kP NS σ a0 4)) = (8, n5)) ∧ ((kP NS σ (zo (kP NS σ a0 4)) 1) = some (.inl (zo (kP NS σ (zo (kP NS σ a0 4)) 1))) ∧ ((∃ n10, kK NS σ (zo (kP NS σ (zo (kP NS σ a0 4)) 1)) = (16, n10)) ∧ (wp_J2_size σ (zo (kP NS σ (zo (kP NS σ a0 4)) 1)) (fun r7 σ8 => (∃ n14, kK NS σ8 a0 = (11, n14)) ∧ (wp_X5_number σ8 a0 0 (r7 - 1) (fun x σ => Thr x σ) (fun r11 σ12 => Ret r11 σ12))))))))
set_option maxHeartbeats 4000000 in
theorem mz_X5_street {l : Launch} {E : ZE} (hE : EOK E) {σ : ZS} {a0 : Nat} {Thr : Nat → ZS → Prop} {Ret : Int32 → ZS → Prop} (hV : wp_X5_street σ a0 Thr Ret) : MZ l E NS yX5_street (ws_ yX5_street cX5_street 1 (some .int)) 6 σ [.ref (E.1.heap.size + a0)] (rT E.1.heap.size (rI Ret) Thr) := by
  refine MZ.start (L := [some (.ref (E.1.heap.size + a0))]) hE (by decide) (Nat.le_of_ble_eq_true rfl) rfl fun C hCl hQo hC => ?_
  replace hC : Cx C E cX5_street 1 "RightTurns$Reader" "street" (some .int) [] 6 := hC
  unfold wp_X5_street at hV
  refine z_aload_n hC dX5_street_0 rfl rfl ?_
  refine z_iconst (v := 0) hC dX5_street_1 rfl ?_
  refine z_aload_n hC dX5_street_2 rfl rfl ?_
  obtain ⟨⟨n2, h1⟩, hV⟩ := hV
  refine g_X5_12_c4 hC dX5_street_3 h1 ?_
  obtain ⟨h3, hV⟩ := hV
  refine zz_at rfl (by rw [pvo h3]) ?_
  obtain ⟨⟨n5, h4⟩, hV⟩ := hV
  refine g_X5_76_c1 hC dX5_street_6 h4 ?_
  obtain ⟨h6, hV⟩ := hV
  refine zz_at rfl (by rw [pvo h6]) ?_
  obtain ⟨⟨n10, h9⟩, hV⟩ := hV
  refine c_X5_69 hC (by decide) dX5_street_9 (Nat.le_of_ble_eq_true rfl) h9 hV (fun r7 σ8 hV => ?_)
  refine z_iconst (v := 1) hC dX5_street_12 rfl ?_
  refine z_isub hC dX5_street_13 ?_
  obtain ⟨⟨n14, h13⟩, hV⟩ := hV
  refine c_X5_73 hC (by decide) dX5_street_14 (Nat.le_of_ble_eq_true rfl) h13 hV (fun r11 σ12 hV => ?_) (fun x σ hV => zth_out hC (by rw [hQo]; exact Or.inr ⟨_, rfl, hV⟩))
  exact z_iret hC dX5_street_17 rfl (by rw [hQo]; exact Or.inl ⟨_, rfl, hV⟩)
theorem dv_8 : ∀ k, k < 3 → defaultValue (tyX9 k) = (match fty 8 k with | 0 => Value.int 0 | 1 => .long 0 | _ => .null) := by decide +kernel
theorem dv_7 : ∀ k, k < 4 → defaultValue (tyX8 k) = (match fty 7 k with | 0 => Value.int 0 | 1 => .long 0 | _ => .null) := by decide +kernel
theorem dv_6 : ∀ k, k < 2 → defaultValue (tyX7 k) = (match fty 6 k with | 0 => Value.int 0 | 1 => .long 0 | _ => .null) := by decide +kernel
theorem g_X5_119_c1 {a x : Nat} {C : ZC} {E : ZE} {cc : ByteArray} {n nL pc d : Nat} {nm : String} {ret : Option FieldType} {hh : List (Nat × Nat × Nat × Nat)} {σ : ZS} {L : List (Option Value)} {st : List Value} (hC : Cx C E cc nL "RightTurns$Reader" nm ret hh d) (hd : decode cc pc = .ok (.getfield 119, 3)) (hk : kK n σ a = (1 + 7, x)) (k : zz C E n nL σ (pc + 3) L (pv E.1.heap.size (kP n σ a 2) :: st)) : zz C E n nL σ pc L (.ref (E.1.heap.size + a) :: st) :=
  z_get hC cf1 hd hk (k := 2) (by decide) (Or.inr ⟨_, q513⟩) (Or.inl rfl) rfl k
theorem g_X5_122_c1 {a x : Nat} {C : ZC} {E : ZE} {cc : ByteArray} {n nL pc d : Nat} {nm : String} {ret : Option FieldType} {hh : List (Nat × Nat × Nat × Nat)} {σ : ZS} {L : List (Option Value)} {st : List Value} (hC : Cx C E cc nL "RightTurns$Reader" nm ret hh d) (hd : decode cc pc = .ok (.getfield 122, 3)) (hk : kK n σ a = (1 + 7, x)) (k : zz C E n nL σ (pc + 3) L (.int (zI σ a 7) :: st)) : zz C E n nL σ pc L (.ref (E.1.heap.size + a) :: st) :=
  z_get hC cf1 hd hk (k := 7) (by decide) (Or.inr ⟨_, q525⟩) (Or.inl rfl) rfl k
theorem g_X5_138_c6 {a x : Nat} {C : ZC} {E : ZE} {cc : ByteArray} {n nL pc d : Nat} {nm : String} {ret : Option FieldType} {hh : List (Nat × Nat × Nat × Nat)} {σ : ZS} {L : List (Option Value)} {st : List Value} (hC : Cx C E cc nL "RightTurns$Reader" nm ret hh d) (hd : decode cc pc = .ok (.getfield 138, 3)) (hk : kK n σ a = (6 + 7, x)) (k : zz C E n nL σ (pc + 3) L (.int (zI σ a 0) :: st)) : zz C E n nL σ pc L (.ref (E.1.heap.size + a) :: st) :=
  z_get hC cf6 hd hk (k := 0) (by decide) (Or.inr ⟨_, q978⟩) (Or.inl rfl) rfl k
theorem g_X5_141_c6 {a x : Nat} {C : ZC} {E : ZE} {cc : ByteArray} {n nL pc d : Nat} {nm : String} {ret : Option FieldType} {hh : List (Nat × Nat × Nat × Nat)} {σ : ZS} {L : List (Option Value)} {st : List Value} (hC : Cx C E cc nL "RightTurns$Reader" nm ret hh d) (hd : decode cc pc = .ok (.getfield 141, 3)) (hk : kK n σ a = (6 + 7, x)) (k : zz C E n nL σ (pc + 3) L (.int (zI σ a 1) :: st)) : zz C E n nL σ pc L (.ref (E.1.heap.size + a) :: st) :=
  z_get hC cf6 hd hk (k := 1) (by decide) (Or.inr ⟨_, q981⟩) (Or.inl rfl) rfl k
theorem g_X5_168_c1 {a x : Nat} {C : ZC} {E : ZE} {cc : ByteArray} {n nL pc d : Nat} {nm : String} {ret : Option FieldType} {hh : List (Nat × Nat × Nat × Nat)} {σ : ZS} {L : List (Option Value)} {st : List Value} (hC : Cx C E cc nL "RightTurns$Reader" nm ret hh d) (hd : decode cc pc = .ok (.getfield 168, 3)) (hk : kK n σ a = (1 + 7, x)) (k : zz C E n nL σ (pc + 3) L (pv E.1.heap.size (kP n σ a 3) :: st)) : zz C E n nL σ pc L (.ref (E.1.heap.size + a) :: st) :=
  z_get hC cf1 hd hk (k := 3) (by decide) (Or.inr ⟨_, q517⟩) (Or.inl rfl) rfl k
theorem g_X5_172_c1 {a x : Nat} {C : ZC} {E : ZE} {cc : ByteArray} {n nL pc d : Nat} {nm : String} {ret : Option FieldType} {hh : List (Nat × Nat × Nat × Nat)} {σ : ZS} {L : List (Option Value)} {st : List Value} (hC : Cx C E cc nL "RightTurns$Reader" nm ret hh d) (hd : decode cc pc = .ok (.getfield 172, 3)) (hk : kK n σ a = (1 + 7, x)) (k : zz C E n nL σ (pc + 3) L (pv E.1.heap.size (kP n σ a 4) :: st)) : zz C E n nL σ pc L (.ref (E.1.heap.size + a) :: st) :=
  z_get hC cf1 hd hk (k := 4) (by decide) (Or.inr ⟨_, q520⟩) (Or.inl rfl) rfl k
theorem g_X5_90_c1 {a x : Nat} {C : ZC} {E : ZE} {cc : ByteArray} {n nL pc d : Nat} {nm : String} {ret : Option FieldType} {hh : List (Nat × Nat × Nat × Nat)} {σ : ZS} {L : List (Option Value)} {st : List Value} (hC : Cx C E cc nL "RightTurns$Reader" nm ret hh d) (hd : decode cc pc = .ok (.getfield 90, 3)) (hk : kK n σ a = (1 + 7, x)) (k : zz C E n nL σ (pc + 3) L (.int (zI σ a 9) :: st)) : zz C E n nL σ pc L (.ref (E.1.heap.size + a) :: st) :=
  z_get hC cf1 hd hk (k := 9) (by decide) (Or.inr ⟨_, q529⟩) (Or.inl rfl) rfl k
theorem p_X5_122_c1 {C : ZC} {E : ZE} {cc : ByteArray} {n nL pc d a x : Nat} {nm : String} {ret : Option FieldType} {hh : List (Nat × Nat × Nat × Nat)} {σ : ZS} {L : List (Option Value)} {st : List Value} {v : Int32} (hC : Cx C E cc nL "RightTurns$Reader" nm ret hh d) (hd : decode cc pc = .ok (.putfield 122, 3)) (hk : kK n σ a = (1 + 7, x)) (k : zz C E n nL (sI σ a 7 v) (pc + 3) L st) : zz C E n nL σ pc L (.int v :: .ref (E.1.heap.size + a) :: st) :=
  z_putI hC cf1 hd hk (k := 7) (by decide) (Or.inr ⟨_, q525⟩) (Or.inl rfl) (Or.inl rfl) rfl rfl rfl k
theorem p_X5_161_c7 {C : ZC} {E : ZE} {cc : ByteArray} {n nL pc d a x : Nat} {nm : String} {ret : Option FieldType} {hh : List (Nat × Nat × Nat × Nat)} {σ : ZS} {L : List (Option Value)} {st : List Value} {v : Int32} (hC : Cx C E cc nL "RightTurns$Reader" nm ret hh d) (hd : decode cc pc = .ok (.putfield 161, 3)) (hk : kK n σ a = (7 + 7, x)) (hb : isB v) (k : zz C E n nL (sI σ a 3 v) (pc + 3) L st) : zz C E n nL σ pc L (.int v :: .ref (E.1.heap.size + a) :: st) :=
  z_putI hC cf7 hd hk (k := 3) (by decide) (Or.inr ⟨_, q1056⟩) (Or.inl rfl) (Or.inl rfl) hb (isB_fits hb) rfl k
theorem cw_J9_equals : CodeW yJ9_equals (ws_ yJ9_equals cJ9_equals 3 (some .boolean)) 3 := ⟨fun w h => (List.mem_cons.mp h).elim (fun e => e ▸ q895) id, Or.inl ⟨_, _, q895⟩, q127, by decide, by decide⟩
theorem c_X5_103 {C : ZC} {E : ZE} {cc : ByteArray} {nL pc d : Nat} {nm : String} {ret : Option FieldType} {hh : List (Nat × Nat × Nat × Nat)} {σ : ZS} {L : List (Option Value)} {st : List Value} {a0 : Nat} {b1 : List Int32} {Ret : Int32 → ZS → Prop} {q1 v1 : Nat} (hF1 : FS E q1 v1 b1) (hC : Cx C E cc nL "RightTurns$Reader" nm ret hh d) (hdd : 2 + 1 ≤ d) (hd : decode cc pc = .ok (.invokevirtual 103, 3)) (hW : (st.map fun v => v.category).sum ≤ 8) {x : Nat} (hk : kK NS σ a0 = (11 + 7, x)) (hV : wp_J9_equals σ a0 b1 Ret) (k : ∀ r σ', Ret r σ' → zz C E NS nL σ' (pc + 3) L (.int r :: st)) : zz C E NS nL σ pc L (.ref q1 :: .ref (E.1.heap.size + a0) :: st) :=
  z_callVG hC cf11 cw_J9_equals hdd (by decide) (mz_J9_equals (cxE hC) hF1 hV) hd hk q892 q893 q894 (np := 1) rfl rfl hW rfl (kI k)
theorem cw_J16_bitCount : CodeW yJ16_bitCount (ws_ yJ16_bitCount cJ16_bitCount 1 (some .int)) 1 := ⟨fun w h => (List.mem_cons.mp h).elim (fun e => e ▸ q912) id, Or.inl ⟨_, _, q912⟩, q136, by decide, by decide⟩
theorem c_X5_125 {C : ZC} {E : ZE} {cc : ByteArray} {nL pc d : Nat} {nm : String} {ret : Option FieldType} {hh : List (Nat × Nat × Nat × Nat)} {σ : ZS} {L : List (Option Value)} {st : List Value} {a0 : Int32} {Ret : Int32 → ZS → Prop} (hC : Cx C E cc nL "RightTurns$Reader" nm ret hh d) (hdd : 1 + 1 ≤ d) (hd : decode cc pc = .ok (.invokestatic 125, 3)) (hW : (st.map fun v => v.category).sum ≤ 8) (hV : wp_J16_bitCount σ a0 Ret) (k : ∀ r σ', Ret r σ' → zz C E NS nL σ' (pc + 3) L (.int r :: st)) : zz C E NS nL σ pc L (.int a0 :: st) :=
  z_callSG hC cw_J16_bitCount hdd (by decide) (mz_J16_bitCount (cxE hC) hV) hd q910 q911 (np := 1) rfl rfl hW rfl (kI k)
theorem cw_J9_length : CodeW yJ9_length (ws_ yJ9_length cJ9_length 1 (some .int)) 1 := ⟨fun w h => (List.mem_cons.mp h).elim (fun e => e ▸ q334) id, Or.inl ⟨_, _, q334⟩, q127, by decide, by decide⟩
theorem c_X5_131 {C : ZC} {E : ZE} {cc : ByteArray} {nL pc d : Nat} {nm : String} {ret : Option FieldType} {hh : List (Nat × Nat × Nat × Nat)} {σ : ZS} {L : List (Option Value)} {st : List Value} {a0 : Nat} {Ret : Int32 → ZS → Prop} (hC : Cx C E cc nL "RightTurns$Reader" nm ret hh d) (hdd : 2 + 1 ≤ d) (hd : decode cc pc = .ok (.invokevirtual 131, 3)) (hW : (st.map fun v => v.category).sum ≤ 8) {x : Nat} (hk : kK NS σ a0 = (11 + 7, x)) (hV : wp_J9_length σ a0 Ret) (k : ∀ r σ', Ret r σ' → zz C E NS nL σ' (pc + 3) L (.int r :: st)) : zz C E NS nL σ pc L (.ref (E.1.heap.size + a0) :: st) :=
  z_callVG hC cf11 cw_J9_length hdd (by decide) (mz_J9_length (cxE hC) hV) hd hk q948 q332 q333 (np := 0) rfl rfl hW rfl (kI k)
theorem c_X5_132 {C : ZC} {E : ZE} {cc : ByteArray} {nL pc d : Nat} {nm : String} {ret : Option FieldType} {hh : List (Nat × Nat × Nat × Nat)} {σ : ZS} {L : List (Option Value)} {st : List Value} {a0 : Nat} {a1 : Int32} {Ret : ZR → ZS → Prop} (hC : Cx C E cc nL "RightTurns$Reader" nm ret hh d) (hdd : 3 + 1 ≤ d) (hd : decode cc pc = .ok (.invokevirtual 132, 3)) (hW : (st.map fun v => v.category).sum ≤ 8) {x : Nat} (hk : kK NS σ a0 = (9 + 7, x)) (hV : wp_J2_get σ a0 a1 Ret) (k : ∀ r σ', Ret r σ' → zz C E NS nL σ' (pc + 3) L (pv E.1.heap.size r :: st)) : zz C E NS nL σ pc L (.int a1 :: .ref (E.1.heap.size + a0) :: st) :=
  z_callVG hC cf9 cw_J2_get hdd (by decide) (mz_J2_get (cxE hC) hV) hd hk q954 q955 q956 (np := 1) rfl rfl hW rfl (kR k)
theorem cw_X5_good : CodeW yX5_good (ws_ yX5_good cX5_good 2 none) 2 := ⟨fun w h => (List.mem_cons.mp h).elim (fun e => e ▸ q970) id, Or.inl ⟨_, _, q970⟩, q139, by decide, by decide⟩
theorem c_X5_144 {C : ZC} {E : ZE} {cc : ByteArray} {nL pc d : Nat} {nm : String} {ret : Option FieldType} {hh : List (Nat × Nat × Nat × Nat)} {σ : ZS} {L : List (Option Value)} {st : List Value} {a0 : Nat} {a1 : Int32} {Ret : ZS → Prop} {Thr : Nat → ZS → Prop} (hC : Cx C E cc nL "RightTurns$Reader" nm ret hh d) (hdd : 4 + 1 ≤ d) (hd : decode cc pc = .ok (.invokevirtual 144, 3)) (hW : (st.map fun v => v.category).sum ≤ 8) {x : Nat} (hk : kK NS σ a0 = (4 + 7, x)) (hV : wp_X5_good σ a0 a1 Thr Ret) (k : ∀ σ', Ret σ' → zz C E NS nL σ' (pc + 3) L st) (kt : ∀ a σ', Thr a σ' → zth C E NS nL σ' pc L st (E.1.heap.size + a)) : zz C E NS nL σ pc L (.int a1 :: .ref (E.1.heap.size + a0) :: st) :=
  z_callVG hC cf4 cw_X5_good hdd (by decide) (mz_X5_good (cxE hC) hV) hd hk q967 q969 qs7 (np := 1) rfl rfl hW rfl (kT (kV k) kt)
theorem cw_X7_init : CodeW yX7_init (ws_ yX7_init cX7_init 3 none) 3 := ⟨fun w h => (List.mem_cons.mp h).elim (fun e => e ▸ q974) id, Or.inl ⟨_, _, q974⟩, q142, by decide, by decide⟩
theorem c_X5_148 {C : ZC} {E : ZE} {cc : ByteArray} {nL pc d : Nat} {nm : String} {ret : Option FieldType} {hh : List (Nat × Nat × Nat × Nat)} {σ : ZS} {L : List (Option Value)} {st : List Value} {a0 : Nat} {a1 : Int32} {a2 : Int32} {Ret : ZS → Prop} (hC : Cx C E cc nL "RightTurns$Reader" nm ret hh d) (hdd : 1 + 1 ≤ d) (hd : decode cc pc = .ok (.invokespecial 148, 3)) (hW : (st.map fun v => v.category).sum ≤ 8) (hV : wp_X7_init σ a0 a1 a2 Ret) (k : ∀ σ', Ret σ' → zz C E NS nL σ' (pc + 3) L st) : zz C E NS nL σ pc L (.int a2 :: .int a1 :: .ref (E.1.heap.size + a0) :: st) :=
  z_callIG hC cw_X7_init q974 hdd (by decide) (mz_X7_init (cxE hC) hV) hd rfl q972 q973 (np := 2) rfl rfl hW rfl (kV k)
theorem cw_J2_add : CodeW yJ2_add (ws_ yJ2_add cJ2_add 2 (some .boolean)) 2 := ⟨fun w h => (List.mem_cons.mp h).elim (fun e => e ▸ q990) id, Or.inl ⟨_, _, q990⟩, q120, by decide, by decide⟩
theorem c_X5_149 {C : ZC} {E : ZE} {cc : ByteArray} {nL pc d : Nat} {nm : String} {ret : Option FieldType} {hh : List (Nat × Nat × Nat × Nat)} {σ : ZS} {L : List (Option Value)} {st : List Value} {a0 : Nat} {a1 : Nat} {Ret : Int32 → ZS → Prop} (hC : Cx C E cc nL "RightTurns$Reader" nm ret hh d) (hdd : 7 + 1 ≤ d) (hd : decode cc pc = .ok (.invokevirtual 149, 3)) (hW : (st.map fun v => v.category).sum ≤ 8) {x : Nat} (hk : kK NS σ a0 = (9 + 7, x)) (hV : wp_J2_add σ a0 a1 Ret) (k : ∀ r σ', Ret r σ' → zz C E NS nL σ' (pc + 3) L (.int r :: st)) : zz C E NS nL σ pc L (.ref (E.1.heap.size + a1) :: .ref (E.1.heap.size + a0) :: st) :=
  z_callVG hC cf9 cw_J2_add hdd (by decide) (mz_J2_add (cxE hC) hV) hd hk q987 q988 q989 (np := 1) rfl rfl hW rfl (kI k)
theorem cw_X5_corner : CodeW yX5_corner (ws_ yX5_corner cX5_corner 1 (some .int)) 1 := ⟨fun w h => (List.mem_cons.mp h).elim (fun e => e ▸ q1039) id, Or.inl ⟨_, _, q1039⟩, q139, by decide, by decide⟩
theorem c_X5_152 {C : ZC} {E : ZE} {cc : ByteArray} {nL pc d : Nat} {nm : String} {ret : Option FieldType} {hh : List (Nat × Nat × Nat × Nat)} {σ : ZS} {L : List (Option Value)} {st : List Value} {a0 : Nat} {Ret : Int32 → ZS → Prop} {Thr : Nat → ZS → Prop} (hC : Cx C E cc nL "RightTurns$Reader" nm ret hh d) (hdd : 6 + 1 ≤ d) (hd : decode cc pc = .ok (.invokevirtual 152, 3)) (hW : (st.map fun v => v.category).sum ≤ 8) {x : Nat} (hk : kK NS σ a0 = (4 + 7, x)) (hV : wp_X5_corner σ a0 Thr Ret) (k : ∀ r σ', Ret r σ' → zz C E NS nL σ' (pc + 3) L (.int r :: st)) (kt : ∀ a σ', Thr a σ' → zth C E NS nL σ' pc L st (E.1.heap.size + a)) : zz C E NS nL σ pc L (.ref (E.1.heap.size + a0) :: st) :=
  z_callVG hC cf4 cw_X5_corner hdd (by decide) (mz_X5_corner (cxE hC) hV) hd hk q1036 q1038 qs11 (np := 0) rfl rfl hW rfl (kT (kI k) kt)
theorem cw_X8_init : CodeW yX8_init (ws_ yX8_init cX8_init 4 none) 4 := ⟨fun w h => (List.mem_cons.mp h).elim (fun e => e ▸ q1044) id, Or.inl ⟨_, _, q1044⟩, q143, by decide, by decide⟩
theorem c_X5_156 {C : ZC} {E : ZE} {cc : ByteArray} {nL pc d : Nat} {nm : String} {ret : Option FieldType} {hh : List (Nat × Nat × Nat × Nat)} {σ : ZS} {L : List (Option Value)} {st : List Value} {a0 : Nat} {a1 : Int32} {a2 : Int32} {a3 : Int32} {Ret : ZS → Prop} (hC : Cx C E cc nL "RightTurns$Reader" nm ret hh d) (hdd : 1 + 1 ≤ d) (hd : decode cc pc = .ok (.invokespecial 156, 3)) (hW : (st.map fun v => v.category).sum ≤ 8) (hV : wp_X8_init σ a0 a1 a2 a3 Ret) (k : ∀ σ', Ret σ' → zz C E NS nL σ' (pc + 3) L st) : zz C E NS nL σ pc L (.int a3 :: .int a2 :: .int a1 :: .ref (E.1.heap.size + a0) :: st) :=
  z_callIG hC cw_X8_init q1044 hdd (by decide) (mz_X8_init (cxE hC) hV) hd rfl q1042 q1043 (np := 3) rfl rfl hW rfl (kV k)
theorem cw_X5_street : CodeW yX5_street (ws_ yX5_street cX5_street 1 (some .int)) 1 := ⟨fun w h => (List.mem_cons.mp h).elim (fun e => e ▸ q1070) id, Or.inl ⟨_, _, q1070⟩, q139, by decide, by decide⟩
theorem c_X5_159 {C : ZC} {E : ZE} {cc : ByteArray} {nL pc d : Nat} {nm : String} {ret : Option FieldType} {hh : List (Nat × Nat × Nat × Nat)} {σ : ZS} {L : List (Option Value)} {st : List Value} {a0 : Nat} {Ret : Int32 → ZS → Prop} {Thr : Nat → ZS → Prop} (hC : Cx C E cc nL "RightTurns$Reader" nm ret hh d) (hdd : 6 + 1 ≤ d) (hd : decode cc pc = .ok (.invokevirtual 159, 3)) (hW : (st.map fun v => v.category).sum ≤ 8) {x : Nat} (hk : kK NS σ a0 = (4 + 7, x)) (hV : wp_X5_street σ a0 Thr Ret) (k : ∀ r σ', Ret r σ' → zz C E NS nL σ' (pc + 3) L (.int r :: st)) (kt : ∀ a σ', Thr a σ' → zth C E NS nL σ' pc L st (E.1.heap.size + a)) : zz C E NS nL σ pc L (.ref (E.1.heap.size + a0) :: st) :=
  z_callVG hC cf4 cw_X5_street hdd (by decide) (mz_X5_street (cxE hC) hV) hd hk q1067 q1069 qs12 (np := 0) rfl rfl hW rfl (kT (kI k) kt)
theorem cw_X8_meets : CodeW yX8_meets (ws_ yX8_meets cX8_meets 2 (some .boolean)) 2 := ⟨fun w h => (List.mem_cons.mp h).elim (fun e => e ▸ q1074) id, Or.inl ⟨_, _, q1074⟩, q143, by decide, by decide⟩
theorem c_X5_164 {C : ZC} {E : ZE} {cc : ByteArray} {nL pc d : Nat} {nm : String} {ret : Option FieldType} {hh : List (Nat × Nat × Nat × Nat)} {σ : ZS} {L : List (Option Value)} {st : List Value} {a0 : Nat} {a1 : Nat} {Ret : Int32 → ZS → Prop} (hC : Cx C E cc nL "RightTurns$Reader" nm ret hh d) (hdd : 1 + 1 ≤ d) (hd : decode cc pc = .ok (.invokevirtual 164, 3)) (hW : (st.map fun v => v.category).sum ≤ 8) {x : Nat} (hk : kK NS σ a0 = (7 + 7, x)) (hV : wp_X8_meets σ a0 a1 Ret) (k : ∀ r σ', Ret r σ' → zz C E NS nL σ' (pc + 3) L (.int r :: st)) : zz C E NS nL σ pc L (.ref (E.1.heap.size + a1) :: .ref (E.1.heap.size + a0) :: st) :=
  z_callVG hC cf7 cw_X8_meets hdd (by decide) (mz_X8_meets (cxE hC) hV) hd hk q1071 q1072 q1073 (np := 1) rfl rfl hW rfl (kI k)
theorem cw_X9_init : CodeW yX9_init (ws_ yX9_init cX9_init 4 none) 4 := ⟨fun w h => (List.mem_cons.mp h).elim (fun e => e ▸ q1079) id, Or.inl ⟨_, _, q1079⟩, q144, by decide, by decide⟩
theorem c_X5_177 {C : ZC} {E : ZE} {cc : ByteArray} {nL pc d : Nat} {nm : String} {ret : Option FieldType} {hh : List (Nat × Nat × Nat × Nat)} {σ : ZS} {L : List (Option Value)} {st : List Value} {a0 : Nat} {a1 : Int32} {a2 : Int32} {a3 : Int32} {Ret : ZS → Prop} (hC : Cx C E cc nL "RightTurns$Reader" nm ret hh d) (hdd : 1 + 1 ≤ d) (hd : decode cc pc = .ok (.invokespecial 177, 3)) (hW : (st.map fun v => v.category).sum ≤ 8) (hV : wp_X9_init σ a0 a1 a2 a3 Ret) (k : ∀ σ', Ret σ' → zz C E NS nL σ' (pc + 3) L st) : zz C E NS nL σ pc L (.int a3 :: .int a2 :: .int a1 :: .ref (E.1.heap.size + a0) :: st) :=
  z_callIG hC cw_X9_init q1079 hdd (by decide) (mz_X9_init (cxE hC) hV) hd rfl q1077 q1078 (np := 3) rfl rfl hW rfl (kV k)
theorem cw_J9_hashCode : CodeW yJ9_hashCode (ws_ yJ9_hashCode cJ9_hashCode 2 (some .int)) 2 := ⟨fun w h => (List.mem_cons.mp h).elim (fun e => e ▸ q833) id, Or.inl ⟨_, _, q833⟩, q127, by decide, by decide⟩
theorem c_X5_96 {C : ZC} {E : ZE} {cc : ByteArray} {nL pc d : Nat} {nm : String} {ret : Option FieldType} {hh : List (Nat × Nat × Nat × Nat)} {σ : ZS} {L : List (Option Value)} {st : List Value} {a0 : Nat} {Ret : Int32 → ZS → Prop} (hC : Cx C E cc nL "RightTurns$Reader" nm ret hh d) (hdd : 5 + 1 ≤ d) (hd : decode cc pc = .ok (.invokevirtual 96, 3)) (hW : (st.map fun v => v.category).sum ≤ 8) {x : Nat} (hk : kK NS σ a0 = (11 + 7, x)) (hV : wp_J9_hashCode σ a0 Ret) (k : ∀ r σ', Ret r σ' → zz C E NS nL σ' (pc + 3) L (.int r :: st)) : zz C E NS nL σ pc L (.ref (E.1.heap.size + a0) :: st) :=
  z_callVG hC cf11 cw_J9_hashCode hdd (by decide) (mz_J9_hashCode (cxE hC) hV) hd hk q830 q831 q832 (np := 0) rfl rfl hW rfl (kI k)
def VL_X5_clause_605 (Thr : Nat → ZS → Prop) (Ret : ZS → Prop) : Nat → ZS → Nat → Int32 → Int32 → Int32 → Prop
  | 0 => fun _ _ _ _ _ => False
  | k + 1 => fun σ x0 x5 x6 x7 =>
    let K605 := VL_X5_clause_605 Thr Ret k
    (∃ n40, kK NS σ x0 = (11, n40)) ∧ ((kP NS σ x0 4) = some (.inl (zo (kP NS σ x0 4))) ∧ ((∃ n43, kK NS σ (zo (kP NS σ x0 4)) = (8, n43)) ∧ ((kP NS σ (zo (kP NS σ x0 4)) 0) = some (.inl (zo (kP NS σ (zo (kP NS σ x0 4)) 0))) ∧ ((∃ n48, kK NS σ (zo (kP NS σ (zo (kP NS σ x0 4)) 0)) = (16, n48)) ∧ (wp_J2_size σ (zo (kP NS σ (zo (kP NS σ x0 4)) 0)) (fun r45 σ46 => ((x7 < r45 → ((∃ n64, kK NS σ46 x0 = (11, n64)) ∧ ((kP NS σ46 x0 4) = some (.inl (zo (kP NS σ46 x0 4))) ∧ ((∃ n67, kK NS σ46 (zo (kP NS σ46 x0 4)) = (8, n67)) ∧ ((kP NS σ46 (zo (kP NS σ46 x0 4)) 0) = some (.inl (zo (kP NS σ46 (zo (kP NS σ46 x0 4)) 0))) ∧ ((∃ n72, kK NS σ46 (zo (kP NS σ46 (zo (kP NS σ46 x0 4)) 0)) = (16, n72)) ∧ (wp_J2_get σ46 (zo (kP NS σ46 (zo (kP NS σ46 x0 4)) 0)) x7 (fun r69 σ70 => r69 = some (.inl (zo r69)) ∧ ((∃ n75, kK NS σ70 (zo r69) = (13, n75)) ∧ ((∃ n77, kK NS σ70 (zo r69) = (13, n77)) ∧ ((((zI σ70 (zo r69) 0) = x5 → ((∃ n84, kK NS σ70 x0 = (11, n84)) ∧ ((kP NS σ70 x0 4) = some (.inl (zo (kP NS σ70 x0 4))) ∧ ((∃ n87, kK NS σ70 (zo (kP NS σ70 x0 4)) = (8, n87)) ∧ ((kP NS σ70 (zo (kP NS σ70 x0 4)) 0) = some (.inl (zo (kP NS σ70 (zo (kP NS σ70 x0 4)) 0))) ∧ ((∃ n92, kK NS σ70 (zo (kP NS σ70 (zo (kP NS σ70 x0 4)) 0)) = (16, n92)) ∧ (wp_J2_get σ70 (zo (kP NS σ70 (zo (kP NS σ70 x0 4)) 0)) x7 (fun r89 σ90 => r89 = some (.inl (zo r89)) ∧ ((∃ n95, kK NS σ90 (zo r89) = (13, n95)) ∧ ((∃ n97, kK NS σ90 (zo r89) = (13, n97)) ∧ ((((zI σ90 (zo r89) 1) = x6 → ((∃ n101, kK NS σ90 x0 = (11, n101)) ∧ (wp_X5_good σ90 x0 0 (fun x σ => Thr x σ) (fun σ99 => ∀ y102 : Int32, y102 = x7 + 1 → (K605 σ99 x0 x5 x6 y102))))) ∧ (¬ (zI σ90 (zo r89) 1) = x6 → ((∃ n106, kK NS σ90 x0 = (11, n106)) ∧ (wp_X5_good σ90 x0 1 (fun x σ => Thr x σ) (fun σ104 => ∀ y107 : Int32, y107 = x7 + 1 → (K605 σ104 x0 x5 x6 y107))))))))))))))))) ∧ (¬ (zI σ70 (zo r69) 0) = x5 → ((∃ n81, kK NS σ70 x0 = (11, n81)) ∧ (wp_X5_good σ70 x0 1 (fun x σ => Thr x σ) (fun σ79 => ∀ y82 : Int32, y82 = x7 + 1 → (K605 σ79 x0 x5 x6 y82))))))))))))))))) ∧ (¬ x7 < r45 → ((∃ n50, kK NS σ46 x0 = (11, n50)) ∧ ((kP NS σ46 x0 4) = some (.inl (zo (kP NS σ46 x0 4))) ∧ ((∃ n53, kK NS σ46 (zo (kP NS σ46 x0 4)) = (8, n53)) ∧ ((kP NS σ46 (zo (kP NS σ46 x0 4)) 0) = some (.inl (zo (kP NS σ46 (zo (kP NS σ46 x0 4)) 0))) ∧ ((NS ≤ zt σ46 ∧ zt σ46 + 1 ≤ NB ∧ zn σ46 + 2 ≤ SB) ∧ (∀ σ56 : ZS, σ56 = sA σ46 (13, 0) 2 → (wp_X7_init σ56 (zt σ46) x5 x6 (fun σ58 => (∃ n62, kK NS σ58 (zo (kP NS σ46 (zo (kP NS σ46 x0 4)) 0)) = (16, n62)) ∧ (wp_J2_add σ58 (zo (kP NS σ46 (zo (kP NS σ46 x0 4)) 0)) (zt σ46) (fun r59 σ60 => Ret σ60))))))))))))))))))
def V_X5_clause_605 (Thr : Nat → ZS → Prop) (Ret : ZS → Prop) (σ : ZS) (x0 : Nat) (x5 : Int32) (x6 : Int32) (x7 : Int32) : Prop := ∃ k, VL_X5_clause_605 Thr Ret k σ x0 x5 x6 x7
def V_X5_clause_729 (Thr : Nat → ZS → Prop) (Ret : ZS → Prop) (σ : ZS) (x0 : Nat) (x5 : Int32) (x6 : Int32) (s0 : Int32) (s1 : Nat) : Prop :=
    (∃ n119, kK NS σ s1 = (11, n119)) ∧ (wp_X5_good σ s1 s0 (fun x σ => Thr x σ) (fun σ117 => (∃ n121, kK NS σ117 x0 = (11, n121)) ∧ ((kP NS σ117 x0 4) = some (.inl (zo (kP NS σ117 x0 4))) ∧ ((∃ n124, kK NS σ117 (zo (kP NS σ117 x0 4)) = (8, n124)) ∧ ((kP NS σ117 (zo (kP NS σ117 x0 4)) 1) = some (.inl (zo (kP NS σ117 (zo (kP NS σ117 x0 4)) 1))) ∧ ((NS ≤ zt σ117 ∧ zt σ117 + 1 ≤ NB ∧ zn σ117 + 4 ≤ SB) ∧ (∀ σ127 : ZS, σ127 = sA σ117 (14, 0) 4 → ((∃ n131, kK NS σ127 x0 = (11, n131)) ∧ (wp_X5_number σ127 x0 1 99 (fun x σ => Thr x σ) (fun r128 σ129 => wp_X8_init σ129 (zt σ117) x5 x6 r128 (fun σ133 => (∃ n137, kK NS σ133 (zo (kP NS σ117 (zo (kP NS σ117 x0 4)) 1)) = (16, n137)) ∧ (wp_J2_add σ133 (zo (kP NS σ117 (zo (kP NS σ117 x0 4)) 1)) (zt σ117) (fun r134 σ135 => Ret σ135)))))))))))))
def V_X5_clause_849 (Thr : Nat → ZS → Prop) (Ret : ZS → Prop) (σ : ZS) (x0 : Nat) (x1 : Nat) (x5 : Int32) (x6 : Int32) (s0 : Int32) (s1 : Nat) : Prop :=
    (∃ n169, kK NS σ s1 = (11, n169)) ∧ (wp_X5_good σ s1 s0 (fun x σ => Thr x σ) (fun σ167 => (∃ n173, kK NS σ167 x1 = (18, n173)) ∧ (wp_J9_equals σ167 x1 l_no (fun r170 σ171 => ((r170 = 0 → ((∃ n175, kK NS σ171 x0 = (11, n175)) ∧ ((kP NS σ171 x0 4) = some (.inl (zo (kP NS σ171 x0 4))) ∧ ((∃ n178, kK NS σ171 (zo (kP NS σ171 x0 4)) = (8, n178)) ∧ ((kP NS σ171 (zo (kP NS σ171 x0 4)) 4) = some (.inl (zo (kP NS σ171 (zo (kP NS σ171 x0 4)) 4))) ∧ (∃ n181, kK NS σ171 (zo (kP NS σ171 (zo (kP NS σ171 x0 4)) 4)) = (0, n181) ∧ (vp_in x5 n181 ∧ (∃ n184, kK NS σ171 (zo (kP NS σ171 (zo (kP NS σ171 x0 4)) 4)) = (0, n184) ∧ (vp_in x5 n184 ∧ (∀ σ186 : ZS, σ186 = sI σ171 (zo (kP NS σ171 (zo (kP NS σ171 x0 4)) 4)) (ix x5) ((zI σ171 (zo (kP NS σ171 (zo (kP NS σ171 x0 4)) 4)) (ix x5)) ||| ((1 : Int32) <<< (x6 &&& 31))) → (Ret σ186))))))))))) ∧ (¬ r170 = 0 → ((∃ n188, kK NS σ171 x0 = (11, n188)) ∧ ((kP NS σ171 x0 4) = some (.inl (zo (kP NS σ171 x0 4))) ∧ ((∃ n191, kK NS σ171 (zo (kP NS σ171 x0 4)) = (8, n191)) ∧ ((kP NS σ171 (zo (kP NS σ171 x0 4)) 3) = some (.inl (zo (kP NS σ171 (zo (kP NS σ171 x0 4)) 3))) ∧ (∃ n194, kK NS σ171 (zo (kP NS σ171 (zo (kP NS σ171 x0 4)) 3)) = (0, n194) ∧ (vp_in x5 n194 ∧ (∃ n197, kK NS σ171 (zo (kP NS σ171 (zo (kP NS σ171 x0 4)) 3)) = (0, n197) ∧ (vp_in x5 n197 ∧ (∀ σ199 : ZS, σ199 = sI σ171 (zo (kP NS σ171 (zo (kP NS σ171 x0 4)) 3)) (ix x5) ((zI σ171 (zo (kP NS σ171 (zo (kP NS σ171 x0 4)) 3)) (ix x5)) ||| ((1 : Int32) <<< (x6 &&& 31))) → (Ret σ199))))))))))))))))
def V_X5_clause_848 (Thr : Nat → ZS → Prop) (Ret : ZS → Prop) (σ : ZS) (x0 : Nat) (x1 : Nat) (x5 : Int32) (x6 : Int32) (s0 : Nat) : Prop :=
    V_X5_clause_849 Thr Ret σ x0 x1 x5 x6 0 s0
def V_X5_clause_788 (Thr : Nat → ZS → Prop) (Ret : ZS → Prop) (σ : ZS) (x0 : Nat) (x1 : Nat) : Prop :=
    (∃ n161, kK NS σ x0 = (11, n161)) ∧ (wp_X5_street σ x0 (fun x σ => Thr x σ) (fun r158 σ159 => (∃ n165, kK NS σ159 x0 = (11, n165)) ∧ (wp_X5_street σ159 x0 (fun x σ => Thr x σ) (fun r162 σ163 => ((r158 = r162 → (V_X5_clause_848 Thr Ret σ163 x0 x1 r158 r162 x0)) ∧ (¬ r158 = r162 → ((∃ n201, kK NS σ163 x0 = (11, n201)) ∧ ((kP NS σ163 x0 4) = some (.inl (zo (kP NS σ163 x0 4))) ∧ ((∃ n204, kK NS σ163 (zo (kP NS σ163 x0 4)) = (8, n204)) ∧ ((kP NS σ163 (zo (kP NS σ163 x0 4)) 1) = some (.inl (zo (kP NS σ163 (zo (kP NS σ163 x0 4)) 1))) ∧ ((∃ n209, kK NS σ163 (zo (kP NS σ163 (zo (kP NS σ163 x0 4)) 1)) = (16, n209)) ∧ (wp_J2_get σ163 (zo (kP NS σ163 (zo (kP NS σ163 x0 4)) 1)) r158 (fun r206 σ207 => r206 = some (.inl (zo r206)) ∧ ((∃ n212, kK NS σ207 (zo r206) = (14, n212)) ∧ ((∃ n214, kK NS σ207 x0 = (11, n214)) ∧ ((kP NS σ207 x0 4) = some (.inl (zo (kP NS σ207 x0 4))) ∧ ((∃ n217, kK NS σ207 (zo (kP NS σ207 x0 4)) = (8, n217)) ∧ ((kP NS σ207 (zo (kP NS σ207 x0 4)) 1) = some (.inl (zo (kP NS σ207 (zo (kP NS σ207 x0 4)) 1))) ∧ ((∃ n222, kK NS σ207 (zo (kP NS σ207 (zo (kP NS σ207 x0 4)) 1)) = (16, n222)) ∧ (wp_J2_get σ207 (zo (kP NS σ207 (zo (kP NS σ207 x0 4)) 1)) r162 (fun r219 σ220 => r219 = some (.inl (zo r219)) ∧ ((∃ n225, kK NS σ220 (zo r219) = (14, n225)) ∧ ((∃ n229, kK NS σ220 (zo r206) = (14, n229)) ∧ (wp_X8_meets σ220 (zo r206) (zo r219) (fun r226 σ227 => ((r226 = 0 → (V_X5_clause_848 Thr Ret σ227 x0 x1 r158 r162 x0)) ∧ (¬ r226 = 0 → (V_X5_clause_849 Thr Ret σ227 x0 x1 r158 r162 1 x0))))))))))))))))))))))))))))
def V_X5_clause_943 (Thr : Nat → ZS → Prop) (Ret : ZS → Prop) (σ : ZS) (x0 : Nat) (x5 : Int32) (x6 : Int32) (s0 : Int32) (s1 : Nat) : Prop :=
    (∃ n253, kK NS σ s1 = (11, n253)) ∧ (wp_X5_good σ s1 s0 (fun x σ => Thr x σ) (fun σ251 => (∃ n255, kK NS σ251 x0 = (11, n255)) ∧ ((kP NS σ251 x0 4) = some (.inl (zo (kP NS σ251 x0 4))) ∧ ((∃ n258, kK NS σ251 (zo (kP NS σ251 x0 4)) = (8, n258)) ∧ ((kP NS σ251 (zo (kP NS σ251 x0 4)) 2) = some (.inl (zo (kP NS σ251 (zo (kP NS σ251 x0 4)) 2))) ∧ ((NS ≤ zt σ251 ∧ zt σ251 + 1 ≤ NB ∧ zn σ251 + 3 ≤ SB) ∧ (∀ σ261 : ZS, σ261 = sA σ251 (15, 0) 3 → ((∃ n265, kK NS σ261 x0 = (11, n265)) ∧ (wp_X5_number σ261 x0 0 99 (fun x σ => Thr x σ) (fun r262 σ263 => wp_X9_init σ263 (zt σ251) x5 x6 r262 (fun σ267 => (∃ n271, kK NS σ267 (zo (kP NS σ251 (zo (kP NS σ251 x0 4)) 2)) = (16, n271)) ∧ (wp_J2_add σ267 (zo (kP NS σ251 (zo (kP NS σ251 x0 4)) 2)) (zt σ251) (fun r268 σ269 => Ret σ269)))))))))))))
def V_X5_clause_543 (Thr : Nat → ZS → Prop) (Ret : ZS → Prop) (σ : ZS) (x0 : Nat) (x1 : Nat) (x4 : Int32) : Prop :=
    ((x4 = 0 → ((∃ n34, kK NS σ x0 = (11, n34)) ∧ (wp_X5_number σ x0 0 99 (fun x σ => Thr x σ) (fun r31 σ32 => (∃ n38, kK NS σ32 x0 = (11, n38)) ∧ (wp_X5_number σ32 x0 0 99 (fun x σ => Thr x σ) (fun r35 σ36 => V_X5_clause_605 Thr Ret σ36 x0 r31 r35 0)))))) ∧ (¬ x4 = 0 → (((x4 = 1 → ((∃ n111, kK NS σ x0 = (11, n111)) ∧ (wp_X5_corner σ x0 (fun x σ => Thr x σ) (fun r108 σ109 => (∃ n115, kK NS σ109 x0 = (11, n115)) ∧ (wp_X5_corner σ109 x0 (fun x σ => Thr x σ) (fun r112 σ113 => ((r108 = r112 → (V_X5_clause_729 Thr Ret σ113 x0 r108 r112 0 x0)) ∧ (¬ r108 = r112 → (V_X5_clause_729 Thr Ret σ113 x0 r108 r112 1 x0))))))))) ∧ (¬ x4 = 1 → (((x4 = 2 → ((∃ n139, kK NS σ x0 = (11, n139)) ∧ ((kP NS σ x0 4) = some (.inl (zo (kP NS σ x0 4))) ∧ ((∃ n142, kK NS σ (zo (kP NS σ x0 4)) = (8, n142)) ∧ ((kP NS σ (zo (kP NS σ x0 4)) 1) = some (.inl (zo (kP NS σ (zo (kP NS σ x0 4)) 1))) ∧ ((∃ n147, kK NS σ x0 = (11, n147)) ∧ (wp_X5_street σ x0 (fun x σ => Thr x σ) (fun r144 σ145 => (∃ n151, kK NS σ145 (zo (kP NS σ (zo (kP NS σ x0 4)) 1)) = (16, n151)) ∧ (wp_J2_get σ145 (zo (kP NS σ (zo (kP NS σ x0 4)) 1)) r144 (fun r148 σ149 => r148 = some (.inl (zo r148)) ∧ ((∃ n154, kK NS σ149 (zo r148) = (14, n154)) ∧ ((∃ n156, kK NS σ149 (zo r148) = (14, n156)) ∧ (∀ σ157 : ZS, σ157 = sI σ149 (zo r148) 3 1 → (Ret σ157)))))))))))))) ∧ (¬ x4 = 2 → (((x4 = 3 → (V_X5_clause_788 Thr Ret σ x0 x1)) ∧ (¬ x4 = 3 → (((x4 = 4 → (V_X5_clause_788 Thr Ret σ x0 x1)) ∧ (¬ x4 = 4 → (((x4 = 5 → ((∃ n231, kK NS σ x0 = (11, n231)) ∧ ((kP NS σ x0 4) = some (.inl (zo (kP NS σ x0 4))) ∧ ((∃ n234, kK NS σ (zo (kP NS σ x0 4)) = (8, n234)) ∧ ((∃ n238, kK NS σ x0 = (11, n238)) ∧ (wp_X5_corner σ x0 (fun x σ => Thr x σ) (fun r235 σ236 => (∃ n240, kK NS σ236 (zo (kP NS σ x0 4)) = (8, n240)) ∧ (∀ σ241 : ZS, σ241 = sI σ236 (zo (kP NS σ x0 4)) 7 ((zI σ (zo (kP NS σ x0 4)) 7) ||| ((1 : Int32) <<< (r235 &&& 31))) → (Ret σ241))))))))) ∧ (¬ x4 = 5 → ((∃ n245, kK NS σ x0 = (11, n245)) ∧ (wp_X5_corner σ x0 (fun x σ => Thr x σ) (fun r242 σ243 => (∃ n249, kK NS σ243 x0 = (11, n249)) ∧ (wp_X5_corner σ243 x0 (fun x σ => Thr x σ) (fun r246 σ247 => ((r242 = r246 → (V_X5_clause_943 Thr Ret σ247 x0 r242 r246 0 x0)) ∧ (¬ r242 = r246 → (V_X5_clause_943 Thr Ret σ247 x0 r242 r246 1 x0)))))))))))))))))))))))))
def V_X5_clause_360 (Thr : Nat → ZS → Prop) (Ret : ZS → Prop) (σ : ZS) (x0 : Nat) (x1 : Nat) (x2 : Int32) : Prop :=
    ((x2 = 0 → ((∃ n15, kK NS σ x0 = (11, n15)) ∧ ((∃ n19, kK NS σ x1 = (18, n19)) ∧ (wp_J9_length σ x1 (fun r16 σ17 => (∃ n21, kK NS σ17 x0 = (11, n21)) ∧ (∀ σ22 : ZS, σ22 = sI σ17 x0 2 ((zI σ x0 2) + r16) → ((∃ n26, kK NS σ22 x1 = (18, n26)) ∧ (wp_J9_hashCode σ22 x1 (fun r23 σ24 => ((r23 = (-1354665387) → ((∃ n30, kK NS σ24 x1 = (18, n30)) ∧ (wp_J9_equals σ24 x1 l_corner (fun r27 σ28 => ((r27 = 0 → (V_X5_clause_543 Thr Ret σ28 x0 x1 (-1))) ∧ (¬ r27 = 0 → (V_X5_clause_543 Thr Ret σ28 x0 x1 0))))))) ∧ (¬ r23 = (-1354665387) → (((r23 = (-891990013) → ((∃ n275, kK NS σ24 x1 = (18, n275)) ∧ (wp_J9_equals σ24 x1 l_street (fun r272 σ273 => ((r272 = 0 → (V_X5_clause_543 Thr Ret σ273 x0 x1 (-1))) ∧ (¬ r272 = 0 → (V_X5_clause_543 Thr Ret σ273 x0 x1 1))))))) ∧ (¬ r23 = (-891990013) → (((r23 = 3521 → ((∃ n279, kK NS σ24 x1 = (18, n279)) ∧ (wp_J9_equals σ24 x1 l_no (fun r276 σ277 => ((r276 = 0 → (V_X5_clause_543 Thr Ret σ277 x0 x1 (-1))) ∧ (¬ r276 = 0 → (V_X5_clause_543 Thr Ret σ277 x0 x1 3))))))) ∧ (¬ r23 = 3521 → (((r23 = 97739 → ((∃ n283, kK NS σ24 x1 = (18, n283)) ∧ (wp_J9_equals σ24 x1 l_box (fun r280 σ281 => ((r280 = 0 → (V_X5_clause_543 Thr Ret σ281 x0 x1 (-1))) ∧ (¬ r280 = 0 → (V_X5_clause_543 Thr Ret σ281 x0 x1 5))))))) ∧ (¬ r23 = 97739 → (((r23 = 107877 → ((∃ n287, kK NS σ24 x1 = (18, n287)) ∧ (wp_J9_equals σ24 x1 l_may (fun r284 σ285 => ((r284 = 0 → (V_X5_clause_543 Thr Ret σ285 x0 x1 (-1))) ∧ (¬ r284 = 0 → (V_X5_clause_543 Thr Ret σ285 x0 x1 4))))))) ∧ (¬ r23 = 107877 → (((r23 = 110182 → ((∃ n291, kK NS σ24 x1 = (18, n291)) ∧ (wp_J9_equals σ24 x1 l_one (fun r288 σ289 => ((r288 = 0 → (V_X5_clause_543 Thr Ret σ289 x0 x1 (-1))) ∧ (¬ r288 = 0 → (V_X5_clause_543 Thr Ret σ289 x0 x1 2))))))) ∧ (¬ r23 = 110182 → (V_X5_clause_543 Thr Ret σ24 x0 x1 (-1)))))))))))))))))))))))))))) ∧ (¬ x2 = 0 → ((NS ≤ zt σ ∧ zt σ + 1 ≤ NB ∧ zn σ + 8 ≤ SB) ∧ (∀ σ293 : ZS, σ293 = sA σ (12, 0) 8 → ((∃ n295, kK NS σ293 x0 = (11, n295)) ∧ (wp_X6_init σ293 (zt σ) 3 (zI σ293 x0 2) (fun σ297 => Thr (zt σ) σ297)))))))
def V_X5_clause_264 (Thr : Nat → ZS → Prop) (Ret : ZS → Prop) (σ : ZS) (x0 : Nat) (x1 : Nat) (s0 : Int32) : Prop :=
    V_X5_clause_360 Thr Ret σ x0 x1 s0
def V_X5_clause_259 (Thr : Nat → ZS → Prop) (Ret : ZS → Prop) (σ : ZS) (x0 : Nat) (x1 : Nat) : Prop :=
    V_X5_clause_264 Thr Ret σ x0 x1 1
def V_X5_clause_292 (Thr : Nat → ZS → Prop) (Ret : ZS → Prop) (σ : ZS) (x0 : Nat) (x1 : Nat) (s0 : Int32) : Prop :=
    V_X5_clause_360 Thr Ret σ x0 x1 s0
def V_X5_clause_287 (Thr : Nat → ZS → Prop) (Ret : ZS → Prop) (σ : ZS) (x0 : Nat) (x1 : Nat) : Prop :=
    V_X5_clause_292 Thr Ret σ x0 x1 1
def V_X5_clause_320 (Thr : Nat → ZS → Prop) (Ret : ZS → Prop) (σ : ZS) (x0 : Nat) (x1 : Nat) (s0 : Int32) : Prop :=
    V_X5_clause_360 Thr Ret σ x0 x1 s0
def V_X5_clause_315 (Thr : Nat → ZS → Prop) (Ret : ZS → Prop) (σ : ZS) (x0 : Nat) (x1 : Nat) : Prop :=
    V_X5_clause_320 Thr Ret σ x0 x1 1
def V_X5_clause_348 (Thr : Nat → ZS → Prop) (Ret : ZS → Prop) (σ : ZS) (x0 : Nat) (x1 : Nat) (s0 : Int32) : Prop :=
    V_X5_clause_360 Thr Ret σ x0 x1 s0
def V_X5_clause_343 (Thr : Nat → ZS → Prop) (Ret : ZS → Prop) (σ : ZS) (x0 : Nat) (x1 : Nat) : Prop :=
    V_X5_clause_348 Thr Ret σ x0 x1 1
def V_X5_clause_352 (Thr : Nat → ZS → Prop) (Ret : ZS → Prop) (σ : ZS) (x0 : Nat) (x1 : Nat) (x2 : Int32) : Prop :=
    V_X5_clause_360 Thr Ret σ x0 x1 x2
def V_X5_clause_195 (Thr : Nat → ZS → Prop) (Ret : ZS → Prop) (σ : ZS) (x0 : Nat) (x1 : Nat) (x2 : Int32) (x4 : Int32) : Prop :=
    ((x4 = 0 → (((x2 = 0 → ((∃ n299, kK NS σ x0 = (11, n299)) ∧ ((kP NS σ x0 4) = some (.inl (zo (kP NS σ x0 4))) ∧ ((∃ n302, kK NS σ (zo (kP NS σ x0 4)) = (8, n302)) ∧ ((kP NS σ (zo (kP NS σ x0 4)) 0) = some (.inl (zo (kP NS σ (zo (kP NS σ x0 4)) 0))) ∧ ((∃ n307, kK NS σ (zo (kP NS σ (zo (kP NS σ x0 4)) 0)) = (16, n307)) ∧ (wp_J2_size σ (zo (kP NS σ (zo (kP NS σ x0 4)) 0)) (fun r304 σ305 => ((r304 = 16 → (V_X5_clause_259 Thr Ret σ305 x0 x1)) ∧ (¬ r304 = 16 → (V_X5_clause_264 Thr Ret σ305 x0 x1 0))))))))))) ∧ (¬ x2 = 0 → (V_X5_clause_259 Thr Ret σ x0 x1))))) ∧ (¬ x4 = 0 → (((x4 = 1 → (((x2 = 0 → ((∃ n309, kK NS σ x0 = (11, n309)) ∧ ((kP NS σ x0 4) = some (.inl (zo (kP NS σ x0 4))) ∧ ((∃ n312, kK NS σ (zo (kP NS σ x0 4)) = (8, n312)) ∧ ((kP NS σ (zo (kP NS σ x0 4)) 1) = some (.inl (zo (kP NS σ (zo (kP NS σ x0 4)) 1))) ∧ ((∃ n317, kK NS σ (zo (kP NS σ (zo (kP NS σ x0 4)) 1)) = (16, n317)) ∧ (wp_J2_size σ (zo (kP NS σ (zo (kP NS σ x0 4)) 1)) (fun r314 σ315 => ((r314 = 24 → (V_X5_clause_287 Thr Ret σ315 x0 x1)) ∧ (¬ r314 = 24 → (V_X5_clause_292 Thr Ret σ315 x0 x1 0))))))))))) ∧ (¬ x2 = 0 → (V_X5_clause_287 Thr Ret σ x0 x1))))) ∧ (¬ x4 = 1 → (((x4 = 2 → (((x2 = 0 → ((∃ n319, kK NS σ x0 = (11, n319)) ∧ ((kP NS σ x0 4) = some (.inl (zo (kP NS σ x0 4))) ∧ ((∃ n322, kK NS σ (zo (kP NS σ x0 4)) = (8, n322)) ∧ ((kP NS σ (zo (kP NS σ x0 4)) 2) = some (.inl (zo (kP NS σ (zo (kP NS σ x0 4)) 2))) ∧ ((∃ n327, kK NS σ (zo (kP NS σ (zo (kP NS σ x0 4)) 2)) = (16, n327)) ∧ (wp_J2_size σ (zo (kP NS σ (zo (kP NS σ x0 4)) 2)) (fun r324 σ325 => ((r324 = 12 → (V_X5_clause_315 Thr Ret σ325 x0 x1)) ∧ (¬ r324 = 12 → (V_X5_clause_320 Thr Ret σ325 x0 x1 0))))))))))) ∧ (¬ x2 = 0 → (V_X5_clause_315 Thr Ret σ x0 x1))))) ∧ (¬ x4 = 2 → (((x4 = 3 → (((x2 = 0 → ((∃ n329, kK NS σ x0 = (11, n329)) ∧ ((kP NS σ x0 4) = some (.inl (zo (kP NS σ x0 4))) ∧ ((∃ n332, kK NS σ (zo (kP NS σ x0 4)) = (8, n332)) ∧ (wp_J16_bitCount σ (zI σ (zo (kP NS σ x0 4)) 7) (fun r333 σ334 => ((r333 = 10 → (V_X5_clause_343 Thr Ret σ334 x0 x1)) ∧ (¬ r333 = 10 → (V_X5_clause_348 Thr Ret σ334 x0 x1 0))))))))) ∧ (¬ x2 = 0 → (V_X5_clause_343 Thr Ret σ x0 x1))))) ∧ (¬ x4 = 3 → (((x4 = 4 → (V_X5_clause_352 Thr Ret σ x0 x1 x2)) ∧ (¬ x4 = 4 → (((x4 = 5 → (V_X5_clause_352 Thr Ret σ x0 x1 x2)) ∧ (¬ x4 = 5 → (((x4 = 6 → (V_X5_clause_352 Thr Ret σ x0 x1 x2)) ∧ (¬ x4 = 6 → ((∃ n338, kK NS σ x0 = (11, n338)) ∧ (wp_X5_wrong σ x0 (fun r335 σ336 => r335 = some (.inl (zo r335)) ∧ (Thr (zo r335) σ336))))))))))))))))))))))))
def V_X5_clause_17 (Thr : Nat → ZS → Prop) (Ret : ZS → Prop) (σ : ZS) (x0 : Nat) (x1 : Nat) (s0 : Int32) : Prop :=
    (∃ n9, kK NS σ x1 = (18, n9)) ∧ (wp_J9_hashCode σ x1 (fun r6 σ7 => ((r6 = (-1354665387) → ((∃ n13, kK NS σ7 x1 = (18, n13)) ∧ (wp_J9_equals σ7 x1 l_corner (fun r10 σ11 => ((r10 = 0 → (V_X5_clause_195 Thr Ret σ11 x0 x1 s0 (-1))) ∧ (¬ r10 = 0 → (V_X5_clause_195 Thr Ret σ11 x0 x1 s0 0))))))) ∧ (¬ r6 = (-1354665387) → (((r6 = (-891990013) → ((∃ n343, kK NS σ7 x1 = (18, n343)) ∧ (wp_J9_equals σ7 x1 l_street (fun r340 σ341 => ((r340 = 0 → (V_X5_clause_195 Thr Ret σ341 x0 x1 s0 (-1))) ∧ (¬ r340 = 0 → (V_X5_clause_195 Thr Ret σ341 x0 x1 s0 1))))))) ∧ (¬ r6 = (-891990013) → (((r6 = 3521 → ((∃ n347, kK NS σ7 x1 = (18, n347)) ∧ (wp_J9_equals σ7 x1 l_no (fun r344 σ345 => ((r344 = 0 → (V_X5_clause_195 Thr Ret σ345 x0 x1 s0 (-1))) ∧ (¬ r344 = 0 → (V_X5_clause_195 Thr Ret σ345 x0 x1 s0 5))))))) ∧ (¬ r6 = 3521 → (((r6 = 97739 → ((∃ n351, kK NS σ7 x1 = (18, n351)) ∧ (wp_J9_equals σ7 x1 l_box (fun r348 σ349 => ((r348 = 0 → (V_X5_clause_195 Thr Ret σ349 x0 x1 s0 (-1))) ∧ (¬ r348 = 0 → (V_X5_clause_195 Thr Ret σ349 x0 x1 s0 3))))))) ∧ (¬ r6 = 97739 → (((r6 = 107877 → ((∃ n355, kK NS σ7 x1 = (18, n355)) ∧ (wp_J9_equals σ7 x1 l_may (fun r352 σ353 => ((r352 = 0 → (V_X5_clause_195 Thr Ret σ353 x0 x1 s0 (-1))) ∧ (¬ r352 = 0 → (V_X5_clause_195 Thr Ret σ353 x0 x1 s0 6))))))) ∧ (¬ r6 = 107877 → (((r6 = 110182 → ((∃ n359, kK NS σ7 x1 = (18, n359)) ∧ (wp_J9_equals σ7 x1 l_one (fun r356 σ357 => ((r356 = 0 → (V_X5_clause_195 Thr Ret σ357 x0 x1 s0 (-1))) ∧ (¬ r356 = 0 → (V_X5_clause_195 Thr Ret σ357 x0 x1 s0 4))))))) ∧ (¬ r6 = 110182 → (((r6 = 108508794 → ((∃ n363, kK NS σ7 x1 = (18, n363)) ∧ (wp_J9_equals σ7 x1 l_rider (fun r360 σ361 => ((r360 = 0 → (V_X5_clause_195 Thr Ret σ361 x0 x1 s0 (-1))) ∧ (¬ r360 = 0 → (V_X5_clause_195 Thr Ret σ361 x0 x1 s0 2))))))) ∧ (¬ r6 = 108508794 → (V_X5_clause_195 Thr Ret σ7 x0 x1 s0 (-1))))))))))))))))))))))))
def wp_X5_clause (σ : ZS) (a0 : Nat) (a1 : Nat) (Thr : Nat → ZS → Prop) (Ret : ZS → Prop) : Prop :=
    (∃ n2, kK NS σ a0 = (11, n2)) ∧ ((kP NS σ a0 4) = some (.inl (zo (kP NS σ a0 4))) ∧ ((∃ n5, kK NS σ (zo (kP NS σ a0 4)) = (8, n5)) ∧ ((((zI σ (zo (kP NS σ a0 4)) 9) = 60 → (V_X5_clause_17 Thr Ret σ a0 a1 1)) ∧ (¬ (zI σ (zo (kP NS σ a0 4)) 9) = 60 → (V_X5_clause_17 Thr Ret σ a0 a1 0))))))
set_option maxHeartbeats 4000000 in
theorem mz_X5_clause {l : Launch} {E : ZE} (hE : EOK E) {σ : ZS} {a0 : Nat} {a1 : Nat} {Thr : Nat → ZS → Prop} {Ret : ZS → Prop} (hV : wp_X5_clause σ a0 a1 Thr Ret) : MZ l E NS yX5_clause (ws_ yX5_clause cX5_clause 8 none) 8 σ [.ref (E.1.heap.size + a0), .ref (E.1.heap.size + a1)] (rT E.1.heap.size (rV Ret) Thr) := by
  refine MZ.start (L := [some (.ref (E.1.heap.size + a0)), some (.ref (E.1.heap.size + a1)), none, none, none, none, none, none]) hE (by decide) (Nat.le_of_ble_eq_true rfl) rfl fun C hCl hQo hC => ?_
  replace hC : Cx C E cX5_clause 8 "RightTurns$Reader" "clause" none [] 8 := hC
  unfold wp_X5_clause at hV
  obtain ⟨q101, v101, hq101, hF101⟩ := lit_corner hE
  obtain ⟨q107, v107, hq107, hF107⟩ := lit_street hE
  obtain ⟨q109, v109, hq109, hF109⟩ := lit_rider hE
  obtain ⟨q111, v111, hq111, hF111⟩ := lit_box hE
  obtain ⟨q113, v113, hq113, hF113⟩ := lit_one hE
  obtain ⟨q115, v115, hq115, hF115⟩ := lit_no hE
  obtain ⟨q117, v117, hq117, hF117⟩ := lit_may hE
  have j_605 : ∀ (σ : ZS) (x0 : Nat) (x5 : Int32) (x6 : Int32) (x7 : Int32), V_X5_clause_605 Thr Ret σ x0 x5 x6 x7 → zz C E NS 8 σ 605 [some (.ref (E.1.heap.size + x0)), none, none, none, none, some (.int x5), some (.int x6), some (.int x7)] [] := by
    intro σ x0 x5 x6 x7 ⟨k, hV⟩
    revert σ x0 x5 x6 x7
    induction k with
    | zero => exact fun _ _ _ _ _ hV => hV.elim
    | succ k j_605 =>
      intro σ x0 x5 x6 x7 hV
      simp only [VL_X5_clause_605] at hV
      generalize hKe605 : VL_X5_clause_605 Thr Ret k = K605 at hV j_605
      clear hKe605
      refine z_iload hC dX5_clause_605 rfl ?_
      refine z_aload_n hC dX5_clause_607 rfl rfl ?_
      obtain ⟨⟨n40, h39⟩, hV⟩ := hV
      refine g_X5_12_c4 hC dX5_clause_608 h39 ?_
      obtain ⟨h41, hV⟩ := hV
      refine zz_at rfl (by rw [pvo h41]) ?_
      obtain ⟨⟨n43, h42⟩, hV⟩ := hV
      refine g_X5_65_c1 hC dX5_clause_611 h42 ?_
      obtain ⟨h44, hV⟩ := hV
      refine zz_at rfl (by rw [pvo h44]) ?_
      obtain ⟨⟨n48, h47⟩, hV⟩ := hV
      refine c_X5_69 hC (by decide) dX5_clause_614 (Nat.le_of_ble_eq_true rfl) h47 hV (fun r45 σ46 hV => ?_)
      refine z_icmp_ge (tgt := 681) hC dX5_clause_617 (by decide) (fun hc => ?_) (fun hc => ?_)
      · replace hV := hV.2 hc
        refine z_aload_n hC dX5_clause_681 rfl rfl ?_
        obtain ⟨⟨n50, h49⟩, hV⟩ := hV
        refine g_X5_12_c4 hC dX5_clause_682 h49 ?_
        obtain ⟨h51, hV⟩ := hV
        refine zz_at rfl (by rw [pvo h51]) ?_
        obtain ⟨⟨n53, h52⟩, hV⟩ := hV
        refine g_X5_65_c1 hC dX5_clause_685 h52 ?_
        obtain ⟨h54, hV⟩ := hV
        refine zz_at rfl (by rw [pvo h54]) ?_
        obtain ⟨h55, hV⟩ := hV
        refine z_new hC cf6 dX5_clause_688 q966 q971 q142 dv_6 h55.1 h55.2.1 h55.2.2 ?_
        obtain ⟨σ56, e_σ56⟩ : ∃ z : ZS, z = sA σ46 (13, 0) 2 := ⟨_, rfl⟩
        replace hV := hV _ e_σ56
        rw [← e_σ56]
        refine z_dup hC dX5_clause_691 rfl ?_
        refine z_iload hC dX5_clause_692 rfl ?_
        refine z_iload hC dX5_clause_694 rfl ?_
        refine c_X5_148 hC (by decide) dX5_clause_696 (Nat.le_of_ble_eq_true rfl) hV (fun σ58 hV => ?_)
        obtain ⟨⟨n62, h61⟩, hV⟩ := hV
        refine c_X5_149 hC (by decide) dX5_clause_699 (Nat.le_of_ble_eq_true rfl) h61 hV (fun r59 σ60 hV => ?_)
        refine z_pop hC dX5_clause_702 rfl ?_
        exact z_vret hC dX5_clause_703 (by rw [hQo]; exact Or.inl ⟨rfl, hV⟩)
      · replace hV := hV.1 hc
        refine z_aload_n hC dX5_clause_620 rfl rfl ?_
        refine z_aload_n hC dX5_clause_621 rfl rfl ?_
        obtain ⟨⟨n64, h63⟩, hV⟩ := hV
        refine g_X5_12_c4 hC dX5_clause_622 h63 ?_
        obtain ⟨h65, hV⟩ := hV
        refine zz_at rfl (by rw [pvo h65]) ?_
        obtain ⟨⟨n67, h66⟩, hV⟩ := hV
        refine g_X5_65_c1 hC dX5_clause_625 h66 ?_
        obtain ⟨h68, hV⟩ := hV
        refine zz_at rfl (by rw [pvo h68]) ?_
        refine z_iload hC dX5_clause_628 rfl ?_
        obtain ⟨⟨n72, h71⟩, hV⟩ := hV
        refine c_X5_132 hC (by decide) dX5_clause_630 (Nat.le_of_ble_eq_true rfl) h71 hV (fun r69 σ70 hV => ?_)
        obtain ⟨h73, hV⟩ := hV
        refine zz_at rfl (by rw [pvo h73]) ?_
        obtain ⟨⟨n75, h74⟩, hV⟩ := hV
        refine z_cast hC cf6 dX5_clause_633 h74 q966 ?_
        obtain ⟨⟨n77, h76⟩, hV⟩ := hV
        refine g_X5_138_c6 hC dX5_clause_636 h76 ?_
        refine z_iload hC dX5_clause_639 rfl ?_
        refine z_icmp_ne (tgt := 667) hC dX5_clause_641 (by decide) (fun hc => ?_) (fun hc => ?_)
        · replace hV := hV.2 hc
          refine z_iconst (v := 1) hC dX5_clause_667 rfl ?_
          refine z_goto (tgt := 672) hC dX5_clause_668 (by decide) ?_
          obtain ⟨⟨n81, h80⟩, hV⟩ := hV
          refine c_X5_144 hC (by decide) dX5_clause_672 (Nat.le_of_ble_eq_true rfl) h80 hV (fun σ79 hV => ?_) (fun x σ hV => zth_out hC (by rw [hQo]; exact Or.inr ⟨_, rfl, hV⟩))
          obtain ⟨y82, e_y82⟩ : ∃ z : Int32, z = x7 + 1 := ⟨_, rfl⟩
          replace hV := hV _ e_y82
          refine z_iinc (v := y82) hC dX5_clause_675 rfl (by rw [e_y82]; rfl) (Nat.le_of_ble_eq_true rfl) rfl rfl ?_
          refine z_goto (tgt := 605) hC dX5_clause_678 (by decide) ?_
          refine zz_sub (L' := [some (.ref (E.1.heap.size + x0)), none, none, none, none, some (.int x5), some (.int x6), some (.int y82)]) ⟨rfl, rfl, rfl, rfl, trivial⟩ ?_
          exact j_605 σ79 x0 x5 x6 y82 hV
        · replace hV := hV.1 hc
          refine z_aload_n hC dX5_clause_644 rfl rfl ?_
          obtain ⟨⟨n84, h83⟩, hV⟩ := hV
          refine g_X5_12_c4 hC dX5_clause_645 h83 ?_
          obtain ⟨h85, hV⟩ := hV
          refine zz_at rfl (by rw [pvo h85]) ?_
          obtain ⟨⟨n87, h86⟩, hV⟩ := hV
          refine g_X5_65_c1 hC dX5_clause_648 h86 ?_
          obtain ⟨h88, hV⟩ := hV
          refine zz_at rfl (by rw [pvo h88]) ?_
          refine z_iload hC dX5_clause_651 rfl ?_
          obtain ⟨⟨n92, h91⟩, hV⟩ := hV
          refine c_X5_132 hC (by decide) dX5_clause_653 (Nat.le_of_ble_eq_true rfl) h91 hV (fun r89 σ90 hV => ?_)
          obtain ⟨h93, hV⟩ := hV
          refine zz_at rfl (by rw [pvo h93]) ?_
          obtain ⟨⟨n95, h94⟩, hV⟩ := hV
          refine z_cast hC cf6 dX5_clause_656 h94 q966 ?_
          obtain ⟨⟨n97, h96⟩, hV⟩ := hV
          refine g_X5_141_c6 hC dX5_clause_659 h96 ?_
          refine z_iload hC dX5_clause_662 rfl ?_
          refine z_icmp_eq (tgt := 671) hC dX5_clause_664 (by decide) (fun hc => ?_) (fun hc => ?_)
          · replace hV := hV.1 hc
            refine z_iconst (v := 0) hC dX5_clause_671 rfl ?_
            obtain ⟨⟨n101, h100⟩, hV⟩ := hV
            refine c_X5_144 hC (by decide) dX5_clause_672 (Nat.le_of_ble_eq_true rfl) h100 hV (fun σ99 hV => ?_) (fun x σ hV => zth_out hC (by rw [hQo]; exact Or.inr ⟨_, rfl, hV⟩))
            obtain ⟨y102, e_y102⟩ : ∃ z : Int32, z = x7 + 1 := ⟨_, rfl⟩
            replace hV := hV _ e_y102
            refine z_iinc (v := y102) hC dX5_clause_675 rfl (by rw [e_y102]; rfl) (Nat.le_of_ble_eq_true rfl) rfl rfl ?_
            refine z_goto (tgt := 605) hC dX5_clause_678 (by decide) ?_
            refine zz_sub (L' := [some (.ref (E.1.heap.size + x0)), none, none, none, none, some (.int x5), some (.int x6), some (.int y102)]) ⟨rfl, rfl, rfl, rfl, trivial⟩ ?_
            exact j_605 σ99 x0 x5 x6 y102 hV
          · replace hV := hV.2 hc
            refine z_iconst (v := 1) hC dX5_clause_667 rfl ?_
            refine z_goto (tgt := 672) hC dX5_clause_668 (by decide) ?_
            obtain ⟨⟨n106, h105⟩, hV⟩ := hV
            refine c_X5_144 hC (by decide) dX5_clause_672 (Nat.le_of_ble_eq_true rfl) h105 hV (fun σ104 hV => ?_) (fun x σ hV => zth_out hC (by rw [hQo]; exact Or.inr ⟨_, rfl, hV⟩))
            obtain ⟨y107, e_y107⟩ : ∃ z : Int32, z = x7 + 1 := ⟨_, rfl⟩
            replace hV := hV _ e_y107
            refine z_iinc (v := y107) hC dX5_clause_675 rfl (by rw [e_y107]; rfl) (Nat.le_of_ble_eq_true rfl) rfl rfl ?_
            refine z_goto (tgt := 605) hC dX5_clause_678 (by decide) ?_
            refine zz_sub (L' := [some (.ref (E.1.heap.size + x0)), none, none, none, none, some (.int x5), some (.int x6), some (.int y107)]) ⟨rfl, rfl, rfl, rfl, trivial⟩ ?_
            exact j_605 σ104 x0 x5 x6 y107 hV
  have j_729 : ∀ (σ : ZS) (x0 : Nat) (x5 : Int32) (x6 : Int32) (s0 : Int32) (s1 : Nat), V_X5_clause_729 Thr Ret σ x0 x5 x6 s0 s1 → zz C E NS 8 σ 729 [some (.ref (E.1.heap.size + x0)), none, none, none, none, some (.int x5), some (.int x6), none] [.int s0, .ref (E.1.heap.size + s1)] := by
    intro σ x0 x5 x6 s0 s1 hV
    unfold V_X5_clause_729 at hV
    obtain ⟨⟨n119, h118⟩, hV⟩ := hV
    refine c_X5_144 hC (by decide) dX5_clause_729 (Nat.le_of_ble_eq_true rfl) h118 hV (fun σ117 hV => ?_) (fun x σ hV => zth_out hC (by rw [hQo]; exact Or.inr ⟨_, rfl, hV⟩))
    refine z_aload_n hC dX5_clause_732 rfl rfl ?_
    obtain ⟨⟨n121, h120⟩, hV⟩ := hV
    refine g_X5_12_c4 hC dX5_clause_733 h120 ?_
    obtain ⟨h122, hV⟩ := hV
    refine zz_at rfl (by rw [pvo h122]) ?_
    obtain ⟨⟨n124, h123⟩, hV⟩ := hV
    refine g_X5_76_c1 hC dX5_clause_736 h123 ?_
    obtain ⟨h125, hV⟩ := hV
    refine zz_at rfl (by rw [pvo h125]) ?_
    obtain ⟨h126, hV⟩ := hV
    refine z_new hC cf7 dX5_clause_739 q1040 q1041 q143 dv_7 h126.1 h126.2.1 h126.2.2 ?_
    obtain ⟨σ127, e_σ127⟩ : ∃ z : ZS, z = sA σ117 (14, 0) 4 := ⟨_, rfl⟩
    replace hV := hV _ e_σ127
    rw [← e_σ127]
    refine z_dup hC dX5_clause_742 rfl ?_
    refine z_iload hC dX5_clause_743 rfl ?_
    refine z_iload hC dX5_clause_745 rfl ?_
    refine z_aload_n hC dX5_clause_747 rfl rfl ?_
    refine z_iconst (v := 1) hC dX5_clause_748 rfl ?_
    refine z_bipush (v := 99) hC dX5_clause_749 rfl ?_
    obtain ⟨⟨n131, h130⟩, hV⟩ := hV
    refine c_X5_73 hC (by decide) dX5_clause_751 (Nat.le_of_ble_eq_true rfl) h130 hV (fun r128 σ129 hV => ?_) (fun x σ hV => zth_out hC (by rw [hQo]; exact Or.inr ⟨_, rfl, hV⟩))
    refine c_X5_156 hC (by decide) dX5_clause_754 (Nat.le_of_ble_eq_true rfl) hV (fun σ133 hV => ?_)
    obtain ⟨⟨n137, h136⟩, hV⟩ := hV
    refine c_X5_149 hC (by decide) dX5_clause_757 (Nat.le_of_ble_eq_true rfl) h136 hV (fun r134 σ135 hV => ?_)
    refine z_pop hC dX5_clause_760 rfl ?_
    exact z_vret hC dX5_clause_761 (by rw [hQo]; exact Or.inl ⟨rfl, hV⟩)
  have j_849 : ∀ (σ : ZS) (x0 : Nat) (x1 : Nat) (x5 : Int32) (x6 : Int32) (s0 : Int32) (s1 : Nat), V_X5_clause_849 Thr Ret σ x0 x1 x5 x6 s0 s1 → zz C E NS 8 σ 849 [some (.ref (E.1.heap.size + x0)), some (.ref (E.1.heap.size + x1)), none, none, none, some (.int x5), some (.int x6), none] [.int s0, .ref (E.1.heap.size + s1)] := by
    intro σ x0 x1 x5 x6 s0 s1 hV
    unfold V_X5_clause_849 at hV
    obtain ⟨⟨n169, h168⟩, hV⟩ := hV
    refine c_X5_144 hC (by decide) dX5_clause_849 (Nat.le_of_ble_eq_true rfl) h168 hV (fun σ167 hV => ?_) (fun x σ hV => zth_out hC (by rw [hQo]; exact Or.inr ⟨_, rfl, hV⟩))
    refine z_aload_n hC dX5_clause_852 rfl rfl ?_
    refine z_ldcS (v := v115) (bs := l_no) hC hq115 dX5_clause_853 q904 ?_
    obtain ⟨⟨n173, h172⟩, hV⟩ := hV
    refine c_X5_103 hF115 hC (by decide) dX5_clause_855 (Nat.le_of_ble_eq_true rfl) h172 hV (fun r170 σ171 hV => ?_)
    refine z_if_eq (tgt := 881) hC dX5_clause_858 (by decide) (fun hc => ?_) (fun hc => ?_)
    · replace hV := hV.1 hc
      refine z_aload_n hC dX5_clause_881 rfl rfl ?_
      obtain ⟨⟨n175, h174⟩, hV⟩ := hV
      refine g_X5_12_c4 hC dX5_clause_882 h174 ?_
      obtain ⟨h176, hV⟩ := hV
      refine zz_at rfl (by rw [pvo h176]) ?_
      obtain ⟨⟨n178, h177⟩, hV⟩ := hV
      refine g_X5_172_c1 hC dX5_clause_885 h177 ?_
      obtain ⟨h179, hV⟩ := hV
      refine zz_at rfl (by rw [pvo h179]) ?_
      refine z_iload hC dX5_clause_888 rfl ?_
      refine z_dup2 hC dX5_clause_890 rfl rfl ?_
      obtain ⟨n181, h180, hV⟩ := hV
      obtain ⟨h182, hV⟩ := hV
      refine z_iald hC dX5_clause_891 h180 (h182) ?_
      refine z_iconst (v := 1) hC dX5_clause_892 rfl ?_
      refine z_iload hC dX5_clause_893 rfl ?_
      refine z_ishl hC dX5_clause_895 ?_
      refine z_ior hC dX5_clause_896 ?_
      obtain ⟨n184, h183, hV⟩ := hV
      obtain ⟨h185, hV⟩ := hV
      refine z_iast hC dX5_clause_897 h183 (h185) ?_
      obtain ⟨σ186, e_σ186⟩ : ∃ z : ZS, z = sI σ171 (zo (kP NS σ171 (zo (kP NS σ171 x0 4)) 4)) (ix x5) ((zI σ171 (zo (kP NS σ171 (zo (kP NS σ171 x0 4)) 4)) (ix x5)) ||| ((1 : Int32) <<< (x6 &&& 31))) := ⟨_, rfl⟩
      replace hV := hV _ e_σ186
      rw [← e_σ186]
      exact z_vret hC dX5_clause_898 (by rw [hQo]; exact Or.inl ⟨rfl, hV⟩)
    · replace hV := hV.2 hc
      refine z_aload_n hC dX5_clause_861 rfl rfl ?_
      obtain ⟨⟨n188, h187⟩, hV⟩ := hV
      refine g_X5_12_c4 hC dX5_clause_862 h187 ?_
      obtain ⟨h189, hV⟩ := hV
      refine zz_at rfl (by rw [pvo h189]) ?_
      obtain ⟨⟨n191, h190⟩, hV⟩ := hV
      refine g_X5_168_c1 hC dX5_clause_865 h190 ?_
      obtain ⟨h192, hV⟩ := hV
      refine zz_at rfl (by rw [pvo h192]) ?_
      refine z_iload hC dX5_clause_868 rfl ?_
      refine z_dup2 hC dX5_clause_870 rfl rfl ?_
      obtain ⟨n194, h193, hV⟩ := hV
      obtain ⟨h195, hV⟩ := hV
      refine z_iald hC dX5_clause_871 h193 (h195) ?_
      refine z_iconst (v := 1) hC dX5_clause_872 rfl ?_
      refine z_iload hC dX5_clause_873 rfl ?_
      refine z_ishl hC dX5_clause_875 ?_
      refine z_ior hC dX5_clause_876 ?_
      obtain ⟨n197, h196, hV⟩ := hV
      obtain ⟨h198, hV⟩ := hV
      refine z_iast hC dX5_clause_877 h196 (h198) ?_
      obtain ⟨σ199, e_σ199⟩ : ∃ z : ZS, z = sI σ171 (zo (kP NS σ171 (zo (kP NS σ171 x0 4)) 3)) (ix x5) ((zI σ171 (zo (kP NS σ171 (zo (kP NS σ171 x0 4)) 3)) (ix x5)) ||| ((1 : Int32) <<< (x6 &&& 31))) := ⟨_, rfl⟩
      replace hV := hV _ e_σ199
      rw [← e_σ199]
      refine z_goto (tgt := 898) hC dX5_clause_878 (by decide) ?_
      exact z_vret hC dX5_clause_898 (by rw [hQo]; exact Or.inl ⟨rfl, hV⟩)
  have j_848 : ∀ (σ : ZS) (x0 : Nat) (x1 : Nat) (x5 : Int32) (x6 : Int32) (s0 : Nat), V_X5_clause_848 Thr Ret σ x0 x1 x5 x6 s0 → zz C E NS 8 σ 848 [some (.ref (E.1.heap.size + x0)), some (.ref (E.1.heap.size + x1)), none, none, none, some (.int x5), some (.int x6), none] [.ref (E.1.heap.size + s0)] := by
    intro σ x0 x1 x5 x6 s0 hV
    unfold V_X5_clause_848 at hV
    refine z_iconst (v := 0) hC dX5_clause_848 rfl ?_
    refine zz_sub (L' := [some (.ref (E.1.heap.size + x0)), some (.ref (E.1.heap.size + x1)), none, none, none, some (.int x5), some (.int x6), none]) ⟨rfl, rfl, rfl, rfl, trivial⟩ ?_
    exact j_849 σ x0 x1 x5 x6 0 s0 hV
  have j_788 : ∀ (σ : ZS) (x0 : Nat) (x1 : Nat), V_X5_clause_788 Thr Ret σ x0 x1 → zz C E NS 8 σ 788 [some (.ref (E.1.heap.size + x0)), some (.ref (E.1.heap.size + x1)), none, none, none, none, none, none] [] := by
    intro σ x0 x1 hV
    unfold V_X5_clause_788 at hV
    refine z_aload_n hC dX5_clause_788 rfl rfl ?_
    obtain ⟨⟨n161, h160⟩, hV⟩ := hV
    refine c_X5_159 hC (by decide) dX5_clause_789 (Nat.le_of_ble_eq_true rfl) h160 hV (fun r158 σ159 hV => ?_) (fun x σ hV => zth_out hC (by rw [hQo]; exact Or.inr ⟨_, rfl, hV⟩))
    refine z_istore hC dX5_clause_792 (Nat.le_of_ble_eq_true rfl) rfl rfl ?_
    refine z_aload_n hC dX5_clause_794 rfl rfl ?_
    obtain ⟨⟨n165, h164⟩, hV⟩ := hV
    refine c_X5_159 hC (by decide) dX5_clause_795 (Nat.le_of_ble_eq_true rfl) h164 hV (fun r162 σ163 hV => ?_) (fun x σ hV => zth_out hC (by rw [hQo]; exact Or.inr ⟨_, rfl, hV⟩))
    refine z_istore hC dX5_clause_798 (Nat.le_of_ble_eq_true rfl) rfl rfl ?_
    refine z_aload_n hC dX5_clause_800 rfl rfl ?_
    refine z_iload hC dX5_clause_801 rfl ?_
    refine z_iload hC dX5_clause_803 rfl ?_
    refine z_icmp_eq (tgt := 848) hC dX5_clause_805 (by decide) (fun hc => ?_) (fun hc => ?_)
    · replace hV := hV.1 hc
      refine zz_sub (L' := [some (.ref (E.1.heap.size + x0)), some (.ref (E.1.heap.size + x1)), none, none, none, some (.int r158), some (.int r162), none]) ⟨rfl, rfl, rfl, rfl, trivial⟩ ?_
      exact j_848 σ163 x0 x1 r158 r162 x0 hV
    · replace hV := hV.2 hc
      refine z_aload_n hC dX5_clause_808 rfl rfl ?_
      obtain ⟨⟨n201, h200⟩, hV⟩ := hV
      refine g_X5_12_c4 hC dX5_clause_809 h200 ?_
      obtain ⟨h202, hV⟩ := hV
      refine zz_at rfl (by rw [pvo h202]) ?_
      obtain ⟨⟨n204, h203⟩, hV⟩ := hV
      refine g_X5_76_c1 hC dX5_clause_812 h203 ?_
      obtain ⟨h205, hV⟩ := hV
      refine zz_at rfl (by rw [pvo h205]) ?_
      refine z_iload hC dX5_clause_815 rfl ?_
      obtain ⟨⟨n209, h208⟩, hV⟩ := hV
      refine c_X5_132 hC (by decide) dX5_clause_817 (Nat.le_of_ble_eq_true rfl) h208 hV (fun r206 σ207 hV => ?_)
      obtain ⟨h210, hV⟩ := hV
      refine zz_at rfl (by rw [pvo h210]) ?_
      obtain ⟨⟨n212, h211⟩, hV⟩ := hV
      refine z_cast hC cf7 dX5_clause_820 h211 q1040 ?_
      refine z_aload_n hC dX5_clause_823 rfl rfl ?_
      obtain ⟨⟨n214, h213⟩, hV⟩ := hV
      refine g_X5_12_c4 hC dX5_clause_824 h213 ?_
      obtain ⟨h215, hV⟩ := hV
      refine zz_at rfl (by rw [pvo h215]) ?_
      obtain ⟨⟨n217, h216⟩, hV⟩ := hV
      refine g_X5_76_c1 hC dX5_clause_827 h216 ?_
      obtain ⟨h218, hV⟩ := hV
      refine zz_at rfl (by rw [pvo h218]) ?_
      refine z_iload hC dX5_clause_830 rfl ?_
      obtain ⟨⟨n222, h221⟩, hV⟩ := hV
      refine c_X5_132 hC (by decide) dX5_clause_832 (Nat.le_of_ble_eq_true rfl) h221 hV (fun r219 σ220 hV => ?_)
      obtain ⟨h223, hV⟩ := hV
      refine zz_at rfl (by rw [pvo h223]) ?_
      obtain ⟨⟨n225, h224⟩, hV⟩ := hV
      refine z_cast hC cf7 dX5_clause_835 h224 q1040 ?_
      obtain ⟨⟨n229, h228⟩, hV⟩ := hV
      refine c_X5_164 hC (by decide) dX5_clause_838 (Nat.le_of_ble_eq_true rfl) h228 hV (fun r226 σ227 hV => ?_)
      refine z_if_eq (tgt := 848) hC dX5_clause_841 (by decide) (fun hc => ?_) (fun hc => ?_)
      · replace hV := hV.1 hc
        refine zz_sub (L' := [some (.ref (E.1.heap.size + x0)), some (.ref (E.1.heap.size + x1)), none, none, none, some (.int r158), some (.int r162), none]) ⟨rfl, rfl, rfl, rfl, trivial⟩ ?_
        exact j_848 σ227 x0 x1 r158 r162 x0 hV
      · replace hV := hV.2 hc
        refine z_iconst (v := 1) hC dX5_clause_844 rfl ?_
        refine z_goto (tgt := 849) hC dX5_clause_845 (by decide) ?_
        refine zz_sub (L' := [some (.ref (E.1.heap.size + x0)), some (.ref (E.1.heap.size + x1)), none, none, none, some (.int r158), some (.int r162), none]) ⟨rfl, rfl, rfl, rfl, trivial⟩ ?_
        exact j_849 σ227 x0 x1 r158 r162 1 x0 hV
  have j_943 : ∀ (σ : ZS) (x0 : Nat) (x5 : Int32) (x6 : Int32) (s0 : Int32) (s1 : Nat), V_X5_clause_943 Thr Ret σ x0 x5 x6 s0 s1 → zz C E NS 8 σ 943 [some (.ref (E.1.heap.size + x0)), none, none, none, none, some (.int x5), some (.int x6), none] [.int s0, .ref (E.1.heap.size + s1)] := by
    intro σ x0 x5 x6 s0 s1 hV
    unfold V_X5_clause_943 at hV
    obtain ⟨⟨n253, h252⟩, hV⟩ := hV
    refine c_X5_144 hC (by decide) dX5_clause_943 (Nat.le_of_ble_eq_true rfl) h252 hV (fun σ251 hV => ?_) (fun x σ hV => zth_out hC (by rw [hQo]; exact Or.inr ⟨_, rfl, hV⟩))
    refine z_aload_n hC dX5_clause_946 rfl rfl ?_
    obtain ⟨⟨n255, h254⟩, hV⟩ := hV
    refine g_X5_12_c4 hC dX5_clause_947 h254 ?_
    obtain ⟨h256, hV⟩ := hV
    refine zz_at rfl (by rw [pvo h256]) ?_
    obtain ⟨⟨n258, h257⟩, hV⟩ := hV
    refine g_X5_119_c1 hC dX5_clause_950 h257 ?_
    obtain ⟨h259, hV⟩ := hV
    refine zz_at rfl (by rw [pvo h259]) ?_
    obtain ⟨h260, hV⟩ := hV
    refine z_new hC cf8 dX5_clause_953 q1075 q1076 q144 dv_8 h260.1 h260.2.1 h260.2.2 ?_
    obtain ⟨σ261, e_σ261⟩ : ∃ z : ZS, z = sA σ251 (15, 0) 3 := ⟨_, rfl⟩
    replace hV := hV _ e_σ261
    rw [← e_σ261]
    refine z_dup hC dX5_clause_956 rfl ?_
    refine z_iload hC dX5_clause_957 rfl ?_
    refine z_iload hC dX5_clause_959 rfl ?_
    refine z_aload_n hC dX5_clause_961 rfl rfl ?_
    refine z_iconst (v := 0) hC dX5_clause_962 rfl ?_
    refine z_bipush (v := 99) hC dX5_clause_963 rfl ?_
    obtain ⟨⟨n265, h264⟩, hV⟩ := hV
    refine c_X5_73 hC (by decide) dX5_clause_965 (Nat.le_of_ble_eq_true rfl) h264 hV (fun r262 σ263 hV => ?_) (fun x σ hV => zth_out hC (by rw [hQo]; exact Or.inr ⟨_, rfl, hV⟩))
    refine c_X5_177 hC (by decide) dX5_clause_968 (Nat.le_of_ble_eq_true rfl) hV (fun σ267 hV => ?_)
    obtain ⟨⟨n271, h270⟩, hV⟩ := hV
    refine c_X5_149 hC (by decide) dX5_clause_971 (Nat.le_of_ble_eq_true rfl) h270 hV (fun r268 σ269 hV => ?_)
    refine z_pop hC dX5_clause_974 rfl ?_
    exact z_vret hC dX5_clause_975 (by rw [hQo]; exact Or.inl ⟨rfl, hV⟩)
  have j_543 : ∀ (σ : ZS) (x0 : Nat) (x1 : Nat) (x4 : Int32), V_X5_clause_543 Thr Ret σ x0 x1 x4 → zz C E NS 8 σ 543 [some (.ref (E.1.heap.size + x0)), some (.ref (E.1.heap.size + x1)), none, none, some (.int x4), none, none, none] [] := by
    intro σ x0 x1 x4 hV
    unfold V_X5_clause_543 at hV
    refine z_iload hC dX5_clause_543 rfl ?_
    by_cases hc0 : x4 = 0
    · replace hV := hV.1 hc0
      refine z_tableIn (tgt := 584) (off := 39) hC dX5_clause_545 (by rw [hc0]; decide) (by rw [hc0]; decide) (by rw [hc0]; rfl) (by decide) ?_
      refine z_aload_n hC dX5_clause_584 rfl rfl ?_
      refine z_iconst (v := 0) hC dX5_clause_585 rfl ?_
      refine z_bipush (v := 99) hC dX5_clause_586 rfl ?_
      obtain ⟨⟨n34, h33⟩, hV⟩ := hV
      refine c_X5_73 hC (by decide) dX5_clause_588 (Nat.le_of_ble_eq_true rfl) h33 hV (fun r31 σ32 hV => ?_) (fun x σ hV => zth_out hC (by rw [hQo]; exact Or.inr ⟨_, rfl, hV⟩))
      refine z_istore hC dX5_clause_591 (Nat.le_of_ble_eq_true rfl) rfl rfl ?_
      refine z_aload_n hC dX5_clause_593 rfl rfl ?_
      refine z_iconst (v := 0) hC dX5_clause_594 rfl ?_
      refine z_bipush (v := 99) hC dX5_clause_595 rfl ?_
      obtain ⟨⟨n38, h37⟩, hV⟩ := hV
      refine c_X5_73 hC (by decide) dX5_clause_597 (Nat.le_of_ble_eq_true rfl) h37 hV (fun r35 σ36 hV => ?_) (fun x σ hV => zth_out hC (by rw [hQo]; exact Or.inr ⟨_, rfl, hV⟩))
      refine z_istore hC dX5_clause_600 (Nat.le_of_ble_eq_true rfl) rfl rfl ?_
      refine z_iconst (v := 0) hC dX5_clause_602 rfl ?_
      refine z_istore hC dX5_clause_603 (Nat.le_of_ble_eq_true rfl) rfl rfl ?_
      refine zz_sub (L' := [some (.ref (E.1.heap.size + x0)), none, none, none, none, some (.int r31), some (.int r35), some (.int 0)]) ⟨rfl, rfl, rfl, rfl, trivial⟩ ?_
      exact j_605 σ36 x0 r31 r35 0 hV
    replace hV := hV.2 hc0
    by_cases hc1 : x4 = 1
    · replace hV := hV.1 hc1
      refine z_tableIn (tgt := 704) (off := 159) hC dX5_clause_545 (by rw [hc1]; decide) (by rw [hc1]; decide) (by rw [hc1]; rfl) (by decide) ?_
      refine z_aload_n hC dX5_clause_704 rfl rfl ?_
      obtain ⟨⟨n111, h110⟩, hV⟩ := hV
      refine c_X5_152 hC (by decide) dX5_clause_705 (Nat.le_of_ble_eq_true rfl) h110 hV (fun r108 σ109 hV => ?_) (fun x σ hV => zth_out hC (by rw [hQo]; exact Or.inr ⟨_, rfl, hV⟩))
      refine z_istore hC dX5_clause_708 (Nat.le_of_ble_eq_true rfl) rfl rfl ?_
      refine z_aload_n hC dX5_clause_710 rfl rfl ?_
      obtain ⟨⟨n115, h114⟩, hV⟩ := hV
      refine c_X5_152 hC (by decide) dX5_clause_711 (Nat.le_of_ble_eq_true rfl) h114 hV (fun r112 σ113 hV => ?_) (fun x σ hV => zth_out hC (by rw [hQo]; exact Or.inr ⟨_, rfl, hV⟩))
      refine z_istore hC dX5_clause_714 (Nat.le_of_ble_eq_true rfl) rfl rfl ?_
      refine z_aload_n hC dX5_clause_716 rfl rfl ?_
      refine z_iload hC dX5_clause_717 rfl ?_
      refine z_iload hC dX5_clause_719 rfl ?_
      refine z_icmp_eq (tgt := 728) hC dX5_clause_721 (by decide) (fun hc => ?_) (fun hc => ?_)
      · replace hV := hV.1 hc
        refine z_iconst (v := 0) hC dX5_clause_728 rfl ?_
        refine zz_sub (L' := [some (.ref (E.1.heap.size + x0)), none, none, none, none, some (.int r108), some (.int r112), none]) ⟨rfl, rfl, rfl, trivial⟩ ?_
        exact j_729 σ113 x0 r108 r112 0 x0 hV
      · replace hV := hV.2 hc
        refine z_iconst (v := 1) hC dX5_clause_724 rfl ?_
        refine z_goto (tgt := 729) hC dX5_clause_725 (by decide) ?_
        refine zz_sub (L' := [some (.ref (E.1.heap.size + x0)), none, none, none, none, some (.int r108), some (.int r112), none]) ⟨rfl, rfl, rfl, trivial⟩ ?_
        exact j_729 σ113 x0 r108 r112 1 x0 hV
    replace hV := hV.2 hc1
    by_cases hc2 : x4 = 2
    · replace hV := hV.1 hc2
      refine z_tableIn (tgt := 762) (off := 217) hC dX5_clause_545 (by rw [hc2]; decide) (by rw [hc2]; decide) (by rw [hc2]; rfl) (by decide) ?_
      refine z_aload_n hC dX5_clause_762 rfl rfl ?_
      obtain ⟨⟨n139, h138⟩, hV⟩ := hV
      refine g_X5_12_c4 hC dX5_clause_763 h138 ?_
      obtain ⟨h140, hV⟩ := hV
      refine zz_at rfl (by rw [pvo h140]) ?_
      obtain ⟨⟨n142, h141⟩, hV⟩ := hV
      refine g_X5_76_c1 hC dX5_clause_766 h141 ?_
      obtain ⟨h143, hV⟩ := hV
      refine zz_at rfl (by rw [pvo h143]) ?_
      refine z_aload_n hC dX5_clause_769 rfl rfl ?_
      obtain ⟨⟨n147, h146⟩, hV⟩ := hV
      refine c_X5_159 hC (by decide) dX5_clause_770 (Nat.le_of_ble_eq_true rfl) h146 hV (fun r144 σ145 hV => ?_) (fun x σ hV => zth_out hC (by rw [hQo]; exact Or.inr ⟨_, rfl, hV⟩))
      obtain ⟨⟨n151, h150⟩, hV⟩ := hV
      refine c_X5_132 hC (by decide) dX5_clause_773 (Nat.le_of_ble_eq_true rfl) h150 hV (fun r148 σ149 hV => ?_)
      obtain ⟨h152, hV⟩ := hV
      refine zz_at rfl (by rw [pvo h152]) ?_
      obtain ⟨⟨n154, h153⟩, hV⟩ := hV
      refine z_cast hC cf7 dX5_clause_776 h153 q1040 ?_
      refine z_astore hC dX5_clause_779 (Nat.le_of_ble_eq_true rfl) rfl rfl ?_
      refine z_aload hC dX5_clause_781 rfl ?_
      refine z_iconst (v := 1) hC dX5_clause_783 rfl ?_
      obtain ⟨⟨n156, h155⟩, hV⟩ := hV
      refine p_X5_161_c7 hC dX5_clause_784 h155 rfl ?_
      obtain ⟨σ157, e_σ157⟩ : ∃ z : ZS, z = sI σ149 (zo r148) 3 1 := ⟨_, rfl⟩
      replace hV := hV _ e_σ157
      rw [← e_σ157]
      exact z_vret hC dX5_clause_787 (by rw [hQo]; exact Or.inl ⟨rfl, hV⟩)
    replace hV := hV.2 hc2
    by_cases hc3 : x4 = 3
    · replace hV := hV.1 hc3
      refine z_tableIn (tgt := 788) (off := 243) hC dX5_clause_545 (by rw [hc3]; decide) (by rw [hc3]; decide) (by rw [hc3]; rfl) (by decide) ?_
      refine zz_sub (L' := [some (.ref (E.1.heap.size + x0)), some (.ref (E.1.heap.size + x1)), none, none, none, none, none, none]) ⟨rfl, rfl, trivial⟩ ?_
      exact j_788 σ x0 x1 hV
    replace hV := hV.2 hc3
    by_cases hc4 : x4 = 4
    · replace hV := hV.1 hc4
      refine z_tableIn (tgt := 788) (off := 243) hC dX5_clause_545 (by rw [hc4]; decide) (by rw [hc4]; decide) (by rw [hc4]; rfl) (by decide) ?_
      refine zz_sub (L' := [some (.ref (E.1.heap.size + x0)), some (.ref (E.1.heap.size + x1)), none, none, none, none, none, none]) ⟨rfl, rfl, trivial⟩ ?_
      exact j_788 σ x0 x1 hV
    replace hV := hV.2 hc4
    by_cases hc5 : x4 = 5
    · replace hV := hV.1 hc5
      refine z_tableIn (tgt := 899) (off := 354) hC dX5_clause_545 (by rw [hc5]; decide) (by rw [hc5]; decide) (by rw [hc5]; rfl) (by decide) ?_
      refine z_aload_n hC dX5_clause_899 rfl rfl ?_
      obtain ⟨⟨n231, h230⟩, hV⟩ := hV
      refine g_X5_12_c4 hC dX5_clause_900 h230 ?_
      obtain ⟨h232, hV⟩ := hV
      refine zz_at rfl (by rw [pvo h232]) ?_
      refine z_dup hC dX5_clause_903 rfl ?_
      obtain ⟨⟨n234, h233⟩, hV⟩ := hV
      refine g_X5_122_c1 hC dX5_clause_904 h233 ?_
      refine z_iconst (v := 1) hC dX5_clause_907 rfl ?_
      refine z_aload_n hC dX5_clause_908 rfl rfl ?_
      obtain ⟨⟨n238, h237⟩, hV⟩ := hV
      refine c_X5_152 hC (by decide) dX5_clause_909 (Nat.le_of_ble_eq_true rfl) h237 hV (fun r235 σ236 hV => ?_) (fun x σ hV => zth_out hC (by rw [hQo]; exact Or.inr ⟨_, rfl, hV⟩))
      refine z_ishl hC dX5_clause_912 ?_
      refine z_ior hC dX5_clause_913 ?_
      obtain ⟨⟨n240, h239⟩, hV⟩ := hV
      refine p_X5_122_c1 hC dX5_clause_914 h239 ?_
      obtain ⟨σ241, e_σ241⟩ : ∃ z : ZS, z = sI σ236 (zo (kP NS σ x0 4)) 7 ((zI σ (zo (kP NS σ x0 4)) 7) ||| ((1 : Int32) <<< (r235 &&& 31))) := ⟨_, rfl⟩
      replace hV := hV _ e_σ241
      rw [← e_σ241]
      exact z_vret hC dX5_clause_917 (by rw [hQo]; exact Or.inl ⟨rfl, hV⟩)
    replace hV := hV.2 hc5
    refine z_tableOut (tgt := 918) hC dX5_clause_545 (tb_out (lo := 0) (hi := 5) (x := x4) (fun i h1 h2 => ?_)) (by decide) ?_
    · rcases (show i = 0 ∨ i = 1 ∨ i = 2 ∨ i = 3 ∨ i = 4 ∨ i = 5 by omega) with rfl | rfl | rfl | rfl | rfl | rfl
      · exact fun q => hc0 (Int32.toInt_inj.mp (q.trans (by decide)))
      · exact fun q => hc1 (Int32.toInt_inj.mp (q.trans (by decide)))
      · exact fun q => hc2 (Int32.toInt_inj.mp (q.trans (by decide)))
      · exact fun q => hc3 (Int32.toInt_inj.mp (q.trans (by decide)))
      · exact fun q => hc4 (Int32.toInt_inj.mp (q.trans (by decide)))
      · exact fun q => hc5 (Int32.toInt_inj.mp (q.trans (by decide)))
    · refine z_aload_n hC dX5_clause_918 rfl rfl ?_
      obtain ⟨⟨n245, h244⟩, hV⟩ := hV
      refine c_X5_152 hC (by decide) dX5_clause_919 (Nat.le_of_ble_eq_true rfl) h244 hV (fun r242 σ243 hV => ?_) (fun x σ hV => zth_out hC (by rw [hQo]; exact Or.inr ⟨_, rfl, hV⟩))
      refine z_istore hC dX5_clause_922 (Nat.le_of_ble_eq_true rfl) rfl rfl ?_
      refine z_aload_n hC dX5_clause_924 rfl rfl ?_
      obtain ⟨⟨n249, h248⟩, hV⟩ := hV
      refine c_X5_152 hC (by decide) dX5_clause_925 (Nat.le_of_ble_eq_true rfl) h248 hV (fun r246 σ247 hV => ?_) (fun x σ hV => zth_out hC (by rw [hQo]; exact Or.inr ⟨_, rfl, hV⟩))
      refine z_istore hC dX5_clause_928 (Nat.le_of_ble_eq_true rfl) rfl rfl ?_
      refine z_aload_n hC dX5_clause_930 rfl rfl ?_
      refine z_iload hC dX5_clause_931 rfl ?_
      refine z_iload hC dX5_clause_933 rfl ?_
      refine z_icmp_eq (tgt := 942) hC dX5_clause_935 (by decide) (fun hc => ?_) (fun hc => ?_)
      · replace hV := hV.1 hc
        refine z_iconst (v := 0) hC dX5_clause_942 rfl ?_
        refine zz_sub (L' := [some (.ref (E.1.heap.size + x0)), none, none, none, none, some (.int r242), some (.int r246), none]) ⟨rfl, rfl, rfl, trivial⟩ ?_
        exact j_943 σ247 x0 r242 r246 0 x0 hV
      · replace hV := hV.2 hc
        refine z_iconst (v := 1) hC dX5_clause_938 rfl ?_
        refine z_goto (tgt := 943) hC dX5_clause_939 (by decide) ?_
        refine zz_sub (L' := [some (.ref (E.1.heap.size + x0)), none, none, none, none, some (.int r242), some (.int r246), none]) ⟨rfl, rfl, rfl, trivial⟩ ?_
        exact j_943 σ247 x0 r242 r246 1 x0 hV
  have j_360 : ∀ (σ : ZS) (x0 : Nat) (x1 : Nat) (x2 : Int32), V_X5_clause_360 Thr Ret σ x0 x1 x2 → zz C E NS 8 σ 360 [some (.ref (E.1.heap.size + x0)), some (.ref (E.1.heap.size + x1)), some (.int x2), none, none, none, none, none] [] := by
    intro σ x0 x1 x2 hV
    unfold V_X5_clause_360 at hV
    refine z_iload_n hC dX5_clause_360 rfl rfl ?_
    refine z_if_eq (tgt := 377) hC dX5_clause_361 (by decide) (fun hc => ?_) (fun hc => ?_)
    · replace hV := hV.1 hc
      refine z_aload_n hC dX5_clause_377 rfl rfl ?_
      refine z_dup hC dX5_clause_378 rfl ?_
      obtain ⟨⟨n15, h14⟩, hV⟩ := hV
      refine g_X5_26_c4 hC dX5_clause_379 h14 ?_
      refine z_aload_n hC dX5_clause_382 rfl rfl ?_
      obtain ⟨⟨n19, h18⟩, hV⟩ := hV
      refine c_X5_131 hC (by decide) dX5_clause_383 (Nat.le_of_ble_eq_true rfl) h18 hV (fun r16 σ17 hV => ?_)
      refine z_iadd hC dX5_clause_386 ?_
      obtain ⟨⟨n21, h20⟩, hV⟩ := hV
      refine p_X5_26_c4 hC dX5_clause_387 h20 ?_
      obtain ⟨σ22, e_σ22⟩ : ∃ z : ZS, z = sI σ17 x0 2 ((zI σ x0 2) + r16) := ⟨_, rfl⟩
      replace hV := hV _ e_σ22
      rw [← e_σ22]
      refine z_aload_n hC dX5_clause_390 rfl rfl ?_
      refine z_astore_n hC dX5_clause_391 rfl (Nat.le_of_ble_eq_true rfl) rfl rfl ?_
      refine z_iconst (v := (-1)) hC dX5_clause_392 rfl ?_
      refine z_istore hC dX5_clause_393 (Nat.le_of_ble_eq_true rfl) rfl rfl ?_
      refine z_aload_n hC dX5_clause_395 rfl rfl ?_
      obtain ⟨⟨n26, h25⟩, hV⟩ := hV
      refine c_X5_96 hC (by decide) dX5_clause_396 (Nat.le_of_ble_eq_true rfl) h25 hV (fun r23 σ24 hV => ?_)
      by_cases hc0 : r23 = (-1354665387)
      · replace hV := hV.1 hc0
        refine z_lookup (tgt := 456) (off := 57) hC dX5_clause_399 rfl (by rw [hc0]; rfl) (by decide) ?_
        refine z_aload_n hC dX5_clause_456 rfl rfl ?_
        refine z_ldcS (v := v101) (bs := l_corner) hC hq101 dX5_clause_457 q891 ?_
        obtain ⟨⟨n30, h29⟩, hV⟩ := hV
        refine c_X5_103 hF101 hC (by decide) dX5_clause_459 (Nat.le_of_ble_eq_true rfl) h29 hV (fun r27 σ28 hV => ?_)
        refine z_if_eq (tgt := 543) hC dX5_clause_462 (by decide) (fun hc => ?_) (fun hc => ?_)
        · replace hV := hV.1 hc
          refine zz_sub (L' := [some (.ref (E.1.heap.size + x0)), some (.ref (E.1.heap.size + x1)), none, none, some (.int (-1)), none, none, none]) ⟨rfl, rfl, rfl, trivial⟩ ?_
          exact j_543 σ28 x0 x1 (-1) hV
        · replace hV := hV.2 hc
          refine z_iconst (v := 0) hC dX5_clause_465 rfl ?_
          refine z_istore hC dX5_clause_466 (Nat.le_of_ble_eq_true rfl) rfl rfl ?_
          refine z_goto (tgt := 543) hC dX5_clause_468 (by decide) ?_
          refine zz_sub (L' := [some (.ref (E.1.heap.size + x0)), some (.ref (E.1.heap.size + x1)), none, none, some (.int 0), none, none, none]) ⟨rfl, rfl, rfl, trivial⟩ ?_
          exact j_543 σ28 x0 x1 0 hV
      replace hV := hV.2 hc0
      by_cases hc1 : r23 = (-891990013)
      · replace hV := hV.1 hc1
        refine z_lookup (tgt := 471) (off := 72) hC dX5_clause_399 rfl (by rw [hc1]; rfl) (by decide) ?_
        refine z_aload_n hC dX5_clause_471 rfl rfl ?_
        refine z_ldcS (v := v107) (bs := l_street) hC hq107 dX5_clause_472 q900 ?_
        obtain ⟨⟨n275, h274⟩, hV⟩ := hV
        refine c_X5_103 hF107 hC (by decide) dX5_clause_474 (Nat.le_of_ble_eq_true rfl) h274 hV (fun r272 σ273 hV => ?_)
        refine z_if_eq (tgt := 543) hC dX5_clause_477 (by decide) (fun hc => ?_) (fun hc => ?_)
        · replace hV := hV.1 hc
          refine zz_sub (L' := [some (.ref (E.1.heap.size + x0)), some (.ref (E.1.heap.size + x1)), none, none, some (.int (-1)), none, none, none]) ⟨rfl, rfl, rfl, trivial⟩ ?_
          exact j_543 σ273 x0 x1 (-1) hV
        · replace hV := hV.2 hc
          refine z_iconst (v := 1) hC dX5_clause_480 rfl ?_
          refine z_istore hC dX5_clause_481 (Nat.le_of_ble_eq_true rfl) rfl rfl ?_
          refine z_goto (tgt := 543) hC dX5_clause_483 (by decide) ?_
          refine zz_sub (L' := [some (.ref (E.1.heap.size + x0)), some (.ref (E.1.heap.size + x1)), none, none, some (.int 1), none, none, none]) ⟨rfl, rfl, rfl, trivial⟩ ?_
          exact j_543 σ273 x0 x1 1 hV
      replace hV := hV.2 hc1
      by_cases hc2 : r23 = 3521
      · replace hV := hV.1 hc2
        refine z_lookup (tgt := 501) (off := 102) hC dX5_clause_399 rfl (by rw [hc2]; rfl) (by decide) ?_
        refine z_aload_n hC dX5_clause_501 rfl rfl ?_
        refine z_ldcS (v := v115) (bs := l_no) hC hq115 dX5_clause_502 q904 ?_
        obtain ⟨⟨n279, h278⟩, hV⟩ := hV
        refine c_X5_103 hF115 hC (by decide) dX5_clause_504 (Nat.le_of_ble_eq_true rfl) h278 hV (fun r276 σ277 hV => ?_)
        refine z_if_eq (tgt := 543) hC dX5_clause_507 (by decide) (fun hc => ?_) (fun hc => ?_)
        · replace hV := hV.1 hc
          refine zz_sub (L' := [some (.ref (E.1.heap.size + x0)), some (.ref (E.1.heap.size + x1)), none, none, some (.int (-1)), none, none, none]) ⟨rfl, rfl, rfl, trivial⟩ ?_
          exact j_543 σ277 x0 x1 (-1) hV
        · replace hV := hV.2 hc
          refine z_iconst (v := 3) hC dX5_clause_510 rfl ?_
          refine z_istore hC dX5_clause_511 (Nat.le_of_ble_eq_true rfl) rfl rfl ?_
          refine z_goto (tgt := 543) hC dX5_clause_513 (by decide) ?_
          refine zz_sub (L' := [some (.ref (E.1.heap.size + x0)), some (.ref (E.1.heap.size + x1)), none, none, some (.int 3), none, none, none]) ⟨rfl, rfl, rfl, trivial⟩ ?_
          exact j_543 σ277 x0 x1 3 hV
      replace hV := hV.2 hc2
      by_cases hc3 : r23 = 97739
      · replace hV := hV.1 hc3
        refine z_lookup (tgt := 531) (off := 132) hC dX5_clause_399 rfl (by rw [hc3]; rfl) (by decide) ?_
        refine z_aload_n hC dX5_clause_531 rfl rfl ?_
        refine z_ldcS (v := v111) (bs := l_box) hC hq111 dX5_clause_532 q902 ?_
        obtain ⟨⟨n283, h282⟩, hV⟩ := hV
        refine c_X5_103 hF111 hC (by decide) dX5_clause_534 (Nat.le_of_ble_eq_true rfl) h282 hV (fun r280 σ281 hV => ?_)
        refine z_if_eq (tgt := 543) hC dX5_clause_537 (by decide) (fun hc => ?_) (fun hc => ?_)
        · replace hV := hV.1 hc
          refine zz_sub (L' := [some (.ref (E.1.heap.size + x0)), some (.ref (E.1.heap.size + x1)), none, none, some (.int (-1)), none, none, none]) ⟨rfl, rfl, rfl, trivial⟩ ?_
          exact j_543 σ281 x0 x1 (-1) hV
        · replace hV := hV.2 hc
          refine z_iconst (v := 5) hC dX5_clause_540 rfl ?_
          refine z_istore hC dX5_clause_541 (Nat.le_of_ble_eq_true rfl) rfl rfl ?_
          refine zz_sub (L' := [some (.ref (E.1.heap.size + x0)), some (.ref (E.1.heap.size + x1)), none, none, some (.int 5), none, none, none]) ⟨rfl, rfl, rfl, trivial⟩ ?_
          exact j_543 σ281 x0 x1 5 hV
      replace hV := hV.2 hc3
      by_cases hc4 : r23 = 107877
      · replace hV := hV.1 hc4
        refine z_lookup (tgt := 516) (off := 117) hC dX5_clause_399 rfl (by rw [hc4]; rfl) (by decide) ?_
        refine z_aload_n hC dX5_clause_516 rfl rfl ?_
        refine z_ldcS (v := v117) (bs := l_may) hC hq117 dX5_clause_517 q905 ?_
        obtain ⟨⟨n287, h286⟩, hV⟩ := hV
        refine c_X5_103 hF117 hC (by decide) dX5_clause_519 (Nat.le_of_ble_eq_true rfl) h286 hV (fun r284 σ285 hV => ?_)
        refine z_if_eq (tgt := 543) hC dX5_clause_522 (by decide) (fun hc => ?_) (fun hc => ?_)
        · replace hV := hV.1 hc
          refine zz_sub (L' := [some (.ref (E.1.heap.size + x0)), some (.ref (E.1.heap.size + x1)), none, none, some (.int (-1)), none, none, none]) ⟨rfl, rfl, rfl, trivial⟩ ?_
          exact j_543 σ285 x0 x1 (-1) hV
        · replace hV := hV.2 hc
          refine z_iconst (v := 4) hC dX5_clause_525 rfl ?_
          refine z_istore hC dX5_clause_526 (Nat.le_of_ble_eq_true rfl) rfl rfl ?_
          refine z_goto (tgt := 543) hC dX5_clause_528 (by decide) ?_
          refine zz_sub (L' := [some (.ref (E.1.heap.size + x0)), some (.ref (E.1.heap.size + x1)), none, none, some (.int 4), none, none, none]) ⟨rfl, rfl, rfl, trivial⟩ ?_
          exact j_543 σ285 x0 x1 4 hV
      replace hV := hV.2 hc4
      by_cases hc5 : r23 = 110182
      · replace hV := hV.1 hc5
        refine z_lookup (tgt := 486) (off := 87) hC dX5_clause_399 rfl (by rw [hc5]; rfl) (by decide) ?_
        refine z_aload_n hC dX5_clause_486 rfl rfl ?_
        refine z_ldcS (v := v113) (bs := l_one) hC hq113 dX5_clause_487 q903 ?_
        obtain ⟨⟨n291, h290⟩, hV⟩ := hV
        refine c_X5_103 hF113 hC (by decide) dX5_clause_489 (Nat.le_of_ble_eq_true rfl) h290 hV (fun r288 σ289 hV => ?_)
        refine z_if_eq (tgt := 543) hC dX5_clause_492 (by decide) (fun hc => ?_) (fun hc => ?_)
        · replace hV := hV.1 hc
          refine zz_sub (L' := [some (.ref (E.1.heap.size + x0)), some (.ref (E.1.heap.size + x1)), none, none, some (.int (-1)), none, none, none]) ⟨rfl, rfl, rfl, trivial⟩ ?_
          exact j_543 σ289 x0 x1 (-1) hV
        · replace hV := hV.2 hc
          refine z_iconst (v := 2) hC dX5_clause_495 rfl ?_
          refine z_istore hC dX5_clause_496 (Nat.le_of_ble_eq_true rfl) rfl rfl ?_
          refine z_goto (tgt := 543) hC dX5_clause_498 (by decide) ?_
          refine zz_sub (L' := [some (.ref (E.1.heap.size + x0)), some (.ref (E.1.heap.size + x1)), none, none, some (.int 2), none, none, none]) ⟨rfl, rfl, rfl, trivial⟩ ?_
          exact j_543 σ289 x0 x1 2 hV
      replace hV := hV.2 hc5
      refine z_lookup (tgt := 543) (off := 144) hC dX5_clause_399 rfl (by show Op.lookupswitch.offset [((-1354665387), 57), ((-891990013), 72), (3521, 102), (97739, 132), (107877, 117), (110182, 87)] 144 _ = 144; rw [lv_osw (a := (-1354665387)) hc0 (by decide)]; rw [lv_osw (a := (-891990013)) hc1 (by decide)]; rw [lv_osw (a := 3521) hc2 (by decide)]; rw [lv_osw (a := 97739) hc3 (by decide)]; rw [lv_osw (a := 107877) hc4 (by decide)]; rw [lv_osw (a := 110182) hc5 (by decide)]; rfl) (by decide) ?_
      refine zz_sub (L' := [some (.ref (E.1.heap.size + x0)), some (.ref (E.1.heap.size + x1)), none, none, some (.int (-1)), none, none, none]) ⟨rfl, rfl, rfl, trivial⟩ ?_
      exact j_543 σ24 x0 x1 (-1) hV
    · replace hV := hV.2 hc
      obtain ⟨h292, hV⟩ := hV
      refine z_new hC cf5 dX5_clause_364 q920 q921 q140 dv_5 h292.1 h292.2.1 h292.2.2 ?_
      obtain ⟨σ293, e_σ293⟩ : ∃ z : ZS, z = sA σ (12, 0) 8 := ⟨_, rfl⟩
      replace hV := hV _ e_σ293
      rw [← e_σ293]
      refine z_dup hC dX5_clause_367 rfl ?_
      refine z_iconst (v := 3) hC dX5_clause_368 rfl ?_
      refine z_aload_n hC dX5_clause_369 rfl rfl ?_
      obtain ⟨⟨n295, h294⟩, hV⟩ := hV
      refine g_X5_26_c4 hC dX5_clause_370 h294 ?_
      refine c_X5_49 hC (by decide) dX5_clause_373 (Nat.le_of_ble_eq_true rfl) hV (fun σ297 hV => ?_)
      exact z_athrow hC dX5_clause_376 (zth_out hC (by rw [hQo]; exact Or.inr ⟨_, rfl, hV⟩))
  have j_264 : ∀ (σ : ZS) (x0 : Nat) (x1 : Nat) (s0 : Int32), V_X5_clause_264 Thr Ret σ x0 x1 s0 → zz C E NS 8 σ 264 [some (.ref (E.1.heap.size + x0)), some (.ref (E.1.heap.size + x1)), none, none, none, none, none, none] [.int s0] := by
    intro σ x0 x1 s0 hV
    unfold V_X5_clause_264 at hV
    refine z_istore_n hC dX5_clause_264 rfl (Nat.le_of_ble_eq_true rfl) rfl rfl ?_
    refine z_goto (tgt := 360) hC dX5_clause_265 (by decide) ?_
    refine zz_sub (L' := [some (.ref (E.1.heap.size + x0)), some (.ref (E.1.heap.size + x1)), some (.int s0), none, none, none, none, none]) ⟨rfl, rfl, rfl, trivial⟩ ?_
    exact j_360 σ x0 x1 s0 hV
  have j_259 : ∀ (σ : ZS) (x0 : Nat) (x1 : Nat), V_X5_clause_259 Thr Ret σ x0 x1 → zz C E NS 8 σ 259 [some (.ref (E.1.heap.size + x0)), some (.ref (E.1.heap.size + x1)), none, none, none, none, none, none] [] := by
    intro σ x0 x1 hV
    unfold V_X5_clause_259 at hV
    refine z_iconst (v := 1) hC dX5_clause_259 rfl ?_
    refine z_goto (tgt := 264) hC dX5_clause_260 (by decide) ?_
    refine zz_sub (L' := [some (.ref (E.1.heap.size + x0)), some (.ref (E.1.heap.size + x1)), none, none, none, none, none, none]) ⟨rfl, rfl, trivial⟩ ?_
    exact j_264 σ x0 x1 1 hV
  have j_292 : ∀ (σ : ZS) (x0 : Nat) (x1 : Nat) (s0 : Int32), V_X5_clause_292 Thr Ret σ x0 x1 s0 → zz C E NS 8 σ 292 [some (.ref (E.1.heap.size + x0)), some (.ref (E.1.heap.size + x1)), none, none, none, none, none, none] [.int s0] := by
    intro σ x0 x1 s0 hV
    unfold V_X5_clause_292 at hV
    refine z_istore_n hC dX5_clause_292 rfl (Nat.le_of_ble_eq_true rfl) rfl rfl ?_
    refine z_goto (tgt := 360) hC dX5_clause_293 (by decide) ?_
    refine zz_sub (L' := [some (.ref (E.1.heap.size + x0)), some (.ref (E.1.heap.size + x1)), some (.int s0), none, none, none, none, none]) ⟨rfl, rfl, rfl, trivial⟩ ?_
    exact j_360 σ x0 x1 s0 hV
  have j_287 : ∀ (σ : ZS) (x0 : Nat) (x1 : Nat), V_X5_clause_287 Thr Ret σ x0 x1 → zz C E NS 8 σ 287 [some (.ref (E.1.heap.size + x0)), some (.ref (E.1.heap.size + x1)), none, none, none, none, none, none] [] := by
    intro σ x0 x1 hV
    unfold V_X5_clause_287 at hV
    refine z_iconst (v := 1) hC dX5_clause_287 rfl ?_
    refine z_goto (tgt := 292) hC dX5_clause_288 (by decide) ?_
    refine zz_sub (L' := [some (.ref (E.1.heap.size + x0)), some (.ref (E.1.heap.size + x1)), none, none, none, none, none, none]) ⟨rfl, rfl, trivial⟩ ?_
    exact j_292 σ x0 x1 1 hV
  have j_320 : ∀ (σ : ZS) (x0 : Nat) (x1 : Nat) (s0 : Int32), V_X5_clause_320 Thr Ret σ x0 x1 s0 → zz C E NS 8 σ 320 [some (.ref (E.1.heap.size + x0)), some (.ref (E.1.heap.size + x1)), none, none, none, none, none, none] [.int s0] := by
    intro σ x0 x1 s0 hV
    unfold V_X5_clause_320 at hV
    refine z_istore_n hC dX5_clause_320 rfl (Nat.le_of_ble_eq_true rfl) rfl rfl ?_
    refine z_goto (tgt := 360) hC dX5_clause_321 (by decide) ?_
    refine zz_sub (L' := [some (.ref (E.1.heap.size + x0)), some (.ref (E.1.heap.size + x1)), some (.int s0), none, none, none, none, none]) ⟨rfl, rfl, rfl, trivial⟩ ?_
    exact j_360 σ x0 x1 s0 hV
  have j_315 : ∀ (σ : ZS) (x0 : Nat) (x1 : Nat), V_X5_clause_315 Thr Ret σ x0 x1 → zz C E NS 8 σ 315 [some (.ref (E.1.heap.size + x0)), some (.ref (E.1.heap.size + x1)), none, none, none, none, none, none] [] := by
    intro σ x0 x1 hV
    unfold V_X5_clause_315 at hV
    refine z_iconst (v := 1) hC dX5_clause_315 rfl ?_
    refine z_goto (tgt := 320) hC dX5_clause_316 (by decide) ?_
    refine zz_sub (L' := [some (.ref (E.1.heap.size + x0)), some (.ref (E.1.heap.size + x1)), none, none, none, none, none, none]) ⟨rfl, rfl, trivial⟩ ?_
    exact j_320 σ x0 x1 1 hV
  have j_348 : ∀ (σ : ZS) (x0 : Nat) (x1 : Nat) (s0 : Int32), V_X5_clause_348 Thr Ret σ x0 x1 s0 → zz C E NS 8 σ 348 [some (.ref (E.1.heap.size + x0)), some (.ref (E.1.heap.size + x1)), none, none, none, none, none, none] [.int s0] := by
    intro σ x0 x1 s0 hV
    unfold V_X5_clause_348 at hV
    refine z_istore_n hC dX5_clause_348 rfl (Nat.le_of_ble_eq_true rfl) rfl rfl ?_
    refine z_goto (tgt := 360) hC dX5_clause_349 (by decide) ?_
    refine zz_sub (L' := [some (.ref (E.1.heap.size + x0)), some (.ref (E.1.heap.size + x1)), some (.int s0), none, none, none, none, none]) ⟨rfl, rfl, rfl, trivial⟩ ?_
    exact j_360 σ x0 x1 s0 hV
  have j_343 : ∀ (σ : ZS) (x0 : Nat) (x1 : Nat), V_X5_clause_343 Thr Ret σ x0 x1 → zz C E NS 8 σ 343 [some (.ref (E.1.heap.size + x0)), some (.ref (E.1.heap.size + x1)), none, none, none, none, none, none] [] := by
    intro σ x0 x1 hV
    unfold V_X5_clause_343 at hV
    refine z_iconst (v := 1) hC dX5_clause_343 rfl ?_
    refine z_goto (tgt := 348) hC dX5_clause_344 (by decide) ?_
    refine zz_sub (L' := [some (.ref (E.1.heap.size + x0)), some (.ref (E.1.heap.size + x1)), none, none, none, none, none, none]) ⟨rfl, rfl, trivial⟩ ?_
    exact j_348 σ x0 x1 1 hV
  have j_352 : ∀ (σ : ZS) (x0 : Nat) (x1 : Nat) (x2 : Int32), V_X5_clause_352 Thr Ret σ x0 x1 x2 → zz C E NS 8 σ 352 [some (.ref (E.1.heap.size + x0)), some (.ref (E.1.heap.size + x1)), some (.int x2), none, none, none, none, none] [] := by
    intro σ x0 x1 x2 hV
    unfold V_X5_clause_352 at hV
    refine z_goto (tgt := 360) hC dX5_clause_352 (by decide) ?_
    refine zz_sub (L' := [some (.ref (E.1.heap.size + x0)), some (.ref (E.1.heap.size + x1)), some (.int x2), none, none, none, none, none]) ⟨rfl, rfl, rfl, trivial⟩ ?_
    exact j_360 σ x0 x1 x2 hV
  have j_195 : ∀ (σ : ZS) (x0 : Nat) (x1 : Nat) (x2 : Int32) (x4 : Int32), V_X5_clause_195 Thr Ret σ x0 x1 x2 x4 → zz C E NS 8 σ 195 [some (.ref (E.1.heap.size + x0)), some (.ref (E.1.heap.size + x1)), some (.int x2), none, some (.int x4), none, none, none] [] := by
    intro σ x0 x1 x2 x4 hV
    unfold V_X5_clause_195 at hV
    refine z_iload hC dX5_clause_195 rfl ?_
    by_cases hc0 : x4 = 0
    · replace hV := hV.1 hc0
      refine z_tableIn (tgt := 240) (off := 43) hC dX5_clause_197 (by rw [hc0]; decide) (by rw [hc0]; decide) (by rw [hc0]; rfl) (by decide) ?_
      refine z_iload_n hC dX5_clause_240 rfl rfl ?_
      refine z_if_ne (tgt := 259) hC dX5_clause_241 (by decide) (fun hc => ?_) (fun hc => ?_)
      · replace hV := hV.2 hc
        refine zz_sub (L' := [some (.ref (E.1.heap.size + x0)), some (.ref (E.1.heap.size + x1)), none, none, none, none, none, none]) ⟨rfl, rfl, trivial⟩ ?_
        exact j_259 σ x0 x1 hV
      · replace hV := hV.1 hc
        refine z_aload_n hC dX5_clause_244 rfl rfl ?_
        obtain ⟨⟨n299, h298⟩, hV⟩ := hV
        refine g_X5_12_c4 hC dX5_clause_245 h298 ?_
        obtain ⟨h300, hV⟩ := hV
        refine zz_at rfl (by rw [pvo h300]) ?_
        obtain ⟨⟨n302, h301⟩, hV⟩ := hV
        refine g_X5_65_c1 hC dX5_clause_248 h301 ?_
        obtain ⟨h303, hV⟩ := hV
        refine zz_at rfl (by rw [pvo h303]) ?_
        obtain ⟨⟨n307, h306⟩, hV⟩ := hV
        refine c_X5_69 hC (by decide) dX5_clause_251 (Nat.le_of_ble_eq_true rfl) h306 hV (fun r304 σ305 hV => ?_)
        refine z_bipush (v := 16) hC dX5_clause_254 rfl ?_
        refine z_icmp_ne (tgt := 263) hC dX5_clause_256 (by decide) (fun hc => ?_) (fun hc => ?_)
        · replace hV := hV.2 hc
          refine z_iconst (v := 0) hC dX5_clause_263 rfl ?_
          refine zz_sub (L' := [some (.ref (E.1.heap.size + x0)), some (.ref (E.1.heap.size + x1)), none, none, none, none, none, none]) ⟨rfl, rfl, trivial⟩ ?_
          exact j_264 σ305 x0 x1 0 hV
        · replace hV := hV.1 hc
          refine zz_sub (L' := [some (.ref (E.1.heap.size + x0)), some (.ref (E.1.heap.size + x1)), none, none, none, none, none, none]) ⟨rfl, rfl, trivial⟩ ?_
          exact j_259 σ305 x0 x1 hV
    replace hV := hV.2 hc0
    by_cases hc1 : x4 = 1
    · replace hV := hV.1 hc1
      refine z_tableIn (tgt := 268) (off := 71) hC dX5_clause_197 (by rw [hc1]; decide) (by rw [hc1]; decide) (by rw [hc1]; rfl) (by decide) ?_
      refine z_iload_n hC dX5_clause_268 rfl rfl ?_
      refine z_if_ne (tgt := 287) hC dX5_clause_269 (by decide) (fun hc => ?_) (fun hc => ?_)
      · replace hV := hV.2 hc
        refine zz_sub (L' := [some (.ref (E.1.heap.size + x0)), some (.ref (E.1.heap.size + x1)), none, none, none, none, none, none]) ⟨rfl, rfl, trivial⟩ ?_
        exact j_287 σ x0 x1 hV
      · replace hV := hV.1 hc
        refine z_aload_n hC dX5_clause_272 rfl rfl ?_
        obtain ⟨⟨n309, h308⟩, hV⟩ := hV
        refine g_X5_12_c4 hC dX5_clause_273 h308 ?_
        obtain ⟨h310, hV⟩ := hV
        refine zz_at rfl (by rw [pvo h310]) ?_
        obtain ⟨⟨n312, h311⟩, hV⟩ := hV
        refine g_X5_76_c1 hC dX5_clause_276 h311 ?_
        obtain ⟨h313, hV⟩ := hV
        refine zz_at rfl (by rw [pvo h313]) ?_
        obtain ⟨⟨n317, h316⟩, hV⟩ := hV
        refine c_X5_69 hC (by decide) dX5_clause_279 (Nat.le_of_ble_eq_true rfl) h316 hV (fun r314 σ315 hV => ?_)
        refine z_bipush (v := 24) hC dX5_clause_282 rfl ?_
        refine z_icmp_ne (tgt := 291) hC dX5_clause_284 (by decide) (fun hc => ?_) (fun hc => ?_)
        · replace hV := hV.2 hc
          refine z_iconst (v := 0) hC dX5_clause_291 rfl ?_
          refine zz_sub (L' := [some (.ref (E.1.heap.size + x0)), some (.ref (E.1.heap.size + x1)), none, none, none, none, none, none]) ⟨rfl, rfl, trivial⟩ ?_
          exact j_292 σ315 x0 x1 0 hV
        · replace hV := hV.1 hc
          refine zz_sub (L' := [some (.ref (E.1.heap.size + x0)), some (.ref (E.1.heap.size + x1)), none, none, none, none, none, none]) ⟨rfl, rfl, trivial⟩ ?_
          exact j_287 σ315 x0 x1 hV
    replace hV := hV.2 hc1
    by_cases hc2 : x4 = 2
    · replace hV := hV.1 hc2
      refine z_tableIn (tgt := 296) (off := 99) hC dX5_clause_197 (by rw [hc2]; decide) (by rw [hc2]; decide) (by rw [hc2]; rfl) (by decide) ?_
      refine z_iload_n hC dX5_clause_296 rfl rfl ?_
      refine z_if_ne (tgt := 315) hC dX5_clause_297 (by decide) (fun hc => ?_) (fun hc => ?_)
      · replace hV := hV.2 hc
        refine zz_sub (L' := [some (.ref (E.1.heap.size + x0)), some (.ref (E.1.heap.size + x1)), none, none, none, none, none, none]) ⟨rfl, rfl, trivial⟩ ?_
        exact j_315 σ x0 x1 hV
      · replace hV := hV.1 hc
        refine z_aload_n hC dX5_clause_300 rfl rfl ?_
        obtain ⟨⟨n319, h318⟩, hV⟩ := hV
        refine g_X5_12_c4 hC dX5_clause_301 h318 ?_
        obtain ⟨h320, hV⟩ := hV
        refine zz_at rfl (by rw [pvo h320]) ?_
        obtain ⟨⟨n322, h321⟩, hV⟩ := hV
        refine g_X5_119_c1 hC dX5_clause_304 h321 ?_
        obtain ⟨h323, hV⟩ := hV
        refine zz_at rfl (by rw [pvo h323]) ?_
        obtain ⟨⟨n327, h326⟩, hV⟩ := hV
        refine c_X5_69 hC (by decide) dX5_clause_307 (Nat.le_of_ble_eq_true rfl) h326 hV (fun r324 σ325 hV => ?_)
        refine z_bipush (v := 12) hC dX5_clause_310 rfl ?_
        refine z_icmp_ne (tgt := 319) hC dX5_clause_312 (by decide) (fun hc => ?_) (fun hc => ?_)
        · replace hV := hV.2 hc
          refine z_iconst (v := 0) hC dX5_clause_319 rfl ?_
          refine zz_sub (L' := [some (.ref (E.1.heap.size + x0)), some (.ref (E.1.heap.size + x1)), none, none, none, none, none, none]) ⟨rfl, rfl, trivial⟩ ?_
          exact j_320 σ325 x0 x1 0 hV
        · replace hV := hV.1 hc
          refine zz_sub (L' := [some (.ref (E.1.heap.size + x0)), some (.ref (E.1.heap.size + x1)), none, none, none, none, none, none]) ⟨rfl, rfl, trivial⟩ ?_
          exact j_315 σ325 x0 x1 hV
    replace hV := hV.2 hc2
    by_cases hc3 : x4 = 3
    · replace hV := hV.1 hc3
      refine z_tableIn (tgt := 324) (off := 127) hC dX5_clause_197 (by rw [hc3]; decide) (by rw [hc3]; decide) (by rw [hc3]; rfl) (by decide) ?_
      refine z_iload_n hC dX5_clause_324 rfl rfl ?_
      refine z_if_ne (tgt := 343) hC dX5_clause_325 (by decide) (fun hc => ?_) (fun hc => ?_)
      · replace hV := hV.2 hc
        refine zz_sub (L' := [some (.ref (E.1.heap.size + x0)), some (.ref (E.1.heap.size + x1)), none, none, none, none, none, none]) ⟨rfl, rfl, trivial⟩ ?_
        exact j_343 σ x0 x1 hV
      · replace hV := hV.1 hc
        refine z_aload_n hC dX5_clause_328 rfl rfl ?_
        obtain ⟨⟨n329, h328⟩, hV⟩ := hV
        refine g_X5_12_c4 hC dX5_clause_329 h328 ?_
        obtain ⟨h330, hV⟩ := hV
        refine zz_at rfl (by rw [pvo h330]) ?_
        obtain ⟨⟨n332, h331⟩, hV⟩ := hV
        refine g_X5_122_c1 hC dX5_clause_332 h331 ?_
        refine c_X5_125 hC (by decide) dX5_clause_335 (Nat.le_of_ble_eq_true rfl) hV (fun r333 σ334 hV => ?_)
        refine z_bipush (v := 10) hC dX5_clause_338 rfl ?_
        refine z_icmp_ne (tgt := 347) hC dX5_clause_340 (by decide) (fun hc => ?_) (fun hc => ?_)
        · replace hV := hV.2 hc
          refine z_iconst (v := 0) hC dX5_clause_347 rfl ?_
          refine zz_sub (L' := [some (.ref (E.1.heap.size + x0)), some (.ref (E.1.heap.size + x1)), none, none, none, none, none, none]) ⟨rfl, rfl, trivial⟩ ?_
          exact j_348 σ334 x0 x1 0 hV
        · replace hV := hV.1 hc
          refine zz_sub (L' := [some (.ref (E.1.heap.size + x0)), some (.ref (E.1.heap.size + x1)), none, none, none, none, none, none]) ⟨rfl, rfl, trivial⟩ ?_
          exact j_343 σ334 x0 x1 hV
    replace hV := hV.2 hc3
    by_cases hc4 : x4 = 4
    · replace hV := hV.1 hc4
      refine z_tableIn (tgt := 352) (off := 155) hC dX5_clause_197 (by rw [hc4]; decide) (by rw [hc4]; decide) (by rw [hc4]; rfl) (by decide) ?_
      refine zz_sub (L' := [some (.ref (E.1.heap.size + x0)), some (.ref (E.1.heap.size + x1)), some (.int x2), none, none, none, none, none]) ⟨rfl, rfl, rfl, trivial⟩ ?_
      exact j_352 σ x0 x1 x2 hV
    replace hV := hV.2 hc4
    by_cases hc5 : x4 = 5
    · replace hV := hV.1 hc5
      refine z_tableIn (tgt := 352) (off := 155) hC dX5_clause_197 (by rw [hc5]; decide) (by rw [hc5]; decide) (by rw [hc5]; rfl) (by decide) ?_
      refine zz_sub (L' := [some (.ref (E.1.heap.size + x0)), some (.ref (E.1.heap.size + x1)), some (.int x2), none, none, none, none, none]) ⟨rfl, rfl, rfl, trivial⟩ ?_
      exact j_352 σ x0 x1 x2 hV
    replace hV := hV.2 hc5
    by_cases hc6 : x4 = 6
    · replace hV := hV.1 hc6
      refine z_tableIn (tgt := 352) (off := 155) hC dX5_clause_197 (by rw [hc6]; decide) (by rw [hc6]; decide) (by rw [hc6]; rfl) (by decide) ?_
      refine zz_sub (L' := [some (.ref (E.1.heap.size + x0)), some (.ref (E.1.heap.size + x1)), some (.int x2), none, none, none, none, none]) ⟨rfl, rfl, rfl, trivial⟩ ?_
      exact j_352 σ x0 x1 x2 hV
    replace hV := hV.2 hc6
    refine z_tableOut (tgt := 355) hC dX5_clause_197 (tb_out (lo := 0) (hi := 6) (x := x4) (fun i h1 h2 => ?_)) (by decide) ?_
    · rcases (show i = 0 ∨ i = 1 ∨ i = 2 ∨ i = 3 ∨ i = 4 ∨ i = 5 ∨ i = 6 by omega) with rfl | rfl | rfl | rfl | rfl | rfl | rfl
      · exact fun q => hc0 (Int32.toInt_inj.mp (q.trans (by decide)))
      · exact fun q => hc1 (Int32.toInt_inj.mp (q.trans (by decide)))
      · exact fun q => hc2 (Int32.toInt_inj.mp (q.trans (by decide)))
      · exact fun q => hc3 (Int32.toInt_inj.mp (q.trans (by decide)))
      · exact fun q => hc4 (Int32.toInt_inj.mp (q.trans (by decide)))
      · exact fun q => hc5 (Int32.toInt_inj.mp (q.trans (by decide)))
      · exact fun q => hc6 (Int32.toInt_inj.mp (q.trans (by decide)))
    · refine z_aload_n hC dX5_clause_355 rfl rfl ?_
      obtain ⟨⟨n338, h337⟩, hV⟩ := hV
      refine c_X5_52 hC (by decide) dX5_clause_356 (Nat.le_of_ble_eq_true rfl) h337 hV (fun r335 σ336 hV => ?_)
      obtain ⟨h339, hV⟩ := hV
      refine zz_at rfl (by rw [pvo h339]) ?_
      exact z_athrow hC dX5_clause_359 (zth_out hC (by rw [hQo]; exact Or.inr ⟨_, rfl, hV⟩))
  have j_17 : ∀ (σ : ZS) (x0 : Nat) (x1 : Nat) (s0 : Int32), V_X5_clause_17 Thr Ret σ x0 x1 s0 → zz C E NS 8 σ 17 [some (.ref (E.1.heap.size + x0)), some (.ref (E.1.heap.size + x1)), none, none, none, none, none, none] [.int s0] := by
    intro σ x0 x1 s0 hV
    unfold V_X5_clause_17 at hV
    refine z_istore_n hC dX5_clause_17 rfl (Nat.le_of_ble_eq_true rfl) rfl rfl ?_
    refine z_aload_n hC dX5_clause_18 rfl rfl ?_
    refine z_astore_n hC dX5_clause_19 rfl (Nat.le_of_ble_eq_true rfl) rfl rfl ?_
    refine z_iconst (v := (-1)) hC dX5_clause_20 rfl ?_
    refine z_istore hC dX5_clause_21 (Nat.le_of_ble_eq_true rfl) rfl rfl ?_
    refine z_aload_n hC dX5_clause_23 rfl rfl ?_
    obtain ⟨⟨n9, h8⟩, hV⟩ := hV
    refine c_X5_96 hC (by decide) dX5_clause_24 (Nat.le_of_ble_eq_true rfl) h8 hV (fun r6 σ7 hV => ?_)
    by_cases hc0 : r6 = (-1354665387)
    · replace hV := hV.1 hc0
      refine z_lookup (tgt := 92) (off := 65) hC dX5_clause_27 rfl (by rw [hc0]; rfl) (by decide) ?_
      refine z_aload_n hC dX5_clause_92 rfl rfl ?_
      refine z_ldcS (v := v101) (bs := l_corner) hC hq101 dX5_clause_93 q891 ?_
      obtain ⟨⟨n13, h12⟩, hV⟩ := hV
      refine c_X5_103 hF101 hC (by decide) dX5_clause_95 (Nat.le_of_ble_eq_true rfl) h12 hV (fun r10 σ11 hV => ?_)
      refine z_if_eq (tgt := 195) hC dX5_clause_98 (by decide) (fun hc => ?_) (fun hc => ?_)
      · replace hV := hV.1 hc
        refine zz_sub (L' := [some (.ref (E.1.heap.size + x0)), some (.ref (E.1.heap.size + x1)), some (.int s0), none, some (.int (-1)), none, none, none]) ⟨rfl, rfl, rfl, rfl, trivial⟩ ?_
        exact j_195 σ11 x0 x1 s0 (-1) hV
      · replace hV := hV.2 hc
        refine z_iconst (v := 0) hC dX5_clause_101 rfl ?_
        refine z_istore hC dX5_clause_102 (Nat.le_of_ble_eq_true rfl) rfl rfl ?_
        refine z_goto (tgt := 195) hC dX5_clause_104 (by decide) ?_
        refine zz_sub (L' := [some (.ref (E.1.heap.size + x0)), some (.ref (E.1.heap.size + x1)), some (.int s0), none, some (.int 0), none, none, none]) ⟨rfl, rfl, rfl, rfl, trivial⟩ ?_
        exact j_195 σ11 x0 x1 s0 0 hV
    replace hV := hV.2 hc0
    by_cases hc1 : r6 = (-891990013)
    · replace hV := hV.1 hc1
      refine z_lookup (tgt := 107) (off := 80) hC dX5_clause_27 rfl (by rw [hc1]; rfl) (by decide) ?_
      refine z_aload_n hC dX5_clause_107 rfl rfl ?_
      refine z_ldcS (v := v107) (bs := l_street) hC hq107 dX5_clause_108 q900 ?_
      obtain ⟨⟨n343, h342⟩, hV⟩ := hV
      refine c_X5_103 hF107 hC (by decide) dX5_clause_110 (Nat.le_of_ble_eq_true rfl) h342 hV (fun r340 σ341 hV => ?_)
      refine z_if_eq (tgt := 195) hC dX5_clause_113 (by decide) (fun hc => ?_) (fun hc => ?_)
      · replace hV := hV.1 hc
        refine zz_sub (L' := [some (.ref (E.1.heap.size + x0)), some (.ref (E.1.heap.size + x1)), some (.int s0), none, some (.int (-1)), none, none, none]) ⟨rfl, rfl, rfl, rfl, trivial⟩ ?_
        exact j_195 σ341 x0 x1 s0 (-1) hV
      · replace hV := hV.2 hc
        refine z_iconst (v := 1) hC dX5_clause_116 rfl ?_
        refine z_istore hC dX5_clause_117 (Nat.le_of_ble_eq_true rfl) rfl rfl ?_
        refine z_goto (tgt := 195) hC dX5_clause_119 (by decide) ?_
        refine zz_sub (L' := [some (.ref (E.1.heap.size + x0)), some (.ref (E.1.heap.size + x1)), some (.int s0), none, some (.int 1), none, none, none]) ⟨rfl, rfl, rfl, rfl, trivial⟩ ?_
        exact j_195 σ341 x0 x1 s0 1 hV
    replace hV := hV.2 hc1
    by_cases hc2 : r6 = 3521
    · replace hV := hV.1 hc2
      refine z_lookup (tgt := 167) (off := 140) hC dX5_clause_27 rfl (by rw [hc2]; rfl) (by decide) ?_
      refine z_aload_n hC dX5_clause_167 rfl rfl ?_
      refine z_ldcS (v := v115) (bs := l_no) hC hq115 dX5_clause_168 q904 ?_
      obtain ⟨⟨n347, h346⟩, hV⟩ := hV
      refine c_X5_103 hF115 hC (by decide) dX5_clause_170 (Nat.le_of_ble_eq_true rfl) h346 hV (fun r344 σ345 hV => ?_)
      refine z_if_eq (tgt := 195) hC dX5_clause_173 (by decide) (fun hc => ?_) (fun hc => ?_)
      · replace hV := hV.1 hc
        refine zz_sub (L' := [some (.ref (E.1.heap.size + x0)), some (.ref (E.1.heap.size + x1)), some (.int s0), none, some (.int (-1)), none, none, none]) ⟨rfl, rfl, rfl, rfl, trivial⟩ ?_
        exact j_195 σ345 x0 x1 s0 (-1) hV
      · replace hV := hV.2 hc
        refine z_iconst (v := 5) hC dX5_clause_176 rfl ?_
        refine z_istore hC dX5_clause_177 (Nat.le_of_ble_eq_true rfl) rfl rfl ?_
        refine z_goto (tgt := 195) hC dX5_clause_179 (by decide) ?_
        refine zz_sub (L' := [some (.ref (E.1.heap.size + x0)), some (.ref (E.1.heap.size + x1)), some (.int s0), none, some (.int 5), none, none, none]) ⟨rfl, rfl, rfl, rfl, trivial⟩ ?_
        exact j_195 σ345 x0 x1 s0 5 hV
    replace hV := hV.2 hc2
    by_cases hc3 : r6 = 97739
    · replace hV := hV.1 hc3
      refine z_lookup (tgt := 137) (off := 110) hC dX5_clause_27 rfl (by rw [hc3]; rfl) (by decide) ?_
      refine z_aload_n hC dX5_clause_137 rfl rfl ?_
      refine z_ldcS (v := v111) (bs := l_box) hC hq111 dX5_clause_138 q902 ?_
      obtain ⟨⟨n351, h350⟩, hV⟩ := hV
      refine c_X5_103 hF111 hC (by decide) dX5_clause_140 (Nat.le_of_ble_eq_true rfl) h350 hV (fun r348 σ349 hV => ?_)
      refine z_if_eq (tgt := 195) hC dX5_clause_143 (by decide) (fun hc => ?_) (fun hc => ?_)
      · replace hV := hV.1 hc
        refine zz_sub (L' := [some (.ref (E.1.heap.size + x0)), some (.ref (E.1.heap.size + x1)), some (.int s0), none, some (.int (-1)), none, none, none]) ⟨rfl, rfl, rfl, rfl, trivial⟩ ?_
        exact j_195 σ349 x0 x1 s0 (-1) hV
      · replace hV := hV.2 hc
        refine z_iconst (v := 3) hC dX5_clause_146 rfl ?_
        refine z_istore hC dX5_clause_147 (Nat.le_of_ble_eq_true rfl) rfl rfl ?_
        refine z_goto (tgt := 195) hC dX5_clause_149 (by decide) ?_
        refine zz_sub (L' := [some (.ref (E.1.heap.size + x0)), some (.ref (E.1.heap.size + x1)), some (.int s0), none, some (.int 3), none, none, none]) ⟨rfl, rfl, rfl, rfl, trivial⟩ ?_
        exact j_195 σ349 x0 x1 s0 3 hV
    replace hV := hV.2 hc3
    by_cases hc4 : r6 = 107877
    · replace hV := hV.1 hc4
      refine z_lookup (tgt := 182) (off := 155) hC dX5_clause_27 rfl (by rw [hc4]; rfl) (by decide) ?_
      refine z_aload_n hC dX5_clause_182 rfl rfl ?_
      refine z_ldcS (v := v117) (bs := l_may) hC hq117 dX5_clause_183 q905 ?_
      obtain ⟨⟨n355, h354⟩, hV⟩ := hV
      refine c_X5_103 hF117 hC (by decide) dX5_clause_185 (Nat.le_of_ble_eq_true rfl) h354 hV (fun r352 σ353 hV => ?_)
      refine z_if_eq (tgt := 195) hC dX5_clause_188 (by decide) (fun hc => ?_) (fun hc => ?_)
      · replace hV := hV.1 hc
        refine zz_sub (L' := [some (.ref (E.1.heap.size + x0)), some (.ref (E.1.heap.size + x1)), some (.int s0), none, some (.int (-1)), none, none, none]) ⟨rfl, rfl, rfl, rfl, trivial⟩ ?_
        exact j_195 σ353 x0 x1 s0 (-1) hV
      · replace hV := hV.2 hc
        refine z_bipush (v := 6) hC dX5_clause_191 rfl ?_
        refine z_istore hC dX5_clause_193 (Nat.le_of_ble_eq_true rfl) rfl rfl ?_
        refine zz_sub (L' := [some (.ref (E.1.heap.size + x0)), some (.ref (E.1.heap.size + x1)), some (.int s0), none, some (.int 6), none, none, none]) ⟨rfl, rfl, rfl, rfl, trivial⟩ ?_
        exact j_195 σ353 x0 x1 s0 6 hV
    replace hV := hV.2 hc4
    by_cases hc5 : r6 = 110182
    · replace hV := hV.1 hc5
      refine z_lookup (tgt := 152) (off := 125) hC dX5_clause_27 rfl (by rw [hc5]; rfl) (by decide) ?_
      refine z_aload_n hC dX5_clause_152 rfl rfl ?_
      refine z_ldcS (v := v113) (bs := l_one) hC hq113 dX5_clause_153 q903 ?_
      obtain ⟨⟨n359, h358⟩, hV⟩ := hV
      refine c_X5_103 hF113 hC (by decide) dX5_clause_155 (Nat.le_of_ble_eq_true rfl) h358 hV (fun r356 σ357 hV => ?_)
      refine z_if_eq (tgt := 195) hC dX5_clause_158 (by decide) (fun hc => ?_) (fun hc => ?_)
      · replace hV := hV.1 hc
        refine zz_sub (L' := [some (.ref (E.1.heap.size + x0)), some (.ref (E.1.heap.size + x1)), some (.int s0), none, some (.int (-1)), none, none, none]) ⟨rfl, rfl, rfl, rfl, trivial⟩ ?_
        exact j_195 σ357 x0 x1 s0 (-1) hV
      · replace hV := hV.2 hc
        refine z_iconst (v := 4) hC dX5_clause_161 rfl ?_
        refine z_istore hC dX5_clause_162 (Nat.le_of_ble_eq_true rfl) rfl rfl ?_
        refine z_goto (tgt := 195) hC dX5_clause_164 (by decide) ?_
        refine zz_sub (L' := [some (.ref (E.1.heap.size + x0)), some (.ref (E.1.heap.size + x1)), some (.int s0), none, some (.int 4), none, none, none]) ⟨rfl, rfl, rfl, rfl, trivial⟩ ?_
        exact j_195 σ357 x0 x1 s0 4 hV
    replace hV := hV.2 hc5
    by_cases hc6 : r6 = 108508794
    · replace hV := hV.1 hc6
      refine z_lookup (tgt := 122) (off := 95) hC dX5_clause_27 rfl (by rw [hc6]; rfl) (by decide) ?_
      refine z_aload_n hC dX5_clause_122 rfl rfl ?_
      refine z_ldcS (v := v109) (bs := l_rider) hC hq109 dX5_clause_123 q901 ?_
      obtain ⟨⟨n363, h362⟩, hV⟩ := hV
      refine c_X5_103 hF109 hC (by decide) dX5_clause_125 (Nat.le_of_ble_eq_true rfl) h362 hV (fun r360 σ361 hV => ?_)
      refine z_if_eq (tgt := 195) hC dX5_clause_128 (by decide) (fun hc => ?_) (fun hc => ?_)
      · replace hV := hV.1 hc
        refine zz_sub (L' := [some (.ref (E.1.heap.size + x0)), some (.ref (E.1.heap.size + x1)), some (.int s0), none, some (.int (-1)), none, none, none]) ⟨rfl, rfl, rfl, rfl, trivial⟩ ?_
        exact j_195 σ361 x0 x1 s0 (-1) hV
      · replace hV := hV.2 hc
        refine z_iconst (v := 2) hC dX5_clause_131 rfl ?_
        refine z_istore hC dX5_clause_132 (Nat.le_of_ble_eq_true rfl) rfl rfl ?_
        refine z_goto (tgt := 195) hC dX5_clause_134 (by decide) ?_
        refine zz_sub (L' := [some (.ref (E.1.heap.size + x0)), some (.ref (E.1.heap.size + x1)), some (.int s0), none, some (.int 2), none, none, none]) ⟨rfl, rfl, rfl, rfl, trivial⟩ ?_
        exact j_195 σ361 x0 x1 s0 2 hV
    replace hV := hV.2 hc6
    refine z_lookup (tgt := 195) (off := 168) hC dX5_clause_27 rfl (by show Op.lookupswitch.offset [((-1354665387), 65), ((-891990013), 80), (3521, 140), (97739, 110), (107877, 155), (110182, 125), (108508794, 95)] 168 _ = 168; rw [lv_osw (a := (-1354665387)) hc0 (by decide)]; rw [lv_osw (a := (-891990013)) hc1 (by decide)]; rw [lv_osw (a := 3521) hc2 (by decide)]; rw [lv_osw (a := 97739) hc3 (by decide)]; rw [lv_osw (a := 107877) hc4 (by decide)]; rw [lv_osw (a := 110182) hc5 (by decide)]; rw [lv_osw (a := 108508794) hc6 (by decide)]; rfl) (by decide) ?_
    refine zz_sub (L' := [some (.ref (E.1.heap.size + x0)), some (.ref (E.1.heap.size + x1)), some (.int s0), none, some (.int (-1)), none, none, none]) ⟨rfl, rfl, rfl, rfl, trivial⟩ ?_
    exact j_195 σ7 x0 x1 s0 (-1) hV
  refine z_aload_n hC dX5_clause_0 rfl rfl ?_
  obtain ⟨⟨n2, h1⟩, hV⟩ := hV
  refine g_X5_12_c4 hC dX5_clause_1 h1 ?_
  obtain ⟨h3, hV⟩ := hV
  refine zz_at rfl (by rw [pvo h3]) ?_
  obtain ⟨⟨n5, h4⟩, hV⟩ := hV
  refine g_X5_90_c1 hC dX5_clause_4 h4 ?_
  refine z_bipush (v := 60) hC dX5_clause_7 rfl ?_
  refine z_icmp_ne (tgt := 16) hC dX5_clause_9 (by decide) (fun hc => ?_) (fun hc => ?_)
  · replace hV := hV.2 hc
    refine z_iconst (v := 0) hC dX5_clause_16 rfl ?_
    refine zz_sub (L' := [some (.ref (E.1.heap.size + a0)), some (.ref (E.1.heap.size + a1)), none, none, none, none, none, none]) ⟨rfl, rfl, trivial⟩ ?_
    exact j_17 σ a0 a1 0 hV
  · replace hV := hV.1 hc
    refine z_iconst (v := 1) hC dX5_clause_12 rfl ?_
    refine z_goto (tgt := 17) hC dX5_clause_13 (by decide) ?_
    refine zz_sub (L' := [some (.ref (E.1.heap.size + a0)), some (.ref (E.1.heap.size + a1)), none, none, none, none, none, none]) ⟨rfl, rfl, trivial⟩ ?_
    exact j_17 σ a0 a1 1 hV
theorem p_X5_90_c1 {C : ZC} {E : ZE} {cc : ByteArray} {n nL pc d a x : Nat} {nm : String} {ret : Option FieldType} {hh : List (Nat × Nat × Nat × Nat)} {σ : ZS} {L : List (Option Value)} {st : List Value} {v : Int32} (hC : Cx C E cc nL "RightTurns$Reader" nm ret hh d) (hd : decode cc pc = .ok (.putfield 90, 3)) (hk : kK n σ a = (1 + 7, x)) (k : zz C E n nL (sI σ a 9 v) (pc + 3) L st) : zz C E n nL σ pc L (.int v :: .ref (E.1.heap.size + a) :: st) :=
  z_putI hC cf1 hd hk (k := 9) (by decide) (Or.inr ⟨_, q529⟩) (Or.inl rfl) (Or.inl rfl) rfl rfl rfl k
theorem cw_X5_word : CodeW yX5_word (ws_ yX5_word cX5_word 3 (Option.some (FieldType.object "java/lang/String"))) 3 := ⟨fun w h => (List.mem_cons.mp h).elim (fun e => e ▸ q799) id, Or.inl ⟨_, _, q799⟩, q139, by decide, by decide⟩
theorem c_X5_79 {C : ZC} {E : ZE} {cc : ByteArray} {nL pc d : Nat} {nm : String} {ret : Option FieldType} {hh : List (Nat × Nat × Nat × Nat)} {σ : ZS} {L : List (Option Value)} {st : List Value} {a0 : Nat} {Ret : ZR → ZS → Prop} (hC : Cx C E cc nL "RightTurns$Reader" nm ret hh d) (hdd : 9 + 1 ≤ d) (hd : decode cc pc = .ok (.invokevirtual 79, 3)) (hW : (st.map fun v => v.category).sum ≤ 8) {x : Nat} (hk : kK NS σ a0 = (4 + 7, x)) (hV : wp_X5_word σ a0 Ret) (k : ∀ r σ', Ret r σ' → zz C E NS nL σ' (pc + 3) L (pv E.1.heap.size r :: st)) : zz C E NS nL σ pc L (.ref (E.1.heap.size + a0) :: st) :=
  z_callVG hC cf4 cw_X5_word hdd (by decide) (mz_X5_word (cxE hC) hV) hd hk q796 q798 qs3 (np := 0) rfl rfl hW rfl (kR k)
theorem cw_X5_clause : CodeW yX5_clause (ws_ yX5_clause cX5_clause 8 none) 8 := ⟨fun w h => (List.mem_cons.mp h).elim (fun e => e ▸ q829) id, Or.inl ⟨_, _, q829⟩, q139, by decide, by decide⟩
theorem c_X5_82 {C : ZC} {E : ZE} {cc : ByteArray} {nL pc d : Nat} {nm : String} {ret : Option FieldType} {hh : List (Nat × Nat × Nat × Nat)} {σ : ZS} {L : List (Option Value)} {st : List Value} {a0 : Nat} {a1 : Nat} {Ret : ZS → Prop} {Thr : Nat → ZS → Prop} (hC : Cx C E cc nL "RightTurns$Reader" nm ret hh d) (hdd : 8 + 1 ≤ d) (hd : decode cc pc = .ok (.invokevirtual 82, 3)) (hW : (st.map fun v => v.category).sum ≤ 8) {x : Nat} (hk : kK NS σ a0 = (4 + 7, x)) (hV : wp_X5_clause σ a0 a1 Thr Ret) (k : ∀ σ', Ret σ' → zz C E NS nL σ' (pc + 3) L st) (kt : ∀ a σ', Thr a σ' → zth C E NS nL σ' pc L st (E.1.heap.size + a)) : zz C E NS nL σ pc L (.ref (E.1.heap.size + a1) :: .ref (E.1.heap.size + a0) :: st) :=
  z_callVG hC cf4 cw_X5_clause hdd (by decide) (mz_X5_clause (cxE hC) hV) hd hk q826 q828 qs4 (np := 1) rfl rfl hW rfl (kT (kV k) kt)
theorem cw_X5_need : CodeW yX5_need (ws_ yX5_need cX5_need 2 none) 2 := ⟨fun w h => (List.mem_cons.mp h).elim (fun e => e ▸ q1097) id, Or.inl ⟨_, _, q1097⟩, q139, by decide, by decide⟩
theorem c_X5_86 {C : ZC} {E : ZE} {cc : ByteArray} {nL pc d : Nat} {nm : String} {ret : Option FieldType} {hh : List (Nat × Nat × Nat × Nat)} {σ : ZS} {L : List (Option Value)} {st : List Value} {a0 : Nat} {a1 : Int32} {Ret : ZS → Prop} {Thr : Nat → ZS → Prop} (hC : Cx C E cc nL "RightTurns$Reader" nm ret hh d) (hdd : 5 + 1 ≤ d) (hd : decode cc pc = .ok (.invokevirtual 86, 3)) (hW : (st.map fun v => v.category).sum ≤ 8) {x : Nat} (hk : kK NS σ a0 = (4 + 7, x)) (hV : wp_X5_need σ a0 a1 Thr Ret) (k : ∀ σ', Ret σ' → zz C E NS nL σ' (pc + 3) L st) (kt : ∀ a σ', Thr a σ' → zth C E NS nL σ' pc L st (E.1.heap.size + a)) : zz C E NS nL σ pc L (.int a1 :: .ref (E.1.heap.size + a0) :: st) :=
  z_callVG hC cf4 cw_X5_need hdd (by decide) (mz_X5_need (cxE hC) hV) hd hk q1094 q1096 qs13 (np := 1) rfl rfl hW rfl (kT (kV k) kt)
theorem cw_X2_looks : CodeW yX2_looks (ws_ yX2_looks cX2_looks 5 none) 5 := ⟨fun w h => (List.mem_cons.mp h).elim (fun e => e ▸ q1101) id, Or.inl ⟨_, _, q1101⟩, q117, by decide, by decide⟩
theorem c_X5_93 {C : ZC} {E : ZE} {cc : ByteArray} {nL pc d : Nat} {nm : String} {ret : Option FieldType} {hh : List (Nat × Nat × Nat × Nat)} {σ : ZS} {L : List (Option Value)} {st : List Value} {a0 : Nat} {Ret : ZS → Prop} (hC : Cx C E cc nL "RightTurns$Reader" nm ret hh d) (hdd : 7 + 1 ≤ d) (hd : decode cc pc = .ok (.invokevirtual 93, 3)) (hW : (st.map fun v => v.category).sum ≤ 8) {x : Nat} (hk : kK NS σ a0 = (1 + 7, x)) (hV : wp_X2_looks σ a0 Ret) (k : ∀ σ', Ret σ' → zz C E NS nL σ' (pc + 3) L st) : zz C E NS nL σ pc L (.ref (E.1.heap.size + a0) :: st) :=
  z_callVG hC cf1 cw_X2_looks hdd (by decide) (mz_X2_looks (cxE hC) hV) hd hk q1098 q1099 q1100 (np := 0) rfl rfl hW rfl (kV k)
def VL_X5_reads_5 (Thr : Nat → ZS → Prop) (Ret : ZR → ZS → Prop) : Nat → ZS → Nat → Prop
  | 0 => fun _ _ => False
  | k + 1 => fun σ x0 =>
    let K5 := VL_X5_reads_5 Thr Ret k
    (∃ n6, kK NS σ x0 = (11, n6)) ∧ ((∃ n8, kK NS σ x0 = (11, n8)) ∧ ((((zI σ x0 2) < (zI σ x0 1) → ((∃ n21, kK NS σ x0 = (11, n21)) ∧ (wp_X5_word σ x0 (fun r18 σ19 => r18 = some (.inl (zo r18)) ∧ ((∃ n26, kK NS σ19 x0 = (11, n26)) ∧ (wp_X5_clause σ19 x0 (zo r18) (fun x σ => Thr x σ) (fun σ24 => (∃ n30, kK NS σ24 x0 = (11, n30)) ∧ (wp_X5_need σ24 x0 59 (fun x σ => Thr x σ) (fun σ28 => (∃ n32, kK NS σ28 x0 = (11, n32)) ∧ ((kP NS σ28 x0 4) = some (.inl (zo (kP NS σ28 x0 4))) ∧ ((∃ n35, kK NS σ28 (zo (kP NS σ28 x0 4)) = (8, n35)) ∧ ((∃ n37, kK NS σ28 (zo (kP NS σ28 x0 4)) = (8, n37)) ∧ (∀ σ38 : ZS, σ38 = sI σ28 (zo (kP NS σ28 x0 4)) 9 ((zI σ28 (zo (kP NS σ28 x0 4)) 9) + 1) → ((∃ n42, kK NS σ38 x0 = (11, n42)) ∧ (wp_X5_sign σ38 x0 (fun r39 σ40 => K5 σ40 x0)))))))))))))))) ∧ (¬ (zI σ x0 2) < (zI σ x0 1) → ((∃ n10, kK NS σ x0 = (11, n10)) ∧ ((kP NS σ x0 4) = some (.inl (zo (kP NS σ x0 4))) ∧ ((∃ n15, kK NS σ (zo (kP NS σ x0 4)) = (8, n15)) ∧ (wp_X2_looks σ (zo (kP NS σ x0 4)) (fun σ13 => (∃ n17, kK NS σ13 x0 = (11, n17)) ∧ (Ret (kP NS σ13 x0 4) σ13))))))))))
def V_X5_reads_5 (Thr : Nat → ZS → Prop) (Ret : ZR → ZS → Prop) (σ : ZS) (x0 : Nat) : Prop := ∃ k, VL_X5_reads_5 Thr Ret k σ x0
def wp_X5_reads (σ : ZS) (a0 : Nat) (Thr : Nat → ZS → Prop) (Ret : ZR → ZS → Prop) : Prop :=
    (∃ n4, kK NS σ a0 = (11, n4)) ∧ (wp_X5_sign σ a0 (fun r1 σ2 => V_X5_reads_5 Thr Ret σ2 a0))
set_option maxHeartbeats 4000000 in
theorem mz_X5_reads {l : Launch} {E : ZE} (hE : EOK E) {σ : ZS} {a0 : Nat} {Thr : Nat → ZS → Prop} {Ret : ZR → ZS → Prop} (hV : wp_X5_reads σ a0 Thr Ret) : MZ l E NS yX5_reads (ws_ yX5_reads cX5_reads 1 (Option.some (FieldType.object "RightTurns$Town"))) 10 σ [.ref (E.1.heap.size + a0)] (rT E.1.heap.size (rP E.1.heap.size Ret) Thr) := by
  refine MZ.start (L := [some (.ref (E.1.heap.size + a0))]) hE (by decide) (Nat.le_of_ble_eq_true rfl) rfl fun C hCl hQo hC => ?_
  replace hC : Cx C E cX5_reads 1 "RightTurns$Reader" "reads" (Option.some (FieldType.object "RightTurns$Town")) [] 10 := hC
  unfold wp_X5_reads at hV
  have j_5 : ∀ (σ : ZS) (x0 : Nat), V_X5_reads_5 Thr Ret σ x0 → zz C E NS 1 σ 5 [some (.ref (E.1.heap.size + x0))] [] := by
    intro σ x0 ⟨k, hV⟩
    revert σ x0
    induction k with
    | zero => exact fun _ _ hV => hV.elim
    | succ k j_5 =>
      intro σ x0 hV
      simp only [VL_X5_reads_5] at hV
      generalize hKe5 : VL_X5_reads_5 Thr Ret k = K5 at hV j_5
      clear hKe5
      refine z_aload_n hC dX5_reads_5 rfl rfl ?_
      obtain ⟨⟨n6, h5⟩, hV⟩ := hV
      refine g_X5_26_c4 hC dX5_reads_6 h5 ?_
      refine z_aload_n hC dX5_reads_9 rfl rfl ?_
      obtain ⟨⟨n8, h7⟩, hV⟩ := hV
      refine g_X5_22_c4 hC dX5_reads_10 h7 ?_
      refine z_icmp_ge (tgt := 51) hC dX5_reads_13 (by decide) (fun hc => ?_) (fun hc => ?_)
      · replace hV := hV.2 hc
        refine z_aload_n hC dX5_reads_51 rfl rfl ?_
        obtain ⟨⟨n10, h9⟩, hV⟩ := hV
        refine g_X5_12_c4 hC dX5_reads_52 h9 ?_
        obtain ⟨h11, hV⟩ := hV
        refine zz_at rfl (by rw [pvo h11]) ?_
        obtain ⟨⟨n15, h14⟩, hV⟩ := hV
        refine c_X5_93 hC (by decide) dX5_reads_55 (Nat.le_of_ble_eq_true rfl) h14 hV (fun σ13 hV => ?_)
        refine z_aload_n hC dX5_reads_58 rfl rfl ?_
        obtain ⟨⟨n17, h16⟩, hV⟩ := hV
        refine g_X5_12_c4 hC dX5_reads_59 h16 ?_
        exact z_aret (r := (kP NS σ13 x0 4)) hC (Or.inl ⟨_, rfl⟩) dX5_reads_62 (by rw [hQo]; exact Or.inl ⟨_, rfl, hV⟩)
      · replace hV := hV.1 hc
        refine z_aload_n hC dX5_reads_16 rfl rfl ?_
        refine z_aload_n hC dX5_reads_17 rfl rfl ?_
        obtain ⟨⟨n21, h20⟩, hV⟩ := hV
        refine c_X5_79 hC (by decide) dX5_reads_18 (Nat.le_of_ble_eq_true rfl) h20 hV (fun r18 σ19 hV => ?_)
        obtain ⟨h22, hV⟩ := hV
        refine zz_at rfl (by rw [pvo h22]) ?_
        obtain ⟨⟨n26, h25⟩, hV⟩ := hV
        refine c_X5_82 hC (by decide) dX5_reads_21 (Nat.le_of_ble_eq_true rfl) h25 hV (fun σ24 hV => ?_) (fun x σ hV => zth_out hC (by rw [hQo]; exact Or.inr ⟨_, rfl, hV⟩))
        refine z_aload_n hC dX5_reads_24 rfl rfl ?_
        refine z_bipush (v := 59) hC dX5_reads_25 rfl ?_
        obtain ⟨⟨n30, h29⟩, hV⟩ := hV
        refine c_X5_86 hC (by decide) dX5_reads_27 (Nat.le_of_ble_eq_true rfl) h29 hV (fun σ28 hV => ?_) (fun x σ hV => zth_out hC (by rw [hQo]; exact Or.inr ⟨_, rfl, hV⟩))
        refine z_aload_n hC dX5_reads_30 rfl rfl ?_
        obtain ⟨⟨n32, h31⟩, hV⟩ := hV
        refine g_X5_12_c4 hC dX5_reads_31 h31 ?_
        obtain ⟨h33, hV⟩ := hV
        refine zz_at rfl (by rw [pvo h33]) ?_
        refine z_dup hC dX5_reads_34 rfl ?_
        obtain ⟨⟨n35, h34⟩, hV⟩ := hV
        refine g_X5_90_c1 hC dX5_reads_35 h34 ?_
        refine z_iconst (v := 1) hC dX5_reads_38 rfl ?_
        refine z_iadd hC dX5_reads_39 ?_
        obtain ⟨⟨n37, h36⟩, hV⟩ := hV
        refine p_X5_90_c1 hC dX5_reads_40 h36 ?_
        obtain ⟨σ38, e_σ38⟩ : ∃ z : ZS, z = sI σ28 (zo (kP NS σ28 x0 4)) 9 ((zI σ28 (zo (kP NS σ28 x0 4)) 9) + 1) := ⟨_, rfl⟩
        replace hV := hV _ e_σ38
        rw [← e_σ38]
        refine z_aload_n hC dX5_reads_43 rfl rfl ?_
        obtain ⟨⟨n42, h41⟩, hV⟩ := hV
        refine c_X5_29 hC (by decide) dX5_reads_44 (Nat.le_of_ble_eq_true rfl) h41 hV (fun r39 σ40 hV => ?_)
        refine z_pop hC dX5_reads_47 rfl ?_
        refine z_goto (tgt := 5) hC dX5_reads_48 (by decide) ?_
        refine zz_sub (L' := [some (.ref (E.1.heap.size + x0))]) ⟨rfl, trivial⟩ ?_
        exact j_5 σ40 x0 hV
  refine z_aload_n hC dX5_reads_0 rfl rfl ?_
  obtain ⟨⟨n4, h3⟩, hV⟩ := hV
  refine c_X5_29 hC (by decide) dX5_reads_1 (Nat.le_of_ble_eq_true rfl) h3 hV (fun r1 σ2 hV => ?_)
  refine z_pop hC dX5_reads_4 rfl ?_
  refine zz_sub (L' := [some (.ref (E.1.heap.size + a0))]) ⟨rfl, trivial⟩ ?_
  exact j_5 σ2 a0 hV
theorem g_X1_81_0 {C : ZC} {E : ZE} {cc : ByteArray} {nL pc d : Nat} {nm : String} {ret : Option FieldType} {hh : List (Nat × Nat × Nat × Nat)} {σ : ZS} {L : List (Option Value)} {st : List Value} (hC : Cx C E cc nL "RightTurns" nm ret hh d) (hd : decode cc pc = .ok (.getfield 81, 3)) (k : zz C E NS nL σ (pc + 3) L (.ref (E.1.heap.size + 32) :: st)) : zz C E NS nL σ pc L (.ref (E.1.heap.size + 0) :: st) :=
  z_get hC cf0 hd (k_0 σ) (k := 23) (by decide) (Or.inl q604) (Or.inl rfl) rfl k
theorem g_X1_87_0 {C : ZC} {E : ZE} {cc : ByteArray} {nL pc d : Nat} {nm : String} {ret : Option FieldType} {hh : List (Nat × Nat × Nat × Nat)} {σ : ZS} {L : List (Option Value)} {st : List Value} (hC : Cx C E cc nL "RightTurns" nm ret hh d) (hd : decode cc pc = .ok (.getfield 87, 3)) (k : zz C E NS nL σ (pc + 3) L (.ref (E.1.heap.size + 34) :: st)) : zz C E NS nL σ pc L (.ref (E.1.heap.size + 0) :: st) :=
  z_get hC cf0 hd (k_0 σ) (k := 25) (by decide) (Or.inl q606) (Or.inl rfl) rfl k
def wp_X1_arcOf (σ : ZS) (a1 : Int32) (Ret : Int32 → ZS → Prop) : Prop :=
    vp_in a1 12 ∧ (vp_in ((48 * a1) + (zI σ 34 (ix a1))) 576 ∧ (Ret (zI σ 32 (ix ((48 * a1) + (zI σ 34 (ix a1))))) σ))
set_option maxHeartbeats 4000000 in
theorem mz_X1_arcOf {l : Launch} {E : ZE} (hE : EOK E) {σ : ZS} {a1 : Int32} {Ret : Int32 → ZS → Prop} (hV : wp_X1_arcOf σ a1 Ret) : MZ l E NS yX1_arcOf (ws_ yX1_arcOf cX1_arcOf 2 (some .int)) 1 σ [.ref (E.1.heap.size + 0), .int a1] (rI Ret) := by
  refine MZ.start (L := [some (.ref (E.1.heap.size + 0)), some (.int a1)]) hE (by decide) (Nat.le_of_ble_eq_true rfl) rfl fun C hCl hQo hC => ?_
  replace hC : Cx C E cX1_arcOf 2 "RightTurns" "arcOf" (some .int) [] 1 := hC
  unfold wp_X1_arcOf at hV
  refine z_aload_n hC dX1_arcOf_0 rfl rfl ?_
  refine g_X1_81_0 hC dX1_arcOf_1 ?_
  refine z_bipush (v := 48) hC dX1_arcOf_4 rfl ?_
  refine z_iload_n hC dX1_arcOf_6 rfl rfl ?_
  refine z_imul hC dX1_arcOf_7 ?_
  refine z_aload_n hC dX1_arcOf_8 rfl rfl ?_
  refine g_X1_87_0 hC dX1_arcOf_9 ?_
  refine z_iload_n hC dX1_arcOf_12 rfl rfl ?_
  obtain ⟨h1, hV⟩ := hV
  refine z_iald hC dX1_arcOf_13 (k_34 _) (h1) ?_
  refine z_iadd hC dX1_arcOf_14 ?_
  obtain ⟨h2, hV⟩ := hV
  refine z_iald hC dX1_arcOf_15 (k_32 _) (h2) ?_
  exact z_iret hC dX1_arcOf_16 rfl (by rw [hQo]; exact ⟨_, rfl, hV⟩)
theorem g_X1_58_0 {C : ZC} {E : ZE} {cc : ByteArray} {nL pc d : Nat} {nm : String} {ret : Option FieldType} {hh : List (Nat × Nat × Nat × Nat)} {σ : ZS} {L : List (Option Value)} {st : List Value} (hC : Cx C E cc nL "RightTurns" nm ret hh d) (hd : decode cc pc = .ok (.getfield 58, 3)) (k : zz C E NS nL σ (pc + 3) L (.ref (E.1.heap.size + 25) :: st)) : zz C E NS nL σ pc L (.ref (E.1.heap.size + 0) :: st) :=
  z_get hC cf0 hd (k_0 σ) (k := 15) (by decide) (Or.inl q596) (Or.inl rfl) rfl k
def wp_X1_areTogether (σ : ZS) (a1 : Int32) (a2 : Int32) (Ret : Int32 → ZS → Prop) : Prop :=
    vp_in a1 48 ∧ ((((lg_cmp (((zJ σ 25 (ix a1)) >>> (a2.toInt64 &&& 63)) &&& 1) 1) = 0 → (vp_in a2 48 ∧ ((((lg_cmp (((zJ σ 25 (ix a2)) >>> (a1.toInt64 &&& 63)) &&& 1) 1) = 0 → (Ret 1 σ)) ∧ (¬ (lg_cmp (((zJ σ 25 (ix a2)) >>> (a1.toInt64 &&& 63)) &&& 1) 1) = 0 → (Ret 0 σ)))))) ∧ (¬ (lg_cmp (((zJ σ 25 (ix a1)) >>> (a2.toInt64 &&& 63)) &&& 1) 1) = 0 → (Ret 0 σ))))
set_option maxHeartbeats 4000000 in
theorem mz_X1_areTogether {l : Launch} {E : ZE} (hE : EOK E) {σ : ZS} {a1 : Int32} {a2 : Int32} {Ret : Int32 → ZS → Prop} (hV : wp_X1_areTogether σ a1 a2 Ret) : MZ l E NS yX1_areTogether (ws_ yX1_areTogether cX1_areTogether 3 (some .boolean)) 1 σ [.ref (E.1.heap.size + 0), .int a1, .int a2] (rI Ret) := by
  refine MZ.start (L := [some (.ref (E.1.heap.size + 0)), some (.int a1), some (.int a2)]) hE (by decide) (Nat.le_of_ble_eq_true rfl) rfl fun C hCl hQo hC => ?_
  replace hC : Cx C E cX1_areTogether 3 "RightTurns" "areTogether" (some .boolean) [] 1 := hC
  unfold wp_X1_areTogether at hV
  refine z_aload_n hC dX1_areTogether_0 rfl rfl ?_
  refine g_X1_58_0 hC dX1_areTogether_1 ?_
  refine z_iload_n hC dX1_areTogether_4 rfl rfl ?_
  obtain ⟨h1, hV⟩ := hV
  refine z_lald hC dX1_areTogether_5 (k_25 _) (h1) ?_
  refine z_iload_n hC dX1_areTogether_6 rfl rfl ?_
  refine z_lshr hC dX1_areTogether_7 ?_
  refine z_lconst (v := 1) hC dX1_areTogether_8 rfl ?_
  refine z_land hC dX1_areTogether_9 ?_
  refine z_lconst (v := 1) hC dX1_areTogether_10 rfl ?_
  refine z_lcmp hC dX1_areTogether_11 ?_
  refine z_if_ne (tgt := 34) hC dX1_areTogether_12 (by decide) (fun hc => ?_) (fun hc => ?_)
  · replace hV := hV.2 hc
    refine z_iconst (v := 0) hC dX1_areTogether_34 rfl ?_
    exact z_iret hC dX1_areTogether_35 rfl (by rw [hQo]; exact ⟨_, rfl, hV⟩)
  · replace hV := hV.1 hc
    refine z_aload_n hC dX1_areTogether_15 rfl rfl ?_
    refine g_X1_58_0 hC dX1_areTogether_16 ?_
    refine z_iload_n hC dX1_areTogether_19 rfl rfl ?_
    obtain ⟨h2, hV⟩ := hV
    refine z_lald hC dX1_areTogether_20 (k_25 _) (h2) ?_
    refine z_iload_n hC dX1_areTogether_21 rfl rfl ?_
    refine z_lshr hC dX1_areTogether_22 ?_
    refine z_lconst (v := 1) hC dX1_areTogether_23 rfl ?_
    refine z_land hC dX1_areTogether_24 ?_
    refine z_lconst (v := 1) hC dX1_areTogether_25 rfl ?_
    refine z_lcmp hC dX1_areTogether_26 ?_
    refine z_if_ne (tgt := 34) hC dX1_areTogether_27 (by decide) (fun hc => ?_) (fun hc => ?_)
    · replace hV := hV.2 hc
      refine z_iconst (v := 0) hC dX1_areTogether_34 rfl ?_
      exact z_iret hC dX1_areTogether_35 rfl (by rw [hQo]; exact ⟨_, rfl, hV⟩)
    · replace hV := hV.1 hc
      refine z_iconst (v := 1) hC dX1_areTogether_30 rfl ?_
      refine z_goto (tgt := 35) hC dX1_areTogether_31 (by decide) ?_
      exact z_iret hC dX1_areTogether_35 rfl (by rw [hQo]; exact ⟨_, rfl, hV⟩)
theorem g_X1_154_12 {C : ZC} {E : ZE} {cc : ByteArray} {nL pc d : Nat} {nm : String} {ret : Option FieldType} {hh : List (Nat × Nat × Nat × Nat)} {σ : ZS} {L : List (Option Value)} {st : List Value} (hC : Cx C E cc nL "RightTurns" nm ret hh d) (hd : decode cc pc = .ok (.getfield 154, 3)) (k : zz C E NS nL σ (pc + 3) L (.int (zI σ 12 3) :: st)) : zz C E NS nL σ pc L (.ref (E.1.heap.size + 12) :: st) :=
  z_get hC cf2 hd (k_12 σ) (k := 3) (by decide) (Or.inr ⟨_, q565⟩) (Or.inl rfl) rfl k
theorem g_X1_19_0 {C : ZC} {E : ZE} {cc : ByteArray} {nL pc d : Nat} {nm : String} {ret : Option FieldType} {hh : List (Nat × Nat × Nat × Nat)} {σ : ZS} {L : List (Option Value)} {st : List Value} (hC : Cx C E cc nL "RightTurns" nm ret hh d) (hd : decode cc pc = .ok (.getfield 19, 3)) (k : zz C E NS nL σ (pc + 3) L (.ref (E.1.heap.size + 12) :: st)) : zz C E NS nL σ pc L (.ref (E.1.heap.size + 0) :: st) :=
  z_get hC cf0 hd (k_0 σ) (k := 1) (by decide) (Or.inl q582) (Or.inl rfl) rfl k
def wp_X1_isTime (σ : ZS) (a1 : Int32) (Ret : Int32 → ZS → Prop) : Prop :=
    ((a1 < 0 → (Ret 0 σ)) ∧ (¬ a1 < 0 → ((((zI σ 12 3) < a1 → (Ret 0 σ)) ∧ (¬ (zI σ 12 3) < a1 → (Ret 1 σ))))))
set_option maxHeartbeats 4000000 in
theorem mz_X1_isTime {l : Launch} {E : ZE} (hE : EOK E) {σ : ZS} {a1 : Int32} {Ret : Int32 → ZS → Prop} (hV : wp_X1_isTime σ a1 Ret) : MZ l E NS yX1_isTime (ws_ yX1_isTime cX1_isTime 2 (some .boolean)) 1 σ [.ref (E.1.heap.size + 0), .int a1] (rI Ret) := by
  refine MZ.start (L := [some (.ref (E.1.heap.size + 0)), some (.int a1)]) hE (by decide) (Nat.le_of_ble_eq_true rfl) rfl fun C hCl hQo hC => ?_
  replace hC : Cx C E cX1_isTime 2 "RightTurns" "isTime" (some .boolean) [] 1 := hC
  unfold wp_X1_isTime at hV
  refine z_iload_n hC dX1_isTime_0 rfl rfl ?_
  refine z_if_lt (tgt := 19) hC dX1_isTime_1 (by decide) (fun hc => ?_) (fun hc => ?_)
  · replace hV := hV.1 hc
    refine z_iconst (v := 0) hC dX1_isTime_19 rfl ?_
    exact z_iret hC dX1_isTime_20 rfl (by rw [hQo]; exact ⟨_, rfl, hV⟩)
  · replace hV := hV.2 hc
    refine z_iload_n hC dX1_isTime_4 rfl rfl ?_
    refine z_aload_n hC dX1_isTime_5 rfl rfl ?_
    refine g_X1_19_0 hC dX1_isTime_6 ?_
    refine g_X1_154_12 hC dX1_isTime_9 ?_
    refine z_icmp_gt (tgt := 19) hC dX1_isTime_12 (by decide) (fun hc => ?_) (fun hc => ?_)
    · replace hV := hV.1 hc
      refine z_iconst (v := 0) hC dX1_isTime_19 rfl ?_
      exact z_iret hC dX1_isTime_20 rfl (by rw [hQo]; exact ⟨_, rfl, hV⟩)
    · replace hV := hV.2 hc
      refine z_iconst (v := 1) hC dX1_isTime_15 rfl ?_
      refine z_goto (tgt := 20) hC dX1_isTime_16 (by decide) ?_
      exact z_iret hC dX1_isTime_20 rfl (by rw [hQo]; exact ⟨_, rfl, hV⟩)
theorem g_X1_12_0 {C : ZC} {E : ZE} {cc : ByteArray} {nL pc d : Nat} {nm : String} {ret : Option FieldType} {hh : List (Nat × Nat × Nat × Nat)} {σ : ZS} {L : List (Option Value)} {st : List Value} (hC : Cx C E cc nL "RightTurns" nm ret hh d) (hd : decode cc pc = .ok (.getfield 12, 3)) (k : zz C E NS nL σ (pc + 3) L (pv E.1.heap.size (zP σ 0 0) :: st)) : zz C E NS nL σ pc L (.ref (E.1.heap.size + 0) :: st) :=
  z_get hC cf0 hd (k_0 σ) (k := 0) (by decide) (Or.inl q581) (Or.inl rfl) rfl k
theorem g_X1_123_c1 {a x : Nat} {C : ZC} {E : ZE} {cc : ByteArray} {n nL pc d : Nat} {nm : String} {ret : Option FieldType} {hh : List (Nat × Nat × Nat × Nat)} {σ : ZS} {L : List (Option Value)} {st : List Value} (hC : Cx C E cc nL "RightTurns" nm ret hh d) (hd : decode cc pc = .ok (.getfield 123, 3)) (hk : kK n σ a = (1 + 7, x)) (k : zz C E n nL σ (pc + 3) L (pv E.1.heap.size (kP n σ a 0) :: st)) : zz C E n nL σ pc L (.ref (E.1.heap.size + a) :: st) :=
  z_get hC cf1 hd hk (k := 0) (by decide) (Or.inr ⟨_, q507⟩) (Or.inl rfl) rfl k
theorem c_X1_127 {C : ZC} {E : ZE} {cc : ByteArray} {nL pc d : Nat} {nm : String} {ret : Option FieldType} {hh : List (Nat × Nat × Nat × Nat)} {σ : ZS} {L : List (Option Value)} {st : List Value} {a0 : Nat} {Ret : Int32 → ZS → Prop} (hC : Cx C E cc nL "RightTurns" nm ret hh d) (hdd : 1 + 1 ≤ d) (hd : decode cc pc = .ok (.invokevirtual 127, 3)) (hW : (st.map fun v => v.category).sum ≤ 8) {x : Nat} (hk : kK NS σ a0 = (9 + 7, x)) (hV : wp_J2_size σ a0 Ret) (k : ∀ r σ', Ret r σ' → zz C E NS nL σ' (pc + 3) L (.int r :: st)) : zz C E NS nL σ pc L (.ref (E.1.heap.size + a0) :: st) :=
  z_callVG hC cf9 cw_J2_size hdd (by decide) (mz_J2_size (cxE hC) hV) hd hk q1135 q907 q908 (np := 0) rfl rfl hW rfl (kI k)
def wp_X1_corners (σ : ZS) (Ret : Int32 → ZS → Prop) : Prop :=
    (zP σ 0 0) = some (.inl (zo (zP σ 0 0))) ∧ ((∃ n3, kK NS σ (zo (zP σ 0 0)) = (8, n3)) ∧ ((kP NS σ (zo (zP σ 0 0)) 0) = some (.inl (zo (kP NS σ (zo (zP σ 0 0)) 0))) ∧ ((∃ n8, kK NS σ (zo (kP NS σ (zo (zP σ 0 0)) 0)) = (16, n8)) ∧ (wp_J2_size σ (zo (kP NS σ (zo (zP σ 0 0)) 0)) (fun r5 σ6 => Ret r5 σ6)))))
set_option maxHeartbeats 4000000 in
theorem mz_X1_corners {l : Launch} {E : ZE} (hE : EOK E) {σ : ZS} {Ret : Int32 → ZS → Prop} (hV : wp_X1_corners σ Ret) : MZ l E NS yX1_corners (ws_ yX1_corners cX1_corners 1 (some .int)) 2 σ [.ref (E.1.heap.size + 0)] (rI Ret) := by
  refine MZ.start (L := [some (.ref (E.1.heap.size + 0))]) hE (by decide) (Nat.le_of_ble_eq_true rfl) rfl fun C hCl hQo hC => ?_
  replace hC : Cx C E cX1_corners 1 "RightTurns" "corners" (some .int) [] 2 := hC
  unfold wp_X1_corners at hV
  refine z_aload_n hC dX1_corners_0 rfl rfl ?_
  refine g_X1_12_0 hC dX1_corners_1 ?_
  obtain ⟨h1, hV⟩ := hV
  refine zz_at rfl (by rw [pvo h1]) ?_
  obtain ⟨⟨n3, h2⟩, hV⟩ := hV
  refine g_X1_123_c1 hC dX1_corners_4 h2 ?_
  obtain ⟨h4, hV⟩ := hV
  refine zz_at rfl (by rw [pvo h4]) ?_
  obtain ⟨⟨n8, h7⟩, hV⟩ := hV
  refine c_X1_127 hC (by decide) dX1_corners_7 (Nat.le_of_ble_eq_true rfl) h7 hV (fun r5 σ6 hV => ?_)
  exact z_iret hC dX1_corners_10 rfl (by rw [hQo]; exact ⟨_, rfl, hV⟩)
theorem g_X1_244_0 {C : ZC} {E : ZE} {cc : ByteArray} {nL pc d : Nat} {nm : String} {ret : Option FieldType} {hh : List (Nat × Nat × Nat × Nat)} {σ : ZS} {L : List (Option Value)} {st : List Value} (hC : Cx C E cc nL "RightTurns" nm ret hh d) (hd : decode cc pc = .ok (.getfield 244, 3)) (k : zz C E NS nL σ (pc + 3) L (.int (zI σ 0 9) :: st)) : zz C E NS nL σ pc L (.ref (E.1.heap.size + 0) :: st) :=
  z_get hC cf0 hd (k_0 σ) (k := 9) (by decide) (Or.inl q590) (Or.inl rfl) rfl k
theorem g_X1_35_0 {C : ZC} {E : ZE} {cc : ByteArray} {nL pc d : Nat} {nm : String} {ret : Option FieldType} {hh : List (Nat × Nat × Nat × Nat)} {σ : ZS} {L : List (Option Value)} {st : List Value} (hC : Cx C E cc nL "RightTurns" nm ret hh d) (hd : decode cc pc = .ok (.getfield 35, 3)) (k : zz C E NS nL σ (pc + 3) L (.ref (E.1.heap.size + 18) :: st)) : zz C E NS nL σ pc L (.ref (E.1.heap.size + 0) :: st) :=
  z_get hC cf0 hd (k_0 σ) (k := 7) (by decide) (Or.inl q588) (Or.inl rfl) rfl k
theorem g_X1_39_0 {C : ZC} {E : ZE} {cc : ByteArray} {nL pc d : Nat} {nm : String} {ret : Option FieldType} {hh : List (Nat × Nat × Nat × Nat)} {σ : ZS} {L : List (Option Value)} {st : List Value} (hC : Cx C E cc nL "RightTurns" nm ret hh d) (hd : decode cc pc = .ok (.getfield 39, 3)) (k : zz C E NS nL σ (pc + 3) L (.ref (E.1.heap.size + 19) :: st)) : zz C E NS nL σ pc L (.ref (E.1.heap.size + 0) :: st) :=
  z_get hC cf0 hd (k_0 σ) (k := 8) (by decide) (Or.inl q589) (Or.inl rfl) rfl k
theorem c_X1_240 {C : ZC} {E : ZE} {cc : ByteArray} {nL pc d : Nat} {nm : String} {ret : Option FieldType} {hh : List (Nat × Nat × Nat × Nat)} {σ : ZS} {L : List (Option Value)} {st : List Value} {a0 : Nat} {a1 : Int32} {a2 : Int32} {Ret : Int32 → ZS → Prop} (hC : Cx C E cc nL "RightTurns" nm ret hh d) (hdd : 6 + 1 ≤ d) (hd : decode cc pc = .ok (.invokevirtual 240, 3)) (hW : (st.map fun v => v.category).sum ≤ 8) {x : Nat} (hk : kK NS σ a0 = (1 + 7, x)) (hV : wp_X2_turn σ a0 a1 a2 Ret) (k : ∀ r σ', Ret r σ' → zz C E NS nL σ' (pc + 3) L (.int r :: st)) : zz C E NS nL σ pc L (.int a2 :: .int a1 :: .ref (E.1.heap.size + a0) :: st) :=
  z_callVG hC cf1 cw_X2_turn hdd (by decide) (mz_X2_turn (cxE hC) hV) hd hk q1185 q1118 q1119 (np := 2) rfl rfl hW rfl (kI k)
theorem cw_X3_isSigned : CodeW yX3_isSigned (ws_ yX3_isSigned cX3_isSigned 4 (some .boolean)) 4 := ⟨fun w h => (List.mem_cons.mp h).elim (fun e => e ▸ q1204) id, Or.inl ⟨_, _, q1204⟩, q137, by decide, by decide⟩
theorem c_X1_247 {C : ZC} {E : ZE} {cc : ByteArray} {nL pc d : Nat} {nm : String} {ret : Option FieldType} {hh : List (Nat × Nat × Nat × Nat)} {σ : ZS} {L : List (Option Value)} {st : List Value} {a0 : Nat} {a1 : Int32} {a2 : Int32} {a3 : Int32} {Ret : Int32 → ZS → Prop} (hC : Cx C E cc nL "RightTurns" nm ret hh d) (hdd : 1 + 1 ≤ d) (hd : decode cc pc = .ok (.invokevirtual 247, 3)) (hW : (st.map fun v => v.category).sum ≤ 8) {x : Nat} (hk : kK NS σ a0 = (2 + 7, x)) (hV : wp_X3_isSigned σ a0 a1 a2 a3 Ret) (k : ∀ r σ', Ret r σ' → zz C E NS nL σ' (pc + 3) L (.int r :: st)) : zz C E NS nL σ pc L (.int a3 :: .int a2 :: .int a1 :: .ref (E.1.heap.size + a0) :: st) :=
  z_callVG hC cf2 cw_X3_isSigned hdd (by decide) (mz_X3_isSigned (cxE hC) hV) hd hk q1201 q1202 q1203 (np := 3) rfl rfl hW rfl (kI k)
theorem cw_X3_isAllowed : CodeW yX3_isAllowed (ws_ yX3_isAllowed cX3_isAllowed 4 (some .boolean)) 4 := ⟨fun w h => (List.mem_cons.mp h).elim (fun e => e ▸ q1208) id, Or.inl ⟨_, _, q1208⟩, q137, by decide, by decide⟩
theorem c_X1_251 {C : ZC} {E : ZE} {cc : ByteArray} {nL pc d : Nat} {nm : String} {ret : Option FieldType} {hh : List (Nat × Nat × Nat × Nat)} {σ : ZS} {L : List (Option Value)} {st : List Value} {a0 : Nat} {a1 : Int32} {a2 : Int32} {a3 : Int32} {Ret : Int32 → ZS → Prop} (hC : Cx C E cc nL "RightTurns" nm ret hh d) (hdd : 1 + 1 ≤ d) (hd : decode cc pc = .ok (.invokevirtual 251, 3)) (hW : (st.map fun v => v.category).sum ≤ 8) {x : Nat} (hk : kK NS σ a0 = (2 + 7, x)) (hV : wp_X3_isAllowed σ a0 a1 a2 a3 Ret) (k : ∀ r σ', Ret r σ' → zz C E NS nL σ' (pc + 3) L (.int r :: st)) : zz C E NS nL σ pc L (.int a3 :: .int a2 :: .int a1 :: .ref (E.1.heap.size + a0) :: st) :=
  z_callVG hC cf2 cw_X3_isAllowed hdd (by decide) (mz_X3_isAllowed (cxE hC) hV) hd hk q1205 q1206 q1207 (np := 3) rfl rfl hW rfl (kI k)
def wp_X1_mayRide (σ : ZS) (a1 : Int32) (a2 : Int32) (a3 : Int32) (Ret : Int32 → ZS → Prop) : Prop :=
    ∀ y1 : Int32, y1 = a1 / 2 → (∀ y2 : Int32, y2 = a2 / 2 → ((zP σ 0 0) = some (.inl (zo (zP σ 0 0))) ∧ ((∃ n7, kK NS σ (zo (zP σ 0 0)) = (8, n7)) ∧ (wp_X2_turn σ (zo (zP σ 0 0)) a1 a2 (fun r4 σ5 => ((r4 = (-1) → (Ret 0 σ5)) ∧ (¬ r4 = (-1) → (((r4 = 0 → (Ret 0 σ5)) ∧ (¬ r4 = 0 → ((((zI σ5 0 9) = 0 → (wp_X3_isSigned σ5 12 a3 y1 y2 (fun r8 σ9 => ((r8 = 0 → (((r4 = 3 → (vp_in y1 24 ∧ ((((((zI σ9 18 (ix y1)) >>> (y2 &&& 31)) &&& 1) = 1 → (Ret 1 σ9)) ∧ (¬ (((zI σ9 18 (ix y1)) >>> (y2 &&& 31)) &&& 1) = 1 → (wp_X3_isAllowed σ9 12 a3 y1 y2 (fun r11 σ12 => ((r11 = 0 → (Ret 0 σ12)) ∧ (¬ r11 = 0 → (vp_in y1 24 ∧ ((((((zI σ12 19 (ix y1)) >>> (y2 &&& 31)) &&& 1) = 0 → (Ret 1 σ12)) ∧ (¬ (((zI σ12 19 (ix y1)) >>> (y2 &&& 31)) &&& 1) = 0 → (Ret 0 σ12)))))))))))))) ∧ (¬ r4 = 3 → (Ret 1 σ9))))) ∧ (¬ r8 = 0 → (Ret 0 σ9)))))) ∧ (¬ (zI σ5 0 9) = 0 → (Ret 1 σ5))))))))))))))
set_option maxHeartbeats 4000000 in
theorem mz_X1_mayRide {l : Launch} {E : ZE} (hE : EOK E) {σ : ZS} {a1 : Int32} {a2 : Int32} {a3 : Int32} {Ret : Int32 → ZS → Prop} (hV : wp_X1_mayRide σ a1 a2 a3 Ret) : MZ l E NS yX1_mayRide (ws_ yX1_mayRide cX1_mayRide 7 (some .boolean)) 7 σ [.ref (E.1.heap.size + 0), .int a1, .int a2, .int a3] (rI Ret) := by
  refine MZ.start (L := [some (.ref (E.1.heap.size + 0)), some (.int a1), some (.int a2), some (.int a3), none, none, none]) hE (by decide) (Nat.le_of_ble_eq_true rfl) rfl fun C hCl hQo hC => ?_
  replace hC : Cx C E cX1_mayRide 7 "RightTurns" "mayRide" (some .boolean) [] 7 := hC
  unfold wp_X1_mayRide at hV
  refine z_iload_n hC dX1_mayRide_0 rfl rfl ?_
  refine z_iconst (v := 2) hC dX1_mayRide_1 rfl ?_
  refine z_idiv hC dX1_mayRide_2 (by decide) ?_
  obtain ⟨y1, e_y1⟩ : ∃ z, z = a1 / 2 := ⟨_, rfl⟩
  rw [← e_y1]
  replace hV := hV _ e_y1
  refine z_istore hC dX1_mayRide_3 (Nat.le_of_ble_eq_true rfl) rfl rfl ?_
  refine z_iload_n hC dX1_mayRide_5 rfl rfl ?_
  refine z_iconst (v := 2) hC dX1_mayRide_6 rfl ?_
  refine z_idiv hC dX1_mayRide_7 (by decide) ?_
  obtain ⟨y2, e_y2⟩ : ∃ z, z = a2 / 2 := ⟨_, rfl⟩
  rw [← e_y2]
  replace hV := hV _ e_y2
  refine z_istore hC dX1_mayRide_8 (Nat.le_of_ble_eq_true rfl) rfl rfl ?_
  refine z_aload_n hC dX1_mayRide_10 rfl rfl ?_
  refine g_X1_12_0 hC dX1_mayRide_11 ?_
  obtain ⟨h3, hV⟩ := hV
  refine zz_at rfl (by rw [pvo h3]) ?_
  refine z_iload_n hC dX1_mayRide_14 rfl rfl ?_
  refine z_iload_n hC dX1_mayRide_15 rfl rfl ?_
  obtain ⟨⟨n7, h6⟩, hV⟩ := hV
  refine c_X1_240 hC (by decide) dX1_mayRide_16 (Nat.le_of_ble_eq_true rfl) h6 hV (fun r4 σ5 hV => ?_)
  refine z_istore hC dX1_mayRide_19 (Nat.le_of_ble_eq_true rfl) rfl rfl ?_
  refine z_iload hC dX1_mayRide_21 rfl ?_
  refine z_iconst (v := (-1)) hC dX1_mayRide_23 rfl ?_
  refine z_icmp_eq (tgt := 32) hC dX1_mayRide_24 (by decide) (fun hc => ?_) (fun hc => ?_)
  · replace hV := hV.1 hc
    refine z_iconst (v := 0) hC dX1_mayRide_32 rfl ?_
    exact z_iret hC dX1_mayRide_33 rfl (by rw [hQo]; exact ⟨_, rfl, hV⟩)
  · replace hV := hV.2 hc
    refine z_iload hC dX1_mayRide_27 rfl ?_
    refine z_if_ne (tgt := 34) hC dX1_mayRide_29 (by decide) (fun hc => ?_) (fun hc => ?_)
    · replace hV := hV.2 hc
      refine z_aload_n hC dX1_mayRide_34 rfl rfl ?_
      refine g_X1_244_0 hC dX1_mayRide_35 ?_
      refine z_if_eq (tgt := 43) hC dX1_mayRide_38 (by decide) (fun hc => ?_) (fun hc => ?_)
      · replace hV := hV.1 hc
        refine z_aload_n hC dX1_mayRide_43 rfl rfl ?_
        refine g_X1_19_0 hC dX1_mayRide_44 ?_
        refine z_iload_n hC dX1_mayRide_47 rfl rfl ?_
        refine z_iload hC dX1_mayRide_48 rfl ?_
        refine z_iload hC dX1_mayRide_50 rfl ?_
        refine c_X1_247 hC (by decide) dX1_mayRide_52 (Nat.le_of_ble_eq_true rfl) (k_12 _) hV (fun r8 σ9 hV => ?_)
        refine z_if_eq (tgt := 60) hC dX1_mayRide_55 (by decide) (fun hc => ?_) (fun hc => ?_)
        · replace hV := hV.1 hc
          refine z_iload hC dX1_mayRide_60 rfl ?_
          refine z_iconst (v := 3) hC dX1_mayRide_62 rfl ?_
          refine z_icmp_ne (tgt := 112) hC dX1_mayRide_63 (by decide) (fun hc => ?_) (fun hc => ?_)
          · replace hV := hV.2 hc
            refine z_iconst (v := 1) hC dX1_mayRide_112 rfl ?_
            refine z_goto (tgt := 117) hC dX1_mayRide_113 (by decide) ?_
            exact z_iret hC dX1_mayRide_117 rfl (by rw [hQo]; exact ⟨_, rfl, hV⟩)
          · replace hV := hV.1 hc
            refine z_aload_n hC dX1_mayRide_66 rfl rfl ?_
            refine g_X1_35_0 hC dX1_mayRide_67 ?_
            refine z_iload hC dX1_mayRide_70 rfl ?_
            obtain ⟨h10, hV⟩ := hV
            refine z_iald hC dX1_mayRide_72 (k_18 _) (h10) ?_
            refine z_iload hC dX1_mayRide_73 rfl ?_
            refine z_ishr hC dX1_mayRide_75 ?_
            refine z_iconst (v := 1) hC dX1_mayRide_76 rfl ?_
            refine z_iand hC dX1_mayRide_77 ?_
            refine z_iconst (v := 1) hC dX1_mayRide_78 rfl ?_
            refine z_icmp_eq (tgt := 112) hC dX1_mayRide_79 (by decide) (fun hc => ?_) (fun hc => ?_)
            · replace hV := hV.1 hc
              refine z_iconst (v := 1) hC dX1_mayRide_112 rfl ?_
              refine z_goto (tgt := 117) hC dX1_mayRide_113 (by decide) ?_
              exact z_iret hC dX1_mayRide_117 rfl (by rw [hQo]; exact ⟨_, rfl, hV⟩)
            · replace hV := hV.2 hc
              refine z_aload_n hC dX1_mayRide_82 rfl rfl ?_
              refine g_X1_19_0 hC dX1_mayRide_83 ?_
              refine z_iload_n hC dX1_mayRide_86 rfl rfl ?_
              refine z_iload hC dX1_mayRide_87 rfl ?_
              refine z_iload hC dX1_mayRide_89 rfl ?_
              refine c_X1_251 hC (by decide) dX1_mayRide_91 (Nat.le_of_ble_eq_true rfl) (k_12 _) hV (fun r11 σ12 hV => ?_)
              refine z_if_eq (tgt := 116) hC dX1_mayRide_94 (by decide) (fun hc => ?_) (fun hc => ?_)
              · replace hV := hV.1 hc
                refine z_iconst (v := 0) hC dX1_mayRide_116 rfl ?_
                exact z_iret hC dX1_mayRide_117 rfl (by rw [hQo]; exact ⟨_, rfl, hV⟩)
              · replace hV := hV.2 hc
                refine z_aload_n hC dX1_mayRide_97 rfl rfl ?_
                refine g_X1_39_0 hC dX1_mayRide_98 ?_
                refine z_iload hC dX1_mayRide_101 rfl ?_
                obtain ⟨h13, hV⟩ := hV
                refine z_iald hC dX1_mayRide_103 (k_19 _) (h13) ?_
                refine z_iload hC dX1_mayRide_104 rfl ?_
                refine z_ishr hC dX1_mayRide_106 ?_
                refine z_iconst (v := 1) hC dX1_mayRide_107 rfl ?_
                refine z_iand hC dX1_mayRide_108 ?_
                refine z_if_ne (tgt := 116) hC dX1_mayRide_109 (by decide) (fun hc => ?_) (fun hc => ?_)
                · replace hV := hV.2 hc
                  refine z_iconst (v := 0) hC dX1_mayRide_116 rfl ?_
                  exact z_iret hC dX1_mayRide_117 rfl (by rw [hQo]; exact ⟨_, rfl, hV⟩)
                · replace hV := hV.1 hc
                  refine z_iconst (v := 1) hC dX1_mayRide_112 rfl ?_
                  refine z_goto (tgt := 117) hC dX1_mayRide_113 (by decide) ?_
                  exact z_iret hC dX1_mayRide_117 rfl (by rw [hQo]; exact ⟨_, rfl, hV⟩)
        · replace hV := hV.2 hc
          refine z_iconst (v := 0) hC dX1_mayRide_58 rfl ?_
          exact z_iret hC dX1_mayRide_59 rfl (by rw [hQo]; exact ⟨_, rfl, hV⟩)
      · replace hV := hV.2 hc
        refine z_iconst (v := 1) hC dX1_mayRide_41 rfl ?_
        exact z_iret hC dX1_mayRide_42 rfl (by rw [hQo]; exact ⟨_, rfl, hV⟩)
    · replace hV := hV.1 hc
      refine z_iconst (v := 0) hC dX1_mayRide_32 rfl ?_
      exact z_iret hC dX1_mayRide_33 rfl (by rw [hQo]; exact ⟨_, rfl, hV⟩)
theorem g_X1_42_0 {C : ZC} {E : ZE} {cc : ByteArray} {nL pc d : Nat} {nm : String} {ret : Option FieldType} {hh : List (Nat × Nat × Nat × Nat)} {σ : ZS} {L : List (Option Value)} {st : List Value} (hC : Cx C E cc nL "RightTurns" nm ret hh d) (hd : decode cc pc = .ok (.getfield 42, 3)) (k : zz C E NS nL σ (pc + 3) L (.ref (E.1.heap.size + 20) :: st)) : zz C E NS nL σ pc L (.ref (E.1.heap.size + 0) :: st) :=
  z_get hC cf0 hd (k_0 σ) (k := 10) (by decide) (Or.inl q591) (Or.inl rfl) rfl k
theorem c_X1_150 {C : ZC} {E : ZE} {cc : ByteArray} {nL pc d : Nat} {nm : String} {ret : Option FieldType} {hh : List (Nat × Nat × Nat × Nat)} {σ : ZS} {L : List (Option Value)} {st : List Value} {a0 : Nat} {a1 : Int32} {Ret : Int32 → ZS → Prop} (hC : Cx C E cc nL "RightTurns" nm ret hh d) (hdd : 5 + 1 ≤ d) (hd : decode cc pc = .ok (.invokevirtual 150, 3)) (hW : (st.map fun v => v.category).sum ≤ 8) {x : Nat} (hk : kK NS σ a0 = (1 + 7, x)) (hV : wp_X2_isArc σ a0 a1 Ret) (k : ∀ r σ', Ret r σ' → zz C E NS nL σ' (pc + 3) L (.int r :: st)) : zz C E NS nL σ pc L (.int a1 :: .ref (E.1.heap.size + a0) :: st) :=
  z_callVG hC cf1 cw_X2_isArc hdd (by decide) (mz_X2_isArc (cxE hC) hV) hd hk q1184 q1104 q1105 (np := 1) rfl rfl hW rfl (kI k)
theorem cw_X1_mayRide : CodeW yX1_mayRide (ws_ yX1_mayRide cX1_mayRide 7 (some .boolean)) 7 := ⟨fun w h => (List.mem_cons.mp h).elim (fun e => e ▸ q1200) id, Or.inl ⟨_, _, q1200⟩, q116, by decide, by decide⟩
theorem c_X1_257 {C : ZC} {E : ZE} {cc : ByteArray} {nL pc d : Nat} {nm : String} {ret : Option FieldType} {hh : List (Nat × Nat × Nat × Nat)} {σ : ZS} {L : List (Option Value)} {st : List Value} {a1 : Int32} {a2 : Int32} {a3 : Int32} {Ret : Int32 → ZS → Prop} (hC : Cx C E cc nL "RightTurns" nm ret hh d) (hdd : 7 + 1 ≤ d) (hd : decode cc pc = .ok (.invokevirtual 257, 3)) (hW : (st.map fun v => v.category).sum ≤ 8) (hV : wp_X1_mayRide σ a1 a2 a3 Ret) (k : ∀ r σ', Ret r σ' → zz C E NS nL σ' (pc + 3) L (.int r :: st)) : zz C E NS nL σ pc L (.int a3 :: .int a2 :: .int a1 :: .ref (E.1.heap.size + 0) :: st) :=
  z_callVG hC cf0 cw_X1_mayRide hdd (by decide) (mz_X1_mayRide (cxE hC) hV) hd (k_0 σ) q1197 q1199 qs18 (np := 3) rfl rfl hW rfl (kI k)
theorem c_X1_271 {C : ZC} {E : ZE} {cc : ByteArray} {nL pc d : Nat} {nm : String} {ret : Option FieldType} {hh : List (Nat × Nat × Nat × Nat)} {σ : ZS} {L : List (Option Value)} {st : List Value} {a0 : Nat} {Ret : Int32 → ZS → Prop} (hC : Cx C E cc nL "RightTurns" nm ret hh d) (hdd : 2 + 1 ≤ d) (hd : decode cc pc = .ok (.invokevirtual 271, 3)) (hW : (st.map fun v => v.category).sum ≤ 8) {x : Nat} (hk : kK NS σ a0 = (1 + 7, x)) (hV : wp_X2_arcs σ a0 Ret) (k : ∀ r σ', Ret r σ' → zz C E NS nL σ' (pc + 3) L (.int r :: st)) : zz C E NS nL σ pc L (.ref (E.1.heap.size + a0) :: st) :=
  z_callVG hC cf1 cw_X2_arcs hdd (by decide) (mz_X2_arcs (cxE hC) hV) hd hk q1299 q1108 q1109 (np := 0) rfl rfl hW rfl (kI k)
theorem cw_X2_length : CodeW yX2_length (ws_ yX2_length cX2_length 2 (some .int)) 2 := ⟨fun w h => (List.mem_cons.mp h).elim (fun e => e ▸ q1305) id, Or.inl ⟨_, _, q1305⟩, q117, by decide, by decide⟩
theorem c_X1_278 {C : ZC} {E : ZE} {cc : ByteArray} {nL pc d : Nat} {nm : String} {ret : Option FieldType} {hh : List (Nat × Nat × Nat × Nat)} {σ : ZS} {L : List (Option Value)} {st : List Value} {a0 : Nat} {a1 : Int32} {Ret : Int32 → ZS → Prop} (hC : Cx C E cc nL "RightTurns" nm ret hh d) (hdd : 5 + 1 ≤ d) (hd : decode cc pc = .ok (.invokevirtual 278, 3)) (hW : (st.map fun v => v.category).sum ≤ 8) {x : Nat} (hk : kK NS σ a0 = (1 + 7, x)) (hV : wp_X2_length σ a0 a1 Ret) (k : ∀ r σ', Ret r σ' → zz C E NS nL σ' (pc + 3) L (.int r :: st)) : zz C E NS nL σ pc L (.int a1 :: .ref (E.1.heap.size + a0) :: st) :=
  z_callVG hC cf1 cw_X2_length hdd (by decide) (mz_X2_length (cxE hC) hV) hd hk q1302 q1303 q1304 (np := 1) rfl rfl hW rfl (kI k)
theorem c_X1_280 {C : ZC} {E : ZE} {cc : ByteArray} {nL pc d : Nat} {nm : String} {ret : Option FieldType} {hh : List (Nat × Nat × Nat × Nat)} {σ : ZS} {L : List (Option Value)} {st : List Value} {a0 : Nat} {a1 : Int32} {Ret : Int32 → ZS → Prop} (hC : Cx C E cc nL "RightTurns" nm ret hh d) (hdd : 5 + 1 ≤ d) (hd : decode cc pc = .ok (.invokevirtual 280, 3)) (hW : (st.map fun v => v.category).sum ≤ 8) {x : Nat} (hk : kK NS σ a0 = (1 + 7, x)) (hV : wp_X2_begin σ a0 a1 Ret) (k : ∀ r σ', Ret r σ' → zz C E NS nL σ' (pc + 3) L (.int r :: st)) : zz C E NS nL σ pc L (.int a1 :: .ref (E.1.heap.size + a0) :: st) :=
  z_callVG hC cf1 cw_X2_begin hdd (by decide) (mz_X2_begin (cxE hC) hV) hd hk q1310 q1126 q1127 (np := 1) rfl rfl hW rfl (kI k)
def V_X1_nextArc_60 (K3 : ZS → Int32 → Int32 → Int32 → Int32 → Int32 → Prop) (Ret : Int32 → ZS → Prop) (σ : ZS) (x1 : Int32) (x2 : Int32) (x3 : Int32) (x4 : Int32) (x5 : Int32) : Prop :=
    vp_in x5 48 ∧ ((zP σ 0 0) = some (.inl (zo (zP σ 0 0))) ∧ ((∃ n20, kK NS σ (zo (zP σ 0 0)) = (8, n20)) ∧ (wp_X2_length σ (zo (zP σ 0 0)) x5 (fun r17 σ18 => ((((zI σ 20 (ix x5)) + r17) = x3 → (Ret x5 σ18)) ∧ (¬ ((zI σ 20 (ix x5)) + r17) = x3 → (∀ y21 : Int32, y21 = x5 + 1 → (K3 σ18 x1 x2 x3 x4 y21))))))))
def VL_X1_nextArc_3 (Ret : Int32 → ZS → Prop) : Nat → ZS → Int32 → Int32 → Int32 → Int32 → Int32 → Prop
  | 0 => fun _ _ _ _ _ _ => False
  | k + 1 => fun σ x1 x2 x3 x4 x5 =>
    let K3 := VL_X1_nextArc_3 Ret k
    (zP σ 0 0) = some (.inl (zo (zP σ 0 0))) ∧ ((∃ n5, kK NS σ (zo (zP σ 0 0)) = (8, n5)) ∧ (wp_X2_arcs σ (zo (zP σ 0 0)) (fun r2 σ3 => ((x5 < r2 → ((zP σ3 0 0) = some (.inl (zo (zP σ3 0 0))) ∧ ((∃ n10, kK NS σ3 (zo (zP σ3 0 0)) = (8, n10)) ∧ (wp_X2_isArc σ3 (zo (zP σ3 0 0)) x5 (fun r7 σ8 => ((r7 = 0 → (∀ y11 : Int32, y11 = x5 + 1 → (K3 σ8 x1 x2 x3 x4 y11))) ∧ (¬ r7 = 0 → (((x2 = (-1) → ((zP σ8 0 0) = some (.inl (zo (zP σ8 0 0))) ∧ ((∃ n26, kK NS σ8 (zo (zP σ8 0 0)) = (8, n26)) ∧ (wp_X2_begin σ8 (zo (zP σ8 0 0)) x5 (fun r23 σ24 => ((r23 = x1 → (V_X1_nextArc_60 K3 Ret σ24 x1 x2 x3 x4 x5)) ∧ (¬ r23 = x1 → (∀ y27 : Int32, y27 = x5 + 1 → (K3 σ24 x1 x2 x3 x4 y27))))))))) ∧ (¬ x2 = (-1) → (wp_X1_mayRide σ8 x2 x5 x4 (fun r12 σ13 => ((r12 = 0 → (∀ y14 : Int32, y14 = x5 + 1 → (K3 σ13 x1 x2 x3 x4 y14))) ∧ (¬ r12 = 0 → (V_X1_nextArc_60 K3 Ret σ13 x1 x2 x3 x4 x5))))))))))))))) ∧ (¬ x5 < r2 → (Ret (-1) σ3))))))
def V_X1_nextArc_3 (Ret : Int32 → ZS → Prop) (σ : ZS) (x1 : Int32) (x2 : Int32) (x3 : Int32) (x4 : Int32) (x5 : Int32) : Prop := ∃ k, VL_X1_nextArc_3 Ret k σ x1 x2 x3 x4 x5
def wp_X1_nextArc (σ : ZS) (a1 : Int32) (a2 : Int32) (a3 : Int32) (a4 : Int32) (Ret : Int32 → ZS → Prop) : Prop :=
    V_X1_nextArc_3 Ret σ a1 a2 a3 a4 0
set_option maxHeartbeats 4000000 in
theorem mz_X1_nextArc {l : Launch} {E : ZE} (hE : EOK E) {σ : ZS} {a1 : Int32} {a2 : Int32} {a3 : Int32} {a4 : Int32} {Ret : Int32 → ZS → Prop} (hV : wp_X1_nextArc σ a1 a2 a3 a4 Ret) : MZ l E NS yX1_nextArc (ws_ yX1_nextArc cX1_nextArc 6 (some .int)) 8 σ [.ref (E.1.heap.size + 0), .int a1, .int a2, .int a3, .int a4] (rI Ret) := by
  refine MZ.start (L := [some (.ref (E.1.heap.size + 0)), some (.int a1), some (.int a2), some (.int a3), some (.int a4), none]) hE (by decide) (Nat.le_of_ble_eq_true rfl) rfl fun C hCl hQo hC => ?_
  replace hC : Cx C E cX1_nextArc 6 "RightTurns" "nextArc" (some .int) [] 8 := hC
  unfold wp_X1_nextArc at hV
  have j_3 : ∀ (σ : ZS) (x1 : Int32) (x2 : Int32) (x3 : Int32) (x4 : Int32) (x5 : Int32), V_X1_nextArc_3 Ret σ x1 x2 x3 x4 x5 → zz C E NS 6 σ 3 [some (.ref (E.1.heap.size + 0)), some (.int x1), some (.int x2), some (.int x3), some (.int x4), some (.int x5)] [] := by
    intro σ x1 x2 x3 x4 x5 ⟨k, hV⟩
    revert σ x1 x2 x3 x4 x5
    induction k with
    | zero => exact fun _ _ _ _ _ _ hV => hV.elim
    | succ k j_3 =>
      intro σ x1 x2 x3 x4 x5 hV
      simp only [VL_X1_nextArc_3] at hV
      generalize hKe3 : VL_X1_nextArc_3 Ret k = K3 at hV j_3
      clear hKe3
      have j_60 : ∀ (σ : ZS) (x1 : Int32) (x2 : Int32) (x3 : Int32) (x4 : Int32) (x5 : Int32), V_X1_nextArc_60 K3 Ret σ x1 x2 x3 x4 x5 → zz C E NS 6 σ 60 [some (.ref (E.1.heap.size + 0)), some (.int x1), some (.int x2), some (.int x3), some (.int x4), some (.int x5)] [] := by
        intro σ x1 x2 x3 x4 x5 hV
        unfold V_X1_nextArc_60 at hV
        refine z_aload_n hC dX1_nextArc_60 rfl rfl ?_
        refine g_X1_42_0 hC dX1_nextArc_61 ?_
        refine z_iload hC dX1_nextArc_64 rfl ?_
        obtain ⟨h15, hV⟩ := hV
        refine z_iald hC dX1_nextArc_66 (k_20 _) (h15) ?_
        refine z_aload_n hC dX1_nextArc_67 rfl rfl ?_
        refine g_X1_12_0 hC dX1_nextArc_68 ?_
        obtain ⟨h16, hV⟩ := hV
        refine zz_at rfl (by rw [pvo h16]) ?_
        refine z_iload hC dX1_nextArc_71 rfl ?_
        obtain ⟨⟨n20, h19⟩, hV⟩ := hV
        refine c_X1_278 hC (by decide) dX1_nextArc_73 (Nat.le_of_ble_eq_true rfl) h19 hV (fun r17 σ18 hV => ?_)
        refine z_iadd hC dX1_nextArc_76 ?_
        refine z_iload_n hC dX1_nextArc_77 rfl rfl ?_
        refine z_icmp_ne (tgt := 84) hC dX1_nextArc_78 (by decide) (fun hc => ?_) (fun hc => ?_)
        · replace hV := hV.2 hc
          obtain ⟨y21, e_y21⟩ : ∃ z : Int32, z = x5 + 1 := ⟨_, rfl⟩
          replace hV := hV _ e_y21
          refine z_iinc (v := y21) hC dX1_nextArc_84 rfl (by rw [e_y21]; rfl) (Nat.le_of_ble_eq_true rfl) rfl rfl ?_
          refine z_goto (tgt := 3) hC dX1_nextArc_87 (by decide) ?_
          refine zz_sub (L' := [some (.ref (E.1.heap.size + 0)), some (.int x1), some (.int x2), some (.int x3), some (.int x4), some (.int y21)]) ⟨rfl, rfl, rfl, rfl, rfl, rfl, trivial⟩ ?_
          exact j_3 σ18 x1 x2 x3 x4 y21 hV
        · replace hV := hV.1 hc
          refine z_iload hC dX1_nextArc_81 rfl ?_
          exact z_iret hC dX1_nextArc_83 rfl (by rw [hQo]; exact ⟨_, rfl, hV⟩)
      refine z_iload hC dX1_nextArc_3 rfl ?_
      refine z_aload_n hC dX1_nextArc_5 rfl rfl ?_
      refine g_X1_12_0 hC dX1_nextArc_6 ?_
      obtain ⟨h1, hV⟩ := hV
      refine zz_at rfl (by rw [pvo h1]) ?_
      obtain ⟨⟨n5, h4⟩, hV⟩ := hV
      refine c_X1_271 hC (by decide) dX1_nextArc_9 (Nat.le_of_ble_eq_true rfl) h4 hV (fun r2 σ3 hV => ?_)
      refine z_icmp_ge (tgt := 90) hC dX1_nextArc_12 (by decide) (fun hc => ?_) (fun hc => ?_)
      · replace hV := hV.2 hc
        refine z_iconst (v := (-1)) hC dX1_nextArc_90 rfl ?_
        exact z_iret hC dX1_nextArc_91 rfl (by rw [hQo]; exact ⟨_, rfl, hV⟩)
      · replace hV := hV.1 hc
        refine z_aload_n hC dX1_nextArc_15 rfl rfl ?_
        refine g_X1_12_0 hC dX1_nextArc_16 ?_
        obtain ⟨h6, hV⟩ := hV
        refine zz_at rfl (by rw [pvo h6]) ?_
        refine z_iload hC dX1_nextArc_19 rfl ?_
        obtain ⟨⟨n10, h9⟩, hV⟩ := hV
        refine c_X1_150 hC (by decide) dX1_nextArc_21 (Nat.le_of_ble_eq_true rfl) h9 hV (fun r7 σ8 hV => ?_)
        refine z_if_eq (tgt := 84) hC dX1_nextArc_24 (by decide) (fun hc => ?_) (fun hc => ?_)
        · replace hV := hV.1 hc
          obtain ⟨y11, e_y11⟩ : ∃ z : Int32, z = x5 + 1 := ⟨_, rfl⟩
          replace hV := hV _ e_y11
          refine z_iinc (v := y11) hC dX1_nextArc_84 rfl (by rw [e_y11]; rfl) (Nat.le_of_ble_eq_true rfl) rfl rfl ?_
          refine z_goto (tgt := 3) hC dX1_nextArc_87 (by decide) ?_
          refine zz_sub (L' := [some (.ref (E.1.heap.size + 0)), some (.int x1), some (.int x2), some (.int x3), some (.int x4), some (.int y11)]) ⟨rfl, rfl, rfl, rfl, rfl, rfl, trivial⟩ ?_
          exact j_3 σ8 x1 x2 x3 x4 y11 hV
        · replace hV := hV.2 hc
          refine z_iload_n hC dX1_nextArc_27 rfl rfl ?_
          refine z_iconst (v := (-1)) hC dX1_nextArc_28 rfl ?_
          refine z_icmp_ne (tgt := 48) hC dX1_nextArc_29 (by decide) (fun hc => ?_) (fun hc => ?_)
          · replace hV := hV.2 hc
            refine z_aload_n hC dX1_nextArc_48 rfl rfl ?_
            refine z_iload_n hC dX1_nextArc_49 rfl rfl ?_
            refine z_iload hC dX1_nextArc_50 rfl ?_
            refine z_iload hC dX1_nextArc_52 rfl ?_
            refine c_X1_257 hC (by decide) dX1_nextArc_54 (Nat.le_of_ble_eq_true rfl) hV (fun r12 σ13 hV => ?_)
            refine z_if_eq (tgt := 84) hC dX1_nextArc_57 (by decide) (fun hc => ?_) (fun hc => ?_)
            · replace hV := hV.1 hc
              obtain ⟨y14, e_y14⟩ : ∃ z : Int32, z = x5 + 1 := ⟨_, rfl⟩
              replace hV := hV _ e_y14
              refine z_iinc (v := y14) hC dX1_nextArc_84 rfl (by rw [e_y14]; rfl) (Nat.le_of_ble_eq_true rfl) rfl rfl ?_
              refine z_goto (tgt := 3) hC dX1_nextArc_87 (by decide) ?_
              refine zz_sub (L' := [some (.ref (E.1.heap.size + 0)), some (.int x1), some (.int x2), some (.int x3), some (.int x4), some (.int y14)]) ⟨rfl, rfl, rfl, rfl, rfl, rfl, trivial⟩ ?_
              exact j_3 σ13 x1 x2 x3 x4 y14 hV
            · replace hV := hV.2 hc
              refine zz_sub (L' := [some (.ref (E.1.heap.size + 0)), some (.int x1), some (.int x2), some (.int x3), some (.int x4), some (.int x5)]) ⟨rfl, rfl, rfl, rfl, rfl, rfl, trivial⟩ ?_
              exact j_60 σ13 x1 x2 x3 x4 x5 hV
          · replace hV := hV.1 hc
            refine z_aload_n hC dX1_nextArc_32 rfl rfl ?_
            refine g_X1_12_0 hC dX1_nextArc_33 ?_
            obtain ⟨h22, hV⟩ := hV
            refine zz_at rfl (by rw [pvo h22]) ?_
            refine z_iload hC dX1_nextArc_36 rfl ?_
            obtain ⟨⟨n26, h25⟩, hV⟩ := hV
            refine c_X1_280 hC (by decide) dX1_nextArc_38 (Nat.le_of_ble_eq_true rfl) h25 hV (fun r23 σ24 hV => ?_)
            refine z_iload_n hC dX1_nextArc_41 rfl rfl ?_
            refine z_icmp_ne (tgt := 84) hC dX1_nextArc_42 (by decide) (fun hc => ?_) (fun hc => ?_)
            · replace hV := hV.2 hc
              obtain ⟨y27, e_y27⟩ : ∃ z : Int32, z = x5 + 1 := ⟨_, rfl⟩
              replace hV := hV _ e_y27
              refine z_iinc (v := y27) hC dX1_nextArc_84 rfl (by rw [e_y27]; rfl) (Nat.le_of_ble_eq_true rfl) rfl rfl ?_
              refine z_goto (tgt := 3) hC dX1_nextArc_87 (by decide) ?_
              refine zz_sub (L' := [some (.ref (E.1.heap.size + 0)), some (.int x1), some (.int x2), some (.int x3), some (.int x4), some (.int y27)]) ⟨rfl, rfl, rfl, rfl, rfl, rfl, trivial⟩ ?_
              exact j_3 σ24 x1 x2 x3 x4 y27 hV
            · replace hV := hV.1 hc
              refine z_goto (tgt := 60) hC dX1_nextArc_45 (by decide) ?_
              refine zz_sub (L' := [some (.ref (E.1.heap.size + 0)), some (.int x1), some (.int x2), some (.int x3), some (.int x4), some (.int x5)]) ⟨rfl, rfl, rfl, rfl, rfl, rfl, trivial⟩ ?_
              exact j_60 σ24 x1 x2 x3 x4 x5 hV
  refine z_iconst (v := 0) hC dX1_nextArc_0 rfl ?_
  refine z_istore hC dX1_nextArc_1 (Nat.le_of_ble_eq_true rfl) rfl rfl ?_
  refine zz_sub (L' := [some (.ref (E.1.heap.size + 0)), some (.int a1), some (.int a2), some (.int a3), some (.int a4), some (.int 0)]) ⟨rfl, rfl, rfl, rfl, rfl, rfl, trivial⟩ ?_
  exact j_3 σ a1 a2 a3 a4 0 hV
