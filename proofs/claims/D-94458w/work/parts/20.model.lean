set_option maxRecDepth 100000
def wp_X4_in (σ : ZS) (a0 : Int32) (a1 : Int32) (a2 : Int32) (Ret : Int32 → ZS → Prop) : Prop :=
    ((a0 < a1 → (Ret 0 σ)) ∧ (¬ a0 < a1 → (((a2 < a0 → (Ret 0 σ)) ∧ (¬ a2 < a0 → (Ret 1 σ))))))
set_option maxHeartbeats 4000000 in
theorem mz_X4_in {l : Launch} {E : ZE} (hE : EOK E) {σ : ZS} {a0 : Int32} {a1 : Int32} {a2 : Int32} {Ret : Int32 → ZS → Prop} (hV : wp_X4_in σ a0 a1 a2 Ret) : MZ l E NS yX4_in (ws_ yX4_in cX4_in 3 (some .boolean)) 1 σ [.int a0, .int a1, .int a2] (rI Ret) := by
  refine MZ.start (L := [some (.int a0), some (.int a1), some (.int a2)]) hE (by decide) (Nat.le_of_ble_eq_true rfl) rfl fun C hCl hQo hC => ?_
  replace hC : Cx C E cX4_in 3 "RightTurnsModel" "in" (some .boolean) [] 1 := hC
  unfold wp_X4_in at hV
  refine z_iload_n hC dX4_in_0 rfl rfl ?_
  refine z_iload_n hC dX4_in_1 rfl rfl ?_
  refine z_icmp_lt (tgt := 14) hC dX4_in_2 (by decide) (fun hc => ?_) (fun hc => ?_)
  · replace hV := hV.1 hc
    refine z_iconst (v := 0) hC dX4_in_14 rfl ?_
    exact z_iret hC dX4_in_15 rfl (by rw [hQo]; exact ⟨_, rfl, hV⟩)
  · replace hV := hV.2 hc
    refine z_iload_n hC dX4_in_5 rfl rfl ?_
    refine z_iload_n hC dX4_in_6 rfl rfl ?_
    refine z_icmp_gt (tgt := 14) hC dX4_in_7 (by decide) (fun hc => ?_) (fun hc => ?_)
    · replace hV := hV.1 hc
      refine z_iconst (v := 0) hC dX4_in_14 rfl ?_
      exact z_iret hC dX4_in_15 rfl (by rw [hQo]; exact ⟨_, rfl, hV⟩)
    · replace hV := hV.2 hc
      refine z_iconst (v := 1) hC dX4_in_10 rfl ?_
      refine z_goto (tgt := 15) hC dX4_in_11 (by decide) ?_
      exact z_iret hC dX4_in_15 rfl (by rw [hQo]; exact ⟨_, rfl, hV⟩)
theorem g_X4_20_44 {C : ZC} {E : ZE} {cc : ByteArray} {nL pc d : Nat} {nm : String} {ret : Option FieldType} {hh : List (Nat × Nat × Nat × Nat)} {σ : ZS} {L : List (Option Value)} {st : List Value} (hC : Cx C E cc nL "RightTurnsModel" nm ret hh d) (hd : decode cc pc = .ok (.getfield 20, 3)) (k : zz C E NS nL σ (pc + 3) L (.ref (E.1.heap.size + 47) :: st)) : zz C E NS nL σ pc L (.ref (E.1.heap.size + 44) :: st) :=
  z_get hC cf3 hd (k_44 σ) (k := 10) (by decide) (Or.inl q1595) (Or.inl rfl) rfl k
theorem cw_X4_in : CodeW yX4_in (ws_ yX4_in cX4_in 3 (some .boolean)) 3 := ⟨fun w h => (List.mem_cons.mp h).elim (fun e => e ▸ q1780) id, Or.inl ⟨_, _, q1780⟩, q138, by decide, by decide⟩
theorem c_X4_165 {C : ZC} {E : ZE} {cc : ByteArray} {nL pc d : Nat} {nm : String} {ret : Option FieldType} {hh : List (Nat × Nat × Nat × Nat)} {σ : ZS} {L : List (Option Value)} {st : List Value} {a0 : Int32} {a1 : Int32} {a2 : Int32} {Ret : Int32 → ZS → Prop} (hC : Cx C E cc nL "RightTurnsModel" nm ret hh d) (hdd : 1 + 1 ≤ d) (hd : decode cc pc = .ok (.invokestatic 165, 3)) (hW : (st.map fun v => v.category).sum ≤ 8) (hV : wp_X4_in σ a0 a1 a2 Ret) (k : ∀ r σ', Ret r σ' → zz C E NS nL σ' (pc + 3) L (.int r :: st)) : zz C E NS nL σ pc L (.int a2 :: .int a1 :: .int a0 :: st) :=
  z_callSG hC cw_X4_in hdd (by decide) (mz_X4_in (cxE hC) hV) hd q1778 q1779 (np := 3) rfl rfl hW rfl (kI k)
def wp_X4_isStreet (σ : ZS) (a1 : Int32) (Ret : Int32 → ZS → Prop) : Prop :=
    wp_X4_in σ a1 0 ((zI σ 47 (ix 1)) - 1) (fun r1 σ2 => isB r1 ∧ (Ret r1 σ2))
set_option maxHeartbeats 4000000 in
theorem mz_X4_isStreet {l : Launch} {E : ZE} (hE : EOK E) {σ : ZS} {a1 : Int32} {Ret : Int32 → ZS → Prop} (hV : wp_X4_isStreet σ a1 Ret) : MZ l E NS yX4_isStreet (ws_ yX4_isStreet cX4_isStreet 2 (some .boolean)) 2 σ [.ref (E.1.heap.size + 44), .int a1] (rI Ret) := by
  refine MZ.start (L := [some (.ref (E.1.heap.size + 44)), some (.int a1)]) hE (by decide) (Nat.le_of_ble_eq_true rfl) rfl fun C hCl hQo hC => ?_
  replace hC : Cx C E cX4_isStreet 2 "RightTurnsModel" "isStreet" (some .boolean) [] 2 := hC
  unfold wp_X4_isStreet at hV
  refine z_iload_n hC dX4_isStreet_0 rfl rfl ?_
  refine z_iconst (v := 0) hC dX4_isStreet_1 rfl ?_
  refine z_aload_n hC dX4_isStreet_2 rfl rfl ?_
  refine g_X4_20_44 hC dX4_isStreet_3 ?_
  refine z_iconst (v := 1) hC dX4_isStreet_6 rfl ?_
  refine z_iald hC dX4_isStreet_7 (k_47 _) (in_dec rfl) ?_
  refine z_iconst (v := 1) hC dX4_isStreet_8 rfl ?_
  refine z_isub hC dX4_isStreet_9 ?_
  refine c_X4_165 hC (by decide) dX4_isStreet_10 (Nat.le_of_ble_eq_true rfl) hV (fun r1 σ2 hV => ?_)
  obtain ⟨h3, hV⟩ := hV
  exact z_iret hC dX4_isStreet_13 h3 (by rw [hQo]; exact ⟨_, rfl, hV⟩)
theorem cw_X4_isStreet : CodeW yX4_isStreet (ws_ yX4_isStreet cX4_isStreet 2 (some .boolean)) 2 := ⟨fun w h => (List.mem_cons.mp h).elim (fun e => e ▸ q1908) id, Or.inl ⟨_, _, q1908⟩, q138, by decide, by decide⟩
theorem c_X4_268 {C : ZC} {E : ZE} {cc : ByteArray} {nL pc d : Nat} {nm : String} {ret : Option FieldType} {hh : List (Nat × Nat × Nat × Nat)} {σ : ZS} {L : List (Option Value)} {st : List Value} {a1 : Int32} {Ret : Int32 → ZS → Prop} (hC : Cx C E cc nL "RightTurnsModel" nm ret hh d) (hdd : 2 + 1 ≤ d) (hd : decode cc pc = .ok (.invokevirtual 268, 3)) (hW : (st.map fun v => v.category).sum ≤ 8) (hV : wp_X4_isStreet σ a1 Ret) (k : ∀ r σ', Ret r σ' → zz C E NS nL σ' (pc + 3) L (.int r :: st)) : zz C E NS nL σ pc L (.int a1 :: .ref (E.1.heap.size + 44) :: st) :=
  z_callVG hC cf3 cw_X4_isStreet hdd (by decide) (mz_X4_isStreet (cxE hC) hV) hd (k_44 σ) q1905 q1907 qs75 (np := 1) rfl rfl hW rfl (kI k)
def wp_X4_areStreets (σ : ZS) (a1 : Int32) (a2 : Int32) (Ret : Int32 → ZS → Prop) : Prop :=
    wp_X4_isStreet σ a1 (fun r1 σ2 => ((r1 = 0 → (Ret 0 σ2)) ∧ (¬ r1 = 0 → (wp_X4_isStreet σ2 a2 (fun r3 σ4 => ((r3 = 0 → (Ret 0 σ4)) ∧ (¬ r3 = 0 → (Ret 1 σ4))))))))
set_option maxHeartbeats 4000000 in
theorem mz_X4_areStreets {l : Launch} {E : ZE} (hE : EOK E) {σ : ZS} {a1 : Int32} {a2 : Int32} {Ret : Int32 → ZS → Prop} (hV : wp_X4_areStreets σ a1 a2 Ret) : MZ l E NS yX4_areStreets (ws_ yX4_areStreets cX4_areStreets 3 (some .boolean)) 3 σ [.ref (E.1.heap.size + 44), .int a1, .int a2] (rI Ret) := by
  refine MZ.start (L := [some (.ref (E.1.heap.size + 44)), some (.int a1), some (.int a2)]) hE (by decide) (Nat.le_of_ble_eq_true rfl) rfl fun C hCl hQo hC => ?_
  replace hC : Cx C E cX4_areStreets 3 "RightTurnsModel" "areStreets" (some .boolean) [] 3 := hC
  unfold wp_X4_areStreets at hV
  refine z_aload_n hC dX4_areStreets_0 rfl rfl ?_
  refine z_iload_n hC dX4_areStreets_1 rfl rfl ?_
  refine c_X4_268 hC (by decide) dX4_areStreets_2 (Nat.le_of_ble_eq_true rfl) hV (fun r1 σ2 hV => ?_)
  refine z_if_eq (tgt := 20) hC dX4_areStreets_5 (by decide) (fun hc => ?_) (fun hc => ?_)
  · replace hV := hV.1 hc
    refine z_iconst (v := 0) hC dX4_areStreets_20 rfl ?_
    exact z_iret hC dX4_areStreets_21 rfl (by rw [hQo]; exact ⟨_, rfl, hV⟩)
  · replace hV := hV.2 hc
    refine z_aload_n hC dX4_areStreets_8 rfl rfl ?_
    refine z_iload_n hC dX4_areStreets_9 rfl rfl ?_
    refine c_X4_268 hC (by decide) dX4_areStreets_10 (Nat.le_of_ble_eq_true rfl) hV (fun r3 σ4 hV => ?_)
    refine z_if_eq (tgt := 20) hC dX4_areStreets_13 (by decide) (fun hc => ?_) (fun hc => ?_)
    · replace hV := hV.1 hc
      refine z_iconst (v := 0) hC dX4_areStreets_20 rfl ?_
      exact z_iret hC dX4_areStreets_21 rfl (by rw [hQo]; exact ⟨_, rfl, hV⟩)
    · replace hV := hV.2 hc
      refine z_iconst (v := 1) hC dX4_areStreets_16 rfl ?_
      refine z_goto (tgt := 21) hC dX4_areStreets_17 (by decide) ?_
      exact z_iret hC dX4_areStreets_21 rfl (by rw [hQo]; exact ⟨_, rfl, hV⟩)
theorem g_X4_131_44 {C : ZC} {E : ZE} {cc : ByteArray} {nL pc d : Nat} {nm : String} {ret : Option FieldType} {hh : List (Nat × Nat × Nat × Nat)} {σ : ZS} {L : List (Option Value)} {st : List Value} (hC : Cx C E cc nL "RightTurnsModel" nm ret hh d) (hd : decode cc pc = .ok (.getfield 131, 3)) (k : zz C E NS nL σ (pc + 3) L (.int (zI σ 44 0) :: st)) : zz C E NS nL σ pc L (.ref (E.1.heap.size + 44) :: st) :=
  z_get hC cf3 hd (k_44 σ) (k := 0) (by decide) (Or.inl q1585) (Or.inl rfl) rfl k
theorem p_X4_131_c3 {C : ZC} {E : ZE} {cc : ByteArray} {n nL pc d a x : Nat} {nm : String} {ret : Option FieldType} {hh : List (Nat × Nat × Nat × Nat)} {σ : ZS} {L : List (Option Value)} {st : List Value} {v : Int32} (hC : Cx C E cc nL "RightTurnsModel" nm ret hh d) (hd : decode cc pc = .ok (.putfield 131, 3)) (hk : kK n σ a = (3 + 7, x)) (k : zz C E n nL (sI σ a 0 v) (pc + 3) L st) : zz C E n nL σ pc L (.int v :: .ref (E.1.heap.size + a) :: st) :=
  z_putI hC cf3 hd hk (k := 0) (by decide) (Or.inl q1585) (Or.inl rfl) (Or.inl rfl) rfl rfl rfl k
def wp_X4_bad (σ : ZS) (a1 : Int32) (a2 : Int32) (Ret : Int32 → ZS → Prop) : Prop :=
    ((a1 = 0 → ((((zI σ 44 0) = 0 → (Ret 0 σ)) ∧ (¬ (zI σ 44 0) = 0 → (Ret 1 σ))))) ∧ (¬ a1 = 0 → ((((zI σ 44 0) = 0 → (∀ σ1 : ZS, σ1 = sI σ 44 0 a2 → ((((zI σ1 44 0) = 0 → (Ret 0 σ1)) ∧ (¬ (zI σ1 44 0) = 0 → (Ret 1 σ1)))))) ∧ (¬ (zI σ 44 0) = 0 → ((((zI σ 44 0) = 0 → (Ret 0 σ)) ∧ (¬ (zI σ 44 0) = 0 → (Ret 1 σ)))))))))
set_option maxHeartbeats 4000000 in
theorem mz_X4_bad {l : Launch} {E : ZE} (hE : EOK E) {σ : ZS} {a1 : Int32} {a2 : Int32} {Ret : Int32 → ZS → Prop} (hV : wp_X4_bad σ a1 a2 Ret) : MZ l E NS yX4_bad (ws_ yX4_bad cX4_bad 3 (some .boolean)) 1 σ [.ref (E.1.heap.size + 44), .int a1, .int a2] (rI Ret) := by
  refine MZ.start (L := [some (.ref (E.1.heap.size + 44)), some (.int a1), some (.int a2)]) hE (by decide) (Nat.le_of_ble_eq_true rfl) rfl fun C hCl hQo hC => ?_
  replace hC : Cx C E cX4_bad 3 "RightTurnsModel" "bad" (some .boolean) [] 1 := hC
  unfold wp_X4_bad at hV
  refine z_iload_n hC dX4_bad_0 rfl rfl ?_
  refine z_if_eq (tgt := 16) hC dX4_bad_1 (by decide) (fun hc => ?_) (fun hc => ?_)
  · replace hV := hV.1 hc
    refine z_aload_n hC dX4_bad_16 rfl rfl ?_
    refine g_X4_131_44 hC dX4_bad_17 ?_
    refine z_if_eq (tgt := 27) hC dX4_bad_20 (by decide) (fun hc => ?_) (fun hc => ?_)
    · replace hV := hV.1 hc
      refine z_iconst (v := 0) hC dX4_bad_27 rfl ?_
      exact z_iret hC dX4_bad_28 rfl (by rw [hQo]; exact ⟨_, rfl, hV⟩)
    · replace hV := hV.2 hc
      refine z_iconst (v := 1) hC dX4_bad_23 rfl ?_
      refine z_goto (tgt := 28) hC dX4_bad_24 (by decide) ?_
      exact z_iret hC dX4_bad_28 rfl (by rw [hQo]; exact ⟨_, rfl, hV⟩)
  · replace hV := hV.2 hc
    refine z_aload_n hC dX4_bad_4 rfl rfl ?_
    refine g_X4_131_44 hC dX4_bad_5 ?_
    refine z_if_ne (tgt := 16) hC dX4_bad_8 (by decide) (fun hc => ?_) (fun hc => ?_)
    · replace hV := hV.2 hc
      refine z_aload_n hC dX4_bad_16 rfl rfl ?_
      refine g_X4_131_44 hC dX4_bad_17 ?_
      refine z_if_eq (tgt := 27) hC dX4_bad_20 (by decide) (fun hc => ?_) (fun hc => ?_)
      · replace hV := hV.1 hc
        refine z_iconst (v := 0) hC dX4_bad_27 rfl ?_
        exact z_iret hC dX4_bad_28 rfl (by rw [hQo]; exact ⟨_, rfl, hV⟩)
      · replace hV := hV.2 hc
        refine z_iconst (v := 1) hC dX4_bad_23 rfl ?_
        refine z_goto (tgt := 28) hC dX4_bad_24 (by decide) ?_
        exact z_iret hC dX4_bad_28 rfl (by rw [hQo]; exact ⟨_, rfl, hV⟩)
    · replace hV := hV.1 hc
      refine z_aload_n hC dX4_bad_11 rfl rfl ?_
      refine z_iload_n hC dX4_bad_12 rfl rfl ?_
      refine p_X4_131_c3 hC dX4_bad_13 (k_44 _) ?_
      obtain ⟨σ1, e_σ1⟩ : ∃ z : ZS, z = sI σ 44 0 a2 := ⟨_, rfl⟩
      replace hV := hV _ e_σ1
      rw [← e_σ1]
      refine z_aload_n hC dX4_bad_16 rfl rfl ?_
      refine g_X4_131_44 hC dX4_bad_17 ?_
      refine z_if_eq (tgt := 27) hC dX4_bad_20 (by decide) (fun hc => ?_) (fun hc => ?_)
      · replace hV := hV.1 hc
        refine z_iconst (v := 0) hC dX4_bad_27 rfl ?_
        exact z_iret hC dX4_bad_28 rfl (by rw [hQo]; exact ⟨_, rfl, hV⟩)
      · replace hV := hV.2 hc
        refine z_iconst (v := 1) hC dX4_bad_23 rfl ?_
        refine z_goto (tgt := 28) hC dX4_bad_24 (by decide) ?_
        exact z_iret hC dX4_bad_28 rfl (by rw [hQo]; exact ⟨_, rfl, hV⟩)
theorem g_X4_238_44 {C : ZC} {E : ZE} {cc : ByteArray} {nL pc d : Nat} {nm : String} {ret : Option FieldType} {hh : List (Nat × Nat × Nat × Nat)} {σ : ZS} {L : List (Option Value)} {st : List Value} (hC : Cx C E cc nL "RightTurnsModel" nm ret hh d) (hd : decode cc pc = .ok (.getfield 238, 3)) (k : zz C E NS nL σ (pc + 3) L (.int (zI σ 44 19) :: st)) : zz C E NS nL σ pc L (.ref (E.1.heap.size + 44) :: st) :=
  z_get hC cf3 hd (k_44 σ) (k := 19) (by decide) (Or.inl q1604) (Or.inl rfl) rfl k
theorem g_X4_49_44 {C : ZC} {E : ZE} {cc : ByteArray} {nL pc d : Nat} {nm : String} {ret : Option FieldType} {hh : List (Nat × Nat × Nat × Nat)} {σ : ZS} {L : List (Option Value)} {st : List Value} (hC : Cx C E cc nL "RightTurnsModel" nm ret hh d) (hd : decode cc pc = .ok (.getfield 49, 3)) (k : zz C E NS nL σ (pc + 3) L (.ref (E.1.heap.size + 160) :: st)) : zz C E NS nL σ pc L (.ref (E.1.heap.size + 44) :: st) :=
  z_get hC cf3 hd (k_44 σ) (k := 20) (by decide) (Or.inl q1605) (Or.inl rfl) rfl k
theorem g_X4_52_44 {C : ZC} {E : ZE} {cc : ByteArray} {nL pc d : Nat} {nm : String} {ret : Option FieldType} {hh : List (Nat × Nat × Nat × Nat)} {σ : ZS} {L : List (Option Value)} {st : List Value} (hC : Cx C E cc nL "RightTurnsModel" nm ret hh d) (hd : decode cc pc = .ok (.getfield 52, 3)) (k : zz C E NS nL σ (pc + 3) L (.ref (E.1.heap.size + 362) :: st)) : zz C E NS nL σ pc L (.ref (E.1.heap.size + 44) :: st) :=
  z_get hC cf3 hd (k_44 σ) (k := 21) (by decide) (Or.inl q1606) (Or.inl rfl) rfl k
theorem p_X4_238_c3 {C : ZC} {E : ZE} {cc : ByteArray} {n nL pc d a x : Nat} {nm : String} {ret : Option FieldType} {hh : List (Nat × Nat × Nat × Nat)} {σ : ZS} {L : List (Option Value)} {st : List Value} {v : Int32} (hC : Cx C E cc nL "RightTurnsModel" nm ret hh d) (hd : decode cc pc = .ok (.putfield 238, 3)) (hk : kK n σ a = (3 + 7, x)) (k : zz C E n nL (sI σ a 19 v) (pc + 3) L st) : zz C E n nL σ pc L (.int v :: .ref (E.1.heap.size + a) :: st) :=
  z_putI hC cf3 hd hk (k := 19) (by decide) (Or.inl q1604) (Or.inl rfl) (Or.inl rfl) rfl rfl rfl k
def VL_X4_changes_2 (Ret : Int32 → ZS → Prop) : Nat → ZS → Int32 → Prop
  | 0 => fun _ _ => False
  | k + 1 => fun σ x1 =>
    let K2 := VL_X4_changes_2 Ret k
    ((x1 < 24 → (vp_in ((zI σ 44 19) + 1) 201 ∧ (vp_in (zI σ 44 19) 201 ∧ (vp_in x1 24 ∧ (vp_in x1 24 ∧ (∀ σ6 : ZS, σ6 = sI σ (160 + 1 + ix ((zI σ 44 19) + 1)) (ix x1) (zI σ (160 + 1 + ix (zI σ 44 19)) (ix x1)) → (vp_in ((zI σ6 44 19) + 1) 201 ∧ (vp_in (zI σ6 44 19) 201 ∧ (vp_in x1 24 ∧ (vp_in x1 24 ∧ (∀ σ11 : ZS, σ11 = sI σ6 (362 + 1 + ix ((zI σ6 44 19) + 1)) (ix x1) (zI σ6 (362 + 1 + ix (zI σ6 44 19)) (ix x1)) → (∀ y12 : Int32, y12 = x1 + 1 → (K2 σ11 y12))))))))))))) ∧ (¬ x1 < 24 → (∀ σ1 : ZS, σ1 = sI σ 44 19 ((zI σ 44 19) + 1) → (Ret (zI σ1 44 19) σ1))))
def V_X4_changes_2 (Ret : Int32 → ZS → Prop) (σ : ZS) (x1 : Int32) : Prop := ∃ k, VL_X4_changes_2 Ret k σ x1
def wp_X4_changes (σ : ZS) (Ret : Int32 → ZS → Prop) : Prop :=
    V_X4_changes_2 Ret σ 0
set_option maxHeartbeats 4000000 in
theorem mz_X4_changes {l : Launch} {E : ZE} (hE : EOK E) {σ : ZS} {Ret : Int32 → ZS → Prop} (hV : wp_X4_changes σ Ret) : MZ l E NS yX4_changes (ws_ yX4_changes cX4_changes 2 (some .int)) 1 σ [.ref (E.1.heap.size + 44)] (rI Ret) := by
  refine MZ.start (L := [some (.ref (E.1.heap.size + 44)), none]) hE (by decide) (Nat.le_of_ble_eq_true rfl) rfl fun C hCl hQo hC => ?_
  replace hC : Cx C E cX4_changes 2 "RightTurnsModel" "changes" (some .int) [] 1 := hC
  unfold wp_X4_changes at hV
  have j_2 : ∀ (σ : ZS) (x1 : Int32), V_X4_changes_2 Ret σ x1 → zz C E NS 2 σ 2 [some (.ref (E.1.heap.size + 44)), some (.int x1)] [] := by
    intro σ x1 ⟨k, hV⟩
    revert σ x1
    induction k with
    | zero => exact fun _ _ hV => hV.elim
    | succ k j_2 =>
      intro σ x1 hV
      simp only [VL_X4_changes_2] at hV
      generalize hKe2 : VL_X4_changes_2 Ret k = K2 at hV j_2
      clear hKe2
      refine z_iload_n hC dX4_changes_2 rfl rfl ?_
      refine z_bipush (v := 24) hC dX4_changes_3 rfl ?_
      refine z_icmp_ge (tgt := 62) hC dX4_changes_5 (by decide) (fun hc => ?_) (fun hc => ?_)
      · replace hV := hV.2 hc
        refine z_aload_n hC dX4_changes_62 rfl rfl ?_
        refine z_dup hC dX4_changes_63 rfl ?_
        refine g_X4_238_44 hC dX4_changes_64 ?_
        refine z_iconst (v := 1) hC dX4_changes_67 rfl ?_
        refine z_iadd hC dX4_changes_68 ?_
        refine p_X4_238_c3 hC dX4_changes_69 (k_44 _) ?_
        obtain ⟨σ1, e_σ1⟩ : ∃ z : ZS, z = sI σ 44 19 ((zI σ 44 19) + 1) := ⟨_, rfl⟩
        replace hV := hV _ e_σ1
        rw [← e_σ1]
        refine z_aload_n hC dX4_changes_72 rfl rfl ?_
        refine g_X4_238_44 hC dX4_changes_73 ?_
        exact z_iret hC dX4_changes_76 rfl (by rw [hQo]; exact ⟨_, rfl, hV⟩)
      · replace hV := hV.1 hc
        refine z_aload_n hC dX4_changes_8 rfl rfl ?_
        refine g_X4_49_44 hC dX4_changes_9 ?_
        refine z_aload_n hC dX4_changes_12 rfl rfl ?_
        refine g_X4_238_44 hC dX4_changes_13 ?_
        refine z_iconst (v := 1) hC dX4_changes_16 rfl ?_
        refine z_iadd hC dX4_changes_17 ?_
        obtain ⟨h2, hV⟩ := hV
        refine z_aalS hC dX4_changes_18 (k_160 _) (by decide) ps_160 h2 ?_
        refine z_iload_n hC dX4_changes_19 rfl rfl ?_
        refine z_aload_n hC dX4_changes_20 rfl rfl ?_
        refine g_X4_49_44 hC dX4_changes_21 ?_
        refine z_aload_n hC dX4_changes_24 rfl rfl ?_
        refine g_X4_238_44 hC dX4_changes_25 ?_
        obtain ⟨h3, hV⟩ := hV
        refine z_aalS hC dX4_changes_28 (k_160 _) (by decide) ps_160 h3 ?_
        refine z_iload_n hC dX4_changes_29 rfl rfl ?_
        obtain ⟨h4, hV⟩ := hV
        refine z_iald hC dX4_changes_30 (kr_160 _ (ix_lt h3)) (h4) ?_
        obtain ⟨h5, hV⟩ := hV
        refine z_iast hC dX4_changes_31 (kr_160 _ (ix_lt h2)) (h5) ?_
        obtain ⟨σ6, e_σ6⟩ : ∃ z : ZS, z = sI σ (160 + 1 + ix ((zI σ 44 19) + 1)) (ix x1) (zI σ (160 + 1 + ix (zI σ 44 19)) (ix x1)) := ⟨_, rfl⟩
        replace hV := hV _ e_σ6
        rw [← e_σ6]
        refine z_aload_n hC dX4_changes_32 rfl rfl ?_
        refine g_X4_52_44 hC dX4_changes_33 ?_
        refine z_aload_n hC dX4_changes_36 rfl rfl ?_
        refine g_X4_238_44 hC dX4_changes_37 ?_
        refine z_iconst (v := 1) hC dX4_changes_40 rfl ?_
        refine z_iadd hC dX4_changes_41 ?_
        obtain ⟨h7, hV⟩ := hV
        refine z_aalS hC dX4_changes_42 (k_362 _) (by decide) ps_362 h7 ?_
        refine z_iload_n hC dX4_changes_43 rfl rfl ?_
        refine z_aload_n hC dX4_changes_44 rfl rfl ?_
        refine g_X4_52_44 hC dX4_changes_45 ?_
        refine z_aload_n hC dX4_changes_48 rfl rfl ?_
        refine g_X4_238_44 hC dX4_changes_49 ?_
        obtain ⟨h8, hV⟩ := hV
        refine z_aalS hC dX4_changes_52 (k_362 _) (by decide) ps_362 h8 ?_
        refine z_iload_n hC dX4_changes_53 rfl rfl ?_
        obtain ⟨h9, hV⟩ := hV
        refine z_iald hC dX4_changes_54 (kr_362 _ (ix_lt h8)) (h9) ?_
        obtain ⟨h10, hV⟩ := hV
        refine z_iast hC dX4_changes_55 (kr_362 _ (ix_lt h7)) (h10) ?_
        obtain ⟨σ11, e_σ11⟩ : ∃ z : ZS, z = sI σ6 (362 + 1 + ix ((zI σ6 44 19) + 1)) (ix x1) (zI σ6 (362 + 1 + ix (zI σ6 44 19)) (ix x1)) := ⟨_, rfl⟩
        replace hV := hV _ e_σ11
        rw [← e_σ11]
        obtain ⟨y12, e_y12⟩ : ∃ z : Int32, z = x1 + 1 := ⟨_, rfl⟩
        replace hV := hV _ e_y12
        refine z_iinc (v := y12) hC dX4_changes_56 rfl (by rw [e_y12]; rfl) (Nat.le_of_ble_eq_true rfl) rfl rfl ?_
        refine z_goto (tgt := 2) hC dX4_changes_59 (by decide) ?_
        refine zz_sub (L' := [some (.ref (E.1.heap.size + 44)), some (.int y12)]) ⟨rfl, rfl, trivial⟩ ?_
        exact j_2 σ11 y12 hV
  refine z_iconst (v := 0) hC dX4_changes_0 rfl ?_
  refine z_istore_n hC dX4_changes_1 rfl (Nat.le_of_ble_eq_true rfl) rfl rfl ?_
  refine zz_sub (L' := [some (.ref (E.1.heap.size + 44)), some (.int 0)]) ⟨rfl, rfl, trivial⟩ ?_
  exact j_2 σ 0 hV
def wp_X4_meet (σ : ZS) (a0 : Nat) (a1 : Int32) (a2 : Int32) (Ret : Int32 → ZS → Prop) : Prop :=
    ∃ n2, kK NS σ a0 = (4, n2) ∧ (vp_in a1 n2 ∧ ((kP NS σ a0 (ix a1)) = some (.inl (zo (kP NS σ a0 (ix a1)))) ∧ (∃ n6, kK NS σ (zo (kP NS σ a0 (ix a1))) = (0, n6) ∧ (vp_in 0 n6 ∧ (∃ n9, kK NS σ a0 = (4, n9) ∧ (vp_in a2 n9 ∧ ((kP NS σ a0 (ix a2)) = some (.inl (zo (kP NS σ a0 (ix a2)))) ∧ (∃ n13, kK NS σ (zo (kP NS σ a0 (ix a2))) = (0, n13) ∧ (vp_in 0 n13 ∧ ((((zI σ (zo (kP NS σ a0 (ix a1))) (ix 0)) = (zI σ (zo (kP NS σ a0 (ix a2))) (ix 0)) → (Ret 1 σ)) ∧ (¬ (zI σ (zo (kP NS σ a0 (ix a1))) (ix 0)) = (zI σ (zo (kP NS σ a0 (ix a2))) (ix 0)) → (∃ n16, kK NS σ a0 = (4, n16) ∧ (vp_in a1 n16 ∧ ((kP NS σ a0 (ix a1)) = some (.inl (zo (kP NS σ a0 (ix a1)))) ∧ (∃ n20, kK NS σ (zo (kP NS σ a0 (ix a1))) = (0, n20) ∧ (vp_in 0 n20 ∧ (∃ n23, kK NS σ a0 = (4, n23) ∧ (vp_in a2 n23 ∧ ((kP NS σ a0 (ix a2)) = some (.inl (zo (kP NS σ a0 (ix a2)))) ∧ (∃ n27, kK NS σ (zo (kP NS σ a0 (ix a2))) = (0, n27) ∧ (vp_in 1 n27 ∧ ((((zI σ (zo (kP NS σ a0 (ix a1))) (ix 0)) = (zI σ (zo (kP NS σ a0 (ix a2))) (ix 1)) → (Ret 1 σ)) ∧ (¬ (zI σ (zo (kP NS σ a0 (ix a1))) (ix 0)) = (zI σ (zo (kP NS σ a0 (ix a2))) (ix 1)) → (∃ n30, kK NS σ a0 = (4, n30) ∧ (vp_in a1 n30 ∧ ((kP NS σ a0 (ix a1)) = some (.inl (zo (kP NS σ a0 (ix a1)))) ∧ (∃ n34, kK NS σ (zo (kP NS σ a0 (ix a1))) = (0, n34) ∧ (vp_in 1 n34 ∧ (∃ n37, kK NS σ a0 = (4, n37) ∧ (vp_in a2 n37 ∧ ((kP NS σ a0 (ix a2)) = some (.inl (zo (kP NS σ a0 (ix a2)))) ∧ (∃ n41, kK NS σ (zo (kP NS σ a0 (ix a2))) = (0, n41) ∧ (vp_in 0 n41 ∧ ((((zI σ (zo (kP NS σ a0 (ix a1))) (ix 1)) = (zI σ (zo (kP NS σ a0 (ix a2))) (ix 0)) → (Ret 1 σ)) ∧ (¬ (zI σ (zo (kP NS σ a0 (ix a1))) (ix 1)) = (zI σ (zo (kP NS σ a0 (ix a2))) (ix 0)) → (∃ n44, kK NS σ a0 = (4, n44) ∧ (vp_in a1 n44 ∧ ((kP NS σ a0 (ix a1)) = some (.inl (zo (kP NS σ a0 (ix a1)))) ∧ (∃ n48, kK NS σ (zo (kP NS σ a0 (ix a1))) = (0, n48) ∧ (vp_in 1 n48 ∧ (∃ n51, kK NS σ a0 = (4, n51) ∧ (vp_in a2 n51 ∧ ((kP NS σ a0 (ix a2)) = some (.inl (zo (kP NS σ a0 (ix a2)))) ∧ (∃ n55, kK NS σ (zo (kP NS σ a0 (ix a2))) = (0, n55) ∧ (vp_in 1 n55 ∧ ((((zI σ (zo (kP NS σ a0 (ix a1))) (ix 1)) = (zI σ (zo (kP NS σ a0 (ix a2))) (ix 1)) → (Ret 1 σ)) ∧ (¬ (zI σ (zo (kP NS σ a0 (ix a1))) (ix 1)) = (zI σ (zo (kP NS σ a0 (ix a2))) (ix 1)) → (Ret 0 σ))))))))))))))))))))))))))))))))))))))))))))))))))))
set_option maxHeartbeats 4000000 in
theorem mz_X4_meet {l : Launch} {E : ZE} (hE : EOK E) {σ : ZS} {a0 : Nat} {a1 : Int32} {a2 : Int32} {Ret : Int32 → ZS → Prop} (hV : wp_X4_meet σ a0 a1 a2 Ret) : MZ l E NS yX4_meet (ws_ yX4_meet cX4_meet 3 (some .boolean)) 1 σ [.ref (E.1.heap.size + a0), .int a1, .int a2] (rI Ret) := by
  refine MZ.start (L := [some (.ref (E.1.heap.size + a0)), some (.int a1), some (.int a2)]) hE (by decide) (Nat.le_of_ble_eq_true rfl) rfl fun C hCl hQo hC => ?_
  replace hC : Cx C E cX4_meet 3 "RightTurnsModel" "meet" (some .boolean) [] 1 := hC
  unfold wp_X4_meet at hV
  refine z_aload_n hC dX4_meet_0 rfl rfl ?_
  refine z_iload_n hC dX4_meet_1 rfl rfl ?_
  obtain ⟨n2, h1, hV⟩ := hV
  obtain ⟨h3, hV⟩ := hV
  refine z_aald4 hC dX4_meet_2 h1 (h3) rfl ?_
  obtain ⟨h4, hV⟩ := hV
  refine zz_at rfl (by rw [pvo h4]) ?_
  refine z_iconst (v := 0) hC dX4_meet_3 rfl ?_
  obtain ⟨n6, h5, hV⟩ := hV
  obtain ⟨h7, hV⟩ := hV
  refine z_iald hC dX4_meet_4 h5 (h7) ?_
  refine z_aload_n hC dX4_meet_5 rfl rfl ?_
  refine z_iload_n hC dX4_meet_6 rfl rfl ?_
  obtain ⟨n9, h8, hV⟩ := hV
  obtain ⟨h10, hV⟩ := hV
  refine z_aald4 hC dX4_meet_7 h8 (h10) rfl ?_
  obtain ⟨h11, hV⟩ := hV
  refine zz_at rfl (by rw [pvo h11]) ?_
  refine z_iconst (v := 0) hC dX4_meet_8 rfl ?_
  obtain ⟨n13, h12, hV⟩ := hV
  obtain ⟨h14, hV⟩ := hV
  refine z_iald hC dX4_meet_9 h12 (h14) ?_
  refine z_icmp_eq (tgt := 52) hC dX4_meet_10 (by decide) (fun hc => ?_) (fun hc => ?_)
  · replace hV := hV.1 hc
    refine z_iconst (v := 1) hC dX4_meet_52 rfl ?_
    refine z_goto (tgt := 57) hC dX4_meet_53 (by decide) ?_
    exact z_iret hC dX4_meet_57 rfl (by rw [hQo]; exact ⟨_, rfl, hV⟩)
  · replace hV := hV.2 hc
    refine z_aload_n hC dX4_meet_13 rfl rfl ?_
    refine z_iload_n hC dX4_meet_14 rfl rfl ?_
    obtain ⟨n16, h15, hV⟩ := hV
    obtain ⟨h17, hV⟩ := hV
    refine z_aald4 hC dX4_meet_15 h15 (h17) rfl ?_
    obtain ⟨h18, hV⟩ := hV
    refine zz_at rfl (by rw [pvo h18]) ?_
    refine z_iconst (v := 0) hC dX4_meet_16 rfl ?_
    obtain ⟨n20, h19, hV⟩ := hV
    obtain ⟨h21, hV⟩ := hV
    refine z_iald hC dX4_meet_17 h19 (h21) ?_
    refine z_aload_n hC dX4_meet_18 rfl rfl ?_
    refine z_iload_n hC dX4_meet_19 rfl rfl ?_
    obtain ⟨n23, h22, hV⟩ := hV
    obtain ⟨h24, hV⟩ := hV
    refine z_aald4 hC dX4_meet_20 h22 (h24) rfl ?_
    obtain ⟨h25, hV⟩ := hV
    refine zz_at rfl (by rw [pvo h25]) ?_
    refine z_iconst (v := 1) hC dX4_meet_21 rfl ?_
    obtain ⟨n27, h26, hV⟩ := hV
    obtain ⟨h28, hV⟩ := hV
    refine z_iald hC dX4_meet_22 h26 (h28) ?_
    refine z_icmp_eq (tgt := 52) hC dX4_meet_23 (by decide) (fun hc => ?_) (fun hc => ?_)
    · replace hV := hV.1 hc
      refine z_iconst (v := 1) hC dX4_meet_52 rfl ?_
      refine z_goto (tgt := 57) hC dX4_meet_53 (by decide) ?_
      exact z_iret hC dX4_meet_57 rfl (by rw [hQo]; exact ⟨_, rfl, hV⟩)
    · replace hV := hV.2 hc
      refine z_aload_n hC dX4_meet_26 rfl rfl ?_
      refine z_iload_n hC dX4_meet_27 rfl rfl ?_
      obtain ⟨n30, h29, hV⟩ := hV
      obtain ⟨h31, hV⟩ := hV
      refine z_aald4 hC dX4_meet_28 h29 (h31) rfl ?_
      obtain ⟨h32, hV⟩ := hV
      refine zz_at rfl (by rw [pvo h32]) ?_
      refine z_iconst (v := 1) hC dX4_meet_29 rfl ?_
      obtain ⟨n34, h33, hV⟩ := hV
      obtain ⟨h35, hV⟩ := hV
      refine z_iald hC dX4_meet_30 h33 (h35) ?_
      refine z_aload_n hC dX4_meet_31 rfl rfl ?_
      refine z_iload_n hC dX4_meet_32 rfl rfl ?_
      obtain ⟨n37, h36, hV⟩ := hV
      obtain ⟨h38, hV⟩ := hV
      refine z_aald4 hC dX4_meet_33 h36 (h38) rfl ?_
      obtain ⟨h39, hV⟩ := hV
      refine zz_at rfl (by rw [pvo h39]) ?_
      refine z_iconst (v := 0) hC dX4_meet_34 rfl ?_
      obtain ⟨n41, h40, hV⟩ := hV
      obtain ⟨h42, hV⟩ := hV
      refine z_iald hC dX4_meet_35 h40 (h42) ?_
      refine z_icmp_eq (tgt := 52) hC dX4_meet_36 (by decide) (fun hc => ?_) (fun hc => ?_)
      · replace hV := hV.1 hc
        refine z_iconst (v := 1) hC dX4_meet_52 rfl ?_
        refine z_goto (tgt := 57) hC dX4_meet_53 (by decide) ?_
        exact z_iret hC dX4_meet_57 rfl (by rw [hQo]; exact ⟨_, rfl, hV⟩)
      · replace hV := hV.2 hc
        refine z_aload_n hC dX4_meet_39 rfl rfl ?_
        refine z_iload_n hC dX4_meet_40 rfl rfl ?_
        obtain ⟨n44, h43, hV⟩ := hV
        obtain ⟨h45, hV⟩ := hV
        refine z_aald4 hC dX4_meet_41 h43 (h45) rfl ?_
        obtain ⟨h46, hV⟩ := hV
        refine zz_at rfl (by rw [pvo h46]) ?_
        refine z_iconst (v := 1) hC dX4_meet_42 rfl ?_
        obtain ⟨n48, h47, hV⟩ := hV
        obtain ⟨h49, hV⟩ := hV
        refine z_iald hC dX4_meet_43 h47 (h49) ?_
        refine z_aload_n hC dX4_meet_44 rfl rfl ?_
        refine z_iload_n hC dX4_meet_45 rfl rfl ?_
        obtain ⟨n51, h50, hV⟩ := hV
        obtain ⟨h52, hV⟩ := hV
        refine z_aald4 hC dX4_meet_46 h50 (h52) rfl ?_
        obtain ⟨h53, hV⟩ := hV
        refine zz_at rfl (by rw [pvo h53]) ?_
        refine z_iconst (v := 1) hC dX4_meet_47 rfl ?_
        obtain ⟨n55, h54, hV⟩ := hV
        obtain ⟨h56, hV⟩ := hV
        refine z_iald hC dX4_meet_48 h54 (h56) ?_
        refine z_icmp_ne (tgt := 56) hC dX4_meet_49 (by decide) (fun hc => ?_) (fun hc => ?_)
        · replace hV := hV.2 hc
          refine z_iconst (v := 0) hC dX4_meet_56 rfl ?_
          exact z_iret hC dX4_meet_57 rfl (by rw [hQo]; exact ⟨_, rfl, hV⟩)
        · replace hV := hV.1 hc
          refine z_iconst (v := 1) hC dX4_meet_52 rfl ?_
          refine z_goto (tgt := 57) hC dX4_meet_53 (by decide) ?_
          exact z_iret hC dX4_meet_57 rfl (by rw [hQo]; exact ⟨_, rfl, hV⟩)
theorem g_X4_34_44 {C : ZC} {E : ZE} {cc : ByteArray} {nL pc d : Nat} {nm : String} {ret : Option FieldType} {hh : List (Nat × Nat × Nat × Nat)} {σ : ZS} {L : List (Option Value)} {st : List Value} (hC : Cx C E cc nL "RightTurnsModel" nm ret hh d) (hd : decode cc pc = .ok (.getfield 34, 3)) (k : zz C E NS nL σ (pc + 3) L (.ref (E.1.heap.size + 107) :: st)) : zz C E NS nL σ pc L (.ref (E.1.heap.size + 44) :: st) :=
  z_get hC cf3 hd (k_44 σ) (k := 14) (by decide) (Or.inl q1599) (Or.inl rfl) rfl k
theorem cw_X4_meet : CodeW yX4_meet (ws_ yX4_meet cX4_meet 3 (some .boolean)) 3 := ⟨fun w h => (List.mem_cons.mp h).elim (fun e => e ▸ q1853) id, Or.inl ⟨_, _, q1853⟩, q138, by decide, by decide⟩
theorem c_X4_223 {C : ZC} {E : ZE} {cc : ByteArray} {nL pc d : Nat} {nm : String} {ret : Option FieldType} {hh : List (Nat × Nat × Nat × Nat)} {σ : ZS} {L : List (Option Value)} {st : List Value} {a0 : Nat} {a1 : Int32} {a2 : Int32} {Ret : Int32 → ZS → Prop} (hC : Cx C E cc nL "RightTurnsModel" nm ret hh d) (hdd : 1 + 1 ≤ d) (hd : decode cc pc = .ok (.invokestatic 223, 3)) (hW : (st.map fun v => v.category).sum ≤ 8) (hV : wp_X4_meet σ a0 a1 a2 Ret) (k : ∀ r σ', Ret r σ' → zz C E NS nL σ' (pc + 3) L (.int r :: st)) : zz C E NS nL σ pc L (.int a2 :: .int a1 :: .ref (E.1.heap.size + a0) :: st) :=
  z_callSG hC cw_X4_meet hdd (by decide) (mz_X4_meet (cxE hC) hV) hd q1851 q1852 (np := 3) rfl rfl hW rfl (kI k)
theorem cw_X4_bad : CodeW yX4_bad (ws_ yX4_bad cX4_bad 3 (some .boolean)) 3 := ⟨fun w h => (List.mem_cons.mp h).elim (fun e => e ▸ q1784) id, Or.inl ⟨_, _, q1784⟩, q138, by decide, by decide⟩
theorem c_X4_227 {C : ZC} {E : ZE} {cc : ByteArray} {nL pc d : Nat} {nm : String} {ret : Option FieldType} {hh : List (Nat × Nat × Nat × Nat)} {σ : ZS} {L : List (Option Value)} {st : List Value} {a1 : Int32} {a2 : Int32} {Ret : Int32 → ZS → Prop} (hC : Cx C E cc nL "RightTurnsModel" nm ret hh d) (hdd : 1 + 1 ≤ d) (hd : decode cc pc = .ok (.invokevirtual 227, 3)) (hW : (st.map fun v => v.category).sum ≤ 8) (hV : wp_X4_bad σ a1 a2 Ret) (k : ∀ r σ', Ret r σ' → zz C E NS nL σ' (pc + 3) L (.int r :: st)) : zz C E NS nL σ pc L (.int a2 :: .int a1 :: .ref (E.1.heap.size + 44) :: st) :=
  z_callVG hC cf3 cw_X4_bad hdd (by decide) (mz_X4_bad (cxE hC) hV) hd (k_44 σ) q1781 q1783 qs51 (np := 2) rfl rfl hW rfl (kI k)
theorem cw_X4_areStreets : CodeW yX4_areStreets (ws_ yX4_areStreets cX4_areStreets 3 (some .boolean)) 3 := ⟨fun w h => (List.mem_cons.mp h).elim (fun e => e ▸ q1940) id, Or.inl ⟨_, _, q1940⟩, q138, by decide, by decide⟩
theorem c_X4_284 {C : ZC} {E : ZE} {cc : ByteArray} {nL pc d : Nat} {nm : String} {ret : Option FieldType} {hh : List (Nat × Nat × Nat × Nat)} {σ : ZS} {L : List (Option Value)} {st : List Value} {a1 : Int32} {a2 : Int32} {Ret : Int32 → ZS → Prop} (hC : Cx C E cc nL "RightTurnsModel" nm ret hh d) (hdd : 3 + 1 ≤ d) (hd : decode cc pc = .ok (.invokevirtual 284, 3)) (hW : (st.map fun v => v.category).sum ≤ 8) (hV : wp_X4_areStreets σ a1 a2 Ret) (k : ∀ r σ', Ret r σ' → zz C E NS nL σ' (pc + 3) L (.int r :: st)) : zz C E NS nL σ pc L (.int a2 :: .int a1 :: .ref (E.1.heap.size + 44) :: st) :=
  z_callVG hC cf3 cw_X4_areStreets hdd (by decide) (mz_X4_areStreets (cxE hC) hV) hd (k_44 σ) q1937 q1939 qs80 (np := 2) rfl rfl hW rfl (kI k)
theorem cw_X4_changes : CodeW yX4_changes (ws_ yX4_changes cX4_changes 2 (some .int)) 2 := ⟨fun w h => (List.mem_cons.mp h).elim (fun e => e ▸ q1944) id, Or.inl ⟨_, _, q1944⟩, q138, by decide, by decide⟩
theorem c_X4_287 {C : ZC} {E : ZE} {cc : ByteArray} {nL pc d : Nat} {nm : String} {ret : Option FieldType} {hh : List (Nat × Nat × Nat × Nat)} {σ : ZS} {L : List (Option Value)} {st : List Value} {Ret : Int32 → ZS → Prop} (hC : Cx C E cc nL "RightTurnsModel" nm ret hh d) (hdd : 1 + 1 ≤ d) (hd : decode cc pc = .ok (.invokevirtual 287, 3)) (hW : (st.map fun v => v.category).sum ≤ 8) (hV : wp_X4_changes σ Ret) (k : ∀ r σ', Ret r σ' → zz C E NS nL σ' (pc + 3) L (.int r :: st)) : zz C E NS nL σ pc L (.ref (E.1.heap.size + 44) :: st) :=
  z_callVG hC cf3 cw_X4_changes hdd (by decide) (mz_X4_changes (cxE hC) hV) hd (k_44 σ) q1941 q1943 qs81 (np := 0) rfl rfl hW rfl (kI k)
def V_X4_changesTo_88 (Ret : Int32 → ZS → Prop) (σ : ZS) (x1 : Nat) (x2 : Int32) (x3 : Int32) (s0 : Int32) (s1 : Int32) : Prop :=
    ((s1 = s0 → (Ret (-2) σ)) ∧ (¬ s1 = s0 → (wp_X4_changes σ (fun r14 σ15 => ∃ n17, kK NS σ15 x1 = (4, n17) ∧ (vp_in (zI σ15 44 19) n17 ∧ ((kP NS σ15 x1 (ix (zI σ15 44 19))) = some (.inl (zo (kP NS σ15 x1 (ix (zI σ15 44 19))))) ∧ (∃ n21, kK NS σ15 (zo (kP NS σ15 x1 (ix (zI σ15 44 19)))) = (0, n21) ∧ (vp_in x2 n21 ∧ (∃ n24, kK NS σ15 (zo (kP NS σ15 x1 (ix (zI σ15 44 19)))) = (0, n24) ∧ (vp_in x2 n24 ∧ (∀ σ26 : ZS, σ26 = sI σ15 (zo (kP NS σ15 x1 (ix (zI σ15 44 19)))) (ix x2) ((zI σ15 (zo (kP NS σ15 x1 (ix (zI σ15 44 19)))) (ix x2)) ^^^ ((1 : Int32) <<< (x3 &&& 31))) → (Ret (zI σ26 44 19) σ26))))))))))))
def V_X4_changesTo_45 (Ret : Int32 → ZS → Prop) (σ : ZS) (x1 : Nat) (x2 : Int32) (x3 : Int32) (x4 : Int32) (s0 : Int32) : Prop :=
    wp_X4_bad σ s0 2 (fun r5 σ6 => ((r5 = 0 → ((((zI σ6 44 19) = 200 → (Ret (-1) σ6)) ∧ (¬ (zI σ6 44 19) = 200 → (∃ n8, kK NS σ6 x1 = (4, n8) ∧ (vp_in (zI σ6 44 19) n8 ∧ ((kP NS σ6 x1 (ix (zI σ6 44 19))) = some (.inl (zo (kP NS σ6 x1 (ix (zI σ6 44 19))))) ∧ (∃ n12, kK NS σ6 (zo (kP NS σ6 x1 (ix (zI σ6 44 19)))) = (0, n12) ∧ (vp_in x2 n12 ∧ (((x4 = 0 → (V_X4_changesTo_88 Ret σ6 x1 x2 x3 0 (((zI σ6 (zo (kP NS σ6 x1 (ix (zI σ6 44 19)))) (ix x2)) >>> (x3 &&& 31)) &&& 1))) ∧ (¬ x4 = 0 → (V_X4_changesTo_88 Ret σ6 x1 x2 x3 1 (((zI σ6 (zo (kP NS σ6 x1 (ix (zI σ6 44 19)))) (ix x2)) >>> (x3 &&& 31)) &&& 1)))))))))))))) ∧ (¬ r5 = 0 → (Ret 0 σ6))))
def V_X4_changesTo_40 (Ret : Int32 → ZS → Prop) (σ : ZS) (x1 : Nat) (x2 : Int32) (x3 : Int32) (x4 : Int32) : Prop :=
    V_X4_changesTo_45 Ret σ x1 x2 x3 x4 1
def V_X4_changesTo_15 (Ret : Int32 → ZS → Prop) (σ : ZS) (x1 : Nat) (x2 : Int32) (x3 : Int32) (x4 : Int32) (s0 : Int32) : Prop :=
    wp_X4_bad σ s0 1 (fun r3 σ4 => ((r3 = 0 → (((x2 = x3 → (V_X4_changesTo_40 Ret σ4 x1 x2 x3 x4)) ∧ (¬ x2 = x3 → (wp_X4_meet σ4 107 x2 x3 (fun r27 σ28 => ((r27 = 0 → (V_X4_changesTo_40 Ret σ28 x1 x2 x3 x4)) ∧ (¬ r27 = 0 → (V_X4_changesTo_45 Ret σ28 x1 x2 x3 x4 0))))))))) ∧ (¬ r3 = 0 → (Ret 0 σ4))))
def wp_X4_changesTo (σ : ZS) (a1 : Nat) (a2 : Int32) (a3 : Int32) (a4 : Int32) (Ret : Int32 → ZS → Prop) : Prop :=
    wp_X4_areStreets σ a2 a3 (fun r1 σ2 => ((r1 = 0 → (V_X4_changesTo_15 Ret σ2 a1 a2 a3 a4 1)) ∧ (¬ r1 = 0 → (V_X4_changesTo_15 Ret σ2 a1 a2 a3 a4 0))))
set_option maxHeartbeats 4000000 in
theorem mz_X4_changesTo {l : Launch} {E : ZE} (hE : EOK E) {σ : ZS} {a1 : Nat} {a2 : Int32} {a3 : Int32} {a4 : Int32} {Ret : Int32 → ZS → Prop} (hV : wp_X4_changesTo σ a1 a2 a3 a4 Ret) : MZ l E NS yX4_changesTo (ws_ yX4_changesTo cX4_changesTo 5 (some .int)) 4 σ [.ref (E.1.heap.size + 44), .ref (E.1.heap.size + a1), .int a2, .int a3, .int a4] (rI Ret) := by
  refine MZ.start (L := [some (.ref (E.1.heap.size + 44)), some (.ref (E.1.heap.size + a1)), some (.int a2), some (.int a3), some (.int a4)]) hE (by decide) (Nat.le_of_ble_eq_true rfl) rfl fun C hCl hQo hC => ?_
  replace hC : Cx C E cX4_changesTo 5 "RightTurnsModel" "changesTo" (some .int) [] 4 := hC
  unfold wp_X4_changesTo at hV
  have j_88 : ∀ (σ : ZS) (x1 : Nat) (x2 : Int32) (x3 : Int32) (s0 : Int32) (s1 : Int32), V_X4_changesTo_88 Ret σ x1 x2 x3 s0 s1 → zz C E NS 5 σ 88 [some (.ref (E.1.heap.size + 44)), some (.ref (E.1.heap.size + x1)), some (.int x2), some (.int x3), none] [.int s0, .int s1] := by
    intro σ x1 x2 x3 s0 s1 hV
    unfold V_X4_changesTo_88 at hV
    refine z_icmp_ne (tgt := 94) hC dX4_changesTo_88 (by decide) (fun hc => ?_) (fun hc => ?_)
    · replace hV := hV.2 hc
      refine z_aload_n hC dX4_changesTo_94 rfl rfl ?_
      refine c_X4_287 hC (by decide) dX4_changesTo_95 (Nat.le_of_ble_eq_true rfl) hV (fun r14 σ15 hV => ?_)
      refine z_pop hC dX4_changesTo_98 rfl ?_
      refine z_aload_n hC dX4_changesTo_99 rfl rfl ?_
      refine z_aload_n hC dX4_changesTo_100 rfl rfl ?_
      refine g_X4_238_44 hC dX4_changesTo_101 ?_
      obtain ⟨n17, h16, hV⟩ := hV
      obtain ⟨h18, hV⟩ := hV
      refine z_aald4 hC dX4_changesTo_104 h16 (h18) rfl ?_
      obtain ⟨h19, hV⟩ := hV
      refine zz_at rfl (by rw [pvo h19]) ?_
      refine z_iload_n hC dX4_changesTo_105 rfl rfl ?_
      refine z_dup2 hC dX4_changesTo_106 rfl rfl ?_
      obtain ⟨n21, h20, hV⟩ := hV
      obtain ⟨h22, hV⟩ := hV
      refine z_iald hC dX4_changesTo_107 h20 (h22) ?_
      refine z_iconst (v := 1) hC dX4_changesTo_108 rfl ?_
      refine z_iload_n hC dX4_changesTo_109 rfl rfl ?_
      refine z_ishl hC dX4_changesTo_110 ?_
      refine z_ixor hC dX4_changesTo_111 ?_
      obtain ⟨n24, h23, hV⟩ := hV
      obtain ⟨h25, hV⟩ := hV
      refine z_iast hC dX4_changesTo_112 h23 (h25) ?_
      obtain ⟨σ26, e_σ26⟩ : ∃ z : ZS, z = sI σ15 (zo (kP NS σ15 x1 (ix (zI σ15 44 19)))) (ix x2) ((zI σ15 (zo (kP NS σ15 x1 (ix (zI σ15 44 19)))) (ix x2)) ^^^ ((1 : Int32) <<< (x3 &&& 31))) := ⟨_, rfl⟩
      replace hV := hV _ e_σ26
      rw [← e_σ26]
      refine z_aload_n hC dX4_changesTo_113 rfl rfl ?_
      refine g_X4_238_44 hC dX4_changesTo_114 ?_
      exact z_iret hC dX4_changesTo_117 rfl (by rw [hQo]; exact ⟨_, rfl, hV⟩)
    · replace hV := hV.1 hc
      refine z_bipush (v := (-2)) hC dX4_changesTo_91 rfl ?_
      exact z_iret hC dX4_changesTo_93 rfl (by rw [hQo]; exact ⟨_, rfl, hV⟩)
  have j_45 : ∀ (σ : ZS) (x1 : Nat) (x2 : Int32) (x3 : Int32) (x4 : Int32) (s0 : Int32), V_X4_changesTo_45 Ret σ x1 x2 x3 x4 s0 → zz C E NS 5 σ 45 [some (.ref (E.1.heap.size + 44)), some (.ref (E.1.heap.size + x1)), some (.int x2), some (.int x3), some (.int x4)] [.int s0, .ref (E.1.heap.size + 44)] := by
    intro σ x1 x2 x3 x4 s0 hV
    unfold V_X4_changesTo_45 at hV
    refine z_iconst (v := 2) hC dX4_changesTo_45 rfl ?_
    refine c_X4_227 hC (by decide) dX4_changesTo_46 (Nat.le_of_ble_eq_true rfl) hV (fun r5 σ6 hV => ?_)
    refine z_if_eq (tgt := 54) hC dX4_changesTo_49 (by decide) (fun hc => ?_) (fun hc => ?_)
    · replace hV := hV.1 hc
      refine z_aload_n hC dX4_changesTo_54 rfl rfl ?_
      refine g_X4_238_44 hC dX4_changesTo_55 ?_
      refine z_sipush (v := 200) hC dX4_changesTo_58 rfl ?_
      refine z_icmp_ne (tgt := 66) hC dX4_changesTo_61 (by decide) (fun hc => ?_) (fun hc => ?_)
      · replace hV := hV.2 hc
        refine z_aload_n hC dX4_changesTo_66 rfl rfl ?_
        refine z_aload_n hC dX4_changesTo_67 rfl rfl ?_
        refine g_X4_238_44 hC dX4_changesTo_68 ?_
        obtain ⟨n8, h7, hV⟩ := hV
        obtain ⟨h9, hV⟩ := hV
        refine z_aald4 hC dX4_changesTo_71 h7 (h9) rfl ?_
        obtain ⟨h10, hV⟩ := hV
        refine zz_at rfl (by rw [pvo h10]) ?_
        refine z_iload_n hC dX4_changesTo_72 rfl rfl ?_
        obtain ⟨n12, h11, hV⟩ := hV
        obtain ⟨h13, hV⟩ := hV
        refine z_iald hC dX4_changesTo_73 h11 (h13) ?_
        refine z_iload_n hC dX4_changesTo_74 rfl rfl ?_
        refine z_ishr hC dX4_changesTo_75 ?_
        refine z_iconst (v := 1) hC dX4_changesTo_76 rfl ?_
        refine z_iand hC dX4_changesTo_77 ?_
        refine z_iload hC dX4_changesTo_78 rfl ?_
        refine z_if_eq (tgt := 87) hC dX4_changesTo_80 (by decide) (fun hc => ?_) (fun hc => ?_)
        · replace hV := hV.1 hc
          refine z_iconst (v := 0) hC dX4_changesTo_87 rfl ?_
          refine zz_sub (L' := [some (.ref (E.1.heap.size + 44)), some (.ref (E.1.heap.size + x1)), some (.int x2), some (.int x3), none]) ⟨rfl, rfl, rfl, rfl, trivial⟩ ?_
          exact j_88 σ6 x1 x2 x3 0 (((zI σ6 (zo (kP NS σ6 x1 (ix (zI σ6 44 19)))) (ix x2)) >>> (x3 &&& 31)) &&& 1) hV
        · replace hV := hV.2 hc
          refine z_iconst (v := 1) hC dX4_changesTo_83 rfl ?_
          refine z_goto (tgt := 88) hC dX4_changesTo_84 (by decide) ?_
          refine zz_sub (L' := [some (.ref (E.1.heap.size + 44)), some (.ref (E.1.heap.size + x1)), some (.int x2), some (.int x3), none]) ⟨rfl, rfl, rfl, rfl, trivial⟩ ?_
          exact j_88 σ6 x1 x2 x3 1 (((zI σ6 (zo (kP NS σ6 x1 (ix (zI σ6 44 19)))) (ix x2)) >>> (x3 &&& 31)) &&& 1) hV
      · replace hV := hV.1 hc
        refine z_iconst (v := (-1)) hC dX4_changesTo_64 rfl ?_
        exact z_iret hC dX4_changesTo_65 rfl (by rw [hQo]; exact ⟨_, rfl, hV⟩)
    · replace hV := hV.2 hc
      refine z_iconst (v := 0) hC dX4_changesTo_52 rfl ?_
      exact z_iret hC dX4_changesTo_53 rfl (by rw [hQo]; exact ⟨_, rfl, hV⟩)
  have j_40 : ∀ (σ : ZS) (x1 : Nat) (x2 : Int32) (x3 : Int32) (x4 : Int32), V_X4_changesTo_40 Ret σ x1 x2 x3 x4 → zz C E NS 5 σ 40 [some (.ref (E.1.heap.size + 44)), some (.ref (E.1.heap.size + x1)), some (.int x2), some (.int x3), some (.int x4)] [.ref (E.1.heap.size + 44)] := by
    intro σ x1 x2 x3 x4 hV
    unfold V_X4_changesTo_40 at hV
    refine z_iconst (v := 1) hC dX4_changesTo_40 rfl ?_
    refine z_goto (tgt := 45) hC dX4_changesTo_41 (by decide) ?_
    refine zz_sub (L' := [some (.ref (E.1.heap.size + 44)), some (.ref (E.1.heap.size + x1)), some (.int x2), some (.int x3), some (.int x4)]) ⟨rfl, rfl, rfl, rfl, rfl, trivial⟩ ?_
    exact j_45 σ x1 x2 x3 x4 1 hV
  have j_15 : ∀ (σ : ZS) (x1 : Nat) (x2 : Int32) (x3 : Int32) (x4 : Int32) (s0 : Int32), V_X4_changesTo_15 Ret σ x1 x2 x3 x4 s0 → zz C E NS 5 σ 15 [some (.ref (E.1.heap.size + 44)), some (.ref (E.1.heap.size + x1)), some (.int x2), some (.int x3), some (.int x4)] [.int s0, .ref (E.1.heap.size + 44)] := by
    intro σ x1 x2 x3 x4 s0 hV
    unfold V_X4_changesTo_15 at hV
    refine z_iconst (v := 1) hC dX4_changesTo_15 rfl ?_
    refine c_X4_227 hC (by decide) dX4_changesTo_16 (Nat.le_of_ble_eq_true rfl) hV (fun r3 σ4 hV => ?_)
    refine z_if_ne (tgt := 52) hC dX4_changesTo_19 (by decide) (fun hc => ?_) (fun hc => ?_)
    · replace hV := hV.2 hc
      refine z_iconst (v := 0) hC dX4_changesTo_52 rfl ?_
      exact z_iret hC dX4_changesTo_53 rfl (by rw [hQo]; exact ⟨_, rfl, hV⟩)
    · replace hV := hV.1 hc
      refine z_aload_n hC dX4_changesTo_22 rfl rfl ?_
      refine z_iload_n hC dX4_changesTo_23 rfl rfl ?_
      refine z_iload_n hC dX4_changesTo_24 rfl rfl ?_
      refine z_icmp_eq (tgt := 40) hC dX4_changesTo_25 (by decide) (fun hc => ?_) (fun hc => ?_)
      · replace hV := hV.1 hc
        refine zz_sub (L' := [some (.ref (E.1.heap.size + 44)), some (.ref (E.1.heap.size + x1)), some (.int x2), some (.int x3), some (.int x4)]) ⟨rfl, rfl, rfl, rfl, rfl, trivial⟩ ?_
        exact j_40 σ4 x1 x2 x3 x4 hV
      · replace hV := hV.2 hc
        refine z_aload_n hC dX4_changesTo_28 rfl rfl ?_
        refine g_X4_34_44 hC dX4_changesTo_29 ?_
        refine z_iload_n hC dX4_changesTo_32 rfl rfl ?_
        refine z_iload_n hC dX4_changesTo_33 rfl rfl ?_
        refine c_X4_223 hC (by decide) dX4_changesTo_34 (Nat.le_of_ble_eq_true rfl) hV (fun r27 σ28 hV => ?_)
        refine z_if_ne (tgt := 44) hC dX4_changesTo_37 (by decide) (fun hc => ?_) (fun hc => ?_)
        · replace hV := hV.2 hc
          refine z_iconst (v := 0) hC dX4_changesTo_44 rfl ?_
          refine zz_sub (L' := [some (.ref (E.1.heap.size + 44)), some (.ref (E.1.heap.size + x1)), some (.int x2), some (.int x3), some (.int x4)]) ⟨rfl, rfl, rfl, rfl, rfl, trivial⟩ ?_
          exact j_45 σ28 x1 x2 x3 x4 0 hV
        · replace hV := hV.1 hc
          refine zz_sub (L' := [some (.ref (E.1.heap.size + 44)), some (.ref (E.1.heap.size + x1)), some (.int x2), some (.int x3), some (.int x4)]) ⟨rfl, rfl, rfl, rfl, rfl, trivial⟩ ?_
          exact j_40 σ28 x1 x2 x3 x4 hV
  refine z_aload_n hC dX4_changesTo_0 rfl rfl ?_
  refine z_aload_n hC dX4_changesTo_1 rfl rfl ?_
  refine z_iload_n hC dX4_changesTo_2 rfl rfl ?_
  refine z_iload_n hC dX4_changesTo_3 rfl rfl ?_
  refine c_X4_284 hC (by decide) dX4_changesTo_4 (Nat.le_of_ble_eq_true rfl) hV (fun r1 σ2 hV => ?_)
  refine z_if_ne (tgt := 14) hC dX4_changesTo_7 (by decide) (fun hc => ?_) (fun hc => ?_)
  · replace hV := hV.2 hc
    refine z_iconst (v := 0) hC dX4_changesTo_14 rfl ?_
    refine zz_sub (L' := [some (.ref (E.1.heap.size + 44)), some (.ref (E.1.heap.size + a1)), some (.int a2), some (.int a3), some (.int a4)]) ⟨rfl, rfl, rfl, rfl, rfl, trivial⟩ ?_
    exact j_15 σ2 a1 a2 a3 a4 0 hV
  · replace hV := hV.1 hc
    refine z_iconst (v := 1) hC dX4_changesTo_10 rfl ?_
    refine z_goto (tgt := 15) hC dX4_changesTo_11 (by decide) ?_
    refine zz_sub (L' := [some (.ref (E.1.heap.size + 44)), some (.ref (E.1.heap.size + a1)), some (.int a2), some (.int a3), some (.int a4)]) ⟨rfl, rfl, rfl, rfl, rfl, trivial⟩ ?_
    exact j_15 σ2 a1 a2 a3 a4 1 hV
theorem cw_X4_changesTo : CodeW yX4_changesTo (ws_ yX4_changesTo cX4_changesTo 5 (some .int)) 5 := ⟨fun w h => (List.mem_cons.mp h).elim (fun e => e ▸ q1936) id, Or.inl ⟨_, _, q1936⟩, q138, by decide, by decide⟩
theorem c_X4_290 {C : ZC} {E : ZE} {cc : ByteArray} {nL pc d : Nat} {nm : String} {ret : Option FieldType} {hh : List (Nat × Nat × Nat × Nat)} {σ : ZS} {L : List (Option Value)} {st : List Value} {a1 : Nat} {a2 : Int32} {a3 : Int32} {a4 : Int32} {Ret : Int32 → ZS → Prop} (hC : Cx C E cc nL "RightTurnsModel" nm ret hh d) (hdd : 4 + 1 ≤ d) (hd : decode cc pc = .ok (.invokevirtual 290, 3)) (hW : (st.map fun v => v.category).sum ≤ 8) (hV : wp_X4_changesTo σ a1 a2 a3 a4 Ret) (k : ∀ r σ', Ret r σ' → zz C E NS nL σ' (pc + 3) L (.int r :: st)) : zz C E NS nL σ pc L (.int a4 :: .int a3 :: .int a2 :: .ref (E.1.heap.size + a1) :: .ref (E.1.heap.size + 44) :: st) :=
  z_callVG hC cf3 cw_X4_changesTo hdd (by decide) (mz_X4_changesTo (cxE hC) hV) hd (k_44 σ) q1933 q1935 qs79 (np := 4) rfl rfl hW rfl (kI k)
def wp_X4_allow (σ : ZS) (a1 : Int32) (a2 : Int32) (a3 : Int32) (Ret : Int32 → ZS → Prop) : Prop :=
    ∀ σ1 : ZS, σ1 = sI σ 44 0 0 → (wp_X4_changesTo σ1 362 a1 a2 a3 (fun r2 σ3 => Ret r2 σ3))
set_option maxHeartbeats 4000000 in
theorem mz_X4_allow {l : Launch} {E : ZE} (hE : EOK E) {σ : ZS} {a1 : Int32} {a2 : Int32} {a3 : Int32} {Ret : Int32 → ZS → Prop} (hV : wp_X4_allow σ a1 a2 a3 Ret) : MZ l E NS yX4_allow (ws_ yX4_allow cX4_allow 4 (some .int)) 5 σ [.ref (E.1.heap.size + 44), .int a1, .int a2, .int a3] (rI Ret) := by
  refine MZ.start (L := [some (.ref (E.1.heap.size + 44)), some (.int a1), some (.int a2), some (.int a3)]) hE (by decide) (Nat.le_of_ble_eq_true rfl) rfl fun C hCl hQo hC => ?_
  replace hC : Cx C E cX4_allow 4 "RightTurnsModel" "allow" (some .int) [] 5 := hC
  unfold wp_X4_allow at hV
  refine z_aload_n hC dX4_allow_0 rfl rfl ?_
  refine z_iconst (v := 0) hC dX4_allow_1 rfl ?_
  refine p_X4_131_c3 hC dX4_allow_2 (k_44 _) ?_
  obtain ⟨σ1, e_σ1⟩ : ∃ z : ZS, z = sI σ 44 0 0 := ⟨_, rfl⟩
  replace hV := hV _ e_σ1
  rw [← e_σ1]
  refine z_aload_n hC dX4_allow_5 rfl rfl ?_
  refine z_aload_n hC dX4_allow_6 rfl rfl ?_
  refine g_X4_52_44 hC dX4_allow_7 ?_
  refine z_iload_n hC dX4_allow_10 rfl rfl ?_
  refine z_iload_n hC dX4_allow_11 rfl rfl ?_
  refine z_iload_n hC dX4_allow_12 rfl rfl ?_
  refine c_X4_290 hC (by decide) dX4_allow_13 (Nat.le_of_ble_eq_true rfl) hV (fun r2 σ3 hV => ?_)
  exact z_iret hC dX4_allow_16 rfl (by rw [hQo]; exact ⟨_, rfl, hV⟩)
theorem g_X4_65_44 {C : ZC} {E : ZE} {cc : ByteArray} {nL pc d : Nat} {nm : String} {ret : Option FieldType} {hh : List (Nat × Nat × Nat × Nat)} {σ : ZS} {L : List (Option Value)} {st : List Value} (hC : Cx C E cc nL "RightTurnsModel" nm ret hh d) (hd : decode cc pc = .ok (.getfield 65, 3)) (k : zz C E NS nL σ (pc + 3) L (.ref (E.1.heap.size + 567) :: st)) : zz C E NS nL σ pc L (.ref (E.1.heap.size + 44) :: st) :=
  z_get hC cf3 hd (k_44 σ) (k := 25) (by decide) (Or.inl q1610) (Or.inl rfl) rfl k
def wp_X4_areOne (σ : ZS) (a1 : Int32) (a2 : Int32) (Ret : Int32 → ZS → Prop) : Prop :=
    vp_in a1 48 ∧ ((((lg_cmp ((((zJ σ 567 (ix a1)).toUInt64 >>> (a2.toInt64.toUInt64 &&& Int64.toUInt64 63)).toInt64) &&& 1) 1) = 0 → (vp_in a2 48 ∧ ((((lg_cmp ((((zJ σ 567 (ix a2)).toUInt64 >>> (a1.toInt64.toUInt64 &&& Int64.toUInt64 63)).toInt64) &&& 1) 1) = 0 → (Ret 1 σ)) ∧ (¬ (lg_cmp ((((zJ σ 567 (ix a2)).toUInt64 >>> (a1.toInt64.toUInt64 &&& Int64.toUInt64 63)).toInt64) &&& 1) 1) = 0 → (Ret 0 σ)))))) ∧ (¬ (lg_cmp ((((zJ σ 567 (ix a1)).toUInt64 >>> (a2.toInt64.toUInt64 &&& Int64.toUInt64 63)).toInt64) &&& 1) 1) = 0 → (Ret 0 σ))))
set_option maxHeartbeats 4000000 in
theorem mz_X4_areOne {l : Launch} {E : ZE} (hE : EOK E) {σ : ZS} {a1 : Int32} {a2 : Int32} {Ret : Int32 → ZS → Prop} (hV : wp_X4_areOne σ a1 a2 Ret) : MZ l E NS yX4_areOne (ws_ yX4_areOne cX4_areOne 3 (some .boolean)) 1 σ [.ref (E.1.heap.size + 44), .int a1, .int a2] (rI Ret) := by
  refine MZ.start (L := [some (.ref (E.1.heap.size + 44)), some (.int a1), some (.int a2)]) hE (by decide) (Nat.le_of_ble_eq_true rfl) rfl fun C hCl hQo hC => ?_
  replace hC : Cx C E cX4_areOne 3 "RightTurnsModel" "areOne" (some .boolean) [] 1 := hC
  unfold wp_X4_areOne at hV
  refine z_aload_n hC dX4_areOne_0 rfl rfl ?_
  refine g_X4_65_44 hC dX4_areOne_1 ?_
  refine z_iload_n hC dX4_areOne_4 rfl rfl ?_
  obtain ⟨h1, hV⟩ := hV
  refine z_lald hC dX4_areOne_5 (k_567 _) (h1) ?_
  refine z_iload_n hC dX4_areOne_6 rfl rfl ?_
  refine z_lushr hC dX4_areOne_7 ?_
  refine z_lconst (v := 1) hC dX4_areOne_8 rfl ?_
  refine z_land hC dX4_areOne_9 ?_
  refine z_lconst (v := 1) hC dX4_areOne_10 rfl ?_
  refine z_lcmp hC dX4_areOne_11 ?_
  refine z_if_ne (tgt := 34) hC dX4_areOne_12 (by decide) (fun hc => ?_) (fun hc => ?_)
  · replace hV := hV.2 hc
    refine z_iconst (v := 0) hC dX4_areOne_34 rfl ?_
    exact z_iret hC dX4_areOne_35 rfl (by rw [hQo]; exact ⟨_, rfl, hV⟩)
  · replace hV := hV.1 hc
    refine z_aload_n hC dX4_areOne_15 rfl rfl ?_
    refine g_X4_65_44 hC dX4_areOne_16 ?_
    refine z_iload_n hC dX4_areOne_19 rfl rfl ?_
    obtain ⟨h2, hV⟩ := hV
    refine z_lald hC dX4_areOne_20 (k_567 _) (h2) ?_
    refine z_iload_n hC dX4_areOne_21 rfl rfl ?_
    refine z_lushr hC dX4_areOne_22 ?_
    refine z_lconst (v := 1) hC dX4_areOne_23 rfl ?_
    refine z_land hC dX4_areOne_24 ?_
    refine z_lconst (v := 1) hC dX4_areOne_25 rfl ?_
    refine z_lcmp hC dX4_areOne_26 ?_
    refine z_if_ne (tgt := 34) hC dX4_areOne_27 (by decide) (fun hc => ?_) (fun hc => ?_)
    · replace hV := hV.2 hc
      refine z_iconst (v := 0) hC dX4_areOne_34 rfl ?_
      exact z_iret hC dX4_areOne_35 rfl (by rw [hQo]; exact ⟨_, rfl, hV⟩)
    · replace hV := hV.1 hc
      refine z_iconst (v := 1) hC dX4_areOne_30 rfl ?_
      refine z_goto (tgt := 35) hC dX4_areOne_31 (by decide) ?_
      exact z_iret hC dX4_areOne_35 rfl (by rw [hQo]; exact ⟨_, rfl, hV⟩)
def wp_X4_isArc (σ : ZS) (a1 : Int32) (Ret : Int32 → ZS → Prop) : Prop :=
    wp_X4_in σ a1 0 ((2 * (zI σ 47 (ix 1))) - 1) (fun r1 σ2 => ((r1 = 0 → (Ret 0 σ2)) ∧ (¬ r1 = 0 → ((((a1 - a1 / 2 * 2) = 0 → (Ret 1 σ2)) ∧ (¬ (a1 - a1 / 2 * 2) = 0 → (vp_in (a1 / 2) 24 ∧ ((((zI σ2 (107 + 1 + ix (a1 / 2)) (ix 3)) = 0 → (Ret 1 σ2)) ∧ (¬ (zI σ2 (107 + 1 + ix (a1 / 2)) (ix 3)) = 0 → (Ret 0 σ2)))))))))))
set_option maxHeartbeats 4000000 in
theorem mz_X4_isArc {l : Launch} {E : ZE} (hE : EOK E) {σ : ZS} {a1 : Int32} {Ret : Int32 → ZS → Prop} (hV : wp_X4_isArc σ a1 Ret) : MZ l E NS yX4_isArc (ws_ yX4_isArc cX4_isArc 2 (some .boolean)) 2 σ [.ref (E.1.heap.size + 44), .int a1] (rI Ret) := by
  refine MZ.start (L := [some (.ref (E.1.heap.size + 44)), some (.int a1)]) hE (by decide) (Nat.le_of_ble_eq_true rfl) rfl fun C hCl hQo hC => ?_
  replace hC : Cx C E cX4_isArc 2 "RightTurnsModel" "isArc" (some .boolean) [] 2 := hC
  unfold wp_X4_isArc at hV
  refine z_iload_n hC dX4_isArc_0 rfl rfl ?_
  refine z_iconst (v := 0) hC dX4_isArc_1 rfl ?_
  refine z_iconst (v := 2) hC dX4_isArc_2 rfl ?_
  refine z_aload_n hC dX4_isArc_3 rfl rfl ?_
  refine g_X4_20_44 hC dX4_isArc_4 ?_
  refine z_iconst (v := 1) hC dX4_isArc_7 rfl ?_
  refine z_iald hC dX4_isArc_8 (k_47 _) (in_dec rfl) ?_
  refine z_imul hC dX4_isArc_9 ?_
  refine z_iconst (v := 1) hC dX4_isArc_10 rfl ?_
  refine z_isub hC dX4_isArc_11 ?_
  refine c_X4_165 hC (by decide) dX4_isArc_12 (Nat.le_of_ble_eq_true rfl) hV (fun r1 σ2 hV => ?_)
  refine z_if_eq (tgt := 41) hC dX4_isArc_15 (by decide) (fun hc => ?_) (fun hc => ?_)
  · replace hV := hV.1 hc
    refine z_iconst (v := 0) hC dX4_isArc_41 rfl ?_
    exact z_iret hC dX4_isArc_42 rfl (by rw [hQo]; exact ⟨_, rfl, hV⟩)
  · replace hV := hV.2 hc
    refine z_iload_n hC dX4_isArc_18 rfl rfl ?_
    refine z_iconst (v := 2) hC dX4_isArc_19 rfl ?_
    refine z_irem hC dX4_isArc_20 (by decide) ?_
    refine z_if_eq (tgt := 37) hC dX4_isArc_21 (by decide) (fun hc => ?_) (fun hc => ?_)
    · replace hV := hV.1 hc
      refine z_iconst (v := 1) hC dX4_isArc_37 rfl ?_
      refine z_goto (tgt := 42) hC dX4_isArc_38 (by decide) ?_
      exact z_iret hC dX4_isArc_42 rfl (by rw [hQo]; exact ⟨_, rfl, hV⟩)
    · replace hV := hV.2 hc
      refine z_aload_n hC dX4_isArc_24 rfl rfl ?_
      refine g_X4_34_44 hC dX4_isArc_25 ?_
      refine z_iload_n hC dX4_isArc_28 rfl rfl ?_
      refine z_iconst (v := 2) hC dX4_isArc_29 rfl ?_
      refine z_idiv hC dX4_isArc_30 (by decide) ?_
      obtain ⟨h3, hV⟩ := hV
      refine z_aalS hC dX4_isArc_31 (k_107 _) (by decide) ps_107 h3 ?_
      refine z_iconst (v := 3) hC dX4_isArc_32 rfl ?_
      refine z_iald hC dX4_isArc_33 (kr_107 _ (ix_lt h3)) (in_dec rfl) ?_
      refine z_if_ne (tgt := 41) hC dX4_isArc_34 (by decide) (fun hc => ?_) (fun hc => ?_)
      · replace hV := hV.2 hc
        refine z_iconst (v := 0) hC dX4_isArc_41 rfl ?_
        exact z_iret hC dX4_isArc_42 rfl (by rw [hQo]; exact ⟨_, rfl, hV⟩)
      · replace hV := hV.1 hc
        refine z_iconst (v := 1) hC dX4_isArc_37 rfl ?_
        refine z_goto (tgt := 42) hC dX4_isArc_38 (by decide) ?_
        exact z_iret hC dX4_isArc_42 rfl (by rw [hQo]; exact ⟨_, rfl, hV⟩)
def wp_X4_beginOf (σ : ZS) (a1 : Int32) (Ret : Int32 → ZS → Prop) : Prop :=
    vp_in (a1 / 2) 24 ∧ (vp_in (a1 - a1 / 2 * 2) 4 ∧ (Ret (zI σ (107 + 1 + ix (a1 / 2)) (ix (a1 - a1 / 2 * 2))) σ))
set_option maxHeartbeats 4000000 in
theorem mz_X4_beginOf {l : Launch} {E : ZE} (hE : EOK E) {σ : ZS} {a1 : Int32} {Ret : Int32 → ZS → Prop} (hV : wp_X4_beginOf σ a1 Ret) : MZ l E NS yX4_beginOf (ws_ yX4_beginOf cX4_beginOf 2 (some .int)) 1 σ [.ref (E.1.heap.size + 44), .int a1] (rI Ret) := by
  refine MZ.start (L := [some (.ref (E.1.heap.size + 44)), some (.int a1)]) hE (by decide) (Nat.le_of_ble_eq_true rfl) rfl fun C hCl hQo hC => ?_
  replace hC : Cx C E cX4_beginOf 2 "RightTurnsModel" "beginOf" (some .int) [] 1 := hC
  unfold wp_X4_beginOf at hV
  refine z_aload_n hC dX4_beginOf_0 rfl rfl ?_
  refine g_X4_34_44 hC dX4_beginOf_1 ?_
  refine z_iload_n hC dX4_beginOf_4 rfl rfl ?_
  refine z_iconst (v := 2) hC dX4_beginOf_5 rfl ?_
  refine z_idiv hC dX4_beginOf_6 (by decide) ?_
  obtain ⟨h1, hV⟩ := hV
  refine z_aalS hC dX4_beginOf_7 (k_107 _) (by decide) ps_107 h1 ?_
  refine z_iload_n hC dX4_beginOf_8 rfl rfl ?_
  refine z_iconst (v := 2) hC dX4_beginOf_9 rfl ?_
  refine z_irem hC dX4_beginOf_10 (by decide) ?_
  obtain ⟨h2, hV⟩ := hV
  refine z_iald hC dX4_beginOf_11 (kr_107 _ (ix_lt h1)) (h2) ?_
  exact z_iret hC dX4_beginOf_12 rfl (by rw [hQo]; exact ⟨_, rfl, hV⟩)
def wp_X4_endOf (σ : ZS) (a1 : Int32) (Ret : Int32 → ZS → Prop) : Prop :=
    vp_in (a1 / 2) 24 ∧ (vp_in (1 - (a1 - a1 / 2 * 2)) 4 ∧ (Ret (zI σ (107 + 1 + ix (a1 / 2)) (ix (1 - (a1 - a1 / 2 * 2)))) σ))
set_option maxHeartbeats 4000000 in
theorem mz_X4_endOf {l : Launch} {E : ZE} (hE : EOK E) {σ : ZS} {a1 : Int32} {Ret : Int32 → ZS → Prop} (hV : wp_X4_endOf σ a1 Ret) : MZ l E NS yX4_endOf (ws_ yX4_endOf cX4_endOf 2 (some .int)) 1 σ [.ref (E.1.heap.size + 44), .int a1] (rI Ret) := by
  refine MZ.start (L := [some (.ref (E.1.heap.size + 44)), some (.int a1)]) hE (by decide) (Nat.le_of_ble_eq_true rfl) rfl fun C hCl hQo hC => ?_
  replace hC : Cx C E cX4_endOf 2 "RightTurnsModel" "endOf" (some .int) [] 1 := hC
  unfold wp_X4_endOf at hV
  refine z_aload_n hC dX4_endOf_0 rfl rfl ?_
  refine g_X4_34_44 hC dX4_endOf_1 ?_
  refine z_iload_n hC dX4_endOf_4 rfl rfl ?_
  refine z_iconst (v := 2) hC dX4_endOf_5 rfl ?_
  refine z_idiv hC dX4_endOf_6 (by decide) ?_
  obtain ⟨h1, hV⟩ := hV
  refine z_aalS hC dX4_endOf_7 (k_107 _) (by decide) ps_107 h1 ?_
  refine z_iconst (v := 1) hC dX4_endOf_8 rfl ?_
  refine z_iload_n hC dX4_endOf_9 rfl rfl ?_
  refine z_iconst (v := 2) hC dX4_endOf_10 rfl ?_
  refine z_irem hC dX4_endOf_11 (by decide) ?_
  refine z_isub hC dX4_endOf_12 ?_
  obtain ⟨h2, hV⟩ := hV
  refine z_iald hC dX4_endOf_13 (kr_107 _ (ix_lt h1)) (h2) ?_
  exact z_iret hC dX4_endOf_14 rfl (by rw [hQo]; exact ⟨_, rfl, hV⟩)
theorem g_X4_28_44 {C : ZC} {E : ZE} {cc : ByteArray} {nL pc d : Nat} {nm : String} {ret : Option FieldType} {hh : List (Nat × Nat × Nat × Nat)} {σ : ZS} {L : List (Option Value)} {st : List Value} (hC : Cx C E cc nL "RightTurnsModel" nm ret hh d) (hd : decode cc pc = .ok (.getfield 28, 3)) (k : zz C E NS nL σ (pc + 3) L (.ref (E.1.heap.size + 65) :: st)) : zz C E NS nL σ pc L (.ref (E.1.heap.size + 44) :: st) :=
  z_get hC cf3 hd (k_44 σ) (k := 12) (by decide) (Or.inl q1597) (Or.inl rfl) rfl k
theorem cw_X4_endOf : CodeW yX4_endOf (ws_ yX4_endOf cX4_endOf 2 (some .int)) 2 := ⟨fun w h => (List.mem_cons.mp h).elim (fun e => e ▸ q1884) id, Or.inl ⟨_, _, q1884⟩, q138, by decide, by decide⟩
theorem c_X4_250 {C : ZC} {E : ZE} {cc : ByteArray} {nL pc d : Nat} {nm : String} {ret : Option FieldType} {hh : List (Nat × Nat × Nat × Nat)} {σ : ZS} {L : List (Option Value)} {st : List Value} {a1 : Int32} {Ret : Int32 → ZS → Prop} (hC : Cx C E cc nL "RightTurnsModel" nm ret hh d) (hdd : 1 + 1 ≤ d) (hd : decode cc pc = .ok (.invokevirtual 250, 3)) (hW : (st.map fun v => v.category).sum ≤ 8) (hV : wp_X4_endOf σ a1 Ret) (k : ∀ r σ', Ret r σ' → zz C E NS nL σ' (pc + 3) L (.int r :: st)) : zz C E NS nL σ pc L (.int a1 :: .ref (E.1.heap.size + 44) :: st) :=
  z_callVG hC cf3 cw_X4_endOf hdd (by decide) (mz_X4_endOf (cxE hC) hV) hd (k_44 σ) q1881 q1883 qs72 (np := 1) rfl rfl hW rfl (kI k)
theorem cw_X4_beginOf : CodeW yX4_beginOf (ws_ yX4_beginOf cX4_beginOf 2 (some .int)) 2 := ⟨fun w h => (List.mem_cons.mp h).elim (fun e => e ▸ q1888) id, Or.inl ⟨_, _, q1888⟩, q138, by decide, by decide⟩
theorem c_X4_253 {C : ZC} {E : ZE} {cc : ByteArray} {nL pc d : Nat} {nm : String} {ret : Option FieldType} {hh : List (Nat × Nat × Nat × Nat)} {σ : ZS} {L : List (Option Value)} {st : List Value} {a1 : Int32} {Ret : Int32 → ZS → Prop} (hC : Cx C E cc nL "RightTurnsModel" nm ret hh d) (hdd : 1 + 1 ≤ d) (hd : decode cc pc = .ok (.invokevirtual 253, 3)) (hW : (st.map fun v => v.category).sum ≤ 8) (hV : wp_X4_beginOf σ a1 Ret) (k : ∀ r σ', Ret r σ' → zz C E NS nL σ' (pc + 3) L (.int r :: st)) : zz C E NS nL σ pc L (.int a1 :: .ref (E.1.heap.size + 44) :: st) :=
  z_callVG hC cf3 cw_X4_beginOf hdd (by decide) (mz_X4_beginOf (cxE hC) hV) hd (k_44 σ) q1885 q1887 qs73 (np := 1) rfl rfl hW rfl (kI k)
def wp_X4_wayOf (σ : ZS) (a1 : Int32) (a2 : Int32) (Ret : Int32 → ZS → Prop) : Prop :=
    wp_X4_endOf σ a1 (fun r1 σ2 => vp_in r1 16 ∧ (vp_in a2 2 ∧ (wp_X4_beginOf σ2 a1 (fun r5 σ6 => vp_in r5 16 ∧ (vp_in a2 2 ∧ (Ret ((zI σ2 (65 + 1 + ix r1) (ix a2)) - (zI σ6 (65 + 1 + ix r5) (ix a2))) σ6))))))
set_option maxHeartbeats 4000000 in
theorem mz_X4_wayOf {l : Launch} {E : ZE} (hE : EOK E) {σ : ZS} {a1 : Int32} {a2 : Int32} {Ret : Int32 → ZS → Prop} (hV : wp_X4_wayOf σ a1 a2 Ret) : MZ l E NS yX4_wayOf (ws_ yX4_wayOf cX4_wayOf 3 (some .int)) 2 σ [.ref (E.1.heap.size + 44), .int a1, .int a2] (rI Ret) := by
  refine MZ.start (L := [some (.ref (E.1.heap.size + 44)), some (.int a1), some (.int a2)]) hE (by decide) (Nat.le_of_ble_eq_true rfl) rfl fun C hCl hQo hC => ?_
  replace hC : Cx C E cX4_wayOf 3 "RightTurnsModel" "wayOf" (some .int) [] 2 := hC
  unfold wp_X4_wayOf at hV
  refine z_aload_n hC dX4_wayOf_0 rfl rfl ?_
  refine g_X4_28_44 hC dX4_wayOf_1 ?_
  refine z_aload_n hC dX4_wayOf_4 rfl rfl ?_
  refine z_iload_n hC dX4_wayOf_5 rfl rfl ?_
  refine c_X4_250 hC (by decide) dX4_wayOf_6 (Nat.le_of_ble_eq_true rfl) hV (fun r1 σ2 hV => ?_)
  obtain ⟨h3, hV⟩ := hV
  refine z_aalS hC dX4_wayOf_9 (k_65 _) (by decide) ps_65 h3 ?_
  refine z_iload_n hC dX4_wayOf_10 rfl rfl ?_
  obtain ⟨h4, hV⟩ := hV
  refine z_iald hC dX4_wayOf_11 (kr_65 _ (ix_lt h3)) (h4) ?_
  refine z_aload_n hC dX4_wayOf_12 rfl rfl ?_
  refine g_X4_28_44 hC dX4_wayOf_13 ?_
  refine z_aload_n hC dX4_wayOf_16 rfl rfl ?_
  refine z_iload_n hC dX4_wayOf_17 rfl rfl ?_
  refine c_X4_253 hC (by decide) dX4_wayOf_18 (Nat.le_of_ble_eq_true rfl) hV (fun r5 σ6 hV => ?_)
  obtain ⟨h7, hV⟩ := hV
  refine z_aalS hC dX4_wayOf_21 (k_65 _) (by decide) ps_65 h7 ?_
  refine z_iload_n hC dX4_wayOf_22 rfl rfl ?_
  obtain ⟨h8, hV⟩ := hV
  refine z_iald hC dX4_wayOf_23 (kr_65 _ (ix_lt h7)) (h8) ?_
  refine z_isub hC dX4_wayOf_24 ?_
  exact z_iret hC dX4_wayOf_25 rfl (by rw [hQo]; exact ⟨_, rfl, hV⟩)
theorem cw_X4_wayOf : CodeW yX4_wayOf (ws_ yX4_wayOf cX4_wayOf 3 (some .int)) 3 := ⟨fun w h => (List.mem_cons.mp h).elim (fun e => e ▸ q1892) id, Or.inl ⟨_, _, q1892⟩, q138, by decide, by decide⟩
theorem c_X4_256 {C : ZC} {E : ZE} {cc : ByteArray} {nL pc d : Nat} {nm : String} {ret : Option FieldType} {hh : List (Nat × Nat × Nat × Nat)} {σ : ZS} {L : List (Option Value)} {st : List Value} {a1 : Int32} {a2 : Int32} {Ret : Int32 → ZS → Prop} (hC : Cx C E cc nL "RightTurnsModel" nm ret hh d) (hdd : 2 + 1 ≤ d) (hd : decode cc pc = .ok (.invokevirtual 256, 3)) (hW : (st.map fun v => v.category).sum ≤ 8) (hV : wp_X4_wayOf σ a1 a2 Ret) (k : ∀ r σ', Ret r σ' → zz C E NS nL σ' (pc + 3) L (.int r :: st)) : zz C E NS nL σ pc L (.int a2 :: .int a1 :: .ref (E.1.heap.size + 44) :: st) :=
  z_callVG hC cf3 cw_X4_wayOf hdd (by decide) (mz_X4_wayOf (cxE hC) hV) hd (k_44 σ) q1889 q1891 qs74 (np := 2) rfl rfl hW rfl (kI k)
def wp_X4_turnOf (σ : ZS) (a1 : Int32) (a2 : Int32) (Ret : Int32 → ZS → Prop) : Prop :=
    wp_X4_endOf σ a1 (fun r1 σ2 => wp_X4_beginOf σ2 a2 (fun r3 σ4 => ((r1 = r3 → ((((a1 / 2) = (a2 / 2) → (Ret 0 σ4)) ∧ (¬ (a1 / 2) = (a2 / 2) → (wp_X4_wayOf σ4 a1 0 (fun r5 σ6 => wp_X4_wayOf σ6 a2 1 (fun r7 σ8 => wp_X4_wayOf σ8 a1 1 (fun r9 σ10 => wp_X4_wayOf σ10 a2 0 (fun r11 σ12 => ∀ y13 : Int32, y13 = (r5 * r7) - (r9 * r11) → (((y13 = 0 → (wp_X4_wayOf σ12 a1 0 (fun r14 σ15 => wp_X4_wayOf σ15 a2 0 (fun r16 σ17 => wp_X4_wayOf σ17 a1 1 (fun r18 σ19 => wp_X4_wayOf σ19 a2 1 (fun r20 σ21 => ((0 < ((r14 * r16) + (r18 * r20)) → (Ret 2 σ21)) ∧ (¬ 0 < ((r14 * r16) + (r18 * r20)) → (Ret 0 σ21))))))))) ∧ (¬ y13 = 0 → (((0 < y13 → (Ret 3 σ12)) ∧ (¬ 0 < y13 → (Ret 1 σ12)))))))))))))))) ∧ (¬ r1 = r3 → (Ret (-1) σ4)))))
set_option maxHeartbeats 4000000 in
theorem mz_X4_turnOf {l : Launch} {E : ZE} (hE : EOK E) {σ : ZS} {a1 : Int32} {a2 : Int32} {Ret : Int32 → ZS → Prop} (hV : wp_X4_turnOf σ a1 a2 Ret) : MZ l E NS yX4_turnOf (ws_ yX4_turnOf cX4_turnOf 4 (some .int)) 3 σ [.ref (E.1.heap.size + 44), .int a1, .int a2] (rI Ret) := by
  refine MZ.start (L := [some (.ref (E.1.heap.size + 44)), some (.int a1), some (.int a2), none]) hE (by decide) (Nat.le_of_ble_eq_true rfl) rfl fun C hCl hQo hC => ?_
  replace hC : Cx C E cX4_turnOf 4 "RightTurnsModel" "turnOf" (some .int) [] 3 := hC
  unfold wp_X4_turnOf at hV
  refine z_aload_n hC dX4_turnOf_0 rfl rfl ?_
  refine z_iload_n hC dX4_turnOf_1 rfl rfl ?_
  refine c_X4_250 hC (by decide) dX4_turnOf_2 (Nat.le_of_ble_eq_true rfl) hV (fun r1 σ2 hV => ?_)
  refine z_aload_n hC dX4_turnOf_5 rfl rfl ?_
  refine z_iload_n hC dX4_turnOf_6 rfl rfl ?_
  refine c_X4_253 hC (by decide) dX4_turnOf_7 (Nat.le_of_ble_eq_true rfl) hV (fun r3 σ4 hV => ?_)
  refine z_icmp_eq (tgt := 15) hC dX4_turnOf_10 (by decide) (fun hc => ?_) (fun hc => ?_)
  · replace hV := hV.1 hc
    refine z_iload_n hC dX4_turnOf_15 rfl rfl ?_
    refine z_iconst (v := 2) hC dX4_turnOf_16 rfl ?_
    refine z_idiv hC dX4_turnOf_17 (by decide) ?_
    refine z_iload_n hC dX4_turnOf_18 rfl rfl ?_
    refine z_iconst (v := 2) hC dX4_turnOf_19 rfl ?_
    refine z_idiv hC dX4_turnOf_20 (by decide) ?_
    refine z_icmp_ne (tgt := 26) hC dX4_turnOf_21 (by decide) (fun hc => ?_) (fun hc => ?_)
    · replace hV := hV.2 hc
      refine z_aload_n hC dX4_turnOf_26 rfl rfl ?_
      refine z_iload_n hC dX4_turnOf_27 rfl rfl ?_
      refine z_iconst (v := 0) hC dX4_turnOf_28 rfl ?_
      refine c_X4_256 hC (by decide) dX4_turnOf_29 (Nat.le_of_ble_eq_true rfl) hV (fun r5 σ6 hV => ?_)
      refine z_aload_n hC dX4_turnOf_32 rfl rfl ?_
      refine z_iload_n hC dX4_turnOf_33 rfl rfl ?_
      refine z_iconst (v := 1) hC dX4_turnOf_34 rfl ?_
      refine c_X4_256 hC (by decide) dX4_turnOf_35 (Nat.le_of_ble_eq_true rfl) hV (fun r7 σ8 hV => ?_)
      refine z_imul hC dX4_turnOf_38 ?_
      refine z_aload_n hC dX4_turnOf_39 rfl rfl ?_
      refine z_iload_n hC dX4_turnOf_40 rfl rfl ?_
      refine z_iconst (v := 1) hC dX4_turnOf_41 rfl ?_
      refine c_X4_256 hC (by decide) dX4_turnOf_42 (Nat.le_of_ble_eq_true rfl) hV (fun r9 σ10 hV => ?_)
      refine z_aload_n hC dX4_turnOf_45 rfl rfl ?_
      refine z_iload_n hC dX4_turnOf_46 rfl rfl ?_
      refine z_iconst (v := 0) hC dX4_turnOf_47 rfl ?_
      refine c_X4_256 hC (by decide) dX4_turnOf_48 (Nat.le_of_ble_eq_true rfl) hV (fun r11 σ12 hV => ?_)
      refine z_imul hC dX4_turnOf_51 ?_
      refine z_isub hC dX4_turnOf_52 ?_
      obtain ⟨y13, e_y13⟩ : ∃ z, z = (r5 * r7) - (r9 * r11) := ⟨_, rfl⟩
      rw [← e_y13]
      replace hV := hV _ e_y13
      refine z_istore_n hC dX4_turnOf_53 rfl (Nat.le_of_ble_eq_true rfl) rfl rfl ?_
      refine z_iload_n hC dX4_turnOf_54 rfl rfl ?_
      refine z_if_eq (tgt := 68) hC dX4_turnOf_55 (by decide) (fun hc => ?_) (fun hc => ?_)
      · replace hV := hV.1 hc
        refine z_aload_n hC dX4_turnOf_68 rfl rfl ?_
        refine z_iload_n hC dX4_turnOf_69 rfl rfl ?_
        refine z_iconst (v := 0) hC dX4_turnOf_70 rfl ?_
        refine c_X4_256 hC (by decide) dX4_turnOf_71 (Nat.le_of_ble_eq_true rfl) hV (fun r14 σ15 hV => ?_)
        refine z_aload_n hC dX4_turnOf_74 rfl rfl ?_
        refine z_iload_n hC dX4_turnOf_75 rfl rfl ?_
        refine z_iconst (v := 0) hC dX4_turnOf_76 rfl ?_
        refine c_X4_256 hC (by decide) dX4_turnOf_77 (Nat.le_of_ble_eq_true rfl) hV (fun r16 σ17 hV => ?_)
        refine z_imul hC dX4_turnOf_80 ?_
        refine z_aload_n hC dX4_turnOf_81 rfl rfl ?_
        refine z_iload_n hC dX4_turnOf_82 rfl rfl ?_
        refine z_iconst (v := 1) hC dX4_turnOf_83 rfl ?_
        refine c_X4_256 hC (by decide) dX4_turnOf_84 (Nat.le_of_ble_eq_true rfl) hV (fun r18 σ19 hV => ?_)
        refine z_aload_n hC dX4_turnOf_87 rfl rfl ?_
        refine z_iload_n hC dX4_turnOf_88 rfl rfl ?_
        refine z_iconst (v := 1) hC dX4_turnOf_89 rfl ?_
        refine c_X4_256 hC (by decide) dX4_turnOf_90 (Nat.le_of_ble_eq_true rfl) hV (fun r20 σ21 hV => ?_)
        refine z_imul hC dX4_turnOf_93 ?_
        refine z_iadd hC dX4_turnOf_94 ?_
        refine z_if_le (tgt := 102) hC dX4_turnOf_95 (by decide) (fun hc => ?_) (fun hc => ?_)
        · replace hV := hV.2 hc
          refine z_iconst (v := 0) hC dX4_turnOf_102 rfl ?_
          exact z_iret hC dX4_turnOf_103 rfl (by rw [hQo]; exact ⟨_, rfl, hV⟩)
        · replace hV := hV.1 hc
          refine z_iconst (v := 2) hC dX4_turnOf_98 rfl ?_
          refine z_goto (tgt := 103) hC dX4_turnOf_99 (by decide) ?_
          exact z_iret hC dX4_turnOf_103 rfl (by rw [hQo]; exact ⟨_, rfl, hV⟩)
      · replace hV := hV.2 hc
        refine z_iload_n hC dX4_turnOf_58 rfl rfl ?_
        refine z_if_le (tgt := 66) hC dX4_turnOf_59 (by decide) (fun hc => ?_) (fun hc => ?_)
        · replace hV := hV.2 hc
          refine z_iconst (v := 1) hC dX4_turnOf_66 rfl ?_
          exact z_iret hC dX4_turnOf_67 rfl (by rw [hQo]; exact ⟨_, rfl, hV⟩)
        · replace hV := hV.1 hc
          refine z_iconst (v := 3) hC dX4_turnOf_62 rfl ?_
          refine z_goto (tgt := 67) hC dX4_turnOf_63 (by decide) ?_
          exact z_iret hC dX4_turnOf_67 rfl (by rw [hQo]; exact ⟨_, rfl, hV⟩)
    · replace hV := hV.1 hc
      refine z_iconst (v := 0) hC dX4_turnOf_24 rfl ?_
      exact z_iret hC dX4_turnOf_25 rfl (by rw [hQo]; exact ⟨_, rfl, hV⟩)
  · replace hV := hV.2 hc
    refine z_iconst (v := (-1)) hC dX4_turnOf_13 rfl ?_
    exact z_iret hC dX4_turnOf_14 rfl (by rw [hQo]; exact ⟨_, rfl, hV⟩)
theorem g_X4_55_44 {C : ZC} {E : ZE} {cc : ByteArray} {nL pc d : Nat} {nm : String} {ret : Option FieldType} {hh : List (Nat × Nat × Nat × Nat)} {σ : ZS} {L : List (Option Value)} {st : List Value} (hC : Cx C E cc nL "RightTurnsModel" nm ret hh d) (hd : decode cc pc = .ok (.getfield 55, 3)) (k : zz C E NS nL σ (pc + 3) L (.ref (E.1.heap.size + 564) :: st)) : zz C E NS nL σ pc L (.ref (E.1.heap.size + 44) :: st) :=
  z_get hC cf3 hd (k_44 σ) (k := 22) (by decide) (Or.inl q1607) (Or.inl rfl) rfl k
theorem g_X4_58_44 {C : ZC} {E : ZE} {cc : ByteArray} {nL pc d : Nat} {nm : String} {ret : Option FieldType} {hh : List (Nat × Nat × Nat × Nat)} {σ : ZS} {L : List (Option Value)} {st : List Value} (hC : Cx C E cc nL "RightTurnsModel" nm ret hh d) (hd : decode cc pc = .ok (.getfield 58, 3)) (k : zz C E NS nL σ (pc + 3) L (.ref (E.1.heap.size + 565) :: st)) : zz C E NS nL σ pc L (.ref (E.1.heap.size + 44) :: st) :=
  z_get hC cf3 hd (k_44 σ) (k := 23) (by decide) (Or.inl q1608) (Or.inl rfl) rfl k
theorem cw_X4_turnOf : CodeW yX4_turnOf (ws_ yX4_turnOf cX4_turnOf 4 (some .int)) 4 := ⟨fun w h => (List.mem_cons.mp h).elim (fun e => e ▸ q1880) id, Or.inl ⟨_, _, q1880⟩, q138, by decide, by decide⟩
theorem c_X4_265 {C : ZC} {E : ZE} {cc : ByteArray} {nL pc d : Nat} {nm : String} {ret : Option FieldType} {hh : List (Nat × Nat × Nat × Nat)} {σ : ZS} {L : List (Option Value)} {st : List Value} {a1 : Int32} {a2 : Int32} {Ret : Int32 → ZS → Prop} (hC : Cx C E cc nL "RightTurnsModel" nm ret hh d) (hdd : 3 + 1 ≤ d) (hd : decode cc pc = .ok (.invokevirtual 265, 3)) (hW : (st.map fun v => v.category).sum ≤ 8) (hV : wp_X4_turnOf σ a1 a2 Ret) (k : ∀ r σ', Ret r σ' → zz C E NS nL σ' (pc + 3) L (.int r :: st)) : zz C E NS nL σ pc L (.int a2 :: .int a1 :: .ref (E.1.heap.size + 44) :: st) :=
  z_callVG hC cf3 cw_X4_turnOf hdd (by decide) (mz_X4_turnOf (cxE hC) hV) hd (k_44 σ) q1877 q1879 qs71 (np := 2) rfl rfl hW rfl (kI k)
def V_X4_mayNow_45 (Ret : Int32 → ZS → Prop) (σ : ZS) (x1 : Int32) (x2 : Int32) (s0 : Int32) : Prop :=
    ((s0 = 0 → (Ret 0 σ)) ∧ (¬ s0 = 0 → (vp_in (x1 / 2) 24 ∧ ((((((zI σ 564 (ix (x1 / 2))) >>> ((x2 / 2) &&& 31)) &&& 1) = 0 → (Ret 1 σ)) ∧ (¬ (((zI σ 564 (ix (x1 / 2))) >>> ((x2 / 2) &&& 31)) &&& 1) = 0 → (Ret 0 σ)))))))
def V_X4_mayNow_40 (Ret : Int32 → ZS → Prop) (σ : ZS) (x1 : Int32) (x2 : Int32) : Prop :=
    V_X4_mayNow_45 Ret σ x1 x2 1
def V_X4_mayNow_44 (Ret : Int32 → ZS → Prop) (σ : ZS) (x1 : Int32) (x2 : Int32) : Prop :=
    V_X4_mayNow_45 Ret σ x1 x2 0
def wp_X4_mayNow (σ : ZS) (a1 : Int32) (a2 : Int32) (Ret : Int32 → ZS → Prop) : Prop :=
    wp_X4_turnOf σ a1 a2 (fun r1 σ2 => ((r1 = 1 → (V_X4_mayNow_40 Ret σ2 a1 a2)) ∧ (¬ r1 = 1 → (((r1 = 2 → (V_X4_mayNow_40 Ret σ2 a1 a2)) ∧ (¬ r1 = 2 → (((r1 = 3 → (vp_in (a1 / 2) 24 ∧ ((((((zI σ2 565 (ix (a1 / 2))) >>> ((a2 / 2) &&& 31)) &&& 1) = 1 → (V_X4_mayNow_40 Ret σ2 a1 a2)) ∧ (¬ (((zI σ2 565 (ix (a1 / 2))) >>> ((a2 / 2) &&& 31)) &&& 1) = 1 → (V_X4_mayNow_44 Ret σ2 a1 a2)))))) ∧ (¬ r1 = 3 → (V_X4_mayNow_44 Ret σ2 a1 a2))))))))))
set_option maxHeartbeats 4000000 in
theorem mz_X4_mayNow {l : Launch} {E : ZE} (hE : EOK E) {σ : ZS} {a1 : Int32} {a2 : Int32} {Ret : Int32 → ZS → Prop} (hV : wp_X4_mayNow σ a1 a2 Ret) : MZ l E NS yX4_mayNow (ws_ yX4_mayNow cX4_mayNow 5 (some .boolean)) 4 σ [.ref (E.1.heap.size + 44), .int a1, .int a2] (rI Ret) := by
  refine MZ.start (L := [some (.ref (E.1.heap.size + 44)), some (.int a1), some (.int a2), none, none]) hE (by decide) (Nat.le_of_ble_eq_true rfl) rfl fun C hCl hQo hC => ?_
  replace hC : Cx C E cX4_mayNow 5 "RightTurnsModel" "mayNow" (some .boolean) [] 4 := hC
  unfold wp_X4_mayNow at hV
  have j_45 : ∀ (σ : ZS) (x1 : Int32) (x2 : Int32) (s0 : Int32), V_X4_mayNow_45 Ret σ x1 x2 s0 → zz C E NS 5 σ 45 [some (.ref (E.1.heap.size + 44)), some (.int x1), some (.int x2), none, none] [.int s0] := by
    intro σ x1 x2 s0 hV
    unfold V_X4_mayNow_45 at hV
    refine z_istore hC dX4_mayNow_45 (Nat.le_of_ble_eq_true rfl) rfl rfl ?_
    refine z_iload hC dX4_mayNow_47 rfl ?_
    refine z_if_eq (tgt := 73) hC dX4_mayNow_49 (by decide) (fun hc => ?_) (fun hc => ?_)
    · replace hV := hV.1 hc
      refine z_iconst (v := 0) hC dX4_mayNow_73 rfl ?_
      exact z_iret hC dX4_mayNow_74 rfl (by rw [hQo]; exact ⟨_, rfl, hV⟩)
    · replace hV := hV.2 hc
      refine z_aload_n hC dX4_mayNow_52 rfl rfl ?_
      refine g_X4_55_44 hC dX4_mayNow_53 ?_
      refine z_iload_n hC dX4_mayNow_56 rfl rfl ?_
      refine z_iconst (v := 2) hC dX4_mayNow_57 rfl ?_
      refine z_idiv hC dX4_mayNow_58 (by decide) ?_
      obtain ⟨h3, hV⟩ := hV
      refine z_iald hC dX4_mayNow_59 (k_564 _) (h3) ?_
      refine z_iload_n hC dX4_mayNow_60 rfl rfl ?_
      refine z_iconst (v := 2) hC dX4_mayNow_61 rfl ?_
      refine z_idiv hC dX4_mayNow_62 (by decide) ?_
      refine z_ishr hC dX4_mayNow_63 ?_
      refine z_iconst (v := 1) hC dX4_mayNow_64 rfl ?_
      refine z_iand hC dX4_mayNow_65 ?_
      refine z_if_ne (tgt := 73) hC dX4_mayNow_66 (by decide) (fun hc => ?_) (fun hc => ?_)
      · replace hV := hV.2 hc
        refine z_iconst (v := 0) hC dX4_mayNow_73 rfl ?_
        exact z_iret hC dX4_mayNow_74 rfl (by rw [hQo]; exact ⟨_, rfl, hV⟩)
      · replace hV := hV.1 hc
        refine z_iconst (v := 1) hC dX4_mayNow_69 rfl ?_
        refine z_goto (tgt := 74) hC dX4_mayNow_70 (by decide) ?_
        exact z_iret hC dX4_mayNow_74 rfl (by rw [hQo]; exact ⟨_, rfl, hV⟩)
  have j_40 : ∀ (σ : ZS) (x1 : Int32) (x2 : Int32), V_X4_mayNow_40 Ret σ x1 x2 → zz C E NS 5 σ 40 [some (.ref (E.1.heap.size + 44)), some (.int x1), some (.int x2), none, none] [] := by
    intro σ x1 x2 hV
    unfold V_X4_mayNow_40 at hV
    refine z_iconst (v := 1) hC dX4_mayNow_40 rfl ?_
    refine z_goto (tgt := 45) hC dX4_mayNow_41 (by decide) ?_
    refine zz_sub (L' := [some (.ref (E.1.heap.size + 44)), some (.int x1), some (.int x2), none, none]) ⟨rfl, rfl, rfl, trivial⟩ ?_
    exact j_45 σ x1 x2 1 hV
  have j_44 : ∀ (σ : ZS) (x1 : Int32) (x2 : Int32), V_X4_mayNow_44 Ret σ x1 x2 → zz C E NS 5 σ 44 [some (.ref (E.1.heap.size + 44)), some (.int x1), some (.int x2), none, none] [] := by
    intro σ x1 x2 hV
    unfold V_X4_mayNow_44 at hV
    refine z_iconst (v := 0) hC dX4_mayNow_44 rfl ?_
    refine zz_sub (L' := [some (.ref (E.1.heap.size + 44)), some (.int x1), some (.int x2), none, none]) ⟨rfl, rfl, rfl, trivial⟩ ?_
    exact j_45 σ x1 x2 0 hV
  refine z_aload_n hC dX4_mayNow_0 rfl rfl ?_
  refine z_iload_n hC dX4_mayNow_1 rfl rfl ?_
  refine z_iload_n hC dX4_mayNow_2 rfl rfl ?_
  refine c_X4_265 hC (by decide) dX4_mayNow_3 (Nat.le_of_ble_eq_true rfl) hV (fun r1 σ2 hV => ?_)
  refine z_istore_n hC dX4_mayNow_6 rfl (Nat.le_of_ble_eq_true rfl) rfl rfl ?_
  refine z_iload_n hC dX4_mayNow_7 rfl rfl ?_
  refine z_iconst (v := 1) hC dX4_mayNow_8 rfl ?_
  refine z_icmp_eq (tgt := 40) hC dX4_mayNow_9 (by decide) (fun hc => ?_) (fun hc => ?_)
  · replace hV := hV.1 hc
    refine zz_sub (L' := [some (.ref (E.1.heap.size + 44)), some (.int a1), some (.int a2), none, none]) ⟨rfl, rfl, rfl, trivial⟩ ?_
    exact j_40 σ2 a1 a2 hV
  · replace hV := hV.2 hc
    refine z_iload_n hC dX4_mayNow_12 rfl rfl ?_
    refine z_iconst (v := 2) hC dX4_mayNow_13 rfl ?_
    refine z_icmp_eq (tgt := 40) hC dX4_mayNow_14 (by decide) (fun hc => ?_) (fun hc => ?_)
    · replace hV := hV.1 hc
      refine zz_sub (L' := [some (.ref (E.1.heap.size + 44)), some (.int a1), some (.int a2), none, none]) ⟨rfl, rfl, rfl, trivial⟩ ?_
      exact j_40 σ2 a1 a2 hV
    · replace hV := hV.2 hc
      refine z_iload_n hC dX4_mayNow_17 rfl rfl ?_
      refine z_iconst (v := 3) hC dX4_mayNow_18 rfl ?_
      refine z_icmp_ne (tgt := 44) hC dX4_mayNow_19 (by decide) (fun hc => ?_) (fun hc => ?_)
      · replace hV := hV.2 hc
        refine zz_sub (L' := [some (.ref (E.1.heap.size + 44)), some (.int a1), some (.int a2), none, none]) ⟨rfl, rfl, rfl, trivial⟩ ?_
        exact j_44 σ2 a1 a2 hV
      · replace hV := hV.1 hc
        refine z_aload_n hC dX4_mayNow_22 rfl rfl ?_
        refine g_X4_58_44 hC dX4_mayNow_23 ?_
        refine z_iload_n hC dX4_mayNow_26 rfl rfl ?_
        refine z_iconst (v := 2) hC dX4_mayNow_27 rfl ?_
        refine z_idiv hC dX4_mayNow_28 (by decide) ?_
        obtain ⟨h4, hV⟩ := hV
        refine z_iald hC dX4_mayNow_29 (k_565 _) (h4) ?_
        refine z_iload_n hC dX4_mayNow_30 rfl rfl ?_
        refine z_iconst (v := 2) hC dX4_mayNow_31 rfl ?_
        refine z_idiv hC dX4_mayNow_32 (by decide) ?_
        refine z_ishr hC dX4_mayNow_33 ?_
        refine z_iconst (v := 1) hC dX4_mayNow_34 rfl ?_
        refine z_iand hC dX4_mayNow_35 ?_
        refine z_iconst (v := 1) hC dX4_mayNow_36 rfl ?_
        refine z_icmp_ne (tgt := 44) hC dX4_mayNow_37 (by decide) (fun hc => ?_) (fun hc => ?_)
        · replace hV := hV.2 hc
          refine zz_sub (L' := [some (.ref (E.1.heap.size + 44)), some (.int a1), some (.int a2), none, none]) ⟨rfl, rfl, rfl, trivial⟩ ?_
          exact j_44 σ2 a1 a2 hV
        · replace hV := hV.1 hc
          refine zz_sub (L' := [some (.ref (E.1.heap.size + 44)), some (.int a1), some (.int a2), none, none]) ⟨rfl, rfl, rfl, trivial⟩ ?_
          exact j_40 σ2 a1 a2 hV
theorem g_X4_61_44 {C : ZC} {E : ZE} {cc : ByteArray} {nL pc d : Nat} {nm : String} {ret : Option FieldType} {hh : List (Nat × Nat × Nat × Nat)} {σ : ZS} {L : List (Option Value)} {st : List Value} (hC : Cx C E cc nL "RightTurnsModel" nm ret hh d) (hd : decode cc pc = .ok (.getfield 61, 3)) (k : zz C E NS nL σ (pc + 3) L (.ref (E.1.heap.size + 566) :: st)) : zz C E NS nL σ pc L (.ref (E.1.heap.size + 44) :: st) :=
  z_get hC cf3 hd (k_44 σ) (k := 24) (by decide) (Or.inl q1609) (Or.inl rfl) rfl k
theorem cw_X4_isArc : CodeW yX4_isArc (ws_ yX4_isArc cX4_isArc 2 (some .boolean)) 2 := ⟨fun w h => (List.mem_cons.mp h).elim (fun e => e ▸ q1876) id, Or.inl ⟨_, _, q1876⟩, q138, by decide, by decide⟩
theorem c_X4_262 {C : ZC} {E : ZE} {cc : ByteArray} {nL pc d : Nat} {nm : String} {ret : Option FieldType} {hh : List (Nat × Nat × Nat × Nat)} {σ : ZS} {L : List (Option Value)} {st : List Value} {a1 : Int32} {Ret : Int32 → ZS → Prop} (hC : Cx C E cc nL "RightTurnsModel" nm ret hh d) (hdd : 2 + 1 ≤ d) (hd : decode cc pc = .ok (.invokevirtual 262, 3)) (hW : (st.map fun v => v.category).sum ≤ 8) (hV : wp_X4_isArc σ a1 Ret) (k : ∀ r σ', Ret r σ' → zz C E NS nL σ' (pc + 3) L (.int r :: st)) : zz C E NS nL σ pc L (.int a1 :: .ref (E.1.heap.size + 44) :: st) :=
  z_callVG hC cf3 cw_X4_isArc hdd (by decide) (mz_X4_isArc (cxE hC) hV) hd (k_44 σ) q1873 q1875 qs70 (np := 1) rfl rfl hW rfl (kI k)
theorem cw_X4_mayNow : CodeW yX4_mayNow (ws_ yX4_mayNow cX4_mayNow 5 (some .boolean)) 5 := ⟨fun w h => (List.mem_cons.mp h).elim (fun e => e ▸ q1928) id, Or.inl ⟨_, _, q1928⟩, q138, by decide, by decide⟩
theorem c_X4_271 {C : ZC} {E : ZE} {cc : ByteArray} {nL pc d : Nat} {nm : String} {ret : Option FieldType} {hh : List (Nat × Nat × Nat × Nat)} {σ : ZS} {L : List (Option Value)} {st : List Value} {a1 : Int32} {a2 : Int32} {Ret : Int32 → ZS → Prop} (hC : Cx C E cc nL "RightTurnsModel" nm ret hh d) (hdd : 4 + 1 ≤ d) (hd : decode cc pc = .ok (.invokevirtual 271, 3)) (hW : (st.map fun v => v.category).sum ≤ 8) (hV : wp_X4_mayNow σ a1 a2 Ret) (k : ∀ r σ', Ret r σ' → zz C E NS nL σ' (pc + 3) L (.int r :: st)) : zz C E NS nL σ pc L (.int a2 :: .int a1 :: .ref (E.1.heap.size + 44) :: st) :=
  z_callVG hC cf3 cw_X4_mayNow hdd (by decide) (mz_X4_mayNow (cxE hC) hV) hd (k_44 σ) q1925 q1927 qs78 (np := 2) rfl rfl hW rfl (kI k)
def VL_X4_layFollows_34 (K2 : ZS → Int32 → Prop) (Ret : ZS → Prop) : Nat → ZS → Int32 → Int32 → Prop
  | 0 => fun _ _ _ => False
  | k + 1 => fun σ x1 x2 =>
    let K34 := VL_X4_layFollows_34 K2 Ret k
    ((x2 < (2 * (zI σ 47 (ix 1))) → (wp_X4_isArc σ x2 (fun r6 σ7 => ((r6 = 0 → (∀ y8 : Int32, y8 = x2 + 1 → (K34 σ7 x1 y8))) ∧ (¬ r6 = 0 → (wp_X4_mayNow σ7 x1 x2 (fun r9 σ10 => ((r9 = 0 → (∀ y11 : Int32, y11 = x2 + 1 → (K34 σ10 x1 y11))) ∧ (¬ r9 = 0 → (vp_in x1 48 ∧ (vp_in x1 48 ∧ (∀ σ14 : ZS, σ14 = sJ σ10 566 (ix x1) ((zJ σ10 566 (ix x1)) ||| ((1 : Int64) <<< (x2.toInt64 &&& 63))) → (∀ y15 : Int32, y15 = x2 + 1 → (K34 σ14 x1 y15)))))))))))))) ∧ (¬ x2 < (2 * (zI σ 47 (ix 1))) → (∀ y5 : Int32, y5 = x1 + 1 → (K2 σ y5))))
def V_X4_layFollows_34 (K2 : ZS → Int32 → Prop) (Ret : ZS → Prop) (σ : ZS) (x1 : Int32) (x2 : Int32) : Prop := ∃ k, VL_X4_layFollows_34 K2 Ret k σ x1 x2
def VL_X4_layFollows_2 (Ret : ZS → Prop) : Nat → ZS → Int32 → Prop
  | 0 => fun _ _ => False
  | k + 1 => fun σ x1 =>
    let K2 := VL_X4_layFollows_2 Ret k
    ((x1 < (2 * (zI σ 47 (ix 1))) → (vp_in x1 48 ∧ (∀ σ2 : ZS, σ2 = sJ σ 566 (ix x1) 0 → (wp_X4_isArc σ2 x1 (fun r3 σ4 => ((r3 = 0 → (∀ y16 : Int32, y16 = x1 + 1 → (K2 σ4 y16))) ∧ (¬ r3 = 0 → (V_X4_layFollows_34 K2 Ret σ4 x1 0)))))))) ∧ (¬ x1 < (2 * (zI σ 47 (ix 1))) → (Ret σ)))
def V_X4_layFollows_2 (Ret : ZS → Prop) (σ : ZS) (x1 : Int32) : Prop := ∃ k, VL_X4_layFollows_2 Ret k σ x1
def wp_X4_layFollows (σ : ZS) (Ret : ZS → Prop) : Prop :=
    V_X4_layFollows_2 Ret σ 0
set_option maxHeartbeats 4000000 in
theorem mz_X4_layFollows {l : Launch} {E : ZE} (hE : EOK E) {σ : ZS} {Ret : ZS → Prop} (hV : wp_X4_layFollows σ Ret) : MZ l E NS yX4_layFollows (ws_ yX4_layFollows cX4_layFollows 3 none) 5 σ [.ref (E.1.heap.size + 44)] (rV Ret) := by
  refine MZ.start (L := [some (.ref (E.1.heap.size + 44)), none, none]) hE (by decide) (Nat.le_of_ble_eq_true rfl) rfl fun C hCl hQo hC => ?_
  replace hC : Cx C E cX4_layFollows 3 "RightTurnsModel" "layFollows" none [] 5 := hC
  unfold wp_X4_layFollows at hV
  have j_2 : ∀ (σ : ZS) (x1 : Int32), V_X4_layFollows_2 Ret σ x1 → zz C E NS 3 σ 2 [some (.ref (E.1.heap.size + 44)), some (.int x1), none] [] := by
    intro σ x1 ⟨k, hV⟩
    revert σ x1
    induction k with
    | zero => exact fun _ _ hV => hV.elim
    | succ k j_2 =>
      intro σ x1 hV
      simp only [VL_X4_layFollows_2] at hV
      generalize hKe2 : VL_X4_layFollows_2 Ret k = K2 at hV j_2
      clear hKe2
      have j_34 : ∀ (σ : ZS) (x1 : Int32) (x2 : Int32), V_X4_layFollows_34 K2 Ret σ x1 x2 → zz C E NS 3 σ 34 [some (.ref (E.1.heap.size + 44)), some (.int x1), some (.int x2)] [] := by
        intro σ x1 x2 ⟨k, hV⟩
        revert σ x1 x2
        induction k with
        | zero => exact fun _ _ _ hV => hV.elim
        | succ k j_34 =>
          intro σ x1 x2 hV
          simp only [VL_X4_layFollows_34] at hV
          generalize hKe34 : VL_X4_layFollows_34 K2 Ret k = K34 at hV j_34
          clear hKe34
          refine z_iload_n hC dX4_layFollows_34 rfl rfl ?_
          refine z_iconst (v := 2) hC dX4_layFollows_35 rfl ?_
          refine z_aload_n hC dX4_layFollows_36 rfl rfl ?_
          refine g_X4_20_44 hC dX4_layFollows_37 ?_
          refine z_iconst (v := 1) hC dX4_layFollows_40 rfl ?_
          refine z_iald hC dX4_layFollows_41 (k_47 _) (in_dec rfl) ?_
          refine z_imul hC dX4_layFollows_42 ?_
          refine z_icmp_ge (tgt := 81) hC dX4_layFollows_43 (by decide) (fun hc => ?_) (fun hc => ?_)
          · replace hV := hV.2 hc
            obtain ⟨y5, e_y5⟩ : ∃ z : Int32, z = x1 + 1 := ⟨_, rfl⟩
            replace hV := hV _ e_y5
            refine z_iinc (v := y5) hC dX4_layFollows_81 rfl (by rw [e_y5]; rfl) (Nat.le_of_ble_eq_true rfl) rfl rfl ?_
            refine z_goto (tgt := 2) hC dX4_layFollows_84 (by decide) ?_
            refine zz_sub (L' := [some (.ref (E.1.heap.size + 44)), some (.int y5), none]) ⟨rfl, rfl, trivial⟩ ?_
            exact j_2 σ y5 hV
          · replace hV := hV.1 hc
            refine z_aload_n hC dX4_layFollows_46 rfl rfl ?_
            refine z_iload_n hC dX4_layFollows_47 rfl rfl ?_
            refine c_X4_262 hC (by decide) dX4_layFollows_48 (Nat.le_of_ble_eq_true rfl) hV (fun r6 σ7 hV => ?_)
            refine z_if_eq (tgt := 75) hC dX4_layFollows_51 (by decide) (fun hc => ?_) (fun hc => ?_)
            · replace hV := hV.1 hc
              obtain ⟨y8, e_y8⟩ : ∃ z : Int32, z = x2 + 1 := ⟨_, rfl⟩
              replace hV := hV _ e_y8
              refine z_iinc (v := y8) hC dX4_layFollows_75 rfl (by rw [e_y8]; rfl) (Nat.le_of_ble_eq_true rfl) rfl rfl ?_
              refine z_goto (tgt := 34) hC dX4_layFollows_78 (by decide) ?_
              refine zz_sub (L' := [some (.ref (E.1.heap.size + 44)), some (.int x1), some (.int y8)]) ⟨rfl, rfl, rfl, trivial⟩ ?_
              exact j_34 σ7 x1 y8 hV
            · replace hV := hV.2 hc
              refine z_aload_n hC dX4_layFollows_54 rfl rfl ?_
              refine z_iload_n hC dX4_layFollows_55 rfl rfl ?_
              refine z_iload_n hC dX4_layFollows_56 rfl rfl ?_
              refine c_X4_271 hC (by decide) dX4_layFollows_57 (Nat.le_of_ble_eq_true rfl) hV (fun r9 σ10 hV => ?_)
              refine z_if_eq (tgt := 75) hC dX4_layFollows_60 (by decide) (fun hc => ?_) (fun hc => ?_)
              · replace hV := hV.1 hc
                obtain ⟨y11, e_y11⟩ : ∃ z : Int32, z = x2 + 1 := ⟨_, rfl⟩
                replace hV := hV _ e_y11
                refine z_iinc (v := y11) hC dX4_layFollows_75 rfl (by rw [e_y11]; rfl) (Nat.le_of_ble_eq_true rfl) rfl rfl ?_
                refine z_goto (tgt := 34) hC dX4_layFollows_78 (by decide) ?_
                refine zz_sub (L' := [some (.ref (E.1.heap.size + 44)), some (.int x1), some (.int y11)]) ⟨rfl, rfl, rfl, trivial⟩ ?_
                exact j_34 σ10 x1 y11 hV
              · replace hV := hV.2 hc
                refine z_aload_n hC dX4_layFollows_63 rfl rfl ?_
                refine g_X4_61_44 hC dX4_layFollows_64 ?_
                refine z_iload_n hC dX4_layFollows_67 rfl rfl ?_
                refine z_dup2 hC dX4_layFollows_68 rfl rfl ?_
                obtain ⟨h12, hV⟩ := hV
                refine z_lald hC dX4_layFollows_69 (k_566 _) (h12) ?_
                refine z_lconst (v := 1) hC dX4_layFollows_70 rfl ?_
                refine z_iload_n hC dX4_layFollows_71 rfl rfl ?_
                refine z_lshl hC dX4_layFollows_72 ?_
                refine z_lor hC dX4_layFollows_73 ?_
                obtain ⟨h13, hV⟩ := hV
                refine z_last hC dX4_layFollows_74 (k_566 _) (h13) ?_
                obtain ⟨σ14, e_σ14⟩ : ∃ z : ZS, z = sJ σ10 566 (ix x1) ((zJ σ10 566 (ix x1)) ||| ((1 : Int64) <<< (x2.toInt64 &&& 63))) := ⟨_, rfl⟩
                replace hV := hV _ e_σ14
                rw [← e_σ14]
                obtain ⟨y15, e_y15⟩ : ∃ z : Int32, z = x2 + 1 := ⟨_, rfl⟩
                replace hV := hV _ e_y15
                refine z_iinc (v := y15) hC dX4_layFollows_75 rfl (by rw [e_y15]; rfl) (Nat.le_of_ble_eq_true rfl) rfl rfl ?_
                refine z_goto (tgt := 34) hC dX4_layFollows_78 (by decide) ?_
                refine zz_sub (L' := [some (.ref (E.1.heap.size + 44)), some (.int x1), some (.int y15)]) ⟨rfl, rfl, rfl, trivial⟩ ?_
                exact j_34 σ14 x1 y15 hV
      refine z_iload_n hC dX4_layFollows_2 rfl rfl ?_
      refine z_iconst (v := 2) hC dX4_layFollows_3 rfl ?_
      refine z_aload_n hC dX4_layFollows_4 rfl rfl ?_
      refine g_X4_20_44 hC dX4_layFollows_5 ?_
      refine z_iconst (v := 1) hC dX4_layFollows_8 rfl ?_
      refine z_iald hC dX4_layFollows_9 (k_47 _) (in_dec rfl) ?_
      refine z_imul hC dX4_layFollows_10 ?_
      refine z_icmp_ge (tgt := 87) hC dX4_layFollows_11 (by decide) (fun hc => ?_) (fun hc => ?_)
      · replace hV := hV.2 hc
        exact z_vret hC dX4_layFollows_87 (by rw [hQo]; exact ⟨rfl, hV⟩)
      · replace hV := hV.1 hc
        refine z_aload_n hC dX4_layFollows_14 rfl rfl ?_
        refine g_X4_61_44 hC dX4_layFollows_15 ?_
        refine z_iload_n hC dX4_layFollows_18 rfl rfl ?_
        refine z_lconst (v := 0) hC dX4_layFollows_19 rfl ?_
        obtain ⟨h1, hV⟩ := hV
        refine z_last hC dX4_layFollows_20 (k_566 _) (h1) ?_
        obtain ⟨σ2, e_σ2⟩ : ∃ z : ZS, z = sJ σ 566 (ix x1) 0 := ⟨_, rfl⟩
        replace hV := hV _ e_σ2
        rw [← e_σ2]
        refine z_aload_n hC dX4_layFollows_21 rfl rfl ?_
        refine z_iload_n hC dX4_layFollows_22 rfl rfl ?_
        refine c_X4_262 hC (by decide) dX4_layFollows_23 (Nat.le_of_ble_eq_true rfl) hV (fun r3 σ4 hV => ?_)
        refine z_if_ne (tgt := 32) hC dX4_layFollows_26 (by decide) (fun hc => ?_) (fun hc => ?_)
        · replace hV := hV.2 hc
          refine z_iconst (v := 0) hC dX4_layFollows_32 rfl ?_
          refine z_istore_n hC dX4_layFollows_33 rfl (Nat.le_of_ble_eq_true rfl) rfl rfl ?_
          refine zz_sub (L' := [some (.ref (E.1.heap.size + 44)), some (.int x1), some (.int 0)]) ⟨rfl, rfl, rfl, trivial⟩ ?_
          exact j_34 σ4 x1 0 hV
        · replace hV := hV.1 hc
          refine z_goto (tgt := 81) hC dX4_layFollows_29 (by decide) ?_
          obtain ⟨y16, e_y16⟩ : ∃ z : Int32, z = x1 + 1 := ⟨_, rfl⟩
          replace hV := hV _ e_y16
          refine z_iinc (v := y16) hC dX4_layFollows_81 rfl (by rw [e_y16]; rfl) (Nat.le_of_ble_eq_true rfl) rfl rfl ?_
          refine z_goto (tgt := 2) hC dX4_layFollows_84 (by decide) ?_
          refine zz_sub (L' := [some (.ref (E.1.heap.size + 44)), some (.int y16), none]) ⟨rfl, rfl, trivial⟩ ?_
          exact j_2 σ4 y16 hV
  refine z_iconst (v := 0) hC dX4_layFollows_0 rfl ?_
  refine z_istore_n hC dX4_layFollows_1 rfl (Nat.le_of_ble_eq_true rfl) rfl rfl ?_
  refine zz_sub (L' := [some (.ref (E.1.heap.size + 44)), some (.int 0), none]) ⟨rfl, rfl, trivial⟩ ?_
  exact j_2 σ 0 hV
def VL_X4_laysTime_2 (Ret : ZS → Prop) : Nat → ZS → Int32 → Int32 → Prop
  | 0 => fun _ _ _ => False
  | k + 1 => fun σ x1 x2 =>
    let K2 := VL_X4_laysTime_2 Ret k
    ((x2 < 24 → (vp_in x1 201 ∧ (vp_in x2 24 ∧ (vp_in x2 24 ∧ (∀ σ4 : ZS, σ4 = sI σ 564 (ix x2) (zI σ (160 + 1 + ix x1) (ix x2)) → (vp_in x1 201 ∧ (vp_in x2 24 ∧ (vp_in x2 24 ∧ (∀ σ8 : ZS, σ8 = sI σ4 565 (ix x2) (zI σ4 (362 + 1 + ix x1) (ix x2)) → (∀ y9 : Int32, y9 = x2 + 1 → (K2 σ8 x1 y9))))))))))) ∧ (¬ x2 < 24 → (Ret σ)))
def V_X4_laysTime_2 (Ret : ZS → Prop) (σ : ZS) (x1 : Int32) (x2 : Int32) : Prop := ∃ k, VL_X4_laysTime_2 Ret k σ x1 x2
def wp_X4_laysTime (σ : ZS) (a1 : Int32) (Ret : ZS → Prop) : Prop :=
    V_X4_laysTime_2 Ret σ a1 0
set_option maxHeartbeats 4000000 in
theorem mz_X4_laysTime {l : Launch} {E : ZE} (hE : EOK E) {σ : ZS} {a1 : Int32} {Ret : ZS → Prop} (hV : wp_X4_laysTime σ a1 Ret) : MZ l E NS yX4_laysTime (ws_ yX4_laysTime cX4_laysTime 3 none) 1 σ [.ref (E.1.heap.size + 44), .int a1] (rV Ret) := by
  refine MZ.start (L := [some (.ref (E.1.heap.size + 44)), some (.int a1), none]) hE (by decide) (Nat.le_of_ble_eq_true rfl) rfl fun C hCl hQo hC => ?_
  replace hC : Cx C E cX4_laysTime 3 "RightTurnsModel" "laysTime" none [] 1 := hC
  unfold wp_X4_laysTime at hV
  have j_2 : ∀ (σ : ZS) (x1 : Int32) (x2 : Int32), V_X4_laysTime_2 Ret σ x1 x2 → zz C E NS 3 σ 2 [some (.ref (E.1.heap.size + 44)), some (.int x1), some (.int x2)] [] := by
    intro σ x1 x2 ⟨k, hV⟩
    revert σ x1 x2
    induction k with
    | zero => exact fun _ _ _ hV => hV.elim
    | succ k j_2 =>
      intro σ x1 x2 hV
      simp only [VL_X4_laysTime_2] at hV
      generalize hKe2 : VL_X4_laysTime_2 Ret k = K2 at hV j_2
      clear hKe2
      refine z_iload_n hC dX4_laysTime_2 rfl rfl ?_
      refine z_bipush (v := 24) hC dX4_laysTime_3 rfl ?_
      refine z_icmp_ge (tgt := 42) hC dX4_laysTime_5 (by decide) (fun hc => ?_) (fun hc => ?_)
      · replace hV := hV.2 hc
        exact z_vret hC dX4_laysTime_42 (by rw [hQo]; exact ⟨rfl, hV⟩)
      · replace hV := hV.1 hc
        refine z_aload_n hC dX4_laysTime_8 rfl rfl ?_
        refine g_X4_55_44 hC dX4_laysTime_9 ?_
        refine z_iload_n hC dX4_laysTime_12 rfl rfl ?_
        refine z_aload_n hC dX4_laysTime_13 rfl rfl ?_
        refine g_X4_49_44 hC dX4_laysTime_14 ?_
        refine z_iload_n hC dX4_laysTime_17 rfl rfl ?_
        obtain ⟨h1, hV⟩ := hV
        refine z_aalS hC dX4_laysTime_18 (k_160 _) (by decide) ps_160 h1 ?_
        refine z_iload_n hC dX4_laysTime_19 rfl rfl ?_
        obtain ⟨h2, hV⟩ := hV
        refine z_iald hC dX4_laysTime_20 (kr_160 _ (ix_lt h1)) (h2) ?_
        obtain ⟨h3, hV⟩ := hV
        refine z_iast hC dX4_laysTime_21 (k_564 _) (h3) ?_
        obtain ⟨σ4, e_σ4⟩ : ∃ z : ZS, z = sI σ 564 (ix x2) (zI σ (160 + 1 + ix x1) (ix x2)) := ⟨_, rfl⟩
        replace hV := hV _ e_σ4
        rw [← e_σ4]
        refine z_aload_n hC dX4_laysTime_22 rfl rfl ?_
        refine g_X4_58_44 hC dX4_laysTime_23 ?_
        refine z_iload_n hC dX4_laysTime_26 rfl rfl ?_
        refine z_aload_n hC dX4_laysTime_27 rfl rfl ?_
        refine g_X4_52_44 hC dX4_laysTime_28 ?_
        refine z_iload_n hC dX4_laysTime_31 rfl rfl ?_
        obtain ⟨h5, hV⟩ := hV
        refine z_aalS hC dX4_laysTime_32 (k_362 _) (by decide) ps_362 h5 ?_
        refine z_iload_n hC dX4_laysTime_33 rfl rfl ?_
        obtain ⟨h6, hV⟩ := hV
        refine z_iald hC dX4_laysTime_34 (kr_362 _ (ix_lt h5)) (h6) ?_
        obtain ⟨h7, hV⟩ := hV
        refine z_iast hC dX4_laysTime_35 (k_565 _) (h7) ?_
        obtain ⟨σ8, e_σ8⟩ : ∃ z : ZS, z = sI σ4 565 (ix x2) (zI σ4 (362 + 1 + ix x1) (ix x2)) := ⟨_, rfl⟩
        replace hV := hV _ e_σ8
        rw [← e_σ8]
        obtain ⟨y9, e_y9⟩ : ∃ z : Int32, z = x2 + 1 := ⟨_, rfl⟩
        replace hV := hV _ e_y9
        refine z_iinc (v := y9) hC dX4_laysTime_36 rfl (by rw [e_y9]; rfl) (Nat.le_of_ble_eq_true rfl) rfl rfl ?_
        refine z_goto (tgt := 2) hC dX4_laysTime_39 (by decide) ?_
        refine zz_sub (L' := [some (.ref (E.1.heap.size + 44)), some (.int x1), some (.int y9)]) ⟨rfl, rfl, rfl, trivial⟩ ?_
        exact j_2 σ8 x1 y9 hV
  refine z_iconst (v := 0) hC dX4_laysTime_0 rfl ?_
  refine z_istore_n hC dX4_laysTime_1 rfl (Nat.le_of_ble_eq_true rfl) rfl rfl ?_
  refine zz_sub (L' := [some (.ref (E.1.heap.size + 44)), some (.int a1), some (.int 0)]) ⟨rfl, rfl, rfl, trivial⟩ ?_
  exact j_2 σ a1 0 hV
theorem cw_X4_laysTime : CodeW yX4_laysTime (ws_ yX4_laysTime cX4_laysTime 3 none) 3 := ⟨fun w h => (List.mem_cons.mp h).elim (fun e => e ▸ q1924) id, Or.inl ⟨_, _, q1924⟩, q138, by decide, by decide⟩
theorem c_X4_275 {C : ZC} {E : ZE} {cc : ByteArray} {nL pc d : Nat} {nm : String} {ret : Option FieldType} {hh : List (Nat × Nat × Nat × Nat)} {σ : ZS} {L : List (Option Value)} {st : List Value} {a1 : Int32} {Ret : ZS → Prop} (hC : Cx C E cc nL "RightTurnsModel" nm ret hh d) (hdd : 1 + 1 ≤ d) (hd : decode cc pc = .ok (.invokevirtual 275, 3)) (hW : (st.map fun v => v.category).sum ≤ 8) (hV : wp_X4_laysTime σ a1 Ret) (k : ∀ σ', Ret σ' → zz C E NS nL σ' (pc + 3) L st) : zz C E NS nL σ pc L (.int a1 :: .ref (E.1.heap.size + 44) :: st) :=
  z_callVG hC cf3 cw_X4_laysTime hdd (by decide) (mz_X4_laysTime (cxE hC) hV) hd (k_44 σ) q1921 q1923 qs77 (np := 1) rfl rfl hW rfl (kV k)
theorem cw_X4_layFollows : CodeW yX4_layFollows (ws_ yX4_layFollows cX4_layFollows 3 none) 3 := ⟨fun w h => (List.mem_cons.mp h).elim (fun e => e ▸ q1972) id, Or.inl ⟨_, _, q1972⟩, q138, by decide, by decide⟩
theorem c_X4_278 {C : ZC} {E : ZE} {cc : ByteArray} {nL pc d : Nat} {nm : String} {ret : Option FieldType} {hh : List (Nat × Nat × Nat × Nat)} {σ : ZS} {L : List (Option Value)} {st : List Value} {Ret : ZS → Prop} (hC : Cx C E cc nL "RightTurnsModel" nm ret hh d) (hdd : 5 + 1 ≤ d) (hd : decode cc pc = .ok (.invokevirtual 278, 3)) (hW : (st.map fun v => v.category).sum ≤ 8) (hV : wp_X4_layFollows σ Ret) (k : ∀ σ', Ret σ' → zz C E NS nL σ' (pc + 3) L st) : zz C E NS nL σ pc L (.ref (E.1.heap.size + 44) :: st) :=
  z_callVG hC cf3 cw_X4_layFollows hdd (by decide) (mz_X4_layFollows (cxE hC) hV) hd (k_44 σ) q1969 q1971 qs84 (np := 0) rfl rfl hW rfl (kV k)
def wp_X4_asks (σ : ZS) (a1 : Int32) (Ret : ZS → Prop) : Prop :=
    wp_X4_laysTime σ a1 (fun σ2 => wp_X4_layFollows σ2 (fun σ4 => Ret σ4))
set_option maxHeartbeats 4000000 in
theorem mz_X4_asks {l : Launch} {E : ZE} (hE : EOK E) {σ : ZS} {a1 : Int32} {Ret : ZS → Prop} (hV : wp_X4_asks σ a1 Ret) : MZ l E NS yX4_asks (ws_ yX4_asks cX4_asks 2 none) 6 σ [.ref (E.1.heap.size + 44), .int a1] (rV Ret) := by
  refine MZ.start (L := [some (.ref (E.1.heap.size + 44)), some (.int a1)]) hE (by decide) (Nat.le_of_ble_eq_true rfl) rfl fun C hCl hQo hC => ?_
  replace hC : Cx C E cX4_asks 2 "RightTurnsModel" "asks" none [] 6 := hC
  unfold wp_X4_asks at hV
  refine z_aload_n hC dX4_asks_0 rfl rfl ?_
  refine z_iload_n hC dX4_asks_1 rfl rfl ?_
  refine c_X4_275 hC (by decide) dX4_asks_2 (Nat.le_of_ble_eq_true rfl) hV (fun σ2 hV => ?_)
  refine z_aload_n hC dX4_asks_5 rfl rfl ?_
  refine c_X4_278 hC (by decide) dX4_asks_6 (Nat.le_of_ble_eq_true rfl) hV (fun σ4 hV => ?_)
  exact z_vret hC dX4_asks_9 (by rw [hQo]; exact ⟨rfl, hV⟩)
def wp_X4_isTime (σ : ZS) (a1 : Int32) (Ret : Int32 → ZS → Prop) : Prop :=
    wp_X4_in σ a1 0 (zI σ 44 19) (fun r1 σ2 => isB r1 ∧ (Ret r1 σ2))
set_option maxHeartbeats 4000000 in
theorem mz_X4_isTime {l : Launch} {E : ZE} (hE : EOK E) {σ : ZS} {a1 : Int32} {Ret : Int32 → ZS → Prop} (hV : wp_X4_isTime σ a1 Ret) : MZ l E NS yX4_isTime (ws_ yX4_isTime cX4_isTime 2 (some .boolean)) 2 σ [.ref (E.1.heap.size + 44), .int a1] (rI Ret) := by
  refine MZ.start (L := [some (.ref (E.1.heap.size + 44)), some (.int a1)]) hE (by decide) (Nat.le_of_ble_eq_true rfl) rfl fun C hCl hQo hC => ?_
  replace hC : Cx C E cX4_isTime 2 "RightTurnsModel" "isTime" (some .boolean) [] 2 := hC
  unfold wp_X4_isTime at hV
  refine z_iload_n hC dX4_isTime_0 rfl rfl ?_
  refine z_iconst (v := 0) hC dX4_isTime_1 rfl ?_
  refine z_aload_n hC dX4_isTime_2 rfl rfl ?_
  refine g_X4_238_44 hC dX4_isTime_3 ?_
  refine c_X4_165 hC (by decide) dX4_isTime_6 (Nat.le_of_ble_eq_true rfl) hV (fun r1 σ2 hV => ?_)
  obtain ⟨h3, hV⟩ := hV
  exact z_iret hC dX4_isTime_9 h3 (by rw [hQo]; exact ⟨_, rfl, hV⟩)
theorem cw_X4_isTime : CodeW yX4_isTime (ws_ yX4_isTime cX4_isTime 2 (some .boolean)) 2 := ⟨fun w h => (List.mem_cons.mp h).elim (fun e => e ▸ q1920) id, Or.inl ⟨_, _, q1920⟩, q138, by decide, by decide⟩
theorem c_X4_281 {C : ZC} {E : ZE} {cc : ByteArray} {nL pc d : Nat} {nm : String} {ret : Option FieldType} {hh : List (Nat × Nat × Nat × Nat)} {σ : ZS} {L : List (Option Value)} {st : List Value} {a1 : Int32} {Ret : Int32 → ZS → Prop} (hC : Cx C E cc nL "RightTurnsModel" nm ret hh d) (hdd : 2 + 1 ≤ d) (hd : decode cc pc = .ok (.invokevirtual 281, 3)) (hW : (st.map fun v => v.category).sum ≤ 8) (hV : wp_X4_isTime σ a1 Ret) (k : ∀ r σ', Ret r σ' → zz C E NS nL σ' (pc + 3) L (.int r :: st)) : zz C E NS nL σ pc L (.int a1 :: .ref (E.1.heap.size + 44) :: st) :=
  z_callVG hC cf3 cw_X4_isTime hdd (by decide) (mz_X4_isTime (cxE hC) hV) hd (k_44 σ) q1917 q1919 qs76 (np := 1) rfl rfl hW rfl (kI k)
def VL_X4_back_47 (Ret : Int32 → ZS → Prop) : Nat → ZS → Int32 → Int32 → Prop
  | 0 => fun _ _ _ => False
  | k + 1 => fun σ x1 x2 =>
    let K47 := VL_X4_back_47 Ret k
    ((x2 < 24 → (vp_in (zI σ 44 19) 201 ∧ (vp_in x1 201 ∧ (vp_in x2 24 ∧ (vp_in x2 24 ∧ (∀ σ12 : ZS, σ12 = sI σ (160 + 1 + ix (zI σ 44 19)) (ix x2) (zI σ (160 + 1 + ix x1) (ix x2)) → (vp_in (zI σ12 44 19) 201 ∧ (vp_in x1 201 ∧ (vp_in x2 24 ∧ (vp_in x2 24 ∧ (∀ σ17 : ZS, σ17 = sI σ12 (362 + 1 + ix (zI σ12 44 19)) (ix x2) (zI σ12 (362 + 1 + ix x1) (ix x2)) → (∀ y18 : Int32, y18 = x2 + 1 → (K47 σ17 x1 y18))))))))))))) ∧ (¬ x2 < 24 → (Ret (zI σ 44 19) σ)))
def V_X4_back_47 (Ret : Int32 → ZS → Prop) (σ : ZS) (x1 : Int32) (x2 : Int32) : Prop := ∃ k, VL_X4_back_47 Ret k σ x1 x2
def V_X4_back_19 (Ret : Int32 → ZS → Prop) (σ : ZS) (x1 : Int32) (s0 : Int32) : Prop :=
    wp_X4_bad σ s0 1 (fun r4 σ5 => ((r4 = 0 → ((((zI σ5 44 19) = 200 → (Ret (-1) σ5)) ∧ (¬ (zI σ5 44 19) = 200 → (wp_X4_changes σ5 (fun r6 σ7 => V_X4_back_47 Ret σ7 x1 0)))))) ∧ (¬ r4 = 0 → (Ret 0 σ5))))
def wp_X4_back (σ : ZS) (a1 : Int32) (Ret : Int32 → ZS → Prop) : Prop :=
    ∀ σ1 : ZS, σ1 = sI σ 44 0 0 → (wp_X4_isTime σ1 a1 (fun r2 σ3 => ((r2 = 0 → (V_X4_back_19 Ret σ3 a1 1)) ∧ (¬ r2 = 0 → (V_X4_back_19 Ret σ3 a1 0)))))
set_option maxHeartbeats 4000000 in
theorem mz_X4_back {l : Launch} {E : ZE} (hE : EOK E) {σ : ZS} {a1 : Int32} {Ret : Int32 → ZS → Prop} (hV : wp_X4_back σ a1 Ret) : MZ l E NS yX4_back (ws_ yX4_back cX4_back 3 (some .int)) 3 σ [.ref (E.1.heap.size + 44), .int a1] (rI Ret) := by
  refine MZ.start (L := [some (.ref (E.1.heap.size + 44)), some (.int a1), none]) hE (by decide) (Nat.le_of_ble_eq_true rfl) rfl fun C hCl hQo hC => ?_
  replace hC : Cx C E cX4_back 3 "RightTurnsModel" "back" (some .int) [] 3 := hC
  unfold wp_X4_back at hV
  have j_47 : ∀ (σ : ZS) (x1 : Int32) (x2 : Int32), V_X4_back_47 Ret σ x1 x2 → zz C E NS 3 σ 47 [some (.ref (E.1.heap.size + 44)), some (.int x1), some (.int x2)] [] := by
    intro σ x1 x2 ⟨k, hV⟩
    revert σ x1 x2
    induction k with
    | zero => exact fun _ _ _ hV => hV.elim
    | succ k j_47 =>
      intro σ x1 x2 hV
      simp only [VL_X4_back_47] at hV
      generalize hKe47 : VL_X4_back_47 Ret k = K47 at hV j_47
      clear hKe47
      refine z_iload_n hC dX4_back_47 rfl rfl ?_
      refine z_bipush (v := 24) hC dX4_back_48 rfl ?_
      refine z_icmp_ge (tgt := 97) hC dX4_back_50 (by decide) (fun hc => ?_) (fun hc => ?_)
      · replace hV := hV.2 hc
        refine z_aload_n hC dX4_back_97 rfl rfl ?_
        refine g_X4_238_44 hC dX4_back_98 ?_
        exact z_iret hC dX4_back_101 rfl (by rw [hQo]; exact ⟨_, rfl, hV⟩)
      · replace hV := hV.1 hc
        refine z_aload_n hC dX4_back_53 rfl rfl ?_
        refine g_X4_49_44 hC dX4_back_54 ?_
        refine z_aload_n hC dX4_back_57 rfl rfl ?_
        refine g_X4_238_44 hC dX4_back_58 ?_
        obtain ⟨h8, hV⟩ := hV
        refine z_aalS hC dX4_back_61 (k_160 _) (by decide) ps_160 h8 ?_
        refine z_iload_n hC dX4_back_62 rfl rfl ?_
        refine z_aload_n hC dX4_back_63 rfl rfl ?_
        refine g_X4_49_44 hC dX4_back_64 ?_
        refine z_iload_n hC dX4_back_67 rfl rfl ?_
        obtain ⟨h9, hV⟩ := hV
        refine z_aalS hC dX4_back_68 (k_160 _) (by decide) ps_160 h9 ?_
        refine z_iload_n hC dX4_back_69 rfl rfl ?_
        obtain ⟨h10, hV⟩ := hV
        refine z_iald hC dX4_back_70 (kr_160 _ (ix_lt h9)) (h10) ?_
        obtain ⟨h11, hV⟩ := hV
        refine z_iast hC dX4_back_71 (kr_160 _ (ix_lt h8)) (h11) ?_
        obtain ⟨σ12, e_σ12⟩ : ∃ z : ZS, z = sI σ (160 + 1 + ix (zI σ 44 19)) (ix x2) (zI σ (160 + 1 + ix x1) (ix x2)) := ⟨_, rfl⟩
        replace hV := hV _ e_σ12
        rw [← e_σ12]
        refine z_aload_n hC dX4_back_72 rfl rfl ?_
        refine g_X4_52_44 hC dX4_back_73 ?_
        refine z_aload_n hC dX4_back_76 rfl rfl ?_
        refine g_X4_238_44 hC dX4_back_77 ?_
        obtain ⟨h13, hV⟩ := hV
        refine z_aalS hC dX4_back_80 (k_362 _) (by decide) ps_362 h13 ?_
        refine z_iload_n hC dX4_back_81 rfl rfl ?_
        refine z_aload_n hC dX4_back_82 rfl rfl ?_
        refine g_X4_52_44 hC dX4_back_83 ?_
        refine z_iload_n hC dX4_back_86 rfl rfl ?_
        obtain ⟨h14, hV⟩ := hV
        refine z_aalS hC dX4_back_87 (k_362 _) (by decide) ps_362 h14 ?_
        refine z_iload_n hC dX4_back_88 rfl rfl ?_
        obtain ⟨h15, hV⟩ := hV
        refine z_iald hC dX4_back_89 (kr_362 _ (ix_lt h14)) (h15) ?_
        obtain ⟨h16, hV⟩ := hV
        refine z_iast hC dX4_back_90 (kr_362 _ (ix_lt h13)) (h16) ?_
        obtain ⟨σ17, e_σ17⟩ : ∃ z : ZS, z = sI σ12 (362 + 1 + ix (zI σ12 44 19)) (ix x2) (zI σ12 (362 + 1 + ix x1) (ix x2)) := ⟨_, rfl⟩
        replace hV := hV _ e_σ17
        rw [← e_σ17]
        obtain ⟨y18, e_y18⟩ : ∃ z : Int32, z = x2 + 1 := ⟨_, rfl⟩
        replace hV := hV _ e_y18
        refine z_iinc (v := y18) hC dX4_back_91 rfl (by rw [e_y18]; rfl) (Nat.le_of_ble_eq_true rfl) rfl rfl ?_
        refine z_goto (tgt := 47) hC dX4_back_94 (by decide) ?_
        refine zz_sub (L' := [some (.ref (E.1.heap.size + 44)), some (.int x1), some (.int y18)]) ⟨rfl, rfl, rfl, trivial⟩ ?_
        exact j_47 σ17 x1 y18 hV
  have j_19 : ∀ (σ : ZS) (x1 : Int32) (s0 : Int32), V_X4_back_19 Ret σ x1 s0 → zz C E NS 3 σ 19 [some (.ref (E.1.heap.size + 44)), some (.int x1), none] [.int s0, .ref (E.1.heap.size + 44)] := by
    intro σ x1 s0 hV
    unfold V_X4_back_19 at hV
    refine z_iconst (v := 1) hC dX4_back_19 rfl ?_
    refine c_X4_227 hC (by decide) dX4_back_20 (Nat.le_of_ble_eq_true rfl) hV (fun r4 σ5 hV => ?_)
    refine z_if_eq (tgt := 28) hC dX4_back_23 (by decide) (fun hc => ?_) (fun hc => ?_)
    · replace hV := hV.1 hc
      refine z_aload_n hC dX4_back_28 rfl rfl ?_
      refine g_X4_238_44 hC dX4_back_29 ?_
      refine z_sipush (v := 200) hC dX4_back_32 rfl ?_
      refine z_icmp_ne (tgt := 40) hC dX4_back_35 (by decide) (fun hc => ?_) (fun hc => ?_)
      · replace hV := hV.2 hc
        refine z_aload_n hC dX4_back_40 rfl rfl ?_
        refine c_X4_287 hC (by decide) dX4_back_41 (Nat.le_of_ble_eq_true rfl) hV (fun r6 σ7 hV => ?_)
        refine z_pop hC dX4_back_44 rfl ?_
        refine z_iconst (v := 0) hC dX4_back_45 rfl ?_
        refine z_istore_n hC dX4_back_46 rfl (Nat.le_of_ble_eq_true rfl) rfl rfl ?_
        refine zz_sub (L' := [some (.ref (E.1.heap.size + 44)), some (.int x1), some (.int 0)]) ⟨rfl, rfl, rfl, trivial⟩ ?_
        exact j_47 σ7 x1 0 hV
      · replace hV := hV.1 hc
        refine z_iconst (v := (-1)) hC dX4_back_38 rfl ?_
        exact z_iret hC dX4_back_39 rfl (by rw [hQo]; exact ⟨_, rfl, hV⟩)
    · replace hV := hV.2 hc
      refine z_iconst (v := 0) hC dX4_back_26 rfl ?_
      exact z_iret hC dX4_back_27 rfl (by rw [hQo]; exact ⟨_, rfl, hV⟩)
  refine z_aload_n hC dX4_back_0 rfl rfl ?_
  refine z_iconst (v := 0) hC dX4_back_1 rfl ?_
  refine p_X4_131_c3 hC dX4_back_2 (k_44 _) ?_
  obtain ⟨σ1, e_σ1⟩ : ∃ z : ZS, z = sI σ 44 0 0 := ⟨_, rfl⟩
  replace hV := hV _ e_σ1
  rw [← e_σ1]
  refine z_aload_n hC dX4_back_5 rfl rfl ?_
  refine z_aload_n hC dX4_back_6 rfl rfl ?_
  refine z_iload_n hC dX4_back_7 rfl rfl ?_
  refine c_X4_281 hC (by decide) dX4_back_8 (Nat.le_of_ble_eq_true rfl) hV (fun r2 σ3 hV => ?_)
  refine z_if_ne (tgt := 18) hC dX4_back_11 (by decide) (fun hc => ?_) (fun hc => ?_)
  · replace hV := hV.2 hc
    refine z_iconst (v := 0) hC dX4_back_18 rfl ?_
    refine zz_sub (L' := [some (.ref (E.1.heap.size + 44)), some (.int a1), none]) ⟨rfl, rfl, trivial⟩ ?_
    exact j_19 σ3 a1 0 hV
  · replace hV := hV.1 hc
    refine z_iconst (v := 1) hC dX4_back_14 rfl ?_
    refine z_goto (tgt := 19) hC dX4_back_15 (by decide) ?_
    refine zz_sub (L' := [some (.ref (E.1.heap.size + 44)), some (.int a1), none]) ⟨rfl, rfl, trivial⟩ ?_
    exact j_19 σ3 a1 1 hV
theorem g_X4_68_44 {C : ZC} {E : ZE} {cc : ByteArray} {nL pc d : Nat} {nm : String} {ret : Option FieldType} {hh : List (Nat × Nat × Nat × Nat)} {σ : ZS} {L : List (Option Value)} {st : List Value} (hC : Cx C E cc nL "RightTurnsModel" nm ret hh d) (hd : decode cc pc = .ok (.getfield 68, 3)) (k : zz C E NS nL σ (pc + 3) L (.ref (E.1.heap.size + 568) :: st)) : zz C E NS nL σ pc L (.ref (E.1.heap.size + 44) :: st) :=
  z_get hC cf3 hd (k_44 σ) (k := 26) (by decide) (Or.inl q1611) (Or.inl rfl) rfl k
def VL_X4_firstArc_4 (Ret : Int32 → ZS → Prop) : Nat → ZS → Int32 → Int32 → Int32 → Prop
  | 0 => fun _ _ _ _ => False
  | k + 1 => fun σ x1 x2 x3 =>
    let K4 := VL_X4_firstArc_4 Ret k
    ((x3 < (2 * (zI σ 47 (ix 1))) → (wp_X4_isArc σ x3 (fun r1 σ2 => ((r1 = 0 → (∀ y3 : Int32, y3 = x3 + 1 → (K4 σ2 x1 x2 y3))) ∧ (¬ r1 = 0 → (wp_X4_beginOf σ2 x3 (fun r4 σ5 => ((r4 = x1 → (vp_in x3 48 ∧ ((((zI σ5 568 (ix x3)) < 1000000000 → (((x2 = (-1) → (∀ y9 : Int32, y9 = x3 + 1 → (K4 σ5 x1 x3 y9))) ∧ (¬ x2 = (-1) → (vp_in x3 48 ∧ (vp_in x2 48 ∧ ((((zI σ5 568 (ix x3)) < (zI σ5 568 (ix x2)) → (∀ y13 : Int32, y13 = x3 + 1 → (K4 σ5 x1 x3 y13))) ∧ (¬ (zI σ5 568 (ix x3)) < (zI σ5 568 (ix x2)) → (∀ y12 : Int32, y12 = x3 + 1 → (K4 σ5 x1 x2 y12))))))))))) ∧ (¬ (zI σ5 568 (ix x3)) < 1000000000 → (∀ y8 : Int32, y8 = x3 + 1 → (K4 σ5 x1 x2 y8))))))) ∧ (¬ r4 = x1 → (∀ y6 : Int32, y6 = x3 + 1 → (K4 σ5 x1 x2 y6))))))))))) ∧ (¬ x3 < (2 * (zI σ 47 (ix 1))) → (Ret x2 σ)))
def V_X4_firstArc_4 (Ret : Int32 → ZS → Prop) (σ : ZS) (x1 : Int32) (x2 : Int32) (x3 : Int32) : Prop := ∃ k, VL_X4_firstArc_4 Ret k σ x1 x2 x3
def wp_X4_firstArc (σ : ZS) (a1 : Int32) (Ret : Int32 → ZS → Prop) : Prop :=
    V_X4_firstArc_4 Ret σ a1 (-1) 0
set_option maxHeartbeats 4000000 in
theorem mz_X4_firstArc {l : Launch} {E : ZE} (hE : EOK E) {σ : ZS} {a1 : Int32} {Ret : Int32 → ZS → Prop} (hV : wp_X4_firstArc σ a1 Ret) : MZ l E NS yX4_firstArc (ws_ yX4_firstArc cX4_firstArc 4 (some .int)) 3 σ [.ref (E.1.heap.size + 44), .int a1] (rI Ret) := by
  refine MZ.start (L := [some (.ref (E.1.heap.size + 44)), some (.int a1), none, none]) hE (by decide) (Nat.le_of_ble_eq_true rfl) rfl fun C hCl hQo hC => ?_
  replace hC : Cx C E cX4_firstArc 4 "RightTurnsModel" "firstArc" (some .int) [] 3 := hC
  unfold wp_X4_firstArc at hV
  have j_4 : ∀ (σ : ZS) (x1 : Int32) (x2 : Int32) (x3 : Int32), V_X4_firstArc_4 Ret σ x1 x2 x3 → zz C E NS 4 σ 4 [some (.ref (E.1.heap.size + 44)), some (.int x1), some (.int x2), some (.int x3)] [] := by
    intro σ x1 x2 x3 ⟨k, hV⟩
    revert σ x1 x2 x3
    induction k with
    | zero => exact fun _ _ _ _ hV => hV.elim
    | succ k j_4 =>
      intro σ x1 x2 x3 hV
      simp only [VL_X4_firstArc_4] at hV
      generalize hKe4 : VL_X4_firstArc_4 Ret k = K4 at hV j_4
      clear hKe4
      refine z_iload_n hC dX4_firstArc_4 rfl rfl ?_
      refine z_iconst (v := 2) hC dX4_firstArc_5 rfl ?_
      refine z_aload_n hC dX4_firstArc_6 rfl rfl ?_
      refine g_X4_20_44 hC dX4_firstArc_7 ?_
      refine z_iconst (v := 1) hC dX4_firstArc_10 rfl ?_
      refine z_iald hC dX4_firstArc_11 (k_47 _) (in_dec rfl) ?_
      refine z_imul hC dX4_firstArc_12 ?_
      refine z_icmp_ge (tgt := 73) hC dX4_firstArc_13 (by decide) (fun hc => ?_) (fun hc => ?_)
      · replace hV := hV.2 hc
        refine z_iload_n hC dX4_firstArc_73 rfl rfl ?_
        exact z_iret hC dX4_firstArc_74 rfl (by rw [hQo]; exact ⟨_, rfl, hV⟩)
      · replace hV := hV.1 hc
        refine z_aload_n hC dX4_firstArc_16 rfl rfl ?_
        refine z_iload_n hC dX4_firstArc_17 rfl rfl ?_
        refine c_X4_262 hC (by decide) dX4_firstArc_18 (Nat.le_of_ble_eq_true rfl) hV (fun r1 σ2 hV => ?_)
        refine z_if_eq (tgt := 67) hC dX4_firstArc_21 (by decide) (fun hc => ?_) (fun hc => ?_)
        · replace hV := hV.1 hc
          obtain ⟨y3, e_y3⟩ : ∃ z : Int32, z = x3 + 1 := ⟨_, rfl⟩
          replace hV := hV _ e_y3
          refine z_iinc (v := y3) hC dX4_firstArc_67 rfl (by rw [e_y3]; rfl) (Nat.le_of_ble_eq_true rfl) rfl rfl ?_
          refine z_goto (tgt := 4) hC dX4_firstArc_70 (by decide) ?_
          refine zz_sub (L' := [some (.ref (E.1.heap.size + 44)), some (.int x1), some (.int x2), some (.int y3)]) ⟨rfl, rfl, rfl, rfl, trivial⟩ ?_
          exact j_4 σ2 x1 x2 y3 hV
        · replace hV := hV.2 hc
          refine z_aload_n hC dX4_firstArc_24 rfl rfl ?_
          refine z_iload_n hC dX4_firstArc_25 rfl rfl ?_
          refine c_X4_253 hC (by decide) dX4_firstArc_26 (Nat.le_of_ble_eq_true rfl) hV (fun r4 σ5 hV => ?_)
          refine z_iload_n hC dX4_firstArc_29 rfl rfl ?_
          refine z_icmp_ne (tgt := 67) hC dX4_firstArc_30 (by decide) (fun hc => ?_) (fun hc => ?_)
          · replace hV := hV.2 hc
            obtain ⟨y6, e_y6⟩ : ∃ z : Int32, z = x3 + 1 := ⟨_, rfl⟩
            replace hV := hV _ e_y6
            refine z_iinc (v := y6) hC dX4_firstArc_67 rfl (by rw [e_y6]; rfl) (Nat.le_of_ble_eq_true rfl) rfl rfl ?_
            refine z_goto (tgt := 4) hC dX4_firstArc_70 (by decide) ?_
            refine zz_sub (L' := [some (.ref (E.1.heap.size + 44)), some (.int x1), some (.int x2), some (.int y6)]) ⟨rfl, rfl, rfl, rfl, trivial⟩ ?_
            exact j_4 σ5 x1 x2 y6 hV
          · replace hV := hV.1 hc
            refine z_aload_n hC dX4_firstArc_33 rfl rfl ?_
            refine g_X4_68_44 hC dX4_firstArc_34 ?_
            refine z_iload_n hC dX4_firstArc_37 rfl rfl ?_
            obtain ⟨h7, hV⟩ := hV
            refine z_iald hC dX4_firstArc_38 (k_568 _) (h7) ?_
            refine z_ldcw hC dX4_firstArc_39 q1981 ?_
            refine z_icmp_ge (tgt := 67) hC dX4_firstArc_42 (by decide) (fun hc => ?_) (fun hc => ?_)
            · replace hV := hV.2 hc
              obtain ⟨y8, e_y8⟩ : ∃ z : Int32, z = x3 + 1 := ⟨_, rfl⟩
              replace hV := hV _ e_y8
              refine z_iinc (v := y8) hC dX4_firstArc_67 rfl (by rw [e_y8]; rfl) (Nat.le_of_ble_eq_true rfl) rfl rfl ?_
              refine z_goto (tgt := 4) hC dX4_firstArc_70 (by decide) ?_
              refine zz_sub (L' := [some (.ref (E.1.heap.size + 44)), some (.int x1), some (.int x2), some (.int y8)]) ⟨rfl, rfl, rfl, rfl, trivial⟩ ?_
              exact j_4 σ5 x1 x2 y8 hV
            · replace hV := hV.1 hc
              refine z_iload_n hC dX4_firstArc_45 rfl rfl ?_
              refine z_iconst (v := (-1)) hC dX4_firstArc_46 rfl ?_
              refine z_icmp_eq (tgt := 65) hC dX4_firstArc_47 (by decide) (fun hc => ?_) (fun hc => ?_)
              · replace hV := hV.1 hc
                refine z_iload_n hC dX4_firstArc_65 rfl rfl ?_
                refine z_istore_n hC dX4_firstArc_66 rfl (Nat.le_of_ble_eq_true rfl) rfl rfl ?_
                obtain ⟨y9, e_y9⟩ : ∃ z : Int32, z = x3 + 1 := ⟨_, rfl⟩
                replace hV := hV _ e_y9
                refine z_iinc (v := y9) hC dX4_firstArc_67 rfl (by rw [e_y9]; rfl) (Nat.le_of_ble_eq_true rfl) rfl rfl ?_
                refine z_goto (tgt := 4) hC dX4_firstArc_70 (by decide) ?_
                refine zz_sub (L' := [some (.ref (E.1.heap.size + 44)), some (.int x1), some (.int x3), some (.int y9)]) ⟨rfl, rfl, rfl, rfl, trivial⟩ ?_
                exact j_4 σ5 x1 x3 y9 hV
              · replace hV := hV.2 hc
                refine z_aload_n hC dX4_firstArc_50 rfl rfl ?_
                refine g_X4_68_44 hC dX4_firstArc_51 ?_
                refine z_iload_n hC dX4_firstArc_54 rfl rfl ?_
                obtain ⟨h10, hV⟩ := hV
                refine z_iald hC dX4_firstArc_55 (k_568 _) (h10) ?_
                refine z_aload_n hC dX4_firstArc_56 rfl rfl ?_
                refine g_X4_68_44 hC dX4_firstArc_57 ?_
                refine z_iload_n hC dX4_firstArc_60 rfl rfl ?_
                obtain ⟨h11, hV⟩ := hV
                refine z_iald hC dX4_firstArc_61 (k_568 _) (h11) ?_
                refine z_icmp_ge (tgt := 67) hC dX4_firstArc_62 (by decide) (fun hc => ?_) (fun hc => ?_)
                · replace hV := hV.2 hc
                  obtain ⟨y12, e_y12⟩ : ∃ z : Int32, z = x3 + 1 := ⟨_, rfl⟩
                  replace hV := hV _ e_y12
                  refine z_iinc (v := y12) hC dX4_firstArc_67 rfl (by rw [e_y12]; rfl) (Nat.le_of_ble_eq_true rfl) rfl rfl ?_
                  refine z_goto (tgt := 4) hC dX4_firstArc_70 (by decide) ?_
                  refine zz_sub (L' := [some (.ref (E.1.heap.size + 44)), some (.int x1), some (.int x2), some (.int y12)]) ⟨rfl, rfl, rfl, rfl, trivial⟩ ?_
                  exact j_4 σ5 x1 x2 y12 hV
                · replace hV := hV.1 hc
                  refine z_iload_n hC dX4_firstArc_65 rfl rfl ?_
                  refine z_istore_n hC dX4_firstArc_66 rfl (Nat.le_of_ble_eq_true rfl) rfl rfl ?_
                  obtain ⟨y13, e_y13⟩ : ∃ z : Int32, z = x3 + 1 := ⟨_, rfl⟩
                  replace hV := hV _ e_y13
                  refine z_iinc (v := y13) hC dX4_firstArc_67 rfl (by rw [e_y13]; rfl) (Nat.le_of_ble_eq_true rfl) rfl rfl ?_
                  refine z_goto (tgt := 4) hC dX4_firstArc_70 (by decide) ?_
                  refine zz_sub (L' := [some (.ref (E.1.heap.size + 44)), some (.int x1), some (.int x3), some (.int y13)]) ⟨rfl, rfl, rfl, rfl, trivial⟩ ?_
                  exact j_4 σ5 x1 x3 y13 hV
  refine z_iconst (v := (-1)) hC dX4_firstArc_0 rfl ?_
  refine z_istore_n hC dX4_firstArc_1 rfl (Nat.le_of_ble_eq_true rfl) rfl rfl ?_
  refine z_iconst (v := 0) hC dX4_firstArc_2 rfl ?_
  refine z_istore_n hC dX4_firstArc_3 rfl (Nat.le_of_ble_eq_true rfl) rfl rfl ?_
  refine zz_sub (L' := [some (.ref (E.1.heap.size + 44)), some (.int a1), some (.int (-1)), some (.int 0)]) ⟨rfl, rfl, rfl, rfl, trivial⟩ ?_
  exact j_4 σ a1 (-1) 0 hV
def wp_X4_isAfter (σ : ZS) (a1 : Int32) (a2 : Int32) (Ret : Int32 → ZS → Prop) : Prop :=
    vp_in a1 48 ∧ ((((lg_cmp ((((zJ σ 566 (ix a1)).toUInt64 >>> (a2.toInt64.toUInt64 &&& Int64.toUInt64 63)).toInt64) &&& 1) 1) = 0 → (Ret 1 σ)) ∧ (¬ (lg_cmp ((((zJ σ 566 (ix a1)).toUInt64 >>> (a2.toInt64.toUInt64 &&& Int64.toUInt64 63)).toInt64) &&& 1) 1) = 0 → (Ret 0 σ))))
set_option maxHeartbeats 4000000 in
theorem mz_X4_isAfter {l : Launch} {E : ZE} (hE : EOK E) {σ : ZS} {a1 : Int32} {a2 : Int32} {Ret : Int32 → ZS → Prop} (hV : wp_X4_isAfter σ a1 a2 Ret) : MZ l E NS yX4_isAfter (ws_ yX4_isAfter cX4_isAfter 3 (some .boolean)) 1 σ [.ref (E.1.heap.size + 44), .int a1, .int a2] (rI Ret) := by
  refine MZ.start (L := [some (.ref (E.1.heap.size + 44)), some (.int a1), some (.int a2)]) hE (by decide) (Nat.le_of_ble_eq_true rfl) rfl fun C hCl hQo hC => ?_
  replace hC : Cx C E cX4_isAfter 3 "RightTurnsModel" "isAfter" (some .boolean) [] 1 := hC
  unfold wp_X4_isAfter at hV
  refine z_aload_n hC dX4_isAfter_0 rfl rfl ?_
  refine g_X4_61_44 hC dX4_isAfter_1 ?_
  refine z_iload_n hC dX4_isAfter_4 rfl rfl ?_
  obtain ⟨h1, hV⟩ := hV
  refine z_lald hC dX4_isAfter_5 (k_566 _) (h1) ?_
  refine z_iload_n hC dX4_isAfter_6 rfl rfl ?_
  refine z_lushr hC dX4_isAfter_7 ?_
  refine z_lconst (v := 1) hC dX4_isAfter_8 rfl ?_
  refine z_land hC dX4_isAfter_9 ?_
  refine z_lconst (v := 1) hC dX4_isAfter_10 rfl ?_
  refine z_lcmp hC dX4_isAfter_11 ?_
  refine z_if_ne (tgt := 19) hC dX4_isAfter_12 (by decide) (fun hc => ?_) (fun hc => ?_)
  · replace hV := hV.2 hc
    refine z_iconst (v := 0) hC dX4_isAfter_19 rfl ?_
    exact z_iret hC dX4_isAfter_20 rfl (by rw [hQo]; exact ⟨_, rfl, hV⟩)
  · replace hV := hV.1 hc
    refine z_iconst (v := 1) hC dX4_isAfter_15 rfl ?_
    refine z_goto (tgt := 20) hC dX4_isAfter_16 (by decide) ?_
    exact z_iret hC dX4_isAfter_20 rfl (by rw [hQo]; exact ⟨_, rfl, hV⟩)
def wp_X4_longOf (σ : ZS) (a1 : Int32) (Ret : Int32 → ZS → Prop) : Prop :=
    vp_in (a1 / 2) 24 ∧ (Ret (zI σ (107 + 1 + ix (a1 / 2)) (ix 2)) σ)
set_option maxHeartbeats 4000000 in
theorem mz_X4_longOf {l : Launch} {E : ZE} (hE : EOK E) {σ : ZS} {a1 : Int32} {Ret : Int32 → ZS → Prop} (hV : wp_X4_longOf σ a1 Ret) : MZ l E NS yX4_longOf (ws_ yX4_longOf cX4_longOf 2 (some .int)) 1 σ [.ref (E.1.heap.size + 44), .int a1] (rI Ret) := by
  refine MZ.start (L := [some (.ref (E.1.heap.size + 44)), some (.int a1)]) hE (by decide) (Nat.le_of_ble_eq_true rfl) rfl fun C hCl hQo hC => ?_
  replace hC : Cx C E cX4_longOf 2 "RightTurnsModel" "longOf" (some .int) [] 1 := hC
  unfold wp_X4_longOf at hV
  refine z_aload_n hC dX4_longOf_0 rfl rfl ?_
  refine g_X4_34_44 hC dX4_longOf_1 ?_
  refine z_iload_n hC dX4_longOf_4 rfl rfl ?_
  refine z_iconst (v := 2) hC dX4_longOf_5 rfl ?_
  refine z_idiv hC dX4_longOf_6 (by decide) ?_
  obtain ⟨h1, hV⟩ := hV
  refine z_aalS hC dX4_longOf_7 (k_107 _) (by decide) ps_107 h1 ?_
  refine z_iconst (v := 2) hC dX4_longOf_8 rfl ?_
  refine z_iald hC dX4_longOf_9 (kr_107 _ (ix_lt h1)) (in_dec rfl) ?_
  exact z_iret hC dX4_longOf_10 rfl (by rw [hQo]; exact ⟨_, rfl, hV⟩)
theorem cw_X4_longOf : CodeW yX4_longOf (ws_ yX4_longOf cX4_longOf 2 (some .int)) 2 := ⟨fun w h => (List.mem_cons.mp h).elim (fun e => e ▸ q1985) id, Or.inl ⟨_, _, q1985⟩, q138, by decide, by decide⟩
theorem c_X4_295 {C : ZC} {E : ZE} {cc : ByteArray} {nL pc d : Nat} {nm : String} {ret : Option FieldType} {hh : List (Nat × Nat × Nat × Nat)} {σ : ZS} {L : List (Option Value)} {st : List Value} {a1 : Int32} {Ret : Int32 → ZS → Prop} (hC : Cx C E cc nL "RightTurnsModel" nm ret hh d) (hdd : 1 + 1 ≤ d) (hd : decode cc pc = .ok (.invokevirtual 295, 3)) (hW : (st.map fun v => v.category).sum ≤ 8) (hV : wp_X4_longOf σ a1 Ret) (k : ∀ r σ', Ret r σ' → zz C E NS nL σ' (pc + 3) L (.int r :: st)) : zz C E NS nL σ pc L (.int a1 :: .ref (E.1.heap.size + 44) :: st) :=
  z_callVG hC cf3 cw_X4_longOf hdd (by decide) (mz_X4_longOf (cxE hC) hV) hd (k_44 σ) q1982 q1984 qs87 (np := 1) rfl rfl hW rfl (kI k)
theorem cw_X4_isAfter : CodeW yX4_isAfter (ws_ yX4_isAfter cX4_isAfter 3 (some .boolean)) 3 := ⟨fun w h => (List.mem_cons.mp h).elim (fun e => e ▸ q1989) id, Or.inl ⟨_, _, q1989⟩, q138, by decide, by decide⟩
theorem c_X4_298 {C : ZC} {E : ZE} {cc : ByteArray} {nL pc d : Nat} {nm : String} {ret : Option FieldType} {hh : List (Nat × Nat × Nat × Nat)} {σ : ZS} {L : List (Option Value)} {st : List Value} {a1 : Int32} {a2 : Int32} {Ret : Int32 → ZS → Prop} (hC : Cx C E cc nL "RightTurnsModel" nm ret hh d) (hdd : 1 + 1 ≤ d) (hd : decode cc pc = .ok (.invokevirtual 298, 3)) (hW : (st.map fun v => v.category).sum ≤ 8) (hV : wp_X4_isAfter σ a1 a2 Ret) (k : ∀ r σ', Ret r σ' → zz C E NS nL σ' (pc + 3) L (.int r :: st)) : zz C E NS nL σ pc L (.int a2 :: .int a1 :: .ref (E.1.heap.size + 44) :: st) :=
  z_callVG hC cf3 cw_X4_isAfter hdd (by decide) (mz_X4_isAfter (cxE hC) hV) hd (k_44 σ) q1986 q1988 qs88 (np := 2) rfl rfl hW rfl (kI k)
def VL_X4_nextArc_13 (Ret : Int32 → ZS → Prop) : Nat → ZS → Int32 → Int32 → Prop
  | 0 => fun _ _ _ => False
  | k + 1 => fun σ x1 x3 =>
    let K13 := VL_X4_nextArc_13 Ret k
    wp_X4_isAfter σ x1 x3 (fun r3 σ4 => ((r3 = 0 → (∀ y5 : Int32, y5 = x3 + 1 → (K13 σ4 x1 y5))) ∧ (¬ r3 = 0 → (vp_in x3 48 ∧ (wp_X4_longOf σ4 x1 (fun r7 σ8 => vp_in x1 48 ∧ (((((zI σ4 568 (ix x3)) + r7) = (zI σ8 568 (ix x1)) → (Ret x3 σ8)) ∧ (¬ ((zI σ4 568 (ix x3)) + r7) = (zI σ8 568 (ix x1)) → (∀ y10 : Int32, y10 = x3 + 1 → (K13 σ8 x1 y10)))))))))))
def V_X4_nextArc_13 (Ret : Int32 → ZS → Prop) (σ : ZS) (x1 : Int32) (x3 : Int32) : Prop := ∃ k, VL_X4_nextArc_13 Ret k σ x1 x3
def wp_X4_nextArc (σ : ZS) (a1 : Int32) (a2 : Int32) (Ret : Int32 → ZS → Prop) : Prop :=
    wp_X4_endOf σ a1 (fun r1 σ2 => ((r1 = a2 → (Ret (-1) σ2)) ∧ (¬ r1 = a2 → (V_X4_nextArc_13 Ret σ2 a1 0))))
set_option maxHeartbeats 4000000 in
theorem mz_X4_nextArc {l : Launch} {E : ZE} (hE : EOK E) {σ : ZS} {a1 : Int32} {a2 : Int32} {Ret : Int32 → ZS → Prop} (hV : wp_X4_nextArc σ a1 a2 Ret) : MZ l E NS yX4_nextArc (ws_ yX4_nextArc cX4_nextArc 4 (some .int)) 2 σ [.ref (E.1.heap.size + 44), .int a1, .int a2] (rI Ret) := by
  refine MZ.start (L := [some (.ref (E.1.heap.size + 44)), some (.int a1), some (.int a2), none]) hE (by decide) (Nat.le_of_ble_eq_true rfl) rfl fun C hCl hQo hC => ?_
  replace hC : Cx C E cX4_nextArc 4 "RightTurnsModel" "nextArc" (some .int) [] 2 := hC
  unfold wp_X4_nextArc at hV
  have j_13 : ∀ (σ : ZS) (x1 : Int32) (x3 : Int32), V_X4_nextArc_13 Ret σ x1 x3 → zz C E NS 4 σ 13 [some (.ref (E.1.heap.size + 44)), some (.int x1), none, some (.int x3)] [] := by
    intro σ x1 x3 ⟨k, hV⟩
    revert σ x1 x3
    induction k with
    | zero => exact fun _ _ _ hV => hV.elim
    | succ k j_13 =>
      intro σ x1 x3 hV
      simp only [VL_X4_nextArc_13] at hV
      generalize hKe13 : VL_X4_nextArc_13 Ret k = K13 at hV j_13
      clear hKe13
      refine z_aload_n hC dX4_nextArc_13 rfl rfl ?_
      refine z_iload_n hC dX4_nextArc_14 rfl rfl ?_
      refine z_iload_n hC dX4_nextArc_15 rfl rfl ?_
      refine c_X4_298 hC (by decide) dX4_nextArc_16 (Nat.le_of_ble_eq_true rfl) hV (fun r3 σ4 hV => ?_)
      refine z_if_eq (tgt := 43) hC dX4_nextArc_19 (by decide) (fun hc => ?_) (fun hc => ?_)
      · replace hV := hV.1 hc
        obtain ⟨y5, e_y5⟩ : ∃ z : Int32, z = x3 + 1 := ⟨_, rfl⟩
        replace hV := hV _ e_y5
        refine z_iinc (v := y5) hC dX4_nextArc_43 rfl (by rw [e_y5]; rfl) (Nat.le_of_ble_eq_true rfl) rfl rfl ?_
        refine z_goto (tgt := 13) hC dX4_nextArc_46 (by decide) ?_
        refine zz_sub (L' := [some (.ref (E.1.heap.size + 44)), some (.int x1), none, some (.int y5)]) ⟨rfl, rfl, rfl, trivial⟩ ?_
        exact j_13 σ4 x1 y5 hV
      · replace hV := hV.2 hc
        refine z_aload_n hC dX4_nextArc_22 rfl rfl ?_
        refine g_X4_68_44 hC dX4_nextArc_23 ?_
        refine z_iload_n hC dX4_nextArc_26 rfl rfl ?_
        obtain ⟨h6, hV⟩ := hV
        refine z_iald hC dX4_nextArc_27 (k_568 _) (h6) ?_
        refine z_aload_n hC dX4_nextArc_28 rfl rfl ?_
        refine z_iload_n hC dX4_nextArc_29 rfl rfl ?_
        refine c_X4_295 hC (by decide) dX4_nextArc_30 (Nat.le_of_ble_eq_true rfl) hV (fun r7 σ8 hV => ?_)
        refine z_iadd hC dX4_nextArc_33 ?_
        refine z_aload_n hC dX4_nextArc_34 rfl rfl ?_
        refine g_X4_68_44 hC dX4_nextArc_35 ?_
        refine z_iload_n hC dX4_nextArc_38 rfl rfl ?_
        obtain ⟨h9, hV⟩ := hV
        refine z_iald hC dX4_nextArc_39 (k_568 _) (h9) ?_
        refine z_icmp_eq (tgt := 49) hC dX4_nextArc_40 (by decide) (fun hc => ?_) (fun hc => ?_)
        · replace hV := hV.1 hc
          refine z_iload_n hC dX4_nextArc_49 rfl rfl ?_
          exact z_iret hC dX4_nextArc_50 rfl (by rw [hQo]; exact ⟨_, rfl, hV⟩)
        · replace hV := hV.2 hc
          obtain ⟨y10, e_y10⟩ : ∃ z : Int32, z = x3 + 1 := ⟨_, rfl⟩
          replace hV := hV _ e_y10
          refine z_iinc (v := y10) hC dX4_nextArc_43 rfl (by rw [e_y10]; rfl) (Nat.le_of_ble_eq_true rfl) rfl rfl ?_
          refine z_goto (tgt := 13) hC dX4_nextArc_46 (by decide) ?_
          refine zz_sub (L' := [some (.ref (E.1.heap.size + 44)), some (.int x1), none, some (.int y10)]) ⟨rfl, rfl, rfl, trivial⟩ ?_
          exact j_13 σ8 x1 y10 hV
  refine z_aload_n hC dX4_nextArc_0 rfl rfl ?_
  refine z_iload_n hC dX4_nextArc_1 rfl rfl ?_
  refine c_X4_250 hC (by decide) dX4_nextArc_2 (Nat.le_of_ble_eq_true rfl) hV (fun r1 σ2 hV => ?_)
  refine z_iload_n hC dX4_nextArc_5 rfl rfl ?_
  refine z_icmp_ne (tgt := 11) hC dX4_nextArc_6 (by decide) (fun hc => ?_) (fun hc => ?_)
  · replace hV := hV.2 hc
    refine z_iconst (v := 0) hC dX4_nextArc_11 rfl ?_
    refine z_istore_n hC dX4_nextArc_12 rfl (Nat.le_of_ble_eq_true rfl) rfl rfl ?_
    refine zz_sub (L' := [some (.ref (E.1.heap.size + 44)), some (.int a1), none, some (.int 0)]) ⟨rfl, rfl, rfl, trivial⟩ ?_
    exact j_13 σ2 a1 0 hV
  · replace hV := hV.1 hc
    refine z_iconst (v := (-1)) hC dX4_nextArc_9 rfl ?_
    exact z_iret hC dX4_nextArc_10 rfl (by rw [hQo]; exact ⟨_, rfl, hV⟩)
def VL_X4_layLengths_85 (K62 : ZS → Int32 → Prop) (K70 : ZS → Int32 → Int32 → Prop) (Ret : ZS → Prop) : Nat → ZS → Int32 → Int32 → Int32 → Prop
  | 0 => fun _ _ _ _ => False
  | k + 1 => fun σ x2 x3 x4 =>
    let K85 := VL_X4_layLengths_85 K62 K70 Ret k
    ((x4 < (2 * (zI σ 47 (ix 1))) → (wp_X4_isArc σ x3 (fun r2 σ3 => ((r2 = 0 → (∀ y4 : Int32, y4 = x4 + 1 → (K85 σ3 x2 x3 y4))) ∧ (¬ r2 = 0 → (wp_X4_isAfter σ3 x3 x4 (fun r5 σ6 => ((r5 = 0 → (∀ y7 : Int32, y7 = x4 + 1 → (K85 σ6 x2 x3 y7))) ∧ (¬ r5 = 0 → (vp_in x4 48 ∧ (wp_X4_longOf σ6 x3 (fun r9 σ10 => vp_in x3 48 ∧ (((((zI σ6 568 (ix x4)) + r9) < (zI σ10 568 (ix x3)) → (vp_in x4 48 ∧ (wp_X4_longOf σ10 x3 (fun r13 σ14 => vp_in x3 48 ∧ (∀ σ16 : ZS, σ16 = sI σ14 568 (ix x3) ((zI σ10 568 (ix x4)) + r13) → (∀ y17 : Int32, y17 = x4 + 1 → (K85 σ16 1 x3 y17))))))) ∧ (¬ ((zI σ6 568 (ix x4)) + r9) < (zI σ10 568 (ix x3)) → (∀ y18 : Int32, y18 = x4 + 1 → (K85 σ10 x2 x3 y18))))))))))))))))) ∧ (¬ x4 < (2 * (zI σ 47 (ix 1))) → (∀ y1 : Int32, y1 = x3 + 1 → (K70 σ x2 y1))))
def V_X4_layLengths_85 (K62 : ZS → Int32 → Prop) (K70 : ZS → Int32 → Int32 → Prop) (Ret : ZS → Prop) (σ : ZS) (x2 : Int32) (x3 : Int32) (x4 : Int32) : Prop := ∃ k, VL_X4_layLengths_85 K62 K70 Ret k σ x2 x3 x4
def VL_X4_layLengths_70 (K62 : ZS → Int32 → Prop) (Ret : ZS → Prop) : Nat → ZS → Int32 → Int32 → Prop
  | 0 => fun _ _ _ => False
  | k + 1 => fun σ x2 x3 =>
    let K70 := VL_X4_layLengths_70 K62 Ret k
    ((x3 < (2 * (zI σ 47 (ix 1))) → (V_X4_layLengths_85 K62 K70 Ret σ x2 x3 0)) ∧ (¬ x3 < (2 * (zI σ 47 (ix 1))) → (K62 σ x2)))
def V_X4_layLengths_70 (K62 : ZS → Int32 → Prop) (Ret : ZS → Prop) (σ : ZS) (x2 : Int32) (x3 : Int32) : Prop := ∃ k, VL_X4_layLengths_70 K62 Ret k σ x2 x3
def VL_X4_layLengths_62 (Ret : ZS → Prop) : Nat → ZS → Int32 → Prop
  | 0 => fun _ _ => False
  | k + 1 => fun σ x2 =>
    let K62 := VL_X4_layLengths_62 Ret k
    ((x2 = 0 → (Ret σ)) ∧ (¬ x2 = 0 → (V_X4_layLengths_70 K62 Ret σ 0 0)))
def V_X4_layLengths_62 (Ret : ZS → Prop) (σ : ZS) (x2 : Int32) : Prop := ∃ k, VL_X4_layLengths_62 Ret k σ x2
def VL_X4_layLengths_2 (Ret : ZS → Prop) : Nat → ZS → Int32 → Int32 → Prop
  | 0 => fun _ _ _ => False
  | k + 1 => fun σ x1 x2 =>
    let K2 := VL_X4_layLengths_2 Ret k
    ((x2 < (2 * (zI σ 47 (ix 1))) → (wp_X4_isArc σ x2 (fun r19 σ20 => ((r19 = 0 → (vp_in x2 48 ∧ (∀ σ32 : ZS, σ32 = sI σ20 568 (ix x2) 1000000000 → (∀ y33 : Int32, y33 = x2 + 1 → (K2 σ32 x1 y33))))) ∧ (¬ r19 = 0 → (wp_X4_endOf σ20 x2 (fun r21 σ22 => ((r21 = x1 → (wp_X4_longOf σ22 x2 (fun r26 σ27 => vp_in x2 48 ∧ (∀ σ29 : ZS, σ29 = sI σ27 568 (ix x2) r26 → (∀ y30 : Int32, y30 = x2 + 1 → (K2 σ29 x1 y30)))))) ∧ (¬ r21 = x1 → (vp_in x2 48 ∧ (∀ σ24 : ZS, σ24 = sI σ22 568 (ix x2) 1000000000 → (∀ y25 : Int32, y25 = x2 + 1 → (K2 σ24 x1 y25))))))))))))) ∧ (¬ x2 < (2 * (zI σ 47 (ix 1))) → (V_X4_layLengths_62 Ret σ 1)))
def V_X4_layLengths_2 (Ret : ZS → Prop) (σ : ZS) (x1 : Int32) (x2 : Int32) : Prop := ∃ k, VL_X4_layLengths_2 Ret k σ x1 x2
def wp_X4_layLengths (σ : ZS) (a1 : Int32) (Ret : ZS → Prop) : Prop :=
    V_X4_layLengths_2 Ret σ a1 0
set_option maxHeartbeats 4000000 in
theorem mz_X4_layLengths {l : Launch} {E : ZE} (hE : EOK E) {σ : ZS} {a1 : Int32} {Ret : ZS → Prop} (hV : wp_X4_layLengths σ a1 Ret) : MZ l E NS yX4_layLengths (ws_ yX4_layLengths cX4_layLengths 5 none) 3 σ [.ref (E.1.heap.size + 44), .int a1] (rV Ret) := by
  refine MZ.start (L := [some (.ref (E.1.heap.size + 44)), some (.int a1), none, none, none]) hE (by decide) (Nat.le_of_ble_eq_true rfl) rfl fun C hCl hQo hC => ?_
  replace hC : Cx C E cX4_layLengths 5 "RightTurnsModel" "layLengths" none [] 3 := hC
  unfold wp_X4_layLengths at hV
  have j_62 : ∀ (σ : ZS) (x2 : Int32), V_X4_layLengths_62 Ret σ x2 → zz C E NS 5 σ 62 [some (.ref (E.1.heap.size + 44)), none, some (.int x2), none, none] [] := by
    intro σ x2 ⟨k, hV⟩
    revert σ x2
    induction k with
    | zero => exact fun _ _ hV => hV.elim
    | succ k j_62 =>
      intro σ x2 hV
      simp only [VL_X4_layLengths_62] at hV
      generalize hKe62 : VL_X4_layLengths_62 Ret k = K62 at hV j_62
      clear hKe62
      have j_70 : ∀ (σ : ZS) (x2 : Int32) (x3 : Int32), V_X4_layLengths_70 K62 Ret σ x2 x3 → zz C E NS 5 σ 70 [some (.ref (E.1.heap.size + 44)), none, some (.int x2), some (.int x3), none] [] := by
        intro σ x2 x3 ⟨k, hV⟩
        revert σ x2 x3
        induction k with
        | zero => exact fun _ _ _ hV => hV.elim
        | succ k j_70 =>
          intro σ x2 x3 hV
          simp only [VL_X4_layLengths_70] at hV
          generalize hKe70 : VL_X4_layLengths_70 K62 Ret k = K70 at hV j_70
          clear hKe70
          have j_85 : ∀ (σ : ZS) (x2 : Int32) (x3 : Int32) (x4 : Int32), V_X4_layLengths_85 K62 K70 Ret σ x2 x3 x4 → zz C E NS 5 σ 85 [some (.ref (E.1.heap.size + 44)), none, some (.int x2), some (.int x3), some (.int x4)] [] := by
            intro σ x2 x3 x4 ⟨k, hV⟩
            revert σ x2 x3 x4
            induction k with
            | zero => exact fun _ _ _ _ hV => hV.elim
            | succ k j_85 =>
              intro σ x2 x3 x4 hV
              simp only [VL_X4_layLengths_85] at hV
              generalize hKe85 : VL_X4_layLengths_85 K62 K70 Ret k = K85 at hV j_85
              clear hKe85
              refine z_iload hC dX4_layLengths_85 rfl ?_
              refine z_iconst (v := 2) hC dX4_layLengths_87 rfl ?_
              refine z_aload_n hC dX4_layLengths_88 rfl rfl ?_
              refine g_X4_20_44 hC dX4_layLengths_89 ?_
              refine z_iconst (v := 1) hC dX4_layLengths_92 rfl ?_
              refine z_iald hC dX4_layLengths_93 (k_47 _) (in_dec rfl) ?_
              refine z_imul hC dX4_layLengths_94 ?_
              refine z_icmp_ge (tgt := 168) hC dX4_layLengths_95 (by decide) (fun hc => ?_) (fun hc => ?_)
              · replace hV := hV.2 hc
                obtain ⟨y1, e_y1⟩ : ∃ z : Int32, z = x3 + 1 := ⟨_, rfl⟩
                replace hV := hV _ e_y1
                refine z_iinc (v := y1) hC dX4_layLengths_168 rfl (by rw [e_y1]; rfl) (Nat.le_of_ble_eq_true rfl) rfl rfl ?_
                refine z_goto (tgt := 70) hC dX4_layLengths_171 (by decide) ?_
                refine zz_sub (L' := [some (.ref (E.1.heap.size + 44)), none, some (.int x2), some (.int y1), none]) ⟨rfl, rfl, rfl, trivial⟩ ?_
                exact j_70 σ x2 y1 hV
              · replace hV := hV.1 hc
                refine z_aload_n hC dX4_layLengths_98 rfl rfl ?_
                refine z_iload_n hC dX4_layLengths_99 rfl rfl ?_
                refine c_X4_262 hC (by decide) dX4_layLengths_100 (Nat.le_of_ble_eq_true rfl) hV (fun r2 σ3 hV => ?_)
                refine z_if_eq (tgt := 162) hC dX4_layLengths_103 (by decide) (fun hc => ?_) (fun hc => ?_)
                · replace hV := hV.1 hc
                  obtain ⟨y4, e_y4⟩ : ∃ z : Int32, z = x4 + 1 := ⟨_, rfl⟩
                  replace hV := hV _ e_y4
                  refine z_iinc (v := y4) hC dX4_layLengths_162 rfl (by rw [e_y4]; rfl) (Nat.le_of_ble_eq_true rfl) rfl rfl ?_
                  refine z_goto (tgt := 85) hC dX4_layLengths_165 (by decide) ?_
                  refine zz_sub (L' := [some (.ref (E.1.heap.size + 44)), none, some (.int x2), some (.int x3), some (.int y4)]) ⟨rfl, rfl, rfl, rfl, trivial⟩ ?_
                  exact j_85 σ3 x2 x3 y4 hV
                · replace hV := hV.2 hc
                  refine z_aload_n hC dX4_layLengths_106 rfl rfl ?_
                  refine z_iload_n hC dX4_layLengths_107 rfl rfl ?_
                  refine z_iload hC dX4_layLengths_108 rfl ?_
                  refine c_X4_298 hC (by decide) dX4_layLengths_110 (Nat.le_of_ble_eq_true rfl) hV (fun r5 σ6 hV => ?_)
                  refine z_if_eq (tgt := 162) hC dX4_layLengths_113 (by decide) (fun hc => ?_) (fun hc => ?_)
                  · replace hV := hV.1 hc
                    obtain ⟨y7, e_y7⟩ : ∃ z : Int32, z = x4 + 1 := ⟨_, rfl⟩
                    replace hV := hV _ e_y7
                    refine z_iinc (v := y7) hC dX4_layLengths_162 rfl (by rw [e_y7]; rfl) (Nat.le_of_ble_eq_true rfl) rfl rfl ?_
                    refine z_goto (tgt := 85) hC dX4_layLengths_165 (by decide) ?_
                    refine zz_sub (L' := [some (.ref (E.1.heap.size + 44)), none, some (.int x2), some (.int x3), some (.int y7)]) ⟨rfl, rfl, rfl, rfl, trivial⟩ ?_
                    exact j_85 σ6 x2 x3 y7 hV
                  · replace hV := hV.2 hc
                    refine z_aload_n hC dX4_layLengths_116 rfl rfl ?_
                    refine g_X4_68_44 hC dX4_layLengths_117 ?_
                    refine z_iload hC dX4_layLengths_120 rfl ?_
                    obtain ⟨h8, hV⟩ := hV
                    refine z_iald hC dX4_layLengths_122 (k_568 _) (h8) ?_
                    refine z_aload_n hC dX4_layLengths_123 rfl rfl ?_
                    refine z_iload_n hC dX4_layLengths_124 rfl rfl ?_
                    refine c_X4_295 hC (by decide) dX4_layLengths_125 (Nat.le_of_ble_eq_true rfl) hV (fun r9 σ10 hV => ?_)
                    refine z_iadd hC dX4_layLengths_128 ?_
                    refine z_aload_n hC dX4_layLengths_129 rfl rfl ?_
                    refine g_X4_68_44 hC dX4_layLengths_130 ?_
                    refine z_iload_n hC dX4_layLengths_133 rfl rfl ?_
                    obtain ⟨h11, hV⟩ := hV
                    refine z_iald hC dX4_layLengths_134 (k_568 _) (h11) ?_
                    refine z_icmp_lt (tgt := 141) hC dX4_layLengths_135 (by decide) (fun hc => ?_) (fun hc => ?_)
                    · replace hV := hV.1 hc
                      refine z_aload_n hC dX4_layLengths_141 rfl rfl ?_
                      refine g_X4_68_44 hC dX4_layLengths_142 ?_
                      refine z_iload_n hC dX4_layLengths_145 rfl rfl ?_
                      refine z_aload_n hC dX4_layLengths_146 rfl rfl ?_
                      refine g_X4_68_44 hC dX4_layLengths_147 ?_
                      refine z_iload hC dX4_layLengths_150 rfl ?_
                      obtain ⟨h12, hV⟩ := hV
                      refine z_iald hC dX4_layLengths_152 (k_568 _) (h12) ?_
                      refine z_aload_n hC dX4_layLengths_153 rfl rfl ?_
                      refine z_iload_n hC dX4_layLengths_154 rfl rfl ?_
                      refine c_X4_295 hC (by decide) dX4_layLengths_155 (Nat.le_of_ble_eq_true rfl) hV (fun r13 σ14 hV => ?_)
                      refine z_iadd hC dX4_layLengths_158 ?_
                      obtain ⟨h15, hV⟩ := hV
                      refine z_iast hC dX4_layLengths_159 (k_568 _) (h15) ?_
                      obtain ⟨σ16, e_σ16⟩ : ∃ z : ZS, z = sI σ14 568 (ix x3) ((zI σ10 568 (ix x4)) + r13) := ⟨_, rfl⟩
                      replace hV := hV _ e_σ16
                      rw [← e_σ16]
                      refine z_iconst (v := 1) hC dX4_layLengths_160 rfl ?_
                      refine z_istore_n hC dX4_layLengths_161 rfl (Nat.le_of_ble_eq_true rfl) rfl rfl ?_
                      obtain ⟨y17, e_y17⟩ : ∃ z : Int32, z = x4 + 1 := ⟨_, rfl⟩
                      replace hV := hV _ e_y17
                      refine z_iinc (v := y17) hC dX4_layLengths_162 rfl (by rw [e_y17]; rfl) (Nat.le_of_ble_eq_true rfl) rfl rfl ?_
                      refine z_goto (tgt := 85) hC dX4_layLengths_165 (by decide) ?_
                      refine zz_sub (L' := [some (.ref (E.1.heap.size + 44)), none, some (.int 1), some (.int x3), some (.int y17)]) ⟨rfl, rfl, rfl, rfl, trivial⟩ ?_
                      exact j_85 σ16 1 x3 y17 hV
                    · replace hV := hV.2 hc
                      refine z_goto (tgt := 162) hC dX4_layLengths_138 (by decide) ?_
                      obtain ⟨y18, e_y18⟩ : ∃ z : Int32, z = x4 + 1 := ⟨_, rfl⟩
                      replace hV := hV _ e_y18
                      refine z_iinc (v := y18) hC dX4_layLengths_162 rfl (by rw [e_y18]; rfl) (Nat.le_of_ble_eq_true rfl) rfl rfl ?_
                      refine z_goto (tgt := 85) hC dX4_layLengths_165 (by decide) ?_
                      refine zz_sub (L' := [some (.ref (E.1.heap.size + 44)), none, some (.int x2), some (.int x3), some (.int y18)]) ⟨rfl, rfl, rfl, rfl, trivial⟩ ?_
                      exact j_85 σ10 x2 x3 y18 hV
          refine z_iload_n hC dX4_layLengths_70 rfl rfl ?_
          refine z_iconst (v := 2) hC dX4_layLengths_71 rfl ?_
          refine z_aload_n hC dX4_layLengths_72 rfl rfl ?_
          refine g_X4_20_44 hC dX4_layLengths_73 ?_
          refine z_iconst (v := 1) hC dX4_layLengths_76 rfl ?_
          refine z_iald hC dX4_layLengths_77 (k_47 _) (in_dec rfl) ?_
          refine z_imul hC dX4_layLengths_78 ?_
          refine z_icmp_ge (tgt := 174) hC dX4_layLengths_79 (by decide) (fun hc => ?_) (fun hc => ?_)
          · replace hV := hV.2 hc
            refine z_goto (tgt := 62) hC dX4_layLengths_174 (by decide) ?_
            refine zz_sub (L' := [some (.ref (E.1.heap.size + 44)), none, some (.int x2), none, none]) ⟨rfl, rfl, trivial⟩ ?_
            exact j_62 σ x2 hV
          · replace hV := hV.1 hc
            refine z_iconst (v := 0) hC dX4_layLengths_82 rfl ?_
            refine z_istore hC dX4_layLengths_83 (Nat.le_of_ble_eq_true rfl) rfl rfl ?_
            refine zz_sub (L' := [some (.ref (E.1.heap.size + 44)), none, some (.int x2), some (.int x3), some (.int 0)]) ⟨rfl, rfl, rfl, rfl, trivial⟩ ?_
            exact j_85 σ x2 x3 0 hV
      refine z_iload_n hC dX4_layLengths_62 rfl rfl ?_
      refine z_if_eq (tgt := 177) hC dX4_layLengths_63 (by decide) (fun hc => ?_) (fun hc => ?_)
      · replace hV := hV.1 hc
        exact z_vret hC dX4_layLengths_177 (by rw [hQo]; exact ⟨rfl, hV⟩)
      · replace hV := hV.2 hc
        refine z_iconst (v := 0) hC dX4_layLengths_66 rfl ?_
        refine z_istore_n hC dX4_layLengths_67 rfl (Nat.le_of_ble_eq_true rfl) rfl rfl ?_
        refine z_iconst (v := 0) hC dX4_layLengths_68 rfl ?_
        refine z_istore_n hC dX4_layLengths_69 rfl (Nat.le_of_ble_eq_true rfl) rfl rfl ?_
        refine zz_sub (L' := [some (.ref (E.1.heap.size + 44)), none, some (.int 0), some (.int 0), none]) ⟨rfl, rfl, rfl, trivial⟩ ?_
        exact j_70 σ 0 0 hV
  have j_2 : ∀ (σ : ZS) (x1 : Int32) (x2 : Int32), V_X4_layLengths_2 Ret σ x1 x2 → zz C E NS 5 σ 2 [some (.ref (E.1.heap.size + 44)), some (.int x1), some (.int x2), none, none] [] := by
    intro σ x1 x2 ⟨k, hV⟩
    revert σ x1 x2
    induction k with
    | zero => exact fun _ _ _ hV => hV.elim
    | succ k j_2 =>
      intro σ x1 x2 hV
      simp only [VL_X4_layLengths_2] at hV
      generalize hKe2 : VL_X4_layLengths_2 Ret k = K2 at hV j_2
      clear hKe2
      refine z_iload_n hC dX4_layLengths_2 rfl rfl ?_
      refine z_iconst (v := 2) hC dX4_layLengths_3 rfl ?_
      refine z_aload_n hC dX4_layLengths_4 rfl rfl ?_
      refine g_X4_20_44 hC dX4_layLengths_5 ?_
      refine z_iconst (v := 1) hC dX4_layLengths_8 rfl ?_
      refine z_iald hC dX4_layLengths_9 (k_47 _) (in_dec rfl) ?_
      refine z_imul hC dX4_layLengths_10 ?_
      refine z_icmp_ge (tgt := 60) hC dX4_layLengths_11 (by decide) (fun hc => ?_) (fun hc => ?_)
      · replace hV := hV.2 hc
        refine z_iconst (v := 1) hC dX4_layLengths_60 rfl ?_
        refine z_istore_n hC dX4_layLengths_61 rfl (Nat.le_of_ble_eq_true rfl) rfl rfl ?_
        refine zz_sub (L' := [some (.ref (E.1.heap.size + 44)), none, some (.int 1), none, none]) ⟨rfl, rfl, trivial⟩ ?_
        exact j_62 σ 1 hV
      · replace hV := hV.1 hc
        refine z_aload_n hC dX4_layLengths_14 rfl rfl ?_
        refine g_X4_68_44 hC dX4_layLengths_15 ?_
        refine z_iload_n hC dX4_layLengths_18 rfl rfl ?_
        refine z_aload_n hC dX4_layLengths_19 rfl rfl ?_
        refine z_iload_n hC dX4_layLengths_20 rfl rfl ?_
        refine c_X4_262 hC (by decide) dX4_layLengths_21 (Nat.le_of_ble_eq_true rfl) hV (fun r19 σ20 hV => ?_)
        refine z_if_ne (tgt := 33) hC dX4_layLengths_24 (by decide) (fun hc => ?_) (fun hc => ?_)
        · replace hV := hV.2 hc
          refine z_aload_n hC dX4_layLengths_33 rfl rfl ?_
          refine z_iload_n hC dX4_layLengths_34 rfl rfl ?_
          refine c_X4_250 hC (by decide) dX4_layLengths_35 (Nat.le_of_ble_eq_true rfl) hV (fun r21 σ22 hV => ?_)
          refine z_iload_n hC dX4_layLengths_38 rfl rfl ?_
          refine z_icmp_ne (tgt := 50) hC dX4_layLengths_39 (by decide) (fun hc => ?_) (fun hc => ?_)
          · replace hV := hV.2 hc
            refine z_ldcw hC dX4_layLengths_50 q1981 ?_
            obtain ⟨h23, hV⟩ := hV
            refine z_iast hC dX4_layLengths_53 (k_568 _) (h23) ?_
            obtain ⟨σ24, e_σ24⟩ : ∃ z : ZS, z = sI σ22 568 (ix x2) 1000000000 := ⟨_, rfl⟩
            replace hV := hV _ e_σ24
            rw [← e_σ24]
            obtain ⟨y25, e_y25⟩ : ∃ z : Int32, z = x2 + 1 := ⟨_, rfl⟩
            replace hV := hV _ e_y25
            refine z_iinc (v := y25) hC dX4_layLengths_54 rfl (by rw [e_y25]; rfl) (Nat.le_of_ble_eq_true rfl) rfl rfl ?_
            refine z_goto (tgt := 2) hC dX4_layLengths_57 (by decide) ?_
            refine zz_sub (L' := [some (.ref (E.1.heap.size + 44)), some (.int x1), some (.int y25), none, none]) ⟨rfl, rfl, rfl, trivial⟩ ?_
            exact j_2 σ24 x1 y25 hV
          · replace hV := hV.1 hc
            refine z_aload_n hC dX4_layLengths_42 rfl rfl ?_
            refine z_iload_n hC dX4_layLengths_43 rfl rfl ?_
            refine c_X4_295 hC (by decide) dX4_layLengths_44 (Nat.le_of_ble_eq_true rfl) hV (fun r26 σ27 hV => ?_)
            refine z_goto (tgt := 53) hC dX4_layLengths_47 (by decide) ?_
            obtain ⟨h28, hV⟩ := hV
            refine z_iast hC dX4_layLengths_53 (k_568 _) (h28) ?_
            obtain ⟨σ29, e_σ29⟩ : ∃ z : ZS, z = sI σ27 568 (ix x2) r26 := ⟨_, rfl⟩
            replace hV := hV _ e_σ29
            rw [← e_σ29]
            obtain ⟨y30, e_y30⟩ : ∃ z : Int32, z = x2 + 1 := ⟨_, rfl⟩
            replace hV := hV _ e_y30
            refine z_iinc (v := y30) hC dX4_layLengths_54 rfl (by rw [e_y30]; rfl) (Nat.le_of_ble_eq_true rfl) rfl rfl ?_
            refine z_goto (tgt := 2) hC dX4_layLengths_57 (by decide) ?_
            refine zz_sub (L' := [some (.ref (E.1.heap.size + 44)), some (.int x1), some (.int y30), none, none]) ⟨rfl, rfl, rfl, trivial⟩ ?_
            exact j_2 σ29 x1 y30 hV
        · replace hV := hV.1 hc
          refine z_ldcw hC dX4_layLengths_27 q1981 ?_
          refine z_goto (tgt := 53) hC dX4_layLengths_30 (by decide) ?_
          obtain ⟨h31, hV⟩ := hV
          refine z_iast hC dX4_layLengths_53 (k_568 _) (h31) ?_
          obtain ⟨σ32, e_σ32⟩ : ∃ z : ZS, z = sI σ20 568 (ix x2) 1000000000 := ⟨_, rfl⟩
          replace hV := hV _ e_σ32
          rw [← e_σ32]
          obtain ⟨y33, e_y33⟩ : ∃ z : Int32, z = x2 + 1 := ⟨_, rfl⟩
          replace hV := hV _ e_y33
          refine z_iinc (v := y33) hC dX4_layLengths_54 rfl (by rw [e_y33]; rfl) (Nat.le_of_ble_eq_true rfl) rfl rfl ?_
          refine z_goto (tgt := 2) hC dX4_layLengths_57 (by decide) ?_
          refine zz_sub (L' := [some (.ref (E.1.heap.size + 44)), some (.int x1), some (.int y33), none, none]) ⟨rfl, rfl, rfl, trivial⟩ ?_
          exact j_2 σ32 x1 y33 hV
  refine z_iconst (v := 0) hC dX4_layLengths_0 rfl ?_
  refine z_istore_n hC dX4_layLengths_1 rfl (Nat.le_of_ble_eq_true rfl) rfl rfl ?_
  refine zz_sub (L' := [some (.ref (E.1.heap.size + 44)), some (.int a1), some (.int 0), none, none]) ⟨rfl, rfl, rfl, trivial⟩ ?_
  exact j_2 σ a1 0 hV
theorem cw_X4_layLengths : CodeW yX4_layLengths (ws_ yX4_layLengths cX4_layLengths 5 none) 5 := ⟨fun w h => (List.mem_cons.mp h).elim (fun e => e ▸ q1980) id, Or.inl ⟨_, _, q1980⟩, q138, by decide, by decide⟩
theorem c_X4_301 {C : ZC} {E : ZE} {cc : ByteArray} {nL pc d : Nat} {nm : String} {ret : Option FieldType} {hh : List (Nat × Nat × Nat × Nat)} {σ : ZS} {L : List (Option Value)} {st : List Value} {a1 : Int32} {Ret : ZS → Prop} (hC : Cx C E cc nL "RightTurnsModel" nm ret hh d) (hdd : 3 + 1 ≤ d) (hd : decode cc pc = .ok (.invokevirtual 301, 3)) (hW : (st.map fun v => v.category).sum ≤ 8) (hV : wp_X4_layLengths σ a1 Ret) (k : ∀ σ', Ret σ' → zz C E NS nL σ' (pc + 3) L st) : zz C E NS nL σ pc L (.int a1 :: .ref (E.1.heap.size + 44) :: st) :=
  z_callVG hC cf3 cw_X4_layLengths hdd (by decide) (mz_X4_layLengths (cxE hC) hV) hd (k_44 σ) q1977 q1979 qs86 (np := 1) rfl rfl hW rfl (kV k)
theorem cw_X4_firstArc : CodeW yX4_firstArc (ws_ yX4_firstArc cX4_firstArc 4 (some .int)) 4 := ⟨fun w h => (List.mem_cons.mp h).elim (fun e => e ▸ q1993) id, Or.inl ⟨_, _, q1993⟩, q138, by decide, by decide⟩
theorem c_X4_304 {C : ZC} {E : ZE} {cc : ByteArray} {nL pc d : Nat} {nm : String} {ret : Option FieldType} {hh : List (Nat × Nat × Nat × Nat)} {σ : ZS} {L : List (Option Value)} {st : List Value} {a1 : Int32} {Ret : Int32 → ZS → Prop} (hC : Cx C E cc nL "RightTurnsModel" nm ret hh d) (hdd : 3 + 1 ≤ d) (hd : decode cc pc = .ok (.invokevirtual 304, 3)) (hW : (st.map fun v => v.category).sum ≤ 8) (hV : wp_X4_firstArc σ a1 Ret) (k : ∀ r σ', Ret r σ' → zz C E NS nL σ' (pc + 3) L (.int r :: st)) : zz C E NS nL σ pc L (.int a1 :: .ref (E.1.heap.size + 44) :: st) :=
  z_callVG hC cf3 cw_X4_firstArc hdd (by decide) (mz_X4_firstArc (cxE hC) hV) hd (k_44 σ) q1990 q1992 qs89 (np := 1) rfl rfl hW rfl (kI k)
def wp_X4_rideOf (σ : ZS) (a1 : Int32) (a2 : Int32) (Ret : Int32 → ZS → Prop) : Prop :=
    ((a1 = a2 → (Ret 0 σ)) ∧ (¬ a1 = a2 → (wp_X4_layLengths σ a2 (fun σ2 => wp_X4_firstArc σ2 a1 (fun r3 σ4 => ((r3 = (-1) → (Ret (-1) σ4)) ∧ (¬ r3 = (-1) → (vp_in r3 48 ∧ (Ret (zI σ4 568 (ix r3)) σ4)))))))))
set_option maxHeartbeats 4000000 in
theorem mz_X4_rideOf {l : Launch} {E : ZE} (hE : EOK E) {σ : ZS} {a1 : Int32} {a2 : Int32} {Ret : Int32 → ZS → Prop} (hV : wp_X4_rideOf σ a1 a2 Ret) : MZ l E NS yX4_rideOf (ws_ yX4_rideOf cX4_rideOf 4 (some .int)) 4 σ [.ref (E.1.heap.size + 44), .int a1, .int a2] (rI Ret) := by
  refine MZ.start (L := [some (.ref (E.1.heap.size + 44)), some (.int a1), some (.int a2), none]) hE (by decide) (Nat.le_of_ble_eq_true rfl) rfl fun C hCl hQo hC => ?_
  replace hC : Cx C E cX4_rideOf 4 "RightTurnsModel" "rideOf" (some .int) [] 4 := hC
  unfold wp_X4_rideOf at hV
  refine z_iload_n hC dX4_rideOf_0 rfl rfl ?_
  refine z_iload_n hC dX4_rideOf_1 rfl rfl ?_
  refine z_icmp_ne (tgt := 7) hC dX4_rideOf_2 (by decide) (fun hc => ?_) (fun hc => ?_)
  · replace hV := hV.2 hc
    refine z_aload_n hC dX4_rideOf_7 rfl rfl ?_
    refine z_iload_n hC dX4_rideOf_8 rfl rfl ?_
    refine c_X4_301 hC (by decide) dX4_rideOf_9 (Nat.le_of_ble_eq_true rfl) hV (fun σ2 hV => ?_)
    refine z_aload_n hC dX4_rideOf_12 rfl rfl ?_
    refine z_iload_n hC dX4_rideOf_13 rfl rfl ?_
    refine c_X4_304 hC (by decide) dX4_rideOf_14 (Nat.le_of_ble_eq_true rfl) hV (fun r3 σ4 hV => ?_)
    refine z_istore_n hC dX4_rideOf_17 rfl (Nat.le_of_ble_eq_true rfl) rfl rfl ?_
    refine z_iload_n hC dX4_rideOf_18 rfl rfl ?_
    refine z_iconst (v := (-1)) hC dX4_rideOf_19 rfl ?_
    refine z_icmp_ne (tgt := 27) hC dX4_rideOf_20 (by decide) (fun hc => ?_) (fun hc => ?_)
    · replace hV := hV.2 hc
      refine z_aload_n hC dX4_rideOf_27 rfl rfl ?_
      refine g_X4_68_44 hC dX4_rideOf_28 ?_
      refine z_iload_n hC dX4_rideOf_31 rfl rfl ?_
      obtain ⟨h5, hV⟩ := hV
      refine z_iald hC dX4_rideOf_32 (k_568 _) (h5) ?_
      exact z_iret hC dX4_rideOf_33 rfl (by rw [hQo]; exact ⟨_, rfl, hV⟩)
    · replace hV := hV.1 hc
      refine z_iconst (v := (-1)) hC dX4_rideOf_23 rfl ?_
      refine z_goto (tgt := 33) hC dX4_rideOf_24 (by decide) ?_
      exact z_iret hC dX4_rideOf_33 rfl (by rw [hQo]; exact ⟨_, rfl, hV⟩)
  · replace hV := hV.1 hc
    refine z_iconst (v := 0) hC dX4_rideOf_5 rfl ?_
    exact z_iret hC dX4_rideOf_6 rfl (by rw [hQo]; exact ⟨_, rfl, hV⟩)
theorem cw_X4_asks : CodeW yX4_asks (ws_ yX4_asks cX4_asks 2 none) 2 := ⟨fun w h => (List.mem_cons.mp h).elim (fun e => e ▸ q1968) id, Or.inl ⟨_, _, q1968⟩, q138, by decide, by decide⟩
theorem c_X4_310 {C : ZC} {E : ZE} {cc : ByteArray} {nL pc d : Nat} {nm : String} {ret : Option FieldType} {hh : List (Nat × Nat × Nat × Nat)} {σ : ZS} {L : List (Option Value)} {st : List Value} {a1 : Int32} {Ret : ZS → Prop} (hC : Cx C E cc nL "RightTurnsModel" nm ret hh d) (hdd : 6 + 1 ≤ d) (hd : decode cc pc = .ok (.invokevirtual 310, 3)) (hW : (st.map fun v => v.category).sum ≤ 8) (hV : wp_X4_asks σ a1 Ret) (k : ∀ σ', Ret σ' → zz C E NS nL σ' (pc + 3) L st) : zz C E NS nL σ pc L (.int a1 :: .ref (E.1.heap.size + 44) :: st) :=
  z_callVG hC cf3 cw_X4_asks hdd (by decide) (mz_X4_asks (cxE hC) hV) hd (k_44 σ) q1965 q1967 qs83 (np := 1) rfl rfl hW rfl (kV k)
theorem cw_X4_rideOf : CodeW yX4_rideOf (ws_ yX4_rideOf cX4_rideOf 4 (some .int)) 4 := ⟨fun w h => (List.mem_cons.mp h).elim (fun e => e ▸ q1976) id, Or.inl ⟨_, _, q1976⟩, q138, by decide, by decide⟩
theorem c_X4_313 {C : ZC} {E : ZE} {cc : ByteArray} {nL pc d : Nat} {nm : String} {ret : Option FieldType} {hh : List (Nat × Nat × Nat × Nat)} {σ : ZS} {L : List (Option Value)} {st : List Value} {a1 : Int32} {a2 : Int32} {Ret : Int32 → ZS → Prop} (hC : Cx C E cc nL "RightTurnsModel" nm ret hh d) (hdd : 4 + 1 ≤ d) (hd : decode cc pc = .ok (.invokevirtual 313, 3)) (hW : (st.map fun v => v.category).sum ≤ 8) (hV : wp_X4_rideOf σ a1 a2 Ret) (k : ∀ r σ', Ret r σ' → zz C E NS nL σ' (pc + 3) L (.int r :: st)) : zz C E NS nL σ pc L (.int a2 :: .int a1 :: .ref (E.1.heap.size + 44) :: st) :=
  z_callVG hC cf3 cw_X4_rideOf hdd (by decide) (mz_X4_rideOf (cxE hC) hV) hd (k_44 σ) q1973 q1975 qs85 (np := 2) rfl rfl hW rfl (kI k)
theorem cw_X4_nextArc : CodeW yX4_nextArc (ws_ yX4_nextArc cX4_nextArc 4 (some .int)) 4 := ⟨fun w h => (List.mem_cons.mp h).elim (fun e => e ▸ q2001) id, Or.inl ⟨_, _, q2001⟩, q138, by decide, by decide⟩
theorem c_X4_316 {C : ZC} {E : ZE} {cc : ByteArray} {nL pc d : Nat} {nm : String} {ret : Option FieldType} {hh : List (Nat × Nat × Nat × Nat)} {σ : ZS} {L : List (Option Value)} {st : List Value} {a1 : Int32} {a2 : Int32} {Ret : Int32 → ZS → Prop} (hC : Cx C E cc nL "RightTurnsModel" nm ret hh d) (hdd : 2 + 1 ≤ d) (hd : decode cc pc = .ok (.invokevirtual 316, 3)) (hW : (st.map fun v => v.category).sum ≤ 8) (hV : wp_X4_nextArc σ a1 a2 Ret) (k : ∀ r σ', Ret r σ' → zz C E NS nL σ' (pc + 3) L (.int r :: st)) : zz C E NS nL σ pc L (.int a2 :: .int a1 :: .ref (E.1.heap.size + 44) :: st) :=
  z_callVG hC cf3 cw_X4_nextArc hdd (by decide) (mz_X4_nextArc (cxE hC) hV) hd (k_44 σ) q1998 q2000 qs90 (np := 2) rfl rfl hW rfl (kI k)
def VL_X4_baker_192 (Ret : Int32 → ZS → Prop) : Nat → ZS → Int32 → Nat → Int32 → Int32 → Prop
  | 0 => fun _ _ _ _ _ => False
  | k + 1 => fun σ x2 x3 x4 x5 =>
    let K192 := VL_X4_baker_192 Ret k
    ((x5 < (zI σ 47 (ix 1)) → (∃ n14, kK NS σ x3 = (0, n14) ∧ (vp_in x5 n14 ∧ (((0 < (zI σ x3 (ix x5)) → (((x4 = (-1) → (∀ y17 : Int32, y17 = x5 + 1 → (K192 σ x2 x3 x5 y17))) ∧ (¬ x4 = (-1) → (∃ n19, kK NS σ x3 = (0, n19) ∧ (vp_in x5 n19 ∧ (∃ n22, kK NS σ x3 = (0, n22) ∧ (vp_in x4 n22 ∧ ((((zI σ x3 (ix x4)) < (zI σ x3 (ix x5)) → (∀ y25 : Int32, y25 = x5 + 1 → (K192 σ x2 x3 x5 y25))) ∧ (¬ (zI σ x3 (ix x4)) < (zI σ x3 (ix x5)) → (∀ y24 : Int32, y24 = x5 + 1 → (K192 σ x2 x3 x4 y24))))))))))))) ∧ (¬ 0 < (zI σ x3 (ix x5)) → (∀ y16 : Int32, y16 = x5 + 1 → (K192 σ x2 x3 x4 y16)))))))) ∧ (¬ x5 < (zI σ 47 (ix 1)) → (((x2 = 0 → (Ret x4 σ)) ∧ (¬ x2 = 0 → (((x4 = (-1) → (Ret 0 σ)) ∧ (¬ x4 = (-1) → (∃ n11, kK NS σ x3 = (0, n11) ∧ (vp_in x4 n11 ∧ (Ret (zI σ x3 (ix x4)) σ)))))))))))
def V_X4_baker_192 (Ret : Int32 → ZS → Prop) (σ : ZS) (x2 : Int32) (x3 : Nat) (x4 : Int32) (x5 : Int32) : Prop := ∃ k, VL_X4_baker_192 Ret k σ x2 x3 x4 x5
def VL_X4_baker_149 (K50 : ZS → Int32 → Nat → Int32 → Prop) (Ret : Int32 → ZS → Prop) : Nat → ZS → Int32 → Nat → Int32 → Int32 → Int32 → Prop
  | 0 => fun _ _ _ _ _ _ => False
  | k + 1 => fun σ x2 x3 x4 x7 x8 =>
    let K149 := VL_X4_baker_149 K50 Ret k
    ((x8 < (zI σ 47 (ix 1)) → (∃ n36, kK NS σ x3 = (0, n36) ∧ (vp_in x8 n36 ∧ (∃ n39, kK NS σ x3 = (0, n39) ∧ (vp_in x8 n39 ∧ (∀ σ41 : ZS, σ41 = sI σ x3 (ix x8) ((zI σ x3 (ix x8)) + ((x7 >>> (x8 &&& 31)) &&& 1)) → (∀ y42 : Int32, y42 = x8 + 1 → (K149 σ41 x2 x3 x4 x7 y42)))))))) ∧ (¬ x8 < (zI σ 47 (ix 1)) → (∀ y34 : Int32, y34 = x4 + 1 → (K50 σ x2 x3 y34))))
def V_X4_baker_149 (K50 : ZS → Int32 → Nat → Int32 → Prop) (Ret : Int32 → ZS → Prop) (σ : ZS) (x2 : Int32) (x3 : Nat) (x4 : Int32) (x7 : Int32) (x8 : Int32) : Prop := ∃ k, VL_X4_baker_149 K50 Ret k σ x2 x3 x4 x7 x8
def VL_X4_baker_116 (K50 : ZS → Int32 → Nat → Int32 → Prop) (Ret : Int32 → ZS → Prop) : Nat → ZS → Int32 → Nat → Int32 → Int32 → Int32 → Int32 → Prop
  | 0 => fun _ _ _ _ _ _ _ => False
  | k + 1 => fun σ x2 x3 x4 x6 x7 x8 =>
    let K116 := VL_X4_baker_116 K50 Ret k
    ((x8 = (-1) → (V_X4_baker_149 K50 Ret σ x2 x3 x4 x7 0)) ∧ (¬ x8 = (-1) → (∀ y43 : Int32, y43 = x7 ||| ((1 : Int32) <<< ((x8 / 2) &&& 31)) → (wp_X4_nextArc σ x8 x6 (fun r44 σ45 => K116 σ45 x2 x3 x4 x6 y43 r44)))))
def V_X4_baker_116 (K50 : ZS → Int32 → Nat → Int32 → Prop) (Ret : Int32 → ZS → Prop) (σ : ZS) (x2 : Int32) (x3 : Nat) (x4 : Int32) (x6 : Int32) (x7 : Int32) (x8 : Int32) : Prop := ∃ k, VL_X4_baker_116 K50 Ret k σ x2 x3 x4 x6 x7 x8
def VL_X4_baker_50 (Ret : Int32 → ZS → Prop) : Nat → ZS → Int32 → Nat → Int32 → Prop
  | 0 => fun _ _ _ _ => False
  | k + 1 => fun σ x2 x3 x4 =>
    let K50 := VL_X4_baker_50 Ret k
    ((x4 < ((zI σ 47 (ix 0)) * (zI σ 47 (ix 0))) → (¬ (zI σ 47 (ix 0)) = 0 ∧ (∀ y27 : Int32, y27 = x4 / (zI σ 47 (ix 0)) → (¬ (zI σ 47 (ix 0)) = 0 ∧ (∀ y29 : Int32, y29 = x4 - x4 / (zI σ 47 (ix 0)) * (zI σ 47 (ix 0)) → (wp_X4_rideOf σ y27 y29 (fun r30 σ31 => ((r30 < 1 → (∀ y46 : Int32, y46 = x4 + 1 → (K50 σ31 x2 x3 y46))) ∧ (¬ r30 < 1 → (wp_X4_firstArc σ31 y27 (fun r32 σ33 => V_X4_baker_116 K50 Ret σ33 x2 x3 x4 y29 0 r32))))))))))) ∧ (¬ x4 < ((zI σ 47 (ix 0)) * (zI σ 47 (ix 0))) → (V_X4_baker_192 Ret σ x2 x3 (-1) 0)))
def V_X4_baker_50 (Ret : Int32 → ZS → Prop) (σ : ZS) (x2 : Int32) (x3 : Nat) (x4 : Int32) : Prop := ∃ k, VL_X4_baker_50 Ret k σ x2 x3 x4
def V_X4_baker_28 (Ret : Int32 → ZS → Prop) (σ : ZS) (x1 : Int32) (x2 : Int32) (s0 : Int32) : Prop :=
    wp_X4_bad σ s0 1 (fun r4 σ5 => ((r4 = 0 → (wp_X4_asks σ5 x1 (fun σ7 => (NS ≤ zt σ7 ∧ zt σ7 + 1 ≤ NB ∧ zn σ7 + 24 ≤ SB) ∧ (∀ σ9 : ZS, σ9 = sA σ7 (0, 24) 24 → (V_X4_baker_50 Ret σ9 x2 (zt σ7) 0))))) ∧ (¬ r4 = 0 → (Ret 0 σ5))))
def V_X4_baker_23 (Ret : Int32 → ZS → Prop) (σ : ZS) (x1 : Int32) (x2 : Int32) : Prop :=
    V_X4_baker_28 Ret σ x1 x2 1
def wp_X4_baker (σ : ZS) (a1 : Int32) (a2 : Int32) (Ret : Int32 → ZS → Prop) : Prop :=
    ∀ σ1 : ZS, σ1 = sI σ 44 0 0 → (wp_X4_isTime σ1 a1 (fun r2 σ3 => ((r2 = 0 → (V_X4_baker_23 Ret σ3 a1 a2)) ∧ (¬ r2 = 0 → (wp_X4_in σ3 a2 0 1 (fun r47 σ48 => ((r47 = 0 → (V_X4_baker_23 Ret σ48 a1 a2)) ∧ (¬ r47 = 0 → (V_X4_baker_28 Ret σ48 a1 a2 0)))))))))
set_option maxHeartbeats 4000000 in
theorem mz_X4_baker {l : Launch} {E : ZE} (hE : EOK E) {σ : ZS} {a1 : Int32} {a2 : Int32} {Ret : Int32 → ZS → Prop} (hV : wp_X4_baker σ a1 a2 Ret) : MZ l E NS yX4_baker (ws_ yX4_baker cX4_baker 9 (some .int)) 7 σ [.ref (E.1.heap.size + 44), .int a1, .int a2] (rI Ret) := by
  refine MZ.start (L := [some (.ref (E.1.heap.size + 44)), some (.int a1), some (.int a2), none, none, none, none, none, none]) hE (by decide) (Nat.le_of_ble_eq_true rfl) rfl fun C hCl hQo hC => ?_
  replace hC : Cx C E cX4_baker 9 "RightTurnsModel" "baker" (some .int) [] 7 := hC
  unfold wp_X4_baker at hV
  have j_192 : ∀ (σ : ZS) (x2 : Int32) (x3 : Nat) (x4 : Int32) (x5 : Int32), V_X4_baker_192 Ret σ x2 x3 x4 x5 → zz C E NS 9 σ 192 [some (.ref (E.1.heap.size + 44)), none, some (.int x2), some (.ref (E.1.heap.size + x3)), some (.int x4), some (.int x5), none, none, none] [] := by
    intro σ x2 x3 x4 x5 ⟨k, hV⟩
    revert σ x2 x3 x4 x5
    induction k with
    | zero => exact fun _ _ _ _ _ hV => hV.elim
    | succ k j_192 =>
      intro σ x2 x3 x4 x5 hV
      simp only [VL_X4_baker_192] at hV
      generalize hKe192 : VL_X4_baker_192 Ret k = K192 at hV j_192
      clear hKe192
      refine z_iload hC dX4_baker_192 rfl ?_
      refine z_aload_n hC dX4_baker_194 rfl rfl ?_
      refine g_X4_20_44 hC dX4_baker_195 ?_
      refine z_iconst (v := 1) hC dX4_baker_198 rfl ?_
      refine z_iald hC dX4_baker_199 (k_47 _) (in_dec rfl) ?_
      refine z_icmp_ge (tgt := 237) hC dX4_baker_200 (by decide) (fun hc => ?_) (fun hc => ?_)
      · replace hV := hV.2 hc
        refine z_iload_n hC dX4_baker_237 rfl rfl ?_
        refine z_if_ne (tgt := 244) hC dX4_baker_238 (by decide) (fun hc => ?_) (fun hc => ?_)
        · replace hV := hV.2 hc
          refine z_iload hC dX4_baker_244 rfl ?_
          refine z_iconst (v := (-1)) hC dX4_baker_246 rfl ?_
          refine z_icmp_ne (tgt := 254) hC dX4_baker_247 (by decide) (fun hc => ?_) (fun hc => ?_)
          · replace hV := hV.2 hc
            refine z_aload_n hC dX4_baker_254 rfl rfl ?_
            refine z_iload hC dX4_baker_255 rfl ?_
            obtain ⟨n11, h10, hV⟩ := hV
            obtain ⟨h12, hV⟩ := hV
            refine z_iald hC dX4_baker_257 h10 (h12) ?_
            exact z_iret hC dX4_baker_258 rfl (by rw [hQo]; exact ⟨_, rfl, hV⟩)
          · replace hV := hV.1 hc
            refine z_iconst (v := 0) hC dX4_baker_250 rfl ?_
            refine z_goto (tgt := 258) hC dX4_baker_251 (by decide) ?_
            exact z_iret hC dX4_baker_258 rfl (by rw [hQo]; exact ⟨_, rfl, hV⟩)
        · replace hV := hV.1 hc
          refine z_iload hC dX4_baker_241 rfl ?_
          exact z_iret hC dX4_baker_243 rfl (by rw [hQo]; exact ⟨_, rfl, hV⟩)
      · replace hV := hV.1 hc
        refine z_aload_n hC dX4_baker_203 rfl rfl ?_
        refine z_iload hC dX4_baker_204 rfl ?_
        obtain ⟨n14, h13, hV⟩ := hV
        obtain ⟨h15, hV⟩ := hV
        refine z_iald hC dX4_baker_206 h13 (h15) ?_
        refine z_if_le (tgt := 231) hC dX4_baker_207 (by decide) (fun hc => ?_) (fun hc => ?_)
        · replace hV := hV.2 hc
          obtain ⟨y16, e_y16⟩ : ∃ z : Int32, z = x5 + 1 := ⟨_, rfl⟩
          replace hV := hV _ e_y16
          refine z_iinc (v := y16) hC dX4_baker_231 rfl (by rw [e_y16]; rfl) (Nat.le_of_ble_eq_true rfl) rfl rfl ?_
          refine z_goto (tgt := 192) hC dX4_baker_234 (by decide) ?_
          refine zz_sub (L' := [some (.ref (E.1.heap.size + 44)), none, some (.int x2), some (.ref (E.1.heap.size + x3)), some (.int x4), some (.int y16), none, none, none]) ⟨rfl, rfl, rfl, rfl, rfl, trivial⟩ ?_
          exact j_192 σ x2 x3 x4 y16 hV
        · replace hV := hV.1 hc
          refine z_iload hC dX4_baker_210 rfl ?_
          refine z_iconst (v := (-1)) hC dX4_baker_212 rfl ?_
          refine z_icmp_eq (tgt := 227) hC dX4_baker_213 (by decide) (fun hc => ?_) (fun hc => ?_)
          · replace hV := hV.1 hc
            refine z_iload hC dX4_baker_227 rfl ?_
            refine z_istore hC dX4_baker_229 (Nat.le_of_ble_eq_true rfl) rfl rfl ?_
            obtain ⟨y17, e_y17⟩ : ∃ z : Int32, z = x5 + 1 := ⟨_, rfl⟩
            replace hV := hV _ e_y17
            refine z_iinc (v := y17) hC dX4_baker_231 rfl (by rw [e_y17]; rfl) (Nat.le_of_ble_eq_true rfl) rfl rfl ?_
            refine z_goto (tgt := 192) hC dX4_baker_234 (by decide) ?_
            refine zz_sub (L' := [some (.ref (E.1.heap.size + 44)), none, some (.int x2), some (.ref (E.1.heap.size + x3)), some (.int x5), some (.int y17), none, none, none]) ⟨rfl, rfl, rfl, rfl, rfl, trivial⟩ ?_
            exact j_192 σ x2 x3 x5 y17 hV
          · replace hV := hV.2 hc
            refine z_aload_n hC dX4_baker_216 rfl rfl ?_
            refine z_iload hC dX4_baker_217 rfl ?_
            obtain ⟨n19, h18, hV⟩ := hV
            obtain ⟨h20, hV⟩ := hV
            refine z_iald hC dX4_baker_219 h18 (h20) ?_
            refine z_aload_n hC dX4_baker_220 rfl rfl ?_
            refine z_iload hC dX4_baker_221 rfl ?_
            obtain ⟨n22, h21, hV⟩ := hV
            obtain ⟨h23, hV⟩ := hV
            refine z_iald hC dX4_baker_223 h21 (h23) ?_
            refine z_icmp_le (tgt := 231) hC dX4_baker_224 (by decide) (fun hc => ?_) (fun hc => ?_)
            · replace hV := hV.2 hc
              obtain ⟨y24, e_y24⟩ : ∃ z : Int32, z = x5 + 1 := ⟨_, rfl⟩
              replace hV := hV _ e_y24
              refine z_iinc (v := y24) hC dX4_baker_231 rfl (by rw [e_y24]; rfl) (Nat.le_of_ble_eq_true rfl) rfl rfl ?_
              refine z_goto (tgt := 192) hC dX4_baker_234 (by decide) ?_
              refine zz_sub (L' := [some (.ref (E.1.heap.size + 44)), none, some (.int x2), some (.ref (E.1.heap.size + x3)), some (.int x4), some (.int y24), none, none, none]) ⟨rfl, rfl, rfl, rfl, rfl, trivial⟩ ?_
              exact j_192 σ x2 x3 x4 y24 hV
            · replace hV := hV.1 hc
              refine z_iload hC dX4_baker_227 rfl ?_
              refine z_istore hC dX4_baker_229 (Nat.le_of_ble_eq_true rfl) rfl rfl ?_
              obtain ⟨y25, e_y25⟩ : ∃ z : Int32, z = x5 + 1 := ⟨_, rfl⟩
              replace hV := hV _ e_y25
              refine z_iinc (v := y25) hC dX4_baker_231 rfl (by rw [e_y25]; rfl) (Nat.le_of_ble_eq_true rfl) rfl rfl ?_
              refine z_goto (tgt := 192) hC dX4_baker_234 (by decide) ?_
              refine zz_sub (L' := [some (.ref (E.1.heap.size + 44)), none, some (.int x2), some (.ref (E.1.heap.size + x3)), some (.int x5), some (.int y25), none, none, none]) ⟨rfl, rfl, rfl, rfl, rfl, trivial⟩ ?_
              exact j_192 σ x2 x3 x5 y25 hV
  have j_50 : ∀ (σ : ZS) (x2 : Int32) (x3 : Nat) (x4 : Int32), V_X4_baker_50 Ret σ x2 x3 x4 → zz C E NS 9 σ 50 [some (.ref (E.1.heap.size + 44)), none, some (.int x2), some (.ref (E.1.heap.size + x3)), some (.int x4), none, none, none, none] [] := by
    intro σ x2 x3 x4 ⟨k, hV⟩
    revert σ x2 x3 x4
    induction k with
    | zero => exact fun _ _ _ _ hV => hV.elim
    | succ k j_50 =>
      intro σ x2 x3 x4 hV
      simp only [VL_X4_baker_50] at hV
      generalize hKe50 : VL_X4_baker_50 Ret k = K50 at hV j_50
      clear hKe50
      have j_149 : ∀ (σ : ZS) (x2 : Int32) (x3 : Nat) (x4 : Int32) (x7 : Int32) (x8 : Int32), V_X4_baker_149 K50 Ret σ x2 x3 x4 x7 x8 → zz C E NS 9 σ 149 [some (.ref (E.1.heap.size + 44)), none, some (.int x2), some (.ref (E.1.heap.size + x3)), some (.int x4), none, none, some (.int x7), some (.int x8)] [] := by
        intro σ x2 x3 x4 x7 x8 ⟨k, hV⟩
        revert σ x2 x3 x4 x7 x8
        induction k with
        | zero => exact fun _ _ _ _ _ _ hV => hV.elim
        | succ k j_149 =>
          intro σ x2 x3 x4 x7 x8 hV
          simp only [VL_X4_baker_149] at hV
          generalize hKe149 : VL_X4_baker_149 K50 Ret k = K149 at hV j_149
          clear hKe149
          refine z_iload hC dX4_baker_149 rfl ?_
          refine z_aload_n hC dX4_baker_151 rfl rfl ?_
          refine g_X4_20_44 hC dX4_baker_152 ?_
          refine z_iconst (v := 1) hC dX4_baker_155 rfl ?_
          refine z_iald hC dX4_baker_156 (k_47 _) (in_dec rfl) ?_
          refine z_icmp_ge (tgt := 180) hC dX4_baker_157 (by decide) (fun hc => ?_) (fun hc => ?_)
          · replace hV := hV.2 hc
            obtain ⟨y34, e_y34⟩ : ∃ z : Int32, z = x4 + 1 := ⟨_, rfl⟩
            replace hV := hV _ e_y34
            refine z_iinc (v := y34) hC dX4_baker_180 rfl (by rw [e_y34]; rfl) (Nat.le_of_ble_eq_true rfl) rfl rfl ?_
            refine z_goto (tgt := 50) hC dX4_baker_183 (by decide) ?_
            refine zz_sub (L' := [some (.ref (E.1.heap.size + 44)), none, some (.int x2), some (.ref (E.1.heap.size + x3)), some (.int y34), none, none, none, none]) ⟨rfl, rfl, rfl, rfl, trivial⟩ ?_
            exact j_50 σ x2 x3 y34 hV
          · replace hV := hV.1 hc
            refine z_aload_n hC dX4_baker_160 rfl rfl ?_
            refine z_iload hC dX4_baker_161 rfl ?_
            refine z_dup2 hC dX4_baker_163 rfl rfl ?_
            obtain ⟨n36, h35, hV⟩ := hV
            obtain ⟨h37, hV⟩ := hV
            refine z_iald hC dX4_baker_164 h35 (h37) ?_
            refine z_iload hC dX4_baker_165 rfl ?_
            refine z_iload hC dX4_baker_167 rfl ?_
            refine z_ishr hC dX4_baker_169 ?_
            refine z_iconst (v := 1) hC dX4_baker_170 rfl ?_
            refine z_iand hC dX4_baker_171 ?_
            refine z_iadd hC dX4_baker_172 ?_
            obtain ⟨n39, h38, hV⟩ := hV
            obtain ⟨h40, hV⟩ := hV
            refine z_iast hC dX4_baker_173 h38 (h40) ?_
            obtain ⟨σ41, e_σ41⟩ : ∃ z : ZS, z = sI σ x3 (ix x8) ((zI σ x3 (ix x8)) + ((x7 >>> (x8 &&& 31)) &&& 1)) := ⟨_, rfl⟩
            replace hV := hV _ e_σ41
            rw [← e_σ41]
            obtain ⟨y42, e_y42⟩ : ∃ z : Int32, z = x8 + 1 := ⟨_, rfl⟩
            replace hV := hV _ e_y42
            refine z_iinc (v := y42) hC dX4_baker_174 rfl (by rw [e_y42]; rfl) (Nat.le_of_ble_eq_true rfl) rfl rfl ?_
            refine z_goto (tgt := 149) hC dX4_baker_177 (by decide) ?_
            refine zz_sub (L' := [some (.ref (E.1.heap.size + 44)), none, some (.int x2), some (.ref (E.1.heap.size + x3)), some (.int x4), none, none, some (.int x7), some (.int y42)]) ⟨rfl, rfl, rfl, rfl, rfl, rfl, trivial⟩ ?_
            exact j_149 σ41 x2 x3 x4 x7 y42 hV
      have j_116 : ∀ (σ : ZS) (x2 : Int32) (x3 : Nat) (x4 : Int32) (x6 : Int32) (x7 : Int32) (x8 : Int32), V_X4_baker_116 K50 Ret σ x2 x3 x4 x6 x7 x8 → zz C E NS 9 σ 116 [some (.ref (E.1.heap.size + 44)), none, some (.int x2), some (.ref (E.1.heap.size + x3)), some (.int x4), none, some (.int x6), some (.int x7), some (.int x8)] [] := by
        intro σ x2 x3 x4 x6 x7 x8 ⟨k, hV⟩
        revert σ x2 x3 x4 x6 x7 x8
        induction k with
        | zero => exact fun _ _ _ _ _ _ _ hV => hV.elim
        | succ k j_116 =>
          intro σ x2 x3 x4 x6 x7 x8 hV
          simp only [VL_X4_baker_116] at hV
          generalize hKe116 : VL_X4_baker_116 K50 Ret k = K116 at hV j_116
          clear hKe116
          refine z_iload hC dX4_baker_116 rfl ?_
          refine z_iconst (v := (-1)) hC dX4_baker_118 rfl ?_
          refine z_icmp_eq (tgt := 146) hC dX4_baker_119 (by decide) (fun hc => ?_) (fun hc => ?_)
          · replace hV := hV.1 hc
            refine z_iconst (v := 0) hC dX4_baker_146 rfl ?_
            refine z_istore hC dX4_baker_147 (Nat.le_of_ble_eq_true rfl) rfl rfl ?_
            refine zz_sub (L' := [some (.ref (E.1.heap.size + 44)), none, some (.int x2), some (.ref (E.1.heap.size + x3)), some (.int x4), none, none, some (.int x7), some (.int 0)]) ⟨rfl, rfl, rfl, rfl, rfl, rfl, trivial⟩ ?_
            exact j_149 σ x2 x3 x4 x7 0 hV
          · replace hV := hV.2 hc
            refine z_iload hC dX4_baker_122 rfl ?_
            refine z_iconst (v := 1) hC dX4_baker_124 rfl ?_
            refine z_iload hC dX4_baker_125 rfl ?_
            refine z_iconst (v := 2) hC dX4_baker_127 rfl ?_
            refine z_idiv hC dX4_baker_128 (by decide) ?_
            refine z_ishl hC dX4_baker_129 ?_
            refine z_ior hC dX4_baker_130 ?_
            obtain ⟨y43, e_y43⟩ : ∃ z, z = x7 ||| ((1 : Int32) <<< ((x8 / 2) &&& 31)) := ⟨_, rfl⟩
            rw [← e_y43]
            replace hV := hV _ e_y43
            refine z_istore hC dX4_baker_131 (Nat.le_of_ble_eq_true rfl) rfl rfl ?_
            refine z_aload_n hC dX4_baker_133 rfl rfl ?_
            refine z_iload hC dX4_baker_134 rfl ?_
            refine z_iload hC dX4_baker_136 rfl ?_
            refine c_X4_316 hC (by decide) dX4_baker_138 (Nat.le_of_ble_eq_true rfl) hV (fun r44 σ45 hV => ?_)
            refine z_istore hC dX4_baker_141 (Nat.le_of_ble_eq_true rfl) rfl rfl ?_
            refine z_goto (tgt := 116) hC dX4_baker_143 (by decide) ?_
            refine zz_sub (L' := [some (.ref (E.1.heap.size + 44)), none, some (.int x2), some (.ref (E.1.heap.size + x3)), some (.int x4), none, some (.int x6), some (.int y43), some (.int r44)]) ⟨rfl, rfl, rfl, rfl, rfl, rfl, rfl, trivial⟩ ?_
            exact j_116 σ45 x2 x3 x4 x6 y43 r44 hV
      refine z_iload hC dX4_baker_50 rfl ?_
      refine z_aload_n hC dX4_baker_52 rfl rfl ?_
      refine g_X4_20_44 hC dX4_baker_53 ?_
      refine z_iconst (v := 0) hC dX4_baker_56 rfl ?_
      refine z_iald hC dX4_baker_57 (k_47 _) (in_dec rfl) ?_
      refine z_aload_n hC dX4_baker_58 rfl rfl ?_
      refine g_X4_20_44 hC dX4_baker_59 ?_
      refine z_iconst (v := 0) hC dX4_baker_62 rfl ?_
      refine z_iald hC dX4_baker_63 (k_47 _) (in_dec rfl) ?_
      refine z_imul hC dX4_baker_64 ?_
      refine z_icmp_ge (tgt := 186) hC dX4_baker_65 (by decide) (fun hc => ?_) (fun hc => ?_)
      · replace hV := hV.2 hc
        refine z_iconst (v := (-1)) hC dX4_baker_186 rfl ?_
        refine z_istore hC dX4_baker_187 (Nat.le_of_ble_eq_true rfl) rfl rfl ?_
        refine z_iconst (v := 0) hC dX4_baker_189 rfl ?_
        refine z_istore hC dX4_baker_190 (Nat.le_of_ble_eq_true rfl) rfl rfl ?_
        refine zz_sub (L' := [some (.ref (E.1.heap.size + 44)), none, some (.int x2), some (.ref (E.1.heap.size + x3)), some (.int (-1)), some (.int 0), none, none, none]) ⟨rfl, rfl, rfl, rfl, rfl, trivial⟩ ?_
        exact j_192 σ x2 x3 (-1) 0 hV
      · replace hV := hV.1 hc
        refine z_iload hC dX4_baker_68 rfl ?_
        refine z_aload_n hC dX4_baker_70 rfl rfl ?_
        refine g_X4_20_44 hC dX4_baker_71 ?_
        refine z_iconst (v := 0) hC dX4_baker_74 rfl ?_
        refine z_iald hC dX4_baker_75 (k_47 _) (in_dec rfl) ?_
        obtain ⟨h26, hV⟩ := hV
        refine z_idiv hC dX4_baker_76 h26 ?_
        obtain ⟨y27, e_y27⟩ : ∃ z, z = x4 / (zI σ 47 (ix 0)) := ⟨_, rfl⟩
        rw [← e_y27]
        replace hV := hV _ e_y27
        refine z_istore hC dX4_baker_77 (Nat.le_of_ble_eq_true rfl) rfl rfl ?_
        refine z_iload hC dX4_baker_79 rfl ?_
        refine z_aload_n hC dX4_baker_81 rfl rfl ?_
        refine g_X4_20_44 hC dX4_baker_82 ?_
        refine z_iconst (v := 0) hC dX4_baker_85 rfl ?_
        refine z_iald hC dX4_baker_86 (k_47 _) (in_dec rfl) ?_
        obtain ⟨h28, hV⟩ := hV
        refine z_irem hC dX4_baker_87 h28 ?_
        obtain ⟨y29, e_y29⟩ : ∃ z, z = x4 - x4 / (zI σ 47 (ix 0)) * (zI σ 47 (ix 0)) := ⟨_, rfl⟩
        rw [← e_y29]
        replace hV := hV _ e_y29
        refine z_istore hC dX4_baker_88 (Nat.le_of_ble_eq_true rfl) rfl rfl ?_
        refine z_iconst (v := 0) hC dX4_baker_90 rfl ?_
        refine z_istore hC dX4_baker_91 (Nat.le_of_ble_eq_true rfl) rfl rfl ?_
        refine z_aload_n hC dX4_baker_93 rfl rfl ?_
        refine z_iload hC dX4_baker_94 rfl ?_
        refine z_iload hC dX4_baker_96 rfl ?_
        refine c_X4_313 hC (by decide) dX4_baker_98 (Nat.le_of_ble_eq_true rfl) hV (fun r30 σ31 hV => ?_)
        refine z_iconst (v := 1) hC dX4_baker_101 rfl ?_
        refine z_icmp_ge (tgt := 108) hC dX4_baker_102 (by decide) (fun hc => ?_) (fun hc => ?_)
        · replace hV := hV.2 hc
          refine z_aload_n hC dX4_baker_108 rfl rfl ?_
          refine z_iload hC dX4_baker_109 rfl ?_
          refine c_X4_304 hC (by decide) dX4_baker_111 (Nat.le_of_ble_eq_true rfl) hV (fun r32 σ33 hV => ?_)
          refine z_istore hC dX4_baker_114 (Nat.le_of_ble_eq_true rfl) rfl rfl ?_
          refine zz_sub (L' := [some (.ref (E.1.heap.size + 44)), none, some (.int x2), some (.ref (E.1.heap.size + x3)), some (.int x4), none, some (.int y29), some (.int 0), some (.int r32)]) ⟨rfl, rfl, rfl, rfl, rfl, rfl, rfl, trivial⟩ ?_
          exact j_116 σ33 x2 x3 x4 y29 0 r32 hV
        · replace hV := hV.1 hc
          refine z_goto (tgt := 180) hC dX4_baker_105 (by decide) ?_
          obtain ⟨y46, e_y46⟩ : ∃ z : Int32, z = x4 + 1 := ⟨_, rfl⟩
          replace hV := hV _ e_y46
          refine z_iinc (v := y46) hC dX4_baker_180 rfl (by rw [e_y46]; rfl) (Nat.le_of_ble_eq_true rfl) rfl rfl ?_
          refine z_goto (tgt := 50) hC dX4_baker_183 (by decide) ?_
          refine zz_sub (L' := [some (.ref (E.1.heap.size + 44)), none, some (.int x2), some (.ref (E.1.heap.size + x3)), some (.int y46), none, none, none, none]) ⟨rfl, rfl, rfl, rfl, trivial⟩ ?_
          exact j_50 σ31 x2 x3 y46 hV
  have j_28 : ∀ (σ : ZS) (x1 : Int32) (x2 : Int32) (s0 : Int32), V_X4_baker_28 Ret σ x1 x2 s0 → zz C E NS 9 σ 28 [some (.ref (E.1.heap.size + 44)), some (.int x1), some (.int x2), none, none, none, none, none, none] [.int s0, .ref (E.1.heap.size + 44)] := by
    intro σ x1 x2 s0 hV
    unfold V_X4_baker_28 at hV
    refine z_iconst (v := 1) hC dX4_baker_28 rfl ?_
    refine c_X4_227 hC (by decide) dX4_baker_29 (Nat.le_of_ble_eq_true rfl) hV (fun r4 σ5 hV => ?_)
    refine z_if_eq (tgt := 37) hC dX4_baker_32 (by decide) (fun hc => ?_) (fun hc => ?_)
    · replace hV := hV.1 hc
      refine z_aload_n hC dX4_baker_37 rfl rfl ?_
      refine z_iload_n hC dX4_baker_38 rfl rfl ?_
      refine c_X4_310 hC (by decide) dX4_baker_39 (Nat.le_of_ble_eq_true rfl) hV (fun σ7 hV => ?_)
      refine z_bipush (v := 24) hC dX4_baker_42 rfl ?_
      obtain ⟨h8, hV⟩ := hV
      refine z_newa0 (len := 24) hC dX4_baker_44 (by decide) rfl h8.1 h8.2.1 h8.2.2 ?_
      obtain ⟨σ9, e_σ9⟩ : ∃ z : ZS, z = sA σ7 (0, 24) 24 := ⟨_, rfl⟩
      replace hV := hV _ e_σ9
      rw [← e_σ9]
      refine z_astore_n hC dX4_baker_46 rfl (Nat.le_of_ble_eq_true rfl) rfl rfl ?_
      refine z_iconst (v := 0) hC dX4_baker_47 rfl ?_
      refine z_istore hC dX4_baker_48 (Nat.le_of_ble_eq_true rfl) rfl rfl ?_
      refine zz_sub (L' := [some (.ref (E.1.heap.size + 44)), none, some (.int x2), some (.ref (E.1.heap.size + (zt σ7))), some (.int 0), none, none, none, none]) ⟨rfl, rfl, rfl, rfl, trivial⟩ ?_
      exact j_50 σ9 x2 (zt σ7) 0 hV
    · replace hV := hV.2 hc
      refine z_iconst (v := 0) hC dX4_baker_35 rfl ?_
      exact z_iret hC dX4_baker_36 rfl (by rw [hQo]; exact ⟨_, rfl, hV⟩)
  have j_23 : ∀ (σ : ZS) (x1 : Int32) (x2 : Int32), V_X4_baker_23 Ret σ x1 x2 → zz C E NS 9 σ 23 [some (.ref (E.1.heap.size + 44)), some (.int x1), some (.int x2), none, none, none, none, none, none] [.ref (E.1.heap.size + 44)] := by
    intro σ x1 x2 hV
    unfold V_X4_baker_23 at hV
    refine z_iconst (v := 1) hC dX4_baker_23 rfl ?_
    refine z_goto (tgt := 28) hC dX4_baker_24 (by decide) ?_
    refine zz_sub (L' := [some (.ref (E.1.heap.size + 44)), some (.int x1), some (.int x2), none, none, none, none, none, none]) ⟨rfl, rfl, rfl, trivial⟩ ?_
    exact j_28 σ x1 x2 1 hV
  refine z_aload_n hC dX4_baker_0 rfl rfl ?_
  refine z_iconst (v := 0) hC dX4_baker_1 rfl ?_
  refine p_X4_131_c3 hC dX4_baker_2 (k_44 _) ?_
  obtain ⟨σ1, e_σ1⟩ : ∃ z : ZS, z = sI σ 44 0 0 := ⟨_, rfl⟩
  replace hV := hV _ e_σ1
  rw [← e_σ1]
  refine z_aload_n hC dX4_baker_5 rfl rfl ?_
  refine z_aload_n hC dX4_baker_6 rfl rfl ?_
  refine z_iload_n hC dX4_baker_7 rfl rfl ?_
  refine c_X4_281 hC (by decide) dX4_baker_8 (Nat.le_of_ble_eq_true rfl) hV (fun r2 σ3 hV => ?_)
  refine z_if_eq (tgt := 23) hC dX4_baker_11 (by decide) (fun hc => ?_) (fun hc => ?_)
  · replace hV := hV.1 hc
    refine zz_sub (L' := [some (.ref (E.1.heap.size + 44)), some (.int a1), some (.int a2), none, none, none, none, none, none]) ⟨rfl, rfl, rfl, trivial⟩ ?_
    exact j_23 σ3 a1 a2 hV
  · replace hV := hV.2 hc
    refine z_iload_n hC dX4_baker_14 rfl rfl ?_
    refine z_iconst (v := 0) hC dX4_baker_15 rfl ?_
    refine z_iconst (v := 1) hC dX4_baker_16 rfl ?_
    refine c_X4_165 hC (by decide) dX4_baker_17 (Nat.le_of_ble_eq_true rfl) hV (fun r47 σ48 hV => ?_)
    refine z_if_ne (tgt := 27) hC dX4_baker_20 (by decide) (fun hc => ?_) (fun hc => ?_)
    · replace hV := hV.2 hc
      refine z_iconst (v := 0) hC dX4_baker_27 rfl ?_
      refine zz_sub (L' := [some (.ref (E.1.heap.size + 44)), some (.int a1), some (.int a2), none, none, none, none, none, none]) ⟨rfl, rfl, rfl, trivial⟩ ?_
      exact j_28 σ48 a1 a2 0 hV
    · replace hV := hV.1 hc
      refine zz_sub (L' := [some (.ref (E.1.heap.size + 44)), some (.int a1), some (.int a2), none, none, none, none, none, none]) ⟨rfl, rfl, rfl, trivial⟩ ?_
      exact j_23 σ48 a1 a2 hV
