set_option maxRecDepth 100000
theorem cw_X1_told : CodeW yX1_told (ws_ yX1_told cX1_told 2 (some .int)) 2 := ⟨fun w h => (List.mem_cons.mp h).elim (fun e => e ▸ q1142) id, Or.inl ⟨_, _, q1142⟩, q116, by decide, by decide⟩
theorem c_X0_15 {C : ZC} {E : ZE} {cc : ByteArray} {nL pc d : Nat} {nm : String} {ret : Option FieldType} {hh : List (Nat × Nat × Nat × Nat)} {σ : ZS} {L : List (Option Value)} {st : List Value} {a1 : Int32} {Ret : Int32 → ZS → Prop} {Thr : Nat → ZS → Prop} (hC : Cx C E cc nL "RightTurnsLaw" nm ret hh d) (hdd : 7 + 1 ≤ d) (hd : decode cc pc = .ok (.invokevirtual 15, 3)) (hW : (st.map fun v => v.category).sum ≤ 8) (hV : wp_X1_told σ a1 Thr Ret) (k : ∀ r σ', Ret r σ' → zz C E NS nL σ' (pc + 3) L (.int r :: st)) (kt : ∀ a σ', Thr a σ' → zth C E NS nL σ' pc L st (E.1.heap.size + a)) : zz C E NS nL σ pc L (.int a1 :: .ref (E.1.heap.size + 0) :: st) :=
  z_callVG hC cf0 cw_X1_told hdd (by decide) (mz_X1_told (cxE hC) hV) hd (k_0 σ) q1139 q1140 q1141 (np := 1) rfl rfl hW rfl (kT (kI k) kt)
def wp_X0_told (σ : ZS) (a1 : Int32) (Ret : Int32 → ZS → Prop) : Prop :=
    wp_X1_told σ a1 (fun x3 σ4 => ((∃ x, kK NS σ4 x3 = (12 + 7, x)) ∧ (Ret 1 σ4))) (fun r1 σ2 => ∀ σ6 : ZS, σ6 = sJ σ2 1238 (ix 0) r1.toInt64 → (Ret 0 σ6))
set_option maxHeartbeats 4000000 in
theorem mz_X0_told {l : Launch} {E : ZE} (hE : EOK E) {σ : ZS} {a1 : Int32} {Ret : Int32 → ZS → Prop} (hV : wp_X0_told σ a1 Ret) : MZ l E NS yX0_told (wsW_ yX0_told cX0_told 4 (some .int) [(0, 9, 12, 13)]) 8 σ [.ref (E.1.heap.size + 0), .int a1, .ref (E.1.heap.size + 1238)] (rI Ret) := by
  refine MZ.startW (L := [some (.ref (E.1.heap.size + 0)), some (.int a1), some (.ref (E.1.heap.size + 1238)), none]) hE (by decide) (Nat.le_of_ble_eq_true rfl) rfl fun C hCl hQo hC => ?_
  replace hC : Cx C E cX0_told 4 "RightTurnsLaw" "told" (some .int) [(0, 9, 12, 13)] 8 := hC
  unfold wp_X0_told at hV
  refine z_aload_n hC dX0_told_0 rfl rfl ?_
  refine z_iconst (v := 0) hC dX0_told_1 rfl ?_
  refine z_aload_n hC dX0_told_2 rfl rfl ?_
  refine z_iload_n hC dX0_told_3 rfl rfl ?_
  have hT5 : ∀ (x3 : Nat) (σ4 : ZS), (((∃ x, kK NS σ4 x3 = (12 + 7, x)) ∧ (Ret 1 σ4))) → zth C E NS 4 σ4 4 [some (.ref (E.1.heap.size + 0)), some (.int a1), some (.ref (E.1.heap.size + 1238)), none] [.int 0, .ref (E.1.heap.size + 1238)] (E.1.heap.size + x3) := by
    clear hV
    intro x3 σ4 hV
    obtain ⟨⟨_, hk⟩, hV⟩ := hV
    refine zth_catch0 hC (by decide) (by decide) cf12 hk q744 ?_
    refine z_astore_n hC dX0_told_12 rfl (Nat.le_of_ble_eq_true rfl) rfl rfl ?_
    refine z_iconst (v := 1) hC dX0_told_13 rfl ?_
    exact z_iret hC dX0_told_14 rfl (by rw [hQo]; exact ⟨_, rfl, hV⟩)
  refine c_X0_15 hC (by decide) dX0_told_4 (Nat.le_of_ble_eq_true rfl) hV (fun r1 σ2 hV => ?_) hT5
  refine z_i2l hC dX0_told_7 ?_
  refine z_last hC dX0_told_8 (k_1238 _) (in_dec rfl) ?_
  obtain ⟨σ6, e_σ6⟩ : ∃ z : ZS, z = sJ σ2 1238 (ix 0) r1.toInt64 := ⟨_, rfl⟩
  replace hV := hV _ e_σ6
  rw [← e_σ6]
  refine z_goto (tgt := 15) hC dX0_told_9 (by decide) ?_
  refine z_iconst (v := 0) hC dX0_told_15 rfl ?_
  exact z_iret hC dX0_told_16 rfl (by rw [hQo]; exact ⟨_, rfl, hV⟩)
theorem cw_X1_street : CodeW yX1_street (ws_ yX1_street cX1_street 4 (some .int)) 4 := ⟨fun w h => (List.mem_cons.mp h).elim (fun e => e ▸ q1151) id, Or.inl ⟨_, _, q1151⟩, q116, by decide, by decide⟩
theorem c_X0_18 {C : ZC} {E : ZE} {cc : ByteArray} {nL pc d : Nat} {nm : String} {ret : Option FieldType} {hh : List (Nat × Nat × Nat × Nat)} {σ : ZS} {L : List (Option Value)} {st : List Value} {a1 : Int32} {a2 : Int32} {Ret : Int32 → ZS → Prop} {Thr : Nat → ZS → Prop} (hC : Cx C E cc nL "RightTurnsLaw" nm ret hh d) (hdd : 7 + 1 ≤ d) (hd : decode cc pc = .ok (.invokevirtual 18, 3)) (hW : (st.map fun v => v.category).sum ≤ 8) (hV : wp_X1_street σ a1 a2 Thr Ret) (k : ∀ r σ', Ret r σ' → zz C E NS nL σ' (pc + 3) L (.int r :: st)) (kt : ∀ a σ', Thr a σ' → zth C E NS nL σ' pc L st (E.1.heap.size + a)) : zz C E NS nL σ pc L (.int a2 :: .int a1 :: .ref (E.1.heap.size + 0) :: st) :=
  z_callVG hC cf0 cw_X1_street hdd (by decide) (mz_X1_street (cxE hC) hV) hd (k_0 σ) q1148 q1149 q1150 (np := 2) rfl rfl hW rfl (kT (kI k) kt)
def wp_X0_street (σ : ZS) (a1 : Int32) (a2 : Int32) (Ret : Int32 → ZS → Prop) : Prop :=
    wp_X1_street σ a1 a2 (fun x3 σ4 => ((∃ x, kK NS σ4 x3 = (13 + 7, x)) ∧ (Ret 1 σ4)) ∨ ((∃ x, kK NS σ4 x3 = (12 + 7, x)) ∧ (Ret 2 σ4))) (fun r1 σ2 => ∀ σ6 : ZS, σ6 = sJ σ2 1238 (ix 0) r1.toInt64 → (Ret 0 σ6))
set_option maxHeartbeats 4000000 in
theorem mz_X0_street {l : Launch} {E : ZE} (hE : EOK E) {σ : ZS} {a1 : Int32} {a2 : Int32} {Ret : Int32 → ZS → Prop} (hV : wp_X0_street σ a1 a2 Ret) : MZ l E NS yX0_street (wsW_ yX0_street cX0_street 5 (some .int) [(0, 10, 13, 22), (0, 10, 17, 13)]) 8 σ [.ref (E.1.heap.size + 0), .int a1, .int a2, .ref (E.1.heap.size + 1238)] (rI Ret) := by
  refine MZ.startW (L := [some (.ref (E.1.heap.size + 0)), some (.int a1), some (.int a2), some (.ref (E.1.heap.size + 1238)), none]) hE (by decide) (Nat.le_of_ble_eq_true rfl) rfl fun C hCl hQo hC => ?_
  replace hC : Cx C E cX0_street 5 "RightTurnsLaw" "street" (some .int) [(0, 10, 13, 22), (0, 10, 17, 13)] 8 := hC
  unfold wp_X0_street at hV
  refine z_aload_n hC dX0_street_0 rfl rfl ?_
  refine z_iconst (v := 0) hC dX0_street_1 rfl ?_
  refine z_aload_n hC dX0_street_2 rfl rfl ?_
  refine z_iload_n hC dX0_street_3 rfl rfl ?_
  refine z_iload_n hC dX0_street_4 rfl rfl ?_
  have hT5 : ∀ (x3 : Nat) (σ4 : ZS), (((∃ x, kK NS σ4 x3 = (13 + 7, x)) ∧ (Ret 1 σ4)) ∨ ((∃ x, kK NS σ4 x3 = (12 + 7, x)) ∧ (Ret 2 σ4))) → zth C E NS 5 σ4 5 [some (.ref (E.1.heap.size + 0)), some (.int a1), some (.int a2), some (.ref (E.1.heap.size + 1238)), none] [.int 0, .ref (E.1.heap.size + 1238)] (E.1.heap.size + x3) := by
    clear hV
    rintro x3 σ4 (hV | hV)
    · obtain ⟨⟨_, hk⟩, hV⟩ := hV
      refine zth_catch0 hC (by decide) (by decide) cf13 hk q1147 ?_
      refine z_astore hC dX0_street_13 (Nat.le_of_ble_eq_true rfl) rfl rfl ?_
      refine z_iconst (v := 1) hC dX0_street_15 rfl ?_
      exact z_iret hC dX0_street_16 rfl (by rw [hQo]; exact ⟨_, rfl, hV⟩)
    · obtain ⟨⟨_, hk⟩, hV⟩ := hV
      refine zth_catch1 hC (by decide) (by decide) (by decide) (by decide) cf12 hk q744 q1147 (by decide +kernel) ?_
      refine z_astore hC dX0_street_17 (Nat.le_of_ble_eq_true rfl) rfl rfl ?_
      refine z_iconst (v := 2) hC dX0_street_19 rfl ?_
      exact z_iret hC dX0_street_20 rfl (by rw [hQo]; exact ⟨_, rfl, hV⟩)
  refine c_X0_18 hC (by decide) dX0_street_5 (Nat.le_of_ble_eq_true rfl) hV (fun r1 σ2 hV => ?_) hT5
  refine z_i2l hC dX0_street_8 ?_
  refine z_last hC dX0_street_9 (k_1238 _) (in_dec rfl) ?_
  obtain ⟨σ6, e_σ6⟩ : ∃ z : ZS, z = sJ σ2 1238 (ix 0) r1.toInt64 := ⟨_, rfl⟩
  replace hV := hV _ e_σ6
  rw [← e_σ6]
  refine z_goto (tgt := 21) hC dX0_street_10 (by decide) ?_
  refine z_iconst (v := 0) hC dX0_street_21 rfl ?_
  exact z_iret hC dX0_street_22 rfl (by rw [hQo]; exact ⟨_, rfl, hV⟩)
theorem cw_X1_turn : CodeW yX1_turn (ws_ yX1_turn cX1_turn 3 (some .int)) 3 := ⟨fun w h => (List.mem_cons.mp h).elim (fun e => e ▸ q1179) id, Or.inl ⟨_, _, q1179⟩, q116, by decide, by decide⟩
theorem c_X0_24 {C : ZC} {E : ZE} {cc : ByteArray} {nL pc d : Nat} {nm : String} {ret : Option FieldType} {hh : List (Nat × Nat × Nat × Nat)} {σ : ZS} {L : List (Option Value)} {st : List Value} {a1 : Int32} {a2 : Int32} {Ret : Int32 → ZS → Prop} {Thr : Nat → ZS → Prop} (hC : Cx C E cc nL "RightTurnsLaw" nm ret hh d) (hdd : 7 + 1 ≤ d) (hd : decode cc pc = .ok (.invokevirtual 24, 3)) (hW : (st.map fun v => v.category).sum ≤ 8) (hV : wp_X1_turn σ a1 a2 Thr Ret) (k : ∀ r σ', Ret r σ' → zz C E NS nL σ' (pc + 3) L (.int r :: st)) (kt : ∀ a σ', Thr a σ' → zth C E NS nL σ' pc L st (E.1.heap.size + a)) : zz C E NS nL σ pc L (.int a2 :: .int a1 :: .ref (E.1.heap.size + 0) :: st) :=
  z_callVG hC cf0 cw_X1_turn hdd (by decide) (mz_X1_turn (cxE hC) hV) hd (k_0 σ) q1176 q1177 q1178 (np := 2) rfl rfl hW rfl (kT (kI k) kt)
def wp_X0_turn (σ : ZS) (a1 : Int32) (a2 : Int32) (Ret : Int32 → ZS → Prop) : Prop :=
    wp_X1_turn σ a1 a2 (fun x3 σ4 => ((∃ x, kK NS σ4 x3 = (13 + 7, x)) ∧ (Ret 1 σ4))) (fun r1 σ2 => ∀ σ6 : ZS, σ6 = sJ σ2 1238 (ix 0) r1.toInt64 → (Ret 0 σ6))
set_option maxHeartbeats 4000000 in
theorem mz_X0_turn {l : Launch} {E : ZE} (hE : EOK E) {σ : ZS} {a1 : Int32} {a2 : Int32} {Ret : Int32 → ZS → Prop} (hV : wp_X0_turn σ a1 a2 Ret) : MZ l E NS yX0_turn (wsW_ yX0_turn cX0_turn 5 (some .int) [(0, 10, 13, 22)]) 8 σ [.ref (E.1.heap.size + 0), .int a1, .int a2, .ref (E.1.heap.size + 1238)] (rI Ret) := by
  refine MZ.startW (L := [some (.ref (E.1.heap.size + 0)), some (.int a1), some (.int a2), some (.ref (E.1.heap.size + 1238)), none]) hE (by decide) (Nat.le_of_ble_eq_true rfl) rfl fun C hCl hQo hC => ?_
  replace hC : Cx C E cX0_turn 5 "RightTurnsLaw" "turn" (some .int) [(0, 10, 13, 22)] 8 := hC
  unfold wp_X0_turn at hV
  refine z_aload_n hC dX0_turn_0 rfl rfl ?_
  refine z_iconst (v := 0) hC dX0_turn_1 rfl ?_
  refine z_aload_n hC dX0_turn_2 rfl rfl ?_
  refine z_iload_n hC dX0_turn_3 rfl rfl ?_
  refine z_iload_n hC dX0_turn_4 rfl rfl ?_
  have hT5 : ∀ (x3 : Nat) (σ4 : ZS), (((∃ x, kK NS σ4 x3 = (13 + 7, x)) ∧ (Ret 1 σ4))) → zth C E NS 5 σ4 5 [some (.ref (E.1.heap.size + 0)), some (.int a1), some (.int a2), some (.ref (E.1.heap.size + 1238)), none] [.int 0, .ref (E.1.heap.size + 1238)] (E.1.heap.size + x3) := by
    clear hV
    intro x3 σ4 hV
    obtain ⟨⟨_, hk⟩, hV⟩ := hV
    refine zth_catch0 hC (by decide) (by decide) cf13 hk q1147 ?_
    refine z_astore hC dX0_turn_13 (Nat.le_of_ble_eq_true rfl) rfl rfl ?_
    refine z_iconst (v := 1) hC dX0_turn_15 rfl ?_
    exact z_iret hC dX0_turn_16 rfl (by rw [hQo]; exact ⟨_, rfl, hV⟩)
  refine c_X0_24 hC (by decide) dX0_turn_5 (Nat.le_of_ble_eq_true rfl) hV (fun r1 σ2 hV => ?_) hT5
  refine z_i2l hC dX0_turn_8 ?_
  refine z_last hC dX0_turn_9 (k_1238 _) (in_dec rfl) ?_
  obtain ⟨σ6, e_σ6⟩ : ∃ z : ZS, z = sJ σ2 1238 (ix 0) r1.toInt64 := ⟨_, rfl⟩
  replace hV := hV _ e_σ6
  rw [← e_σ6]
  refine z_goto (tgt := 17) hC dX0_turn_10 (by decide) ?_
  refine z_iconst (v := 0) hC dX0_turn_17 rfl ?_
  exact z_iret hC dX0_turn_18 rfl (by rw [hQo]; exact ⟨_, rfl, hV⟩)
theorem cw_X1_may : CodeW yX1_may (ws_ yX1_may cX1_may 4 (some .boolean)) 4 := ⟨fun w h => (List.mem_cons.mp h).elim (fun e => e ▸ q1192) id, Or.inl ⟨_, _, q1192⟩, q116, by decide, by decide⟩
theorem c_X0_27 {C : ZC} {E : ZE} {cc : ByteArray} {nL pc d : Nat} {nm : String} {ret : Option FieldType} {hh : List (Nat × Nat × Nat × Nat)} {σ : ZS} {L : List (Option Value)} {st : List Value} {a1 : Int32} {a2 : Int32} {a3 : Int32} {Ret : Int32 → ZS → Prop} {Thr : Nat → ZS → Prop} (hC : Cx C E cc nL "RightTurnsLaw" nm ret hh d) (hdd : 8 + 1 ≤ d) (hd : decode cc pc = .ok (.invokevirtual 27, 3)) (hW : (st.map fun v => v.category).sum ≤ 8) (hV : wp_X1_may σ a1 a2 a3 Thr Ret) (k : ∀ r σ', Ret r σ' → zz C E NS nL σ' (pc + 3) L (.int r :: st)) (kt : ∀ a σ', Thr a σ' → zth C E NS nL σ' pc L st (E.1.heap.size + a)) : zz C E NS nL σ pc L (.int a3 :: .int a2 :: .int a1 :: .ref (E.1.heap.size + 0) :: st) :=
  z_callVG hC cf0 cw_X1_may hdd (by decide) (mz_X1_may (cxE hC) hV) hd (k_0 σ) q1189 q1190 q1191 (np := 3) rfl rfl hW rfl (kT (kI k) kt)
def wp_X0_may (σ : ZS) (a1 : Int32) (a2 : Int32) (a3 : Int32) (Ret : Int32 → ZS → Prop) : Prop :=
    wp_X1_may σ a1 a2 a3 (fun x3 σ4 => ((∃ x, kK NS σ4 x3 = (13 + 7, x)) ∧ (Ret 1 σ4)) ∨ ((∃ x, kK NS σ4 x3 = (12 + 7, x)) ∧ (Ret 2 σ4))) (fun r1 σ2 => ((r1 = 0 → (∀ σ6 : ZS, σ6 = sJ σ2 1238 (ix 0) 0 → (Ret 0 σ6))) ∧ (¬ r1 = 0 → (∀ σ7 : ZS, σ7 = sJ σ2 1238 (ix 0) 1 → (Ret 0 σ7)))))
set_option maxHeartbeats 4000000 in
theorem mz_X0_may {l : Launch} {E : ZE} (hE : EOK E) {σ : ZS} {a1 : Int32} {a2 : Int32} {a3 : Int32} {Ret : Int32 → ZS → Prop} (hV : wp_X0_may σ a1 a2 a3 Ret) : MZ l E NS yX0_may (wsW_ yX0_may cX0_may 6 (some .int) [(0, 19, 22, 22), (0, 19, 26, 13)]) 9 σ [.ref (E.1.heap.size + 0), .int a1, .int a2, .int a3, .ref (E.1.heap.size + 1238)] (rI Ret) := by
  refine MZ.startW (L := [some (.ref (E.1.heap.size + 0)), some (.int a1), some (.int a2), some (.int a3), some (.ref (E.1.heap.size + 1238)), none]) hE (by decide) (Nat.le_of_ble_eq_true rfl) rfl fun C hCl hQo hC => ?_
  replace hC : Cx C E cX0_may 6 "RightTurnsLaw" "may" (some .int) [(0, 19, 22, 22), (0, 19, 26, 13)] 9 := hC
  unfold wp_X0_may at hV
  refine z_aload hC dX0_may_0 rfl ?_
  refine z_iconst (v := 0) hC dX0_may_2 rfl ?_
  refine z_aload_n hC dX0_may_3 rfl rfl ?_
  refine z_iload_n hC dX0_may_4 rfl rfl ?_
  refine z_iload_n hC dX0_may_5 rfl rfl ?_
  refine z_iload_n hC dX0_may_6 rfl rfl ?_
  have hT5 : ∀ (x3 : Nat) (σ4 : ZS), (((∃ x, kK NS σ4 x3 = (13 + 7, x)) ∧ (Ret 1 σ4)) ∨ ((∃ x, kK NS σ4 x3 = (12 + 7, x)) ∧ (Ret 2 σ4))) → zth C E NS 6 σ4 7 [some (.ref (E.1.heap.size + 0)), some (.int a1), some (.int a2), some (.int a3), some (.ref (E.1.heap.size + 1238)), none] [.int 0, .ref (E.1.heap.size + 1238)] (E.1.heap.size + x3) := by
    clear hV
    rintro x3 σ4 (hV | hV)
    · obtain ⟨⟨_, hk⟩, hV⟩ := hV
      refine zth_catch0 hC (by decide) (by decide) cf13 hk q1147 ?_
      refine z_astore hC dX0_may_22 (Nat.le_of_ble_eq_true rfl) rfl rfl ?_
      refine z_iconst (v := 1) hC dX0_may_24 rfl ?_
      exact z_iret hC dX0_may_25 rfl (by rw [hQo]; exact ⟨_, rfl, hV⟩)
    · obtain ⟨⟨_, hk⟩, hV⟩ := hV
      refine zth_catch1 hC (by decide) (by decide) (by decide) (by decide) cf12 hk q744 q1147 (by decide +kernel) ?_
      refine z_astore hC dX0_may_26 (Nat.le_of_ble_eq_true rfl) rfl rfl ?_
      refine z_iconst (v := 2) hC dX0_may_28 rfl ?_
      exact z_iret hC dX0_may_29 rfl (by rw [hQo]; exact ⟨_, rfl, hV⟩)
  refine c_X0_27 hC (by decide) dX0_may_7 (Nat.le_of_ble_eq_true rfl) hV (fun r1 σ2 hV => ?_) hT5
  refine z_if_eq (tgt := 17) hC dX0_may_10 (by decide) (fun hc => ?_) (fun hc => ?_)
  · replace hV := hV.1 hc
    refine z_lconst (v := 0) hC dX0_may_17 rfl ?_
    refine z_last hC dX0_may_18 (k_1238 _) (in_dec rfl) ?_
    obtain ⟨σ6, e_σ6⟩ : ∃ z : ZS, z = sJ σ2 1238 (ix 0) 0 := ⟨_, rfl⟩
    replace hV := hV _ e_σ6
    rw [← e_σ6]
    refine z_goto (tgt := 30) hC dX0_may_19 (by decide) ?_
    refine z_iconst (v := 0) hC dX0_may_30 rfl ?_
    exact z_iret hC dX0_may_31 rfl (by rw [hQo]; exact ⟨_, rfl, hV⟩)
  · replace hV := hV.2 hc
    refine z_lconst (v := 1) hC dX0_may_13 rfl ?_
    refine z_goto (tgt := 18) hC dX0_may_14 (by decide) ?_
    refine z_last hC dX0_may_18 (k_1238 _) (in_dec rfl) ?_
    obtain ⟨σ7, e_σ7⟩ : ∃ z : ZS, z = sJ σ2 1238 (ix 0) 1 := ⟨_, rfl⟩
    replace hV := hV _ e_σ7
    rw [← e_σ7]
    refine z_goto (tgt := 30) hC dX0_may_19 (by decide) ?_
    refine z_iconst (v := 0) hC dX0_may_30 rfl ?_
    exact z_iret hC dX0_may_31 rfl (by rw [hQo]; exact ⟨_, rfl, hV⟩)
theorem cw_X1_sign : CodeW yX1_sign (ws_ yX1_sign cX1_sign 4 (some .int)) 4 := ⟨fun w h => (List.mem_cons.mp h).elim (fun e => e ▸ q1215) id, Or.inl ⟨_, _, q1215⟩, q116, by decide, by decide⟩
theorem c_X0_31 {C : ZC} {E : ZE} {cc : ByteArray} {nL pc d : Nat} {nm : String} {ret : Option FieldType} {hh : List (Nat × Nat × Nat × Nat)} {σ : ZS} {L : List (Option Value)} {st : List Value} {a1 : Int32} {a2 : Int32} {a3 : Int32} {Ret : Int32 → ZS → Prop} {Thr : Nat → ZS → Prop} (hC : Cx C E cc nL "RightTurnsLaw" nm ret hh d) (hdd : 8 + 1 ≤ d) (hd : decode cc pc = .ok (.invokevirtual 31, 3)) (hW : (st.map fun v => v.category).sum ≤ 8) (hV : wp_X1_sign σ a1 a2 a3 Thr Ret) (k : ∀ r σ', Ret r σ' → zz C E NS nL σ' (pc + 3) L (.int r :: st)) (kt : ∀ a σ', Thr a σ' → zth C E NS nL σ' pc L st (E.1.heap.size + a)) : zz C E NS nL σ pc L (.int a3 :: .int a2 :: .int a1 :: .ref (E.1.heap.size + 0) :: st) :=
  z_callVG hC cf0 cw_X1_sign hdd (by decide) (mz_X1_sign (cxE hC) hV) hd (k_0 σ) q1212 q1213 q1214 (np := 3) rfl rfl hW rfl (kT (kI k) kt)
def wp_X0_sign (σ : ZS) (a1 : Int32) (a2 : Int32) (a3 : Int32) (Ret : Int32 → ZS → Prop) : Prop :=
    wp_X1_sign σ a1 a2 a3 (fun x3 σ4 => ((∃ x, kK NS σ4 x3 = (13 + 7, x)) ∧ (Ret 1 σ4)) ∨ ((∃ x, kK NS σ4 x3 = (12 + 7, x)) ∧ (Ret 2 σ4))) (fun r1 σ2 => ∀ σ6 : ZS, σ6 = sJ σ2 1238 (ix 0) r1.toInt64 → (Ret 0 σ6))
set_option maxHeartbeats 4000000 in
theorem mz_X0_sign {l : Launch} {E : ZE} (hE : EOK E) {σ : ZS} {a1 : Int32} {a2 : Int32} {a3 : Int32} {Ret : Int32 → ZS → Prop} (hV : wp_X0_sign σ a1 a2 a3 Ret) : MZ l E NS yX0_sign (wsW_ yX0_sign cX0_sign 6 (some .int) [(0, 12, 15, 22), (0, 12, 19, 13)]) 9 σ [.ref (E.1.heap.size + 0), .int a1, .int a2, .int a3, .ref (E.1.heap.size + 1238)] (rI Ret) := by
  refine MZ.startW (L := [some (.ref (E.1.heap.size + 0)), some (.int a1), some (.int a2), some (.int a3), some (.ref (E.1.heap.size + 1238)), none]) hE (by decide) (Nat.le_of_ble_eq_true rfl) rfl fun C hCl hQo hC => ?_
  replace hC : Cx C E cX0_sign 6 "RightTurnsLaw" "sign" (some .int) [(0, 12, 15, 22), (0, 12, 19, 13)] 9 := hC
  unfold wp_X0_sign at hV
  refine z_aload hC dX0_sign_0 rfl ?_
  refine z_iconst (v := 0) hC dX0_sign_2 rfl ?_
  refine z_aload_n hC dX0_sign_3 rfl rfl ?_
  refine z_iload_n hC dX0_sign_4 rfl rfl ?_
  refine z_iload_n hC dX0_sign_5 rfl rfl ?_
  refine z_iload_n hC dX0_sign_6 rfl rfl ?_
  have hT5 : ∀ (x3 : Nat) (σ4 : ZS), (((∃ x, kK NS σ4 x3 = (13 + 7, x)) ∧ (Ret 1 σ4)) ∨ ((∃ x, kK NS σ4 x3 = (12 + 7, x)) ∧ (Ret 2 σ4))) → zth C E NS 6 σ4 7 [some (.ref (E.1.heap.size + 0)), some (.int a1), some (.int a2), some (.int a3), some (.ref (E.1.heap.size + 1238)), none] [.int 0, .ref (E.1.heap.size + 1238)] (E.1.heap.size + x3) := by
    clear hV
    rintro x3 σ4 (hV | hV)
    · obtain ⟨⟨_, hk⟩, hV⟩ := hV
      refine zth_catch0 hC (by decide) (by decide) cf13 hk q1147 ?_
      refine z_astore hC dX0_sign_15 (Nat.le_of_ble_eq_true rfl) rfl rfl ?_
      refine z_iconst (v := 1) hC dX0_sign_17 rfl ?_
      exact z_iret hC dX0_sign_18 rfl (by rw [hQo]; exact ⟨_, rfl, hV⟩)
    · obtain ⟨⟨_, hk⟩, hV⟩ := hV
      refine zth_catch1 hC (by decide) (by decide) (by decide) (by decide) cf12 hk q744 q1147 (by decide +kernel) ?_
      refine z_astore hC dX0_sign_19 (Nat.le_of_ble_eq_true rfl) rfl rfl ?_
      refine z_iconst (v := 2) hC dX0_sign_21 rfl ?_
      exact z_iret hC dX0_sign_22 rfl (by rw [hQo]; exact ⟨_, rfl, hV⟩)
  refine c_X0_31 hC (by decide) dX0_sign_7 (Nat.le_of_ble_eq_true rfl) hV (fun r1 σ2 hV => ?_) hT5
  refine z_i2l hC dX0_sign_10 ?_
  refine z_last hC dX0_sign_11 (k_1238 _) (in_dec rfl) ?_
  obtain ⟨σ6, e_σ6⟩ : ∃ z : ZS, z = sJ σ2 1238 (ix 0) r1.toInt64 := ⟨_, rfl⟩
  replace hV := hV _ e_σ6
  rw [← e_σ6]
  refine z_goto (tgt := 23) hC dX0_sign_12 (by decide) ?_
  refine z_iconst (v := 0) hC dX0_sign_23 rfl ?_
  exact z_iret hC dX0_sign_24 rfl (by rw [hQo]; exact ⟨_, rfl, hV⟩)
theorem cw_X1_allow : CodeW yX1_allow (ws_ yX1_allow cX1_allow 4 (some .int)) 4 := ⟨fun w h => (List.mem_cons.mp h).elim (fun e => e ▸ q1231) id, Or.inl ⟨_, _, q1231⟩, q116, by decide, by decide⟩
theorem c_X0_35 {C : ZC} {E : ZE} {cc : ByteArray} {nL pc d : Nat} {nm : String} {ret : Option FieldType} {hh : List (Nat × Nat × Nat × Nat)} {σ : ZS} {L : List (Option Value)} {st : List Value} {a1 : Int32} {a2 : Int32} {a3 : Int32} {Ret : Int32 → ZS → Prop} {Thr : Nat → ZS → Prop} (hC : Cx C E cc nL "RightTurnsLaw" nm ret hh d) (hdd : 8 + 1 ≤ d) (hd : decode cc pc = .ok (.invokevirtual 35, 3)) (hW : (st.map fun v => v.category).sum ≤ 8) (hV : wp_X1_allow σ a1 a2 a3 Thr Ret) (k : ∀ r σ', Ret r σ' → zz C E NS nL σ' (pc + 3) L (.int r :: st)) (kt : ∀ a σ', Thr a σ' → zth C E NS nL σ' pc L st (E.1.heap.size + a)) : zz C E NS nL σ pc L (.int a3 :: .int a2 :: .int a1 :: .ref (E.1.heap.size + 0) :: st) :=
  z_callVG hC cf0 cw_X1_allow hdd (by decide) (mz_X1_allow (cxE hC) hV) hd (k_0 σ) q1228 q1229 q1230 (np := 3) rfl rfl hW rfl (kT (kI k) kt)
def wp_X0_allow (σ : ZS) (a1 : Int32) (a2 : Int32) (a3 : Int32) (Ret : Int32 → ZS → Prop) : Prop :=
    wp_X1_allow σ a1 a2 a3 (fun x3 σ4 => ((∃ x, kK NS σ4 x3 = (13 + 7, x)) ∧ (Ret 1 σ4)) ∨ ((∃ x, kK NS σ4 x3 = (12 + 7, x)) ∧ (Ret 2 σ4))) (fun r1 σ2 => ∀ σ6 : ZS, σ6 = sJ σ2 1238 (ix 0) r1.toInt64 → (Ret 0 σ6))
set_option maxHeartbeats 4000000 in
theorem mz_X0_allow {l : Launch} {E : ZE} (hE : EOK E) {σ : ZS} {a1 : Int32} {a2 : Int32} {a3 : Int32} {Ret : Int32 → ZS → Prop} (hV : wp_X0_allow σ a1 a2 a3 Ret) : MZ l E NS yX0_allow (wsW_ yX0_allow cX0_allow 6 (some .int) [(0, 12, 15, 22), (0, 12, 19, 13)]) 9 σ [.ref (E.1.heap.size + 0), .int a1, .int a2, .int a3, .ref (E.1.heap.size + 1238)] (rI Ret) := by
  refine MZ.startW (L := [some (.ref (E.1.heap.size + 0)), some (.int a1), some (.int a2), some (.int a3), some (.ref (E.1.heap.size + 1238)), none]) hE (by decide) (Nat.le_of_ble_eq_true rfl) rfl fun C hCl hQo hC => ?_
  replace hC : Cx C E cX0_allow 6 "RightTurnsLaw" "allow" (some .int) [(0, 12, 15, 22), (0, 12, 19, 13)] 9 := hC
  unfold wp_X0_allow at hV
  refine z_aload hC dX0_allow_0 rfl ?_
  refine z_iconst (v := 0) hC dX0_allow_2 rfl ?_
  refine z_aload_n hC dX0_allow_3 rfl rfl ?_
  refine z_iload_n hC dX0_allow_4 rfl rfl ?_
  refine z_iload_n hC dX0_allow_5 rfl rfl ?_
  refine z_iload_n hC dX0_allow_6 rfl rfl ?_
  have hT5 : ∀ (x3 : Nat) (σ4 : ZS), (((∃ x, kK NS σ4 x3 = (13 + 7, x)) ∧ (Ret 1 σ4)) ∨ ((∃ x, kK NS σ4 x3 = (12 + 7, x)) ∧ (Ret 2 σ4))) → zth C E NS 6 σ4 7 [some (.ref (E.1.heap.size + 0)), some (.int a1), some (.int a2), some (.int a3), some (.ref (E.1.heap.size + 1238)), none] [.int 0, .ref (E.1.heap.size + 1238)] (E.1.heap.size + x3) := by
    clear hV
    rintro x3 σ4 (hV | hV)
    · obtain ⟨⟨_, hk⟩, hV⟩ := hV
      refine zth_catch0 hC (by decide) (by decide) cf13 hk q1147 ?_
      refine z_astore hC dX0_allow_15 (Nat.le_of_ble_eq_true rfl) rfl rfl ?_
      refine z_iconst (v := 1) hC dX0_allow_17 rfl ?_
      exact z_iret hC dX0_allow_18 rfl (by rw [hQo]; exact ⟨_, rfl, hV⟩)
    · obtain ⟨⟨_, hk⟩, hV⟩ := hV
      refine zth_catch1 hC (by decide) (by decide) (by decide) (by decide) cf12 hk q744 q1147 (by decide +kernel) ?_
      refine z_astore hC dX0_allow_19 (Nat.le_of_ble_eq_true rfl) rfl rfl ?_
      refine z_iconst (v := 2) hC dX0_allow_21 rfl ?_
      exact z_iret hC dX0_allow_22 rfl (by rw [hQo]; exact ⟨_, rfl, hV⟩)
  refine c_X0_35 hC (by decide) dX0_allow_7 (Nat.le_of_ble_eq_true rfl) hV (fun r1 σ2 hV => ?_) hT5
  refine z_i2l hC dX0_allow_10 ?_
  refine z_last hC dX0_allow_11 (k_1238 _) (in_dec rfl) ?_
  obtain ⟨σ6, e_σ6⟩ : ∃ z : ZS, z = sJ σ2 1238 (ix 0) r1.toInt64 := ⟨_, rfl⟩
  replace hV := hV _ e_σ6
  rw [← e_σ6]
  refine z_goto (tgt := 23) hC dX0_allow_12 (by decide) ?_
  refine z_iconst (v := 0) hC dX0_allow_23 rfl ?_
  exact z_iret hC dX0_allow_24 rfl (by rw [hQo]; exact ⟨_, rfl, hV⟩)
theorem cw_X1_back : CodeW yX1_back (ws_ yX1_back cX1_back 2 (some .int)) 2 := ⟨fun w h => (List.mem_cons.mp h).elim (fun e => e ▸ q1238) id, Or.inl ⟨_, _, q1238⟩, q116, by decide, by decide⟩
theorem c_X0_38 {C : ZC} {E : ZE} {cc : ByteArray} {nL pc d : Nat} {nm : String} {ret : Option FieldType} {hh : List (Nat × Nat × Nat × Nat)} {σ : ZS} {L : List (Option Value)} {st : List Value} {a1 : Int32} {Ret : Int32 → ZS → Prop} {Thr : Nat → ZS → Prop} (hC : Cx C E cc nL "RightTurnsLaw" nm ret hh d) (hdd : 7 + 1 ≤ d) (hd : decode cc pc = .ok (.invokevirtual 38, 3)) (hW : (st.map fun v => v.category).sum ≤ 8) (hV : wp_X1_back σ a1 Thr Ret) (k : ∀ r σ', Ret r σ' → zz C E NS nL σ' (pc + 3) L (.int r :: st)) (kt : ∀ a σ', Thr a σ' → zth C E NS nL σ' pc L st (E.1.heap.size + a)) : zz C E NS nL σ pc L (.int a1 :: .ref (E.1.heap.size + 0) :: st) :=
  z_callVG hC cf0 cw_X1_back hdd (by decide) (mz_X1_back (cxE hC) hV) hd (k_0 σ) q1235 q1236 q1237 (np := 1) rfl rfl hW rfl (kT (kI k) kt)
def wp_X0_back (σ : ZS) (a1 : Int32) (Ret : Int32 → ZS → Prop) : Prop :=
    wp_X1_back σ a1 (fun x3 σ4 => ((∃ x, kK NS σ4 x3 = (12 + 7, x)) ∧ (Ret 1 σ4))) (fun r1 σ2 => ∀ σ6 : ZS, σ6 = sJ σ2 1238 (ix 0) r1.toInt64 → (Ret 0 σ6))
set_option maxHeartbeats 4000000 in
theorem mz_X0_back {l : Launch} {E : ZE} (hE : EOK E) {σ : ZS} {a1 : Int32} {Ret : Int32 → ZS → Prop} (hV : wp_X0_back σ a1 Ret) : MZ l E NS yX0_back (wsW_ yX0_back cX0_back 4 (some .int) [(0, 9, 12, 13)]) 8 σ [.ref (E.1.heap.size + 0), .int a1, .ref (E.1.heap.size + 1238)] (rI Ret) := by
  refine MZ.startW (L := [some (.ref (E.1.heap.size + 0)), some (.int a1), some (.ref (E.1.heap.size + 1238)), none]) hE (by decide) (Nat.le_of_ble_eq_true rfl) rfl fun C hCl hQo hC => ?_
  replace hC : Cx C E cX0_back 4 "RightTurnsLaw" "back" (some .int) [(0, 9, 12, 13)] 8 := hC
  unfold wp_X0_back at hV
  refine z_aload_n hC dX0_back_0 rfl rfl ?_
  refine z_iconst (v := 0) hC dX0_back_1 rfl ?_
  refine z_aload_n hC dX0_back_2 rfl rfl ?_
  refine z_iload_n hC dX0_back_3 rfl rfl ?_
  have hT5 : ∀ (x3 : Nat) (σ4 : ZS), (((∃ x, kK NS σ4 x3 = (12 + 7, x)) ∧ (Ret 1 σ4))) → zth C E NS 4 σ4 4 [some (.ref (E.1.heap.size + 0)), some (.int a1), some (.ref (E.1.heap.size + 1238)), none] [.int 0, .ref (E.1.heap.size + 1238)] (E.1.heap.size + x3) := by
    clear hV
    intro x3 σ4 hV
    obtain ⟨⟨_, hk⟩, hV⟩ := hV
    refine zth_catch0 hC (by decide) (by decide) cf12 hk q744 ?_
    refine z_astore_n hC dX0_back_12 rfl (Nat.le_of_ble_eq_true rfl) rfl rfl ?_
    refine z_iconst (v := 1) hC dX0_back_13 rfl ?_
    exact z_iret hC dX0_back_14 rfl (by rw [hQo]; exact ⟨_, rfl, hV⟩)
  refine c_X0_38 hC (by decide) dX0_back_4 (Nat.le_of_ble_eq_true rfl) hV (fun r1 σ2 hV => ?_) hT5
  refine z_i2l hC dX0_back_7 ?_
  refine z_last hC dX0_back_8 (k_1238 _) (in_dec rfl) ?_
  obtain ⟨σ6, e_σ6⟩ : ∃ z : ZS, z = sJ σ2 1238 (ix 0) r1.toInt64 := ⟨_, rfl⟩
  replace hV := hV _ e_σ6
  rw [← e_σ6]
  refine z_goto (tgt := 15) hC dX0_back_9 (by decide) ?_
  refine z_iconst (v := 0) hC dX0_back_15 rfl ?_
  exact z_iret hC dX0_back_16 rfl (by rw [hQo]; exact ⟨_, rfl, hV⟩)
theorem cw_X1_stands : CodeW yX1_stands (ws_ yX1_stands cX1_stands 5 (some .boolean)) 5 := ⟨fun w h => (List.mem_cons.mp h).elim (fun e => e ▸ q1245) id, Or.inl ⟨_, _, q1245⟩, q116, by decide, by decide⟩
theorem c_X0_41 {C : ZC} {E : ZE} {cc : ByteArray} {nL pc d : Nat} {nm : String} {ret : Option FieldType} {hh : List (Nat × Nat × Nat × Nat)} {σ : ZS} {L : List (Option Value)} {st : List Value} {a1 : Int32} {a2 : Int32} {a3 : Int32} {a4 : Int32} {Ret : Int32 → ZS → Prop} {Thr : Nat → ZS → Prop} (hC : Cx C E cc nL "RightTurnsLaw" nm ret hh d) (hdd : 7 + 1 ≤ d) (hd : decode cc pc = .ok (.invokevirtual 41, 3)) (hW : (st.map fun v => v.category).sum ≤ 8) (hV : wp_X1_stands σ a1 a2 a3 a4 Thr Ret) (k : ∀ r σ', Ret r σ' → zz C E NS nL σ' (pc + 3) L (.int r :: st)) (kt : ∀ a σ', Thr a σ' → zth C E NS nL σ' pc L st (E.1.heap.size + a)) : zz C E NS nL σ pc L (.int a4 :: .int a3 :: .int a2 :: .int a1 :: .ref (E.1.heap.size + 0) :: st) :=
  z_callVG hC cf0 cw_X1_stands hdd (by decide) (mz_X1_stands (cxE hC) hV) hd (k_0 σ) q1242 q1243 q1244 (np := 4) rfl rfl hW rfl (kT (kI k) kt)
def wp_X0_stands (σ : ZS) (a1 : Int32) (a2 : Int32) (a3 : Int32) (a4 : Int32) (Ret : Int32 → ZS → Prop) : Prop :=
    wp_X1_stands σ a1 a2 a3 a4 (fun x3 σ4 => ((∃ x, kK NS σ4 x3 = (13 + 7, x)) ∧ (Ret 1 σ4)) ∨ ((∃ x, kK NS σ4 x3 = (12 + 7, x)) ∧ (Ret 2 σ4))) (fun r1 σ2 => ((r1 = 0 → (∀ σ6 : ZS, σ6 = sJ σ2 1238 (ix 0) 0 → (Ret 0 σ6))) ∧ (¬ r1 = 0 → (∀ σ7 : ZS, σ7 = sJ σ2 1238 (ix 0) 1 → (Ret 0 σ7)))))
set_option maxHeartbeats 4000000 in
theorem mz_X0_stands {l : Launch} {E : ZE} (hE : EOK E) {σ : ZS} {a1 : Int32} {a2 : Int32} {a3 : Int32} {a4 : Int32} {Ret : Int32 → ZS → Prop} (hV : wp_X0_stands σ a1 a2 a3 a4 Ret) : MZ l E NS yX0_stands (wsW_ yX0_stands cX0_stands 7 (some .int) [(0, 21, 24, 22), (0, 21, 28, 13)]) 8 σ [.ref (E.1.heap.size + 0), .int a1, .int a2, .int a3, .int a4, .ref (E.1.heap.size + 1238)] (rI Ret) := by
  refine MZ.startW (L := [some (.ref (E.1.heap.size + 0)), some (.int a1), some (.int a2), some (.int a3), some (.int a4), some (.ref (E.1.heap.size + 1238)), none]) hE (by decide) (Nat.le_of_ble_eq_true rfl) rfl fun C hCl hQo hC => ?_
  replace hC : Cx C E cX0_stands 7 "RightTurnsLaw" "stands" (some .int) [(0, 21, 24, 22), (0, 21, 28, 13)] 8 := hC
  unfold wp_X0_stands at hV
  refine z_aload hC dX0_stands_0 rfl ?_
  refine z_iconst (v := 0) hC dX0_stands_2 rfl ?_
  refine z_aload_n hC dX0_stands_3 rfl rfl ?_
  refine z_iload_n hC dX0_stands_4 rfl rfl ?_
  refine z_iload_n hC dX0_stands_5 rfl rfl ?_
  refine z_iload_n hC dX0_stands_6 rfl rfl ?_
  refine z_iload hC dX0_stands_7 rfl ?_
  have hT5 : ∀ (x3 : Nat) (σ4 : ZS), (((∃ x, kK NS σ4 x3 = (13 + 7, x)) ∧ (Ret 1 σ4)) ∨ ((∃ x, kK NS σ4 x3 = (12 + 7, x)) ∧ (Ret 2 σ4))) → zth C E NS 7 σ4 9 [some (.ref (E.1.heap.size + 0)), some (.int a1), some (.int a2), some (.int a3), some (.int a4), some (.ref (E.1.heap.size + 1238)), none] [.int 0, .ref (E.1.heap.size + 1238)] (E.1.heap.size + x3) := by
    clear hV
    rintro x3 σ4 (hV | hV)
    · obtain ⟨⟨_, hk⟩, hV⟩ := hV
      refine zth_catch0 hC (by decide) (by decide) cf13 hk q1147 ?_
      refine z_astore hC dX0_stands_24 (Nat.le_of_ble_eq_true rfl) rfl rfl ?_
      refine z_iconst (v := 1) hC dX0_stands_26 rfl ?_
      exact z_iret hC dX0_stands_27 rfl (by rw [hQo]; exact ⟨_, rfl, hV⟩)
    · obtain ⟨⟨_, hk⟩, hV⟩ := hV
      refine zth_catch1 hC (by decide) (by decide) (by decide) (by decide) cf12 hk q744 q1147 (by decide +kernel) ?_
      refine z_astore hC dX0_stands_28 (Nat.le_of_ble_eq_true rfl) rfl rfl ?_
      refine z_iconst (v := 2) hC dX0_stands_30 rfl ?_
      exact z_iret hC dX0_stands_31 rfl (by rw [hQo]; exact ⟨_, rfl, hV⟩)
  refine c_X0_41 hC (by decide) dX0_stands_9 (Nat.le_of_ble_eq_true rfl) hV (fun r1 σ2 hV => ?_) hT5
  refine z_if_eq (tgt := 19) hC dX0_stands_12 (by decide) (fun hc => ?_) (fun hc => ?_)
  · replace hV := hV.1 hc
    refine z_lconst (v := 0) hC dX0_stands_19 rfl ?_
    refine z_last hC dX0_stands_20 (k_1238 _) (in_dec rfl) ?_
    obtain ⟨σ6, e_σ6⟩ : ∃ z : ZS, z = sJ σ2 1238 (ix 0) 0 := ⟨_, rfl⟩
    replace hV := hV _ e_σ6
    rw [← e_σ6]
    refine z_goto (tgt := 32) hC dX0_stands_21 (by decide) ?_
    refine z_iconst (v := 0) hC dX0_stands_32 rfl ?_
    exact z_iret hC dX0_stands_33 rfl (by rw [hQo]; exact ⟨_, rfl, hV⟩)
  · replace hV := hV.2 hc
    refine z_lconst (v := 1) hC dX0_stands_15 rfl ?_
    refine z_goto (tgt := 20) hC dX0_stands_16 (by decide) ?_
    refine z_last hC dX0_stands_20 (k_1238 _) (in_dec rfl) ?_
    obtain ⟨σ7, e_σ7⟩ : ∃ z : ZS, z = sJ σ2 1238 (ix 0) 1 := ⟨_, rfl⟩
    replace hV := hV _ e_σ7
    rw [← e_σ7]
    refine z_goto (tgt := 32) hC dX0_stands_21 (by decide) ?_
    refine z_iconst (v := 0) hC dX0_stands_32 rfl ?_
    exact z_iret hC dX0_stands_33 rfl (by rw [hQo]; exact ⟨_, rfl, hV⟩)
theorem cw_X1_ride : CodeW yX1_ride (ws_ yX1_ride cX1_ride 4 (some .int)) 4 := ⟨fun w h => (List.mem_cons.mp h).elim (fun e => e ▸ q1271) id, Or.inl ⟨_, _, q1271⟩, q116, by decide, by decide⟩
theorem c_X0_45 {C : ZC} {E : ZE} {cc : ByteArray} {nL pc d : Nat} {nm : String} {ret : Option FieldType} {hh : List (Nat × Nat × Nat × Nat)} {σ : ZS} {L : List (Option Value)} {st : List Value} {a1 : Int32} {a2 : Int32} {a3 : Int32} {Ret : Int32 → ZS → Prop} {Thr : Nat → ZS → Prop} (hC : Cx C E cc nL "RightTurnsLaw" nm ret hh d) (hdd : 10 + 1 ≤ d) (hd : decode cc pc = .ok (.invokevirtual 45, 3)) (hW : (st.map fun v => v.category).sum ≤ 8) (hV : wp_X1_ride σ a1 a2 a3 Thr Ret) (k : ∀ r σ', Ret r σ' → zz C E NS nL σ' (pc + 3) L (.int r :: st)) (kt : ∀ a σ', Thr a σ' → zth C E NS nL σ' pc L st (E.1.heap.size + a)) : zz C E NS nL σ pc L (.int a3 :: .int a2 :: .int a1 :: .ref (E.1.heap.size + 0) :: st) :=
  z_callVG hC cf0 cw_X1_ride hdd (by decide) (mz_X1_ride (cxE hC) hV) hd (k_0 σ) q1268 q1269 q1270 (np := 3) rfl rfl hW rfl (kT (kI k) kt)
def wp_X0_ride (σ : ZS) (a1 : Int32) (a2 : Int32) (a3 : Int32) (Ret : Int32 → ZS → Prop) : Prop :=
    wp_X1_ride σ a1 a2 a3 (fun x3 σ4 => ((∃ x, kK NS σ4 x3 = (14 + 7, x)) ∧ (Ret 1 σ4)) ∨ ((∃ x, kK NS σ4 x3 = (12 + 7, x)) ∧ (Ret 2 σ4))) (fun r1 σ2 => ∀ σ6 : ZS, σ6 = sJ σ2 1238 (ix 0) r1.toInt64 → (Ret 0 σ6))
set_option maxHeartbeats 4000000 in
theorem mz_X0_ride {l : Launch} {E : ZE} (hE : EOK E) {σ : ZS} {a1 : Int32} {a2 : Int32} {a3 : Int32} {Ret : Int32 → ZS → Prop} (hV : wp_X0_ride σ a1 a2 a3 Ret) : MZ l E NS yX0_ride (wsW_ yX0_ride cX0_ride 6 (some .int) [(0, 12, 15, 49), (0, 12, 19, 13)]) 11 σ [.ref (E.1.heap.size + 0), .int a1, .int a2, .int a3, .ref (E.1.heap.size + 1238)] (rI Ret) := by
  refine MZ.startW (L := [some (.ref (E.1.heap.size + 0)), some (.int a1), some (.int a2), some (.int a3), some (.ref (E.1.heap.size + 1238)), none]) hE (by decide) (Nat.le_of_ble_eq_true rfl) rfl fun C hCl hQo hC => ?_
  replace hC : Cx C E cX0_ride 6 "RightTurnsLaw" "ride" (some .int) [(0, 12, 15, 49), (0, 12, 19, 13)] 11 := hC
  unfold wp_X0_ride at hV
  refine z_aload hC dX0_ride_0 rfl ?_
  refine z_iconst (v := 0) hC dX0_ride_2 rfl ?_
  refine z_aload_n hC dX0_ride_3 rfl rfl ?_
  refine z_iload_n hC dX0_ride_4 rfl rfl ?_
  refine z_iload_n hC dX0_ride_5 rfl rfl ?_
  refine z_iload_n hC dX0_ride_6 rfl rfl ?_
  have hT5 : ∀ (x3 : Nat) (σ4 : ZS), (((∃ x, kK NS σ4 x3 = (14 + 7, x)) ∧ (Ret 1 σ4)) ∨ ((∃ x, kK NS σ4 x3 = (12 + 7, x)) ∧ (Ret 2 σ4))) → zth C E NS 6 σ4 7 [some (.ref (E.1.heap.size + 0)), some (.int a1), some (.int a2), some (.int a3), some (.ref (E.1.heap.size + 1238)), none] [.int 0, .ref (E.1.heap.size + 1238)] (E.1.heap.size + x3) := by
    clear hV
    rintro x3 σ4 (hV | hV)
    · obtain ⟨⟨_, hk⟩, hV⟩ := hV
      refine zth_catch0 hC (by decide) (by decide) cf14 hk q1249 ?_
      refine z_astore hC dX0_ride_15 (Nat.le_of_ble_eq_true rfl) rfl rfl ?_
      refine z_iconst (v := 1) hC dX0_ride_17 rfl ?_
      exact z_iret hC dX0_ride_18 rfl (by rw [hQo]; exact ⟨_, rfl, hV⟩)
    · obtain ⟨⟨_, hk⟩, hV⟩ := hV
      refine zth_catch1 hC (by decide) (by decide) (by decide) (by decide) cf12 hk q744 q1249 (by decide +kernel) ?_
      refine z_astore hC dX0_ride_19 (Nat.le_of_ble_eq_true rfl) rfl rfl ?_
      refine z_iconst (v := 2) hC dX0_ride_21 rfl ?_
      exact z_iret hC dX0_ride_22 rfl (by rw [hQo]; exact ⟨_, rfl, hV⟩)
  refine c_X0_45 hC (by decide) dX0_ride_7 (Nat.le_of_ble_eq_true rfl) hV (fun r1 σ2 hV => ?_) hT5
  refine z_i2l hC dX0_ride_10 ?_
  refine z_last hC dX0_ride_11 (k_1238 _) (in_dec rfl) ?_
  obtain ⟨σ6, e_σ6⟩ : ∃ z : ZS, z = sJ σ2 1238 (ix 0) r1.toInt64 := ⟨_, rfl⟩
  replace hV := hV _ e_σ6
  rw [← e_σ6]
  refine z_goto (tgt := 23) hC dX0_ride_12 (by decide) ?_
  refine z_iconst (v := 0) hC dX0_ride_23 rfl ?_
  exact z_iret hC dX0_ride_24 rfl (by rw [hQo]; exact ⟨_, rfl, hV⟩)
theorem cw_X1_step : CodeW yX1_step (ws_ yX1_step cX1_step 6 (some .int)) 6 := ⟨fun w h => (List.mem_cons.mp h).elim (fun e => e ▸ q1318) id, Or.inl ⟨_, _, q1318⟩, q116, by decide, by decide⟩
theorem c_X0_51 {C : ZC} {E : ZE} {cc : ByteArray} {nL pc d : Nat} {nm : String} {ret : Option FieldType} {hh : List (Nat × Nat × Nat × Nat)} {σ : ZS} {L : List (Option Value)} {st : List Value} {a1 : Int32} {a2 : Int32} {a3 : Int32} {a4 : Int32} {Ret : Int32 → ZS → Prop} {Thr : Nat → ZS → Prop} (hC : Cx C E cc nL "RightTurnsLaw" nm ret hh d) (hdd : 11 + 1 ≤ d) (hd : decode cc pc = .ok (.invokevirtual 51, 3)) (hW : (st.map fun v => v.category).sum ≤ 8) (hV : wp_X1_step σ a1 a2 a3 a4 Thr Ret) (k : ∀ r σ', Ret r σ' → zz C E NS nL σ' (pc + 3) L (.int r :: st)) (kt : ∀ a σ', Thr a σ' → zth C E NS nL σ' pc L st (E.1.heap.size + a)) : zz C E NS nL σ pc L (.int a4 :: .int a3 :: .int a2 :: .int a1 :: .ref (E.1.heap.size + 0) :: st) :=
  z_callVG hC cf0 cw_X1_step hdd (by decide) (mz_X1_step (cxE hC) hV) hd (k_0 σ) q1315 q1316 q1317 (np := 4) rfl rfl hW rfl (kT (kI k) kt)
def wp_X0_step (σ : ZS) (a1 : Int32) (a2 : Int32) (a3 : Int32) (a4 : Int32) (Ret : Int32 → ZS → Prop) : Prop :=
    wp_X1_step σ a1 a2 a3 a4 (fun x3 σ4 => ((∃ x, kK NS σ4 x3 = (14 + 7, x)) ∧ (Ret 1 σ4)) ∨ ((∃ x, kK NS σ4 x3 = (12 + 7, x)) ∧ (Ret 2 σ4))) (fun r1 σ2 => ∀ σ6 : ZS, σ6 = sJ σ2 1238 (ix 0) r1.toInt64 → (Ret 0 σ6))
set_option maxHeartbeats 4000000 in
theorem mz_X0_step {l : Launch} {E : ZE} (hE : EOK E) {σ : ZS} {a1 : Int32} {a2 : Int32} {a3 : Int32} {a4 : Int32} {Ret : Int32 → ZS → Prop} (hV : wp_X0_step σ a1 a2 a3 a4 Ret) : MZ l E NS yX0_step (wsW_ yX0_step cX0_step 7 (some .int) [(0, 14, 17, 49), (0, 14, 21, 13)]) 12 σ [.ref (E.1.heap.size + 0), .int a1, .int a2, .int a3, .int a4, .ref (E.1.heap.size + 1238)] (rI Ret) := by
  refine MZ.startW (L := [some (.ref (E.1.heap.size + 0)), some (.int a1), some (.int a2), some (.int a3), some (.int a4), some (.ref (E.1.heap.size + 1238)), none]) hE (by decide) (Nat.le_of_ble_eq_true rfl) rfl fun C hCl hQo hC => ?_
  replace hC : Cx C E cX0_step 7 "RightTurnsLaw" "step" (some .int) [(0, 14, 17, 49), (0, 14, 21, 13)] 12 := hC
  unfold wp_X0_step at hV
  refine z_aload hC dX0_step_0 rfl ?_
  refine z_iconst (v := 0) hC dX0_step_2 rfl ?_
  refine z_aload_n hC dX0_step_3 rfl rfl ?_
  refine z_iload_n hC dX0_step_4 rfl rfl ?_
  refine z_iload_n hC dX0_step_5 rfl rfl ?_
  refine z_iload_n hC dX0_step_6 rfl rfl ?_
  refine z_iload hC dX0_step_7 rfl ?_
  have hT5 : ∀ (x3 : Nat) (σ4 : ZS), (((∃ x, kK NS σ4 x3 = (14 + 7, x)) ∧ (Ret 1 σ4)) ∨ ((∃ x, kK NS σ4 x3 = (12 + 7, x)) ∧ (Ret 2 σ4))) → zth C E NS 7 σ4 9 [some (.ref (E.1.heap.size + 0)), some (.int a1), some (.int a2), some (.int a3), some (.int a4), some (.ref (E.1.heap.size + 1238)), none] [.int 0, .ref (E.1.heap.size + 1238)] (E.1.heap.size + x3) := by
    clear hV
    rintro x3 σ4 (hV | hV)
    · obtain ⟨⟨_, hk⟩, hV⟩ := hV
      refine zth_catch0 hC (by decide) (by decide) cf14 hk q1249 ?_
      refine z_astore hC dX0_step_17 (Nat.le_of_ble_eq_true rfl) rfl rfl ?_
      refine z_iconst (v := 1) hC dX0_step_19 rfl ?_
      exact z_iret hC dX0_step_20 rfl (by rw [hQo]; exact ⟨_, rfl, hV⟩)
    · obtain ⟨⟨_, hk⟩, hV⟩ := hV
      refine zth_catch1 hC (by decide) (by decide) (by decide) (by decide) cf12 hk q744 q1249 (by decide +kernel) ?_
      refine z_astore hC dX0_step_21 (Nat.le_of_ble_eq_true rfl) rfl rfl ?_
      refine z_iconst (v := 2) hC dX0_step_23 rfl ?_
      exact z_iret hC dX0_step_24 rfl (by rw [hQo]; exact ⟨_, rfl, hV⟩)
  refine c_X0_51 hC (by decide) dX0_step_9 (Nat.le_of_ble_eq_true rfl) hV (fun r1 σ2 hV => ?_) hT5
  refine z_i2l hC dX0_step_12 ?_
  refine z_last hC dX0_step_13 (k_1238 _) (in_dec rfl) ?_
  obtain ⟨σ6, e_σ6⟩ : ∃ z : ZS, z = sJ σ2 1238 (ix 0) r1.toInt64 := ⟨_, rfl⟩
  replace hV := hV _ e_σ6
  rw [← e_σ6]
  refine z_goto (tgt := 25) hC dX0_step_14 (by decide) ?_
  refine z_iconst (v := 0) hC dX0_step_25 rfl ?_
  exact z_iret hC dX0_step_26 rfl (by rw [hQo]; exact ⟨_, rfl, hV⟩)
theorem cw_X1_reach : CodeW yX1_reach (ws_ yX1_reach cX1_reach 6 (some .int)) 6 := ⟨fun w h => (List.mem_cons.mp h).elim (fun e => e ▸ q1333) id, Or.inl ⟨_, _, q1333⟩, q116, by decide, by decide⟩
theorem c_X0_55 {C : ZC} {E : ZE} {cc : ByteArray} {nL pc d : Nat} {nm : String} {ret : Option FieldType} {hh : List (Nat × Nat × Nat × Nat)} {σ : ZS} {L : List (Option Value)} {st : List Value} {a1 : Int32} {a2 : Int32} {a3 : Int32} {Ret : Int32 → ZS → Prop} {Thr : Nat → ZS → Prop} (hC : Cx C E cc nL "RightTurnsLaw" nm ret hh d) (hdd : 11 + 1 ≤ d) (hd : decode cc pc = .ok (.invokevirtual 55, 3)) (hW : (st.map fun v => v.category).sum ≤ 8) (hV : wp_X1_reach σ a1 a2 a3 Thr Ret) (k : ∀ r σ', Ret r σ' → zz C E NS nL σ' (pc + 3) L (.int r :: st)) (kt : ∀ a σ', Thr a σ' → zth C E NS nL σ' pc L st (E.1.heap.size + a)) : zz C E NS nL σ pc L (.int a3 :: .int a2 :: .int a1 :: .ref (E.1.heap.size + 0) :: st) :=
  z_callVG hC cf0 cw_X1_reach hdd (by decide) (mz_X1_reach (cxE hC) hV) hd (k_0 σ) q1330 q1331 q1332 (np := 3) rfl rfl hW rfl (kT (kI k) kt)
def wp_X0_reach (σ : ZS) (a1 : Int32) (a2 : Int32) (a3 : Int32) (Ret : Int32 → ZS → Prop) : Prop :=
    wp_X1_reach σ a1 a2 a3 (fun x3 σ4 => ((∃ x, kK NS σ4 x3 = (14 + 7, x)) ∧ (Ret 1 σ4)) ∨ ((∃ x, kK NS σ4 x3 = (12 + 7, x)) ∧ (Ret 2 σ4))) (fun r1 σ2 => ∀ σ6 : ZS, σ6 = sJ σ2 1238 (ix 0) r1.toInt64 → (Ret 0 σ6))
set_option maxHeartbeats 4000000 in
theorem mz_X0_reach {l : Launch} {E : ZE} (hE : EOK E) {σ : ZS} {a1 : Int32} {a2 : Int32} {a3 : Int32} {Ret : Int32 → ZS → Prop} (hV : wp_X0_reach σ a1 a2 a3 Ret) : MZ l E NS yX0_reach (wsW_ yX0_reach cX0_reach 6 (some .int) [(0, 12, 15, 49), (0, 12, 19, 13)]) 12 σ [.ref (E.1.heap.size + 0), .int a1, .int a2, .int a3, .ref (E.1.heap.size + 1238)] (rI Ret) := by
  refine MZ.startW (L := [some (.ref (E.1.heap.size + 0)), some (.int a1), some (.int a2), some (.int a3), some (.ref (E.1.heap.size + 1238)), none]) hE (by decide) (Nat.le_of_ble_eq_true rfl) rfl fun C hCl hQo hC => ?_
  replace hC : Cx C E cX0_reach 6 "RightTurnsLaw" "reach" (some .int) [(0, 12, 15, 49), (0, 12, 19, 13)] 12 := hC
  unfold wp_X0_reach at hV
  refine z_aload hC dX0_reach_0 rfl ?_
  refine z_iconst (v := 0) hC dX0_reach_2 rfl ?_
  refine z_aload_n hC dX0_reach_3 rfl rfl ?_
  refine z_iload_n hC dX0_reach_4 rfl rfl ?_
  refine z_iload_n hC dX0_reach_5 rfl rfl ?_
  refine z_iload_n hC dX0_reach_6 rfl rfl ?_
  have hT5 : ∀ (x3 : Nat) (σ4 : ZS), (((∃ x, kK NS σ4 x3 = (14 + 7, x)) ∧ (Ret 1 σ4)) ∨ ((∃ x, kK NS σ4 x3 = (12 + 7, x)) ∧ (Ret 2 σ4))) → zth C E NS 6 σ4 7 [some (.ref (E.1.heap.size + 0)), some (.int a1), some (.int a2), some (.int a3), some (.ref (E.1.heap.size + 1238)), none] [.int 0, .ref (E.1.heap.size + 1238)] (E.1.heap.size + x3) := by
    clear hV
    rintro x3 σ4 (hV | hV)
    · obtain ⟨⟨_, hk⟩, hV⟩ := hV
      refine zth_catch0 hC (by decide) (by decide) cf14 hk q1249 ?_
      refine z_astore hC dX0_reach_15 (Nat.le_of_ble_eq_true rfl) rfl rfl ?_
      refine z_iconst (v := 1) hC dX0_reach_17 rfl ?_
      exact z_iret hC dX0_reach_18 rfl (by rw [hQo]; exact ⟨_, rfl, hV⟩)
    · obtain ⟨⟨_, hk⟩, hV⟩ := hV
      refine zth_catch1 hC (by decide) (by decide) (by decide) (by decide) cf12 hk q744 q1249 (by decide +kernel) ?_
      refine z_astore hC dX0_reach_19 (Nat.le_of_ble_eq_true rfl) rfl rfl ?_
      refine z_iconst (v := 2) hC dX0_reach_21 rfl ?_
      exact z_iret hC dX0_reach_22 rfl (by rw [hQo]; exact ⟨_, rfl, hV⟩)
  refine c_X0_55 hC (by decide) dX0_reach_7 (Nat.le_of_ble_eq_true rfl) hV (fun r1 σ2 hV => ?_) hT5
  refine z_i2l hC dX0_reach_10 ?_
  refine z_last hC dX0_reach_11 (k_1238 _) (in_dec rfl) ?_
  obtain ⟨σ6, e_σ6⟩ : ∃ z : ZS, z = sJ σ2 1238 (ix 0) r1.toInt64 := ⟨_, rfl⟩
  replace hV := hV _ e_σ6
  rw [← e_σ6]
  refine z_goto (tgt := 23) hC dX0_reach_12 (by decide) ?_
  refine z_iconst (v := 0) hC dX0_reach_23 rfl ?_
  exact z_iret hC dX0_reach_24 rfl (by rw [hQo]; exact ⟨_, rfl, hV⟩)
theorem cw_X1_parts : CodeW yX1_parts (ws_ yX1_parts cX1_parts 8 (some .int)) 8 := ⟨fun w h => (List.mem_cons.mp h).elim (fun e => e ▸ q1352) id, Or.inl ⟨_, _, q1352⟩, q116, by decide, by decide⟩
theorem c_X0_58 {C : ZC} {E : ZE} {cc : ByteArray} {nL pc d : Nat} {nm : String} {ret : Option FieldType} {hh : List (Nat × Nat × Nat × Nat)} {σ : ZS} {L : List (Option Value)} {st : List Value} {a1 : Int32} {a2 : Int32} {Ret : Int32 → ZS → Prop} {Thr : Nat → ZS → Prop} (hC : Cx C E cc nL "RightTurnsLaw" nm ret hh d) (hdd : 10 + 1 ≤ d) (hd : decode cc pc = .ok (.invokevirtual 58, 3)) (hW : (st.map fun v => v.category).sum ≤ 8) (hV : wp_X1_parts σ a1 a2 Thr Ret) (k : ∀ r σ', Ret r σ' → zz C E NS nL σ' (pc + 3) L (.int r :: st)) (kt : ∀ a σ', Thr a σ' → zth C E NS nL σ' pc L st (E.1.heap.size + a)) : zz C E NS nL σ pc L (.int a2 :: .int a1 :: .ref (E.1.heap.size + 0) :: st) :=
  z_callVG hC cf0 cw_X1_parts hdd (by decide) (mz_X1_parts (cxE hC) hV) hd (k_0 σ) q1349 q1350 q1351 (np := 2) rfl rfl hW rfl (kT (kI k) kt)
def wp_X0_parts (σ : ZS) (a1 : Int32) (a2 : Int32) (Ret : Int32 → ZS → Prop) : Prop :=
    wp_X1_parts σ a1 a2 (fun x3 σ4 => ((∃ x, kK NS σ4 x3 = (12 + 7, x)) ∧ (Ret 1 σ4))) (fun r1 σ2 => ∀ σ6 : ZS, σ6 = sJ σ2 1238 (ix 0) r1.toInt64 → (Ret 0 σ6))
set_option maxHeartbeats 4000000 in
theorem mz_X0_parts {l : Launch} {E : ZE} (hE : EOK E) {σ : ZS} {a1 : Int32} {a2 : Int32} {Ret : Int32 → ZS → Prop} (hV : wp_X0_parts σ a1 a2 Ret) : MZ l E NS yX0_parts (wsW_ yX0_parts cX0_parts 5 (some .int) [(0, 10, 13, 13)]) 11 σ [.ref (E.1.heap.size + 0), .int a1, .int a2, .ref (E.1.heap.size + 1238)] (rI Ret) := by
  refine MZ.startW (L := [some (.ref (E.1.heap.size + 0)), some (.int a1), some (.int a2), some (.ref (E.1.heap.size + 1238)), none]) hE (by decide) (Nat.le_of_ble_eq_true rfl) rfl fun C hCl hQo hC => ?_
  replace hC : Cx C E cX0_parts 5 "RightTurnsLaw" "parts" (some .int) [(0, 10, 13, 13)] 11 := hC
  unfold wp_X0_parts at hV
  refine z_aload_n hC dX0_parts_0 rfl rfl ?_
  refine z_iconst (v := 0) hC dX0_parts_1 rfl ?_
  refine z_aload_n hC dX0_parts_2 rfl rfl ?_
  refine z_iload_n hC dX0_parts_3 rfl rfl ?_
  refine z_iload_n hC dX0_parts_4 rfl rfl ?_
  have hT5 : ∀ (x3 : Nat) (σ4 : ZS), (((∃ x, kK NS σ4 x3 = (12 + 7, x)) ∧ (Ret 1 σ4))) → zth C E NS 5 σ4 5 [some (.ref (E.1.heap.size + 0)), some (.int a1), some (.int a2), some (.ref (E.1.heap.size + 1238)), none] [.int 0, .ref (E.1.heap.size + 1238)] (E.1.heap.size + x3) := by
    clear hV
    intro x3 σ4 hV
    obtain ⟨⟨_, hk⟩, hV⟩ := hV
    refine zth_catch0 hC (by decide) (by decide) cf12 hk q744 ?_
    refine z_astore hC dX0_parts_13 (Nat.le_of_ble_eq_true rfl) rfl rfl ?_
    refine z_iconst (v := 1) hC dX0_parts_15 rfl ?_
    exact z_iret hC dX0_parts_16 rfl (by rw [hQo]; exact ⟨_, rfl, hV⟩)
  refine c_X0_58 hC (by decide) dX0_parts_5 (Nat.le_of_ble_eq_true rfl) hV (fun r1 σ2 hV => ?_) hT5
  refine z_i2l hC dX0_parts_8 ?_
  refine z_last hC dX0_parts_9 (k_1238 _) (in_dec rfl) ?_
  obtain ⟨σ6, e_σ6⟩ : ∃ z : ZS, z = sJ σ2 1238 (ix 0) r1.toInt64 := ⟨_, rfl⟩
  replace hV := hV _ e_σ6
  rw [← e_σ6]
  refine z_goto (tgt := 17) hC dX0_parts_10 (by decide) ?_
  refine z_iconst (v := 0) hC dX0_parts_17 rfl ?_
  exact z_iret hC dX0_parts_18 rfl (by rw [hQo]; exact ⟨_, rfl, hV⟩)
theorem cw_X1_together : CodeW yX1_together (ws_ yX1_together cX1_together 4 (some .boolean)) 4 := ⟨fun w h => (List.mem_cons.mp h).elim (fun e => e ▸ q1368) id, Or.inl ⟨_, _, q1368⟩, q116, by decide, by decide⟩
theorem c_X0_61 {C : ZC} {E : ZE} {cc : ByteArray} {nL pc d : Nat} {nm : String} {ret : Option FieldType} {hh : List (Nat × Nat × Nat × Nat)} {σ : ZS} {L : List (Option Value)} {st : List Value} {a1 : Int32} {a2 : Int32} {a3 : Int32} {Ret : Int32 → ZS → Prop} {Thr : Nat → ZS → Prop} (hC : Cx C E cc nL "RightTurnsLaw" nm ret hh d) (hdd : 10 + 1 ≤ d) (hd : decode cc pc = .ok (.invokevirtual 61, 3)) (hW : (st.map fun v => v.category).sum ≤ 8) (hV : wp_X1_together σ a1 a2 a3 Thr Ret) (k : ∀ r σ', Ret r σ' → zz C E NS nL σ' (pc + 3) L (.int r :: st)) (kt : ∀ a σ', Thr a σ' → zth C E NS nL σ' pc L st (E.1.heap.size + a)) : zz C E NS nL σ pc L (.int a3 :: .int a2 :: .int a1 :: .ref (E.1.heap.size + 0) :: st) :=
  z_callVG hC cf0 cw_X1_together hdd (by decide) (mz_X1_together (cxE hC) hV) hd (k_0 σ) q1365 q1366 q1367 (np := 3) rfl rfl hW rfl (kT (kI k) kt)
def wp_X0_together (σ : ZS) (a1 : Int32) (a2 : Int32) (a3 : Int32) (Ret : Int32 → ZS → Prop) : Prop :=
    wp_X1_together σ a1 a2 a3 (fun x3 σ4 => ((∃ x, kK NS σ4 x3 = (13 + 7, x)) ∧ (Ret 1 σ4)) ∨ ((∃ x, kK NS σ4 x3 = (12 + 7, x)) ∧ (Ret 2 σ4))) (fun r1 σ2 => ((r1 = 0 → (∀ σ6 : ZS, σ6 = sJ σ2 1238 (ix 0) 0 → (Ret 0 σ6))) ∧ (¬ r1 = 0 → (∀ σ7 : ZS, σ7 = sJ σ2 1238 (ix 0) 1 → (Ret 0 σ7)))))
set_option maxHeartbeats 4000000 in
theorem mz_X0_together {l : Launch} {E : ZE} (hE : EOK E) {σ : ZS} {a1 : Int32} {a2 : Int32} {a3 : Int32} {Ret : Int32 → ZS → Prop} (hV : wp_X0_together σ a1 a2 a3 Ret) : MZ l E NS yX0_together (wsW_ yX0_together cX0_together 6 (some .int) [(0, 19, 22, 22), (0, 19, 26, 13)]) 11 σ [.ref (E.1.heap.size + 0), .int a1, .int a2, .int a3, .ref (E.1.heap.size + 1238)] (rI Ret) := by
  refine MZ.startW (L := [some (.ref (E.1.heap.size + 0)), some (.int a1), some (.int a2), some (.int a3), some (.ref (E.1.heap.size + 1238)), none]) hE (by decide) (Nat.le_of_ble_eq_true rfl) rfl fun C hCl hQo hC => ?_
  replace hC : Cx C E cX0_together 6 "RightTurnsLaw" "together" (some .int) [(0, 19, 22, 22), (0, 19, 26, 13)] 11 := hC
  unfold wp_X0_together at hV
  refine z_aload hC dX0_together_0 rfl ?_
  refine z_iconst (v := 0) hC dX0_together_2 rfl ?_
  refine z_aload_n hC dX0_together_3 rfl rfl ?_
  refine z_iload_n hC dX0_together_4 rfl rfl ?_
  refine z_iload_n hC dX0_together_5 rfl rfl ?_
  refine z_iload_n hC dX0_together_6 rfl rfl ?_
  have hT5 : ∀ (x3 : Nat) (σ4 : ZS), (((∃ x, kK NS σ4 x3 = (13 + 7, x)) ∧ (Ret 1 σ4)) ∨ ((∃ x, kK NS σ4 x3 = (12 + 7, x)) ∧ (Ret 2 σ4))) → zth C E NS 6 σ4 7 [some (.ref (E.1.heap.size + 0)), some (.int a1), some (.int a2), some (.int a3), some (.ref (E.1.heap.size + 1238)), none] [.int 0, .ref (E.1.heap.size + 1238)] (E.1.heap.size + x3) := by
    clear hV
    rintro x3 σ4 (hV | hV)
    · obtain ⟨⟨_, hk⟩, hV⟩ := hV
      refine zth_catch0 hC (by decide) (by decide) cf13 hk q1147 ?_
      refine z_astore hC dX0_together_22 (Nat.le_of_ble_eq_true rfl) rfl rfl ?_
      refine z_iconst (v := 1) hC dX0_together_24 rfl ?_
      exact z_iret hC dX0_together_25 rfl (by rw [hQo]; exact ⟨_, rfl, hV⟩)
    · obtain ⟨⟨_, hk⟩, hV⟩ := hV
      refine zth_catch1 hC (by decide) (by decide) (by decide) (by decide) cf12 hk q744 q1147 (by decide +kernel) ?_
      refine z_astore hC dX0_together_26 (Nat.le_of_ble_eq_true rfl) rfl rfl ?_
      refine z_iconst (v := 2) hC dX0_together_28 rfl ?_
      exact z_iret hC dX0_together_29 rfl (by rw [hQo]; exact ⟨_, rfl, hV⟩)
  refine c_X0_61 hC (by decide) dX0_together_7 (Nat.le_of_ble_eq_true rfl) hV (fun r1 σ2 hV => ?_) hT5
  refine z_if_eq (tgt := 17) hC dX0_together_10 (by decide) (fun hc => ?_) (fun hc => ?_)
  · replace hV := hV.1 hc
    refine z_lconst (v := 0) hC dX0_together_17 rfl ?_
    refine z_last hC dX0_together_18 (k_1238 _) (in_dec rfl) ?_
    obtain ⟨σ6, e_σ6⟩ : ∃ z : ZS, z = sJ σ2 1238 (ix 0) 0 := ⟨_, rfl⟩
    replace hV := hV _ e_σ6
    rw [← e_σ6]
    refine z_goto (tgt := 30) hC dX0_together_19 (by decide) ?_
    refine z_iconst (v := 0) hC dX0_together_30 rfl ?_
    exact z_iret hC dX0_together_31 rfl (by rw [hQo]; exact ⟨_, rfl, hV⟩)
  · replace hV := hV.2 hc
    refine z_lconst (v := 1) hC dX0_together_13 rfl ?_
    refine z_goto (tgt := 18) hC dX0_together_14 (by decide) ?_
    refine z_last hC dX0_together_18 (k_1238 _) (in_dec rfl) ?_
    obtain ⟨σ7, e_σ7⟩ : ∃ z : ZS, z = sJ σ2 1238 (ix 0) 1 := ⟨_, rfl⟩
    replace hV := hV _ e_σ7
    rw [← e_σ7]
    refine z_goto (tgt := 30) hC dX0_together_19 (by decide) ?_
    refine z_iconst (v := 0) hC dX0_together_30 rfl ?_
    exact z_iret hC dX0_together_31 rfl (by rw [hQo]; exact ⟨_, rfl, hV⟩)
theorem cw_X1_open : CodeW yX1_open (ws_ yX1_open cX1_open 3 (some .int)) 3 := ⟨fun w h => (List.mem_cons.mp h).elim (fun e => e ▸ q1375) id, Or.inl ⟨_, _, q1375⟩, q116, by decide, by decide⟩
theorem c_X0_64 {C : ZC} {E : ZE} {cc : ByteArray} {nL pc d : Nat} {nm : String} {ret : Option FieldType} {hh : List (Nat × Nat × Nat × Nat)} {σ : ZS} {L : List (Option Value)} {st : List Value} {a1 : Int32} {a2 : Int32} {Ret : Int32 → ZS → Prop} {Thr : Nat → ZS → Prop} (hC : Cx C E cc nL "RightTurnsLaw" nm ret hh d) (hdd : 11 + 1 ≤ d) (hd : decode cc pc = .ok (.invokevirtual 64, 3)) (hW : (st.map fun v => v.category).sum ≤ 8) (hV : wp_X1_open σ a1 a2 Thr Ret) (k : ∀ r σ', Ret r σ' → zz C E NS nL σ' (pc + 3) L (.int r :: st)) (kt : ∀ a σ', Thr a σ' → zth C E NS nL σ' pc L st (E.1.heap.size + a)) : zz C E NS nL σ pc L (.int a2 :: .int a1 :: .ref (E.1.heap.size + 0) :: st) :=
  z_callVG hC cf0 cw_X1_open hdd (by decide) (mz_X1_open (cxE hC) hV) hd (k_0 σ) q1372 q1373 q1374 (np := 2) rfl rfl hW rfl (kT (kI k) kt)
def wp_X0_open (σ : ZS) (a1 : Int32) (a2 : Int32) (Ret : Int32 → ZS → Prop) : Prop :=
    wp_X1_open σ a1 a2 (fun x3 σ4 => ((∃ x, kK NS σ4 x3 = (12 + 7, x)) ∧ (Ret 1 σ4))) (fun r1 σ2 => ∀ σ6 : ZS, σ6 = sJ σ2 1238 (ix 0) r1.toInt64 → (Ret 0 σ6))
set_option maxHeartbeats 4000000 in
theorem mz_X0_open {l : Launch} {E : ZE} (hE : EOK E) {σ : ZS} {a1 : Int32} {a2 : Int32} {Ret : Int32 → ZS → Prop} (hV : wp_X0_open σ a1 a2 Ret) : MZ l E NS yX0_open (wsW_ yX0_open cX0_open 5 (some .int) [(0, 10, 13, 13)]) 12 σ [.ref (E.1.heap.size + 0), .int a1, .int a2, .ref (E.1.heap.size + 1238)] (rI Ret) := by
  refine MZ.startW (L := [some (.ref (E.1.heap.size + 0)), some (.int a1), some (.int a2), some (.ref (E.1.heap.size + 1238)), none]) hE (by decide) (Nat.le_of_ble_eq_true rfl) rfl fun C hCl hQo hC => ?_
  replace hC : Cx C E cX0_open 5 "RightTurnsLaw" "open" (some .int) [(0, 10, 13, 13)] 12 := hC
  unfold wp_X0_open at hV
  refine z_aload_n hC dX0_open_0 rfl rfl ?_
  refine z_iconst (v := 0) hC dX0_open_1 rfl ?_
  refine z_aload_n hC dX0_open_2 rfl rfl ?_
  refine z_iload_n hC dX0_open_3 rfl rfl ?_
  refine z_iload_n hC dX0_open_4 rfl rfl ?_
  have hT5 : ∀ (x3 : Nat) (σ4 : ZS), (((∃ x, kK NS σ4 x3 = (12 + 7, x)) ∧ (Ret 1 σ4))) → zth C E NS 5 σ4 5 [some (.ref (E.1.heap.size + 0)), some (.int a1), some (.int a2), some (.ref (E.1.heap.size + 1238)), none] [.int 0, .ref (E.1.heap.size + 1238)] (E.1.heap.size + x3) := by
    clear hV
    intro x3 σ4 hV
    obtain ⟨⟨_, hk⟩, hV⟩ := hV
    refine zth_catch0 hC (by decide) (by decide) cf12 hk q744 ?_
    refine z_astore hC dX0_open_13 (Nat.le_of_ble_eq_true rfl) rfl rfl ?_
    refine z_iconst (v := 1) hC dX0_open_15 rfl ?_
    exact z_iret hC dX0_open_16 rfl (by rw [hQo]; exact ⟨_, rfl, hV⟩)
  refine c_X0_64 hC (by decide) dX0_open_5 (Nat.le_of_ble_eq_true rfl) hV (fun r1 σ2 hV => ?_) hT5
  refine z_i2l hC dX0_open_8 ?_
  refine z_last hC dX0_open_9 (k_1238 _) (in_dec rfl) ?_
  obtain ⟨σ6, e_σ6⟩ : ∃ z : ZS, z = sJ σ2 1238 (ix 0) r1.toInt64 := ⟨_, rfl⟩
  replace hV := hV _ e_σ6
  rw [← e_σ6]
  refine z_goto (tgt := 17) hC dX0_open_10 (by decide) ?_
  refine z_iconst (v := 0) hC dX0_open_17 rfl ?_
  exact z_iret hC dX0_open_18 rfl (by rw [hQo]; exact ⟨_, rfl, hV⟩)
theorem cw_X1_since : CodeW yX1_since (ws_ yX1_since cX1_since 6 (some .int)) 6 := ⟨fun w h => (List.mem_cons.mp h).elim (fun e => e ▸ q1390) id, Or.inl ⟨_, _, q1390⟩, q116, by decide, by decide⟩
theorem c_X0_67 {C : ZC} {E : ZE} {cc : ByteArray} {nL pc d : Nat} {nm : String} {ret : Option FieldType} {hh : List (Nat × Nat × Nat × Nat)} {σ : ZS} {L : List (Option Value)} {st : List Value} {a1 : Int32} {a2 : Int32} {a3 : Int32} {a4 : Int32} {Ret : Int32 → ZS → Prop} {Thr : Nat → ZS → Prop} (hC : Cx C E cc nL "RightTurnsLaw" nm ret hh d) (hdd : 10 + 1 ≤ d) (hd : decode cc pc = .ok (.invokevirtual 67, 3)) (hW : (st.map fun v => v.category).sum ≤ 8) (hV : wp_X1_since σ a1 a2 a3 a4 Thr Ret) (k : ∀ r σ', Ret r σ' → zz C E NS nL σ' (pc + 3) L (.int r :: st)) (kt : ∀ a σ', Thr a σ' → zth C E NS nL σ' pc L st (E.1.heap.size + a)) : zz C E NS nL σ pc L (.int a4 :: .int a3 :: .int a2 :: .int a1 :: .ref (E.1.heap.size + 0) :: st) :=
  z_callVG hC cf0 cw_X1_since hdd (by decide) (mz_X1_since (cxE hC) hV) hd (k_0 σ) q1387 q1388 q1389 (np := 4) rfl rfl hW rfl (kT (kI k) kt)
def wp_X0_since (σ : ZS) (a1 : Int32) (a2 : Int32) (a3 : Int32) (a4 : Int32) (Ret : Int32 → ZS → Prop) : Prop :=
    wp_X1_since σ a1 a2 a3 a4 (fun x3 σ4 => ((∃ x, kK NS σ4 x3 = (14 + 7, x)) ∧ (Ret 1 σ4)) ∨ ((∃ x, kK NS σ4 x3 = (12 + 7, x)) ∧ (Ret 2 σ4))) (fun r1 σ2 => ∀ σ6 : ZS, σ6 = sJ σ2 1238 (ix 0) r1.toInt64 → (Ret 0 σ6))
set_option maxHeartbeats 4000000 in
theorem mz_X0_since {l : Launch} {E : ZE} (hE : EOK E) {σ : ZS} {a1 : Int32} {a2 : Int32} {a3 : Int32} {a4 : Int32} {Ret : Int32 → ZS → Prop} (hV : wp_X0_since σ a1 a2 a3 a4 Ret) : MZ l E NS yX0_since (wsW_ yX0_since cX0_since 7 (some .int) [(0, 14, 17, 49), (0, 14, 21, 13)]) 11 σ [.ref (E.1.heap.size + 0), .int a1, .int a2, .int a3, .int a4, .ref (E.1.heap.size + 1238)] (rI Ret) := by
  refine MZ.startW (L := [some (.ref (E.1.heap.size + 0)), some (.int a1), some (.int a2), some (.int a3), some (.int a4), some (.ref (E.1.heap.size + 1238)), none]) hE (by decide) (Nat.le_of_ble_eq_true rfl) rfl fun C hCl hQo hC => ?_
  replace hC : Cx C E cX0_since 7 "RightTurnsLaw" "since" (some .int) [(0, 14, 17, 49), (0, 14, 21, 13)] 11 := hC
  unfold wp_X0_since at hV
  refine z_aload hC dX0_since_0 rfl ?_
  refine z_iconst (v := 0) hC dX0_since_2 rfl ?_
  refine z_aload_n hC dX0_since_3 rfl rfl ?_
  refine z_iload_n hC dX0_since_4 rfl rfl ?_
  refine z_iload_n hC dX0_since_5 rfl rfl ?_
  refine z_iload_n hC dX0_since_6 rfl rfl ?_
  refine z_iload hC dX0_since_7 rfl ?_
  have hT5 : ∀ (x3 : Nat) (σ4 : ZS), (((∃ x, kK NS σ4 x3 = (14 + 7, x)) ∧ (Ret 1 σ4)) ∨ ((∃ x, kK NS σ4 x3 = (12 + 7, x)) ∧ (Ret 2 σ4))) → zth C E NS 7 σ4 9 [some (.ref (E.1.heap.size + 0)), some (.int a1), some (.int a2), some (.int a3), some (.int a4), some (.ref (E.1.heap.size + 1238)), none] [.int 0, .ref (E.1.heap.size + 1238)] (E.1.heap.size + x3) := by
    clear hV
    rintro x3 σ4 (hV | hV)
    · obtain ⟨⟨_, hk⟩, hV⟩ := hV
      refine zth_catch0 hC (by decide) (by decide) cf14 hk q1249 ?_
      refine z_astore hC dX0_since_17 (Nat.le_of_ble_eq_true rfl) rfl rfl ?_
      refine z_iconst (v := 1) hC dX0_since_19 rfl ?_
      exact z_iret hC dX0_since_20 rfl (by rw [hQo]; exact ⟨_, rfl, hV⟩)
    · obtain ⟨⟨_, hk⟩, hV⟩ := hV
      refine zth_catch1 hC (by decide) (by decide) (by decide) (by decide) cf12 hk q744 q1249 (by decide +kernel) ?_
      refine z_astore hC dX0_since_21 (Nat.le_of_ble_eq_true rfl) rfl rfl ?_
      refine z_iconst (v := 2) hC dX0_since_23 rfl ?_
      exact z_iret hC dX0_since_24 rfl (by rw [hQo]; exact ⟨_, rfl, hV⟩)
  refine c_X0_67 hC (by decide) dX0_since_9 (Nat.le_of_ble_eq_true rfl) hV (fun r1 σ2 hV => ?_) hT5
  refine z_i2l hC dX0_since_12 ?_
  refine z_last hC dX0_since_13 (k_1238 _) (in_dec rfl) ?_
  obtain ⟨σ6, e_σ6⟩ : ∃ z : ZS, z = sJ σ2 1238 (ix 0) r1.toInt64 := ⟨_, rfl⟩
  replace hV := hV _ e_σ6
  rw [← e_σ6]
  refine z_goto (tgt := 25) hC dX0_since_14 (by decide) ?_
  refine z_iconst (v := 0) hC dX0_since_25 rfl ?_
  exact z_iret hC dX0_since_26 rfl (by rw [hQo]; exact ⟨_, rfl, hV⟩)
theorem cw_X1_candidates : CodeW yX1_candidates (ws_ yX1_candidates cX1_candidates 2 (some .int)) 2 := ⟨fun w h => (List.mem_cons.mp h).elim (fun e => e ▸ q1397) id, Or.inl ⟨_, _, q1397⟩, q116, by decide, by decide⟩
theorem c_X0_71 {C : ZC} {E : ZE} {cc : ByteArray} {nL pc d : Nat} {nm : String} {ret : Option FieldType} {hh : List (Nat × Nat × Nat × Nat)} {σ : ZS} {L : List (Option Value)} {st : List Value} {a1 : Int32} {Ret : Int32 → ZS → Prop} {Thr : Nat → ZS → Prop} (hC : Cx C E cc nL "RightTurnsLaw" nm ret hh d) (hdd : 7 + 1 ≤ d) (hd : decode cc pc = .ok (.invokevirtual 71, 3)) (hW : (st.map fun v => v.category).sum ≤ 8) (hV : wp_X1_candidates σ a1 Thr Ret) (k : ∀ r σ', Ret r σ' → zz C E NS nL σ' (pc + 3) L (.int r :: st)) (kt : ∀ a σ', Thr a σ' → zth C E NS nL σ' pc L st (E.1.heap.size + a)) : zz C E NS nL σ pc L (.int a1 :: .ref (E.1.heap.size + 0) :: st) :=
  z_callVG hC cf0 cw_X1_candidates hdd (by decide) (mz_X1_candidates (cxE hC) hV) hd (k_0 σ) q1394 q1395 q1396 (np := 1) rfl rfl hW rfl (kT (kI k) kt)
def wp_X0_candidates (σ : ZS) (a1 : Int32) (Ret : Int32 → ZS → Prop) : Prop :=
    wp_X1_candidates σ a1 (fun x3 σ4 => ((∃ x, kK NS σ4 x3 = (12 + 7, x)) ∧ (Ret 1 σ4))) (fun r1 σ2 => ∀ σ6 : ZS, σ6 = sJ σ2 1238 (ix 0) r1.toInt64 → (Ret 0 σ6))
set_option maxHeartbeats 4000000 in
theorem mz_X0_candidates {l : Launch} {E : ZE} (hE : EOK E) {σ : ZS} {a1 : Int32} {Ret : Int32 → ZS → Prop} (hV : wp_X0_candidates σ a1 Ret) : MZ l E NS yX0_candidates (wsW_ yX0_candidates cX0_candidates 4 (some .int) [(0, 9, 12, 13)]) 8 σ [.ref (E.1.heap.size + 0), .int a1, .ref (E.1.heap.size + 1238)] (rI Ret) := by
  refine MZ.startW (L := [some (.ref (E.1.heap.size + 0)), some (.int a1), some (.ref (E.1.heap.size + 1238)), none]) hE (by decide) (Nat.le_of_ble_eq_true rfl) rfl fun C hCl hQo hC => ?_
  replace hC : Cx C E cX0_candidates 4 "RightTurnsLaw" "candidates" (some .int) [(0, 9, 12, 13)] 8 := hC
  unfold wp_X0_candidates at hV
  refine z_aload_n hC dX0_candidates_0 rfl rfl ?_
  refine z_iconst (v := 0) hC dX0_candidates_1 rfl ?_
  refine z_aload_n hC dX0_candidates_2 rfl rfl ?_
  refine z_iload_n hC dX0_candidates_3 rfl rfl ?_
  have hT5 : ∀ (x3 : Nat) (σ4 : ZS), (((∃ x, kK NS σ4 x3 = (12 + 7, x)) ∧ (Ret 1 σ4))) → zth C E NS 4 σ4 4 [some (.ref (E.1.heap.size + 0)), some (.int a1), some (.ref (E.1.heap.size + 1238)), none] [.int 0, .ref (E.1.heap.size + 1238)] (E.1.heap.size + x3) := by
    clear hV
    intro x3 σ4 hV
    obtain ⟨⟨_, hk⟩, hV⟩ := hV
    refine zth_catch0 hC (by decide) (by decide) cf12 hk q744 ?_
    refine z_astore_n hC dX0_candidates_12 rfl (Nat.le_of_ble_eq_true rfl) rfl rfl ?_
    refine z_iconst (v := 1) hC dX0_candidates_13 rfl ?_
    exact z_iret hC dX0_candidates_14 rfl (by rw [hQo]; exact ⟨_, rfl, hV⟩)
  refine c_X0_71 hC (by decide) dX0_candidates_4 (Nat.le_of_ble_eq_true rfl) hV (fun r1 σ2 hV => ?_) hT5
  refine z_i2l hC dX0_candidates_7 ?_
  refine z_last hC dX0_candidates_8 (k_1238 _) (in_dec rfl) ?_
  obtain ⟨σ6, e_σ6⟩ : ∃ z : ZS, z = sJ σ2 1238 (ix 0) r1.toInt64 := ⟨_, rfl⟩
  replace hV := hV _ e_σ6
  rw [← e_σ6]
  refine z_goto (tgt := 15) hC dX0_candidates_9 (by decide) ?_
  refine z_iconst (v := 0) hC dX0_candidates_15 rfl ?_
  exact z_iret hC dX0_candidates_16 rfl (by rw [hQo]; exact ⟨_, rfl, hV⟩)
theorem cw_X1_fewest : CodeW yX1_fewest (ws_ yX1_fewest cX1_fewest 4 (some .int)) 4 := ⟨fun w h => (List.mem_cons.mp h).elim (fun e => e ▸ q1408) id, Or.inl ⟨_, _, q1408⟩, q116, by decide, by decide⟩
theorem c_X0_74 {C : ZC} {E : ZE} {cc : ByteArray} {nL pc d : Nat} {nm : String} {ret : Option FieldType} {hh : List (Nat × Nat × Nat × Nat)} {σ : ZS} {L : List (Option Value)} {st : List Value} {a1 : Int32} {a2 : Int32} {Ret : Int32 → ZS → Prop} {Thr : Nat → ZS → Prop} (hC : Cx C E cc nL "RightTurnsLaw" nm ret hh d) (hdd : 12 + 1 ≤ d) (hd : decode cc pc = .ok (.invokevirtual 74, 3)) (hW : (st.map fun v => v.category).sum ≤ 8) (hV : wp_X1_fewest σ a1 a2 Thr Ret) (k : ∀ r σ', Ret r σ' → zz C E NS nL σ' (pc + 3) L (.int r :: st)) (kt : ∀ a σ', Thr a σ' → zth C E NS nL σ' pc L st (E.1.heap.size + a)) : zz C E NS nL σ pc L (.int a2 :: .int a1 :: .ref (E.1.heap.size + 0) :: st) :=
  z_callVG hC cf0 cw_X1_fewest hdd (by decide) (mz_X1_fewest (cxE hC) hV) hd (k_0 σ) q1405 q1406 q1407 (np := 2) rfl rfl hW rfl (kT (kI k) kt)
def wp_X0_fewest (σ : ZS) (a1 : Int32) (a2 : Int32) (Ret : Int32 → ZS → Prop) : Prop :=
    wp_X1_fewest σ a1 a2 (fun x3 σ4 => ((∃ x, kK NS σ4 x3 = (12 + 7, x)) ∧ (Ret 1 σ4))) (fun r1 σ2 => ∀ σ6 : ZS, σ6 = sJ σ2 1238 (ix 0) r1.toInt64 → (Ret 0 σ6))
set_option maxHeartbeats 4000000 in
theorem mz_X0_fewest {l : Launch} {E : ZE} (hE : EOK E) {σ : ZS} {a1 : Int32} {a2 : Int32} {Ret : Int32 → ZS → Prop} (hV : wp_X0_fewest σ a1 a2 Ret) : MZ l E NS yX0_fewest (wsW_ yX0_fewest cX0_fewest 5 (some .int) [(0, 10, 13, 13)]) 13 σ [.ref (E.1.heap.size + 0), .int a1, .int a2, .ref (E.1.heap.size + 1238)] (rI Ret) := by
  refine MZ.startW (L := [some (.ref (E.1.heap.size + 0)), some (.int a1), some (.int a2), some (.ref (E.1.heap.size + 1238)), none]) hE (by decide) (Nat.le_of_ble_eq_true rfl) rfl fun C hCl hQo hC => ?_
  replace hC : Cx C E cX0_fewest 5 "RightTurnsLaw" "fewest" (some .int) [(0, 10, 13, 13)] 13 := hC
  unfold wp_X0_fewest at hV
  refine z_aload_n hC dX0_fewest_0 rfl rfl ?_
  refine z_iconst (v := 0) hC dX0_fewest_1 rfl ?_
  refine z_aload_n hC dX0_fewest_2 rfl rfl ?_
  refine z_iload_n hC dX0_fewest_3 rfl rfl ?_
  refine z_iload_n hC dX0_fewest_4 rfl rfl ?_
  have hT5 : ∀ (x3 : Nat) (σ4 : ZS), (((∃ x, kK NS σ4 x3 = (12 + 7, x)) ∧ (Ret 1 σ4))) → zth C E NS 5 σ4 5 [some (.ref (E.1.heap.size + 0)), some (.int a1), some (.int a2), some (.ref (E.1.heap.size + 1238)), none] [.int 0, .ref (E.1.heap.size + 1238)] (E.1.heap.size + x3) := by
    clear hV
    intro x3 σ4 hV
    obtain ⟨⟨_, hk⟩, hV⟩ := hV
    refine zth_catch0 hC (by decide) (by decide) cf12 hk q744 ?_
    refine z_astore hC dX0_fewest_13 (Nat.le_of_ble_eq_true rfl) rfl rfl ?_
    refine z_iconst (v := 1) hC dX0_fewest_15 rfl ?_
    exact z_iret hC dX0_fewest_16 rfl (by rw [hQo]; exact ⟨_, rfl, hV⟩)
  refine c_X0_74 hC (by decide) dX0_fewest_5 (Nat.le_of_ble_eq_true rfl) hV (fun r1 σ2 hV => ?_) hT5
  refine z_i2l hC dX0_fewest_8 ?_
  refine z_last hC dX0_fewest_9 (k_1238 _) (in_dec rfl) ?_
  obtain ⟨σ6, e_σ6⟩ : ∃ z : ZS, z = sJ σ2 1238 (ix 0) r1.toInt64 := ⟨_, rfl⟩
  replace hV := hV _ e_σ6
  rw [← e_σ6]
  refine z_goto (tgt := 17) hC dX0_fewest_10 (by decide) ?_
  refine z_iconst (v := 0) hC dX0_fewest_17 rfl ?_
  exact z_iret hC dX0_fewest_18 rfl (by rw [hQo]; exact ⟨_, rfl, hV⟩)
theorem cw_X1_cheapest : CodeW yX1_cheapest (ws_ yX1_cheapest cX1_cheapest 4 (some .int)) 4 := ⟨fun w h => (List.mem_cons.mp h).elim (fun e => e ▸ q1427) id, Or.inl ⟨_, _, q1427⟩, q116, by decide, by decide⟩
theorem c_X0_77 {C : ZC} {E : ZE} {cc : ByteArray} {nL pc d : Nat} {nm : String} {ret : Option FieldType} {hh : List (Nat × Nat × Nat × Nat)} {σ : ZS} {L : List (Option Value)} {st : List Value} {a1 : Int32} {a2 : Int32} {Ret : Int32 → ZS → Prop} {Thr : Nat → ZS → Prop} (hC : Cx C E cc nL "RightTurnsLaw" nm ret hh d) (hdd : 12 + 1 ≤ d) (hd : decode cc pc = .ok (.invokevirtual 77, 3)) (hW : (st.map fun v => v.category).sum ≤ 8) (hV : wp_X1_cheapest σ a1 a2 Thr Ret) (k : ∀ r σ', Ret r σ' → zz C E NS nL σ' (pc + 3) L (.int r :: st)) (kt : ∀ a σ', Thr a σ' → zth C E NS nL σ' pc L st (E.1.heap.size + a)) : zz C E NS nL σ pc L (.int a2 :: .int a1 :: .ref (E.1.heap.size + 0) :: st) :=
  z_callVG hC cf0 cw_X1_cheapest hdd (by decide) (mz_X1_cheapest (cxE hC) hV) hd (k_0 σ) q1424 q1425 q1426 (np := 2) rfl rfl hW rfl (kT (kI k) kt)
def wp_X0_cheapest (σ : ZS) (a1 : Int32) (a2 : Int32) (Ret : Int32 → ZS → Prop) : Prop :=
    wp_X1_cheapest σ a1 a2 (fun x3 σ4 => ((∃ x, kK NS σ4 x3 = (12 + 7, x)) ∧ (Ret 1 σ4))) (fun r1 σ2 => ∀ σ6 : ZS, σ6 = sJ σ2 1238 (ix 0) r1.toInt64 → (Ret 0 σ6))
set_option maxHeartbeats 4000000 in
theorem mz_X0_cheapest {l : Launch} {E : ZE} (hE : EOK E) {σ : ZS} {a1 : Int32} {a2 : Int32} {Ret : Int32 → ZS → Prop} (hV : wp_X0_cheapest σ a1 a2 Ret) : MZ l E NS yX0_cheapest (wsW_ yX0_cheapest cX0_cheapest 5 (some .int) [(0, 10, 13, 13)]) 13 σ [.ref (E.1.heap.size + 0), .int a1, .int a2, .ref (E.1.heap.size + 1238)] (rI Ret) := by
  refine MZ.startW (L := [some (.ref (E.1.heap.size + 0)), some (.int a1), some (.int a2), some (.ref (E.1.heap.size + 1238)), none]) hE (by decide) (Nat.le_of_ble_eq_true rfl) rfl fun C hCl hQo hC => ?_
  replace hC : Cx C E cX0_cheapest 5 "RightTurnsLaw" "cheapest" (some .int) [(0, 10, 13, 13)] 13 := hC
  unfold wp_X0_cheapest at hV
  refine z_aload_n hC dX0_cheapest_0 rfl rfl ?_
  refine z_iconst (v := 0) hC dX0_cheapest_1 rfl ?_
  refine z_aload_n hC dX0_cheapest_2 rfl rfl ?_
  refine z_iload_n hC dX0_cheapest_3 rfl rfl ?_
  refine z_iload_n hC dX0_cheapest_4 rfl rfl ?_
  have hT5 : ∀ (x3 : Nat) (σ4 : ZS), (((∃ x, kK NS σ4 x3 = (12 + 7, x)) ∧ (Ret 1 σ4))) → zth C E NS 5 σ4 5 [some (.ref (E.1.heap.size + 0)), some (.int a1), some (.int a2), some (.ref (E.1.heap.size + 1238)), none] [.int 0, .ref (E.1.heap.size + 1238)] (E.1.heap.size + x3) := by
    clear hV
    intro x3 σ4 hV
    obtain ⟨⟨_, hk⟩, hV⟩ := hV
    refine zth_catch0 hC (by decide) (by decide) cf12 hk q744 ?_
    refine z_astore hC dX0_cheapest_13 (Nat.le_of_ble_eq_true rfl) rfl rfl ?_
    refine z_iconst (v := 1) hC dX0_cheapest_15 rfl ?_
    exact z_iret hC dX0_cheapest_16 rfl (by rw [hQo]; exact ⟨_, rfl, hV⟩)
  refine c_X0_77 hC (by decide) dX0_cheapest_5 (Nat.le_of_ble_eq_true rfl) hV (fun r1 σ2 hV => ?_) hT5
  refine z_i2l hC dX0_cheapest_8 ?_
  refine z_last hC dX0_cheapest_9 (k_1238 _) (in_dec rfl) ?_
  obtain ⟨σ6, e_σ6⟩ : ∃ z : ZS, z = sJ σ2 1238 (ix 0) r1.toInt64 := ⟨_, rfl⟩
  replace hV := hV _ e_σ6
  rw [← e_σ6]
  refine z_goto (tgt := 17) hC dX0_cheapest_10 (by decide) ?_
  refine z_iconst (v := 0) hC dX0_cheapest_17 rfl ?_
  exact z_iret hC dX0_cheapest_18 rfl (by rw [hQo]; exact ⟨_, rfl, hV⟩)
theorem cw_X1_exchange : CodeW yX1_exchange (ws_ yX1_exchange cX1_exchange 11 (some .int)) 11 := ⟨fun w h => (List.mem_cons.mp h).elim (fun e => e ▸ q1434) id, Or.inl ⟨_, _, q1434⟩, q116, by decide, by decide⟩
theorem c_X0_80 {C : ZC} {E : ZE} {cc : ByteArray} {nL pc d : Nat} {nm : String} {ret : Option FieldType} {hh : List (Nat × Nat × Nat × Nat)} {σ : ZS} {L : List (Option Value)} {st : List Value} {a1 : Int32} {a2 : Int32} {Ret : Int32 → ZS → Prop} {Thr : Nat → ZS → Prop} (hC : Cx C E cc nL "RightTurnsLaw" nm ret hh d) (hdd : 11 + 1 ≤ d) (hd : decode cc pc = .ok (.invokevirtual 80, 3)) (hW : (st.map fun v => v.category).sum ≤ 8) (hV : wp_X1_exchange σ a1 a2 Thr Ret) (k : ∀ r σ', Ret r σ' → zz C E NS nL σ' (pc + 3) L (.int r :: st)) (kt : ∀ a σ', Thr a σ' → zth C E NS nL σ' pc L st (E.1.heap.size + a)) : zz C E NS nL σ pc L (.int a2 :: .int a1 :: .ref (E.1.heap.size + 0) :: st) :=
  z_callVG hC cf0 cw_X1_exchange hdd (by decide) (mz_X1_exchange (cxE hC) hV) hd (k_0 σ) q1431 q1432 q1433 (np := 2) rfl rfl hW rfl (kT (kI k) kt)
def wp_X0_exchange (σ : ZS) (a1 : Int32) (a2 : Int32) (Ret : Int32 → ZS → Prop) : Prop :=
    wp_X1_exchange σ a1 a2 (fun x3 σ4 => ((∃ x, kK NS σ4 x3 = (12 + 7, x)) ∧ (Ret 1 σ4))) (fun r1 σ2 => ∀ σ6 : ZS, σ6 = sJ σ2 1238 (ix 0) r1.toInt64 → (Ret 0 σ6))
set_option maxHeartbeats 4000000 in
theorem mz_X0_exchange {l : Launch} {E : ZE} (hE : EOK E) {σ : ZS} {a1 : Int32} {a2 : Int32} {Ret : Int32 → ZS → Prop} (hV : wp_X0_exchange σ a1 a2 Ret) : MZ l E NS yX0_exchange (wsW_ yX0_exchange cX0_exchange 5 (some .int) [(0, 10, 13, 13)]) 12 σ [.ref (E.1.heap.size + 0), .int a1, .int a2, .ref (E.1.heap.size + 1238)] (rI Ret) := by
  refine MZ.startW (L := [some (.ref (E.1.heap.size + 0)), some (.int a1), some (.int a2), some (.ref (E.1.heap.size + 1238)), none]) hE (by decide) (Nat.le_of_ble_eq_true rfl) rfl fun C hCl hQo hC => ?_
  replace hC : Cx C E cX0_exchange 5 "RightTurnsLaw" "exchange" (some .int) [(0, 10, 13, 13)] 12 := hC
  unfold wp_X0_exchange at hV
  refine z_aload_n hC dX0_exchange_0 rfl rfl ?_
  refine z_iconst (v := 0) hC dX0_exchange_1 rfl ?_
  refine z_aload_n hC dX0_exchange_2 rfl rfl ?_
  refine z_iload_n hC dX0_exchange_3 rfl rfl ?_
  refine z_iload_n hC dX0_exchange_4 rfl rfl ?_
  have hT5 : ∀ (x3 : Nat) (σ4 : ZS), (((∃ x, kK NS σ4 x3 = (12 + 7, x)) ∧ (Ret 1 σ4))) → zth C E NS 5 σ4 5 [some (.ref (E.1.heap.size + 0)), some (.int a1), some (.int a2), some (.ref (E.1.heap.size + 1238)), none] [.int 0, .ref (E.1.heap.size + 1238)] (E.1.heap.size + x3) := by
    clear hV
    intro x3 σ4 hV
    obtain ⟨⟨_, hk⟩, hV⟩ := hV
    refine zth_catch0 hC (by decide) (by decide) cf12 hk q744 ?_
    refine z_astore hC dX0_exchange_13 (Nat.le_of_ble_eq_true rfl) rfl rfl ?_
    refine z_iconst (v := 1) hC dX0_exchange_15 rfl ?_
    exact z_iret hC dX0_exchange_16 rfl (by rw [hQo]; exact ⟨_, rfl, hV⟩)
  refine c_X0_80 hC (by decide) dX0_exchange_5 (Nat.le_of_ble_eq_true rfl) hV (fun r1 σ2 hV => ?_) hT5
  refine z_i2l hC dX0_exchange_8 ?_
  refine z_last hC dX0_exchange_9 (k_1238 _) (in_dec rfl) ?_
  obtain ⟨σ6, e_σ6⟩ : ∃ z : ZS, z = sJ σ2 1238 (ix 0) r1.toInt64 := ⟨_, rfl⟩
  replace hV := hV _ e_σ6
  rw [← e_σ6]
  refine z_goto (tgt := 17) hC dX0_exchange_10 (by decide) ?_
  refine z_iconst (v := 0) hC dX0_exchange_17 rfl ?_
  exact z_iret hC dX0_exchange_18 rfl (by rw [hQo]; exact ⟨_, rfl, hV⟩)
theorem cw_X1_round : CodeW yX1_round (ws_ yX1_round cX1_round 6 (some .int)) 6 := ⟨fun w h => (List.mem_cons.mp h).elim (fun e => e ▸ q1441) id, Or.inl ⟨_, _, q1441⟩, q116, by decide, by decide⟩
theorem c_X0_83 {C : ZC} {E : ZE} {cc : ByteArray} {nL pc d : Nat} {nm : String} {ret : Option FieldType} {hh : List (Nat × Nat × Nat × Nat)} {σ : ZS} {L : List (Option Value)} {st : List Value} {a1 : Int32} {a2 : Int32} {Ret : Int32 → ZS → Prop} {Thr : Nat → ZS → Prop} (hC : Cx C E cc nL "RightTurnsLaw" nm ret hh d) (hdd : 9 + 1 ≤ d) (hd : decode cc pc = .ok (.invokevirtual 83, 3)) (hW : (st.map fun v => v.category).sum ≤ 8) (hV : wp_X1_round σ a1 a2 Thr Ret) (k : ∀ r σ', Ret r σ' → zz C E NS nL σ' (pc + 3) L (.int r :: st)) (kt : ∀ a σ', Thr a σ' → zth C E NS nL σ' pc L st (E.1.heap.size + a)) : zz C E NS nL σ pc L (.int a2 :: .int a1 :: .ref (E.1.heap.size + 0) :: st) :=
  z_callVG hC cf0 cw_X1_round hdd (by decide) (mz_X1_round (cxE hC) hV) hd (k_0 σ) q1438 q1439 q1440 (np := 2) rfl rfl hW rfl (kT (kI k) kt)
def wp_X0_round (σ : ZS) (a1 : Int32) (a2 : Int32) (Ret : Int32 → ZS → Prop) : Prop :=
    wp_X1_round σ a1 a2 (fun x3 σ4 => ((∃ x, kK NS σ4 x3 = (14 + 7, x)) ∧ (Ret 1 σ4)) ∨ ((∃ x, kK NS σ4 x3 = (12 + 7, x)) ∧ (Ret 2 σ4))) (fun r1 σ2 => ∀ σ6 : ZS, σ6 = sJ σ2 1238 (ix 0) r1.toInt64 → (Ret 0 σ6))
set_option maxHeartbeats 4000000 in
theorem mz_X0_round {l : Launch} {E : ZE} (hE : EOK E) {σ : ZS} {a1 : Int32} {a2 : Int32} {Ret : Int32 → ZS → Prop} (hV : wp_X0_round σ a1 a2 Ret) : MZ l E NS yX0_round (wsW_ yX0_round cX0_round 5 (some .int) [(0, 10, 13, 49), (0, 10, 17, 13)]) 10 σ [.ref (E.1.heap.size + 0), .int a1, .int a2, .ref (E.1.heap.size + 1238)] (rI Ret) := by
  refine MZ.startW (L := [some (.ref (E.1.heap.size + 0)), some (.int a1), some (.int a2), some (.ref (E.1.heap.size + 1238)), none]) hE (by decide) (Nat.le_of_ble_eq_true rfl) rfl fun C hCl hQo hC => ?_
  replace hC : Cx C E cX0_round 5 "RightTurnsLaw" "round" (some .int) [(0, 10, 13, 49), (0, 10, 17, 13)] 10 := hC
  unfold wp_X0_round at hV
  refine z_aload_n hC dX0_round_0 rfl rfl ?_
  refine z_iconst (v := 0) hC dX0_round_1 rfl ?_
  refine z_aload_n hC dX0_round_2 rfl rfl ?_
  refine z_iload_n hC dX0_round_3 rfl rfl ?_
  refine z_iload_n hC dX0_round_4 rfl rfl ?_
  have hT5 : ∀ (x3 : Nat) (σ4 : ZS), (((∃ x, kK NS σ4 x3 = (14 + 7, x)) ∧ (Ret 1 σ4)) ∨ ((∃ x, kK NS σ4 x3 = (12 + 7, x)) ∧ (Ret 2 σ4))) → zth C E NS 5 σ4 5 [some (.ref (E.1.heap.size + 0)), some (.int a1), some (.int a2), some (.ref (E.1.heap.size + 1238)), none] [.int 0, .ref (E.1.heap.size + 1238)] (E.1.heap.size + x3) := by
    clear hV
    rintro x3 σ4 (hV | hV)
    · obtain ⟨⟨_, hk⟩, hV⟩ := hV
      refine zth_catch0 hC (by decide) (by decide) cf14 hk q1249 ?_
      refine z_astore hC dX0_round_13 (Nat.le_of_ble_eq_true rfl) rfl rfl ?_
      refine z_iconst (v := 1) hC dX0_round_15 rfl ?_
      exact z_iret hC dX0_round_16 rfl (by rw [hQo]; exact ⟨_, rfl, hV⟩)
    · obtain ⟨⟨_, hk⟩, hV⟩ := hV
      refine zth_catch1 hC (by decide) (by decide) (by decide) (by decide) cf12 hk q744 q1249 (by decide +kernel) ?_
      refine z_astore hC dX0_round_17 (Nat.le_of_ble_eq_true rfl) rfl rfl ?_
      refine z_iconst (v := 2) hC dX0_round_19 rfl ?_
      exact z_iret hC dX0_round_20 rfl (by rw [hQo]; exact ⟨_, rfl, hV⟩)
  refine c_X0_83 hC (by decide) dX0_round_5 (Nat.le_of_ble_eq_true rfl) hV (fun r1 σ2 hV => ?_) hT5
  refine z_i2l hC dX0_round_8 ?_
  refine z_last hC dX0_round_9 (k_1238 _) (in_dec rfl) ?_
  obtain ⟨σ6, e_σ6⟩ : ∃ z : ZS, z = sJ σ2 1238 (ix 0) r1.toInt64 := ⟨_, rfl⟩
  replace hV := hV _ e_σ6
  rw [← e_σ6]
  refine z_goto (tgt := 21) hC dX0_round_10 (by decide) ?_
  refine z_iconst (v := 0) hC dX0_round_21 rfl ?_
  exact z_iret hC dX0_round_22 rfl (by rw [hQo]; exact ⟨_, rfl, hV⟩)
theorem cw_X1_bound : CodeW yX1_bound (ws_ yX1_bound cX1_bound 8 (some .int)) 8 := ⟨fun w h => (List.mem_cons.mp h).elim (fun e => e ▸ q1460) id, Or.inl ⟨_, _, q1460⟩, q116, by decide, by decide⟩
theorem c_X0_86 {C : ZC} {E : ZE} {cc : ByteArray} {nL pc d : Nat} {nm : String} {ret : Option FieldType} {hh : List (Nat × Nat × Nat × Nat)} {σ : ZS} {L : List (Option Value)} {st : List Value} {a1 : Int32} {a2 : Int32} {Ret : Int32 → ZS → Prop} {Thr : Nat → ZS → Prop} (hC : Cx C E cc nL "RightTurnsLaw" nm ret hh d) (hdd : 10 + 1 ≤ d) (hd : decode cc pc = .ok (.invokevirtual 86, 3)) (hW : (st.map fun v => v.category).sum ≤ 8) (hV : wp_X1_bound σ a1 a2 Thr Ret) (k : ∀ r σ', Ret r σ' → zz C E NS nL σ' (pc + 3) L (.int r :: st)) (kt : ∀ a σ', Thr a σ' → zth C E NS nL σ' pc L st (E.1.heap.size + a)) : zz C E NS nL σ pc L (.int a2 :: .int a1 :: .ref (E.1.heap.size + 0) :: st) :=
  z_callVG hC cf0 cw_X1_bound hdd (by decide) (mz_X1_bound (cxE hC) hV) hd (k_0 σ) q1457 q1458 q1459 (np := 2) rfl rfl hW rfl (kT (kI k) kt)
def wp_X0_bound (σ : ZS) (a1 : Int32) (a2 : Int32) (Ret : Int32 → ZS → Prop) : Prop :=
    wp_X1_bound σ a1 a2 (fun x3 σ4 => ((∃ x, kK NS σ4 x3 = (14 + 7, x)) ∧ (Ret 1 σ4)) ∨ ((∃ x, kK NS σ4 x3 = (12 + 7, x)) ∧ (Ret 2 σ4))) (fun r1 σ2 => ∀ σ6 : ZS, σ6 = sJ σ2 1238 (ix 0) r1.toInt64 → (Ret 0 σ6))
set_option maxHeartbeats 4000000 in
theorem mz_X0_bound {l : Launch} {E : ZE} (hE : EOK E) {σ : ZS} {a1 : Int32} {a2 : Int32} {Ret : Int32 → ZS → Prop} (hV : wp_X0_bound σ a1 a2 Ret) : MZ l E NS yX0_bound (wsW_ yX0_bound cX0_bound 5 (some .int) [(0, 10, 13, 49), (0, 10, 17, 13)]) 11 σ [.ref (E.1.heap.size + 0), .int a1, .int a2, .ref (E.1.heap.size + 1238)] (rI Ret) := by
  refine MZ.startW (L := [some (.ref (E.1.heap.size + 0)), some (.int a1), some (.int a2), some (.ref (E.1.heap.size + 1238)), none]) hE (by decide) (Nat.le_of_ble_eq_true rfl) rfl fun C hCl hQo hC => ?_
  replace hC : Cx C E cX0_bound 5 "RightTurnsLaw" "bound" (some .int) [(0, 10, 13, 49), (0, 10, 17, 13)] 11 := hC
  unfold wp_X0_bound at hV
  refine z_aload_n hC dX0_bound_0 rfl rfl ?_
  refine z_iconst (v := 0) hC dX0_bound_1 rfl ?_
  refine z_aload_n hC dX0_bound_2 rfl rfl ?_
  refine z_iload_n hC dX0_bound_3 rfl rfl ?_
  refine z_iload_n hC dX0_bound_4 rfl rfl ?_
  have hT5 : ∀ (x3 : Nat) (σ4 : ZS), (((∃ x, kK NS σ4 x3 = (14 + 7, x)) ∧ (Ret 1 σ4)) ∨ ((∃ x, kK NS σ4 x3 = (12 + 7, x)) ∧ (Ret 2 σ4))) → zth C E NS 5 σ4 5 [some (.ref (E.1.heap.size + 0)), some (.int a1), some (.int a2), some (.ref (E.1.heap.size + 1238)), none] [.int 0, .ref (E.1.heap.size + 1238)] (E.1.heap.size + x3) := by
    clear hV
    rintro x3 σ4 (hV | hV)
    · obtain ⟨⟨_, hk⟩, hV⟩ := hV
      refine zth_catch0 hC (by decide) (by decide) cf14 hk q1249 ?_
      refine z_astore hC dX0_bound_13 (Nat.le_of_ble_eq_true rfl) rfl rfl ?_
      refine z_iconst (v := 1) hC dX0_bound_15 rfl ?_
      exact z_iret hC dX0_bound_16 rfl (by rw [hQo]; exact ⟨_, rfl, hV⟩)
    · obtain ⟨⟨_, hk⟩, hV⟩ := hV
      refine zth_catch1 hC (by decide) (by decide) (by decide) (by decide) cf12 hk q744 q1249 (by decide +kernel) ?_
      refine z_astore hC dX0_bound_17 (Nat.le_of_ble_eq_true rfl) rfl rfl ?_
      refine z_iconst (v := 2) hC dX0_bound_19 rfl ?_
      exact z_iret hC dX0_bound_20 rfl (by rw [hQo]; exact ⟨_, rfl, hV⟩)
  refine c_X0_86 hC (by decide) dX0_bound_5 (Nat.le_of_ble_eq_true rfl) hV (fun r1 σ2 hV => ?_) hT5
  refine z_i2l hC dX0_bound_8 ?_
  refine z_last hC dX0_bound_9 (k_1238 _) (in_dec rfl) ?_
  obtain ⟨σ6, e_σ6⟩ : ∃ z : ZS, z = sJ σ2 1238 (ix 0) r1.toInt64 := ⟨_, rfl⟩
  replace hV := hV _ e_σ6
  rw [← e_σ6]
  refine z_goto (tgt := 21) hC dX0_bound_10 (by decide) ?_
  refine z_iconst (v := 0) hC dX0_bound_21 rfl ?_
  exact z_iret hC dX0_bound_22 rfl (by rw [hQo]; exact ⟨_, rfl, hV⟩)
theorem cw_X1_home : CodeW yX1_home (ws_ yX1_home cX1_home 2 (some .int)) 2 := ⟨fun w h => (List.mem_cons.mp h).elim (fun e => e ▸ q1467) id, Or.inl ⟨_, _, q1467⟩, q116, by decide, by decide⟩
theorem c_X0_89 {C : ZC} {E : ZE} {cc : ByteArray} {nL pc d : Nat} {nm : String} {ret : Option FieldType} {hh : List (Nat × Nat × Nat × Nat)} {σ : ZS} {L : List (Option Value)} {st : List Value} {a1 : Int32} {Ret : Int32 → ZS → Prop} {Thr : Nat → ZS → Prop} (hC : Cx C E cc nL "RightTurnsLaw" nm ret hh d) (hdd : 13 + 1 ≤ d) (hd : decode cc pc = .ok (.invokevirtual 89, 3)) (hW : (st.map fun v => v.category).sum ≤ 8) (hV : wp_X1_home σ a1 Thr Ret) (k : ∀ r σ', Ret r σ' → zz C E NS nL σ' (pc + 3) L (.int r :: st)) (kt : ∀ a σ', Thr a σ' → zth C E NS nL σ' pc L st (E.1.heap.size + a)) : zz C E NS nL σ pc L (.int a1 :: .ref (E.1.heap.size + 0) :: st) :=
  z_callVG hC cf0 cw_X1_home hdd (by decide) (mz_X1_home (cxE hC) hV) hd (k_0 σ) q1464 q1465 q1466 (np := 1) rfl rfl hW rfl (kT (kI k) kt)
def wp_X0_home (σ : ZS) (a1 : Int32) (Ret : Int32 → ZS → Prop) : Prop :=
    wp_X1_home σ a1 (fun x3 σ4 => ((∃ x, kK NS σ4 x3 = (12 + 7, x)) ∧ (Ret 1 σ4))) (fun r1 σ2 => ∀ σ6 : ZS, σ6 = sJ σ2 1238 (ix 0) r1.toInt64 → (Ret 0 σ6))
set_option maxHeartbeats 4000000 in
theorem mz_X0_home {l : Launch} {E : ZE} (hE : EOK E) {σ : ZS} {a1 : Int32} {Ret : Int32 → ZS → Prop} (hV : wp_X0_home σ a1 Ret) : MZ l E NS yX0_home (wsW_ yX0_home cX0_home 4 (some .int) [(0, 9, 12, 13)]) 14 σ [.ref (E.1.heap.size + 0), .int a1, .ref (E.1.heap.size + 1238)] (rI Ret) := by
  refine MZ.startW (L := [some (.ref (E.1.heap.size + 0)), some (.int a1), some (.ref (E.1.heap.size + 1238)), none]) hE (by decide) (Nat.le_of_ble_eq_true rfl) rfl fun C hCl hQo hC => ?_
  replace hC : Cx C E cX0_home 4 "RightTurnsLaw" "home" (some .int) [(0, 9, 12, 13)] 14 := hC
  unfold wp_X0_home at hV
  refine z_aload_n hC dX0_home_0 rfl rfl ?_
  refine z_iconst (v := 0) hC dX0_home_1 rfl ?_
  refine z_aload_n hC dX0_home_2 rfl rfl ?_
  refine z_iload_n hC dX0_home_3 rfl rfl ?_
  have hT5 : ∀ (x3 : Nat) (σ4 : ZS), (((∃ x, kK NS σ4 x3 = (12 + 7, x)) ∧ (Ret 1 σ4))) → zth C E NS 4 σ4 4 [some (.ref (E.1.heap.size + 0)), some (.int a1), some (.ref (E.1.heap.size + 1238)), none] [.int 0, .ref (E.1.heap.size + 1238)] (E.1.heap.size + x3) := by
    clear hV
    intro x3 σ4 hV
    obtain ⟨⟨_, hk⟩, hV⟩ := hV
    refine zth_catch0 hC (by decide) (by decide) cf12 hk q744 ?_
    refine z_astore_n hC dX0_home_12 rfl (Nat.le_of_ble_eq_true rfl) rfl rfl ?_
    refine z_iconst (v := 1) hC dX0_home_13 rfl ?_
    exact z_iret hC dX0_home_14 rfl (by rw [hQo]; exact ⟨_, rfl, hV⟩)
  refine c_X0_89 hC (by decide) dX0_home_4 (Nat.le_of_ble_eq_true rfl) hV (fun r1 σ2 hV => ?_) hT5
  refine z_i2l hC dX0_home_7 ?_
  refine z_last hC dX0_home_8 (k_1238 _) (in_dec rfl) ?_
  obtain ⟨σ6, e_σ6⟩ : ∃ z : ZS, z = sJ σ2 1238 (ix 0) r1.toInt64 := ⟨_, rfl⟩
  replace hV := hV _ e_σ6
  rw [← e_σ6]
  refine z_goto (tgt := 15) hC dX0_home_9 (by decide) ?_
  refine z_iconst (v := 0) hC dX0_home_15 rfl ?_
  exact z_iret hC dX0_home_16 rfl (by rw [hQo]; exact ⟨_, rfl, hV⟩)
theorem cw_X1_traffic : CodeW yX1_traffic (ws_ yX1_traffic cX1_traffic 5 (some .int)) 5 := ⟨fun w h => (List.mem_cons.mp h).elim (fun e => e ▸ q1499) id, Or.inl ⟨_, _, q1499⟩, q116, by decide, by decide⟩
theorem c_X0_92 {C : ZC} {E : ZE} {cc : ByteArray} {nL pc d : Nat} {nm : String} {ret : Option FieldType} {hh : List (Nat × Nat × Nat × Nat)} {σ : ZS} {L : List (Option Value)} {st : List Value} {a1 : Int32} {Ret : Int32 → ZS → Prop} {Thr : Nat → ZS → Prop} (hC : Cx C E cc nL "RightTurnsLaw" nm ret hh d) (hdd : 13 + 1 ≤ d) (hd : decode cc pc = .ok (.invokevirtual 92, 3)) (hW : (st.map fun v => v.category).sum ≤ 8) (hV : wp_X1_traffic σ a1 Thr Ret) (k : ∀ r σ', Ret r σ' → zz C E NS nL σ' (pc + 3) L (.int r :: st)) (kt : ∀ a σ', Thr a σ' → zth C E NS nL σ' pc L st (E.1.heap.size + a)) : zz C E NS nL σ pc L (.int a1 :: .ref (E.1.heap.size + 0) :: st) :=
  z_callVG hC cf0 cw_X1_traffic hdd (by decide) (mz_X1_traffic (cxE hC) hV) hd (k_0 σ) q1496 q1497 q1498 (np := 1) rfl rfl hW rfl (kT (kI k) kt)
def wp_X0_traffic (σ : ZS) (a1 : Int32) (Ret : Int32 → ZS → Prop) : Prop :=
    wp_X1_traffic σ a1 (fun x3 σ4 => ((∃ x, kK NS σ4 x3 = (12 + 7, x)) ∧ (Ret 1 σ4))) (fun r1 σ2 => ∀ σ6 : ZS, σ6 = sJ σ2 1238 (ix 0) r1.toInt64 → (Ret 0 σ6))
set_option maxHeartbeats 4000000 in
theorem mz_X0_traffic {l : Launch} {E : ZE} (hE : EOK E) {σ : ZS} {a1 : Int32} {Ret : Int32 → ZS → Prop} (hV : wp_X0_traffic σ a1 Ret) : MZ l E NS yX0_traffic (wsW_ yX0_traffic cX0_traffic 4 (some .int) [(0, 9, 12, 13)]) 14 σ [.ref (E.1.heap.size + 0), .int a1, .ref (E.1.heap.size + 1238)] (rI Ret) := by
  refine MZ.startW (L := [some (.ref (E.1.heap.size + 0)), some (.int a1), some (.ref (E.1.heap.size + 1238)), none]) hE (by decide) (Nat.le_of_ble_eq_true rfl) rfl fun C hCl hQo hC => ?_
  replace hC : Cx C E cX0_traffic 4 "RightTurnsLaw" "traffic" (some .int) [(0, 9, 12, 13)] 14 := hC
  unfold wp_X0_traffic at hV
  refine z_aload_n hC dX0_traffic_0 rfl rfl ?_
  refine z_iconst (v := 0) hC dX0_traffic_1 rfl ?_
  refine z_aload_n hC dX0_traffic_2 rfl rfl ?_
  refine z_iload_n hC dX0_traffic_3 rfl rfl ?_
  have hT5 : ∀ (x3 : Nat) (σ4 : ZS), (((∃ x, kK NS σ4 x3 = (12 + 7, x)) ∧ (Ret 1 σ4))) → zth C E NS 4 σ4 4 [some (.ref (E.1.heap.size + 0)), some (.int a1), some (.ref (E.1.heap.size + 1238)), none] [.int 0, .ref (E.1.heap.size + 1238)] (E.1.heap.size + x3) := by
    clear hV
    intro x3 σ4 hV
    obtain ⟨⟨_, hk⟩, hV⟩ := hV
    refine zth_catch0 hC (by decide) (by decide) cf12 hk q744 ?_
    refine z_astore_n hC dX0_traffic_12 rfl (Nat.le_of_ble_eq_true rfl) rfl rfl ?_
    refine z_iconst (v := 1) hC dX0_traffic_13 rfl ?_
    exact z_iret hC dX0_traffic_14 rfl (by rw [hQo]; exact ⟨_, rfl, hV⟩)
  refine c_X0_92 hC (by decide) dX0_traffic_4 (Nat.le_of_ble_eq_true rfl) hV (fun r1 σ2 hV => ?_) hT5
  refine z_i2l hC dX0_traffic_7 ?_
  refine z_last hC dX0_traffic_8 (k_1238 _) (in_dec rfl) ?_
  obtain ⟨σ6, e_σ6⟩ : ∃ z : ZS, z = sJ σ2 1238 (ix 0) r1.toInt64 := ⟨_, rfl⟩
  replace hV := hV _ e_σ6
  rw [← e_σ6]
  refine z_goto (tgt := 15) hC dX0_traffic_9 (by decide) ?_
  refine z_iconst (v := 0) hC dX0_traffic_15 rfl ?_
  exact z_iret hC dX0_traffic_16 rfl (by rw [hQo]; exact ⟨_, rfl, hV⟩)
theorem cw_X1_counts : CodeW yX1_counts (ws_ yX1_counts cX1_counts 6 (some .int)) 6 := ⟨fun w h => (List.mem_cons.mp h).elim (fun e => e ▸ q1506) id, Or.inl ⟨_, _, q1506⟩, q116, by decide, by decide⟩
theorem c_X0_95 {C : ZC} {E : ZE} {cc : ByteArray} {nL pc d : Nat} {nm : String} {ret : Option FieldType} {hh : List (Nat × Nat × Nat × Nat)} {σ : ZS} {L : List (Option Value)} {st : List Value} {a1 : Int32} {Ret : Int32 → ZS → Prop} {Thr : Nat → ZS → Prop} (hC : Cx C E cc nL "RightTurnsLaw" nm ret hh d) (hdd : 12 + 1 ≤ d) (hd : decode cc pc = .ok (.invokevirtual 95, 3)) (hW : (st.map fun v => v.category).sum ≤ 8) (hV : wp_X1_counts σ a1 Thr Ret) (k : ∀ r σ', Ret r σ' → zz C E NS nL σ' (pc + 3) L (.int r :: st)) (kt : ∀ a σ', Thr a σ' → zth C E NS nL σ' pc L st (E.1.heap.size + a)) : zz C E NS nL σ pc L (.int a1 :: .ref (E.1.heap.size + 0) :: st) :=
  z_callVG hC cf0 cw_X1_counts hdd (by decide) (mz_X1_counts (cxE hC) hV) hd (k_0 σ) q1503 q1504 q1505 (np := 1) rfl rfl hW rfl (kT (kI k) kt)
def wp_X0_counts (σ : ZS) (a1 : Int32) (Ret : Int32 → ZS → Prop) : Prop :=
    wp_X1_counts σ a1 (fun x3 σ4 => ((∃ x, kK NS σ4 x3 = (13 + 7, x)) ∧ (Ret 1 σ4))) (fun r1 σ2 => ∀ σ6 : ZS, σ6 = sJ σ2 1238 (ix 0) r1.toInt64 → (Ret 0 σ6))
set_option maxHeartbeats 4000000 in
theorem mz_X0_counts {l : Launch} {E : ZE} (hE : EOK E) {σ : ZS} {a1 : Int32} {Ret : Int32 → ZS → Prop} (hV : wp_X0_counts σ a1 Ret) : MZ l E NS yX0_counts (wsW_ yX0_counts cX0_counts 4 (some .int) [(0, 9, 12, 22)]) 13 σ [.ref (E.1.heap.size + 0), .int a1, .ref (E.1.heap.size + 1238)] (rI Ret) := by
  refine MZ.startW (L := [some (.ref (E.1.heap.size + 0)), some (.int a1), some (.ref (E.1.heap.size + 1238)), none]) hE (by decide) (Nat.le_of_ble_eq_true rfl) rfl fun C hCl hQo hC => ?_
  replace hC : Cx C E cX0_counts 4 "RightTurnsLaw" "counts" (some .int) [(0, 9, 12, 22)] 13 := hC
  unfold wp_X0_counts at hV
  refine z_aload_n hC dX0_counts_0 rfl rfl ?_
  refine z_iconst (v := 0) hC dX0_counts_1 rfl ?_
  refine z_aload_n hC dX0_counts_2 rfl rfl ?_
  refine z_iload_n hC dX0_counts_3 rfl rfl ?_
  have hT5 : ∀ (x3 : Nat) (σ4 : ZS), (((∃ x, kK NS σ4 x3 = (13 + 7, x)) ∧ (Ret 1 σ4))) → zth C E NS 4 σ4 4 [some (.ref (E.1.heap.size + 0)), some (.int a1), some (.ref (E.1.heap.size + 1238)), none] [.int 0, .ref (E.1.heap.size + 1238)] (E.1.heap.size + x3) := by
    clear hV
    intro x3 σ4 hV
    obtain ⟨⟨_, hk⟩, hV⟩ := hV
    refine zth_catch0 hC (by decide) (by decide) cf13 hk q1147 ?_
    refine z_astore_n hC dX0_counts_12 rfl (Nat.le_of_ble_eq_true rfl) rfl rfl ?_
    refine z_iconst (v := 1) hC dX0_counts_13 rfl ?_
    exact z_iret hC dX0_counts_14 rfl (by rw [hQo]; exact ⟨_, rfl, hV⟩)
  refine c_X0_95 hC (by decide) dX0_counts_4 (Nat.le_of_ble_eq_true rfl) hV (fun r1 σ2 hV => ?_) hT5
  refine z_i2l hC dX0_counts_7 ?_
  refine z_last hC dX0_counts_8 (k_1238 _) (in_dec rfl) ?_
  obtain ⟨σ6, e_σ6⟩ : ∃ z : ZS, z = sJ σ2 1238 (ix 0) r1.toInt64 := ⟨_, rfl⟩
  replace hV := hV _ e_σ6
  rw [← e_σ6]
  refine z_goto (tgt := 15) hC dX0_counts_9 (by decide) ?_
  refine z_iconst (v := 0) hC dX0_counts_15 rfl ?_
  exact z_iret hC dX0_counts_16 rfl (by rw [hQo]; exact ⟨_, rfl, hV⟩)
theorem cw_X1_tell : CodeW yX1_tell (ws_ yX1_tell cX1_tell 2 (some .int)) 2 := ⟨fun w h => (List.mem_cons.mp h).elim (fun e => e ▸ q1513) id, Or.inl ⟨_, _, q1513⟩, q116, by decide, by decide⟩
theorem c_X0_98 {C : ZC} {E : ZE} {cc : ByteArray} {nL pc d : Nat} {nm : String} {ret : Option FieldType} {hh : List (Nat × Nat × Nat × Nat)} {σ : ZS} {L : List (Option Value)} {st : List Value} {a1 : Int32} {Ret : Int32 → ZS → Prop} {Thr : Nat → ZS → Prop} (hC : Cx C E cc nL "RightTurnsLaw" nm ret hh d) (hdd : 7 + 1 ≤ d) (hd : decode cc pc = .ok (.invokevirtual 98, 3)) (hW : (st.map fun v => v.category).sum ≤ 8) (hV : wp_X1_tell σ a1 Thr Ret) (k : ∀ r σ', Ret r σ' → zz C E NS nL σ' (pc + 3) L (.int r :: st)) (kt : ∀ a σ', Thr a σ' → zth C E NS nL σ' pc L st (E.1.heap.size + a)) : zz C E NS nL σ pc L (.int a1 :: .ref (E.1.heap.size + 0) :: st) :=
  z_callVG hC cf0 cw_X1_tell hdd (by decide) (mz_X1_tell (cxE hC) hV) hd (k_0 σ) q1510 q1511 q1512 (np := 1) rfl rfl hW rfl (kT (kI k) kt)
def wp_X0_tell (σ : ZS) (a1 : Int32) (Ret : Int32 → ZS → Prop) : Prop :=
    wp_X1_tell σ a1 (fun x3 σ4 => ((∃ x, kK NS σ4 x3 = (14 + 7, x)) ∧ (Ret 1 σ4))) (fun r1 σ2 => ∀ σ6 : ZS, σ6 = sJ σ2 1238 (ix 0) r1.toInt64 → (Ret 0 σ6))
set_option maxHeartbeats 4000000 in
theorem mz_X0_tell {l : Launch} {E : ZE} (hE : EOK E) {σ : ZS} {a1 : Int32} {Ret : Int32 → ZS → Prop} (hV : wp_X0_tell σ a1 Ret) : MZ l E NS yX0_tell (wsW_ yX0_tell cX0_tell 4 (some .int) [(0, 9, 12, 49)]) 8 σ [.ref (E.1.heap.size + 0), .int a1, .ref (E.1.heap.size + 1238)] (rI Ret) := by
  refine MZ.startW (L := [some (.ref (E.1.heap.size + 0)), some (.int a1), some (.ref (E.1.heap.size + 1238)), none]) hE (by decide) (Nat.le_of_ble_eq_true rfl) rfl fun C hCl hQo hC => ?_
  replace hC : Cx C E cX0_tell 4 "RightTurnsLaw" "tell" (some .int) [(0, 9, 12, 49)] 8 := hC
  unfold wp_X0_tell at hV
  refine z_aload_n hC dX0_tell_0 rfl rfl ?_
  refine z_iconst (v := 0) hC dX0_tell_1 rfl ?_
  refine z_aload_n hC dX0_tell_2 rfl rfl ?_
  refine z_iload_n hC dX0_tell_3 rfl rfl ?_
  have hT5 : ∀ (x3 : Nat) (σ4 : ZS), (((∃ x, kK NS σ4 x3 = (14 + 7, x)) ∧ (Ret 1 σ4))) → zth C E NS 4 σ4 4 [some (.ref (E.1.heap.size + 0)), some (.int a1), some (.ref (E.1.heap.size + 1238)), none] [.int 0, .ref (E.1.heap.size + 1238)] (E.1.heap.size + x3) := by
    clear hV
    intro x3 σ4 hV
    obtain ⟨⟨_, hk⟩, hV⟩ := hV
    refine zth_catch0 hC (by decide) (by decide) cf14 hk q1249 ?_
    refine z_astore_n hC dX0_tell_12 rfl (Nat.le_of_ble_eq_true rfl) rfl rfl ?_
    refine z_iconst (v := 1) hC dX0_tell_13 rfl ?_
    exact z_iret hC dX0_tell_14 rfl (by rw [hQo]; exact ⟨_, rfl, hV⟩)
  refine c_X0_98 hC (by decide) dX0_tell_4 (Nat.le_of_ble_eq_true rfl) hV (fun r1 σ2 hV => ?_) hT5
  refine z_i2l hC dX0_tell_7 ?_
  refine z_last hC dX0_tell_8 (k_1238 _) (in_dec rfl) ?_
  obtain ⟨σ6, e_σ6⟩ : ∃ z : ZS, z = sJ σ2 1238 (ix 0) r1.toInt64 := ⟨_, rfl⟩
  replace hV := hV _ e_σ6
  rw [← e_σ6]
  refine z_goto (tgt := 15) hC dX0_tell_9 (by decide) ?_
  refine z_iconst (v := 0) hC dX0_tell_15 rfl ?_
  exact z_iret hC dX0_tell_16 rfl (by rw [hQo]; exact ⟨_, rfl, hV⟩)
theorem cw_X1_breaks : CodeW yX1_breaks (ws_ yX1_breaks cX1_breaks 3 (some .long)) 3 := ⟨fun w h => (List.mem_cons.mp h).elim (fun e => e ▸ q1520) id, Or.inl ⟨_, _, q1520⟩, q116, by decide, by decide⟩
theorem c_X0_101 {C : ZC} {E : ZE} {cc : ByteArray} {nL pc d : Nat} {nm : String} {ret : Option FieldType} {hh : List (Nat × Nat × Nat × Nat)} {σ : ZS} {L : List (Option Value)} {st : List Value} {a1 : Int32} {a2 : Int32} {Ret : Int64 → ZS → Prop} {Thr : Nat → ZS → Prop} (hC : Cx C E cc nL "RightTurnsLaw" nm ret hh d) (hdd : 10 + 1 ≤ d) (hd : decode cc pc = .ok (.invokevirtual 101, 3)) (hW : (st.map fun v => v.category).sum ≤ 8) (hV : wp_X1_breaks σ a1 a2 Thr Ret) (k : ∀ r σ', Ret r σ' → zz C E NS nL σ' (pc + 3) L (.long r :: st)) (kt : ∀ a σ', Thr a σ' → zth C E NS nL σ' pc L st (E.1.heap.size + a)) : zz C E NS nL σ pc L (.int a2 :: .int a1 :: .ref (E.1.heap.size + 0) :: st) :=
  z_callVG hC cf0 cw_X1_breaks hdd (by decide) (mz_X1_breaks (cxE hC) hV) hd (k_0 σ) q1517 q1518 q1519 (np := 2) rfl rfl hW rfl (kT (kJ k) kt)
def wp_X0_breaks (σ : ZS) (a1 : Int32) (a2 : Int32) (Ret : Int32 → ZS → Prop) : Prop :=
    wp_X1_breaks σ a1 a2 (fun x3 σ4 => ((∃ x, kK NS σ4 x3 = (12 + 7, x)) ∧ (Ret 1 σ4))) (fun r1 σ2 => ∀ σ6 : ZS, σ6 = sJ σ2 1238 (ix 0) r1 → (Ret 0 σ6))
set_option maxHeartbeats 4000000 in
theorem mz_X0_breaks {l : Launch} {E : ZE} (hE : EOK E) {σ : ZS} {a1 : Int32} {a2 : Int32} {Ret : Int32 → ZS → Prop} (hV : wp_X0_breaks σ a1 a2 Ret) : MZ l E NS yX0_breaks (wsW_ yX0_breaks cX0_breaks 5 (some .int) [(0, 9, 12, 13)]) 11 σ [.ref (E.1.heap.size + 0), .int a1, .int a2, .ref (E.1.heap.size + 1238)] (rI Ret) := by
  refine MZ.startW (L := [some (.ref (E.1.heap.size + 0)), some (.int a1), some (.int a2), some (.ref (E.1.heap.size + 1238)), none]) hE (by decide) (Nat.le_of_ble_eq_true rfl) rfl fun C hCl hQo hC => ?_
  replace hC : Cx C E cX0_breaks 5 "RightTurnsLaw" "breaks" (some .int) [(0, 9, 12, 13)] 11 := hC
  unfold wp_X0_breaks at hV
  refine z_aload_n hC dX0_breaks_0 rfl rfl ?_
  refine z_iconst (v := 0) hC dX0_breaks_1 rfl ?_
  refine z_aload_n hC dX0_breaks_2 rfl rfl ?_
  refine z_iload_n hC dX0_breaks_3 rfl rfl ?_
  refine z_iload_n hC dX0_breaks_4 rfl rfl ?_
  have hT5 : ∀ (x3 : Nat) (σ4 : ZS), (((∃ x, kK NS σ4 x3 = (12 + 7, x)) ∧ (Ret 1 σ4))) → zth C E NS 5 σ4 5 [some (.ref (E.1.heap.size + 0)), some (.int a1), some (.int a2), some (.ref (E.1.heap.size + 1238)), none] [.int 0, .ref (E.1.heap.size + 1238)] (E.1.heap.size + x3) := by
    clear hV
    intro x3 σ4 hV
    obtain ⟨⟨_, hk⟩, hV⟩ := hV
    refine zth_catch0 hC (by decide) (by decide) cf12 hk q744 ?_
    refine z_astore hC dX0_breaks_12 (Nat.le_of_ble_eq_true rfl) rfl rfl ?_
    refine z_iconst (v := 1) hC dX0_breaks_14 rfl ?_
    exact z_iret hC dX0_breaks_15 rfl (by rw [hQo]; exact ⟨_, rfl, hV⟩)
  refine c_X0_101 hC (by decide) dX0_breaks_5 (Nat.le_of_ble_eq_true rfl) hV (fun r1 σ2 hV => ?_) hT5
  refine z_last hC dX0_breaks_8 (k_1238 _) (in_dec rfl) ?_
  obtain ⟨σ6, e_σ6⟩ : ∃ z : ZS, z = sJ σ2 1238 (ix 0) r1 := ⟨_, rfl⟩
  replace hV := hV _ e_σ6
  rw [← e_σ6]
  refine z_goto (tgt := 16) hC dX0_breaks_9 (by decide) ?_
  refine z_iconst (v := 0) hC dX0_breaks_16 rfl ?_
  exact z_iret hC dX0_breaks_17 rfl (by rw [hQo]; exact ⟨_, rfl, hV⟩)
theorem cw_X1_cut : CodeW yX1_cut (ws_ yX1_cut cX1_cut 7 (some .int)) 7 := ⟨fun w h => (List.mem_cons.mp h).elim (fun e => e ▸ q1540) id, Or.inl ⟨_, _, q1540⟩, q116, by decide, by decide⟩
theorem c_X0_105 {C : ZC} {E : ZE} {cc : ByteArray} {nL pc d : Nat} {nm : String} {ret : Option FieldType} {hh : List (Nat × Nat × Nat × Nat)} {σ : ZS} {L : List (Option Value)} {st : List Value} {a1 : Int32} {Ret : Int32 → ZS → Prop} {Thr : Nat → ZS → Prop} (hC : Cx C E cc nL "RightTurnsLaw" nm ret hh d) (hdd : 11 + 1 ≤ d) (hd : decode cc pc = .ok (.invokevirtual 105, 3)) (hW : (st.map fun v => v.category).sum ≤ 8) (hV : wp_X1_cut σ a1 Thr Ret) (k : ∀ r σ', Ret r σ' → zz C E NS nL σ' (pc + 3) L (.int r :: st)) (kt : ∀ a σ', Thr a σ' → zth C E NS nL σ' pc L st (E.1.heap.size + a)) : zz C E NS nL σ pc L (.int a1 :: .ref (E.1.heap.size + 0) :: st) :=
  z_callVG hC cf0 cw_X1_cut hdd (by decide) (mz_X1_cut (cxE hC) hV) hd (k_0 σ) q1537 q1538 q1539 (np := 1) rfl rfl hW rfl (kT (kI k) kt)
def wp_X0_cut (σ : ZS) (a1 : Int32) (Ret : Int32 → ZS → Prop) : Prop :=
    wp_X1_cut σ a1 (fun x3 σ4 => ((∃ x, kK NS σ4 x3 = (12 + 7, x)) ∧ (Ret 1 σ4))) (fun r1 σ2 => ∀ σ6 : ZS, σ6 = sJ σ2 1238 (ix 0) r1.toInt64 → (Ret 0 σ6))
set_option maxHeartbeats 4000000 in
theorem mz_X0_cut {l : Launch} {E : ZE} (hE : EOK E) {σ : ZS} {a1 : Int32} {Ret : Int32 → ZS → Prop} (hV : wp_X0_cut σ a1 Ret) : MZ l E NS yX0_cut (wsW_ yX0_cut cX0_cut 4 (some .int) [(0, 9, 12, 13)]) 12 σ [.ref (E.1.heap.size + 0), .int a1, .ref (E.1.heap.size + 1238)] (rI Ret) := by
  refine MZ.startW (L := [some (.ref (E.1.heap.size + 0)), some (.int a1), some (.ref (E.1.heap.size + 1238)), none]) hE (by decide) (Nat.le_of_ble_eq_true rfl) rfl fun C hCl hQo hC => ?_
  replace hC : Cx C E cX0_cut 4 "RightTurnsLaw" "cut" (some .int) [(0, 9, 12, 13)] 12 := hC
  unfold wp_X0_cut at hV
  refine z_aload_n hC dX0_cut_0 rfl rfl ?_
  refine z_iconst (v := 0) hC dX0_cut_1 rfl ?_
  refine z_aload_n hC dX0_cut_2 rfl rfl ?_
  refine z_iload_n hC dX0_cut_3 rfl rfl ?_
  have hT5 : ∀ (x3 : Nat) (σ4 : ZS), (((∃ x, kK NS σ4 x3 = (12 + 7, x)) ∧ (Ret 1 σ4))) → zth C E NS 4 σ4 4 [some (.ref (E.1.heap.size + 0)), some (.int a1), some (.ref (E.1.heap.size + 1238)), none] [.int 0, .ref (E.1.heap.size + 1238)] (E.1.heap.size + x3) := by
    clear hV
    intro x3 σ4 hV
    obtain ⟨⟨_, hk⟩, hV⟩ := hV
    refine zth_catch0 hC (by decide) (by decide) cf12 hk q744 ?_
    refine z_astore_n hC dX0_cut_12 rfl (Nat.le_of_ble_eq_true rfl) rfl rfl ?_
    refine z_iconst (v := 1) hC dX0_cut_13 rfl ?_
    exact z_iret hC dX0_cut_14 rfl (by rw [hQo]; exact ⟨_, rfl, hV⟩)
  refine c_X0_105 hC (by decide) dX0_cut_4 (Nat.le_of_ble_eq_true rfl) hV (fun r1 σ2 hV => ?_) hT5
  refine z_i2l hC dX0_cut_7 ?_
  refine z_last hC dX0_cut_8 (k_1238 _) (in_dec rfl) ?_
  obtain ⟨σ6, e_σ6⟩ : ∃ z : ZS, z = sJ σ2 1238 (ix 0) r1.toInt64 := ⟨_, rfl⟩
  replace hV := hV _ e_σ6
  rw [← e_σ6]
  refine z_goto (tgt := 15) hC dX0_cut_9 (by decide) ?_
  refine z_iconst (v := 0) hC dX0_cut_15 rfl ?_
  exact z_iret hC dX0_cut_16 rfl (by rw [hQo]; exact ⟨_, rfl, hV⟩)
theorem cw_X1_sure : CodeW yX1_sure (ws_ yX1_sure cX1_sure 10 (some .int)) 10 := ⟨fun w h => (List.mem_cons.mp h).elim (fun e => e ▸ q1551) id, Or.inl ⟨_, _, q1551⟩, q116, by decide, by decide⟩
theorem c_X0_108 {C : ZC} {E : ZE} {cc : ByteArray} {nL pc d : Nat} {nm : String} {ret : Option FieldType} {hh : List (Nat × Nat × Nat × Nat)} {σ : ZS} {L : List (Option Value)} {st : List Value} {a1 : Int32} {a2 : Int32} {Ret : Int32 → ZS → Prop} {Thr : Nat → ZS → Prop} (hC : Cx C E cc nL "RightTurnsLaw" nm ret hh d) (hdd : 10 + 1 ≤ d) (hd : decode cc pc = .ok (.invokevirtual 108, 3)) (hW : (st.map fun v => v.category).sum ≤ 8) (hV : wp_X1_sure σ a1 a2 Thr Ret) (k : ∀ r σ', Ret r σ' → zz C E NS nL σ' (pc + 3) L (.int r :: st)) (kt : ∀ a σ', Thr a σ' → zth C E NS nL σ' pc L st (E.1.heap.size + a)) : zz C E NS nL σ pc L (.int a2 :: .int a1 :: .ref (E.1.heap.size + 0) :: st) :=
  z_callVG hC cf0 cw_X1_sure hdd (by decide) (mz_X1_sure (cxE hC) hV) hd (k_0 σ) q1548 q1549 q1550 (np := 2) rfl rfl hW rfl (kT (kI k) kt)
def wp_X0_sure (σ : ZS) (a1 : Int32) (a2 : Int32) (Ret : Int32 → ZS → Prop) : Prop :=
    wp_X1_sure σ a1 a2 (fun x3 σ4 => ((∃ x, kK NS σ4 x3 = (12 + 7, x)) ∧ (Ret 1 σ4))) (fun r1 σ2 => ∀ σ6 : ZS, σ6 = sJ σ2 1238 (ix 0) r1.toInt64 → (Ret 0 σ6))
set_option maxHeartbeats 4000000 in
theorem mz_X0_sure {l : Launch} {E : ZE} (hE : EOK E) {σ : ZS} {a1 : Int32} {a2 : Int32} {Ret : Int32 → ZS → Prop} (hV : wp_X0_sure σ a1 a2 Ret) : MZ l E NS yX0_sure (wsW_ yX0_sure cX0_sure 5 (some .int) [(0, 10, 13, 13)]) 11 σ [.ref (E.1.heap.size + 0), .int a1, .int a2, .ref (E.1.heap.size + 1238)] (rI Ret) := by
  refine MZ.startW (L := [some (.ref (E.1.heap.size + 0)), some (.int a1), some (.int a2), some (.ref (E.1.heap.size + 1238)), none]) hE (by decide) (Nat.le_of_ble_eq_true rfl) rfl fun C hCl hQo hC => ?_
  replace hC : Cx C E cX0_sure 5 "RightTurnsLaw" "sure" (some .int) [(0, 10, 13, 13)] 11 := hC
  unfold wp_X0_sure at hV
  refine z_aload_n hC dX0_sure_0 rfl rfl ?_
  refine z_iconst (v := 0) hC dX0_sure_1 rfl ?_
  refine z_aload_n hC dX0_sure_2 rfl rfl ?_
  refine z_iload_n hC dX0_sure_3 rfl rfl ?_
  refine z_iload_n hC dX0_sure_4 rfl rfl ?_
  have hT5 : ∀ (x3 : Nat) (σ4 : ZS), (((∃ x, kK NS σ4 x3 = (12 + 7, x)) ∧ (Ret 1 σ4))) → zth C E NS 5 σ4 5 [some (.ref (E.1.heap.size + 0)), some (.int a1), some (.int a2), some (.ref (E.1.heap.size + 1238)), none] [.int 0, .ref (E.1.heap.size + 1238)] (E.1.heap.size + x3) := by
    clear hV
    intro x3 σ4 hV
    obtain ⟨⟨_, hk⟩, hV⟩ := hV
    refine zth_catch0 hC (by decide) (by decide) cf12 hk q744 ?_
    refine z_astore hC dX0_sure_13 (Nat.le_of_ble_eq_true rfl) rfl rfl ?_
    refine z_iconst (v := 1) hC dX0_sure_15 rfl ?_
    exact z_iret hC dX0_sure_16 rfl (by rw [hQo]; exact ⟨_, rfl, hV⟩)
  refine c_X0_108 hC (by decide) dX0_sure_5 (Nat.le_of_ble_eq_true rfl) hV (fun r1 σ2 hV => ?_) hT5
  refine z_i2l hC dX0_sure_8 ?_
  refine z_last hC dX0_sure_9 (k_1238 _) (in_dec rfl) ?_
  obtain ⟨σ6, e_σ6⟩ : ∃ z : ZS, z = sJ σ2 1238 (ix 0) r1.toInt64 := ⟨_, rfl⟩
  replace hV := hV _ e_σ6
  rw [← e_σ6]
  refine z_goto (tgt := 17) hC dX0_sure_10 (by decide) ?_
  refine z_iconst (v := 0) hC dX0_sure_17 rfl ?_
  exact z_iret hC dX0_sure_18 rfl (by rw [hQo]; exact ⟨_, rfl, hV⟩)
theorem cw_X1_detour : CodeW yX1_detour (ws_ yX1_detour cX1_detour 6 (some .int)) 6 := ⟨fun w h => (List.mem_cons.mp h).elim (fun e => e ▸ q1558) id, Or.inl ⟨_, _, q1558⟩, q116, by decide, by decide⟩
theorem c_X0_111 {C : ZC} {E : ZE} {cc : ByteArray} {nL pc d : Nat} {nm : String} {ret : Option FieldType} {hh : List (Nat × Nat × Nat × Nat)} {σ : ZS} {L : List (Option Value)} {st : List Value} {a1 : Int32} {a2 : Int32} {a3 : Int32} {Ret : Int32 → ZS → Prop} {Thr : Nat → ZS → Prop} (hC : Cx C E cc nL "RightTurnsLaw" nm ret hh d) (hdd : 10 + 1 ≤ d) (hd : decode cc pc = .ok (.invokevirtual 111, 3)) (hW : (st.map fun v => v.category).sum ≤ 8) (hV : wp_X1_detour σ a1 a2 a3 Thr Ret) (k : ∀ r σ', Ret r σ' → zz C E NS nL σ' (pc + 3) L (.int r :: st)) (kt : ∀ a σ', Thr a σ' → zth C E NS nL σ' pc L st (E.1.heap.size + a)) : zz C E NS nL σ pc L (.int a3 :: .int a2 :: .int a1 :: .ref (E.1.heap.size + 0) :: st) :=
  z_callVG hC cf0 cw_X1_detour hdd (by decide) (mz_X1_detour (cxE hC) hV) hd (k_0 σ) q1555 q1556 q1557 (np := 3) rfl rfl hW rfl (kT (kI k) kt)
def wp_X0_detour (σ : ZS) (a1 : Int32) (a2 : Int32) (a3 : Int32) (Ret : Int32 → ZS → Prop) : Prop :=
    wp_X1_detour σ a1 a2 a3 (fun x3 σ4 => ((∃ x, kK NS σ4 x3 = (14 + 7, x)) ∧ (Ret 1 σ4)) ∨ ((∃ x, kK NS σ4 x3 = (12 + 7, x)) ∧ (Ret 2 σ4))) (fun r1 σ2 => ∀ σ6 : ZS, σ6 = sJ σ2 1238 (ix 0) r1.toInt64 → (Ret 0 σ6))
set_option maxHeartbeats 4000000 in
theorem mz_X0_detour {l : Launch} {E : ZE} (hE : EOK E) {σ : ZS} {a1 : Int32} {a2 : Int32} {a3 : Int32} {Ret : Int32 → ZS → Prop} (hV : wp_X0_detour σ a1 a2 a3 Ret) : MZ l E NS yX0_detour (wsW_ yX0_detour cX0_detour 6 (some .int) [(0, 12, 15, 49), (0, 12, 19, 13)]) 11 σ [.ref (E.1.heap.size + 0), .int a1, .int a2, .int a3, .ref (E.1.heap.size + 1238)] (rI Ret) := by
  refine MZ.startW (L := [some (.ref (E.1.heap.size + 0)), some (.int a1), some (.int a2), some (.int a3), some (.ref (E.1.heap.size + 1238)), none]) hE (by decide) (Nat.le_of_ble_eq_true rfl) rfl fun C hCl hQo hC => ?_
  replace hC : Cx C E cX0_detour 6 "RightTurnsLaw" "detour" (some .int) [(0, 12, 15, 49), (0, 12, 19, 13)] 11 := hC
  unfold wp_X0_detour at hV
  refine z_aload hC dX0_detour_0 rfl ?_
  refine z_iconst (v := 0) hC dX0_detour_2 rfl ?_
  refine z_aload_n hC dX0_detour_3 rfl rfl ?_
  refine z_iload_n hC dX0_detour_4 rfl rfl ?_
  refine z_iload_n hC dX0_detour_5 rfl rfl ?_
  refine z_iload_n hC dX0_detour_6 rfl rfl ?_
  have hT5 : ∀ (x3 : Nat) (σ4 : ZS), (((∃ x, kK NS σ4 x3 = (14 + 7, x)) ∧ (Ret 1 σ4)) ∨ ((∃ x, kK NS σ4 x3 = (12 + 7, x)) ∧ (Ret 2 σ4))) → zth C E NS 6 σ4 7 [some (.ref (E.1.heap.size + 0)), some (.int a1), some (.int a2), some (.int a3), some (.ref (E.1.heap.size + 1238)), none] [.int 0, .ref (E.1.heap.size + 1238)] (E.1.heap.size + x3) := by
    clear hV
    rintro x3 σ4 (hV | hV)
    · obtain ⟨⟨_, hk⟩, hV⟩ := hV
      refine zth_catch0 hC (by decide) (by decide) cf14 hk q1249 ?_
      refine z_astore hC dX0_detour_15 (Nat.le_of_ble_eq_true rfl) rfl rfl ?_
      refine z_iconst (v := 1) hC dX0_detour_17 rfl ?_
      exact z_iret hC dX0_detour_18 rfl (by rw [hQo]; exact ⟨_, rfl, hV⟩)
    · obtain ⟨⟨_, hk⟩, hV⟩ := hV
      refine zth_catch1 hC (by decide) (by decide) (by decide) (by decide) cf12 hk q744 q1249 (by decide +kernel) ?_
      refine z_astore hC dX0_detour_19 (Nat.le_of_ble_eq_true rfl) rfl rfl ?_
      refine z_iconst (v := 2) hC dX0_detour_21 rfl ?_
      exact z_iret hC dX0_detour_22 rfl (by rw [hQo]; exact ⟨_, rfl, hV⟩)
  refine c_X0_111 hC (by decide) dX0_detour_7 (Nat.le_of_ble_eq_true rfl) hV (fun r1 σ2 hV => ?_) hT5
  refine z_i2l hC dX0_detour_10 ?_
  refine z_last hC dX0_detour_11 (k_1238 _) (in_dec rfl) ?_
  obtain ⟨σ6, e_σ6⟩ : ∃ z : ZS, z = sJ σ2 1238 (ix 0) r1.toInt64 := ⟨_, rfl⟩
  replace hV := hV _ e_σ6
  rw [← e_σ6]
  refine z_goto (tgt := 23) hC dX0_detour_12 (by decide) ?_
  refine z_iconst (v := 0) hC dX0_detour_23 rfl ?_
  exact z_iret hC dX0_detour_24 rfl (by rw [hQo]; exact ⟨_, rfl, hV⟩)
theorem cw_X1_gain : CodeW yX1_gain (ws_ yX1_gain cX1_gain 9 (some .int)) 9 := ⟨fun w h => (List.mem_cons.mp h).elim (fun e => e ▸ q1565) id, Or.inl ⟨_, _, q1565⟩, q116, by decide, by decide⟩
theorem c_X0_114 {C : ZC} {E : ZE} {cc : ByteArray} {nL pc d : Nat} {nm : String} {ret : Option FieldType} {hh : List (Nat × Nat × Nat × Nat)} {σ : ZS} {L : List (Option Value)} {st : List Value} {a1 : Int32} {a2 : Int32} {Ret : Int32 → ZS → Prop} {Thr : Nat → ZS → Prop} (hC : Cx C E cc nL "RightTurnsLaw" nm ret hh d) (hdd : 11 + 1 ≤ d) (hd : decode cc pc = .ok (.invokevirtual 114, 3)) (hW : (st.map fun v => v.category).sum ≤ 8) (hV : wp_X1_gain σ a1 a2 Thr Ret) (k : ∀ r σ', Ret r σ' → zz C E NS nL σ' (pc + 3) L (.int r :: st)) (kt : ∀ a σ', Thr a σ' → zth C E NS nL σ' pc L st (E.1.heap.size + a)) : zz C E NS nL σ pc L (.int a2 :: .int a1 :: .ref (E.1.heap.size + 0) :: st) :=
  z_callVG hC cf0 cw_X1_gain hdd (by decide) (mz_X1_gain (cxE hC) hV) hd (k_0 σ) q1562 q1563 q1564 (np := 2) rfl rfl hW rfl (kT (kI k) kt)
def wp_X0_gain (σ : ZS) (a1 : Int32) (a2 : Int32) (Ret : Int32 → ZS → Prop) : Prop :=
    wp_X1_gain σ a1 a2 (fun x3 σ4 => ((∃ x, kK NS σ4 x3 = (12 + 7, x)) ∧ (Ret 1 σ4))) (fun r1 σ2 => ∀ σ6 : ZS, σ6 = sJ σ2 1238 (ix 0) r1.toInt64 → (Ret 0 σ6))
set_option maxHeartbeats 4000000 in
theorem mz_X0_gain {l : Launch} {E : ZE} (hE : EOK E) {σ : ZS} {a1 : Int32} {a2 : Int32} {Ret : Int32 → ZS → Prop} (hV : wp_X0_gain σ a1 a2 Ret) : MZ l E NS yX0_gain (wsW_ yX0_gain cX0_gain 5 (some .int) [(0, 10, 13, 13)]) 12 σ [.ref (E.1.heap.size + 0), .int a1, .int a2, .ref (E.1.heap.size + 1238)] (rI Ret) := by
  refine MZ.startW (L := [some (.ref (E.1.heap.size + 0)), some (.int a1), some (.int a2), some (.ref (E.1.heap.size + 1238)), none]) hE (by decide) (Nat.le_of_ble_eq_true rfl) rfl fun C hCl hQo hC => ?_
  replace hC : Cx C E cX0_gain 5 "RightTurnsLaw" "gain" (some .int) [(0, 10, 13, 13)] 12 := hC
  unfold wp_X0_gain at hV
  refine z_aload_n hC dX0_gain_0 rfl rfl ?_
  refine z_iconst (v := 0) hC dX0_gain_1 rfl ?_
  refine z_aload_n hC dX0_gain_2 rfl rfl ?_
  refine z_iload_n hC dX0_gain_3 rfl rfl ?_
  refine z_iload_n hC dX0_gain_4 rfl rfl ?_
  have hT5 : ∀ (x3 : Nat) (σ4 : ZS), (((∃ x, kK NS σ4 x3 = (12 + 7, x)) ∧ (Ret 1 σ4))) → zth C E NS 5 σ4 5 [some (.ref (E.1.heap.size + 0)), some (.int a1), some (.int a2), some (.ref (E.1.heap.size + 1238)), none] [.int 0, .ref (E.1.heap.size + 1238)] (E.1.heap.size + x3) := by
    clear hV
    intro x3 σ4 hV
    obtain ⟨⟨_, hk⟩, hV⟩ := hV
    refine zth_catch0 hC (by decide) (by decide) cf12 hk q744 ?_
    refine z_astore hC dX0_gain_13 (Nat.le_of_ble_eq_true rfl) rfl rfl ?_
    refine z_iconst (v := 1) hC dX0_gain_15 rfl ?_
    exact z_iret hC dX0_gain_16 rfl (by rw [hQo]; exact ⟨_, rfl, hV⟩)
  refine c_X0_114 hC (by decide) dX0_gain_5 (Nat.le_of_ble_eq_true rfl) hV (fun r1 σ2 hV => ?_) hT5
  refine z_i2l hC dX0_gain_8 ?_
  refine z_last hC dX0_gain_9 (k_1238 _) (in_dec rfl) ?_
  obtain ⟨σ6, e_σ6⟩ : ∃ z : ZS, z = sJ σ2 1238 (ix 0) r1.toInt64 := ⟨_, rfl⟩
  replace hV := hV _ e_σ6
  rw [← e_σ6]
  refine z_goto (tgt := 17) hC dX0_gain_10 (by decide) ?_
  refine z_iconst (v := 0) hC dX0_gain_17 rfl ?_
  exact z_iret hC dX0_gain_18 rfl (by rw [hQo]; exact ⟨_, rfl, hV⟩)
theorem cw_X1_baker : CodeW yX1_baker (ws_ yX1_baker cX1_baker 8 (some .int)) 8 := ⟨fun w h => (List.mem_cons.mp h).elim (fun e => e ▸ q1576) id, Or.inl ⟨_, _, q1576⟩, q116, by decide, by decide⟩
theorem c_X0_117 {C : ZC} {E : ZE} {cc : ByteArray} {nL pc d : Nat} {nm : String} {ret : Option FieldType} {hh : List (Nat × Nat × Nat × Nat)} {σ : ZS} {L : List (Option Value)} {st : List Value} {a1 : Int32} {a2 : Int32} {Ret : Int32 → ZS → Prop} {Thr : Nat → ZS → Prop} (hC : Cx C E cc nL "RightTurnsLaw" nm ret hh d) (hdd : 11 + 1 ≤ d) (hd : decode cc pc = .ok (.invokevirtual 117, 3)) (hW : (st.map fun v => v.category).sum ≤ 8) (hV : wp_X1_baker σ a1 a2 Thr Ret) (k : ∀ r σ', Ret r σ' → zz C E NS nL σ' (pc + 3) L (.int r :: st)) (kt : ∀ a σ', Thr a σ' → zth C E NS nL σ' pc L st (E.1.heap.size + a)) : zz C E NS nL σ pc L (.int a2 :: .int a1 :: .ref (E.1.heap.size + 0) :: st) :=
  z_callVG hC cf0 cw_X1_baker hdd (by decide) (mz_X1_baker (cxE hC) hV) hd (k_0 σ) q1573 q1574 q1575 (np := 2) rfl rfl hW rfl (kT (kI k) kt)
def wp_X0_baker (σ : ZS) (a1 : Int32) (a2 : Int32) (Ret : Int32 → ZS → Prop) : Prop :=
    wp_X1_baker σ a1 a2 (fun x3 σ4 => ((∃ x, kK NS σ4 x3 = (12 + 7, x)) ∧ (Ret 1 σ4))) (fun r1 σ2 => ∀ σ6 : ZS, σ6 = sJ σ2 1238 (ix 0) r1.toInt64 → (Ret 0 σ6))
set_option maxHeartbeats 4000000 in
theorem mz_X0_baker {l : Launch} {E : ZE} (hE : EOK E) {σ : ZS} {a1 : Int32} {a2 : Int32} {Ret : Int32 → ZS → Prop} (hV : wp_X0_baker σ a1 a2 Ret) : MZ l E NS yX0_baker (wsW_ yX0_baker cX0_baker 5 (some .int) [(0, 10, 13, 13)]) 12 σ [.ref (E.1.heap.size + 0), .int a1, .int a2, .ref (E.1.heap.size + 1238)] (rI Ret) := by
  refine MZ.startW (L := [some (.ref (E.1.heap.size + 0)), some (.int a1), some (.int a2), some (.ref (E.1.heap.size + 1238)), none]) hE (by decide) (Nat.le_of_ble_eq_true rfl) rfl fun C hCl hQo hC => ?_
  replace hC : Cx C E cX0_baker 5 "RightTurnsLaw" "baker" (some .int) [(0, 10, 13, 13)] 12 := hC
  unfold wp_X0_baker at hV
  refine z_aload_n hC dX0_baker_0 rfl rfl ?_
  refine z_iconst (v := 0) hC dX0_baker_1 rfl ?_
  refine z_aload_n hC dX0_baker_2 rfl rfl ?_
  refine z_iload_n hC dX0_baker_3 rfl rfl ?_
  refine z_iload_n hC dX0_baker_4 rfl rfl ?_
  have hT5 : ∀ (x3 : Nat) (σ4 : ZS), (((∃ x, kK NS σ4 x3 = (12 + 7, x)) ∧ (Ret 1 σ4))) → zth C E NS 5 σ4 5 [some (.ref (E.1.heap.size + 0)), some (.int a1), some (.int a2), some (.ref (E.1.heap.size + 1238)), none] [.int 0, .ref (E.1.heap.size + 1238)] (E.1.heap.size + x3) := by
    clear hV
    intro x3 σ4 hV
    obtain ⟨⟨_, hk⟩, hV⟩ := hV
    refine zth_catch0 hC (by decide) (by decide) cf12 hk q744 ?_
    refine z_astore hC dX0_baker_13 (Nat.le_of_ble_eq_true rfl) rfl rfl ?_
    refine z_iconst (v := 1) hC dX0_baker_15 rfl ?_
    exact z_iret hC dX0_baker_16 rfl (by rw [hQo]; exact ⟨_, rfl, hV⟩)
  refine c_X0_117 hC (by decide) dX0_baker_5 (Nat.le_of_ble_eq_true rfl) hV (fun r1 σ2 hV => ?_) hT5
  refine z_i2l hC dX0_baker_8 ?_
  refine z_last hC dX0_baker_9 (k_1238 _) (in_dec rfl) ?_
  obtain ⟨σ6, e_σ6⟩ : ∃ z : ZS, z = sJ σ2 1238 (ix 0) r1.toInt64 := ⟨_, rfl⟩
  replace hV := hV _ e_σ6
  rw [← e_σ6]
  refine z_goto (tgt := 17) hC dX0_baker_10 (by decide) ?_
  refine z_iconst (v := 0) hC dX0_baker_17 rfl ?_
  exact z_iret hC dX0_baker_18 rfl (by rw [hQo]; exact ⟨_, rfl, hV⟩)
