set_option maxRecDepth 100000
theorem g_J9_19_c11 {a x : Nat} {C : ZC} {E : ZE} {cc : ByteArray} {n nL pc d : Nat} {nm : String} {ret : Option FieldType} {hh : List (Nat × Nat × Nat × Nat)} {σ : ZS} {L : List (Option Value)} {st : List Value} (hC : Cx C E cc nL "java/lang/String" nm ret hh d) (hd : decode cc pc = .ok (.getfield 19, 3)) (hk : kK n σ a = (11 + 7, x)) (k : zz C E n nL σ (pc + 3) L (.int (zI σ a 2) :: st)) : zz C E n nL σ pc L (.ref (E.1.heap.size + a) :: st) :=
  z_get hC cf11 hd hk (k := 2) (by decide) (Or.inl q482) (Or.inl rfl) rfl k
theorem g_J9_23_c11 {a x : Nat} {C : ZC} {E : ZE} {cc : ByteArray} {n nL pc d : Nat} {nm : String} {ret : Option FieldType} {hh : List (Nat × Nat × Nat × Nat)} {σ : ZS} {L : List (Option Value)} {st : List Value} (hC : Cx C E cc nL "java/lang/String" nm ret hh d) (hd : decode cc pc = .ok (.getfield 23, 3)) (hk : kK n σ a = (11 + 7, x)) (k : zz C E n nL σ (pc + 3) L (.int (zI σ a 3) :: st)) : zz C E n nL σ pc L (.ref (E.1.heap.size + a) :: st) :=
  z_get hC cf11 hd hk (k := 3) (by decide) (Or.inl q483) (Or.inl rfl) rfl k
theorem p_J9_19_c11 {C : ZC} {E : ZE} {cc : ByteArray} {n nL pc d a x : Nat} {nm : String} {ret : Option FieldType} {hh : List (Nat × Nat × Nat × Nat)} {σ : ZS} {L : List (Option Value)} {st : List Value} {v : Int32} (hC : Cx C E cc nL "java/lang/String" nm ret hh d) (hd : decode cc pc = .ok (.putfield 19, 3)) (hk : kK n σ a = (11 + 7, x)) (k : zz C E n nL (sI σ a 2 v) (pc + 3) L st) : zz C E n nL σ pc L (.int v :: .ref (E.1.heap.size + a) :: st) :=
  z_putI hC cf11 hd hk (k := 2) (by decide) (Or.inl q482) (Or.inl rfl) (Or.inl rfl) rfl rfl rfl k
theorem p_J9_23_c11 {C : ZC} {E : ZE} {cc : ByteArray} {n nL pc d a x : Nat} {nm : String} {ret : Option FieldType} {hh : List (Nat × Nat × Nat × Nat)} {σ : ZS} {L : List (Option Value)} {st : List Value} {v : Int32} (hC : Cx C E cc nL "java/lang/String" nm ret hh d) (hd : decode cc pc = .ok (.putfield 23, 3)) (hk : kK n σ a = (11 + 7, x)) (hb : isB v) (k : zz C E n nL (sI σ a 3 v) (pc + 3) L st) : zz C E n nL σ pc L (.int v :: .ref (E.1.heap.size + a) :: st) :=
  z_putI hC cf11 hd hk (k := 3) (by decide) (Or.inl q483) (Or.inl rfl) (Or.inl rfl) hb (isB_fits hb) rfl k
theorem cw_J9_isLatin1 : CodeW yJ9_isLatin1 (ws_ yJ9_isLatin1 cJ9_isLatin1 1 (some .boolean)) 1 := ⟨fun w h => (List.mem_cons.mp h).elim (fun e => e ▸ q837) id, Or.inl ⟨_, _, q837⟩, q127, by decide, by decide⟩
theorem c_J9_492 {C : ZC} {E : ZE} {cc : ByteArray} {nL pc d : Nat} {nm : String} {ret : Option FieldType} {hh : List (Nat × Nat × Nat × Nat)} {σ : ZS} {L : List (Option Value)} {st : List Value} {a0 : Nat} {Ret : Int32 → ZS → Prop} (hC : Cx C E cc nL "java/lang/String" nm ret hh d) (hdd : 1 + 1 ≤ d) (hd : decode cc pc = .ok (.invokevirtual 492, 3)) (hW : (st.map fun v => v.category).sum ≤ 8) {x : Nat} (hk : kK NS σ a0 = (11 + 7, x)) (hV : wp_J9_isLatin1 σ a0 Ret) (k : ∀ r σ', Ret r σ' → zz C E NS nL σ' (pc + 3) L (.int r :: st)) : zz C E NS nL σ pc L (.ref (E.1.heap.size + a0) :: st) :=
  z_callVG hC cf11 cw_J9_isLatin1 hdd (by decide) (mz_J9_isLatin1 (cxE hC) hV) hd hk q834 q835 q836 (np := 0) rfl rfl hW rfl (kI k)
theorem cw_J15_hashCode : CodeW yJ15_hashCode (ws_ yJ15_hashCode cJ15_hashCode 1 (some .int)) 1 := ⟨fun w h => (List.mem_cons.mp h).elim (fun e => e ▸ q840) id, Or.inl ⟨_, _, q840⟩, q134, by decide, by decide⟩
theorem c_J9_628 {C : ZC} {E : ZE} {cc : ByteArray} {nL pc d : Nat} {nm : String} {ret : Option FieldType} {hh : List (Nat × Nat × Nat × Nat)} {σ : ZS} {L : List (Option Value)} {st : List Value} {a0 : Nat} {Ret : Int32 → ZS → Prop} (hC : Cx C E cc nL "java/lang/String" nm ret hh d) (hdd : 4 + 1 ≤ d) (hd : decode cc pc = .ok (.invokestatic 628, 3)) (hW : (st.map fun v => v.category).sum ≤ 8) (hV : wp_J15_hashCode σ a0 Ret) (k : ∀ r σ', Ret r σ' → zz C E NS nL σ' (pc + 3) L (.int r :: st)) : zz C E NS nL σ pc L (.ref (E.1.heap.size + a0) :: st) :=
  z_callSG hC cw_J15_hashCode hdd (by decide) (mz_J15_hashCode (cxE hC) hV) hd q838 q839 (np := 1) rfl rfl hW rfl (kI k)
def V_J9_hashCode_40 (Ret : Int32 → ZS → Prop) (σ : ZS) (x0 : Nat) (s0 : Int32) : Prop :=
    ((s0 = 0 → ((∃ n22, kK NS σ x0 = (18, n22)) ∧ (∀ σ23 : ZS, σ23 = sI σ x0 3 1 → (Ret s0 σ23)))) ∧ (¬ s0 = 0 → ((∃ n19, kK NS σ x0 = (18, n19)) ∧ (∀ σ20 : ZS, σ20 = sI σ x0 2 s0 → (Ret s0 σ20)))))
def wp_J9_hashCode (σ : ZS) (a0 : Nat) (Ret : Int32 → ZS → Prop) : Prop :=
    (∃ n2, kK NS σ a0 = (18, n2)) ∧ (∀ y3 : Int32, y3 = zI σ a0 2 → (((y3 = 0 → ((∃ n5, kK NS σ a0 = (18, n5)) ∧ ((((zI σ a0 3) = 0 → ((∃ n9, kK NS σ a0 = (18, n9)) ∧ (wp_J9_isLatin1 σ a0 (fun r6 σ7 => ((r6 = 0 → (False)) ∧ (¬ r6 = 0 → ((∃ n14, kK NS σ7 a0 = (18, n14)) ∧ ((kP NS σ7 a0 0) = some (.inl (zo (kP NS σ7 a0 0))) ∧ (wp_J15_hashCode σ7 (zo (kP NS σ7 a0 0)) (fun r16 σ17 => V_J9_hashCode_40 Ret σ17 a0 r16)))))))))) ∧ (¬ (zI σ a0 3) = 0 → (Ret y3 σ)))))) ∧ (¬ y3 = 0 → (Ret y3 σ)))))
set_option maxHeartbeats 4000000 in
theorem mz_J9_hashCode {l : Launch} {E : ZE} (hE : EOK E) {σ : ZS} {a0 : Nat} {Ret : Int32 → ZS → Prop} (hV : wp_J9_hashCode σ a0 Ret) : MZ l E NS yJ9_hashCode (ws_ yJ9_hashCode cJ9_hashCode 2 (some .int)) 5 σ [.ref (E.1.heap.size + a0)] (rI Ret) := by
  refine MZ.start (L := [some (.ref (E.1.heap.size + a0)), none]) hE (by decide) (Nat.le_of_ble_eq_true rfl) rfl fun C hCl hQo hC => ?_
  replace hC : Cx C E cJ9_hashCode 2 "java/lang/String" "hashCode" (some .int) [] 5 := hC
  unfold wp_J9_hashCode at hV
  have j_40 : ∀ (σ : ZS) (x0 : Nat) (s0 : Int32), V_J9_hashCode_40 Ret σ x0 s0 → zz C E NS 2 σ 40 [some (.ref (E.1.heap.size + x0)), none] [.int s0] := by
    intro σ x0 s0 hV
    unfold V_J9_hashCode_40 at hV
    refine z_istore_n hC dJ9_hashCode_40 rfl (Nat.le_of_ble_eq_true rfl) rfl rfl ?_
    refine z_iload_n hC dJ9_hashCode_41 rfl rfl ?_
    refine z_if_ne (tgt := 53) hC dJ9_hashCode_42 (by decide) (fun hc => ?_) (fun hc => ?_)
    · replace hV := hV.2 hc
      refine z_aload_n hC dJ9_hashCode_53 rfl rfl ?_
      refine z_iload_n hC dJ9_hashCode_54 rfl rfl ?_
      obtain ⟨⟨n19, h18⟩, hV⟩ := hV
      refine p_J9_19_c11 hC dJ9_hashCode_55 h18 ?_
      obtain ⟨σ20, e_σ20⟩ : ∃ z : ZS, z = sI σ x0 2 s0 := ⟨_, rfl⟩
      replace hV := hV _ e_σ20
      rw [← e_σ20]
      refine z_iload_n hC dJ9_hashCode_58 rfl rfl ?_
      exact z_iret hC dJ9_hashCode_59 rfl (by rw [hQo]; exact ⟨_, rfl, hV⟩)
    · replace hV := hV.1 hc
      refine z_aload_n hC dJ9_hashCode_45 rfl rfl ?_
      refine z_iconst (v := 1) hC dJ9_hashCode_46 rfl ?_
      obtain ⟨⟨n22, h21⟩, hV⟩ := hV
      refine p_J9_23_c11 hC dJ9_hashCode_47 h21 rfl ?_
      obtain ⟨σ23, e_σ23⟩ : ∃ z : ZS, z = sI σ x0 3 1 := ⟨_, rfl⟩
      replace hV := hV _ e_σ23
      rw [← e_σ23]
      refine z_goto (tgt := 58) hC dJ9_hashCode_50 (by decide) ?_
      refine z_iload_n hC dJ9_hashCode_58 rfl rfl ?_
      exact z_iret hC dJ9_hashCode_59 rfl (by rw [hQo]; exact ⟨_, rfl, hV⟩)
  refine z_aload_n hC dJ9_hashCode_0 rfl rfl ?_
  obtain ⟨⟨n2, h1⟩, hV⟩ := hV
  refine g_J9_19_c11 hC dJ9_hashCode_1 h1 ?_
  obtain ⟨y3, e_y3⟩ : ∃ z, z = zI σ a0 2 := ⟨_, rfl⟩
  rw [← e_y3]
  replace hV := hV _ e_y3
  refine z_istore_n hC dJ9_hashCode_4 rfl (Nat.le_of_ble_eq_true rfl) rfl rfl ?_
  refine z_iload_n hC dJ9_hashCode_5 rfl rfl ?_
  refine z_if_ne (tgt := 58) hC dJ9_hashCode_6 (by decide) (fun hc => ?_) (fun hc => ?_)
  · replace hV := hV.2 hc
    refine z_iload_n hC dJ9_hashCode_58 rfl rfl ?_
    exact z_iret hC dJ9_hashCode_59 rfl (by rw [hQo]; exact ⟨_, rfl, hV⟩)
  · replace hV := hV.1 hc
    refine z_aload_n hC dJ9_hashCode_9 rfl rfl ?_
    obtain ⟨⟨n5, h4⟩, hV⟩ := hV
    refine g_J9_23_c11 hC dJ9_hashCode_10 h4 ?_
    refine z_if_ne (tgt := 58) hC dJ9_hashCode_13 (by decide) (fun hc => ?_) (fun hc => ?_)
    · replace hV := hV.2 hc
      refine z_iload_n hC dJ9_hashCode_58 rfl rfl ?_
      exact z_iret hC dJ9_hashCode_59 rfl (by rw [hQo]; exact ⟨_, rfl, hV⟩)
    · replace hV := hV.1 hc
      refine z_aload_n hC dJ9_hashCode_16 rfl rfl ?_
      obtain ⟨⟨n9, h8⟩, hV⟩ := hV
      refine c_J9_492 hC (by decide) dJ9_hashCode_17 (Nat.le_of_ble_eq_true rfl) h8 hV (fun r6 σ7 hV => ?_)
      refine z_if_eq (tgt := 33) hC dJ9_hashCode_20 (by decide) (fun hc => ?_) (fun hc => ?_)
      · replace hV := hV.1 hc
        exact hV.elim
      · replace hV := hV.2 hc
        refine z_aload_n hC dJ9_hashCode_23 rfl rfl ?_
        obtain ⟨⟨n14, h13⟩, hV⟩ := hV
        refine g_J9_9_c11 hC dJ9_hashCode_24 h13 ?_
        obtain ⟨h15, hV⟩ := hV
        refine zz_at rfl (by rw [pvo h15]) ?_
        refine c_J9_628 hC (by decide) dJ9_hashCode_27 (Nat.le_of_ble_eq_true rfl) hV (fun r16 σ17 hV => ?_)
        refine z_goto (tgt := 40) hC dJ9_hashCode_30 (by decide) ?_
        refine zz_sub (L' := [some (.ref (E.1.heap.size + a0)), none]) ⟨rfl, trivial⟩ ?_
        exact j_40 σ17 a0 r16 hV
def VL_J15_equals_9 (b1 : List Int32) (Ret : Int32 → ZS → Prop) : Nat → ZS → Nat → Int32 → Prop
  | 0 => fun _ _ _ => False
  | k + 1 => fun σ x0 x2 =>
    let K9 := VL_J15_equals_9 b1 Ret k
    ∃ n4, kK NS σ x0 = (2, n4) ∧ (((x2 < (Int32.ofNat n4) → (∃ n6, kK NS σ x0 = (2, n6) ∧ (vp_in x2 n6 ∧ (vp_in x2 b1.length ∧ ((((zI σ x0 (ix x2)) = (b1.getD (ix x2) 0) → (∀ y9 : Int32, y9 = x2 + 1 → (K9 σ x0 y9))) ∧ (¬ (zI σ x0 (ix x2)) = (b1.getD (ix x2) 0) → (Ret 0 σ)))))))) ∧ (¬ x2 < (Int32.ofNat n4) → (Ret 1 σ))))
def V_J15_equals_9 (b1 : List Int32) (Ret : Int32 → ZS → Prop) (σ : ZS) (x0 : Nat) (x2 : Int32) : Prop := ∃ k, VL_J15_equals_9 b1 Ret k σ x0 x2
def wp_J15_equals (σ : ZS) (a0 : Nat) (b1 : List Int32) (Ret : Int32 → ZS → Prop) : Prop :=
    ∃ n2, kK NS σ a0 = (2, n2) ∧ ((((Int32.ofNat n2) = (Int32.ofNat b1.length) → (V_J15_equals_9 b1 Ret σ a0 0)) ∧ (¬ (Int32.ofNat n2) = (Int32.ofNat b1.length) → (Ret 0 σ))))
set_option maxHeartbeats 4000000 in
theorem mz_J15_equals {l : Launch} {E : ZE} (hE : EOK E) {σ : ZS} {a0 : Nat} {b1 : List Int32} {v1 : Nat} (hF1 : FA E v1 b1) {Ret : Int32 → ZS → Prop} (hV : wp_J15_equals σ a0 b1 Ret) : MZ l E NS yJ15_equals (ws_ yJ15_equals cJ15_equals 3 (some .boolean)) 1 σ [.ref (E.1.heap.size + a0), .ref v1] (rI Ret) := by
  refine MZ.start (L := [some (.ref (E.1.heap.size + a0)), some (.ref v1), none]) hE (by decide) (Nat.le_of_ble_eq_true rfl) rfl fun C hCl hQo hC => ?_
  replace hC : Cx C E cJ15_equals 3 "java/lang/StringLatin1" "equals" (some .boolean) [] 1 := hC
  unfold wp_J15_equals at hV
  have j_9 : ∀ (σ : ZS) (x0 : Nat) (x2 : Int32), V_J15_equals_9 b1 Ret σ x0 x2 → zz C E NS 3 σ 9 [some (.ref (E.1.heap.size + x0)), some (.ref v1), some (.int x2)] [] := by
    intro σ x0 x2 ⟨k, hV⟩
    revert σ x0 x2
    induction k with
    | zero => exact fun _ _ _ hV => hV.elim
    | succ k j_9 =>
      intro σ x0 x2 hV
      simp only [VL_J15_equals_9] at hV
      generalize hKe9 : VL_J15_equals_9 b1 Ret k = K9 at hV j_9
      clear hKe9
      refine z_iload_n hC dJ15_equals_9 rfl rfl ?_
      refine z_aload_n hC dJ15_equals_10 rfl rfl ?_
      obtain ⟨n4, h3, hV⟩ := hV
      refine z_alen hC dJ15_equals_11 h3 (by decide) rfl ?_
      refine z_icmp_ge (tgt := 32) hC dJ15_equals_12 (by decide) (fun hc => ?_) (fun hc => ?_)
      · replace hV := hV.2 hc
        refine z_iconst (v := 1) hC dJ15_equals_32 rfl ?_
        exact z_iret hC dJ15_equals_33 rfl (by rw [hQo]; exact ⟨_, rfl, hV⟩)
      · replace hV := hV.1 hc
        refine z_aload_n hC dJ15_equals_15 rfl rfl ?_
        refine z_iload_n hC dJ15_equals_16 rfl rfl ?_
        obtain ⟨n6, h5, hV⟩ := hV
        obtain ⟨h7, hV⟩ := hV
        refine z_bald hC dJ15_equals_17 h5 (h7) ?_
        refine z_aload_n hC dJ15_equals_18 rfl rfl ?_
        refine z_iload_n hC dJ15_equals_19 rfl rfl ?_
        obtain ⟨h8, hV⟩ := hV
        refine z_baldF hC hF1 dJ15_equals_20 (h8) ?_
        refine z_icmp_eq (tgt := 26) hC dJ15_equals_21 (by decide) (fun hc => ?_) (fun hc => ?_)
        · replace hV := hV.1 hc
          obtain ⟨y9, e_y9⟩ : ∃ z : Int32, z = x2 + 1 := ⟨_, rfl⟩
          replace hV := hV _ e_y9
          refine z_iinc (v := y9) hC dJ15_equals_26 rfl (by rw [e_y9]; rfl) (Nat.le_of_ble_eq_true rfl) rfl rfl ?_
          refine z_goto (tgt := 9) hC dJ15_equals_29 (by decide) ?_
          refine zz_sub (L' := [some (.ref (E.1.heap.size + x0)), some (.ref v1), some (.int y9)]) ⟨rfl, rfl, rfl, trivial⟩ ?_
          exact j_9 σ x0 y9 hV
        · replace hV := hV.2 hc
          refine z_iconst (v := 0) hC dJ15_equals_24 rfl ?_
          exact z_iret hC dJ15_equals_25 rfl (by rw [hQo]; exact ⟨_, rfl, hV⟩)
  refine z_aload_n hC dJ15_equals_0 rfl rfl ?_
  obtain ⟨n2, h1, hV⟩ := hV
  refine z_alen hC dJ15_equals_1 h1 (by decide) rfl ?_
  refine z_aload_n hC dJ15_equals_2 rfl rfl ?_
  refine z_alenF hC hF1 dJ15_equals_3 ?_
  refine z_icmp_ne (tgt := 34) hC dJ15_equals_4 (by decide) (fun hc => ?_) (fun hc => ?_)
  · replace hV := hV.2 hc
    refine z_iconst (v := 0) hC dJ15_equals_34 rfl ?_
    exact z_iret hC dJ15_equals_35 rfl (by rw [hQo]; exact ⟨_, rfl, hV⟩)
  · replace hV := hV.1 hc
    refine z_iconst (v := 0) hC dJ15_equals_7 rfl ?_
    refine z_istore_n hC dJ15_equals_8 rfl (Nat.le_of_ble_eq_true rfl) rfl rfl ?_
    refine zz_sub (L' := [some (.ref (E.1.heap.size + a0)), some (.ref v1), some (.int 0)]) ⟨rfl, rfl, rfl, trivial⟩ ?_
    exact j_9 σ a0 0 hV
theorem cw_J15_equals : CodeW yJ15_equals (ws_ yJ15_equals cJ15_equals 3 (some .boolean)) 3 := ⟨fun w h => (List.mem_cons.mp h).elim (fun e => e ▸ q899) id, Or.inl ⟨_, _, q899⟩, q134, by decide, by decide⟩
theorem c_J9_541 {C : ZC} {E : ZE} {cc : ByteArray} {nL pc d : Nat} {nm : String} {ret : Option FieldType} {hh : List (Nat × Nat × Nat × Nat)} {σ : ZS} {L : List (Option Value)} {st : List Value} {a0 : Nat} {b1 : List Int32} {Ret : Int32 → ZS → Prop} {v1 : Nat} (hF1 : FA E v1 b1) (hC : Cx C E cc nL "java/lang/String" nm ret hh d) (hdd : 1 + 1 ≤ d) (hd : decode cc pc = .ok (.invokestatic 541, 3)) (hW : (st.map fun v => v.category).sum ≤ 8) (hV : wp_J15_equals σ a0 b1 Ret) (k : ∀ r σ', Ret r σ' → zz C E NS nL σ' (pc + 3) L (.int r :: st)) : zz C E NS nL σ pc L (.ref v1 :: .ref (E.1.heap.size + a0) :: st) :=
  z_callSG hC cw_J15_equals hdd (by decide) (mz_J15_equals (cxE hC) hF1 hV) hd q897 q898 (np := 2) rfl rfl hW rfl (kI k)
def V_J9_equals_36 (b1 : List Int32) (Ret : Int32 → ZS → Prop) (σ : ZS) (x0 : Nat) : Prop :=
    (∃ n2, kK NS σ x0 = (18, n2)) ∧ ((kP NS σ x0 0) = some (.inl (zo (kP NS σ x0 0))) ∧ (wp_J15_equals σ (zo (kP NS σ x0 0)) b1 (fun r4 σ5 => ((r4 = 0 → (Ret 0 σ5)) ∧ (¬ r4 = 0 → (Ret 1 σ5))))))
def wp_J9_equals (σ : ZS) (a0 : Nat) (b1 : List Int32) (Ret : Int32 → ZS → Prop) : Prop :=
    (((1 : Int32) = 0 → (Ret 0 σ)) ∧ (¬ (1 : Int32) = 0 → ((((1 : Int32) = 0 → (V_J9_equals_36 b1 Ret σ a0)) ∧ (¬ (1 : Int32) = 0 → ((∃ n7, kK NS σ a0 = (18, n7)) ∧ ((((zI σ a0 1) = 0 → (V_J9_equals_36 b1 Ret σ a0)) ∧ (¬ (zI σ a0 1) = 0 → (Ret 0 σ))))))))))
set_option maxHeartbeats 4000000 in
theorem mz_J9_equals {l : Launch} {E : ZE} (hE : EOK E) {σ : ZS} {a0 : Nat} {b1 : List Int32} {q1 v1 : Nat} (hF1 : FS E q1 v1 b1) {Ret : Int32 → ZS → Prop} (hV : wp_J9_equals σ a0 b1 Ret) : MZ l E NS yJ9_equals (ws_ yJ9_equals cJ9_equals 3 (some .boolean)) 2 σ [.ref (E.1.heap.size + a0), .ref q1] (rI Ret) := by
  refine MZ.start (L := [some (.ref (E.1.heap.size + a0)), some (.ref q1), none]) hE (by decide) (Nat.le_of_ble_eq_true rfl) rfl fun C hCl hQo hC => ?_
  replace hC : Cx C E cJ9_equals 3 "java/lang/String" "equals" (some .boolean) [] 2 := hC
  unfold wp_J9_equals at hV
  have j_36 : ∀ (σ : ZS) (x0 : Nat), V_J9_equals_36 b1 Ret σ x0 → zz C E NS 3 σ 36 [some (.ref (E.1.heap.size + x0)), none, some (.ref q1)] [] := by
    intro σ x0 hV
    unfold V_J9_equals_36 at hV
    refine z_aload_n hC dJ9_equals_36 rfl rfl ?_
    obtain ⟨⟨n2, h1⟩, hV⟩ := hV
    refine g_J9_9_c11 hC dJ9_equals_37 h1 ?_
    obtain ⟨h3, hV⟩ := hV
    refine zz_at rfl (by rw [pvo h3]) ?_
    refine z_aload_n hC dJ9_equals_40 rfl rfl ?_
    refine z_getF hC hF1.2.2.1 dJ9_equals_41 q480 ?_
    refine c_J9_541 hF1.2.2.2 hC (by decide) dJ9_equals_44 (Nat.le_of_ble_eq_true rfl) hV (fun r4 σ5 hV => ?_)
    refine z_if_eq (tgt := 54) hC dJ9_equals_47 (by decide) (fun hc => ?_) (fun hc => ?_)
    · replace hV := hV.1 hc
      refine z_iconst (v := 0) hC dJ9_equals_54 rfl ?_
      exact z_iret hC dJ9_equals_55 rfl (by rw [hQo]; exact ⟨_, rfl, hV⟩)
    · replace hV := hV.2 hc
      refine z_iconst (v := 1) hC dJ9_equals_50 rfl ?_
      refine z_goto (tgt := 55) hC dJ9_equals_51 (by decide) ?_
      exact z_iret hC dJ9_equals_55 rfl (by rw [hQo]; exact ⟨_, rfl, hV⟩)
  refine z_aload_n hC dJ9_equals_0 rfl rfl ?_
  refine z_aload_n hC dJ9_equals_1 rfl rfl ?_
  refine z_acmpOF (tgt := 7) hC hF1 dJ9_equals_2 (by decide) ?_
  refine z_aload_n hC dJ9_equals_7 rfl rfl ?_
  refine z_instF hC hF1 dJ9_equals_8 q896 ?_
  refine z_if_eq (tgt := 54) hC dJ9_equals_11 (by decide) (fun hc => ?_) (fun hc => ?_)
  · replace hV := hV.1 hc
    refine z_iconst (v := 0) hC dJ9_equals_54 rfl ?_
    exact z_iret hC dJ9_equals_55 rfl (by rw [hQo]; exact ⟨_, rfl, hV⟩)
  · replace hV := hV.2 hc
    refine z_aload_n hC dJ9_equals_14 rfl rfl ?_
    refine z_castF hC hF1 dJ9_equals_15 q896 ?_
    refine z_astore_n hC dJ9_equals_18 rfl (Nat.le_of_ble_eq_true rfl) rfl rfl ?_
    refine z_getsI (v := 1) hC dJ9_equals_19 q339 q231 q127 (by decide +kernel) ?_
    refine z_if_eq (tgt := 36) hC dJ9_equals_22 (by decide) (fun hc => ?_) (fun hc => ?_)
    · replace hV := hV.1 hc
      refine zz_sub (L' := [some (.ref (E.1.heap.size + a0)), none, some (.ref q1)]) ⟨rfl, rfl, trivial⟩ ?_
      exact j_36 σ a0 hV
    · replace hV := hV.2 hc
      refine z_aload_n hC dJ9_equals_25 rfl rfl ?_
      obtain ⟨⟨n7, h6⟩, hV⟩ := hV
      refine g_J9_15_c11 hC dJ9_equals_26 h6 ?_
      refine z_aload_n hC dJ9_equals_29 rfl rfl ?_
      refine z_getF hC hF1.2.1 dJ9_equals_30 q481 ?_
      refine z_icmp_ne (tgt := 54) hC dJ9_equals_33 (by decide) (fun hc => ?_) (fun hc => ?_)
      · replace hV := hV.2 hc
        refine z_iconst (v := 0) hC dJ9_equals_54 rfl ?_
        exact z_iret hC dJ9_equals_55 rfl (by rw [hQo]; exact ⟨_, rfl, hV⟩)
      · replace hV := hV.1 hc
        refine zz_sub (L' := [some (.ref (E.1.heap.size + a0)), none, some (.ref q1)]) ⟨rfl, rfl, trivial⟩ ?_
        exact j_36 σ a0 hV
theorem p_J3_17i_c5 {C : ZC} {E : ZE} {cc : ByteArray} {n nL pc d a x : Nat} {ret : Option FieldType} {hh : List (Nat × Nat × Nat × Nat)} {σ : ZS} {L : List (Option Value)} {st : List Value} {r : ZR} (hC : Cx C E cc nL "java/lang/Throwable" "<init>" ret hh d) (hd : decode cc pc = .ok (.putfield 17, 3)) (hk : kK n σ a = (5 + 7, x)) (hf : pfree n a 1) (k : zz C E n nL (sP σ a 1 r) (pc + 3) L st) : zz C E n nL σ pc L (pv E.1.heap.size r :: .ref (E.1.heap.size + a) :: st) :=
  z_putP hC cf5 hd hk (k := 1) (by decide) (Or.inl q457) (Or.inl rfl) (Or.inl rfl) (Or.inr ⟨_, rfl⟩) rfl hf k
theorem p_J3_24i_c5 {C : ZC} {E : ZE} {cc : ByteArray} {n nL pc d a x : Nat} {ret : Option FieldType} {hh : List (Nat × Nat × Nat × Nat)} {σ : ZS} {L : List (Option Value)} {st : List Value} {r : ZR} (hC : Cx C E cc nL "java/lang/Throwable" "<init>" ret hh d) (hd : decode cc pc = .ok (.putfield 24, 3)) (hk : kK n σ a = (5 + 7, x)) (hf : pfree n a 2) (k : zz C E n nL (sP σ a 2 r) (pc + 3) L st) : zz C E n nL σ pc L (pv E.1.heap.size r :: .ref (E.1.heap.size + a) :: st) :=
  z_putP hC cf5 hd hk (k := 2) (by decide) (Or.inl q458) (Or.inl rfl) (Or.inl rfl) (Or.inl ⟨_, rfl⟩) rfl hf k
theorem p_J3_31i_c5 {C : ZC} {E : ZE} {cc : ByteArray} {n nL pc d a x : Nat} {ret : Option FieldType} {hh : List (Nat × Nat × Nat × Nat)} {σ : ZS} {L : List (Option Value)} {st : List Value} {r : ZR} (hC : Cx C E cc nL "java/lang/Throwable" "<init>" ret hh d) (hd : decode cc pc = .ok (.putfield 31, 3)) (hk : kK n σ a = (5 + 7, x)) (hf : pfree n a 3) (k : zz C E n nL (sP σ a 3 r) (pc + 3) L st) : zz C E n nL σ pc L (pv E.1.heap.size r :: .ref (E.1.heap.size + a) :: st) :=
  z_putP hC cf5 hd hk (k := 3) (by decide) (Or.inl q455) (Or.inl rfl) (Or.inl rfl) (Or.inl ⟨_, rfl⟩) rfl hf k
theorem p_J3_7i_c5 {C : ZC} {E : ZE} {cc : ByteArray} {n nL pc d a x : Nat} {ret : Option FieldType} {hh : List (Nat × Nat × Nat × Nat)} {σ : ZS} {L : List (Option Value)} {st : List Value} {r : ZR} (hC : Cx C E cc nL "java/lang/Throwable" "<init>" ret hh d) (hd : decode cc pc = .ok (.putfield 7, 3)) (hk : kK n σ a = (5 + 7, x)) (hf : pfree n a 0) (k : zz C E n nL (sP σ a 0 r) (pc + 3) L st) : zz C E n nL σ pc L (pv E.1.heap.size r :: .ref (E.1.heap.size + a) :: st) :=
  z_putP hC cf5 hd hk (k := 0) (by decide) (Or.inl q456) (Or.inl rfl) (Or.inl rfl) (Or.inl ⟨_, rfl⟩) rfl hf k
def V_J3_init_3_41 (Ret : ZS → Prop) (σ : ZS) (x0 : Nat) (x1 : ZR) (x2 : ZR) (x3 : Int32) : Prop :=
    (∃ n22, kK NS σ x0 = (12, n22)) ∧ (NS ≤ x0 ∧ (∀ σ24 : ZS, σ24 = sP σ x0 3 x1 → ((∃ n26, kK NS σ24 x0 = (12, n26)) ∧ (NS ≤ x0 ∧ (∀ σ28 : ZS, σ28 = sP σ24 x0 0 x2 → (((x3 = 0 → ((∃ n30, kK NS σ28 x0 = (12, n30)) ∧ (NS ≤ x0 ∧ (∀ σ32 : ZS, σ32 = sP σ28 x0 2 none → (Ret σ32))))) ∧ (¬ x3 = 0 → (Ret σ28)))))))))
def wp_J3_init_3 (σ : ZS) (a0 : Nat) (a1 : ZR) (a2 : ZR) (a3 : Int32) (a4 : Int32) (Ret : ZS → Prop) : Prop :=
    (∃ n2, kK NS σ a0 = (12, n2)) ∧ (NS ≤ a0 ∧ (∀ σ4 : ZS, σ4 = sP σ a0 0 (some (.inl a0)) → (∀ r5 : ZR, frn r5 → ((∃ n8, kK NS σ4 a0 = (12, n8)) ∧ (NS ≤ a0 ∧ (∀ σ10 : ZS, σ10 = sP σ4 a0 1 r5 → (∀ r11 : ZR, frn r11 → ((∃ n14, kK NS σ10 a0 = (12, n14)) ∧ (NS ≤ a0 ∧ (∀ σ16 : ZS, σ16 = sP σ10 a0 2 r11 → (((a4 = 0 → ((∃ n18, kK NS σ16 a0 = (12, n18)) ∧ (NS ≤ a0 ∧ (∀ σ20 : ZS, σ20 = sP σ16 a0 1 none → (V_J3_init_3_41 Ret σ20 a0 a1 a2 a3))))) ∧ (¬ a4 = 0 → (False))))))))))))))
set_option maxHeartbeats 4000000 in
theorem mz_J3_init_3 {l : Launch} {E : ZE} (hE : EOK E) {σ : ZS} {a0 : Nat} {a1 : ZR} {a2 : ZR} {a3 : Int32} {a4 : Int32} {Ret : ZS → Prop} (hV : wp_J3_init_3 σ a0 a1 a2 a3 a4 Ret) : MZ l E NS yJ3_init_3 (ws_ yJ3_init_3 cJ3_init_3 5 none) 1 σ [.ref (E.1.heap.size + a0), pv E.1.heap.size a1, pv E.1.heap.size a2, .int a3, .int a4] (rV Ret) := by
  refine MZ.start (L := [some (.ref (E.1.heap.size + a0)), some (pv E.1.heap.size a1), some (pv E.1.heap.size a2), some (.int a3), some (.int a4)]) hE (by decide) (by rcases a1 with _ | z | z <;> rcases a2 with _ | z | z <;> exact Nat.le_of_ble_eq_true rfl) (by rcases a1 with _ | z | z <;> rcases a2 with _ | z | z <;> rfl) fun C hCl hQo hC => ?_
  replace hC : Cx C E cJ3_init_3 5 "java/lang/Throwable" "<init>" none [] 1 := hC
  unfold wp_J3_init_3 at hV
  have j_41 : ∀ (σ : ZS) (x0 : Nat) (x1 : ZR) (x2 : ZR) (x3 : Int32), V_J3_init_3_41 Ret σ x0 x1 x2 x3 → zz C E NS 5 σ 41 [some (.ref (E.1.heap.size + x0)), some (pv E.1.heap.size x1), some (pv E.1.heap.size x2), some (.int x3), none] [] := by
    intro σ x0 x1 x2 x3 hV
    unfold V_J3_init_3_41 at hV
    refine z_aload_n hC dJ3_init_3_41 rfl rfl ?_
    refine z_aload_nZ hC dJ3_init_3_42 rfl rfl ?_
    obtain ⟨⟨n22, h21⟩, hV⟩ := hV
    obtain ⟨h23, hV⟩ := hV
    refine p_J3_31i_c5 (r := x1) hC dJ3_init_3_43 h21 (pf_dyn h23) ?_
    obtain ⟨σ24, e_σ24⟩ : ∃ z : ZS, z = sP σ x0 3 x1 := ⟨_, rfl⟩
    replace hV := hV _ e_σ24
    rw [← e_σ24]
    refine z_aload_n hC dJ3_init_3_46 rfl rfl ?_
    refine z_aload_nZ hC dJ3_init_3_47 rfl rfl ?_
    obtain ⟨⟨n26, h25⟩, hV⟩ := hV
    obtain ⟨h27, hV⟩ := hV
    refine p_J3_7i_c5 (r := x2) hC dJ3_init_3_48 h25 (pf_dyn h27) ?_
    obtain ⟨σ28, e_σ28⟩ : ∃ z : ZS, z = sP σ24 x0 0 x2 := ⟨_, rfl⟩
    replace hV := hV _ e_σ28
    rw [← e_σ28]
    refine z_iload_n hC dJ3_init_3_51 rfl rfl ?_
    refine z_if_ne (tgt := 60) hC dJ3_init_3_52 (by decide) (fun hc => ?_) (fun hc => ?_)
    · replace hV := hV.2 hc
      exact z_vret hC dJ3_init_3_60 (by rw [hQo]; exact ⟨rfl, hV⟩)
    · replace hV := hV.1 hc
      refine z_aload_n hC dJ3_init_3_55 rfl rfl ?_
      refine z_null hC dJ3_init_3_56 ?_
      obtain ⟨⟨n30, h29⟩, hV⟩ := hV
      obtain ⟨h31, hV⟩ := hV
      refine p_J3_24i_c5 (r := none) hC dJ3_init_3_57 h29 (pf_dyn h31) ?_
      obtain ⟨σ32, e_σ32⟩ : ∃ z : ZS, z = sP σ28 x0 2 none := ⟨_, rfl⟩
      replace hV := hV _ e_σ32
      rw [← e_σ32]
      exact z_vret hC dJ3_init_3_60 (by rw [hQo]; exact ⟨rfl, hV⟩)
  refine z_aload_n hC dJ3_init_3_0 rfl rfl ?_
  refine z_objInit hC dJ3_init_3_1 q203 q154 qobj (by decide) (Nat.le_of_ble_eq_true rfl) ?_
  refine z_aload_n hC dJ3_init_3_4 rfl rfl ?_
  refine z_aload_n hC dJ3_init_3_5 rfl rfl ?_
  obtain ⟨⟨n2, h1⟩, hV⟩ := hV
  obtain ⟨h3, hV⟩ := hV
  refine p_J3_7i_c5 (r := (some (.inl a0))) hC dJ3_init_3_6 h1 (pf_dyn h3) ?_
  obtain ⟨σ4, e_σ4⟩ : ∃ z : ZS, z = sP σ a0 0 (some (.inl a0)) := ⟨_, rfl⟩
  replace hV := hV _ e_σ4
  rw [← e_σ4]
  refine z_aload_n hC dJ3_init_3_9 rfl rfl ?_
  refine z_getsR hC dJ3_init_3_10 q204 q205 q121 (by decide +kernel) (fun r5 h6 => ?_)
  replace hV := hV r5 h6
  obtain ⟨⟨n8, h7⟩, hV⟩ := hV
  obtain ⟨h9, hV⟩ := hV
  refine p_J3_17i_c5 (r := r5) hC dJ3_init_3_13 h7 (pf_dyn h9) ?_
  obtain ⟨σ10, e_σ10⟩ : ∃ z : ZS, z = sP σ4 a0 1 r5 := ⟨_, rfl⟩
  replace hV := hV _ e_σ10
  rw [← e_σ10]
  refine z_aload_n hC dJ3_init_3_16 rfl rfl ?_
  refine z_getsR hC dJ3_init_3_17 q206 q207 q121 (by decide +kernel) (fun r11 h12 => ?_)
  replace hV := hV r11 h12
  obtain ⟨⟨n14, h13⟩, hV⟩ := hV
  obtain ⟨h15, hV⟩ := hV
  refine p_J3_24i_c5 (r := r11) hC dJ3_init_3_20 h13 (pf_dyn h15) ?_
  obtain ⟨σ16, e_σ16⟩ : ∃ z : ZS, z = sP σ10 a0 2 r11 := ⟨_, rfl⟩
  replace hV := hV _ e_σ16
  rw [← e_σ16]
  refine z_iload hC dJ3_init_3_23 rfl ?_
  refine z_if_eq (tgt := 36) hC dJ3_init_3_25 (by decide) (fun hc => ?_) (fun hc => ?_)
  · replace hV := hV.1 hc
    refine z_aload_n hC dJ3_init_3_36 rfl rfl ?_
    refine z_null hC dJ3_init_3_37 ?_
    obtain ⟨⟨n18, h17⟩, hV⟩ := hV
    obtain ⟨h19, hV⟩ := hV
    refine p_J3_17i_c5 (r := none) hC dJ3_init_3_38 h17 (pf_dyn h19) ?_
    obtain ⟨σ20, e_σ20⟩ : ∃ z : ZS, z = sP σ16 a0 1 none := ⟨_, rfl⟩
    replace hV := hV _ e_σ20
    rw [← e_σ20]
    refine zz_sub (L' := [some (.ref (E.1.heap.size + a0)), some (pv E.1.heap.size a1), some (pv E.1.heap.size a2), some (.int a3), none]) ⟨rfl, rfl, rfl, rfl, trivial⟩ ?_
    exact j_41 σ20 a0 a1 a2 a3 hV
  · replace hV := hV.2 hc
    exact hV.elim
theorem cw_J3_init_3 : CodeW yJ3_init_3 (ws_ yJ3_init_3 cJ3_init_3 5 none) 5 := ⟨fun w h => (List.mem_cons.mp h).elim (fun e => e ▸ q937) id, Or.inl ⟨_, _, q937⟩, q121, by decide, by decide⟩
theorem c_J4_16 {C : ZC} {E : ZE} {cc : ByteArray} {nL pc d : Nat} {nm : String} {ret : Option FieldType} {hh : List (Nat × Nat × Nat × Nat)} {σ : ZS} {L : List (Option Value)} {st : List Value} {a0 : Nat} {a1 : ZR} {a2 : ZR} {a3 : Int32} {a4 : Int32} {Ret : ZS → Prop} (hC : Cx C E cc nL "java/lang/Exception" nm ret hh d) (hdd : 1 + 1 ≤ d) (hd : decode cc pc = .ok (.invokespecial 16, 3)) (hW : (st.map fun v => v.category).sum ≤ 8) (hV : wp_J3_init_3 σ a0 a1 a2 a3 a4 Ret) (k : ∀ σ', Ret σ' → zz C E NS nL σ' (pc + 3) L st) : zz C E NS nL σ pc L (.int a4 :: .int a3 :: pv E.1.heap.size a2 :: pv E.1.heap.size a1 :: .ref (E.1.heap.size + a0) :: st) :=
  z_callIG hC cw_J3_init_3 q937 hdd (by decide) (mz_J3_init_3 (cxE hC) hV) hd rfl q935 q936 (np := 4) rfl rfl hW rfl (kV k)
def wp_J4_init_3 (σ : ZS) (a0 : Nat) (a1 : ZR) (a2 : ZR) (a3 : Int32) (a4 : Int32) (Ret : ZS → Prop) : Prop :=
    wp_J3_init_3 σ a0 a1 a2 a3 a4 (fun σ2 => Ret σ2)
set_option maxHeartbeats 4000000 in
theorem mz_J4_init_3 {l : Launch} {E : ZE} (hE : EOK E) {σ : ZS} {a0 : Nat} {a1 : ZR} {a2 : ZR} {a3 : Int32} {a4 : Int32} {Ret : ZS → Prop} (hV : wp_J4_init_3 σ a0 a1 a2 a3 a4 Ret) : MZ l E NS yJ4_init_3 (ws_ yJ4_init_3 cJ4_init_3 5 none) 2 σ [.ref (E.1.heap.size + a0), pv E.1.heap.size a1, pv E.1.heap.size a2, .int a3, .int a4] (rV Ret) := by
  refine MZ.start (L := [some (.ref (E.1.heap.size + a0)), some (pv E.1.heap.size a1), some (pv E.1.heap.size a2), some (.int a3), some (.int a4)]) hE (by decide) (by rcases a1 with _ | z | z <;> rcases a2 with _ | z | z <;> exact Nat.le_of_ble_eq_true rfl) (by rcases a1 with _ | z | z <;> rcases a2 with _ | z | z <;> rfl) fun C hCl hQo hC => ?_
  replace hC : Cx C E cJ4_init_3 5 "java/lang/Exception" "<init>" none [] 2 := hC
  unfold wp_J4_init_3 at hV
  refine z_aload_n hC dJ4_init_3_0 rfl rfl ?_
  refine z_aload_nZ hC dJ4_init_3_1 rfl rfl ?_
  refine z_aload_nZ hC dJ4_init_3_2 rfl rfl ?_
  refine z_iload_n hC dJ4_init_3_3 rfl rfl ?_
  refine z_iload hC dJ4_init_3_4 rfl ?_
  refine c_J4_16 hC (by decide) dJ4_init_3_6 (Nat.le_of_ble_eq_true rfl) hV (fun σ2 hV => ?_)
  exact z_vret hC dJ4_init_3_9 (by rw [hQo]; exact ⟨rfl, hV⟩)
theorem p_X6_13i_c5 {C : ZC} {E : ZE} {cc : ByteArray} {n nL pc d a x : Nat} {ret : Option FieldType} {hh : List (Nat × Nat × Nat × Nat)} {σ : ZS} {L : List (Option Value)} {st : List Value} {v : Int32} (hC : Cx C E cc nL "RightTurns$Wrong" "<init>" ret hh d) (hd : decode cc pc = .ok (.putfield 13, 3)) (hk : kK n σ a = (5 + 7, x)) (k : zz C E n nL (sI σ a 7 v) (pc + 3) L st) : zz C E n nL σ pc L (.int v :: .ref (E.1.heap.size + a) :: st) :=
  z_putI hC cf5 hd hk (k := 7) (by decide) (Or.inl q940) (Or.inl rfl) (Or.inr ⟨rfl, rfl, rfl, q940⟩) rfl rfl rfl k
theorem p_X6_7i_c5 {C : ZC} {E : ZE} {cc : ByteArray} {n nL pc d a x : Nat} {ret : Option FieldType} {hh : List (Nat × Nat × Nat × Nat)} {σ : ZS} {L : List (Option Value)} {st : List Value} {v : Int32} (hC : Cx C E cc nL "RightTurns$Wrong" "<init>" ret hh d) (hd : decode cc pc = .ok (.putfield 7, 3)) (hk : kK n σ a = (5 + 7, x)) (k : zz C E n nL (sI σ a 6 v) (pc + 3) L st) : zz C E n nL σ pc L (.int v :: .ref (E.1.heap.size + a) :: st) :=
  z_putI hC cf5 hd hk (k := 6) (by decide) (Or.inl q938) (Or.inl rfl) (Or.inr ⟨rfl, rfl, rfl, q938⟩) rfl rfl rfl k
theorem cw_J4_init_3 : CodeW yJ4_init_3 (ws_ yJ4_init_3 cJ4_init_3 5 none) 5 := ⟨fun w h => (List.mem_cons.mp h).elim (fun e => e ▸ q934) id, Or.inl ⟨_, _, q934⟩, q122, by decide, by decide⟩
theorem c_X6_1 {C : ZC} {E : ZE} {cc : ByteArray} {nL pc d : Nat} {nm : String} {ret : Option FieldType} {hh : List (Nat × Nat × Nat × Nat)} {σ : ZS} {L : List (Option Value)} {st : List Value} {a0 : Nat} {a1 : ZR} {a2 : ZR} {a3 : Int32} {a4 : Int32} {Ret : ZS → Prop} (hC : Cx C E cc nL "RightTurns$Wrong" nm ret hh d) (hdd : 2 + 1 ≤ d) (hd : decode cc pc = .ok (.invokespecial 1, 3)) (hW : (st.map fun v => v.category).sum ≤ 8) (hV : wp_J4_init_3 σ a0 a1 a2 a3 a4 Ret) (k : ∀ σ', Ret σ' → zz C E NS nL σ' (pc + 3) L st) : zz C E NS nL σ pc L (.int a4 :: .int a3 :: pv E.1.heap.size a2 :: pv E.1.heap.size a1 :: .ref (E.1.heap.size + a0) :: st) :=
  z_callIG hC cw_J4_init_3 q934 hdd (by decide) (mz_J4_init_3 (cxE hC) hV) hd rfl q932 q933 (np := 4) rfl rfl hW rfl (kV k)
def wp_X6_init (σ : ZS) (a0 : Nat) (a1 : Int32) (a2 : Int32) (Ret : ZS → Prop) : Prop :=
    wp_J4_init_3 σ a0 none none 0 0 (fun σ2 => (∃ n4, kK NS σ2 a0 = (12, n4)) ∧ (∀ σ5 : ZS, σ5 = sI σ2 a0 6 a1 → ((∃ n7, kK NS σ5 a0 = (12, n7)) ∧ (∀ σ8 : ZS, σ8 = sI σ5 a0 7 a2 → (Ret σ8)))))
set_option maxHeartbeats 4000000 in
theorem mz_X6_init {l : Launch} {E : ZE} (hE : EOK E) {σ : ZS} {a0 : Nat} {a1 : Int32} {a2 : Int32} {Ret : ZS → Prop} (hV : wp_X6_init σ a0 a1 a2 Ret) : MZ l E NS yX6_init (ws_ yX6_init cX6_init 3 none) 3 σ [.ref (E.1.heap.size + a0), .int a1, .int a2] (rV Ret) := by
  refine MZ.start (L := [some (.ref (E.1.heap.size + a0)), some (.int a1), some (.int a2)]) hE (by decide) (Nat.le_of_ble_eq_true rfl) rfl fun C hCl hQo hC => ?_
  replace hC : Cx C E cX6_init 3 "RightTurns$Wrong" "<init>" none [] 3 := hC
  unfold wp_X6_init at hV
  refine z_aload_n hC dX6_init_0 rfl rfl ?_
  refine z_null hC dX6_init_1 ?_
  refine z_null hC dX6_init_2 ?_
  refine z_iconst (v := 0) hC dX6_init_3 rfl ?_
  refine z_iconst (v := 0) hC dX6_init_4 rfl ?_
  refine c_X6_1 hC (by decide) dX6_init_5 (Nat.le_of_ble_eq_true rfl) hV (fun σ2 hV => ?_)
  refine z_aload_n hC dX6_init_8 rfl rfl ?_
  refine z_iload_n hC dX6_init_9 rfl rfl ?_
  obtain ⟨⟨n4, h3⟩, hV⟩ := hV
  refine p_X6_7i_c5 hC dX6_init_10 h3 ?_
  obtain ⟨σ5, e_σ5⟩ : ∃ z : ZS, z = sI σ2 a0 6 a1 := ⟨_, rfl⟩
  replace hV := hV _ e_σ5
  rw [← e_σ5]
  refine z_aload_n hC dX6_init_13 rfl rfl ?_
  refine z_iload_n hC dX6_init_14 rfl rfl ?_
  obtain ⟨⟨n7, h6⟩, hV⟩ := hV
  refine p_X6_13i_c5 hC dX6_init_15 h6 ?_
  obtain ⟨σ8, e_σ8⟩ : ∃ z : ZS, z = sI σ5 a0 7 a2 := ⟨_, rfl⟩
  replace hV := hV _ e_σ8
  rw [← e_σ8]
  exact z_vret hC dX6_init_18 (by rw [hQo]; exact ⟨rfl, hV⟩)
theorem g_X3_9_c2 {a x : Nat} {C : ZC} {E : ZE} {cc : ByteArray} {n nL pc d : Nat} {nm : String} {ret : Option FieldType} {hh : List (Nat × Nat × Nat × Nat)} {σ : ZS} {L : List (Option Value)} {st : List Value} (hC : Cx C E cc nL "RightTurns$State" nm ret hh d) (hd : decode cc pc = .ok (.getfield 9, 3)) (hk : kK n σ a = (2 + 7, x)) (k : zz C E n nL σ (pc + 3) L (pv E.1.heap.size (kP n σ a 0) :: st)) : zz C E n nL σ pc L (.ref (E.1.heap.size + a) :: st) :=
  z_get hC cf2 hd hk (k := 0) (by decide) (Or.inl q558) (Or.inl rfl) rfl k
def wp_X3_isSigned (σ : ZS) (a0 : Nat) (a1 : Int32) (a2 : Int32) (a3 : Int32) (Ret : Int32 → ZS → Prop) : Prop :=
    (∃ n2, kK NS σ a0 = (9, n2)) ∧ ((kP NS σ a0 0) = some (.inl (zo (kP NS σ a0 0))) ∧ (∃ n5, kK NS σ (zo (kP NS σ a0 0)) = (0, n5) ∧ (vp_in ((24 * a1) + a2) n5 ∧ ((((((zI σ (zo (kP NS σ a0 0)) (ix ((24 * a1) + a2))) >>> (a3 &&& 31)) &&& 1) = 1 → (Ret 1 σ)) ∧ (¬ (((zI σ (zo (kP NS σ a0 0)) (ix ((24 * a1) + a2))) >>> (a3 &&& 31)) &&& 1) = 1 → (Ret 0 σ)))))))
set_option maxHeartbeats 4000000 in
theorem mz_X3_isSigned {l : Launch} {E : ZE} (hE : EOK E) {σ : ZS} {a0 : Nat} {a1 : Int32} {a2 : Int32} {a3 : Int32} {Ret : Int32 → ZS → Prop} (hV : wp_X3_isSigned σ a0 a1 a2 a3 Ret) : MZ l E NS yX3_isSigned (ws_ yX3_isSigned cX3_isSigned 4 (some .boolean)) 1 σ [.ref (E.1.heap.size + a0), .int a1, .int a2, .int a3] (rI Ret) := by
  refine MZ.start (L := [some (.ref (E.1.heap.size + a0)), some (.int a1), some (.int a2), some (.int a3)]) hE (by decide) (Nat.le_of_ble_eq_true rfl) rfl fun C hCl hQo hC => ?_
  replace hC : Cx C E cX3_isSigned 4 "RightTurns$State" "isSigned" (some .boolean) [] 1 := hC
  unfold wp_X3_isSigned at hV
  refine z_aload_n hC dX3_isSigned_0 rfl rfl ?_
  obtain ⟨⟨n2, h1⟩, hV⟩ := hV
  refine g_X3_9_c2 hC dX3_isSigned_1 h1 ?_
  obtain ⟨h3, hV⟩ := hV
  refine zz_at rfl (by rw [pvo h3]) ?_
  refine z_bipush (v := 24) hC dX3_isSigned_4 rfl ?_
  refine z_iload_n hC dX3_isSigned_6 rfl rfl ?_
  refine z_imul hC dX3_isSigned_7 ?_
  refine z_iload_n hC dX3_isSigned_8 rfl rfl ?_
  refine z_iadd hC dX3_isSigned_9 ?_
  obtain ⟨n5, h4, hV⟩ := hV
  obtain ⟨h6, hV⟩ := hV
  refine z_iald hC dX3_isSigned_10 h4 (h6) ?_
  refine z_iload_n hC dX3_isSigned_11 rfl rfl ?_
  refine z_ishr hC dX3_isSigned_12 ?_
  refine z_iconst (v := 1) hC dX3_isSigned_13 rfl ?_
  refine z_iand hC dX3_isSigned_14 ?_
  refine z_iconst (v := 1) hC dX3_isSigned_15 rfl ?_
  refine z_icmp_ne (tgt := 23) hC dX3_isSigned_16 (by decide) (fun hc => ?_) (fun hc => ?_)
  · replace hV := hV.2 hc
    refine z_iconst (v := 0) hC dX3_isSigned_23 rfl ?_
    exact z_iret hC dX3_isSigned_24 rfl (by rw [hQo]; exact ⟨_, rfl, hV⟩)
  · replace hV := hV.1 hc
    refine z_iconst (v := 1) hC dX3_isSigned_19 rfl ?_
    refine z_goto (tgt := 24) hC dX3_isSigned_20 (by decide) ?_
    exact z_iret hC dX3_isSigned_24 rfl (by rw [hQo]; exact ⟨_, rfl, hV⟩)
theorem g_X3_15_c2 {a x : Nat} {C : ZC} {E : ZE} {cc : ByteArray} {n nL pc d : Nat} {nm : String} {ret : Option FieldType} {hh : List (Nat × Nat × Nat × Nat)} {σ : ZS} {L : List (Option Value)} {st : List Value} (hC : Cx C E cc nL "RightTurns$State" nm ret hh d) (hd : decode cc pc = .ok (.getfield 15, 3)) (hk : kK n σ a = (2 + 7, x)) (k : zz C E n nL σ (pc + 3) L (pv E.1.heap.size (kP n σ a 1) :: st)) : zz C E n nL σ pc L (.ref (E.1.heap.size + a) :: st) :=
  z_get hC cf2 hd hk (k := 1) (by decide) (Or.inl q560) (Or.inl rfl) rfl k
def wp_X3_isAllowed (σ : ZS) (a0 : Nat) (a1 : Int32) (a2 : Int32) (a3 : Int32) (Ret : Int32 → ZS → Prop) : Prop :=
    (∃ n2, kK NS σ a0 = (9, n2)) ∧ ((kP NS σ a0 1) = some (.inl (zo (kP NS σ a0 1))) ∧ (∃ n5, kK NS σ (zo (kP NS σ a0 1)) = (0, n5) ∧ (vp_in ((24 * a1) + a2) n5 ∧ ((((((zI σ (zo (kP NS σ a0 1)) (ix ((24 * a1) + a2))) >>> (a3 &&& 31)) &&& 1) = 1 → (Ret 1 σ)) ∧ (¬ (((zI σ (zo (kP NS σ a0 1)) (ix ((24 * a1) + a2))) >>> (a3 &&& 31)) &&& 1) = 1 → (Ret 0 σ)))))))
set_option maxHeartbeats 4000000 in
theorem mz_X3_isAllowed {l : Launch} {E : ZE} (hE : EOK E) {σ : ZS} {a0 : Nat} {a1 : Int32} {a2 : Int32} {a3 : Int32} {Ret : Int32 → ZS → Prop} (hV : wp_X3_isAllowed σ a0 a1 a2 a3 Ret) : MZ l E NS yX3_isAllowed (ws_ yX3_isAllowed cX3_isAllowed 4 (some .boolean)) 1 σ [.ref (E.1.heap.size + a0), .int a1, .int a2, .int a3] (rI Ret) := by
  refine MZ.start (L := [some (.ref (E.1.heap.size + a0)), some (.int a1), some (.int a2), some (.int a3)]) hE (by decide) (Nat.le_of_ble_eq_true rfl) rfl fun C hCl hQo hC => ?_
  replace hC : Cx C E cX3_isAllowed 4 "RightTurns$State" "isAllowed" (some .boolean) [] 1 := hC
  unfold wp_X3_isAllowed at hV
  refine z_aload_n hC dX3_isAllowed_0 rfl rfl ?_
  obtain ⟨⟨n2, h1⟩, hV⟩ := hV
  refine g_X3_15_c2 hC dX3_isAllowed_1 h1 ?_
  obtain ⟨h3, hV⟩ := hV
  refine zz_at rfl (by rw [pvo h3]) ?_
  refine z_bipush (v := 24) hC dX3_isAllowed_4 rfl ?_
  refine z_iload_n hC dX3_isAllowed_6 rfl rfl ?_
  refine z_imul hC dX3_isAllowed_7 ?_
  refine z_iload_n hC dX3_isAllowed_8 rfl rfl ?_
  refine z_iadd hC dX3_isAllowed_9 ?_
  obtain ⟨n5, h4, hV⟩ := hV
  obtain ⟨h6, hV⟩ := hV
  refine z_iald hC dX3_isAllowed_10 h4 (h6) ?_
  refine z_iload_n hC dX3_isAllowed_11 rfl rfl ?_
  refine z_ishr hC dX3_isAllowed_12 ?_
  refine z_iconst (v := 1) hC dX3_isAllowed_13 rfl ?_
  refine z_iand hC dX3_isAllowed_14 ?_
  refine z_iconst (v := 1) hC dX3_isAllowed_15 rfl ?_
  refine z_icmp_ne (tgt := 23) hC dX3_isAllowed_16 (by decide) (fun hc => ?_) (fun hc => ?_)
  · replace hV := hV.2 hc
    refine z_iconst (v := 0) hC dX3_isAllowed_23 rfl ?_
    exact z_iret hC dX3_isAllowed_24 rfl (by rw [hQo]; exact ⟨_, rfl, hV⟩)
  · replace hV := hV.1 hc
    refine z_iconst (v := 1) hC dX3_isAllowed_19 rfl ?_
    refine z_goto (tgt := 24) hC dX3_isAllowed_20 (by decide) ?_
    exact z_iret hC dX3_isAllowed_24 rfl (by rw [hQo]; exact ⟨_, rfl, hV⟩)
theorem g_X3_27_c2 {a x : Nat} {C : ZC} {E : ZE} {cc : ByteArray} {n nL pc d : Nat} {nm : String} {ret : Option FieldType} {hh : List (Nat × Nat × Nat × Nat)} {σ : ZS} {L : List (Option Value)} {st : List Value} (hC : Cx C E cc nL "RightTurns$State" nm ret hh d) (hd : decode cc pc = .ok (.getfield 27, 3)) (hk : kK n σ a = (2 + 7, x)) (k : zz C E n nL σ (pc + 3) L (.int (zI σ a 3) :: st)) : zz C E n nL σ pc L (.ref (E.1.heap.size + a) :: st) :=
  z_get hC cf2 hd hk (k := 3) (by decide) (Or.inl q564) (Or.inl rfl) rfl k
theorem p_X3_27_c2 {C : ZC} {E : ZE} {cc : ByteArray} {n nL pc d a x : Nat} {nm : String} {ret : Option FieldType} {hh : List (Nat × Nat × Nat × Nat)} {σ : ZS} {L : List (Option Value)} {st : List Value} {v : Int32} (hC : Cx C E cc nL "RightTurns$State" nm ret hh d) (hd : decode cc pc = .ok (.putfield 27, 3)) (hk : kK n σ a = (2 + 7, x)) (k : zz C E n nL (sI σ a 3 v) (pc + 3) L st) : zz C E n nL σ pc L (.int v :: .ref (E.1.heap.size + a) :: st) :=
  z_putI hC cf2 hd hk (k := 3) (by decide) (Or.inl q564) (Or.inl rfl) (Or.inl rfl) rfl rfl rfl k
def wp_X3_goesOn (σ : ZS) (a0 : Nat) (a1 : Int32) (Ret : ZS → Prop) : Prop :=
    (∃ n2, kK NS σ a0 = (9, n2)) ∧ ((kP NS σ a0 0) = some (.inl (zo (kP NS σ a0 0))) ∧ ((∃ n5, kK NS σ a0 = (9, n5)) ∧ ((kP NS σ a0 0) = some (.inl (zo (kP NS σ a0 0))) ∧ ((∃ n8, kK NS σ a0 = (9, n8)) ∧ (∃ n10, kK NS σ (zo (kP NS σ a0 0)) = (0, n10) ∧ (∃ n12, kK NS σ (zo (kP NS σ a0 0)) = (0, n12) ∧ ((¬ (24 * a1) < 0 ∧ ¬ (24 * ((zI σ a0 3) + 1)) < 0 ∧ ¬ (24 : Int32) < 0 ∧ ix (24 * a1) + ix 24 ≤ n10 ∧ ix (24 * ((zI σ a0 3) + 1)) + ix 24 ≤ n12) ∧ (∀ σ14 : ZS, σ14 = cI σ (zo (kP NS σ a0 0)) (zo (kP NS σ a0 0)) (ix (24 * a1)) (ix (24 * ((zI σ a0 3) + 1))) (ix 24) → ((∃ n16, kK NS σ14 a0 = (9, n16)) ∧ ((kP NS σ14 a0 1) = some (.inl (zo (kP NS σ14 a0 1))) ∧ ((∃ n19, kK NS σ14 a0 = (9, n19)) ∧ ((kP NS σ14 a0 1) = some (.inl (zo (kP NS σ14 a0 1))) ∧ ((∃ n22, kK NS σ14 a0 = (9, n22)) ∧ (∃ n24, kK NS σ14 (zo (kP NS σ14 a0 1)) = (0, n24) ∧ (∃ n26, kK NS σ14 (zo (kP NS σ14 a0 1)) = (0, n26) ∧ ((¬ (24 * a1) < 0 ∧ ¬ (24 * ((zI σ14 a0 3) + 1)) < 0 ∧ ¬ (24 : Int32) < 0 ∧ ix (24 * a1) + ix 24 ≤ n24 ∧ ix (24 * ((zI σ14 a0 3) + 1)) + ix 24 ≤ n26) ∧ (∀ σ28 : ZS, σ28 = cI σ14 (zo (kP NS σ14 a0 1)) (zo (kP NS σ14 a0 1)) (ix (24 * a1)) (ix (24 * ((zI σ14 a0 3) + 1))) (ix 24) → ((∃ n30, kK NS σ28 a0 = (9, n30)) ∧ ((∃ n32, kK NS σ28 a0 = (9, n32)) ∧ (∀ σ33 : ZS, σ33 = sI σ28 a0 3 ((zI σ28 a0 3) + 1) → (Ret σ33)))))))))))))))))))))
set_option maxHeartbeats 4000000 in
theorem mz_X3_goesOn {l : Launch} {E : ZE} (hE : EOK E) {σ : ZS} {a0 : Nat} {a1 : Int32} {Ret : ZS → Prop} (hV : wp_X3_goesOn σ a0 a1 Ret) : MZ l E NS yX3_goesOn (ws_ yX3_goesOn cX3_goesOn 2 none) 2 σ [.ref (E.1.heap.size + a0), .int a1] (rV Ret) := by
  refine MZ.start (L := [some (.ref (E.1.heap.size + a0)), some (.int a1)]) hE (by decide) (Nat.le_of_ble_eq_true rfl) rfl fun C hCl hQo hC => ?_
  replace hC : Cx C E cX3_goesOn 2 "RightTurns$State" "goesOn" none [] 2 := hC
  unfold wp_X3_goesOn at hV
  refine z_aload_n hC dX3_goesOn_0 rfl rfl ?_
  obtain ⟨⟨n2, h1⟩, hV⟩ := hV
  refine g_X3_9_c2 hC dX3_goesOn_1 h1 ?_
  obtain ⟨h3, hV⟩ := hV
  refine zz_at rfl (by rw [pvo h3]) ?_
  refine z_bipush (v := 24) hC dX3_goesOn_4 rfl ?_
  refine z_iload_n hC dX3_goesOn_6 rfl rfl ?_
  refine z_imul hC dX3_goesOn_7 ?_
  refine z_aload_n hC dX3_goesOn_8 rfl rfl ?_
  obtain ⟨⟨n5, h4⟩, hV⟩ := hV
  refine g_X3_9_c2 hC dX3_goesOn_9 h4 ?_
  obtain ⟨h6, hV⟩ := hV
  refine zz_at rfl (by rw [pvo h6]) ?_
  refine z_bipush (v := 24) hC dX3_goesOn_12 rfl ?_
  refine z_aload_n hC dX3_goesOn_14 rfl rfl ?_
  obtain ⟨⟨n8, h7⟩, hV⟩ := hV
  refine g_X3_27_c2 hC dX3_goesOn_15 h7 ?_
  refine z_iconst (v := 1) hC dX3_goesOn_18 rfl ?_
  refine z_iadd hC dX3_goesOn_19 ?_
  refine z_imul hC dX3_goesOn_20 ?_
  refine z_bipush (v := 24) hC dX3_goesOn_21 rfl ?_
  obtain ⟨n10, h9, hV⟩ := hV
  obtain ⟨n12, h11, hV⟩ := hV
  obtain ⟨h13, hV⟩ := hV
  refine z_copy0 hC dX3_goesOn_23 q732 (by decide) h9 h11 h13.1 h13.2.1 h13.2.2.1 h13.2.2.2.1 h13.2.2.2.2 (Nat.le_of_ble_eq_true rfl) ?_
  obtain ⟨σ14, e_σ14⟩ : ∃ z : ZS, z = cI σ (zo (kP NS σ a0 0)) (zo (kP NS σ a0 0)) (ix (24 * a1)) (ix (24 * ((zI σ a0 3) + 1))) (ix 24) := ⟨_, rfl⟩
  replace hV := hV _ e_σ14
  rw [← e_σ14]
  refine z_aload_n hC dX3_goesOn_26 rfl rfl ?_
  obtain ⟨⟨n16, h15⟩, hV⟩ := hV
  refine g_X3_15_c2 hC dX3_goesOn_27 h15 ?_
  obtain ⟨h17, hV⟩ := hV
  refine zz_at rfl (by rw [pvo h17]) ?_
  refine z_bipush (v := 24) hC dX3_goesOn_30 rfl ?_
  refine z_iload_n hC dX3_goesOn_32 rfl rfl ?_
  refine z_imul hC dX3_goesOn_33 ?_
  refine z_aload_n hC dX3_goesOn_34 rfl rfl ?_
  obtain ⟨⟨n19, h18⟩, hV⟩ := hV
  refine g_X3_15_c2 hC dX3_goesOn_35 h18 ?_
  obtain ⟨h20, hV⟩ := hV
  refine zz_at rfl (by rw [pvo h20]) ?_
  refine z_bipush (v := 24) hC dX3_goesOn_38 rfl ?_
  refine z_aload_n hC dX3_goesOn_40 rfl rfl ?_
  obtain ⟨⟨n22, h21⟩, hV⟩ := hV
  refine g_X3_27_c2 hC dX3_goesOn_41 h21 ?_
  refine z_iconst (v := 1) hC dX3_goesOn_44 rfl ?_
  refine z_iadd hC dX3_goesOn_45 ?_
  refine z_imul hC dX3_goesOn_46 ?_
  refine z_bipush (v := 24) hC dX3_goesOn_47 rfl ?_
  obtain ⟨n24, h23, hV⟩ := hV
  obtain ⟨n26, h25, hV⟩ := hV
  obtain ⟨h27, hV⟩ := hV
  refine z_copy0 hC dX3_goesOn_49 q732 (by decide) h23 h25 h27.1 h27.2.1 h27.2.2.1 h27.2.2.2.1 h27.2.2.2.2 (Nat.le_of_ble_eq_true rfl) ?_
  obtain ⟨σ28, e_σ28⟩ : ∃ z : ZS, z = cI σ14 (zo (kP NS σ14 a0 1)) (zo (kP NS σ14 a0 1)) (ix (24 * a1)) (ix (24 * ((zI σ14 a0 3) + 1))) (ix 24) := ⟨_, rfl⟩
  replace hV := hV _ e_σ28
  rw [← e_σ28]
  refine z_aload_n hC dX3_goesOn_52 rfl rfl ?_
  refine z_dup hC dX3_goesOn_53 rfl ?_
  obtain ⟨⟨n30, h29⟩, hV⟩ := hV
  refine g_X3_27_c2 hC dX3_goesOn_54 h29 ?_
  refine z_iconst (v := 1) hC dX3_goesOn_57 rfl ?_
  refine z_iadd hC dX3_goesOn_58 ?_
  obtain ⟨⟨n32, h31⟩, hV⟩ := hV
  refine p_X3_27_c2 hC dX3_goesOn_59 h31 ?_
  obtain ⟨σ33, e_σ33⟩ : ∃ z : ZS, z = sI σ28 a0 3 ((zI σ28 a0 3) + 1) := ⟨_, rfl⟩
  replace hV := hV _ e_σ33
  rw [← e_σ33]
  exact z_vret hC dX3_goesOn_62 (by rw [hQo]; exact ⟨rfl, hV⟩)
theorem g_X3_18_c2 {a x : Nat} {C : ZC} {E : ZE} {cc : ByteArray} {n nL pc d : Nat} {nm : String} {ret : Option FieldType} {hh : List (Nat × Nat × Nat × Nat)} {σ : ZS} {L : List (Option Value)} {st : List Value} (hC : Cx C E cc nL "RightTurns$State" nm ret hh d) (hd : decode cc pc = .ok (.getfield 18, 3)) (hk : kK n σ a = (2 + 7, x)) (k : zz C E n nL σ (pc + 3) L (pv E.1.heap.size (kP n σ a 2) :: st)) : zz C E n nL σ pc L (.ref (E.1.heap.size + a) :: st) :=
  z_get hC cf2 hd hk (k := 2) (by decide) (Or.inl q562) (Or.inl rfl) rfl k
theorem g_X3_31_c2 {a x : Nat} {C : ZC} {E : ZE} {cc : ByteArray} {n nL pc d : Nat} {nm : String} {ret : Option FieldType} {hh : List (Nat × Nat × Nat × Nat)} {σ : ZS} {L : List (Option Value)} {st : List Value} (hC : Cx C E cc nL "RightTurns$State" nm ret hh d) (hd : decode cc pc = .ok (.getfield 31, 3)) (hk : kK n σ a = (2 + 7, x)) (k : zz C E n nL σ (pc + 3) L (.int (zI σ a 4) :: st)) : zz C E n nL σ pc L (.ref (E.1.heap.size + a) :: st) :=
  z_get hC cf2 hd hk (k := 4) (by decide) (Or.inl q566) (Or.inl rfl) rfl k
theorem p_X3_31_c2 {C : ZC} {E : ZE} {cc : ByteArray} {n nL pc d a x : Nat} {nm : String} {ret : Option FieldType} {hh : List (Nat × Nat × Nat × Nat)} {σ : ZS} {L : List (Option Value)} {st : List Value} {v : Int32} (hC : Cx C E cc nL "RightTurns$State" nm ret hh d) (hd : decode cc pc = .ok (.putfield 31, 3)) (hk : kK n σ a = (2 + 7, x)) (k : zz C E n nL (sI σ a 4 v) (pc + 3) L st) : zz C E n nL σ pc L (.int v :: .ref (E.1.heap.size + a) :: st) :=
  z_putI hC cf2 hd hk (k := 4) (by decide) (Or.inl q566) (Or.inl rfl) (Or.inl rfl) rfl rfl rfl k
def wp_X3_become (σ : ZS) (a0 : Nat) (a1 : Nat) (Ret : ZS → Prop) : Prop :=
    (∃ n2, kK NS σ a1 = (9, n2)) ∧ ((kP NS σ a1 0) = some (.inl (zo (kP NS σ a1 0))) ∧ ((∃ n5, kK NS σ a0 = (9, n5)) ∧ ((kP NS σ a0 0) = some (.inl (zo (kP NS σ a0 0))) ∧ ((∃ n8, kK NS σ a0 = (9, n8)) ∧ ((kP NS σ a0 0) = some (.inl (zo (kP NS σ a0 0))) ∧ (∃ n11, kK NS σ (zo (kP NS σ a0 0)) = (0, n11) ∧ (∃ n13, kK NS σ (zo (kP NS σ a1 0)) = (0, n13) ∧ (∃ n15, kK NS σ (zo (kP NS σ a0 0)) = (0, n15) ∧ ((¬ (0 : Int32) < 0 ∧ ¬ (0 : Int32) < 0 ∧ ¬ (Int32.ofNat n11) < 0 ∧ ix 0 + ix (Int32.ofNat n11) ≤ n13 ∧ ix 0 + ix (Int32.ofNat n11) ≤ n15) ∧ (∀ σ17 : ZS, σ17 = cI σ (zo (kP NS σ a1 0)) (zo (kP NS σ a0 0)) (ix 0) (ix 0) (ix (Int32.ofNat n11)) → ((∃ n19, kK NS σ17 a1 = (9, n19)) ∧ ((kP NS σ17 a1 1) = some (.inl (zo (kP NS σ17 a1 1))) ∧ ((∃ n22, kK NS σ17 a0 = (9, n22)) ∧ ((kP NS σ17 a0 1) = some (.inl (zo (kP NS σ17 a0 1))) ∧ ((∃ n25, kK NS σ17 a0 = (9, n25)) ∧ ((kP NS σ17 a0 1) = some (.inl (zo (kP NS σ17 a0 1))) ∧ (∃ n28, kK NS σ17 (zo (kP NS σ17 a0 1)) = (0, n28) ∧ (∃ n30, kK NS σ17 (zo (kP NS σ17 a1 1)) = (0, n30) ∧ (∃ n32, kK NS σ17 (zo (kP NS σ17 a0 1)) = (0, n32) ∧ ((¬ (0 : Int32) < 0 ∧ ¬ (0 : Int32) < 0 ∧ ¬ (Int32.ofNat n28) < 0 ∧ ix 0 + ix (Int32.ofNat n28) ≤ n30 ∧ ix 0 + ix (Int32.ofNat n28) ≤ n32) ∧ (∀ σ34 : ZS, σ34 = cI σ17 (zo (kP NS σ17 a1 1)) (zo (kP NS σ17 a0 1)) (ix 0) (ix 0) (ix (Int32.ofNat n28)) → ((∃ n36, kK NS σ34 a1 = (9, n36)) ∧ ((kP NS σ34 a1 2) = some (.inl (zo (kP NS σ34 a1 2))) ∧ ((∃ n39, kK NS σ34 a0 = (9, n39)) ∧ ((kP NS σ34 a0 2) = some (.inl (zo (kP NS σ34 a0 2))) ∧ (∃ n42, kK NS σ34 (zo (kP NS σ34 a1 2)) = (0, n42) ∧ (∃ n44, kK NS σ34 (zo (kP NS σ34 a0 2)) = (0, n44) ∧ ((¬ (0 : Int32) < 0 ∧ ¬ (0 : Int32) < 0 ∧ ¬ (12 : Int32) < 0 ∧ ix 0 + ix 12 ≤ n42 ∧ ix 0 + ix 12 ≤ n44) ∧ (∀ σ46 : ZS, σ46 = cI σ34 (zo (kP NS σ34 a1 2)) (zo (kP NS σ34 a0 2)) (ix 0) (ix 0) (ix 12) → ((∃ n48, kK NS σ46 a1 = (9, n48)) ∧ ((∃ n50, kK NS σ46 a0 = (9, n50)) ∧ (∀ σ51 : ZS, σ51 = sI σ46 a0 3 (zI σ46 a1 3) → ((∃ n53, kK NS σ51 a1 = (9, n53)) ∧ ((∃ n55, kK NS σ51 a0 = (9, n55)) ∧ (∀ σ56 : ZS, σ56 = sI σ51 a0 4 (zI σ51 a1 4) → (Ret σ56))))))))))))))))))))))))))))))))))))
set_option maxHeartbeats 4000000 in
theorem mz_X3_become {l : Launch} {E : ZE} (hE : EOK E) {σ : ZS} {a0 : Nat} {a1 : Nat} {Ret : ZS → Prop} (hV : wp_X3_become σ a0 a1 Ret) : MZ l E NS yX3_become (ws_ yX3_become cX3_become 2 none) 2 σ [.ref (E.1.heap.size + a0), .ref (E.1.heap.size + a1)] (rV Ret) := by
  refine MZ.start (L := [some (.ref (E.1.heap.size + a0)), some (.ref (E.1.heap.size + a1))]) hE (by decide) (Nat.le_of_ble_eq_true rfl) rfl fun C hCl hQo hC => ?_
  replace hC : Cx C E cX3_become 2 "RightTurns$State" "become" none [] 2 := hC
  unfold wp_X3_become at hV
  refine z_aload_n hC dX3_become_0 rfl rfl ?_
  obtain ⟨⟨n2, h1⟩, hV⟩ := hV
  refine g_X3_9_c2 hC dX3_become_1 h1 ?_
  obtain ⟨h3, hV⟩ := hV
  refine zz_at rfl (by rw [pvo h3]) ?_
  refine z_iconst (v := 0) hC dX3_become_4 rfl ?_
  refine z_aload_n hC dX3_become_5 rfl rfl ?_
  obtain ⟨⟨n5, h4⟩, hV⟩ := hV
  refine g_X3_9_c2 hC dX3_become_6 h4 ?_
  obtain ⟨h6, hV⟩ := hV
  refine zz_at rfl (by rw [pvo h6]) ?_
  refine z_iconst (v := 0) hC dX3_become_9 rfl ?_
  refine z_aload_n hC dX3_become_10 rfl rfl ?_
  obtain ⟨⟨n8, h7⟩, hV⟩ := hV
  refine g_X3_9_c2 hC dX3_become_11 h7 ?_
  obtain ⟨h9, hV⟩ := hV
  refine zz_at rfl (by rw [pvo h9]) ?_
  obtain ⟨n11, h10, hV⟩ := hV
  refine z_alen hC dX3_become_14 h10 (by decide) rfl ?_
  obtain ⟨n13, h12, hV⟩ := hV
  obtain ⟨n15, h14, hV⟩ := hV
  obtain ⟨h16, hV⟩ := hV
  refine z_copy0 hC dX3_become_15 q732 (by decide) h12 h14 h16.1 h16.2.1 h16.2.2.1 h16.2.2.2.1 h16.2.2.2.2 (Nat.le_of_ble_eq_true rfl) ?_
  obtain ⟨σ17, e_σ17⟩ : ∃ z : ZS, z = cI σ (zo (kP NS σ a1 0)) (zo (kP NS σ a0 0)) (ix 0) (ix 0) (ix (Int32.ofNat n11)) := ⟨_, rfl⟩
  replace hV := hV _ e_σ17
  rw [← e_σ17]
  refine z_aload_n hC dX3_become_18 rfl rfl ?_
  obtain ⟨⟨n19, h18⟩, hV⟩ := hV
  refine g_X3_15_c2 hC dX3_become_19 h18 ?_
  obtain ⟨h20, hV⟩ := hV
  refine zz_at rfl (by rw [pvo h20]) ?_
  refine z_iconst (v := 0) hC dX3_become_22 rfl ?_
  refine z_aload_n hC dX3_become_23 rfl rfl ?_
  obtain ⟨⟨n22, h21⟩, hV⟩ := hV
  refine g_X3_15_c2 hC dX3_become_24 h21 ?_
  obtain ⟨h23, hV⟩ := hV
  refine zz_at rfl (by rw [pvo h23]) ?_
  refine z_iconst (v := 0) hC dX3_become_27 rfl ?_
  refine z_aload_n hC dX3_become_28 rfl rfl ?_
  obtain ⟨⟨n25, h24⟩, hV⟩ := hV
  refine g_X3_15_c2 hC dX3_become_29 h24 ?_
  obtain ⟨h26, hV⟩ := hV
  refine zz_at rfl (by rw [pvo h26]) ?_
  obtain ⟨n28, h27, hV⟩ := hV
  refine z_alen hC dX3_become_32 h27 (by decide) rfl ?_
  obtain ⟨n30, h29, hV⟩ := hV
  obtain ⟨n32, h31, hV⟩ := hV
  obtain ⟨h33, hV⟩ := hV
  refine z_copy0 hC dX3_become_33 q732 (by decide) h29 h31 h33.1 h33.2.1 h33.2.2.1 h33.2.2.2.1 h33.2.2.2.2 (Nat.le_of_ble_eq_true rfl) ?_
  obtain ⟨σ34, e_σ34⟩ : ∃ z : ZS, z = cI σ17 (zo (kP NS σ17 a1 1)) (zo (kP NS σ17 a0 1)) (ix 0) (ix 0) (ix (Int32.ofNat n28)) := ⟨_, rfl⟩
  replace hV := hV _ e_σ34
  rw [← e_σ34]
  refine z_aload_n hC dX3_become_36 rfl rfl ?_
  obtain ⟨⟨n36, h35⟩, hV⟩ := hV
  refine g_X3_18_c2 hC dX3_become_37 h35 ?_
  obtain ⟨h37, hV⟩ := hV
  refine zz_at rfl (by rw [pvo h37]) ?_
  refine z_iconst (v := 0) hC dX3_become_40 rfl ?_
  refine z_aload_n hC dX3_become_41 rfl rfl ?_
  obtain ⟨⟨n39, h38⟩, hV⟩ := hV
  refine g_X3_18_c2 hC dX3_become_42 h38 ?_
  obtain ⟨h40, hV⟩ := hV
  refine zz_at rfl (by rw [pvo h40]) ?_
  refine z_iconst (v := 0) hC dX3_become_45 rfl ?_
  refine z_bipush (v := 12) hC dX3_become_46 rfl ?_
  obtain ⟨n42, h41, hV⟩ := hV
  obtain ⟨n44, h43, hV⟩ := hV
  obtain ⟨h45, hV⟩ := hV
  refine z_copy0 hC dX3_become_48 q732 (by decide) h41 h43 h45.1 h45.2.1 h45.2.2.1 h45.2.2.2.1 h45.2.2.2.2 (Nat.le_of_ble_eq_true rfl) ?_
  obtain ⟨σ46, e_σ46⟩ : ∃ z : ZS, z = cI σ34 (zo (kP NS σ34 a1 2)) (zo (kP NS σ34 a0 2)) (ix 0) (ix 0) (ix 12) := ⟨_, rfl⟩
  replace hV := hV _ e_σ46
  rw [← e_σ46]
  refine z_aload_n hC dX3_become_51 rfl rfl ?_
  refine z_aload_n hC dX3_become_52 rfl rfl ?_
  obtain ⟨⟨n48, h47⟩, hV⟩ := hV
  refine g_X3_27_c2 hC dX3_become_53 h47 ?_
  obtain ⟨⟨n50, h49⟩, hV⟩ := hV
  refine p_X3_27_c2 hC dX3_become_56 h49 ?_
  obtain ⟨σ51, e_σ51⟩ : ∃ z : ZS, z = sI σ46 a0 3 (zI σ46 a1 3) := ⟨_, rfl⟩
  replace hV := hV _ e_σ51
  rw [← e_σ51]
  refine z_aload_n hC dX3_become_59 rfl rfl ?_
  refine z_aload_n hC dX3_become_60 rfl rfl ?_
  obtain ⟨⟨n53, h52⟩, hV⟩ := hV
  refine g_X3_31_c2 hC dX3_become_61 h52 ?_
  obtain ⟨⟨n55, h54⟩, hV⟩ := hV
  refine p_X3_31_c2 hC dX3_become_64 h54 ?_
  obtain ⟨σ56, e_σ56⟩ : ∃ z : ZS, z = sI σ51 a0 4 (zI σ51 a1 4) := ⟨_, rfl⟩
  replace hV := hV _ e_σ56
  rw [← e_σ56]
  exact z_vret hC dX3_become_67 (by rw [hQo]; exact ⟨rfl, hV⟩)
theorem g_X8_13_c7 {a x : Nat} {C : ZC} {E : ZE} {cc : ByteArray} {n nL pc d : Nat} {nm : String} {ret : Option FieldType} {hh : List (Nat × Nat × Nat × Nat)} {σ : ZS} {L : List (Option Value)} {st : List Value} (hC : Cx C E cc nL "RightTurns$Street" nm ret hh d) (hd : decode cc pc = .ok (.getfield 13, 3)) (hk : kK n σ a = (7 + 7, x)) (k : zz C E n nL σ (pc + 3) L (.int (zI σ a 1) :: st)) : zz C E n nL σ pc L (.ref (E.1.heap.size + a) :: st) :=
  z_get hC cf7 hd hk (k := 1) (by decide) (Or.inl q1049) (Or.inl rfl) rfl k
theorem g_X8_7_c7 {a x : Nat} {C : ZC} {E : ZE} {cc : ByteArray} {n nL pc d : Nat} {nm : String} {ret : Option FieldType} {hh : List (Nat × Nat × Nat × Nat)} {σ : ZS} {L : List (Option Value)} {st : List Value} (hC : Cx C E cc nL "RightTurns$Street" nm ret hh d) (hd : decode cc pc = .ok (.getfield 7, 3)) (hk : kK n σ a = (7 + 7, x)) (k : zz C E n nL σ (pc + 3) L (.int (zI σ a 0) :: st)) : zz C E n nL σ pc L (.ref (E.1.heap.size + a) :: st) :=
  z_get hC cf7 hd hk (k := 0) (by decide) (Or.inl q1046) (Or.inl rfl) rfl k
def wp_X8_meets (σ : ZS) (a0 : Nat) (a1 : Nat) (Ret : Int32 → ZS → Prop) : Prop :=
    (∃ n2, kK NS σ a0 = (14, n2)) ∧ ((∃ n4, kK NS σ a1 = (14, n4)) ∧ ((((zI σ a0 0) = (zI σ a1 0) → (Ret 1 σ)) ∧ (¬ (zI σ a0 0) = (zI σ a1 0) → ((∃ n6, kK NS σ a0 = (14, n6)) ∧ ((∃ n8, kK NS σ a1 = (14, n8)) ∧ ((((zI σ a0 0) = (zI σ a1 1) → (Ret 1 σ)) ∧ (¬ (zI σ a0 0) = (zI σ a1 1) → ((∃ n10, kK NS σ a0 = (14, n10)) ∧ ((∃ n12, kK NS σ a1 = (14, n12)) ∧ ((((zI σ a0 1) = (zI σ a1 0) → (Ret 1 σ)) ∧ (¬ (zI σ a0 1) = (zI σ a1 0) → ((∃ n14, kK NS σ a0 = (14, n14)) ∧ ((∃ n16, kK NS σ a1 = (14, n16)) ∧ ((((zI σ a0 1) = (zI σ a1 1) → (Ret 1 σ)) ∧ (¬ (zI σ a0 1) = (zI σ a1 1) → (Ret 0 σ))))))))))))))))))))
set_option maxHeartbeats 4000000 in
theorem mz_X8_meets {l : Launch} {E : ZE} (hE : EOK E) {σ : ZS} {a0 : Nat} {a1 : Nat} {Ret : Int32 → ZS → Prop} (hV : wp_X8_meets σ a0 a1 Ret) : MZ l E NS yX8_meets (ws_ yX8_meets cX8_meets 2 (some .boolean)) 1 σ [.ref (E.1.heap.size + a0), .ref (E.1.heap.size + a1)] (rI Ret) := by
  refine MZ.start (L := [some (.ref (E.1.heap.size + a0)), some (.ref (E.1.heap.size + a1))]) hE (by decide) (Nat.le_of_ble_eq_true rfl) rfl fun C hCl hQo hC => ?_
  replace hC : Cx C E cX8_meets 2 "RightTurns$Street" "meets" (some .boolean) [] 1 := hC
  unfold wp_X8_meets at hV
  refine z_aload_n hC dX8_meets_0 rfl rfl ?_
  obtain ⟨⟨n2, h1⟩, hV⟩ := hV
  refine g_X8_7_c7 hC dX8_meets_1 h1 ?_
  refine z_aload_n hC dX8_meets_4 rfl rfl ?_
  obtain ⟨⟨n4, h3⟩, hV⟩ := hV
  refine g_X8_7_c7 hC dX8_meets_5 h3 ?_
  refine z_icmp_eq (tgt := 44) hC dX8_meets_8 (by decide) (fun hc => ?_) (fun hc => ?_)
  · replace hV := hV.1 hc
    refine z_iconst (v := 1) hC dX8_meets_44 rfl ?_
    refine z_goto (tgt := 49) hC dX8_meets_45 (by decide) ?_
    exact z_iret hC dX8_meets_49 rfl (by rw [hQo]; exact ⟨_, rfl, hV⟩)
  · replace hV := hV.2 hc
    refine z_aload_n hC dX8_meets_11 rfl rfl ?_
    obtain ⟨⟨n6, h5⟩, hV⟩ := hV
    refine g_X8_7_c7 hC dX8_meets_12 h5 ?_
    refine z_aload_n hC dX8_meets_15 rfl rfl ?_
    obtain ⟨⟨n8, h7⟩, hV⟩ := hV
    refine g_X8_13_c7 hC dX8_meets_16 h7 ?_
    refine z_icmp_eq (tgt := 44) hC dX8_meets_19 (by decide) (fun hc => ?_) (fun hc => ?_)
    · replace hV := hV.1 hc
      refine z_iconst (v := 1) hC dX8_meets_44 rfl ?_
      refine z_goto (tgt := 49) hC dX8_meets_45 (by decide) ?_
      exact z_iret hC dX8_meets_49 rfl (by rw [hQo]; exact ⟨_, rfl, hV⟩)
    · replace hV := hV.2 hc
      refine z_aload_n hC dX8_meets_22 rfl rfl ?_
      obtain ⟨⟨n10, h9⟩, hV⟩ := hV
      refine g_X8_13_c7 hC dX8_meets_23 h9 ?_
      refine z_aload_n hC dX8_meets_26 rfl rfl ?_
      obtain ⟨⟨n12, h11⟩, hV⟩ := hV
      refine g_X8_7_c7 hC dX8_meets_27 h11 ?_
      refine z_icmp_eq (tgt := 44) hC dX8_meets_30 (by decide) (fun hc => ?_) (fun hc => ?_)
      · replace hV := hV.1 hc
        refine z_iconst (v := 1) hC dX8_meets_44 rfl ?_
        refine z_goto (tgt := 49) hC dX8_meets_45 (by decide) ?_
        exact z_iret hC dX8_meets_49 rfl (by rw [hQo]; exact ⟨_, rfl, hV⟩)
      · replace hV := hV.2 hc
        refine z_aload_n hC dX8_meets_33 rfl rfl ?_
        obtain ⟨⟨n14, h13⟩, hV⟩ := hV
        refine g_X8_13_c7 hC dX8_meets_34 h13 ?_
        refine z_aload_n hC dX8_meets_37 rfl rfl ?_
        obtain ⟨⟨n16, h15⟩, hV⟩ := hV
        refine g_X8_13_c7 hC dX8_meets_38 h15 ?_
        refine z_icmp_ne (tgt := 48) hC dX8_meets_41 (by decide) (fun hc => ?_) (fun hc => ?_)
        · replace hV := hV.2 hc
          refine z_iconst (v := 0) hC dX8_meets_48 rfl ?_
          exact z_iret hC dX8_meets_49 rfl (by rw [hQo]; exact ⟨_, rfl, hV⟩)
        · replace hV := hV.1 hc
          refine z_iconst (v := 1) hC dX8_meets_44 rfl ?_
          refine z_goto (tgt := 49) hC dX8_meets_45 (by decide) ?_
          exact z_iret hC dX8_meets_49 rfl (by rw [hQo]; exact ⟨_, rfl, hV⟩)
theorem g_X2_20_c1 {a x : Nat} {C : ZC} {E : ZE} {cc : ByteArray} {n nL pc d : Nat} {nm : String} {ret : Option FieldType} {hh : List (Nat × Nat × Nat × Nat)} {σ : ZS} {L : List (Option Value)} {st : List Value} (hC : Cx C E cc nL "RightTurns$Town" nm ret hh d) (hd : decode cc pc = .ok (.getfield 20, 3)) (hk : kK n σ a = (1 + 7, x)) (k : zz C E n nL σ (pc + 3) L (pv E.1.heap.size (kP n σ a 1) :: st)) : zz C E n nL σ pc L (.ref (E.1.heap.size + a) :: st) :=
  z_get hC cf1 hd hk (k := 1) (by decide) (Or.inl q509) (Or.inl rfl) rfl k
theorem cw_J2_size : CodeW yJ2_size (ws_ yJ2_size cJ2_size 1 (some .int)) 1 := ⟨fun w h => (List.mem_cons.mp h).elim (fun e => e ▸ q909) id, Or.inl ⟨_, _, q909⟩, q120, by decide, by decide⟩
theorem c_X2_39 {C : ZC} {E : ZE} {cc : ByteArray} {nL pc d : Nat} {nm : String} {ret : Option FieldType} {hh : List (Nat × Nat × Nat × Nat)} {σ : ZS} {L : List (Option Value)} {st : List Value} {a0 : Nat} {Ret : Int32 → ZS → Prop} (hC : Cx C E cc nL "RightTurns$Town" nm ret hh d) (hdd : 1 + 1 ≤ d) (hd : decode cc pc = .ok (.invokevirtual 39, 3)) (hW : (st.map fun v => v.category).sum ≤ 8) {x : Nat} (hk : kK NS σ a0 = (9 + 7, x)) (hV : wp_J2_size σ a0 Ret) (k : ∀ r σ', Ret r σ' → zz C E NS nL σ' (pc + 3) L (.int r :: st)) : zz C E NS nL σ pc L (.ref (E.1.heap.size + a0) :: st) :=
  z_callVG hC cf9 cw_J2_size hdd (by decide) (mz_J2_size (cxE hC) hV) hd hk q1102 q907 q908 (np := 0) rfl rfl hW rfl (kI k)
def wp_X2_arcs (σ : ZS) (a0 : Nat) (Ret : Int32 → ZS → Prop) : Prop :=
    (∃ n2, kK NS σ a0 = (8, n2)) ∧ ((kP NS σ a0 1) = some (.inl (zo (kP NS σ a0 1))) ∧ ((∃ n7, kK NS σ (zo (kP NS σ a0 1)) = (16, n7)) ∧ (wp_J2_size σ (zo (kP NS σ a0 1)) (fun r4 σ5 => Ret (2 * r4) σ5))))
set_option maxHeartbeats 4000000 in
theorem mz_X2_arcs {l : Launch} {E : ZE} (hE : EOK E) {σ : ZS} {a0 : Nat} {Ret : Int32 → ZS → Prop} (hV : wp_X2_arcs σ a0 Ret) : MZ l E NS yX2_arcs (ws_ yX2_arcs cX2_arcs 1 (some .int)) 2 σ [.ref (E.1.heap.size + a0)] (rI Ret) := by
  refine MZ.start (L := [some (.ref (E.1.heap.size + a0))]) hE (by decide) (Nat.le_of_ble_eq_true rfl) rfl fun C hCl hQo hC => ?_
  replace hC : Cx C E cX2_arcs 1 "RightTurns$Town" "arcs" (some .int) [] 2 := hC
  unfold wp_X2_arcs at hV
  refine z_iconst (v := 2) hC dX2_arcs_0 rfl ?_
  refine z_aload_n hC dX2_arcs_1 rfl rfl ?_
  obtain ⟨⟨n2, h1⟩, hV⟩ := hV
  refine g_X2_20_c1 hC dX2_arcs_2 h1 ?_
  obtain ⟨h3, hV⟩ := hV
  refine zz_at rfl (by rw [pvo h3]) ?_
  obtain ⟨⟨n7, h6⟩, hV⟩ := hV
  refine c_X2_39 hC (by decide) dX2_arcs_5 (Nat.le_of_ble_eq_true rfl) h6 hV (fun r4 σ5 hV => ?_)
  refine z_imul hC dX2_arcs_8 ?_
  exact z_iret hC dX2_arcs_9 rfl (by rw [hQo]; exact ⟨_, rfl, hV⟩)
theorem cw_J2_get : CodeW yJ2_get (ws_ yJ2_get cJ2_get 2 (Option.some (FieldType.object "java/lang/Object"))) 2 := ⟨fun w h => (List.mem_cons.mp h).elim (fun e => e ▸ q957) id, Or.inl ⟨_, _, q957⟩, q120, by decide, by decide⟩
theorem c_X2_43 {C : ZC} {E : ZE} {cc : ByteArray} {nL pc d : Nat} {nm : String} {ret : Option FieldType} {hh : List (Nat × Nat × Nat × Nat)} {σ : ZS} {L : List (Option Value)} {st : List Value} {a0 : Nat} {a1 : Int32} {Ret : ZR → ZS → Prop} (hC : Cx C E cc nL "RightTurns$Town" nm ret hh d) (hdd : 3 + 1 ≤ d) (hd : decode cc pc = .ok (.invokevirtual 43, 3)) (hW : (st.map fun v => v.category).sum ≤ 8) {x : Nat} (hk : kK NS σ a0 = (9 + 7, x)) (hV : wp_J2_get σ a0 a1 Ret) (k : ∀ r σ', Ret r σ' → zz C E NS nL σ' (pc + 3) L (pv E.1.heap.size r :: st)) : zz C E NS nL σ pc L (.int a1 :: .ref (E.1.heap.size + a0) :: st) :=
  z_callVG hC cf9 cw_J2_get hdd (by decide) (mz_J2_get (cxE hC) hV) hd hk q1115 q955 q956 (np := 1) rfl rfl hW rfl (kR k)
def wp_X2_of (σ : ZS) (a0 : Nat) (a1 : Int32) (Ret : ZR → ZS → Prop) : Prop :=
    (∃ n2, kK NS σ a0 = (8, n2)) ∧ ((kP NS σ a0 1) = some (.inl (zo (kP NS σ a0 1))) ∧ ((∃ n7, kK NS σ (zo (kP NS σ a0 1)) = (16, n7)) ∧ (wp_J2_get σ (zo (kP NS σ a0 1)) (a1 / 2) (fun r4 σ5 => r4 = some (.inl (zo r4)) ∧ ((∃ n10, kK NS σ5 (zo r4) = (14, n10)) ∧ (Ret (some (.inl (zo r4))) σ5))))))
set_option maxHeartbeats 4000000 in
theorem mz_X2_of {l : Launch} {E : ZE} (hE : EOK E) {σ : ZS} {a0 : Nat} {a1 : Int32} {Ret : ZR → ZS → Prop} (hV : wp_X2_of σ a0 a1 Ret) : MZ l E NS yX2_of (ws_ yX2_of cX2_of 2 (Option.some (FieldType.object "RightTurns$Street"))) 4 σ [.ref (E.1.heap.size + a0), .int a1] (rP E.1.heap.size Ret) := by
  refine MZ.start (L := [some (.ref (E.1.heap.size + a0)), some (.int a1)]) hE (by decide) (Nat.le_of_ble_eq_true rfl) rfl fun C hCl hQo hC => ?_
  replace hC : Cx C E cX2_of 2 "RightTurns$Town" "of" (Option.some (FieldType.object "RightTurns$Street")) [] 4 := hC
  unfold wp_X2_of at hV
  refine z_aload_n hC dX2_of_0 rfl rfl ?_
  obtain ⟨⟨n2, h1⟩, hV⟩ := hV
  refine g_X2_20_c1 hC dX2_of_1 h1 ?_
  obtain ⟨h3, hV⟩ := hV
  refine zz_at rfl (by rw [pvo h3]) ?_
  refine z_iload_n hC dX2_of_4 rfl rfl ?_
  refine z_iconst (v := 2) hC dX2_of_5 rfl ?_
  refine z_idiv hC dX2_of_6 (by decide) ?_
  obtain ⟨⟨n7, h6⟩, hV⟩ := hV
  refine c_X2_43 hC (by decide) dX2_of_7 (Nat.le_of_ble_eq_true rfl) h6 hV (fun r4 σ5 hV => ?_)
  obtain ⟨h8, hV⟩ := hV
  refine zz_at rfl (by rw [pvo h8]) ?_
  obtain ⟨⟨n10, h9⟩, hV⟩ := hV
  refine z_cast hC cf7 dX2_of_10 h9 q1116 ?_
  exact z_aret (r := (some (.inl (zo r4)))) hC (Or.inl ⟨_, rfl⟩) dX2_of_13 (by rw [hQo]; exact ⟨_, rfl, hV⟩)
theorem g_X2_56_c7 {a x : Nat} {C : ZC} {E : ZE} {cc : ByteArray} {n nL pc d : Nat} {nm : String} {ret : Option FieldType} {hh : List (Nat × Nat × Nat × Nat)} {σ : ZS} {L : List (Option Value)} {st : List Value} (hC : Cx C E cc nL "RightTurns$Town" nm ret hh d) (hd : decode cc pc = .ok (.getfield 56, 3)) (hk : kK n σ a = (7 + 7, x)) (k : zz C E n nL σ (pc + 3) L (.int (zI σ a 3) :: st)) : zz C E n nL σ pc L (.ref (E.1.heap.size + a) :: st) :=
  z_get hC cf7 hd hk (k := 3) (by decide) (Or.inr ⟨_, q1055⟩) (Or.inl rfl) rfl k
theorem cw_X2_arcs : CodeW yX2_arcs (ws_ yX2_arcs cX2_arcs 1 (some .int)) 1 := ⟨fun w h => (List.mem_cons.mp h).elim (fun e => e ▸ q1110) id, Or.inl ⟨_, _, q1110⟩, q117, by decide, by decide⟩
theorem c_X2_49 {C : ZC} {E : ZE} {cc : ByteArray} {nL pc d : Nat} {nm : String} {ret : Option FieldType} {hh : List (Nat × Nat × Nat × Nat)} {σ : ZS} {L : List (Option Value)} {st : List Value} {a0 : Nat} {Ret : Int32 → ZS → Prop} (hC : Cx C E cc nL "RightTurns$Town" nm ret hh d) (hdd : 2 + 1 ≤ d) (hd : decode cc pc = .ok (.invokevirtual 49, 3)) (hW : (st.map fun v => v.category).sum ≤ 8) {x : Nat} (hk : kK NS σ a0 = (1 + 7, x)) (hV : wp_X2_arcs σ a0 Ret) (k : ∀ r σ', Ret r σ' → zz C E NS nL σ' (pc + 3) L (.int r :: st)) : zz C E NS nL σ pc L (.ref (E.1.heap.size + a0) :: st) :=
  z_callVG hC cf1 cw_X2_arcs hdd (by decide) (mz_X2_arcs (cxE hC) hV) hd hk q1107 q1108 q1109 (np := 0) rfl rfl hW rfl (kI k)
theorem cw_X2_of : CodeW yX2_of (ws_ yX2_of cX2_of 2 (Option.some (FieldType.object "RightTurns$Street"))) 2 := ⟨fun w h => (List.mem_cons.mp h).elim (fun e => e ▸ q1114) id, Or.inl ⟨_, _, q1114⟩, q117, by decide, by decide⟩
theorem c_X2_52 {C : ZC} {E : ZE} {cc : ByteArray} {nL pc d : Nat} {nm : String} {ret : Option FieldType} {hh : List (Nat × Nat × Nat × Nat)} {σ : ZS} {L : List (Option Value)} {st : List Value} {a0 : Nat} {a1 : Int32} {Ret : ZR → ZS → Prop} (hC : Cx C E cc nL "RightTurns$Town" nm ret hh d) (hdd : 4 + 1 ≤ d) (hd : decode cc pc = .ok (.invokevirtual 52, 3)) (hW : (st.map fun v => v.category).sum ≤ 8) {x : Nat} (hk : kK NS σ a0 = (1 + 7, x)) (hV : wp_X2_of σ a0 a1 Ret) (k : ∀ r σ', Ret r σ' → zz C E NS nL σ' (pc + 3) L (pv E.1.heap.size r :: st)) : zz C E NS nL σ pc L (.int a1 :: .ref (E.1.heap.size + a0) :: st) :=
  z_callVG hC cf1 cw_X2_of hdd (by decide) (mz_X2_of (cxE hC) hV) hd hk q1111 q1112 q1113 (np := 1) rfl rfl hW rfl (kR k)
def wp_X2_isArc (σ : ZS) (a0 : Nat) (a1 : Int32) (Ret : Int32 → ZS → Prop) : Prop :=
    ((a1 < 0 → (Ret 0 σ)) ∧ (¬ a1 < 0 → ((∃ n4, kK NS σ a0 = (8, n4)) ∧ (wp_X2_arcs σ a0 (fun r1 σ2 => ((a1 < r1 → ((((a1 - a1 / 2 * 2) = 1 → ((∃ n8, kK NS σ2 a0 = (8, n8)) ∧ (wp_X2_of σ2 a0 a1 (fun r5 σ6 => r5 = some (.inl (zo r5)) ∧ ((∃ n11, kK NS σ6 (zo r5) = (14, n11)) ∧ ((((zI σ6 (zo r5) 3) = 0 → (Ret 1 σ6)) ∧ (¬ (zI σ6 (zo r5) 3) = 0 → (Ret 0 σ6))))))))) ∧ (¬ (a1 - a1 / 2 * 2) = 1 → (Ret 1 σ2))))) ∧ (¬ a1 < r1 → (Ret 0 σ2))))))))
set_option maxHeartbeats 4000000 in
theorem mz_X2_isArc {l : Launch} {E : ZE} (hE : EOK E) {σ : ZS} {a0 : Nat} {a1 : Int32} {Ret : Int32 → ZS → Prop} (hV : wp_X2_isArc σ a0 a1 Ret) : MZ l E NS yX2_isArc (ws_ yX2_isArc cX2_isArc 2 (some .boolean)) 5 σ [.ref (E.1.heap.size + a0), .int a1] (rI Ret) := by
  refine MZ.start (L := [some (.ref (E.1.heap.size + a0)), some (.int a1)]) hE (by decide) (Nat.le_of_ble_eq_true rfl) rfl fun C hCl hQo hC => ?_
  replace hC : Cx C E cX2_isArc 2 "RightTurns$Town" "isArc" (some .boolean) [] 5 := hC
  unfold wp_X2_isArc at hV
  refine z_iload_n hC dX2_isArc_0 rfl rfl ?_
  refine z_if_lt (tgt := 34) hC dX2_isArc_1 (by decide) (fun hc => ?_) (fun hc => ?_)
  · replace hV := hV.1 hc
    refine z_iconst (v := 0) hC dX2_isArc_34 rfl ?_
    exact z_iret hC dX2_isArc_35 rfl (by rw [hQo]; exact ⟨_, rfl, hV⟩)
  · replace hV := hV.2 hc
    refine z_iload_n hC dX2_isArc_4 rfl rfl ?_
    refine z_aload_n hC dX2_isArc_5 rfl rfl ?_
    obtain ⟨⟨n4, h3⟩, hV⟩ := hV
    refine c_X2_49 hC (by decide) dX2_isArc_6 (Nat.le_of_ble_eq_true rfl) h3 hV (fun r1 σ2 hV => ?_)
    refine z_icmp_ge (tgt := 34) hC dX2_isArc_9 (by decide) (fun hc => ?_) (fun hc => ?_)
    · replace hV := hV.2 hc
      refine z_iconst (v := 0) hC dX2_isArc_34 rfl ?_
      exact z_iret hC dX2_isArc_35 rfl (by rw [hQo]; exact ⟨_, rfl, hV⟩)
    · replace hV := hV.1 hc
      refine z_iload_n hC dX2_isArc_12 rfl rfl ?_
      refine z_iconst (v := 2) hC dX2_isArc_13 rfl ?_
      refine z_irem hC dX2_isArc_14 (by decide) ?_
      refine z_iconst (v := 1) hC dX2_isArc_15 rfl ?_
      refine z_icmp_ne (tgt := 30) hC dX2_isArc_16 (by decide) (fun hc => ?_) (fun hc => ?_)
      · replace hV := hV.2 hc
        refine z_iconst (v := 1) hC dX2_isArc_30 rfl ?_
        refine z_goto (tgt := 35) hC dX2_isArc_31 (by decide) ?_
        exact z_iret hC dX2_isArc_35 rfl (by rw [hQo]; exact ⟨_, rfl, hV⟩)
      · replace hV := hV.1 hc
        refine z_aload_n hC dX2_isArc_19 rfl rfl ?_
        refine z_iload_n hC dX2_isArc_20 rfl rfl ?_
        obtain ⟨⟨n8, h7⟩, hV⟩ := hV
        refine c_X2_52 hC (by decide) dX2_isArc_21 (Nat.le_of_ble_eq_true rfl) h7 hV (fun r5 σ6 hV => ?_)
        obtain ⟨h9, hV⟩ := hV
        refine zz_at rfl (by rw [pvo h9]) ?_
        obtain ⟨⟨n11, h10⟩, hV⟩ := hV
        refine g_X2_56_c7 hC dX2_isArc_24 h10 ?_
        refine z_if_ne (tgt := 34) hC dX2_isArc_27 (by decide) (fun hc => ?_) (fun hc => ?_)
        · replace hV := hV.2 hc
          refine z_iconst (v := 0) hC dX2_isArc_34 rfl ?_
          exact z_iret hC dX2_isArc_35 rfl (by rw [hQo]; exact ⟨_, rfl, hV⟩)
        · replace hV := hV.1 hc
          refine z_iconst (v := 1) hC dX2_isArc_30 rfl ?_
          refine z_goto (tgt := 35) hC dX2_isArc_31 (by decide) ?_
          exact z_iret hC dX2_isArc_35 rfl (by rw [hQo]; exact ⟨_, rfl, hV⟩)
theorem g_X2_60_c7 {a x : Nat} {C : ZC} {E : ZE} {cc : ByteArray} {n nL pc d : Nat} {nm : String} {ret : Option FieldType} {hh : List (Nat × Nat × Nat × Nat)} {σ : ZS} {L : List (Option Value)} {st : List Value} (hC : Cx C E cc nL "RightTurns$Town" nm ret hh d) (hd : decode cc pc = .ok (.getfield 60, 3)) (hk : kK n σ a = (7 + 7, x)) (k : zz C E n nL σ (pc + 3) L (.int (zI σ a 0) :: st)) : zz C E n nL σ pc L (.ref (E.1.heap.size + a) :: st) :=
  z_get hC cf7 hd hk (k := 0) (by decide) (Or.inr ⟨_, q1047⟩) (Or.inl rfl) rfl k
theorem g_X2_64_c7 {a x : Nat} {C : ZC} {E : ZE} {cc : ByteArray} {n nL pc d : Nat} {nm : String} {ret : Option FieldType} {hh : List (Nat × Nat × Nat × Nat)} {σ : ZS} {L : List (Option Value)} {st : List Value} (hC : Cx C E cc nL "RightTurns$Town" nm ret hh d) (hd : decode cc pc = .ok (.getfield 64, 3)) (hk : kK n σ a = (7 + 7, x)) (k : zz C E n nL σ (pc + 3) L (.int (zI σ a 1) :: st)) : zz C E n nL σ pc L (.ref (E.1.heap.size + a) :: st) :=
  z_get hC cf7 hd hk (k := 1) (by decide) (Or.inr ⟨_, q1050⟩) (Or.inl rfl) rfl k
def wp_X2_begin (σ : ZS) (a0 : Nat) (a1 : Int32) (Ret : Int32 → ZS → Prop) : Prop :=
    (((a1 - a1 / 2 * 2) = 0 → ((∃ n11, kK NS σ a0 = (8, n11)) ∧ (wp_X2_of σ a0 a1 (fun r8 σ9 => r8 = some (.inl (zo r8)) ∧ ((∃ n14, kK NS σ9 (zo r8) = (14, n14)) ∧ (Ret (zI σ9 (zo r8) 0) σ9)))))) ∧ (¬ (a1 - a1 / 2 * 2) = 0 → ((∃ n4, kK NS σ a0 = (8, n4)) ∧ (wp_X2_of σ a0 a1 (fun r1 σ2 => r1 = some (.inl (zo r1)) ∧ ((∃ n7, kK NS σ2 (zo r1) = (14, n7)) ∧ (Ret (zI σ2 (zo r1) 1) σ2)))))))
set_option maxHeartbeats 4000000 in
theorem mz_X2_begin {l : Launch} {E : ZE} (hE : EOK E) {σ : ZS} {a0 : Nat} {a1 : Int32} {Ret : Int32 → ZS → Prop} (hV : wp_X2_begin σ a0 a1 Ret) : MZ l E NS yX2_begin (ws_ yX2_begin cX2_begin 2 (some .int)) 5 σ [.ref (E.1.heap.size + a0), .int a1] (rI Ret) := by
  refine MZ.start (L := [some (.ref (E.1.heap.size + a0)), some (.int a1)]) hE (by decide) (Nat.le_of_ble_eq_true rfl) rfl fun C hCl hQo hC => ?_
  replace hC : Cx C E cX2_begin 2 "RightTurns$Town" "begin" (some .int) [] 5 := hC
  unfold wp_X2_begin at hV
  refine z_iload_n hC dX2_begin_0 rfl rfl ?_
  refine z_iconst (v := 2) hC dX2_begin_1 rfl ?_
  refine z_irem hC dX2_begin_2 (by decide) ?_
  refine z_if_ne (tgt := 17) hC dX2_begin_3 (by decide) (fun hc => ?_) (fun hc => ?_)
  · replace hV := hV.2 hc
    refine z_aload_n hC dX2_begin_17 rfl rfl ?_
    refine z_iload_n hC dX2_begin_18 rfl rfl ?_
    obtain ⟨⟨n4, h3⟩, hV⟩ := hV
    refine c_X2_52 hC (by decide) dX2_begin_19 (Nat.le_of_ble_eq_true rfl) h3 hV (fun r1 σ2 hV => ?_)
    obtain ⟨h5, hV⟩ := hV
    refine zz_at rfl (by rw [pvo h5]) ?_
    obtain ⟨⟨n7, h6⟩, hV⟩ := hV
    refine g_X2_64_c7 hC dX2_begin_22 h6 ?_
    exact z_iret hC dX2_begin_25 rfl (by rw [hQo]; exact ⟨_, rfl, hV⟩)
  · replace hV := hV.1 hc
    refine z_aload_n hC dX2_begin_6 rfl rfl ?_
    refine z_iload_n hC dX2_begin_7 rfl rfl ?_
    obtain ⟨⟨n11, h10⟩, hV⟩ := hV
    refine c_X2_52 hC (by decide) dX2_begin_8 (Nat.le_of_ble_eq_true rfl) h10 hV (fun r8 σ9 hV => ?_)
    obtain ⟨h12, hV⟩ := hV
    refine zz_at rfl (by rw [pvo h12]) ?_
    obtain ⟨⟨n14, h13⟩, hV⟩ := hV
    refine g_X2_60_c7 hC dX2_begin_11 h13 ?_
    refine z_goto (tgt := 25) hC dX2_begin_14 (by decide) ?_
    exact z_iret hC dX2_begin_25 rfl (by rw [hQo]; exact ⟨_, rfl, hV⟩)
def wp_X2_end (σ : ZS) (a0 : Nat) (a1 : Int32) (Ret : Int32 → ZS → Prop) : Prop :=
    (((a1 - a1 / 2 * 2) = 0 → ((∃ n11, kK NS σ a0 = (8, n11)) ∧ (wp_X2_of σ a0 a1 (fun r8 σ9 => r8 = some (.inl (zo r8)) ∧ ((∃ n14, kK NS σ9 (zo r8) = (14, n14)) ∧ (Ret (zI σ9 (zo r8) 1) σ9)))))) ∧ (¬ (a1 - a1 / 2 * 2) = 0 → ((∃ n4, kK NS σ a0 = (8, n4)) ∧ (wp_X2_of σ a0 a1 (fun r1 σ2 => r1 = some (.inl (zo r1)) ∧ ((∃ n7, kK NS σ2 (zo r1) = (14, n7)) ∧ (Ret (zI σ2 (zo r1) 0) σ2)))))))
set_option maxHeartbeats 4000000 in
theorem mz_X2_end {l : Launch} {E : ZE} (hE : EOK E) {σ : ZS} {a0 : Nat} {a1 : Int32} {Ret : Int32 → ZS → Prop} (hV : wp_X2_end σ a0 a1 Ret) : MZ l E NS yX2_end (ws_ yX2_end cX2_end 2 (some .int)) 5 σ [.ref (E.1.heap.size + a0), .int a1] (rI Ret) := by
  refine MZ.start (L := [some (.ref (E.1.heap.size + a0)), some (.int a1)]) hE (by decide) (Nat.le_of_ble_eq_true rfl) rfl fun C hCl hQo hC => ?_
  replace hC : Cx C E cX2_end 2 "RightTurns$Town" "end" (some .int) [] 5 := hC
  unfold wp_X2_end at hV
  refine z_iload_n hC dX2_end_0 rfl rfl ?_
  refine z_iconst (v := 2) hC dX2_end_1 rfl ?_
  refine z_irem hC dX2_end_2 (by decide) ?_
  refine z_if_ne (tgt := 17) hC dX2_end_3 (by decide) (fun hc => ?_) (fun hc => ?_)
  · replace hV := hV.2 hc
    refine z_aload_n hC dX2_end_17 rfl rfl ?_
    refine z_iload_n hC dX2_end_18 rfl rfl ?_
    obtain ⟨⟨n4, h3⟩, hV⟩ := hV
    refine c_X2_52 hC (by decide) dX2_end_19 (Nat.le_of_ble_eq_true rfl) h3 hV (fun r1 σ2 hV => ?_)
    obtain ⟨h5, hV⟩ := hV
    refine zz_at rfl (by rw [pvo h5]) ?_
    obtain ⟨⟨n7, h6⟩, hV⟩ := hV
    refine g_X2_60_c7 hC dX2_end_22 h6 ?_
    exact z_iret hC dX2_end_25 rfl (by rw [hQo]; exact ⟨_, rfl, hV⟩)
  · replace hV := hV.1 hc
    refine z_aload_n hC dX2_end_6 rfl rfl ?_
    refine z_iload_n hC dX2_end_7 rfl rfl ?_
    obtain ⟨⟨n11, h10⟩, hV⟩ := hV
    refine c_X2_52 hC (by decide) dX2_end_8 (Nat.le_of_ble_eq_true rfl) h10 hV (fun r8 σ9 hV => ?_)
    obtain ⟨h12, hV⟩ := hV
    refine zz_at rfl (by rw [pvo h12]) ?_
    obtain ⟨⟨n14, h13⟩, hV⟩ := hV
    refine g_X2_64_c7 hC dX2_end_11 h13 ?_
    refine z_goto (tgt := 25) hC dX2_end_14 (by decide) ?_
    exact z_iret hC dX2_end_25 rfl (by rw [hQo]; exact ⟨_, rfl, hV⟩)
theorem g_X2_67_c7 {a x : Nat} {C : ZC} {E : ZE} {cc : ByteArray} {n nL pc d : Nat} {nm : String} {ret : Option FieldType} {hh : List (Nat × Nat × Nat × Nat)} {σ : ZS} {L : List (Option Value)} {st : List Value} (hC : Cx C E cc nL "RightTurns$Town" nm ret hh d) (hd : decode cc pc = .ok (.getfield 67, 3)) (hk : kK n σ a = (7 + 7, x)) (k : zz C E n nL σ (pc + 3) L (.int (zI σ a 2) :: st)) : zz C E n nL σ pc L (.ref (E.1.heap.size + a) :: st) :=
  z_get hC cf7 hd hk (k := 2) (by decide) (Or.inr ⟨_, q1053⟩) (Or.inl rfl) rfl k
def wp_X2_length (σ : ZS) (a0 : Nat) (a1 : Int32) (Ret : Int32 → ZS → Prop) : Prop :=
    (∃ n4, kK NS σ a0 = (8, n4)) ∧ (wp_X2_of σ a0 a1 (fun r1 σ2 => r1 = some (.inl (zo r1)) ∧ ((∃ n7, kK NS σ2 (zo r1) = (14, n7)) ∧ (Ret (zI σ2 (zo r1) 2) σ2))))
set_option maxHeartbeats 4000000 in
theorem mz_X2_length {l : Launch} {E : ZE} (hE : EOK E) {σ : ZS} {a0 : Nat} {a1 : Int32} {Ret : Int32 → ZS → Prop} (hV : wp_X2_length σ a0 a1 Ret) : MZ l E NS yX2_length (ws_ yX2_length cX2_length 2 (some .int)) 5 σ [.ref (E.1.heap.size + a0), .int a1] (rI Ret) := by
  refine MZ.start (L := [some (.ref (E.1.heap.size + a0)), some (.int a1)]) hE (by decide) (Nat.le_of_ble_eq_true rfl) rfl fun C hCl hQo hC => ?_
  replace hC : Cx C E cX2_length 2 "RightTurns$Town" "length" (some .int) [] 5 := hC
  unfold wp_X2_length at hV
  refine z_aload_n hC dX2_length_0 rfl rfl ?_
  refine z_iload_n hC dX2_length_1 rfl rfl ?_
  obtain ⟨⟨n4, h3⟩, hV⟩ := hV
  refine c_X2_52 hC (by decide) dX2_length_2 (Nat.le_of_ble_eq_true rfl) h3 hV (fun r1 σ2 hV => ?_)
  obtain ⟨h5, hV⟩ := hV
  refine zz_at rfl (by rw [pvo h5]) ?_
  obtain ⟨⟨n7, h6⟩, hV⟩ := hV
  refine g_X2_67_c7 hC dX2_length_5 h6 ?_
  exact z_iret hC dX2_length_8 rfl (by rw [hQo]; exact ⟨_, rfl, hV⟩)
theorem g_X2_14_c1 {a x : Nat} {C : ZC} {E : ZE} {cc : ByteArray} {n nL pc d : Nat} {nm : String} {ret : Option FieldType} {hh : List (Nat × Nat × Nat × Nat)} {σ : ZS} {L : List (Option Value)} {st : List Value} (hC : Cx C E cc nL "RightTurns$Town" nm ret hh d) (hd : decode cc pc = .ok (.getfield 14, 3)) (hk : kK n σ a = (1 + 7, x)) (k : zz C E n nL σ (pc + 3) L (pv E.1.heap.size (kP n σ a 0) :: st)) : zz C E n nL σ pc L (.ref (E.1.heap.size + a) :: st) :=
  z_get hC cf1 hd hk (k := 0) (by decide) (Or.inl q506) (Or.inl rfl) rfl k
theorem g_X2_79_c6 {a x : Nat} {C : ZC} {E : ZE} {cc : ByteArray} {n nL pc d : Nat} {nm : String} {ret : Option FieldType} {hh : List (Nat × Nat × Nat × Nat)} {σ : ZS} {L : List (Option Value)} {st : List Value} (hC : Cx C E cc nL "RightTurns$Town" nm ret hh d) (hd : decode cc pc = .ok (.getfield 79, 3)) (hk : kK n σ a = (6 + 7, x)) (k : zz C E n nL σ (pc + 3) L (.int (zI σ a 0) :: st)) : zz C E n nL σ pc L (.ref (E.1.heap.size + a) :: st) :=
  z_get hC cf6 hd hk (k := 0) (by decide) (Or.inr ⟨_, q977⟩) (Or.inl rfl) rfl k
theorem g_X2_82_c6 {a x : Nat} {C : ZC} {E : ZE} {cc : ByteArray} {n nL pc d : Nat} {nm : String} {ret : Option FieldType} {hh : List (Nat × Nat × Nat × Nat)} {σ : ZS} {L : List (Option Value)} {st : List Value} (hC : Cx C E cc nL "RightTurns$Town" nm ret hh d) (hd : decode cc pc = .ok (.getfield 82, 3)) (hk : kK n σ a = (6 + 7, x)) (k : zz C E n nL σ (pc + 3) L (.int (zI σ a 1) :: st)) : zz C E n nL σ pc L (.ref (E.1.heap.size + a) :: st) :=
  z_get hC cf6 hd hk (k := 1) (by decide) (Or.inr ⟨_, q980⟩) (Or.inl rfl) rfl k
theorem cw_X2_end : CodeW yX2_end (ws_ yX2_end cX2_end 2 (some .int)) 2 := ⟨fun w h => (List.mem_cons.mp h).elim (fun e => e ▸ q1124) id, Or.inl ⟨_, _, q1124⟩, q117, by decide, by decide⟩
theorem c_X2_70 {C : ZC} {E : ZE} {cc : ByteArray} {nL pc d : Nat} {nm : String} {ret : Option FieldType} {hh : List (Nat × Nat × Nat × Nat)} {σ : ZS} {L : List (Option Value)} {st : List Value} {a0 : Nat} {a1 : Int32} {Ret : Int32 → ZS → Prop} (hC : Cx C E cc nL "RightTurns$Town" nm ret hh d) (hdd : 5 + 1 ≤ d) (hd : decode cc pc = .ok (.invokevirtual 70, 3)) (hW : (st.map fun v => v.category).sum ≤ 8) {x : Nat} (hk : kK NS σ a0 = (1 + 7, x)) (hV : wp_X2_end σ a0 a1 Ret) (k : ∀ r σ', Ret r σ' → zz C E NS nL σ' (pc + 3) L (.int r :: st)) : zz C E NS nL σ pc L (.int a1 :: .ref (E.1.heap.size + a0) :: st) :=
  z_callVG hC cf1 cw_X2_end hdd (by decide) (mz_X2_end (cxE hC) hV) hd hk q1121 q1122 q1123 (np := 1) rfl rfl hW rfl (kI k)
theorem cw_X2_begin : CodeW yX2_begin (ws_ yX2_begin cX2_begin 2 (some .int)) 2 := ⟨fun w h => (List.mem_cons.mp h).elim (fun e => e ▸ q1128) id, Or.inl ⟨_, _, q1128⟩, q117, by decide, by decide⟩
theorem c_X2_74 {C : ZC} {E : ZE} {cc : ByteArray} {nL pc d : Nat} {nm : String} {ret : Option FieldType} {hh : List (Nat × Nat × Nat × Nat)} {σ : ZS} {L : List (Option Value)} {st : List Value} {a0 : Nat} {a1 : Int32} {Ret : Int32 → ZS → Prop} (hC : Cx C E cc nL "RightTurns$Town" nm ret hh d) (hdd : 5 + 1 ≤ d) (hd : decode cc pc = .ok (.invokevirtual 74, 3)) (hW : (st.map fun v => v.category).sum ≤ 8) {x : Nat} (hk : kK NS σ a0 = (1 + 7, x)) (hV : wp_X2_begin σ a0 a1 Ret) (k : ∀ r σ', Ret r σ' → zz C E NS nL σ' (pc + 3) L (.int r :: st)) : zz C E NS nL σ pc L (.int a1 :: .ref (E.1.heap.size + a0) :: st) :=
  z_callVG hC cf1 cw_X2_begin hdd (by decide) (mz_X2_begin (cxE hC) hV) hd hk q1125 q1126 q1127 (np := 1) rfl rfl hW rfl (kI k)
def wp_X2_turn (σ : ZS) (a0 : Nat) (a1 : Int32) (a2 : Int32) (Ret : Int32 → ZS → Prop) : Prop :=
    (∃ n4, kK NS σ a0 = (8, n4)) ∧ (wp_X2_end σ a0 a1 (fun r1 σ2 => (∃ n8, kK NS σ2 a0 = (8, n8)) ∧ (wp_X2_begin σ2 a0 a2 (fun r5 σ6 => ((r1 = r5 → ((((a1 / 2) = (a2 / 2) → (Ret 0 σ6)) ∧ (¬ (a1 / 2) = (a2 / 2) → ((∃ n10, kK NS σ6 a0 = (8, n10)) ∧ ((kP NS σ6 a0 0) = some (.inl (zo (kP NS σ6 a0 0))) ∧ ((∃ n15, kK NS σ6 a0 = (8, n15)) ∧ (wp_X2_begin σ6 a0 a1 (fun r12 σ13 => (∃ n19, kK NS σ13 (zo (kP NS σ6 a0 0)) = (16, n19)) ∧ (wp_J2_get σ13 (zo (kP NS σ6 a0 0)) r12 (fun r16 σ17 => r16 = some (.inl (zo r16)) ∧ ((∃ n22, kK NS σ17 (zo r16) = (13, n22)) ∧ ((∃ n24, kK NS σ17 a0 = (8, n24)) ∧ ((kP NS σ17 a0 0) = some (.inl (zo (kP NS σ17 a0 0))) ∧ ((∃ n29, kK NS σ17 a0 = (8, n29)) ∧ (wp_X2_end σ17 a0 a1 (fun r26 σ27 => (∃ n33, kK NS σ27 (zo (kP NS σ17 a0 0)) = (16, n33)) ∧ (wp_J2_get σ27 (zo (kP NS σ17 a0 0)) r26 (fun r30 σ31 => r30 = some (.inl (zo r30)) ∧ ((∃ n36, kK NS σ31 (zo r30) = (13, n36)) ∧ ((∃ n38, kK NS σ31 a0 = (8, n38)) ∧ ((kP NS σ31 a0 0) = some (.inl (zo (kP NS σ31 a0 0))) ∧ ((∃ n43, kK NS σ31 a0 = (8, n43)) ∧ (wp_X2_end σ31 a0 a2 (fun r40 σ41 => (∃ n47, kK NS σ41 (zo (kP NS σ31 a0 0)) = (16, n47)) ∧ (wp_J2_get σ41 (zo (kP NS σ31 a0 0)) r40 (fun r44 σ45 => r44 = some (.inl (zo r44)) ∧ ((∃ n50, kK NS σ45 (zo r44) = (13, n50)) ∧ ((∃ n52, kK NS σ45 (zo r30) = (13, n52)) ∧ ((∃ n54, kK NS σ45 (zo r16) = (13, n54)) ∧ ((∃ n56, kK NS σ45 (zo r44) = (13, n56)) ∧ ((∃ n58, kK NS σ45 (zo r30) = (13, n58)) ∧ ((∃ n60, kK NS σ45 (zo r30) = (13, n60)) ∧ ((∃ n62, kK NS σ45 (zo r16) = (13, n62)) ∧ ((∃ n64, kK NS σ45 (zo r44) = (13, n64)) ∧ ((∃ n66, kK NS σ45 (zo r30) = (13, n66)) ∧ (∀ y67 : Int32, y67 = (((zI σ45 (zo r30) 0) - (zI σ45 (zo r16) 0)) * ((zI σ45 (zo r44) 1) - (zI σ45 (zo r30) 1))) - (((zI σ45 (zo r30) 1) - (zI σ45 (zo r16) 1)) * ((zI σ45 (zo r44) 0) - (zI σ45 (zo r30) 0))) → ((∃ n69, kK NS σ45 (zo r30) = (13, n69)) ∧ ((∃ n71, kK NS σ45 (zo r16) = (13, n71)) ∧ ((∃ n73, kK NS σ45 (zo r44) = (13, n73)) ∧ ((∃ n75, kK NS σ45 (zo r30) = (13, n75)) ∧ ((∃ n77, kK NS σ45 (zo r30) = (13, n77)) ∧ ((∃ n79, kK NS σ45 (zo r16) = (13, n79)) ∧ ((∃ n81, kK NS σ45 (zo r44) = (13, n81)) ∧ ((∃ n83, kK NS σ45 (zo r30) = (13, n83)) ∧ (∀ y84 : Int32, y84 = (((zI σ45 (zo r30) 0) - (zI σ45 (zo r16) 0)) * ((zI σ45 (zo r44) 0) - (zI σ45 (zo r30) 0))) + (((zI σ45 (zo r30) 1) - (zI σ45 (zo r16) 1)) * ((zI σ45 (zo r44) 1) - (zI σ45 (zo r30) 1))) → (((0 < y67 → (Ret 3 σ45)) ∧ (¬ 0 < y67 → (((y67 < 0 → (Ret 1 σ45)) ∧ (¬ y67 < 0 → (((0 < y84 → (Ret 2 σ45)) ∧ (¬ 0 < y84 → (Ret 0 σ45)))))))))))))))))))))))))))))))))))))))))))))))))))))))) ∧ (¬ r1 = r5 → (Ret (-1) σ6)))))))
set_option maxHeartbeats 4000000 in
theorem mz_X2_turn {l : Launch} {E : ZE} (hE : EOK E) {σ : ZS} {a0 : Nat} {a1 : Int32} {a2 : Int32} {Ret : Int32 → ZS → Prop} (hV : wp_X2_turn σ a0 a1 a2 Ret) : MZ l E NS yX2_turn (ws_ yX2_turn cX2_turn 8 (some .int)) 6 σ [.ref (E.1.heap.size + a0), .int a1, .int a2] (rI Ret) := by
  refine MZ.start (L := [some (.ref (E.1.heap.size + a0)), some (.int a1), some (.int a2), none, none, none, none, none]) hE (by decide) (Nat.le_of_ble_eq_true rfl) rfl fun C hCl hQo hC => ?_
  replace hC : Cx C E cX2_turn 8 "RightTurns$Town" "turn" (some .int) [] 6 := hC
  unfold wp_X2_turn at hV
  refine z_aload_n hC dX2_turn_0 rfl rfl ?_
  refine z_iload_n hC dX2_turn_1 rfl rfl ?_
  obtain ⟨⟨n4, h3⟩, hV⟩ := hV
  refine c_X2_70 hC (by decide) dX2_turn_2 (Nat.le_of_ble_eq_true rfl) h3 hV (fun r1 σ2 hV => ?_)
  refine z_aload_n hC dX2_turn_5 rfl rfl ?_
  refine z_iload_n hC dX2_turn_6 rfl rfl ?_
  obtain ⟨⟨n8, h7⟩, hV⟩ := hV
  refine c_X2_74 hC (by decide) dX2_turn_7 (Nat.le_of_ble_eq_true rfl) h7 hV (fun r5 σ6 hV => ?_)
  refine z_icmp_eq (tgt := 15) hC dX2_turn_10 (by decide) (fun hc => ?_) (fun hc => ?_)
  · replace hV := hV.1 hc
    refine z_iload_n hC dX2_turn_15 rfl rfl ?_
    refine z_iconst (v := 2) hC dX2_turn_16 rfl ?_
    refine z_idiv hC dX2_turn_17 (by decide) ?_
    refine z_iload_n hC dX2_turn_18 rfl rfl ?_
    refine z_iconst (v := 2) hC dX2_turn_19 rfl ?_
    refine z_idiv hC dX2_turn_20 (by decide) ?_
    refine z_icmp_ne (tgt := 26) hC dX2_turn_21 (by decide) (fun hc => ?_) (fun hc => ?_)
    · replace hV := hV.2 hc
      refine z_aload_n hC dX2_turn_26 rfl rfl ?_
      obtain ⟨⟨n10, h9⟩, hV⟩ := hV
      refine g_X2_14_c1 hC dX2_turn_27 h9 ?_
      obtain ⟨h11, hV⟩ := hV
      refine zz_at rfl (by rw [pvo h11]) ?_
      refine z_aload_n hC dX2_turn_30 rfl rfl ?_
      refine z_iload_n hC dX2_turn_31 rfl rfl ?_
      obtain ⟨⟨n15, h14⟩, hV⟩ := hV
      refine c_X2_74 hC (by decide) dX2_turn_32 (Nat.le_of_ble_eq_true rfl) h14 hV (fun r12 σ13 hV => ?_)
      obtain ⟨⟨n19, h18⟩, hV⟩ := hV
      refine c_X2_43 hC (by decide) dX2_turn_35 (Nat.le_of_ble_eq_true rfl) h18 hV (fun r16 σ17 hV => ?_)
      obtain ⟨h20, hV⟩ := hV
      refine zz_at rfl (by rw [pvo h20]) ?_
      obtain ⟨⟨n22, h21⟩, hV⟩ := hV
      refine z_cast hC cf6 dX2_turn_38 h21 q1129 ?_
      refine z_astore_n hC dX2_turn_41 rfl (Nat.le_of_ble_eq_true rfl) rfl rfl ?_
      refine z_aload_n hC dX2_turn_42 rfl rfl ?_
      obtain ⟨⟨n24, h23⟩, hV⟩ := hV
      refine g_X2_14_c1 hC dX2_turn_43 h23 ?_
      obtain ⟨h25, hV⟩ := hV
      refine zz_at rfl (by rw [pvo h25]) ?_
      refine z_aload_n hC dX2_turn_46 rfl rfl ?_
      refine z_iload_n hC dX2_turn_47 rfl rfl ?_
      obtain ⟨⟨n29, h28⟩, hV⟩ := hV
      refine c_X2_70 hC (by decide) dX2_turn_48 (Nat.le_of_ble_eq_true rfl) h28 hV (fun r26 σ27 hV => ?_)
      obtain ⟨⟨n33, h32⟩, hV⟩ := hV
      refine c_X2_43 hC (by decide) dX2_turn_51 (Nat.le_of_ble_eq_true rfl) h32 hV (fun r30 σ31 hV => ?_)
      obtain ⟨h34, hV⟩ := hV
      refine zz_at rfl (by rw [pvo h34]) ?_
      obtain ⟨⟨n36, h35⟩, hV⟩ := hV
      refine z_cast hC cf6 dX2_turn_54 h35 q1129 ?_
      refine z_astore hC dX2_turn_57 (Nat.le_of_ble_eq_true rfl) rfl rfl ?_
      refine z_aload_n hC dX2_turn_59 rfl rfl ?_
      obtain ⟨⟨n38, h37⟩, hV⟩ := hV
      refine g_X2_14_c1 hC dX2_turn_60 h37 ?_
      obtain ⟨h39, hV⟩ := hV
      refine zz_at rfl (by rw [pvo h39]) ?_
      refine z_aload_n hC dX2_turn_63 rfl rfl ?_
      refine z_iload_n hC dX2_turn_64 rfl rfl ?_
      obtain ⟨⟨n43, h42⟩, hV⟩ := hV
      refine c_X2_70 hC (by decide) dX2_turn_65 (Nat.le_of_ble_eq_true rfl) h42 hV (fun r40 σ41 hV => ?_)
      obtain ⟨⟨n47, h46⟩, hV⟩ := hV
      refine c_X2_43 hC (by decide) dX2_turn_68 (Nat.le_of_ble_eq_true rfl) h46 hV (fun r44 σ45 hV => ?_)
      obtain ⟨h48, hV⟩ := hV
      refine zz_at rfl (by rw [pvo h48]) ?_
      obtain ⟨⟨n50, h49⟩, hV⟩ := hV
      refine z_cast hC cf6 dX2_turn_71 h49 q1129 ?_
      refine z_astore hC dX2_turn_74 (Nat.le_of_ble_eq_true rfl) rfl rfl ?_
      refine z_aload hC dX2_turn_76 rfl ?_
      obtain ⟨⟨n52, h51⟩, hV⟩ := hV
      refine g_X2_79_c6 hC dX2_turn_78 h51 ?_
      refine z_aload_n hC dX2_turn_81 rfl rfl ?_
      obtain ⟨⟨n54, h53⟩, hV⟩ := hV
      refine g_X2_79_c6 hC dX2_turn_82 h53 ?_
      refine z_isub hC dX2_turn_85 ?_
      refine z_aload hC dX2_turn_86 rfl ?_
      obtain ⟨⟨n56, h55⟩, hV⟩ := hV
      refine g_X2_82_c6 hC dX2_turn_88 h55 ?_
      refine z_aload hC dX2_turn_91 rfl ?_
      obtain ⟨⟨n58, h57⟩, hV⟩ := hV
      refine g_X2_82_c6 hC dX2_turn_93 h57 ?_
      refine z_isub hC dX2_turn_96 ?_
      refine z_imul hC dX2_turn_97 ?_
      refine z_aload hC dX2_turn_98 rfl ?_
      obtain ⟨⟨n60, h59⟩, hV⟩ := hV
      refine g_X2_82_c6 hC dX2_turn_100 h59 ?_
      refine z_aload_n hC dX2_turn_103 rfl rfl ?_
      obtain ⟨⟨n62, h61⟩, hV⟩ := hV
      refine g_X2_82_c6 hC dX2_turn_104 h61 ?_
      refine z_isub hC dX2_turn_107 ?_
      refine z_aload hC dX2_turn_108 rfl ?_
      obtain ⟨⟨n64, h63⟩, hV⟩ := hV
      refine g_X2_79_c6 hC dX2_turn_110 h63 ?_
      refine z_aload hC dX2_turn_113 rfl ?_
      obtain ⟨⟨n66, h65⟩, hV⟩ := hV
      refine g_X2_79_c6 hC dX2_turn_115 h65 ?_
      refine z_isub hC dX2_turn_118 ?_
      refine z_imul hC dX2_turn_119 ?_
      refine z_isub hC dX2_turn_120 ?_
      obtain ⟨y67, e_y67⟩ : ∃ z, z = (((zI σ45 (zo r30) 0) - (zI σ45 (zo r16) 0)) * ((zI σ45 (zo r44) 1) - (zI σ45 (zo r30) 1))) - (((zI σ45 (zo r30) 1) - (zI σ45 (zo r16) 1)) * ((zI σ45 (zo r44) 0) - (zI σ45 (zo r30) 0))) := ⟨_, rfl⟩
      rw [← e_y67]
      replace hV := hV _ e_y67
      refine z_istore hC dX2_turn_121 (Nat.le_of_ble_eq_true rfl) rfl rfl ?_
      refine z_aload hC dX2_turn_123 rfl ?_
      obtain ⟨⟨n69, h68⟩, hV⟩ := hV
      refine g_X2_79_c6 hC dX2_turn_125 h68 ?_
      refine z_aload_n hC dX2_turn_128 rfl rfl ?_
      obtain ⟨⟨n71, h70⟩, hV⟩ := hV
      refine g_X2_79_c6 hC dX2_turn_129 h70 ?_
      refine z_isub hC dX2_turn_132 ?_
      refine z_aload hC dX2_turn_133 rfl ?_
      obtain ⟨⟨n73, h72⟩, hV⟩ := hV
      refine g_X2_79_c6 hC dX2_turn_135 h72 ?_
      refine z_aload hC dX2_turn_138 rfl ?_
      obtain ⟨⟨n75, h74⟩, hV⟩ := hV
      refine g_X2_79_c6 hC dX2_turn_140 h74 ?_
      refine z_isub hC dX2_turn_143 ?_
      refine z_imul hC dX2_turn_144 ?_
      refine z_aload hC dX2_turn_145 rfl ?_
      obtain ⟨⟨n77, h76⟩, hV⟩ := hV
      refine g_X2_82_c6 hC dX2_turn_147 h76 ?_
      refine z_aload_n hC dX2_turn_150 rfl rfl ?_
      obtain ⟨⟨n79, h78⟩, hV⟩ := hV
      refine g_X2_82_c6 hC dX2_turn_151 h78 ?_
      refine z_isub hC dX2_turn_154 ?_
      refine z_aload hC dX2_turn_155 rfl ?_
      obtain ⟨⟨n81, h80⟩, hV⟩ := hV
      refine g_X2_82_c6 hC dX2_turn_157 h80 ?_
      refine z_aload hC dX2_turn_160 rfl ?_
      obtain ⟨⟨n83, h82⟩, hV⟩ := hV
      refine g_X2_82_c6 hC dX2_turn_162 h82 ?_
      refine z_isub hC dX2_turn_165 ?_
      refine z_imul hC dX2_turn_166 ?_
      refine z_iadd hC dX2_turn_167 ?_
      obtain ⟨y84, e_y84⟩ : ∃ z, z = (((zI σ45 (zo r30) 0) - (zI σ45 (zo r16) 0)) * ((zI σ45 (zo r44) 0) - (zI σ45 (zo r30) 0))) + (((zI σ45 (zo r30) 1) - (zI σ45 (zo r16) 1)) * ((zI σ45 (zo r44) 1) - (zI σ45 (zo r30) 1))) := ⟨_, rfl⟩
      rw [← e_y84]
      replace hV := hV _ e_y84
      refine z_istore hC dX2_turn_168 (Nat.le_of_ble_eq_true rfl) rfl rfl ?_
      refine z_iload hC dX2_turn_170 rfl ?_
      refine z_if_le (tgt := 179) hC dX2_turn_172 (by decide) (fun hc => ?_) (fun hc => ?_)
      · replace hV := hV.2 hc
        refine z_iload hC dX2_turn_179 rfl ?_
        refine z_if_ge (tgt := 188) hC dX2_turn_181 (by decide) (fun hc => ?_) (fun hc => ?_)
        · replace hV := hV.2 hc
          refine z_iload hC dX2_turn_188 rfl ?_
          refine z_if_le (tgt := 197) hC dX2_turn_190 (by decide) (fun hc => ?_) (fun hc => ?_)
          · replace hV := hV.2 hc
            refine z_iconst (v := 0) hC dX2_turn_197 rfl ?_
            exact z_iret hC dX2_turn_198 rfl (by rw [hQo]; exact ⟨_, rfl, hV⟩)
          · replace hV := hV.1 hc
            refine z_iconst (v := 2) hC dX2_turn_193 rfl ?_
            refine z_goto (tgt := 198) hC dX2_turn_194 (by decide) ?_
            exact z_iret hC dX2_turn_198 rfl (by rw [hQo]; exact ⟨_, rfl, hV⟩)
        · replace hV := hV.1 hc
          refine z_iconst (v := 1) hC dX2_turn_184 rfl ?_
          refine z_goto (tgt := 198) hC dX2_turn_185 (by decide) ?_
          exact z_iret hC dX2_turn_198 rfl (by rw [hQo]; exact ⟨_, rfl, hV⟩)
      · replace hV := hV.1 hc
        refine z_iconst (v := 3) hC dX2_turn_175 rfl ?_
        refine z_goto (tgt := 198) hC dX2_turn_176 (by decide) ?_
        exact z_iret hC dX2_turn_198 rfl (by rw [hQo]; exact ⟨_, rfl, hV⟩)
    · replace hV := hV.1 hc
      refine z_iconst (v := 0) hC dX2_turn_24 rfl ?_
      exact z_iret hC dX2_turn_25 rfl (by rw [hQo]; exact ⟨_, rfl, hV⟩)
  · replace hV := hV.2 hc
    refine z_iconst (v := (-1)) hC dX2_turn_13 rfl ?_
    exact z_iret hC dX2_turn_14 rfl (by rw [hQo]; exact ⟨_, rfl, hV⟩)
theorem g_X2_33_c1 {a x : Nat} {C : ZC} {E : ZE} {cc : ByteArray} {n nL pc d : Nat} {nm : String} {ret : Option FieldType} {hh : List (Nat × Nat × Nat × Nat)} {σ : ZS} {L : List (Option Value)} {st : List Value} (hC : Cx C E cc nL "RightTurns$Town" nm ret hh d) (hd : decode cc pc = .ok (.getfield 33, 3)) (hk : kK n σ a = (1 + 7, x)) (k : zz C E n nL σ (pc + 3) L (pv E.1.heap.size (kP n σ a 5) :: st)) : zz C E n nL σ pc L (.ref (E.1.heap.size + a) :: st) :=
  z_get hC cf1 hd hk (k := 5) (by decide) (Or.inl q521) (Or.inl rfl) rfl k
theorem g_X2_36_c1 {a x : Nat} {C : ZC} {E : ZE} {cc : ByteArray} {n nL pc d : Nat} {nm : String} {ret : Option FieldType} {hh : List (Nat × Nat × Nat × Nat)} {σ : ZS} {L : List (Option Value)} {st : List Value} (hC : Cx C E cc nL "RightTurns$Town" nm ret hh d) (hd : decode cc pc = .ok (.getfield 36, 3)) (hk : kK n σ a = (1 + 7, x)) (k : zz C E n nL σ (pc + 3) L (pv E.1.heap.size (kP n σ a 6) :: st)) : zz C E n nL σ pc L (.ref (E.1.heap.size + a) :: st) :=
  z_get hC cf1 hd hk (k := 6) (by decide) (Or.inl q523) (Or.inl rfl) rfl k
theorem g_X2_93_c1 {a x : Nat} {C : ZC} {E : ZE} {cc : ByteArray} {n nL pc d : Nat} {nm : String} {ret : Option FieldType} {hh : List (Nat × Nat × Nat × Nat)} {σ : ZS} {L : List (Option Value)} {st : List Value} (hC : Cx C E cc nL "RightTurns$Town" nm ret hh d) (hd : decode cc pc = .ok (.getfield 93, 3)) (hk : kK n σ a = (1 + 7, x)) (k : zz C E n nL σ (pc + 3) L (.int (zI σ a 8) :: st)) : zz C E n nL σ pc L (.ref (E.1.heap.size + a) :: st) :=
  z_get hC cf1 hd hk (k := 8) (by decide) (Or.inl q527) (Or.inl rfl) rfl k
theorem p_X2_93_c1 {C : ZC} {E : ZE} {cc : ByteArray} {n nL pc d a x : Nat} {nm : String} {ret : Option FieldType} {hh : List (Nat × Nat × Nat × Nat)} {σ : ZS} {L : List (Option Value)} {st : List Value} {v : Int32} (hC : Cx C E cc nL "RightTurns$Town" nm ret hh d) (hd : decode cc pc = .ok (.putfield 93, 3)) (hk : kK n σ a = (1 + 7, x)) (k : zz C E n nL (sI σ a 8 v) (pc + 3) L st) : zz C E n nL σ pc L (.int v :: .ref (E.1.heap.size + a) :: st) :=
  z_putI hC cf1 hd hk (k := 8) (by decide) (Or.inl q527) (Or.inl rfl) (Or.inl rfl) rfl rfl rfl k
theorem cw_X2_isArc : CodeW yX2_isArc (ws_ yX2_isArc cX2_isArc 2 (some .boolean)) 2 := ⟨fun w h => (List.mem_cons.mp h).elim (fun e => e ▸ q1106) id, Or.inl ⟨_, _, q1106⟩, q117, by decide, by decide⟩
theorem c_X2_85 {C : ZC} {E : ZE} {cc : ByteArray} {nL pc d : Nat} {nm : String} {ret : Option FieldType} {hh : List (Nat × Nat × Nat × Nat)} {σ : ZS} {L : List (Option Value)} {st : List Value} {a0 : Nat} {a1 : Int32} {Ret : Int32 → ZS → Prop} (hC : Cx C E cc nL "RightTurns$Town" nm ret hh d) (hdd : 5 + 1 ≤ d) (hd : decode cc pc = .ok (.invokevirtual 85, 3)) (hW : (st.map fun v => v.category).sum ≤ 8) {x : Nat} (hk : kK NS σ a0 = (1 + 7, x)) (hV : wp_X2_isArc σ a0 a1 Ret) (k : ∀ r σ', Ret r σ' → zz C E NS nL σ' (pc + 3) L (.int r :: st)) : zz C E NS nL σ pc L (.int a1 :: .ref (E.1.heap.size + a0) :: st) :=
  z_callVG hC cf1 cw_X2_isArc hdd (by decide) (mz_X2_isArc (cxE hC) hV) hd hk q1103 q1104 q1105 (np := 1) rfl rfl hW rfl (kI k)
theorem cw_X2_turn : CodeW yX2_turn (ws_ yX2_turn cX2_turn 8 (some .int)) 8 := ⟨fun w h => (List.mem_cons.mp h).elim (fun e => e ▸ q1120) id, Or.inl ⟨_, _, q1120⟩, q117, by decide, by decide⟩
theorem c_X2_89 {C : ZC} {E : ZE} {cc : ByteArray} {nL pc d : Nat} {nm : String} {ret : Option FieldType} {hh : List (Nat × Nat × Nat × Nat)} {σ : ZS} {L : List (Option Value)} {st : List Value} {a0 : Nat} {a1 : Int32} {a2 : Int32} {Ret : Int32 → ZS → Prop} (hC : Cx C E cc nL "RightTurns$Town" nm ret hh d) (hdd : 6 + 1 ≤ d) (hd : decode cc pc = .ok (.invokevirtual 89, 3)) (hW : (st.map fun v => v.category).sum ≤ 8) {x : Nat} (hk : kK NS σ a0 = (1 + 7, x)) (hV : wp_X2_turn σ a0 a1 a2 Ret) (k : ∀ r σ', Ret r σ' → zz C E NS nL σ' (pc + 3) L (.int r :: st)) : zz C E NS nL σ pc L (.int a2 :: .int a1 :: .ref (E.1.heap.size + a0) :: st) :=
  z_callVG hC cf1 cw_X2_turn hdd (by decide) (mz_X2_turn (cxE hC) hV) hd hk q1117 q1118 q1119 (np := 2) rfl rfl hW rfl (kI k)
def VL_X2_looks_31 (K2 : ZS → Nat → Int32 → Prop) (K15 : ZS → Nat → Int32 → Int32 → Prop) (Ret : ZS → Prop) : Nat → ZS → Nat → Int32 → Int32 → Int32 → Int32 → Prop
  | 0 => fun _ _ _ _ _ _ => False
  | k + 1 => fun σ x0 x1 x2 x3 x4 =>
    let K31 := VL_X2_looks_31 K2 K15 Ret k
    ((x4 < 4 → (((x3 = 0 → ((∃ n45, kK NS σ x0 = (8, n45)) ∧ (wp_X2_isArc σ x0 ((2 * x1) + (x4 / 2)) (fun r42 σ43 => ((r42 = 0 → (∀ y46 : Int32, y46 = x4 + 1 → (K31 σ43 x0 x1 x2 0 y46))) ∧ (¬ r42 = 0 → ((∃ n50, kK NS σ43 x0 = (8, n50)) ∧ (wp_X2_isArc σ43 x0 ((2 * x2) + (x4 - x4 / 2 * 2)) (fun r47 σ48 => ((r47 = 0 → (∀ y51 : Int32, y51 = x4 + 1 → (K31 σ48 x0 x1 x2 0 y51))) ∧ (¬ r47 = 0 → ((∃ n55, kK NS σ48 x0 = (8, n55)) ∧ (wp_X2_turn σ48 x0 ((2 * x1) + (x4 / 2)) ((2 * x2) + (x4 - x4 / 2 * 2)) (fun r52 σ53 => ((r52 = 3 → (∀ y57 : Int32, y57 = x4 + 1 → (K31 σ53 x0 x1 x2 1 y57))) ∧ (¬ r52 = 3 → (∀ y56 : Int32, y56 = x4 + 1 → (K31 σ53 x0 x1 x2 0 y56)))))))))))))))))) ∧ (¬ x3 = 0 → (∀ y41 : Int32, y41 = x4 + 1 → (K31 σ x0 x1 x2 1 y41)))))) ∧ (¬ x4 < 4 → (((x3 = 0 → (∀ y40 : Int32, y40 = x2 + 1 → (K15 σ x0 x1 y40))) ∧ (¬ x3 = 0 → ((∃ n17, kK NS σ x0 = (8, n17)) ∧ ((kP NS σ x0 5) = some (.inl (zo (kP NS σ x0 5))) ∧ ((∃ n20, kK NS σ x0 = (8, n20)) ∧ (∃ n22, kK NS σ (zo (kP NS σ x0 5)) = (0, n22) ∧ (vp_in (zI σ x0 8) n22 ∧ (∀ σ24 : ZS, σ24 = sI σ (zo (kP NS σ x0 5)) (ix (zI σ x0 8)) x1 → ((∃ n26, kK NS σ24 x0 = (8, n26)) ∧ ((kP NS σ24 x0 6) = some (.inl (zo (kP NS σ24 x0 6))) ∧ ((∃ n29, kK NS σ24 x0 = (8, n29)) ∧ (∃ n31, kK NS σ24 (zo (kP NS σ24 x0 6)) = (0, n31) ∧ (vp_in (zI σ24 x0 8) n31 ∧ (∀ σ33 : ZS, σ33 = sI σ24 (zo (kP NS σ24 x0 6)) (ix (zI σ24 x0 8)) x2 → ((∃ n35, kK NS σ33 x0 = (8, n35)) ∧ ((∃ n37, kK NS σ33 x0 = (8, n37)) ∧ (∀ σ38 : ZS, σ38 = sI σ33 x0 8 ((zI σ33 x0 8) + 1) → (∀ y39 : Int32, y39 = x2 + 1 → (K15 σ38 x0 x1 y39))))))))))))))))))))))
def V_X2_looks_31 (K2 : ZS → Nat → Int32 → Prop) (K15 : ZS → Nat → Int32 → Int32 → Prop) (Ret : ZS → Prop) (σ : ZS) (x0 : Nat) (x1 : Int32) (x2 : Int32) (x3 : Int32) (x4 : Int32) : Prop := ∃ k, VL_X2_looks_31 K2 K15 Ret k σ x0 x1 x2 x3 x4
def VL_X2_looks_15 (K2 : ZS → Nat → Int32 → Prop) (Ret : ZS → Prop) : Nat → ZS → Nat → Int32 → Int32 → Prop
  | 0 => fun _ _ _ _ => False
  | k + 1 => fun σ x0 x1 x2 =>
    let K15 := VL_X2_looks_15 K2 Ret k
    (∃ n9, kK NS σ x0 = (8, n9)) ∧ ((kP NS σ x0 1) = some (.inl (zo (kP NS σ x0 1))) ∧ ((∃ n14, kK NS σ (zo (kP NS σ x0 1)) = (16, n14)) ∧ (wp_J2_size σ (zo (kP NS σ x0 1)) (fun r11 σ12 => ((x2 < r11 → (V_X2_looks_31 K2 K15 Ret σ12 x0 x1 x2 0 0)) ∧ (¬ x2 < r11 → (∀ y15 : Int32, y15 = x1 + 1 → (K2 σ12 x0 y15))))))))
def V_X2_looks_15 (K2 : ZS → Nat → Int32 → Prop) (Ret : ZS → Prop) (σ : ZS) (x0 : Nat) (x1 : Int32) (x2 : Int32) : Prop := ∃ k, VL_X2_looks_15 K2 Ret k σ x0 x1 x2
def VL_X2_looks_2 (Ret : ZS → Prop) : Nat → ZS → Nat → Int32 → Prop
  | 0 => fun _ _ _ => False
  | k + 1 => fun σ x0 x1 =>
    let K2 := VL_X2_looks_2 Ret k
    (∃ n2, kK NS σ x0 = (8, n2)) ∧ ((kP NS σ x0 1) = some (.inl (zo (kP NS σ x0 1))) ∧ ((∃ n7, kK NS σ (zo (kP NS σ x0 1)) = (16, n7)) ∧ (wp_J2_size σ (zo (kP NS σ x0 1)) (fun r4 σ5 => ((x1 < r4 → (V_X2_looks_15 K2 Ret σ5 x0 x1 0)) ∧ (¬ x1 < r4 → (Ret σ5)))))))
def V_X2_looks_2 (Ret : ZS → Prop) (σ : ZS) (x0 : Nat) (x1 : Int32) : Prop := ∃ k, VL_X2_looks_2 Ret k σ x0 x1
def wp_X2_looks (σ : ZS) (a0 : Nat) (Ret : ZS → Prop) : Prop :=
    V_X2_looks_2 Ret σ a0 0
set_option maxHeartbeats 4000000 in
theorem mz_X2_looks {l : Launch} {E : ZE} (hE : EOK E) {σ : ZS} {a0 : Nat} {Ret : ZS → Prop} (hV : wp_X2_looks σ a0 Ret) : MZ l E NS yX2_looks (ws_ yX2_looks cX2_looks 5 none) 7 σ [.ref (E.1.heap.size + a0)] (rV Ret) := by
  refine MZ.start (L := [some (.ref (E.1.heap.size + a0)), none, none, none, none]) hE (by decide) (Nat.le_of_ble_eq_true rfl) rfl fun C hCl hQo hC => ?_
  replace hC : Cx C E cX2_looks 5 "RightTurns$Town" "looks" none [] 7 := hC
  unfold wp_X2_looks at hV
  have j_2 : ∀ (σ : ZS) (x0 : Nat) (x1 : Int32), V_X2_looks_2 Ret σ x0 x1 → zz C E NS 5 σ 2 [some (.ref (E.1.heap.size + x0)), some (.int x1), none, none, none] [] := by
    intro σ x0 x1 ⟨k, hV⟩
    revert σ x0 x1
    induction k with
    | zero => exact fun _ _ _ hV => hV.elim
    | succ k j_2 =>
      intro σ x0 x1 hV
      simp only [VL_X2_looks_2] at hV
      generalize hKe2 : VL_X2_looks_2 Ret k = K2 at hV j_2
      clear hKe2
      have j_15 : ∀ (σ : ZS) (x0 : Nat) (x1 : Int32) (x2 : Int32), V_X2_looks_15 K2 Ret σ x0 x1 x2 → zz C E NS 5 σ 15 [some (.ref (E.1.heap.size + x0)), some (.int x1), some (.int x2), none, none] [] := by
        intro σ x0 x1 x2 ⟨k, hV⟩
        revert σ x0 x1 x2
        induction k with
        | zero => exact fun _ _ _ _ hV => hV.elim
        | succ k j_15 =>
          intro σ x0 x1 x2 hV
          simp only [VL_X2_looks_15] at hV
          generalize hKe15 : VL_X2_looks_15 K2 Ret k = K15 at hV j_15
          clear hKe15
          have j_31 : ∀ (σ : ZS) (x0 : Nat) (x1 : Int32) (x2 : Int32) (x3 : Int32) (x4 : Int32), V_X2_looks_31 K2 K15 Ret σ x0 x1 x2 x3 x4 → zz C E NS 5 σ 31 [some (.ref (E.1.heap.size + x0)), some (.int x1), some (.int x2), some (.int x3), some (.int x4)] [] := by
            intro σ x0 x1 x2 x3 x4 ⟨k, hV⟩
            revert σ x0 x1 x2 x3 x4
            induction k with
            | zero => exact fun _ _ _ _ _ _ hV => hV.elim
            | succ k j_31 =>
              intro σ x0 x1 x2 x3 x4 hV
              simp only [VL_X2_looks_31] at hV
              generalize hKe31 : VL_X2_looks_31 K2 K15 Ret k = K31 at hV j_31
              clear hKe31
              refine z_iload hC dX2_looks_31 rfl ?_
              refine z_iconst (v := 4) hC dX2_looks_33 rfl ?_
              refine z_icmp_ge (tgt := 107) hC dX2_looks_34 (by decide) (fun hc => ?_) (fun hc => ?_)
              · replace hV := hV.2 hc
                refine z_iload_n hC dX2_looks_107 rfl rfl ?_
                refine z_if_ne (tgt := 114) hC dX2_looks_108 (by decide) (fun hc => ?_) (fun hc => ?_)
                · replace hV := hV.2 hc
                  refine z_aload_n hC dX2_looks_114 rfl rfl ?_
                  obtain ⟨⟨n17, h16⟩, hV⟩ := hV
                  refine g_X2_33_c1 hC dX2_looks_115 h16 ?_
                  obtain ⟨h18, hV⟩ := hV
                  refine zz_at rfl (by rw [pvo h18]) ?_
                  refine z_aload_n hC dX2_looks_118 rfl rfl ?_
                  obtain ⟨⟨n20, h19⟩, hV⟩ := hV
                  refine g_X2_93_c1 hC dX2_looks_119 h19 ?_
                  refine z_iload_n hC dX2_looks_122 rfl rfl ?_
                  obtain ⟨n22, h21, hV⟩ := hV
                  obtain ⟨h23, hV⟩ := hV
                  refine z_iast hC dX2_looks_123 h21 (h23) ?_
                  obtain ⟨σ24, e_σ24⟩ : ∃ z : ZS, z = sI σ (zo (kP NS σ x0 5)) (ix (zI σ x0 8)) x1 := ⟨_, rfl⟩
                  replace hV := hV _ e_σ24
                  rw [← e_σ24]
                  refine z_aload_n hC dX2_looks_124 rfl rfl ?_
                  obtain ⟨⟨n26, h25⟩, hV⟩ := hV
                  refine g_X2_36_c1 hC dX2_looks_125 h25 ?_
                  obtain ⟨h27, hV⟩ := hV
                  refine zz_at rfl (by rw [pvo h27]) ?_
                  refine z_aload_n hC dX2_looks_128 rfl rfl ?_
                  obtain ⟨⟨n29, h28⟩, hV⟩ := hV
                  refine g_X2_93_c1 hC dX2_looks_129 h28 ?_
                  refine z_iload_n hC dX2_looks_132 rfl rfl ?_
                  obtain ⟨n31, h30, hV⟩ := hV
                  obtain ⟨h32, hV⟩ := hV
                  refine z_iast hC dX2_looks_133 h30 (h32) ?_
                  obtain ⟨σ33, e_σ33⟩ : ∃ z : ZS, z = sI σ24 (zo (kP NS σ24 x0 6)) (ix (zI σ24 x0 8)) x2 := ⟨_, rfl⟩
                  replace hV := hV _ e_σ33
                  rw [← e_σ33]
                  refine z_aload_n hC dX2_looks_134 rfl rfl ?_
                  refine z_dup hC dX2_looks_135 rfl ?_
                  obtain ⟨⟨n35, h34⟩, hV⟩ := hV
                  refine g_X2_93_c1 hC dX2_looks_136 h34 ?_
                  refine z_iconst (v := 1) hC dX2_looks_139 rfl ?_
                  refine z_iadd hC dX2_looks_140 ?_
                  obtain ⟨⟨n37, h36⟩, hV⟩ := hV
                  refine p_X2_93_c1 hC dX2_looks_141 h36 ?_
                  obtain ⟨σ38, e_σ38⟩ : ∃ z : ZS, z = sI σ33 x0 8 ((zI σ33 x0 8) + 1) := ⟨_, rfl⟩
                  replace hV := hV _ e_σ38
                  rw [← e_σ38]
                  obtain ⟨y39, e_y39⟩ : ∃ z : Int32, z = x2 + 1 := ⟨_, rfl⟩
                  replace hV := hV _ e_y39
                  refine z_iinc (v := y39) hC dX2_looks_144 rfl (by rw [e_y39]; rfl) (Nat.le_of_ble_eq_true rfl) rfl rfl ?_
                  refine z_goto (tgt := 15) hC dX2_looks_147 (by decide) ?_
                  refine zz_sub (L' := [some (.ref (E.1.heap.size + x0)), some (.int x1), some (.int y39), none, none]) ⟨rfl, rfl, rfl, trivial⟩ ?_
                  exact j_15 σ38 x0 x1 y39 hV
                · replace hV := hV.1 hc
                  refine z_goto (tgt := 144) hC dX2_looks_111 (by decide) ?_
                  obtain ⟨y40, e_y40⟩ : ∃ z : Int32, z = x2 + 1 := ⟨_, rfl⟩
                  replace hV := hV _ e_y40
                  refine z_iinc (v := y40) hC dX2_looks_144 rfl (by rw [e_y40]; rfl) (Nat.le_of_ble_eq_true rfl) rfl rfl ?_
                  refine z_goto (tgt := 15) hC dX2_looks_147 (by decide) ?_
                  refine zz_sub (L' := [some (.ref (E.1.heap.size + x0)), some (.int x1), some (.int y40), none, none]) ⟨rfl, rfl, rfl, trivial⟩ ?_
                  exact j_15 σ x0 x1 y40 hV
              · replace hV := hV.1 hc
                refine z_iload_n hC dX2_looks_37 rfl rfl ?_
                refine z_if_ne (tgt := 95) hC dX2_looks_38 (by decide) (fun hc => ?_) (fun hc => ?_)
                · replace hV := hV.2 hc
                  refine z_iconst (v := 1) hC dX2_looks_95 rfl ?_
                  refine z_goto (tgt := 100) hC dX2_looks_96 (by decide) ?_
                  refine z_istore_n hC dX2_looks_100 rfl (Nat.le_of_ble_eq_true rfl) rfl rfl ?_
                  obtain ⟨y41, e_y41⟩ : ∃ z : Int32, z = x4 + 1 := ⟨_, rfl⟩
                  replace hV := hV _ e_y41
                  refine z_iinc (v := y41) hC dX2_looks_101 rfl (by rw [e_y41]; rfl) (Nat.le_of_ble_eq_true rfl) rfl rfl ?_
                  refine z_goto (tgt := 31) hC dX2_looks_104 (by decide) ?_
                  refine zz_sub (L' := [some (.ref (E.1.heap.size + x0)), some (.int x1), some (.int x2), some (.int 1), some (.int y41)]) ⟨rfl, rfl, rfl, rfl, rfl, trivial⟩ ?_
                  exact j_31 σ x0 x1 x2 1 y41 hV
                · replace hV := hV.1 hc
                  refine z_aload_n hC dX2_looks_41 rfl rfl ?_
                  refine z_iconst (v := 2) hC dX2_looks_42 rfl ?_
                  refine z_iload_n hC dX2_looks_43 rfl rfl ?_
                  refine z_imul hC dX2_looks_44 ?_
                  refine z_iload hC dX2_looks_45 rfl ?_
                  refine z_iconst (v := 2) hC dX2_looks_47 rfl ?_
                  refine z_idiv hC dX2_looks_48 (by decide) ?_
                  refine z_iadd hC dX2_looks_49 ?_
                  obtain ⟨⟨n45, h44⟩, hV⟩ := hV
                  refine c_X2_85 hC (by decide) dX2_looks_50 (Nat.le_of_ble_eq_true rfl) h44 hV (fun r42 σ43 hV => ?_)
                  refine z_if_eq (tgt := 99) hC dX2_looks_53 (by decide) (fun hc => ?_) (fun hc => ?_)
                  · replace hV := hV.1 hc
                    refine z_iconst (v := 0) hC dX2_looks_99 rfl ?_
                    refine z_istore_n hC dX2_looks_100 rfl (Nat.le_of_ble_eq_true rfl) rfl rfl ?_
                    obtain ⟨y46, e_y46⟩ : ∃ z : Int32, z = x4 + 1 := ⟨_, rfl⟩
                    replace hV := hV _ e_y46
                    refine z_iinc (v := y46) hC dX2_looks_101 rfl (by rw [e_y46]; rfl) (Nat.le_of_ble_eq_true rfl) rfl rfl ?_
                    refine z_goto (tgt := 31) hC dX2_looks_104 (by decide) ?_
                    refine zz_sub (L' := [some (.ref (E.1.heap.size + x0)), some (.int x1), some (.int x2), some (.int 0), some (.int y46)]) ⟨rfl, rfl, rfl, rfl, rfl, trivial⟩ ?_
                    exact j_31 σ43 x0 x1 x2 0 y46 hV
                  · replace hV := hV.2 hc
                    refine z_aload_n hC dX2_looks_56 rfl rfl ?_
                    refine z_iconst (v := 2) hC dX2_looks_57 rfl ?_
                    refine z_iload_n hC dX2_looks_58 rfl rfl ?_
                    refine z_imul hC dX2_looks_59 ?_
                    refine z_iload hC dX2_looks_60 rfl ?_
                    refine z_iconst (v := 2) hC dX2_looks_62 rfl ?_
                    refine z_irem hC dX2_looks_63 (by decide) ?_
                    refine z_iadd hC dX2_looks_64 ?_
                    obtain ⟨⟨n50, h49⟩, hV⟩ := hV
                    refine c_X2_85 hC (by decide) dX2_looks_65 (Nat.le_of_ble_eq_true rfl) h49 hV (fun r47 σ48 hV => ?_)
                    refine z_if_eq (tgt := 99) hC dX2_looks_68 (by decide) (fun hc => ?_) (fun hc => ?_)
                    · replace hV := hV.1 hc
                      refine z_iconst (v := 0) hC dX2_looks_99 rfl ?_
                      refine z_istore_n hC dX2_looks_100 rfl (Nat.le_of_ble_eq_true rfl) rfl rfl ?_
                      obtain ⟨y51, e_y51⟩ : ∃ z : Int32, z = x4 + 1 := ⟨_, rfl⟩
                      replace hV := hV _ e_y51
                      refine z_iinc (v := y51) hC dX2_looks_101 rfl (by rw [e_y51]; rfl) (Nat.le_of_ble_eq_true rfl) rfl rfl ?_
                      refine z_goto (tgt := 31) hC dX2_looks_104 (by decide) ?_
                      refine zz_sub (L' := [some (.ref (E.1.heap.size + x0)), some (.int x1), some (.int x2), some (.int 0), some (.int y51)]) ⟨rfl, rfl, rfl, rfl, rfl, trivial⟩ ?_
                      exact j_31 σ48 x0 x1 x2 0 y51 hV
                    · replace hV := hV.2 hc
                      refine z_aload_n hC dX2_looks_71 rfl rfl ?_
                      refine z_iconst (v := 2) hC dX2_looks_72 rfl ?_
                      refine z_iload_n hC dX2_looks_73 rfl rfl ?_
                      refine z_imul hC dX2_looks_74 ?_
                      refine z_iload hC dX2_looks_75 rfl ?_
                      refine z_iconst (v := 2) hC dX2_looks_77 rfl ?_
                      refine z_idiv hC dX2_looks_78 (by decide) ?_
                      refine z_iadd hC dX2_looks_79 ?_
                      refine z_iconst (v := 2) hC dX2_looks_80 rfl ?_
                      refine z_iload_n hC dX2_looks_81 rfl rfl ?_
                      refine z_imul hC dX2_looks_82 ?_
                      refine z_iload hC dX2_looks_83 rfl ?_
                      refine z_iconst (v := 2) hC dX2_looks_85 rfl ?_
                      refine z_irem hC dX2_looks_86 (by decide) ?_
                      refine z_iadd hC dX2_looks_87 ?_
                      obtain ⟨⟨n55, h54⟩, hV⟩ := hV
                      refine c_X2_89 hC (by decide) dX2_looks_88 (Nat.le_of_ble_eq_true rfl) h54 hV (fun r52 σ53 hV => ?_)
                      refine z_iconst (v := 3) hC dX2_looks_91 rfl ?_
                      refine z_icmp_ne (tgt := 99) hC dX2_looks_92 (by decide) (fun hc => ?_) (fun hc => ?_)
                      · replace hV := hV.2 hc
                        refine z_iconst (v := 0) hC dX2_looks_99 rfl ?_
                        refine z_istore_n hC dX2_looks_100 rfl (Nat.le_of_ble_eq_true rfl) rfl rfl ?_
                        obtain ⟨y56, e_y56⟩ : ∃ z : Int32, z = x4 + 1 := ⟨_, rfl⟩
                        replace hV := hV _ e_y56
                        refine z_iinc (v := y56) hC dX2_looks_101 rfl (by rw [e_y56]; rfl) (Nat.le_of_ble_eq_true rfl) rfl rfl ?_
                        refine z_goto (tgt := 31) hC dX2_looks_104 (by decide) ?_
                        refine zz_sub (L' := [some (.ref (E.1.heap.size + x0)), some (.int x1), some (.int x2), some (.int 0), some (.int y56)]) ⟨rfl, rfl, rfl, rfl, rfl, trivial⟩ ?_
                        exact j_31 σ53 x0 x1 x2 0 y56 hV
                      · replace hV := hV.1 hc
                        refine z_iconst (v := 1) hC dX2_looks_95 rfl ?_
                        refine z_goto (tgt := 100) hC dX2_looks_96 (by decide) ?_
                        refine z_istore_n hC dX2_looks_100 rfl (Nat.le_of_ble_eq_true rfl) rfl rfl ?_
                        obtain ⟨y57, e_y57⟩ : ∃ z : Int32, z = x4 + 1 := ⟨_, rfl⟩
                        replace hV := hV _ e_y57
                        refine z_iinc (v := y57) hC dX2_looks_101 rfl (by rw [e_y57]; rfl) (Nat.le_of_ble_eq_true rfl) rfl rfl ?_
                        refine z_goto (tgt := 31) hC dX2_looks_104 (by decide) ?_
                        refine zz_sub (L' := [some (.ref (E.1.heap.size + x0)), some (.int x1), some (.int x2), some (.int 1), some (.int y57)]) ⟨rfl, rfl, rfl, rfl, rfl, trivial⟩ ?_
                        exact j_31 σ53 x0 x1 x2 1 y57 hV
          refine z_iload_n hC dX2_looks_15 rfl rfl ?_
          refine z_aload_n hC dX2_looks_16 rfl rfl ?_
          obtain ⟨⟨n9, h8⟩, hV⟩ := hV
          refine g_X2_20_c1 hC dX2_looks_17 h8 ?_
          obtain ⟨h10, hV⟩ := hV
          refine zz_at rfl (by rw [pvo h10]) ?_
          obtain ⟨⟨n14, h13⟩, hV⟩ := hV
          refine c_X2_39 hC (by decide) dX2_looks_20 (Nat.le_of_ble_eq_true rfl) h13 hV (fun r11 σ12 hV => ?_)
          refine z_icmp_ge (tgt := 150) hC dX2_looks_23 (by decide) (fun hc => ?_) (fun hc => ?_)
          · replace hV := hV.2 hc
            obtain ⟨y15, e_y15⟩ : ∃ z : Int32, z = x1 + 1 := ⟨_, rfl⟩
            replace hV := hV _ e_y15
            refine z_iinc (v := y15) hC dX2_looks_150 rfl (by rw [e_y15]; rfl) (Nat.le_of_ble_eq_true rfl) rfl rfl ?_
            refine z_goto (tgt := 2) hC dX2_looks_153 (by decide) ?_
            refine zz_sub (L' := [some (.ref (E.1.heap.size + x0)), some (.int y15), none, none, none]) ⟨rfl, rfl, trivial⟩ ?_
            exact j_2 σ12 x0 y15 hV
          · replace hV := hV.1 hc
            refine z_iconst (v := 0) hC dX2_looks_26 rfl ?_
            refine z_istore_n hC dX2_looks_27 rfl (Nat.le_of_ble_eq_true rfl) rfl rfl ?_
            refine z_iconst (v := 0) hC dX2_looks_28 rfl ?_
            refine z_istore hC dX2_looks_29 (Nat.le_of_ble_eq_true rfl) rfl rfl ?_
            refine zz_sub (L' := [some (.ref (E.1.heap.size + x0)), some (.int x1), some (.int x2), some (.int 0), some (.int 0)]) ⟨rfl, rfl, rfl, rfl, rfl, trivial⟩ ?_
            exact j_31 σ12 x0 x1 x2 0 0 hV
      refine z_iload_n hC dX2_looks_2 rfl rfl ?_
      refine z_aload_n hC dX2_looks_3 rfl rfl ?_
      obtain ⟨⟨n2, h1⟩, hV⟩ := hV
      refine g_X2_20_c1 hC dX2_looks_4 h1 ?_
      obtain ⟨h3, hV⟩ := hV
      refine zz_at rfl (by rw [pvo h3]) ?_
      obtain ⟨⟨n7, h6⟩, hV⟩ := hV
      refine c_X2_39 hC (by decide) dX2_looks_7 (Nat.le_of_ble_eq_true rfl) h6 hV (fun r4 σ5 hV => ?_)
      refine z_icmp_ge (tgt := 156) hC dX2_looks_10 (by decide) (fun hc => ?_) (fun hc => ?_)
      · replace hV := hV.2 hc
        exact z_vret hC dX2_looks_156 (by rw [hQo]; exact ⟨rfl, hV⟩)
      · replace hV := hV.1 hc
        refine z_iconst (v := 0) hC dX2_looks_13 rfl ?_
        refine z_istore_n hC dX2_looks_14 rfl (Nat.le_of_ble_eq_true rfl) rfl rfl ?_
        refine zz_sub (L' := [some (.ref (E.1.heap.size + x0)), some (.int x1), some (.int 0), none, none]) ⟨rfl, rfl, rfl, trivial⟩ ?_
        exact j_15 σ5 x0 x1 0 hV
  refine z_iconst (v := 0) hC dX2_looks_0 rfl ?_
  refine z_istore_n hC dX2_looks_1 rfl (Nat.le_of_ble_eq_true rfl) rfl rfl ?_
  refine zz_sub (L' := [some (.ref (E.1.heap.size + a0)), some (.int 0), none, none, none]) ⟨rfl, rfl, trivial⟩ ?_
  exact j_2 σ a0 0 hV
theorem dv_1 : ∀ k, k < 10 → defaultValue (tyX2 k) = (match fty 1 k with | 0 => Value.int 0 | 1 => .long 0 | _ => .null) := by decide +kernel
theorem p_X5_12i_c4 {C : ZC} {E : ZE} {cc : ByteArray} {n nL pc d a x : Nat} {ret : Option FieldType} {hh : List (Nat × Nat × Nat × Nat)} {σ : ZS} {L : List (Option Value)} {st : List Value} {r : ZR} (hC : Cx C E cc nL "RightTurns$Reader" "<init>" ret hh d) (hd : decode cc pc = .ok (.putfield 12, 3)) (hk : kK n σ a = (4 + 7, x)) (hf : pfree n a 4) (k : zz C E n nL (sP σ a 4 r) (pc + 3) L st) : zz C E n nL σ pc L (pv E.1.heap.size r :: .ref (E.1.heap.size + a) :: st) :=
  z_putP hC cf4 hd hk (k := 4) (by decide) (Or.inl q776) (Or.inl rfl) (Or.inr ⟨rfl, rfl, rfl, q776⟩) (Or.inl ⟨_, rfl⟩) rfl hf k
theorem p_X5_18i_c4 {C : ZC} {E : ZE} {cc : ByteArray} {n nL pc d a x : Nat} {ret : Option FieldType} {hh : List (Nat × Nat × Nat × Nat)} {σ : ZS} {L : List (Option Value)} {st : List Value} {r : ZR} (hC : Cx C E cc nL "RightTurns$Reader" "<init>" ret hh d) (hd : decode cc pc = .ok (.putfield 18, 3)) (hk : kK n σ a = (4 + 7, x)) (hf : pfree n a 0) (k : zz C E n nL (sP σ a 0 r) (pc + 3) L st) : zz C E n nL σ pc L (pv E.1.heap.size r :: .ref (E.1.heap.size + a) :: st) :=
  z_putP hC cf4 hd hk (k := 0) (by decide) (Or.inl q772) (Or.inl rfl) (Or.inr ⟨rfl, rfl, rfl, q772⟩) (Or.inr ⟨_, rfl⟩) rfl hf k
theorem p_X5_22i_c4 {C : ZC} {E : ZE} {cc : ByteArray} {n nL pc d a x : Nat} {ret : Option FieldType} {hh : List (Nat × Nat × Nat × Nat)} {σ : ZS} {L : List (Option Value)} {st : List Value} {v : Int32} (hC : Cx C E cc nL "RightTurns$Reader" "<init>" ret hh d) (hd : decode cc pc = .ok (.putfield 22, 3)) (hk : kK n σ a = (4 + 7, x)) (k : zz C E n nL (sI σ a 1 v) (pc + 3) L st) : zz C E n nL σ pc L (.int v :: .ref (E.1.heap.size + a) :: st) :=
  z_putI hC cf4 hd hk (k := 1) (by decide) (Or.inl q773) (Or.inl rfl) (Or.inr ⟨rfl, rfl, rfl, q773⟩) rfl rfl rfl k
theorem cw_X2_init : CodeW yX2_init (ws_ yX2_init cX2_init 1 none) 1 := ⟨fun w h => (List.mem_cons.mp h).elim (fun e => e ▸ q160) id, Or.inl ⟨_, _, q160⟩, q117, by decide, by decide⟩
theorem c_X5_11 {C : ZC} {E : ZE} {cc : ByteArray} {n nL pc d : Nat} {nm : String} {ret : Option FieldType} {hh : List (Nat × Nat × Nat × Nat)} {σ : ZS} {L : List (Option Value)} {st : List Value} {a0 : Nat} {Ret : ZS → Prop} (hC : Cx C E cc nL "RightTurns$Reader" nm ret hh d) (hdd : 4 + 1 ≤ d) (hd : decode cc pc = .ok (.invokespecial 11, 3)) (hW : (st.map fun v => v.category).sum ≤ 8) (hV : wp_X2_init n σ a0 Ret) (k : ∀ σ', Ret σ' → zz C E n nL σ' (pc + 3) L st) : zz C E n nL σ pc L (.ref (E.1.heap.size + a0) :: st) :=
  z_callING hC cw_X2_init q160 hdd (by decide) (mz_X2_init (cxE hC) hV) hd rfl q771 q159 (np := 0) rfl rfl hW rfl (kV k)
def wp_X5_init (σ : ZS) (a0 : Nat) (a1 : Nat) (a2 : Int32) (Ret : ZS → Prop) : Prop :=
    (NS ≤ zt σ ∧ zt σ + 1 ≤ NB ∧ zn σ + 10 ≤ SB) ∧ (∀ σ2 : ZS, σ2 = sA σ (8, 0) 10 → (wp_X2_init NS σ2 (zt σ) (fun σ4 => (∃ n6, kK NS σ4 a0 = (11, n6)) ∧ (NS ≤ a0 ∧ (∀ σ8 : ZS, σ8 = sP σ4 a0 4 (some (.inl (zt σ))) → ((∃ n10, kK NS σ8 a0 = (11, n10)) ∧ (NS ≤ a0 ∧ (∀ σ12 : ZS, σ12 = sP σ8 a0 0 (some (.inl a1)) → ((∃ n14, kK NS σ12 a0 = (11, n14)) ∧ (∀ σ15 : ZS, σ15 = sI σ12 a0 1 a2 → (Ret σ15)))))))))))
set_option maxHeartbeats 4000000 in
theorem mz_X5_init {l : Launch} {E : ZE} (hE : EOK E) {σ : ZS} {a0 : Nat} {a1 : Nat} {a2 : Int32} {Ret : ZS → Prop} (hV : wp_X5_init σ a0 a1 a2 Ret) : MZ l E NS yX5_init (ws_ yX5_init cX5_init 3 none) 5 σ [.ref (E.1.heap.size + a0), .ref (E.1.heap.size + a1), .int a2] (rV Ret) := by
  refine MZ.start (L := [some (.ref (E.1.heap.size + a0)), some (.ref (E.1.heap.size + a1)), some (.int a2)]) hE (by decide) (Nat.le_of_ble_eq_true rfl) rfl fun C hCl hQo hC => ?_
  replace hC : Cx C E cX5_init 3 "RightTurns$Reader" "<init>" none [] 5 := hC
  unfold wp_X5_init at hV
  refine z_aload_n hC dX5_init_0 rfl rfl ?_
  refine z_objInit hC dX5_init_1 q769 q154 qobj (by decide) (Nat.le_of_ble_eq_true rfl) ?_
  refine z_aload_n hC dX5_init_4 rfl rfl ?_
  obtain ⟨h1, hV⟩ := hV
  refine z_new hC cf1 dX5_init_5 q770 q157 q117 dv_1 h1.1 h1.2.1 h1.2.2 ?_
  obtain ⟨σ2, e_σ2⟩ : ∃ z : ZS, z = sA σ (8, 0) 10 := ⟨_, rfl⟩
  replace hV := hV _ e_σ2
  rw [← e_σ2]
  refine z_dup hC dX5_init_8 rfl ?_
  refine c_X5_11 hC (by decide) dX5_init_9 (Nat.le_of_ble_eq_true rfl) hV (fun σ4 hV => ?_)
  obtain ⟨⟨n6, h5⟩, hV⟩ := hV
  obtain ⟨h7, hV⟩ := hV
  refine p_X5_12i_c4 (r := (some (.inl (zt σ)))) hC dX5_init_12 h5 (pf_dyn h7) ?_
  obtain ⟨σ8, e_σ8⟩ : ∃ z : ZS, z = sP σ4 a0 4 (some (.inl (zt σ))) := ⟨_, rfl⟩
  replace hV := hV _ e_σ8
  rw [← e_σ8]
  refine z_aload_n hC dX5_init_15 rfl rfl ?_
  refine z_aload_n hC dX5_init_16 rfl rfl ?_
  obtain ⟨⟨n10, h9⟩, hV⟩ := hV
  obtain ⟨h11, hV⟩ := hV
  refine p_X5_18i_c4 (r := (some (.inl a1))) hC dX5_init_17 h9 (pf_dyn h11) ?_
  obtain ⟨σ12, e_σ12⟩ : ∃ z : ZS, z = sP σ8 a0 0 (some (.inl a1)) := ⟨_, rfl⟩
  replace hV := hV _ e_σ12
  rw [← e_σ12]
  refine z_aload_n hC dX5_init_20 rfl rfl ?_
  refine z_iload_n hC dX5_init_21 rfl rfl ?_
  obtain ⟨⟨n14, h13⟩, hV⟩ := hV
  refine p_X5_22i_c4 hC dX5_init_22 h13 ?_
  obtain ⟨σ15, e_σ15⟩ : ∃ z : ZS, z = sI σ12 a0 1 a2 := ⟨_, rfl⟩
  replace hV := hV _ e_σ15
  rw [← e_σ15]
  exact z_vret hC dX5_init_25 (by rw [hQo]; exact ⟨rfl, hV⟩)
theorem g_X5_18_c4 {a x : Nat} {C : ZC} {E : ZE} {cc : ByteArray} {n nL pc d : Nat} {nm : String} {ret : Option FieldType} {hh : List (Nat × Nat × Nat × Nat)} {σ : ZS} {L : List (Option Value)} {st : List Value} (hC : Cx C E cc nL "RightTurns$Reader" nm ret hh d) (hd : decode cc pc = .ok (.getfield 18, 3)) (hk : kK n σ a = (4 + 7, x)) (k : zz C E n nL σ (pc + 3) L (pv E.1.heap.size (kP n σ a 0) :: st)) : zz C E n nL σ pc L (.ref (E.1.heap.size + a) :: st) :=
  z_get hC cf4 hd hk (k := 0) (by decide) (Or.inl q772) (Or.inl rfl) rfl k
theorem g_X5_22_c4 {a x : Nat} {C : ZC} {E : ZE} {cc : ByteArray} {n nL pc d : Nat} {nm : String} {ret : Option FieldType} {hh : List (Nat × Nat × Nat × Nat)} {σ : ZS} {L : List (Option Value)} {st : List Value} (hC : Cx C E cc nL "RightTurns$Reader" nm ret hh d) (hd : decode cc pc = .ok (.getfield 22, 3)) (hk : kK n σ a = (4 + 7, x)) (k : zz C E n nL σ (pc + 3) L (.int (zI σ a 1) :: st)) : zz C E n nL σ pc L (.ref (E.1.heap.size + a) :: st) :=
  z_get hC cf4 hd hk (k := 1) (by decide) (Or.inl q773) (Or.inl rfl) rfl k
theorem g_X5_26_c4 {a x : Nat} {C : ZC} {E : ZE} {cc : ByteArray} {n nL pc d : Nat} {nm : String} {ret : Option FieldType} {hh : List (Nat × Nat × Nat × Nat)} {σ : ZS} {L : List (Option Value)} {st : List Value} (hC : Cx C E cc nL "RightTurns$Reader" nm ret hh d) (hd : decode cc pc = .ok (.getfield 26, 3)) (hk : kK n σ a = (4 + 7, x)) (k : zz C E n nL σ (pc + 3) L (.int (zI σ a 2) :: st)) : zz C E n nL σ pc L (.ref (E.1.heap.size + a) :: st) :=
  z_get hC cf4 hd hk (k := 2) (by decide) (Or.inl q774) (Or.inl rfl) rfl k
theorem p_X5_26_c4 {C : ZC} {E : ZE} {cc : ByteArray} {n nL pc d a x : Nat} {nm : String} {ret : Option FieldType} {hh : List (Nat × Nat × Nat × Nat)} {σ : ZS} {L : List (Option Value)} {st : List Value} {v : Int32} (hC : Cx C E cc nL "RightTurns$Reader" nm ret hh d) (hd : decode cc pc = .ok (.putfield 26, 3)) (hk : kK n σ a = (4 + 7, x)) (k : zz C E n nL (sI σ a 2 v) (pc + 3) L st) : zz C E n nL σ pc L (.int v :: .ref (E.1.heap.size + a) :: st) :=
  z_putI hC cf4 hd hk (k := 2) (by decide) (Or.inl q774) (Or.inl rfl) (Or.inl rfl) rfl rfl rfl k
def V_X5_sign_38 (Ret : Int32 → ZS → Prop) (σ : ZS) (x0 : Nat) : Prop :=
    (∃ n6, kK NS σ x0 = (11, n6)) ∧ ((∃ n8, kK NS σ x0 = (11, n8)) ∧ ((((zI σ x0 2) < (zI σ x0 1) → ((∃ n10, kK NS σ x0 = (11, n10)) ∧ ((kP NS σ x0 0) = some (.inl (zo (kP NS σ x0 0))) ∧ ((∃ n13, kK NS σ x0 = (11, n13)) ∧ (∃ n15, kK NS σ (zo (kP NS σ x0 0)) = (2, n15) ∧ (vp_in (zI σ x0 2) n15 ∧ (Ret (zI σ (zo (kP NS σ x0 0)) (ix (zI σ x0 2))) σ))))))) ∧ (¬ (zI σ x0 2) < (zI σ x0 1) → (Ret 0 σ)))))
def VL_X5_sign_0 (Ret : Int32 → ZS → Prop) : Nat → ZS → Nat → Prop
  | 0 => fun _ _ => False
  | k + 1 => fun σ x0 =>
    let K0 := VL_X5_sign_0 Ret k
    (∃ n2, kK NS σ x0 = (11, n2)) ∧ ((∃ n4, kK NS σ x0 = (11, n4)) ∧ ((((zI σ x0 2) < (zI σ x0 1) → ((∃ n18, kK NS σ x0 = (11, n18)) ∧ ((kP NS σ x0 0) = some (.inl (zo (kP NS σ x0 0))) ∧ ((∃ n21, kK NS σ x0 = (11, n21)) ∧ (∃ n23, kK NS σ (zo (kP NS σ x0 0)) = (2, n23) ∧ (vp_in (zI σ x0 2) n23 ∧ ((((zI σ (zo (kP NS σ x0 0)) (ix (zI σ x0 2))) = 32 → ((∃ n26, kK NS σ x0 = (11, n26)) ∧ ((∃ n28, kK NS σ x0 = (11, n28)) ∧ (∀ σ29 : ZS, σ29 = sI σ x0 2 ((zI σ x0 2) + 1) → (K0 σ29 x0))))) ∧ (¬ (zI σ (zo (kP NS σ x0 0)) (ix (zI σ x0 2))) = 32 → (V_X5_sign_38 Ret σ x0)))))))))) ∧ (¬ (zI σ x0 2) < (zI σ x0 1) → (V_X5_sign_38 Ret σ x0)))))
def V_X5_sign_0 (Ret : Int32 → ZS → Prop) (σ : ZS) (x0 : Nat) : Prop := ∃ k, VL_X5_sign_0 Ret k σ x0
def wp_X5_sign (σ : ZS) (a0 : Nat) (Ret : Int32 → ZS → Prop) : Prop :=
    V_X5_sign_0 Ret σ a0
set_option maxHeartbeats 4000000 in
theorem mz_X5_sign {l : Launch} {E : ZE} (hE : EOK E) {σ : ZS} {a0 : Nat} {Ret : Int32 → ZS → Prop} (hV : wp_X5_sign σ a0 Ret) : MZ l E NS yX5_sign (ws_ yX5_sign cX5_sign 1 (some .int)) 1 σ [.ref (E.1.heap.size + a0)] (rI Ret) := by
  refine MZ.start (L := [some (.ref (E.1.heap.size + a0))]) hE (by decide) (Nat.le_of_ble_eq_true rfl) rfl fun C hCl hQo hC => ?_
  replace hC : Cx C E cX5_sign 1 "RightTurns$Reader" "sign" (some .int) [] 1 := hC
  unfold wp_X5_sign at hV
  have j_38 : ∀ (σ : ZS) (x0 : Nat), V_X5_sign_38 Ret σ x0 → zz C E NS 1 σ 38 [some (.ref (E.1.heap.size + x0))] [] := by
    intro σ x0 hV
    unfold V_X5_sign_38 at hV
    refine z_aload_n hC dX5_sign_38 rfl rfl ?_
    obtain ⟨⟨n6, h5⟩, hV⟩ := hV
    refine g_X5_26_c4 hC dX5_sign_39 h5 ?_
    refine z_aload_n hC dX5_sign_42 rfl rfl ?_
    obtain ⟨⟨n8, h7⟩, hV⟩ := hV
    refine g_X5_22_c4 hC dX5_sign_43 h7 ?_
    refine z_icmp_ge (tgt := 61) hC dX5_sign_46 (by decide) (fun hc => ?_) (fun hc => ?_)
    · replace hV := hV.2 hc
      refine z_iconst (v := 0) hC dX5_sign_61 rfl ?_
      exact z_iret hC dX5_sign_62 rfl (by rw [hQo]; exact ⟨_, rfl, hV⟩)
    · replace hV := hV.1 hc
      refine z_aload_n hC dX5_sign_49 rfl rfl ?_
      obtain ⟨⟨n10, h9⟩, hV⟩ := hV
      refine g_X5_18_c4 hC dX5_sign_50 h9 ?_
      obtain ⟨h11, hV⟩ := hV
      refine zz_at rfl (by rw [pvo h11]) ?_
      refine z_aload_n hC dX5_sign_53 rfl rfl ?_
      obtain ⟨⟨n13, h12⟩, hV⟩ := hV
      refine g_X5_26_c4 hC dX5_sign_54 h12 ?_
      obtain ⟨n15, h14, hV⟩ := hV
      obtain ⟨h16, hV⟩ := hV
      refine z_bald hC dX5_sign_57 h14 (h16) ?_
      refine z_goto (tgt := 62) hC dX5_sign_58 (by decide) ?_
      exact z_iret hC dX5_sign_62 rfl (by rw [hQo]; exact ⟨_, rfl, hV⟩)
  have j_0 : ∀ (σ : ZS) (x0 : Nat), V_X5_sign_0 Ret σ x0 → zz C E NS 1 σ 0 [some (.ref (E.1.heap.size + x0))] [] := by
    intro σ x0 ⟨k, hV⟩
    revert σ x0
    induction k with
    | zero => exact fun _ _ hV => hV.elim
    | succ k j_0 =>
      intro σ x0 hV
      simp only [VL_X5_sign_0] at hV
      generalize hKe0 : VL_X5_sign_0 Ret k = K0 at hV j_0
      clear hKe0
      refine z_aload_n hC dX5_sign_0 rfl rfl ?_
      obtain ⟨⟨n2, h1⟩, hV⟩ := hV
      refine g_X5_26_c4 hC dX5_sign_1 h1 ?_
      refine z_aload_n hC dX5_sign_4 rfl rfl ?_
      obtain ⟨⟨n4, h3⟩, hV⟩ := hV
      refine g_X5_22_c4 hC dX5_sign_5 h3 ?_
      refine z_icmp_ge (tgt := 38) hC dX5_sign_8 (by decide) (fun hc => ?_) (fun hc => ?_)
      · replace hV := hV.2 hc
        refine zz_sub (L' := [some (.ref (E.1.heap.size + x0))]) ⟨rfl, trivial⟩ ?_
        exact j_38 σ x0 hV
      · replace hV := hV.1 hc
        refine z_aload_n hC dX5_sign_11 rfl rfl ?_
        obtain ⟨⟨n18, h17⟩, hV⟩ := hV
        refine g_X5_18_c4 hC dX5_sign_12 h17 ?_
        obtain ⟨h19, hV⟩ := hV
        refine zz_at rfl (by rw [pvo h19]) ?_
        refine z_aload_n hC dX5_sign_15 rfl rfl ?_
        obtain ⟨⟨n21, h20⟩, hV⟩ := hV
        refine g_X5_26_c4 hC dX5_sign_16 h20 ?_
        obtain ⟨n23, h22, hV⟩ := hV
        obtain ⟨h24, hV⟩ := hV
        refine z_bald hC dX5_sign_19 h22 (h24) ?_
        refine z_bipush (v := 32) hC dX5_sign_20 rfl ?_
        refine z_icmp_ne (tgt := 38) hC dX5_sign_22 (by decide) (fun hc => ?_) (fun hc => ?_)
        · replace hV := hV.2 hc
          refine zz_sub (L' := [some (.ref (E.1.heap.size + x0))]) ⟨rfl, trivial⟩ ?_
          exact j_38 σ x0 hV
        · replace hV := hV.1 hc
          refine z_aload_n hC dX5_sign_25 rfl rfl ?_
          refine z_dup hC dX5_sign_26 rfl ?_
          obtain ⟨⟨n26, h25⟩, hV⟩ := hV
          refine g_X5_26_c4 hC dX5_sign_27 h25 ?_
          refine z_iconst (v := 1) hC dX5_sign_30 rfl ?_
          refine z_iadd hC dX5_sign_31 ?_
          obtain ⟨⟨n28, h27⟩, hV⟩ := hV
          refine p_X5_26_c4 hC dX5_sign_32 h27 ?_
          obtain ⟨σ29, e_σ29⟩ : ∃ z : ZS, z = sI σ x0 2 ((zI σ x0 2) + 1) := ⟨_, rfl⟩
          replace hV := hV _ e_σ29
          rw [← e_σ29]
          refine z_goto (tgt := 0) hC dX5_sign_35 (by decide) ?_
          refine zz_sub (L' := [some (.ref (E.1.heap.size + x0))]) ⟨rfl, trivial⟩ ?_
          exact j_0 σ29 x0 hV
  refine zz_sub (L' := [some (.ref (E.1.heap.size + a0))]) ⟨rfl, trivial⟩ ?_
  exact j_0 σ a0 hV
theorem cw_X5_sign : CodeW yX5_sign (ws_ yX5_sign cX5_sign 1 (some .int)) 1 := ⟨fun w h => (List.mem_cons.mp h).elim (fun e => e ▸ q795) id, Or.inl ⟨_, _, q795⟩, q139, by decide, by decide⟩
theorem c_X5_29 {C : ZC} {E : ZE} {cc : ByteArray} {nL pc d : Nat} {nm : String} {ret : Option FieldType} {hh : List (Nat × Nat × Nat × Nat)} {σ : ZS} {L : List (Option Value)} {st : List Value} {a0 : Nat} {Ret : Int32 → ZS → Prop} (hC : Cx C E cc nL "RightTurns$Reader" nm ret hh d) (hdd : 1 + 1 ≤ d) (hd : decode cc pc = .ok (.invokevirtual 29, 3)) (hW : (st.map fun v => v.category).sum ≤ 8) {x : Nat} (hk : kK NS σ a0 = (4 + 7, x)) (hV : wp_X5_sign σ a0 Ret) (k : ∀ r σ', Ret r σ' → zz C E NS nL σ' (pc + 3) L (.int r :: st)) : zz C E NS nL σ pc L (.ref (E.1.heap.size + a0) :: st) :=
  z_callVG hC cf4 cw_X5_sign hdd (by decide) (mz_X5_sign (cxE hC) hV) hd hk q792 q794 qs2 (np := 0) rfl rfl hW rfl (kI k)
theorem c_X5_35 {C : ZC} {E : ZE} {cc : ByteArray} {nL pc d : Nat} {nm : String} {ret : Option FieldType} {hh : List (Nat × Nat × Nat × Nat)} {σ : ZS} {L : List (Option Value)} {st : List Value} {a0 : Nat} {Ret : ZS → Prop} (hC : Cx C E cc nL "RightTurns$Reader" nm ret hh d) (hdd : 2 + 1 ≤ d) (hd : decode cc pc = .ok (.invokespecial 35, 3)) (hW : (st.map fun v => v.category).sum ≤ 8) (hV : wp_J8_init σ a0 Ret) (k : ∀ σ', Ret σ' → zz C E NS nL σ' (pc + 3) L st) : zz C E NS nL σ pc L (.ref (E.1.heap.size + a0) :: st) :=
  z_callIG hC cw_J8_init q225 hdd (by decide) (mz_J8_init (cxE hC) hV) hd rfl q801 q224 (np := 0) rfl rfl hW rfl (kV k)
theorem c_X5_36 {C : ZC} {E : ZE} {cc : ByteArray} {nL pc d : Nat} {nm : String} {ret : Option FieldType} {hh : List (Nat × Nat × Nat × Nat)} {σ : ZS} {L : List (Option Value)} {st : List Value} {a0 : Nat} {Ret : Int32 → ZS → Prop} (hC : Cx C E cc nL "RightTurns$Reader" nm ret hh d) (hdd : 2 + 1 ≤ d) (hd : decode cc pc = .ok (.invokevirtual 36, 3)) (hW : (st.map fun v => v.category).sum ≤ 8) {x : Nat} (hk : kK NS σ a0 = (10 + 7, x)) (hV : wp_J8_length σ a0 Ret) (k : ∀ r σ', Ret r σ' → zz C E NS nL σ' (pc + 3) L (.int r :: st)) : zz C E NS nL σ pc L (.ref (E.1.heap.size + a0) :: st) :=
  z_callVG hC cf10 cw_J8_length hdd (by decide) (mz_J8_length (cxE hC) hV) hd hk q802 q421 q2212 (np := 0) rfl rfl hW rfl (kI k)
theorem cw_J8_append_3 : CodeW yJ8_append_3 (ws_ yJ8_append_3 cJ8_append_3 2 (Option.some (FieldType.object "java/lang/StringBuilder"))) 2 := ⟨fun w h => (List.mem_cons.mp h).elim (fun e => e ▸ q806) id, Or.inl ⟨_, _, q806⟩, q126, by decide, by decide⟩
theorem c_X5_39 {C : ZC} {E : ZE} {cc : ByteArray} {nL pc d : Nat} {nm : String} {ret : Option FieldType} {hh : List (Nat × Nat × Nat × Nat)} {σ : ZS} {L : List (Option Value)} {st : List Value} {a0 : Nat} {a1 : Int32} {Ret : ZR → ZS → Prop} (hC : Cx C E cc nL "RightTurns$Reader" nm ret hh d) (hdd : 3 + 1 ≤ d) (hd : decode cc pc = .ok (.invokevirtual 39, 3)) (hW : (st.map fun v => v.category).sum ≤ 8) {x : Nat} (hk : kK NS σ a0 = (10 + 7, x)) (hV : wp_J8_append_3 σ a0 a1 Ret) (k : ∀ r σ', Ret r σ' → zz C E NS nL σ' (pc + 3) L (pv E.1.heap.size r :: st)) : zz C E NS nL σ pc L (.int a1 :: .ref (E.1.heap.size + a0) :: st) :=
  z_callVG hC cf10 cw_J8_append_3 hdd (by decide) (mz_J8_append_3 (cxE hC) hV) hd hk q803 q804 q805 (np := 1) rfl rfl hW rfl (kR k)
theorem cw_J8_toString : CodeW yJ8_toString (ws_ yJ8_toString cJ8_toString 1 (Option.some (FieldType.object "java/lang/String"))) 1 := ⟨fun w h => (List.mem_cons.mp h).elim (fun e => e ▸ q402) id, Or.inl ⟨_, _, q402⟩, q126, by decide, by decide⟩
theorem c_X5_43 {C : ZC} {E : ZE} {cc : ByteArray} {nL pc d : Nat} {nm : String} {ret : Option FieldType} {hh : List (Nat × Nat × Nat × Nat)} {σ : ZS} {L : List (Option Value)} {st : List Value} {a0 : Nat} {Ret : ZR → ZS → Prop} (hC : Cx C E cc nL "RightTurns$Reader" nm ret hh d) (hdd : 8 + 1 ≤ d) (hd : decode cc pc = .ok (.invokevirtual 43, 3)) (hW : (st.map fun v => v.category).sum ≤ 8) {x : Nat} (hk : kK NS σ a0 = (10 + 7, x)) (hV : wp_J8_toString σ a0 Ret) (k : ∀ r σ', Ret r σ' → zz C E NS nL σ' (pc + 3) L (pv E.1.heap.size r :: st)) : zz C E NS nL σ pc L (.ref (E.1.heap.size + a0) :: st) :=
  z_callVG hC cf10 cw_J8_toString hdd (by decide) (mz_J8_toString (cxE hC) hV) hd hk q825 q400 q401 (np := 0) rfl rfl hW rfl (kR k)
def VL_X5_word_18 (Ret : ZR → ZS → Prop) : Nat → ZS → Nat → Nat → Int32 → Prop
  | 0 => fun _ _ _ _ => False
  | k + 1 => fun σ x0 x1 x2 =>
    let K18 := VL_X5_word_18 Ret k
    (∃ n13, kK NS σ x0 = (11, n13)) ∧ (((x2 < (zI σ x0 1) → ((∃ n19, kK NS σ x0 = (11, n19)) ∧ ((kP NS σ x0 0) = some (.inl (zo (kP NS σ x0 0))) ∧ (∃ n22, kK NS σ (zo (kP NS σ x0 0)) = (2, n22) ∧ (vp_in x2 n22 ∧ ((((zI σ (zo (kP NS σ x0 0)) (ix x2)) < 97 → ((∃ n27, kK NS σ x1 = (17, n27)) ∧ (wp_J8_toString σ x1 (fun r24 σ25 => Ret r24 σ25)))) ∧ (¬ (zI σ (zo (kP NS σ x0 0)) (ix x2)) < 97 → ((∃ n29, kK NS σ x0 = (11, n29)) ∧ ((kP NS σ x0 0) = some (.inl (zo (kP NS σ x0 0))) ∧ (∃ n32, kK NS σ (zo (kP NS σ x0 0)) = (2, n32) ∧ (vp_in x2 n32 ∧ (((122 < (zI σ (zo (kP NS σ x0 0)) (ix x2)) → ((∃ n37, kK NS σ x1 = (17, n37)) ∧ (wp_J8_toString σ x1 (fun r34 σ35 => Ret r34 σ35)))) ∧ (¬ 122 < (zI σ (zo (kP NS σ x0 0)) (ix x2)) → ((∃ n41, kK NS σ x1 = (17, n41)) ∧ (wp_J8_length σ x1 (fun r38 σ39 => ((r38 < 7 → ((∃ n47, kK NS σ39 x0 = (11, n47)) ∧ ((kP NS σ39 x0 0) = some (.inl (zo (kP NS σ39 x0 0))) ∧ (∃ n50, kK NS σ39 (zo (kP NS σ39 x0 0)) = (2, n50) ∧ (vp_in x2 n50 ∧ ((∃ n55, kK NS σ39 x1 = (17, n55)) ∧ (wp_J8_append_3 σ39 x1 (((zI σ39 (zo (kP NS σ39 x0 0)) (ix x2)).toUInt32 % 65536).toInt32) (fun r52 σ53 => ∀ y56 : Int32, y56 = x2 + 1 → (K18 σ53 x0 x1 y56))))))))) ∧ (¬ r38 < 7 → ((∃ n45, kK NS σ39 x1 = (17, n45)) ∧ (wp_J8_toString σ39 x1 (fun r42 σ43 => Ret r42 σ43))))))))))))))))))))))) ∧ (¬ x2 < (zI σ x0 1) → ((∃ n17, kK NS σ x1 = (17, n17)) ∧ (wp_J8_toString σ x1 (fun r14 σ15 => Ret r14 σ15))))))
def V_X5_word_18 (Ret : ZR → ZS → Prop) (σ : ZS) (x0 : Nat) (x1 : Nat) (x2 : Int32) : Prop := ∃ k, VL_X5_word_18 Ret k σ x0 x1 x2
def wp_X5_word (σ : ZS) (a0 : Nat) (Ret : ZR → ZS → Prop) : Prop :=
    (∃ n4, kK NS σ a0 = (11, n4)) ∧ (wp_X5_sign σ a0 (fun r1 σ2 => (NS ≤ zt σ2 ∧ zt σ2 + 1 ≤ NB ∧ zn σ2 + 4 ≤ SB) ∧ (∀ σ6 : ZS, σ6 = sA σ2 (17, 0) 4 → (wp_J8_init σ6 (zt σ2) (fun σ8 => (∃ n10, kK NS σ8 a0 = (11, n10)) ∧ (∀ y11 : Int32, y11 = zI σ8 a0 2 → (V_X5_word_18 Ret σ8 a0 (zt σ2) y11)))))))
set_option maxHeartbeats 4000000 in
theorem mz_X5_word {l : Launch} {E : ZE} (hE : EOK E) {σ : ZS} {a0 : Nat} {Ret : ZR → ZS → Prop} (hV : wp_X5_word σ a0 Ret) : MZ l E NS yX5_word (ws_ yX5_word cX5_word 3 (Option.some (FieldType.object "java/lang/String"))) 9 σ [.ref (E.1.heap.size + a0)] (rP E.1.heap.size Ret) := by
  refine MZ.start (L := [some (.ref (E.1.heap.size + a0)), none, none]) hE (by decide) (Nat.le_of_ble_eq_true rfl) rfl fun C hCl hQo hC => ?_
  replace hC : Cx C E cX5_word 3 "RightTurns$Reader" "word" (Option.some (FieldType.object "java/lang/String")) [] 9 := hC
  unfold wp_X5_word at hV
  have j_18 : ∀ (σ : ZS) (x0 : Nat) (x1 : Nat) (x2 : Int32), V_X5_word_18 Ret σ x0 x1 x2 → zz C E NS 3 σ 18 [some (.ref (E.1.heap.size + x0)), some (.ref (E.1.heap.size + x1)), some (.int x2)] [] := by
    intro σ x0 x1 x2 ⟨k, hV⟩
    revert σ x0 x1 x2
    induction k with
    | zero => exact fun _ _ _ _ hV => hV.elim
    | succ k j_18 =>
      intro σ x0 x1 x2 hV
      simp only [VL_X5_word_18] at hV
      generalize hKe18 : VL_X5_word_18 Ret k = K18 at hV j_18
      clear hKe18
      refine z_iload_n hC dX5_word_18 rfl rfl ?_
      refine z_aload_n hC dX5_word_19 rfl rfl ?_
      obtain ⟨⟨n13, h12⟩, hV⟩ := hV
      refine g_X5_22_c4 hC dX5_word_20 h12 ?_
      refine z_icmp_ge (tgt := 75) hC dX5_word_23 (by decide) (fun hc => ?_) (fun hc => ?_)
      · replace hV := hV.2 hc
        refine z_aload_n hC dX5_word_75 rfl rfl ?_
        obtain ⟨⟨n17, h16⟩, hV⟩ := hV
        refine c_X5_43 hC (by decide) dX5_word_76 (Nat.le_of_ble_eq_true rfl) h16 hV (fun r14 σ15 hV => ?_)
        exact z_aret (r := r14) hC (Or.inl ⟨_, rfl⟩) dX5_word_79 (by rw [hQo]; exact ⟨_, rfl, hV⟩)
      · replace hV := hV.1 hc
        refine z_aload_n hC dX5_word_26 rfl rfl ?_
        obtain ⟨⟨n19, h18⟩, hV⟩ := hV
        refine g_X5_18_c4 hC dX5_word_27 h18 ?_
        obtain ⟨h20, hV⟩ := hV
        refine zz_at rfl (by rw [pvo h20]) ?_
        refine z_iload_n hC dX5_word_30 rfl rfl ?_
        obtain ⟨n22, h21, hV⟩ := hV
        obtain ⟨h23, hV⟩ := hV
        refine z_bald hC dX5_word_31 h21 (h23) ?_
        refine z_bipush (v := 97) hC dX5_word_32 rfl ?_
        refine z_icmp_lt (tgt := 75) hC dX5_word_34 (by decide) (fun hc => ?_) (fun hc => ?_)
        · replace hV := hV.1 hc
          refine z_aload_n hC dX5_word_75 rfl rfl ?_
          obtain ⟨⟨n27, h26⟩, hV⟩ := hV
          refine c_X5_43 hC (by decide) dX5_word_76 (Nat.le_of_ble_eq_true rfl) h26 hV (fun r24 σ25 hV => ?_)
          exact z_aret (r := r24) hC (Or.inl ⟨_, rfl⟩) dX5_word_79 (by rw [hQo]; exact ⟨_, rfl, hV⟩)
        · replace hV := hV.2 hc
          refine z_aload_n hC dX5_word_37 rfl rfl ?_
          obtain ⟨⟨n29, h28⟩, hV⟩ := hV
          refine g_X5_18_c4 hC dX5_word_38 h28 ?_
          obtain ⟨h30, hV⟩ := hV
          refine zz_at rfl (by rw [pvo h30]) ?_
          refine z_iload_n hC dX5_word_41 rfl rfl ?_
          obtain ⟨n32, h31, hV⟩ := hV
          obtain ⟨h33, hV⟩ := hV
          refine z_bald hC dX5_word_42 h31 (h33) ?_
          refine z_bipush (v := 122) hC dX5_word_43 rfl ?_
          refine z_icmp_gt (tgt := 75) hC dX5_word_45 (by decide) (fun hc => ?_) (fun hc => ?_)
          · replace hV := hV.1 hc
            refine z_aload_n hC dX5_word_75 rfl rfl ?_
            obtain ⟨⟨n37, h36⟩, hV⟩ := hV
            refine c_X5_43 hC (by decide) dX5_word_76 (Nat.le_of_ble_eq_true rfl) h36 hV (fun r34 σ35 hV => ?_)
            exact z_aret (r := r34) hC (Or.inl ⟨_, rfl⟩) dX5_word_79 (by rw [hQo]; exact ⟨_, rfl, hV⟩)
          · replace hV := hV.2 hc
            refine z_aload_n hC dX5_word_48 rfl rfl ?_
            obtain ⟨⟨n41, h40⟩, hV⟩ := hV
            refine c_X5_36 hC (by decide) dX5_word_49 (Nat.le_of_ble_eq_true rfl) h40 hV (fun r38 σ39 hV => ?_)
            refine z_bipush (v := 7) hC dX5_word_52 rfl ?_
            refine z_icmp_ge (tgt := 75) hC dX5_word_54 (by decide) (fun hc => ?_) (fun hc => ?_)
            · replace hV := hV.2 hc
              refine z_aload_n hC dX5_word_75 rfl rfl ?_
              obtain ⟨⟨n45, h44⟩, hV⟩ := hV
              refine c_X5_43 hC (by decide) dX5_word_76 (Nat.le_of_ble_eq_true rfl) h44 hV (fun r42 σ43 hV => ?_)
              exact z_aret (r := r42) hC (Or.inl ⟨_, rfl⟩) dX5_word_79 (by rw [hQo]; exact ⟨_, rfl, hV⟩)
            · replace hV := hV.1 hc
              refine z_aload_n hC dX5_word_57 rfl rfl ?_
              refine z_aload_n hC dX5_word_58 rfl rfl ?_
              obtain ⟨⟨n47, h46⟩, hV⟩ := hV
              refine g_X5_18_c4 hC dX5_word_59 h46 ?_
              obtain ⟨h48, hV⟩ := hV
              refine zz_at rfl (by rw [pvo h48]) ?_
              refine z_iload_n hC dX5_word_62 rfl rfl ?_
              obtain ⟨n50, h49, hV⟩ := hV
              obtain ⟨h51, hV⟩ := hV
              refine z_bald hC dX5_word_63 h49 (h51) ?_
              refine z_i2c hC dX5_word_64 ?_
              obtain ⟨⟨n55, h54⟩, hV⟩ := hV
              refine c_X5_39 hC (by decide) dX5_word_65 (Nat.le_of_ble_eq_true rfl) h54 hV (fun r52 σ53 hV => ?_)
              refine z_pop hC dX5_word_68 (pv_cat _ _) ?_
              obtain ⟨y56, e_y56⟩ : ∃ z : Int32, z = x2 + 1 := ⟨_, rfl⟩
              replace hV := hV _ e_y56
              refine z_iinc (v := y56) hC dX5_word_69 rfl (by rw [e_y56]; rfl) (Nat.le_of_ble_eq_true rfl) rfl rfl ?_
              refine z_goto (tgt := 18) hC dX5_word_72 (by decide) ?_
              refine zz_sub (L' := [some (.ref (E.1.heap.size + x0)), some (.ref (E.1.heap.size + x1)), some (.int y56)]) ⟨rfl, rfl, rfl, trivial⟩ ?_
              exact j_18 σ53 x0 x1 y56 hV
  refine z_aload_n hC dX5_word_0 rfl rfl ?_
  obtain ⟨⟨n4, h3⟩, hV⟩ := hV
  refine c_X5_29 hC (by decide) dX5_word_1 (Nat.le_of_ble_eq_true rfl) h3 hV (fun r1 σ2 hV => ?_)
  refine z_pop hC dX5_word_4 rfl ?_
  obtain ⟨h5, hV⟩ := hV
  refine z_new hC cf10 dX5_word_5 q800 q222 q126 dv_10 h5.1 h5.2.1 h5.2.2 ?_
  obtain ⟨σ6, e_σ6⟩ : ∃ z : ZS, z = sA σ2 (17, 0) 4 := ⟨_, rfl⟩
  replace hV := hV _ e_σ6
  rw [← e_σ6]
  refine z_dup hC dX5_word_8 rfl ?_
  refine c_X5_35 hC (by decide) dX5_word_9 (Nat.le_of_ble_eq_true rfl) hV (fun σ8 hV => ?_)
  refine z_astore_n hC dX5_word_12 rfl (Nat.le_of_ble_eq_true rfl) rfl rfl ?_
  refine z_aload_n hC dX5_word_13 rfl rfl ?_
  obtain ⟨⟨n10, h9⟩, hV⟩ := hV
  refine g_X5_26_c4 hC dX5_word_14 h9 ?_
  obtain ⟨y11, e_y11⟩ : ∃ z, z = zI σ8 a0 2 := ⟨_, rfl⟩
  rw [← e_y11]
  replace hV := hV _ e_y11
  refine z_istore_n hC dX5_word_17 rfl (Nat.le_of_ble_eq_true rfl) rfl rfl ?_
  refine zz_sub (L' := [some (.ref (E.1.heap.size + a0)), some (.ref (E.1.heap.size + (zt σ2))), some (.int y11)]) ⟨rfl, rfl, rfl, trivial⟩ ?_
  exact j_18 σ8 a0 (zt σ2) y11 hV
theorem dv_5 : ∀ k, k < 8 → defaultValue (tyX6 k) = (match fty 5 k with | 0 => Value.int 0 | 1 => .long 0 | _ => .null) := by decide +kernel
theorem cw_X6_init : CodeW yX6_init (ws_ yX6_init cX6_init 3 none) 3 := ⟨fun w h => (List.mem_cons.mp h).elim (fun e => e ▸ q931) id, Or.inl ⟨_, _, q931⟩, q140, by decide, by decide⟩
theorem c_X5_49 {C : ZC} {E : ZE} {cc : ByteArray} {nL pc d : Nat} {nm : String} {ret : Option FieldType} {hh : List (Nat × Nat × Nat × Nat)} {σ : ZS} {L : List (Option Value)} {st : List Value} {a0 : Nat} {a1 : Int32} {a2 : Int32} {Ret : ZS → Prop} (hC : Cx C E cc nL "RightTurns$Reader" nm ret hh d) (hdd : 3 + 1 ≤ d) (hd : decode cc pc = .ok (.invokespecial 49, 3)) (hW : (st.map fun v => v.category).sum ≤ 8) (hV : wp_X6_init σ a0 a1 a2 Ret) (k : ∀ σ', Ret σ' → zz C E NS nL σ' (pc + 3) L st) : zz C E NS nL σ pc L (.int a2 :: .int a1 :: .ref (E.1.heap.size + a0) :: st) :=
  z_callIG hC cw_X6_init q931 hdd (by decide) (mz_X6_init (cxE hC) hV) hd rfl q929 q930 (np := 2) rfl rfl hW rfl (kV k)
def wp_X5_wrong (σ : ZS) (a0 : Nat) (Ret : ZR → ZS → Prop) : Prop :=
    (NS ≤ zt σ ∧ zt σ + 1 ≤ NB ∧ zn σ + 8 ≤ SB) ∧ (∀ σ2 : ZS, σ2 = sA σ (12, 0) 8 → ((∃ n4, kK NS σ2 a0 = (11, n4)) ∧ (wp_X6_init σ2 (zt σ) 1 (zI σ2 a0 2) (fun σ6 => Ret (some (.inl (zt σ))) σ6))))
set_option maxHeartbeats 4000000 in
theorem mz_X5_wrong {l : Launch} {E : ZE} (hE : EOK E) {σ : ZS} {a0 : Nat} {Ret : ZR → ZS → Prop} (hV : wp_X5_wrong σ a0 Ret) : MZ l E NS yX5_wrong (ws_ yX5_wrong cX5_wrong 1 (Option.some (FieldType.object "RightTurns$Wrong"))) 4 σ [.ref (E.1.heap.size + a0)] (rP E.1.heap.size Ret) := by
  refine MZ.start (L := [some (.ref (E.1.heap.size + a0))]) hE (by decide) (Nat.le_of_ble_eq_true rfl) rfl fun C hCl hQo hC => ?_
  replace hC : Cx C E cX5_wrong 1 "RightTurns$Reader" "wrong" (Option.some (FieldType.object "RightTurns$Wrong")) [] 4 := hC
  unfold wp_X5_wrong at hV
  obtain ⟨h1, hV⟩ := hV
  refine z_new hC cf5 dX5_wrong_0 q920 q921 q140 dv_5 h1.1 h1.2.1 h1.2.2 ?_
  obtain ⟨σ2, e_σ2⟩ : ∃ z : ZS, z = sA σ (12, 0) 8 := ⟨_, rfl⟩
  replace hV := hV _ e_σ2
  rw [← e_σ2]
  refine z_dup hC dX5_wrong_3 rfl ?_
  refine z_iconst (v := 1) hC dX5_wrong_4 rfl ?_
  refine z_aload_n hC dX5_wrong_5 rfl rfl ?_
  obtain ⟨⟨n4, h3⟩, hV⟩ := hV
  refine g_X5_26_c4 hC dX5_wrong_6 h3 ?_
  refine c_X5_49 hC (by decide) dX5_wrong_9 (Nat.le_of_ble_eq_true rfl) hV (fun σ6 hV => ?_)
  exact z_aret (r := (some (.inl (zt σ)))) hC (Or.inl ⟨_, rfl⟩) dX5_wrong_12 (by rw [hQo]; exact ⟨_, rfl, hV⟩)
theorem cw_X5_wrong : CodeW yX5_wrong (ws_ yX5_wrong cX5_wrong 1 (Option.some (FieldType.object "RightTurns$Wrong"))) 1 := ⟨fun w h => (List.mem_cons.mp h).elim (fun e => e ▸ q919) id, Or.inl ⟨_, _, q919⟩, q139, by decide, by decide⟩
theorem c_X5_52 {C : ZC} {E : ZE} {cc : ByteArray} {nL pc d : Nat} {nm : String} {ret : Option FieldType} {hh : List (Nat × Nat × Nat × Nat)} {σ : ZS} {L : List (Option Value)} {st : List Value} {a0 : Nat} {Ret : ZR → ZS → Prop} (hC : Cx C E cc nL "RightTurns$Reader" nm ret hh d) (hdd : 4 + 1 ≤ d) (hd : decode cc pc = .ok (.invokevirtual 52, 3)) (hW : (st.map fun v => v.category).sum ≤ 8) {x : Nat} (hk : kK NS σ a0 = (4 + 7, x)) (hV : wp_X5_wrong σ a0 Ret) (k : ∀ r σ', Ret r σ' → zz C E NS nL σ' (pc + 3) L (pv E.1.heap.size r :: st)) : zz C E NS nL σ pc L (.ref (E.1.heap.size + a0) :: st) :=
  z_callVG hC cf4 cw_X5_wrong hdd (by decide) (mz_X5_wrong (cxE hC) hV) hd hk q916 q918 qs5 (np := 0) rfl rfl hW rfl (kR k)
def wp_X5_need (σ : ZS) (a0 : Nat) (a1 : Int32) (Thr : Nat → ZS → Prop) (Ret : ZS → Prop) : Prop :=
    (∃ n4, kK NS σ a0 = (11, n4)) ∧ (wp_X5_sign σ a0 (fun r1 σ2 => ((r1 = a1 → ((∃ n6, kK NS σ2 a0 = (11, n6)) ∧ ((∃ n8, kK NS σ2 a0 = (11, n8)) ∧ (∀ σ9 : ZS, σ9 = sI σ2 a0 2 ((zI σ2 a0 2) + 1) → (Ret σ9))))) ∧ (¬ r1 = a1 → ((∃ n13, kK NS σ2 a0 = (11, n13)) ∧ (wp_X5_wrong σ2 a0 (fun r10 σ11 => r10 = some (.inl (zo r10)) ∧ (Thr (zo r10) σ11))))))))
set_option maxHeartbeats 4000000 in
theorem mz_X5_need {l : Launch} {E : ZE} (hE : EOK E) {σ : ZS} {a0 : Nat} {a1 : Int32} {Thr : Nat → ZS → Prop} {Ret : ZS → Prop} (hV : wp_X5_need σ a0 a1 Thr Ret) : MZ l E NS yX5_need (ws_ yX5_need cX5_need 2 none) 5 σ [.ref (E.1.heap.size + a0), .int a1] (rT E.1.heap.size (rV Ret) Thr) := by
  refine MZ.start (L := [some (.ref (E.1.heap.size + a0)), some (.int a1)]) hE (by decide) (Nat.le_of_ble_eq_true rfl) rfl fun C hCl hQo hC => ?_
  replace hC : Cx C E cX5_need 2 "RightTurns$Reader" "need" none [] 5 := hC
  unfold wp_X5_need at hV
  refine z_aload_n hC dX5_need_0 rfl rfl ?_
  obtain ⟨⟨n4, h3⟩, hV⟩ := hV
  refine c_X5_29 hC (by decide) dX5_need_1 (Nat.le_of_ble_eq_true rfl) h3 hV (fun r1 σ2 hV => ?_)
  refine z_iload_n hC dX5_need_4 rfl rfl ?_
  refine z_icmp_eq (tgt := 13) hC dX5_need_5 (by decide) (fun hc => ?_) (fun hc => ?_)
  · replace hV := hV.1 hc
    refine z_aload_n hC dX5_need_13 rfl rfl ?_
    refine z_dup hC dX5_need_14 rfl ?_
    obtain ⟨⟨n6, h5⟩, hV⟩ := hV
    refine g_X5_26_c4 hC dX5_need_15 h5 ?_
    refine z_iconst (v := 1) hC dX5_need_18 rfl ?_
    refine z_iadd hC dX5_need_19 ?_
    obtain ⟨⟨n8, h7⟩, hV⟩ := hV
    refine p_X5_26_c4 hC dX5_need_20 h7 ?_
    obtain ⟨σ9, e_σ9⟩ : ∃ z : ZS, z = sI σ2 a0 2 ((zI σ2 a0 2) + 1) := ⟨_, rfl⟩
    replace hV := hV _ e_σ9
    rw [← e_σ9]
    exact z_vret hC dX5_need_23 (by rw [hQo]; exact Or.inl ⟨rfl, hV⟩)
  · replace hV := hV.2 hc
    refine z_aload_n hC dX5_need_8 rfl rfl ?_
    obtain ⟨⟨n13, h12⟩, hV⟩ := hV
    refine c_X5_52 hC (by decide) dX5_need_9 (Nat.le_of_ble_eq_true rfl) h12 hV (fun r10 σ11 hV => ?_)
    obtain ⟨h14, hV⟩ := hV
    refine zz_at rfl (by rw [pvo h14]) ?_
    exact z_athrow hC dX5_need_12 (zth_out hC (by rw [hQo]; exact Or.inr ⟨_, rfl, hV⟩))
theorem g_X5_56_c4 {a x : Nat} {C : ZC} {E : ZE} {cc : ByteArray} {n nL pc d : Nat} {nm : String} {ret : Option FieldType} {hh : List (Nat × Nat × Nat × Nat)} {σ : ZS} {L : List (Option Value)} {st : List Value} (hC : Cx C E cc nL "RightTurns$Reader" nm ret hh d) (hd : decode cc pc = .ok (.getfield 56, 3)) (hk : kK n σ a = (4 + 7, x)) (k : zz C E n nL σ (pc + 3) L (.int (zI σ a 3) :: st)) : zz C E n nL σ pc L (.ref (E.1.heap.size + a) :: st) :=
  z_get hC cf4 hd hk (k := 3) (by decide) (Or.inl q775) (Or.inl rfl) rfl k
theorem p_X5_56_c4 {C : ZC} {E : ZE} {cc : ByteArray} {n nL pc d a x : Nat} {nm : String} {ret : Option FieldType} {hh : List (Nat × Nat × Nat × Nat)} {σ : ZS} {L : List (Option Value)} {st : List Value} {v : Int32} (hC : Cx C E cc nL "RightTurns$Reader" nm ret hh d) (hd : decode cc pc = .ok (.putfield 56, 3)) (hk : kK n σ a = (4 + 7, x)) (k : zz C E n nL (sI σ a 3 v) (pc + 3) L st) : zz C E n nL σ pc L (.int v :: .ref (E.1.heap.size + a) :: st) :=
  z_putI hC cf4 hd hk (k := 3) (by decide) (Or.inl q775) (Or.inl rfl) (Or.inl rfl) rfl rfl rfl k
def V_X5_number_111 (Thr : Nat → ZS → Prop) (Ret : Int32 → ZS → Prop) (σ : ZS) (x0 : Nat) (x1 : Int32) (x2 : Int32) (x4 : Int32) : Prop :=
    ((x4 < x1 → ((NS ≤ zt σ ∧ zt σ + 1 ≤ NB ∧ zn σ + 8 ≤ SB) ∧ (∀ σ20 : ZS, σ20 = sA σ (12, 0) 8 → ((∃ n22, kK NS σ20 x0 = (11, n22)) ∧ (wp_X6_init σ20 (zt σ) 2 (zI σ20 x0 3) (fun σ24 => Thr (zt σ) σ24)))))) ∧ (¬ x4 < x1 → (((x2 < x4 → ((NS ≤ zt σ ∧ zt σ + 1 ≤ NB ∧ zn σ + 8 ≤ SB) ∧ (∀ σ26 : ZS, σ26 = sA σ (12, 0) 8 → ((∃ n28, kK NS σ26 x0 = (11, n28)) ∧ (wp_X6_init σ26 (zt σ) 2 (zI σ26 x0 3) (fun σ30 => Thr (zt σ) σ30)))))) ∧ (¬ x2 < x4 → (Ret x4 σ))))))
def VL_X5_number_33 (Thr : Nat → ZS → Prop) (Ret : Int32 → ZS → Prop) : Nat → ZS → Nat → Int32 → Int32 → Int32 → Prop
  | 0 => fun _ _ _ _ _ => False
  | k + 1 => fun σ x0 x1 x2 x4 =>
    let K33 := VL_X5_number_33 Thr Ret k
    (∃ n16, kK NS σ x0 = (11, n16)) ∧ ((∃ n18, kK NS σ x0 = (11, n18)) ∧ ((((zI σ x0 2) < (zI σ x0 1) → ((∃ n32, kK NS σ x0 = (11, n32)) ∧ ((kP NS σ x0 0) = some (.inl (zo (kP NS σ x0 0))) ∧ ((∃ n35, kK NS σ x0 = (11, n35)) ∧ (∃ n37, kK NS σ (zo (kP NS σ x0 0)) = (2, n37) ∧ (vp_in (zI σ x0 2) n37 ∧ ((((zI σ (zo (kP NS σ x0 0)) (ix (zI σ x0 2))) < 48 → (V_X5_number_111 Thr Ret σ x0 x1 x2 x4)) ∧ (¬ (zI σ (zo (kP NS σ x0 0)) (ix (zI σ x0 2))) < 48 → ((∃ n40, kK NS σ x0 = (11, n40)) ∧ ((kP NS σ x0 0) = some (.inl (zo (kP NS σ x0 0))) ∧ ((∃ n43, kK NS σ x0 = (11, n43)) ∧ (∃ n45, kK NS σ (zo (kP NS σ x0 0)) = (2, n45) ∧ (vp_in (zI σ x0 2) n45 ∧ (((57 < (zI σ (zo (kP NS σ x0 0)) (ix (zI σ x0 2))) → (V_X5_number_111 Thr Ret σ x0 x1 x2 x4)) ∧ (¬ 57 < (zI σ (zo (kP NS σ x0 0)) (ix (zI σ x0 2))) → ((∃ n48, kK NS σ x0 = (11, n48)) ∧ ((kP NS σ x0 0) = some (.inl (zo (kP NS σ x0 0))) ∧ ((∃ n51, kK NS σ x0 = (11, n51)) ∧ (∃ n53, kK NS σ (zo (kP NS σ x0 0)) = (2, n53) ∧ (vp_in (zI σ x0 2) n53 ∧ (∀ y56 : Int32, y56 = (if 1000 < (((10 * x4) + (zI σ (zo (kP NS σ x0 0)) (ix (zI σ x0 2)))) - 48) then 1000 else (((10 * x4) + (zI σ (zo (kP NS σ x0 0)) (ix (zI σ x0 2)))) - 48)) → ((∃ n58, kK NS σ x0 = (11, n58)) ∧ ((∃ n60, kK NS σ x0 = (11, n60)) ∧ (∀ σ61 : ZS, σ61 = sI σ x0 2 ((zI σ x0 2) + 1) → (K33 σ61 x0 x1 x2 y56))))))))))))))))))))))))))) ∧ (¬ (zI σ x0 2) < (zI σ x0 1) → (V_X5_number_111 Thr Ret σ x0 x1 x2 x4)))))
def V_X5_number_33 (Thr : Nat → ZS → Prop) (Ret : Int32 → ZS → Prop) (σ : ZS) (x0 : Nat) (x1 : Int32) (x2 : Int32) (x4 : Int32) : Prop := ∃ k, VL_X5_number_33 Thr Ret k σ x0 x1 x2 x4
def wp_X5_number (σ : ZS) (a0 : Nat) (a1 : Int32) (a2 : Int32) (Thr : Nat → ZS → Prop) (Ret : Int32 → ZS → Prop) : Prop :=
    (∃ n4, kK NS σ a0 = (11, n4)) ∧ (wp_X5_sign σ a0 (fun r1 σ2 => ((r1 < 48 → ((∃ n8, kK NS σ2 a0 = (11, n8)) ∧ (wp_X5_wrong σ2 a0 (fun r5 σ6 => r5 = some (.inl (zo r5)) ∧ (Thr (zo r5) σ6))))) ∧ (¬ r1 < 48 → (((57 < r1 → ((∃ n65, kK NS σ2 a0 = (11, n65)) ∧ (wp_X5_wrong σ2 a0 (fun r62 σ63 => r62 = some (.inl (zo r62)) ∧ (Thr (zo r62) σ63))))) ∧ (¬ 57 < r1 → ((∃ n11, kK NS σ2 a0 = (11, n11)) ∧ ((∃ n13, kK NS σ2 a0 = (11, n13)) ∧ (∀ σ14 : ZS, σ14 = sI σ2 a0 3 (zI σ2 a0 2) → (V_X5_number_33 Thr Ret σ14 a0 a1 a2 0)))))))))))
set_option maxHeartbeats 4000000 in
theorem mz_X5_number {l : Launch} {E : ZE} (hE : EOK E) {σ : ZS} {a0 : Nat} {a1 : Int32} {a2 : Int32} {Thr : Nat → ZS → Prop} {Ret : Int32 → ZS → Prop} (hV : wp_X5_number σ a0 a1 a2 Thr Ret) : MZ l E NS yX5_number (ws_ yX5_number cX5_number 5 (some .int)) 5 σ [.ref (E.1.heap.size + a0), .int a1, .int a2] (rT E.1.heap.size (rI Ret) Thr) := by
  refine MZ.start (L := [some (.ref (E.1.heap.size + a0)), some (.int a1), some (.int a2), none, none]) hE (by decide) (Nat.le_of_ble_eq_true rfl) rfl fun C hCl hQo hC => ?_
  replace hC : Cx C E cX5_number 5 "RightTurns$Reader" "number" (some .int) [] 5 := hC
  unfold wp_X5_number at hV
  have j_111 : ∀ (σ : ZS) (x0 : Nat) (x1 : Int32) (x2 : Int32) (x4 : Int32), V_X5_number_111 Thr Ret σ x0 x1 x2 x4 → zz C E NS 5 σ 111 [some (.ref (E.1.heap.size + x0)), some (.int x1), some (.int x2), none, some (.int x4)] [] := by
    intro σ x0 x1 x2 x4 hV
    unfold V_X5_number_111 at hV
    refine z_iload hC dX5_number_111 rfl ?_
    refine z_iload_n hC dX5_number_113 rfl rfl ?_
    refine z_icmp_lt (tgt := 123) hC dX5_number_114 (by decide) (fun hc => ?_) (fun hc => ?_)
    · replace hV := hV.1 hc
      obtain ⟨h19, hV⟩ := hV
      refine z_new hC cf5 dX5_number_123 q920 q921 q140 dv_5 h19.1 h19.2.1 h19.2.2 ?_
      obtain ⟨σ20, e_σ20⟩ : ∃ z : ZS, z = sA σ (12, 0) 8 := ⟨_, rfl⟩
      replace hV := hV _ e_σ20
      rw [← e_σ20]
      refine z_dup hC dX5_number_126 rfl ?_
      refine z_iconst (v := 2) hC dX5_number_127 rfl ?_
      refine z_aload_n hC dX5_number_128 rfl rfl ?_
      obtain ⟨⟨n22, h21⟩, hV⟩ := hV
      refine g_X5_56_c4 hC dX5_number_129 h21 ?_
      refine c_X5_49 hC (by decide) dX5_number_132 (Nat.le_of_ble_eq_true rfl) hV (fun σ24 hV => ?_)
      exact z_athrow hC dX5_number_135 (zth_out hC (by rw [hQo]; exact Or.inr ⟨_, rfl, hV⟩))
    · replace hV := hV.2 hc
      refine z_iload hC dX5_number_117 rfl ?_
      refine z_iload_n hC dX5_number_119 rfl rfl ?_
      refine z_icmp_le (tgt := 136) hC dX5_number_120 (by decide) (fun hc => ?_) (fun hc => ?_)
      · replace hV := hV.2 hc
        refine z_iload hC dX5_number_136 rfl ?_
        exact z_iret hC dX5_number_138 rfl (by rw [hQo]; exact Or.inl ⟨_, rfl, hV⟩)
      · replace hV := hV.1 hc
        obtain ⟨h25, hV⟩ := hV
        refine z_new hC cf5 dX5_number_123 q920 q921 q140 dv_5 h25.1 h25.2.1 h25.2.2 ?_
        obtain ⟨σ26, e_σ26⟩ : ∃ z : ZS, z = sA σ (12, 0) 8 := ⟨_, rfl⟩
        replace hV := hV _ e_σ26
        rw [← e_σ26]
        refine z_dup hC dX5_number_126 rfl ?_
        refine z_iconst (v := 2) hC dX5_number_127 rfl ?_
        refine z_aload_n hC dX5_number_128 rfl rfl ?_
        obtain ⟨⟨n28, h27⟩, hV⟩ := hV
        refine g_X5_56_c4 hC dX5_number_129 h27 ?_
        refine c_X5_49 hC (by decide) dX5_number_132 (Nat.le_of_ble_eq_true rfl) hV (fun σ30 hV => ?_)
        exact z_athrow hC dX5_number_135 (zth_out hC (by rw [hQo]; exact Or.inr ⟨_, rfl, hV⟩))
  have j_33 : ∀ (σ : ZS) (x0 : Nat) (x1 : Int32) (x2 : Int32) (x4 : Int32), V_X5_number_33 Thr Ret σ x0 x1 x2 x4 → zz C E NS 5 σ 33 [some (.ref (E.1.heap.size + x0)), some (.int x1), some (.int x2), none, some (.int x4)] [] := by
    intro σ x0 x1 x2 x4 ⟨k, hV⟩
    revert σ x0 x1 x2 x4
    induction k with
    | zero => exact fun _ _ _ _ _ hV => hV.elim
    | succ k j_33 =>
      intro σ x0 x1 x2 x4 hV
      simp only [VL_X5_number_33] at hV
      generalize hKe33 : VL_X5_number_33 Thr Ret k = K33 at hV j_33
      clear hKe33
      refine z_aload_n hC dX5_number_33 rfl rfl ?_
      obtain ⟨⟨n16, h15⟩, hV⟩ := hV
      refine g_X5_26_c4 hC dX5_number_34 h15 ?_
      refine z_aload_n hC dX5_number_37 rfl rfl ?_
      obtain ⟨⟨n18, h17⟩, hV⟩ := hV
      refine g_X5_22_c4 hC dX5_number_38 h17 ?_
      refine z_icmp_ge (tgt := 111) hC dX5_number_41 (by decide) (fun hc => ?_) (fun hc => ?_)
      · replace hV := hV.2 hc
        refine zz_sub (L' := [some (.ref (E.1.heap.size + x0)), some (.int x1), some (.int x2), none, some (.int x4)]) ⟨rfl, rfl, rfl, rfl, trivial⟩ ?_
        exact j_111 σ x0 x1 x2 x4 hV
      · replace hV := hV.1 hc
        refine z_aload_n hC dX5_number_44 rfl rfl ?_
        obtain ⟨⟨n32, h31⟩, hV⟩ := hV
        refine g_X5_18_c4 hC dX5_number_45 h31 ?_
        obtain ⟨h33, hV⟩ := hV
        refine zz_at rfl (by rw [pvo h33]) ?_
        refine z_aload_n hC dX5_number_48 rfl rfl ?_
        obtain ⟨⟨n35, h34⟩, hV⟩ := hV
        refine g_X5_26_c4 hC dX5_number_49 h34 ?_
        obtain ⟨n37, h36, hV⟩ := hV
        obtain ⟨h38, hV⟩ := hV
        refine z_bald hC dX5_number_52 h36 (h38) ?_
        refine z_bipush (v := 48) hC dX5_number_53 rfl ?_
        refine z_icmp_lt (tgt := 111) hC dX5_number_55 (by decide) (fun hc => ?_) (fun hc => ?_)
        · replace hV := hV.1 hc
          refine zz_sub (L' := [some (.ref (E.1.heap.size + x0)), some (.int x1), some (.int x2), none, some (.int x4)]) ⟨rfl, rfl, rfl, rfl, trivial⟩ ?_
          exact j_111 σ x0 x1 x2 x4 hV
        · replace hV := hV.2 hc
          refine z_aload_n hC dX5_number_58 rfl rfl ?_
          obtain ⟨⟨n40, h39⟩, hV⟩ := hV
          refine g_X5_18_c4 hC dX5_number_59 h39 ?_
          obtain ⟨h41, hV⟩ := hV
          refine zz_at rfl (by rw [pvo h41]) ?_
          refine z_aload_n hC dX5_number_62 rfl rfl ?_
          obtain ⟨⟨n43, h42⟩, hV⟩ := hV
          refine g_X5_26_c4 hC dX5_number_63 h42 ?_
          obtain ⟨n45, h44, hV⟩ := hV
          obtain ⟨h46, hV⟩ := hV
          refine z_bald hC dX5_number_66 h44 (h46) ?_
          refine z_bipush (v := 57) hC dX5_number_67 rfl ?_
          refine z_icmp_gt (tgt := 111) hC dX5_number_69 (by decide) (fun hc => ?_) (fun hc => ?_)
          · replace hV := hV.1 hc
            refine zz_sub (L' := [some (.ref (E.1.heap.size + x0)), some (.int x1), some (.int x2), none, some (.int x4)]) ⟨rfl, rfl, rfl, rfl, trivial⟩ ?_
            exact j_111 σ x0 x1 x2 x4 hV
          · replace hV := hV.2 hc
            refine z_bipush (v := 10) hC dX5_number_72 rfl ?_
            refine z_iload hC dX5_number_74 rfl ?_
            refine z_imul hC dX5_number_76 ?_
            refine z_aload_n hC dX5_number_77 rfl rfl ?_
            obtain ⟨⟨n48, h47⟩, hV⟩ := hV
            refine g_X5_18_c4 hC dX5_number_78 h47 ?_
            obtain ⟨h49, hV⟩ := hV
            refine zz_at rfl (by rw [pvo h49]) ?_
            refine z_aload_n hC dX5_number_81 rfl rfl ?_
            obtain ⟨⟨n51, h50⟩, hV⟩ := hV
            refine g_X5_26_c4 hC dX5_number_82 h50 ?_
            obtain ⟨n53, h52, hV⟩ := hV
            obtain ⟨h54, hV⟩ := hV
            refine z_bald hC dX5_number_85 h52 (h54) ?_
            refine z_iadd hC dX5_number_86 ?_
            refine z_bipush (v := 48) hC dX5_number_87 rfl ?_
            refine z_isub hC dX5_number_89 ?_
            refine z_sipush (v := 1000) hC dX5_number_90 rfl ?_
            refine z_mmin hC dX5_number_93 q953 (by decide) (Nat.le_of_ble_eq_true rfl) ?_
            obtain ⟨y56, e_y56⟩ : ∃ z, z = (if 1000 < (((10 * x4) + (zI σ (zo (kP NS σ x0 0)) (ix (zI σ x0 2)))) - 48) then 1000 else (((10 * x4) + (zI σ (zo (kP NS σ x0 0)) (ix (zI σ x0 2)))) - 48)) := ⟨_, rfl⟩
            rw [← e_y56]
            replace hV := hV _ e_y56
            refine z_istore hC dX5_number_96 (Nat.le_of_ble_eq_true rfl) rfl rfl ?_
            refine z_aload_n hC dX5_number_98 rfl rfl ?_
            refine z_dup hC dX5_number_99 rfl ?_
            obtain ⟨⟨n58, h57⟩, hV⟩ := hV
            refine g_X5_26_c4 hC dX5_number_100 h57 ?_
            refine z_iconst (v := 1) hC dX5_number_103 rfl ?_
            refine z_iadd hC dX5_number_104 ?_
            obtain ⟨⟨n60, h59⟩, hV⟩ := hV
            refine p_X5_26_c4 hC dX5_number_105 h59 ?_
            obtain ⟨σ61, e_σ61⟩ : ∃ z : ZS, z = sI σ x0 2 ((zI σ x0 2) + 1) := ⟨_, rfl⟩
            replace hV := hV _ e_σ61
            rw [← e_σ61]
            refine z_goto (tgt := 33) hC dX5_number_108 (by decide) ?_
            refine zz_sub (L' := [some (.ref (E.1.heap.size + x0)), some (.int x1), some (.int x2), none, some (.int y56)]) ⟨rfl, rfl, rfl, rfl, trivial⟩ ?_
            exact j_33 σ61 x0 x1 x2 y56 hV
  refine z_aload_n hC dX5_number_0 rfl rfl ?_
  obtain ⟨⟨n4, h3⟩, hV⟩ := hV
  refine c_X5_29 hC (by decide) dX5_number_1 (Nat.le_of_ble_eq_true rfl) h3 hV (fun r1 σ2 hV => ?_)
  refine z_istore_n hC dX5_number_4 rfl (Nat.le_of_ble_eq_true rfl) rfl rfl ?_
  refine z_iload_n hC dX5_number_5 rfl rfl ?_
  refine z_bipush (v := 48) hC dX5_number_6 rfl ?_
  refine z_icmp_lt (tgt := 17) hC dX5_number_8 (by decide) (fun hc => ?_) (fun hc => ?_)
  · replace hV := hV.1 hc
    refine z_aload_n hC dX5_number_17 rfl rfl ?_
    obtain ⟨⟨n8, h7⟩, hV⟩ := hV
    refine c_X5_52 hC (by decide) dX5_number_18 (Nat.le_of_ble_eq_true rfl) h7 hV (fun r5 σ6 hV => ?_)
    obtain ⟨h9, hV⟩ := hV
    refine zz_at rfl (by rw [pvo h9]) ?_
    exact z_athrow hC dX5_number_21 (zth_out hC (by rw [hQo]; exact Or.inr ⟨_, rfl, hV⟩))
  · replace hV := hV.2 hc
    refine z_iload_n hC dX5_number_11 rfl rfl ?_
    refine z_bipush (v := 57) hC dX5_number_12 rfl ?_
    refine z_icmp_le (tgt := 22) hC dX5_number_14 (by decide) (fun hc => ?_) (fun hc => ?_)
    · replace hV := hV.2 hc
      refine z_aload_n hC dX5_number_22 rfl rfl ?_
      refine z_aload_n hC dX5_number_23 rfl rfl ?_
      obtain ⟨⟨n11, h10⟩, hV⟩ := hV
      refine g_X5_26_c4 hC dX5_number_24 h10 ?_
      obtain ⟨⟨n13, h12⟩, hV⟩ := hV
      refine p_X5_56_c4 hC dX5_number_27 h12 ?_
      obtain ⟨σ14, e_σ14⟩ : ∃ z : ZS, z = sI σ2 a0 3 (zI σ2 a0 2) := ⟨_, rfl⟩
      replace hV := hV _ e_σ14
      rw [← e_σ14]
      refine z_iconst (v := 0) hC dX5_number_30 rfl ?_
      refine z_istore hC dX5_number_31 (Nat.le_of_ble_eq_true rfl) rfl rfl ?_
      refine zz_sub (L' := [some (.ref (E.1.heap.size + a0)), some (.int a1), some (.int a2), none, some (.int 0)]) ⟨rfl, rfl, rfl, rfl, trivial⟩ ?_
      exact j_33 σ14 a0 a1 a2 0 hV
    · replace hV := hV.1 hc
      refine z_aload_n hC dX5_number_17 rfl rfl ?_
      obtain ⟨⟨n65, h64⟩, hV⟩ := hV
      refine c_X5_52 hC (by decide) dX5_number_18 (Nat.le_of_ble_eq_true rfl) h64 hV (fun r62 σ63 hV => ?_)
      obtain ⟨h66, hV⟩ := hV
      refine zz_at rfl (by rw [pvo h66]) ?_
      exact z_athrow hC dX5_number_21 (zth_out hC (by rw [hQo]; exact Or.inr ⟨_, rfl, hV⟩))
