set_option maxRecDepth 100000
def VL_X4_copies_10 (K2 : ZS → Nat → Nat → Int32 → Prop) (Ret : ZS → Prop) : Nat → ZS → Nat → Nat → Int32 → Int32 → Prop
  | 0 => fun _ _ _ _ _ => False
  | k + 1 => fun σ x0 x1 x2 x3 =>
    let K10 := VL_X4_copies_10 K2 Ret k
    ∃ n4, kK NS σ x0 = (4, n4) ∧ (vp_in x2 n4 ∧ ((kP NS σ x0 (ix x2)) = some (.inl (zo (kP NS σ x0 (ix x2)))) ∧ (∃ n8, kK NS σ (zo (kP NS σ x0 (ix x2))) = (0, n8) ∧ (((x3 < (Int32.ofNat n8) → (∃ n11, kK NS σ x1 = (4, n11) ∧ (vp_in x2 n11 ∧ ((kP NS σ x1 (ix x2)) = some (.inl (zo (kP NS σ x1 (ix x2)))) ∧ (∃ n15, kK NS σ x0 = (4, n15) ∧ (vp_in x2 n15 ∧ ((kP NS σ x0 (ix x2)) = some (.inl (zo (kP NS σ x0 (ix x2)))) ∧ (∃ n19, kK NS σ (zo (kP NS σ x0 (ix x2))) = (0, n19) ∧ (vp_in x3 n19 ∧ (∃ n22, kK NS σ (zo (kP NS σ x1 (ix x2))) = (0, n22) ∧ (vp_in x3 n22 ∧ (∀ σ24 : ZS, σ24 = sI σ (zo (kP NS σ x1 (ix x2))) (ix x3) (zI σ (zo (kP NS σ x0 (ix x2))) (ix x3)) → (∀ y25 : Int32, y25 = x3 + 1 → (K10 σ24 x0 x1 x2 y25)))))))))))))) ∧ (¬ x3 < (Int32.ofNat n8) → (∀ y9 : Int32, y9 = x2 + 1 → (K2 σ x0 x1 y9))))))))
def V_X4_copies_10 (K2 : ZS → Nat → Nat → Int32 → Prop) (Ret : ZS → Prop) (σ : ZS) (x0 : Nat) (x1 : Nat) (x2 : Int32) (x3 : Int32) : Prop := ∃ k, VL_X4_copies_10 K2 Ret k σ x0 x1 x2 x3
def VL_X4_copies_2 (Ret : ZS → Prop) : Nat → ZS → Nat → Nat → Int32 → Prop
  | 0 => fun _ _ _ _ => False
  | k + 1 => fun σ x0 x1 x2 =>
    let K2 := VL_X4_copies_2 Ret k
    ∃ n2, kK NS σ x0 = (4, n2) ∧ (((x2 < (Int32.ofNat n2) → (V_X4_copies_10 K2 Ret σ x0 x1 x2 0)) ∧ (¬ x2 < (Int32.ofNat n2) → (Ret σ))))
def V_X4_copies_2 (Ret : ZS → Prop) (σ : ZS) (x0 : Nat) (x1 : Nat) (x2 : Int32) : Prop := ∃ k, VL_X4_copies_2 Ret k σ x0 x1 x2
def wp_X4_copies (σ : ZS) (a0 : Nat) (a1 : Nat) (Ret : ZS → Prop) : Prop :=
    V_X4_copies_2 Ret σ a0 a1 0
set_option maxHeartbeats 4000000 in
theorem mz_X4_copies {l : Launch} {E : ZE} (hE : EOK E) {σ : ZS} {a0 : Nat} {a1 : Nat} {Ret : ZS → Prop} (hV : wp_X4_copies σ a0 a1 Ret) : MZ l E NS yX4_copies (ws_ yX4_copies cX4_copies 4 none) 1 σ [.ref (E.1.heap.size + a0), .ref (E.1.heap.size + a1)] (rV Ret) := by
  refine MZ.start (L := [some (.ref (E.1.heap.size + a0)), some (.ref (E.1.heap.size + a1)), none, none]) hE (by decide) (Nat.le_of_ble_eq_true rfl) rfl fun C hCl hQo hC => ?_
  replace hC : Cx C E cX4_copies 4 "RightTurnsModel" "copies" none [] 1 := hC
  unfold wp_X4_copies at hV
  have j_2 : ∀ (σ : ZS) (x0 : Nat) (x1 : Nat) (x2 : Int32), V_X4_copies_2 Ret σ x0 x1 x2 → zz C E NS 4 σ 2 [some (.ref (E.1.heap.size + x0)), some (.ref (E.1.heap.size + x1)), some (.int x2), none] [] := by
    intro σ x0 x1 x2 ⟨k, hV⟩
    revert σ x0 x1 x2
    induction k with
    | zero => exact fun _ _ _ _ hV => hV.elim
    | succ k j_2 =>
      intro σ x0 x1 x2 hV
      simp only [VL_X4_copies_2] at hV
      generalize hKe2 : VL_X4_copies_2 Ret k = K2 at hV j_2
      clear hKe2
      have j_10 : ∀ (σ : ZS) (x0 : Nat) (x1 : Nat) (x2 : Int32) (x3 : Int32), V_X4_copies_10 K2 Ret σ x0 x1 x2 x3 → zz C E NS 4 σ 10 [some (.ref (E.1.heap.size + x0)), some (.ref (E.1.heap.size + x1)), some (.int x2), some (.int x3)] [] := by
        intro σ x0 x1 x2 x3 ⟨k, hV⟩
        revert σ x0 x1 x2 x3
        induction k with
        | zero => exact fun _ _ _ _ _ hV => hV.elim
        | succ k j_10 =>
          intro σ x0 x1 x2 x3 hV
          simp only [VL_X4_copies_10] at hV
          generalize hKe10 : VL_X4_copies_10 K2 Ret k = K10 at hV j_10
          clear hKe10
          refine z_iload_n hC dX4_copies_10 rfl rfl ?_
          refine z_aload_n hC dX4_copies_11 rfl rfl ?_
          refine z_iload_n hC dX4_copies_12 rfl rfl ?_
          obtain ⟨n4, h3, hV⟩ := hV
          obtain ⟨h5, hV⟩ := hV
          refine z_aald4 hC dX4_copies_13 h3 (h5) rfl ?_
          obtain ⟨h6, hV⟩ := hV
          refine zz_at rfl (by rw [pvo h6]) ?_
          obtain ⟨n8, h7, hV⟩ := hV
          refine z_alen hC dX4_copies_14 h7 (by decide) rfl ?_
          refine z_icmp_ge (tgt := 34) hC dX4_copies_15 (by decide) (fun hc => ?_) (fun hc => ?_)
          · replace hV := hV.2 hc
            obtain ⟨y9, e_y9⟩ : ∃ z : Int32, z = x2 + 1 := ⟨_, rfl⟩
            replace hV := hV _ e_y9
            refine z_iinc (v := y9) hC dX4_copies_34 rfl (by rw [e_y9]; rfl) (Nat.le_of_ble_eq_true rfl) rfl rfl ?_
            refine z_goto (tgt := 2) hC dX4_copies_37 (by decide) ?_
            refine zz_sub (L' := [some (.ref (E.1.heap.size + x0)), some (.ref (E.1.heap.size + x1)), some (.int y9), none]) ⟨rfl, rfl, rfl, trivial⟩ ?_
            exact j_2 σ x0 x1 y9 hV
          · replace hV := hV.1 hc
            refine z_aload_n hC dX4_copies_18 rfl rfl ?_
            refine z_iload_n hC dX4_copies_19 rfl rfl ?_
            obtain ⟨n11, h10, hV⟩ := hV
            obtain ⟨h12, hV⟩ := hV
            refine z_aald4 hC dX4_copies_20 h10 (h12) rfl ?_
            obtain ⟨h13, hV⟩ := hV
            refine zz_at rfl (by rw [pvo h13]) ?_
            refine z_iload_n hC dX4_copies_21 rfl rfl ?_
            refine z_aload_n hC dX4_copies_22 rfl rfl ?_
            refine z_iload_n hC dX4_copies_23 rfl rfl ?_
            obtain ⟨n15, h14, hV⟩ := hV
            obtain ⟨h16, hV⟩ := hV
            refine z_aald4 hC dX4_copies_24 h14 (h16) rfl ?_
            obtain ⟨h17, hV⟩ := hV
            refine zz_at rfl (by rw [pvo h17]) ?_
            refine z_iload_n hC dX4_copies_25 rfl rfl ?_
            obtain ⟨n19, h18, hV⟩ := hV
            obtain ⟨h20, hV⟩ := hV
            refine z_iald hC dX4_copies_26 h18 (h20) ?_
            obtain ⟨n22, h21, hV⟩ := hV
            obtain ⟨h23, hV⟩ := hV
            refine z_iast hC dX4_copies_27 h21 (h23) ?_
            obtain ⟨σ24, e_σ24⟩ : ∃ z : ZS, z = sI σ (zo (kP NS σ x1 (ix x2))) (ix x3) (zI σ (zo (kP NS σ x0 (ix x2))) (ix x3)) := ⟨_, rfl⟩
            replace hV := hV _ e_σ24
            rw [← e_σ24]
            obtain ⟨y25, e_y25⟩ : ∃ z : Int32, z = x3 + 1 := ⟨_, rfl⟩
            replace hV := hV _ e_y25
            refine z_iinc (v := y25) hC dX4_copies_28 rfl (by rw [e_y25]; rfl) (Nat.le_of_ble_eq_true rfl) rfl rfl ?_
            refine z_goto (tgt := 10) hC dX4_copies_31 (by decide) ?_
            refine zz_sub (L' := [some (.ref (E.1.heap.size + x0)), some (.ref (E.1.heap.size + x1)), some (.int x2), some (.int y25)]) ⟨rfl, rfl, rfl, rfl, trivial⟩ ?_
            exact j_10 σ24 x0 x1 x2 y25 hV
      refine z_iload_n hC dX4_copies_2 rfl rfl ?_
      refine z_aload_n hC dX4_copies_3 rfl rfl ?_
      obtain ⟨n2, h1, hV⟩ := hV
      refine z_alen hC dX4_copies_4 h1 (by decide) rfl ?_
      refine z_icmp_ge (tgt := 40) hC dX4_copies_5 (by decide) (fun hc => ?_) (fun hc => ?_)
      · replace hV := hV.2 hc
        exact z_vret hC dX4_copies_40 (by rw [hQo]; exact ⟨rfl, hV⟩)
      · replace hV := hV.1 hc
        refine z_iconst (v := 0) hC dX4_copies_8 rfl ?_
        refine z_istore_n hC dX4_copies_9 rfl (Nat.le_of_ble_eq_true rfl) rfl rfl ?_
        refine zz_sub (L' := [some (.ref (E.1.heap.size + x0)), some (.ref (E.1.heap.size + x1)), some (.int x2), some (.int 0)]) ⟨rfl, rfl, rfl, rfl, trivial⟩ ?_
        exact j_10 σ x0 x1 x2 0 hV
  refine z_iconst (v := 0) hC dX4_copies_0 rfl ?_
  refine z_istore_n hC dX4_copies_1 rfl (Nat.le_of_ble_eq_true rfl) rfl rfl ?_
  refine zz_sub (L' := [some (.ref (E.1.heap.size + a0)), some (.ref (E.1.heap.size + a1)), some (.int 0), none]) ⟨rfl, rfl, rfl, trivial⟩ ?_
  exact j_2 σ a0 a1 0 hV
theorem g_X4_134_44 {C : ZC} {E : ZE} {cc : ByteArray} {nL pc d : Nat} {nm : String} {ret : Option FieldType} {hh : List (Nat × Nat × Nat × Nat)} {σ : ZS} {L : List (Option Value)} {st : List Value} (hC : Cx C E cc nL "RightTurnsModel" nm ret hh d) (hd : decode cc pc = .ok (.getfield 134, 3)) (k : zz C E NS nL σ (pc + 3) L (.int (zI σ 44 1) :: st)) : zz C E NS nL σ pc L (.ref (E.1.heap.size + 44) :: st) :=
  z_get hC cf3 hd (k_44 σ) (k := 1) (by decide) (Or.inl q1586) (Or.inl rfl) rfl k
theorem g_X4_244_44 {C : ZC} {E : ZE} {cc : ByteArray} {nL pc d : Nat} {nm : String} {ret : Option FieldType} {hh : List (Nat × Nat × Nat × Nat)} {σ : ZS} {L : List (Option Value)} {st : List Value} (hC : Cx C E cc nL "RightTurnsModel" nm ret hh d) (hd : decode cc pc = .ok (.getfield 244, 3)) (k : zz C E NS nL σ (pc + 3) L (.int (zI σ 44 29) :: st)) : zz C E NS nL σ pc L (.ref (E.1.heap.size + 44) :: st) :=
  z_get hC cf3 hd (k_44 σ) (k := 29) (by decide) (Or.inl q1614) (Or.inl rfl) rfl k
def wp_X4_count (σ : ZS) (a1 : Int32) (Ret : Int32 → ZS → Prop) : Prop :=
    ∀ σ1 : ZS, σ1 = sI σ 44 0 0 → (((a1 = 0 → (Ret (zI σ1 44 28) σ1)) ∧ (¬ a1 = 0 → (((a1 = 1 → (Ret (zI σ1 44 29) σ1)) ∧ (¬ a1 = 1 → (((a1 = 2 → (Ret (zI σ1 44 1) σ1)) ∧ (¬ a1 = 2 → (Ret (-1) σ1))))))))))
set_option maxHeartbeats 4000000 in
theorem mz_X4_count {l : Launch} {E : ZE} (hE : EOK E) {σ : ZS} {a1 : Int32} {Ret : Int32 → ZS → Prop} (hV : wp_X4_count σ a1 Ret) : MZ l E NS yX4_count (ws_ yX4_count cX4_count 2 (some .int)) 1 σ [.ref (E.1.heap.size + 44), .int a1] (rI Ret) := by
  refine MZ.start (L := [some (.ref (E.1.heap.size + 44)), some (.int a1)]) hE (by decide) (Nat.le_of_ble_eq_true rfl) rfl fun C hCl hQo hC => ?_
  replace hC : Cx C E cX4_count 2 "RightTurnsModel" "count" (some .int) [] 1 := hC
  unfold wp_X4_count at hV
  refine z_aload_n hC dX4_count_0 rfl rfl ?_
  refine z_iconst (v := 0) hC dX4_count_1 rfl ?_
  refine p_X4_131_c3 hC dX4_count_2 (k_44 _) ?_
  obtain ⟨σ1, e_σ1⟩ : ∃ z : ZS, z = sI σ 44 0 0 := ⟨_, rfl⟩
  replace hV := hV _ e_σ1
  rw [← e_σ1]
  refine z_iload_n hC dX4_count_5 rfl rfl ?_
  refine z_if_ne (tgt := 16) hC dX4_count_6 (by decide) (fun hc => ?_) (fun hc => ?_)
  · replace hV := hV.2 hc
    refine z_iload_n hC dX4_count_16 rfl rfl ?_
    refine z_iconst (v := 1) hC dX4_count_17 rfl ?_
    refine z_icmp_ne (tgt := 28) hC dX4_count_18 (by decide) (fun hc => ?_) (fun hc => ?_)
    · replace hV := hV.2 hc
      refine z_iload_n hC dX4_count_28 rfl rfl ?_
      refine z_iconst (v := 2) hC dX4_count_29 rfl ?_
      refine z_icmp_ne (tgt := 40) hC dX4_count_30 (by decide) (fun hc => ?_) (fun hc => ?_)
      · replace hV := hV.2 hc
        refine z_iconst (v := (-1)) hC dX4_count_40 rfl ?_
        exact z_iret hC dX4_count_41 rfl (by rw [hQo]; exact ⟨_, rfl, hV⟩)
      · replace hV := hV.1 hc
        refine z_aload_n hC dX4_count_33 rfl rfl ?_
        refine g_X4_134_44 hC dX4_count_34 ?_
        refine z_goto (tgt := 41) hC dX4_count_37 (by decide) ?_
        exact z_iret hC dX4_count_41 rfl (by rw [hQo]; exact ⟨_, rfl, hV⟩)
    · replace hV := hV.1 hc
      refine z_aload_n hC dX4_count_21 rfl rfl ?_
      refine g_X4_244_44 hC dX4_count_22 ?_
      refine z_goto (tgt := 41) hC dX4_count_25 (by decide) ?_
      exact z_iret hC dX4_count_41 rfl (by rw [hQo]; exact ⟨_, rfl, hV⟩)
  · replace hV := hV.1 hc
    refine z_aload_n hC dX4_count_9 rfl rfl ?_
    refine g_X4_241_44 hC dX4_count_10 ?_
    refine z_goto (tgt := 41) hC dX4_count_13 (by decide) ?_
    exact z_iret hC dX4_count_41 rfl (by rw [hQo]; exact ⟨_, rfl, hV⟩)
theorem g_X4_40_44 {C : ZC} {E : ZE} {cc : ByteArray} {nL pc d : Nat} {nm : String} {ret : Option FieldType} {hh : List (Nat × Nat × Nat × Nat)} {σ : ZS} {L : List (Option Value)} {st : List Value} (hC : Cx C E cc nL "RightTurnsModel" nm ret hh d) (hd : decode cc pc = .ok (.getfield 40, 3)) (k : zz C E NS nL σ (pc + 3) L (.ref (E.1.heap.size + 145) :: st)) : zz C E NS nL σ pc L (.ref (E.1.heap.size + 44) :: st) :=
  z_get hC cf3 hd (k_44 σ) (k := 16) (by decide) (Or.inl q1601) (Or.inl rfl) rfl k
theorem g_X4_80_44 {C : ZC} {E : ZE} {cc : ByteArray} {nL pc d : Nat} {nm : String} {ret : Option FieldType} {hh : List (Nat × Nat × Nat × Nat)} {σ : ZS} {L : List (Option Value)} {st : List Value} (hC : Cx C E cc nL "RightTurnsModel" nm ret hh d) (hd : decode cc pc = .ok (.getfield 80, 3)) (k : zz C E NS nL σ (pc + 3) L (.ref (E.1.heap.size + 1148) :: st)) : zz C E NS nL σ pc L (.ref (E.1.heap.size + 44) :: st) :=
  z_get hC cf3 hd (k_44 σ) (k := 36) (by decide) (Or.inl q1621) (Or.inl rfl) rfl k
theorem g_X4_83_44 {C : ZC} {E : ZE} {cc : ByteArray} {nL pc d : Nat} {nm : String} {ret : Option FieldType} {hh : List (Nat × Nat × Nat × Nat)} {σ : ZS} {L : List (Option Value)} {st : List Value} (hC : Cx C E cc nL "RightTurnsModel" nm ret hh d) (hd : decode cc pc = .ok (.getfield 83, 3)) (k : zz C E NS nL σ (pc + 3) L (.ref (E.1.heap.size + 1161) :: st)) : zz C E NS nL σ pc L (.ref (E.1.heap.size + 44) :: st) :=
  z_get hC cf3 hd (k_44 σ) (k := 37) (by decide) (Or.inl q1622) (Or.inl rfl) rfl k
def VL_X4_layRides_67 (K10 : ZS → Int32 → Prop) (Ret : ZS → Prop) : Nat → ZS → Int32 → Int32 → Prop
  | 0 => fun _ _ _ => False
  | k + 1 => fun σ x1 x2 =>
    let K67 := VL_X4_layRides_67 K10 Ret k
    ((x2 = (-1) → (∀ y12 : Int32, y12 = x1 + 1 → (K10 σ y12))) ∧ (¬ x2 = (-1) → (vp_in x1 12 ∧ (vp_in x1 12 ∧ (vp_in (zI σ 1161 (ix x1)) 48 ∧ (∀ σ16 : ZS, σ16 = sI σ (1148 + 1 + ix x1) (ix (zI σ 1161 (ix x1))) x2 → (vp_in x1 12 ∧ (vp_in x1 12 ∧ (∀ σ19 : ZS, σ19 = sI σ16 1161 (ix x1) ((zI σ16 1161 (ix x1)) + 1) → (vp_in x1 12 ∧ (wp_X4_nextArc σ19 x2 (zI σ19 (145 + 1 + ix x1) (ix 1)) (fun r21 σ22 => K67 σ22 x1 r21))))))))))))
def V_X4_layRides_67 (K10 : ZS → Int32 → Prop) (Ret : ZS → Prop) (σ : ZS) (x1 : Int32) (x2 : Int32) : Prop := ∃ k, VL_X4_layRides_67 K10 Ret k σ x1 x2
def VL_X4_layRides_10 (Ret : ZS → Prop) : Nat → ZS → Int32 → Prop
  | 0 => fun _ _ => False
  | k + 1 => fun σ x1 =>
    let K10 := VL_X4_layRides_10 Ret k
    ((x1 < (zI σ 47 (ix 3)) → (vp_in x1 12 ∧ (∀ σ4 : ZS, σ4 = sI σ 1161 (ix x1) 0 → (vp_in x1 12 ∧ (vp_in x1 12 ∧ (wp_X4_rideOf σ4 (zI σ4 (145 + 1 + ix x1) (ix 0)) (zI σ4 (145 + 1 + ix x1) (ix 1)) (fun r7 σ8 => ((r7 = (-1) → (∀ y23 : Int32, y23 = x1 + 1 → (K10 σ8 y23))) ∧ (¬ r7 = (-1) → (vp_in x1 12 ∧ (wp_X4_firstArc σ8 (zI σ8 (145 + 1 + ix x1) (ix 0)) (fun r10 σ11 => V_X4_layRides_67 K10 Ret σ11 x1 r10)))))))))))) ∧ (¬ x1 < (zI σ 47 (ix 3)) → (Ret σ)))
def V_X4_layRides_10 (Ret : ZS → Prop) (σ : ZS) (x1 : Int32) : Prop := ∃ k, VL_X4_layRides_10 Ret k σ x1
def wp_X4_layRides (σ : ZS) (Ret : ZS → Prop) : Prop :=
    wp_X4_asks σ (zI σ 44 19) (fun σ2 => V_X4_layRides_10 Ret σ2 0)
set_option maxHeartbeats 4000000 in
theorem mz_X4_layRides {l : Launch} {E : ZE} (hE : EOK E) {σ : ZS} {Ret : ZS → Prop} (hV : wp_X4_layRides σ Ret) : MZ l E NS yX4_layRides (ws_ yX4_layRides cX4_layRides 3 none) 7 σ [.ref (E.1.heap.size + 44)] (rV Ret) := by
  refine MZ.start (L := [some (.ref (E.1.heap.size + 44)), none, none]) hE (by decide) (Nat.le_of_ble_eq_true rfl) rfl fun C hCl hQo hC => ?_
  replace hC : Cx C E cX4_layRides 3 "RightTurnsModel" "layRides" none [] 7 := hC
  unfold wp_X4_layRides at hV
  have j_10 : ∀ (σ : ZS) (x1 : Int32), V_X4_layRides_10 Ret σ x1 → zz C E NS 3 σ 10 [some (.ref (E.1.heap.size + 44)), some (.int x1), none] [] := by
    intro σ x1 ⟨k, hV⟩
    revert σ x1
    induction k with
    | zero => exact fun _ _ hV => hV.elim
    | succ k j_10 =>
      intro σ x1 hV
      simp only [VL_X4_layRides_10] at hV
      generalize hKe10 : VL_X4_layRides_10 Ret k = K10 at hV j_10
      clear hKe10
      have j_67 : ∀ (σ : ZS) (x1 : Int32) (x2 : Int32), V_X4_layRides_67 K10 Ret σ x1 x2 → zz C E NS 3 σ 67 [some (.ref (E.1.heap.size + 44)), some (.int x1), some (.int x2)] [] := by
        intro σ x1 x2 ⟨k, hV⟩
        revert σ x1 x2
        induction k with
        | zero => exact fun _ _ _ hV => hV.elim
        | succ k j_67 =>
          intro σ x1 x2 hV
          simp only [VL_X4_layRides_67] at hV
          generalize hKe67 : VL_X4_layRides_67 K10 Ret k = K67 at hV j_67
          clear hKe67
          refine z_iload_n hC dX4_layRides_67 rfl rfl ?_
          refine z_iconst (v := (-1)) hC dX4_layRides_68 rfl ?_
          refine z_icmp_eq (tgt := 113) hC dX4_layRides_69 (by decide) (fun hc => ?_) (fun hc => ?_)
          · replace hV := hV.1 hc
            obtain ⟨y12, e_y12⟩ : ∃ z : Int32, z = x1 + 1 := ⟨_, rfl⟩
            replace hV := hV _ e_y12
            refine z_iinc (v := y12) hC dX4_layRides_113 rfl (by rw [e_y12]; rfl) (Nat.le_of_ble_eq_true rfl) rfl rfl ?_
            refine z_goto (tgt := 10) hC dX4_layRides_116 (by decide) ?_
            refine zz_sub (L' := [some (.ref (E.1.heap.size + 44)), some (.int y12), none]) ⟨rfl, rfl, trivial⟩ ?_
            exact j_10 σ y12 hV
          · replace hV := hV.2 hc
            refine z_aload_n hC dX4_layRides_72 rfl rfl ?_
            refine g_X4_80_44 hC dX4_layRides_73 ?_
            refine z_iload_n hC dX4_layRides_76 rfl rfl ?_
            obtain ⟨h13, hV⟩ := hV
            refine z_aalS hC dX4_layRides_77 (k_1148 _) (by decide) ps_1148 h13 ?_
            refine z_aload_n hC dX4_layRides_78 rfl rfl ?_
            refine g_X4_83_44 hC dX4_layRides_79 ?_
            refine z_iload_n hC dX4_layRides_82 rfl rfl ?_
            obtain ⟨h14, hV⟩ := hV
            refine z_iald hC dX4_layRides_83 (k_1161 _) (h14) ?_
            refine z_iload_n hC dX4_layRides_84 rfl rfl ?_
            obtain ⟨h15, hV⟩ := hV
            refine z_iast hC dX4_layRides_85 (kr_1148 _ (ix_lt h13)) (h15) ?_
            obtain ⟨σ16, e_σ16⟩ : ∃ z : ZS, z = sI σ (1148 + 1 + ix x1) (ix (zI σ 1161 (ix x1))) x2 := ⟨_, rfl⟩
            replace hV := hV _ e_σ16
            rw [← e_σ16]
            refine z_aload_n hC dX4_layRides_86 rfl rfl ?_
            refine g_X4_83_44 hC dX4_layRides_87 ?_
            refine z_iload_n hC dX4_layRides_90 rfl rfl ?_
            refine z_dup2 hC dX4_layRides_91 rfl rfl ?_
            obtain ⟨h17, hV⟩ := hV
            refine z_iald hC dX4_layRides_92 (k_1161 _) (h17) ?_
            refine z_iconst (v := 1) hC dX4_layRides_93 rfl ?_
            refine z_iadd hC dX4_layRides_94 ?_
            obtain ⟨h18, hV⟩ := hV
            refine z_iast hC dX4_layRides_95 (k_1161 _) (h18) ?_
            obtain ⟨σ19, e_σ19⟩ : ∃ z : ZS, z = sI σ16 1161 (ix x1) ((zI σ16 1161 (ix x1)) + 1) := ⟨_, rfl⟩
            replace hV := hV _ e_σ19
            rw [← e_σ19]
            refine z_aload_n hC dX4_layRides_96 rfl rfl ?_
            refine z_iload_n hC dX4_layRides_97 rfl rfl ?_
            refine z_aload_n hC dX4_layRides_98 rfl rfl ?_
            refine g_X4_40_44 hC dX4_layRides_99 ?_
            refine z_iload_n hC dX4_layRides_102 rfl rfl ?_
            obtain ⟨h20, hV⟩ := hV
            refine z_aalS hC dX4_layRides_103 (k_145 _) (by decide) ps_145 h20 ?_
            refine z_iconst (v := 1) hC dX4_layRides_104 rfl ?_
            refine z_iald hC dX4_layRides_105 (kr_145 _ (ix_lt h20)) (in_dec rfl) ?_
            refine c_X4_316 hC (by decide) dX4_layRides_106 (Nat.le_of_ble_eq_true rfl) hV (fun r21 σ22 hV => ?_)
            refine z_istore_n hC dX4_layRides_109 rfl (Nat.le_of_ble_eq_true rfl) rfl rfl ?_
            refine z_goto (tgt := 67) hC dX4_layRides_110 (by decide) ?_
            refine zz_sub (L' := [some (.ref (E.1.heap.size + 44)), some (.int x1), some (.int r21)]) ⟨rfl, rfl, rfl, trivial⟩ ?_
            exact j_67 σ22 x1 r21 hV
      refine z_iload_n hC dX4_layRides_10 rfl rfl ?_
      refine z_aload_n hC dX4_layRides_11 rfl rfl ?_
      refine g_X4_20_44 hC dX4_layRides_12 ?_
      refine z_iconst (v := 3) hC dX4_layRides_15 rfl ?_
      refine z_iald hC dX4_layRides_16 (k_47 _) (in_dec rfl) ?_
      refine z_icmp_ge (tgt := 119) hC dX4_layRides_17 (by decide) (fun hc => ?_) (fun hc => ?_)
      · replace hV := hV.2 hc
        exact z_vret hC dX4_layRides_119 (by rw [hQo]; exact ⟨rfl, hV⟩)
      · replace hV := hV.1 hc
        refine z_aload_n hC dX4_layRides_20 rfl rfl ?_
        refine g_X4_83_44 hC dX4_layRides_21 ?_
        refine z_iload_n hC dX4_layRides_24 rfl rfl ?_
        refine z_iconst (v := 0) hC dX4_layRides_25 rfl ?_
        obtain ⟨h3, hV⟩ := hV
        refine z_iast hC dX4_layRides_26 (k_1161 _) (h3) ?_
        obtain ⟨σ4, e_σ4⟩ : ∃ z : ZS, z = sI σ 1161 (ix x1) 0 := ⟨_, rfl⟩
        replace hV := hV _ e_σ4
        rw [← e_σ4]
        refine z_aload_n hC dX4_layRides_27 rfl rfl ?_
        refine z_aload_n hC dX4_layRides_28 rfl rfl ?_
        refine g_X4_40_44 hC dX4_layRides_29 ?_
        refine z_iload_n hC dX4_layRides_32 rfl rfl ?_
        obtain ⟨h5, hV⟩ := hV
        refine z_aalS hC dX4_layRides_33 (k_145 _) (by decide) ps_145 h5 ?_
        refine z_iconst (v := 0) hC dX4_layRides_34 rfl ?_
        refine z_iald hC dX4_layRides_35 (kr_145 _ (ix_lt h5)) (in_dec rfl) ?_
        refine z_aload_n hC dX4_layRides_36 rfl rfl ?_
        refine g_X4_40_44 hC dX4_layRides_37 ?_
        refine z_iload_n hC dX4_layRides_40 rfl rfl ?_
        obtain ⟨h6, hV⟩ := hV
        refine z_aalS hC dX4_layRides_41 (k_145 _) (by decide) ps_145 h6 ?_
        refine z_iconst (v := 1) hC dX4_layRides_42 rfl ?_
        refine z_iald hC dX4_layRides_43 (kr_145 _ (ix_lt h6)) (in_dec rfl) ?_
        refine c_X4_313 hC (by decide) dX4_layRides_44 (Nat.le_of_ble_eq_true rfl) hV (fun r7 σ8 hV => ?_)
        refine z_iconst (v := (-1)) hC dX4_layRides_47 rfl ?_
        refine z_icmp_ne (tgt := 54) hC dX4_layRides_48 (by decide) (fun hc => ?_) (fun hc => ?_)
        · replace hV := hV.2 hc
          refine z_aload_n hC dX4_layRides_54 rfl rfl ?_
          refine z_aload_n hC dX4_layRides_55 rfl rfl ?_
          refine g_X4_40_44 hC dX4_layRides_56 ?_
          refine z_iload_n hC dX4_layRides_59 rfl rfl ?_
          obtain ⟨h9, hV⟩ := hV
          refine z_aalS hC dX4_layRides_60 (k_145 _) (by decide) ps_145 h9 ?_
          refine z_iconst (v := 0) hC dX4_layRides_61 rfl ?_
          refine z_iald hC dX4_layRides_62 (kr_145 _ (ix_lt h9)) (in_dec rfl) ?_
          refine c_X4_304 hC (by decide) dX4_layRides_63 (Nat.le_of_ble_eq_true rfl) hV (fun r10 σ11 hV => ?_)
          refine z_istore_n hC dX4_layRides_66 rfl (Nat.le_of_ble_eq_true rfl) rfl rfl ?_
          refine zz_sub (L' := [some (.ref (E.1.heap.size + 44)), some (.int x1), some (.int r10)]) ⟨rfl, rfl, rfl, trivial⟩ ?_
          exact j_67 σ11 x1 r10 hV
        · replace hV := hV.1 hc
          refine z_goto (tgt := 113) hC dX4_layRides_51 (by decide) ?_
          obtain ⟨y23, e_y23⟩ : ∃ z : Int32, z = x1 + 1 := ⟨_, rfl⟩
          replace hV := hV _ e_y23
          refine z_iinc (v := y23) hC dX4_layRides_113 rfl (by rw [e_y23]; rfl) (Nat.le_of_ble_eq_true rfl) rfl rfl ?_
          refine z_goto (tgt := 10) hC dX4_layRides_116 (by decide) ?_
          refine zz_sub (L' := [some (.ref (E.1.heap.size + 44)), some (.int y23), none]) ⟨rfl, rfl, trivial⟩ ?_
          exact j_10 σ8 y23 hV
  refine z_aload_n hC dX4_layRides_0 rfl rfl ?_
  refine z_aload_n hC dX4_layRides_1 rfl rfl ?_
  refine g_X4_238_44 hC dX4_layRides_2 ?_
  refine c_X4_310 hC (by decide) dX4_layRides_5 (Nat.le_of_ble_eq_true rfl) hV (fun σ2 hV => ?_)
  refine z_iconst (v := 0) hC dX4_layRides_8 rfl ?_
  refine z_istore_n hC dX4_layRides_9 rfl (Nat.le_of_ble_eq_true rfl) rfl rfl ?_
  refine zz_sub (L' := [some (.ref (E.1.heap.size + 44)), some (.int 0), none]) ⟨rfl, rfl, trivial⟩ ?_
  exact j_10 σ2 0 hV
theorem cw_X4_layRides : CodeW yX4_layRides (ws_ yX4_layRides cX4_layRides 3 none) 3 := ⟨fun w h => (List.mem_cons.mp h).elim (fun e => e ▸ q2117) id, Or.inl ⟨_, _, q2117⟩, q138, by decide, by decide⟩
theorem c_X4_372 {C : ZC} {E : ZE} {cc : ByteArray} {nL pc d : Nat} {nm : String} {ret : Option FieldType} {hh : List (Nat × Nat × Nat × Nat)} {σ : ZS} {L : List (Option Value)} {st : List Value} {Ret : ZS → Prop} (hC : Cx C E cc nL "RightTurnsModel" nm ret hh d) (hdd : 7 + 1 ≤ d) (hd : decode cc pc = .ok (.invokevirtual 372, 3)) (hW : (st.map fun v => v.category).sum ≤ 8) (hV : wp_X4_layRides σ Ret) (k : ∀ σ', Ret σ' → zz C E NS nL σ' (pc + 3) L st) : zz C E NS nL σ pc L (.ref (E.1.heap.size + 44) :: st) :=
  z_callVG hC cf3 cw_X4_layRides hdd (by decide) (mz_X4_layRides (cxE hC) hV) hd (k_44 σ) q2114 q2116 qs106 (np := 0) rfl rfl hW rfl (kV k)
def VL_X4_counts_52 (K36 : ZS → Int32 → Int32 → Int32 → Prop) (Ret : Int32 → ZS → Prop) : Nat → ZS → Int32 → Int32 → Int32 → Int32 → Int32 → Prop
  | 0 => fun _ _ _ _ _ _ => False
  | k + 1 => fun σ x1 x2 x3 x4 x5 =>
    let K52 := VL_X4_counts_52 K36 Ret k
    vp_in x3 12 ∧ (((x5 < (zI σ 1161 (ix x3)) → (((x4 = 0 → (vp_in x3 12 ∧ (vp_in x5 48 ∧ (((((zI σ (1148 + 1 + ix x3) (ix x5)) / 2) = x1 → (∀ y17 : Int32, y17 = x5 + 1 → (K52 σ x1 x2 x3 1 y17))) ∧ (¬ ((zI σ (1148 + 1 + ix x3) (ix x5)) / 2) = x1 → (∀ y16 : Int32, y16 = x5 + 1 → (K52 σ x1 x2 x3 0 y16)))))))) ∧ (¬ x4 = 0 → (∀ y13 : Int32, y13 = x5 + 1 → (K52 σ x1 x2 x3 1 y13)))))) ∧ (¬ x5 < (zI σ 1161 (ix x3)) → (((x4 = 0 → (∀ y9 : Int32, y9 = x2 + 0 → (∀ y10 : Int32, y10 = x3 + 1 → (K36 σ x1 y9 y10)))) ∧ (¬ x4 = 0 → (∀ y11 : Int32, y11 = x2 + 1 → (∀ y12 : Int32, y12 = x3 + 1 → (K36 σ x1 y11 y12)))))))))
def V_X4_counts_52 (K36 : ZS → Int32 → Int32 → Int32 → Prop) (Ret : Int32 → ZS → Prop) (σ : ZS) (x1 : Int32) (x2 : Int32) (x3 : Int32) (x4 : Int32) (x5 : Int32) : Prop := ∃ k, VL_X4_counts_52 K36 Ret k σ x1 x2 x3 x4 x5
def VL_X4_counts_36 (Ret : Int32 → ZS → Prop) : Nat → ZS → Int32 → Int32 → Int32 → Prop
  | 0 => fun _ _ _ _ => False
  | k + 1 => fun σ x1 x2 x3 =>
    let K36 := VL_X4_counts_36 Ret k
    ((x3 < (zI σ 47 (ix 3)) → (V_X4_counts_52 K36 Ret σ x1 x2 x3 0 0)) ∧ (¬ x3 < (zI σ 47 (ix 3)) → (Ret x2 σ)))
def V_X4_counts_36 (Ret : Int32 → ZS → Prop) (σ : ZS) (x1 : Int32) (x2 : Int32) (x3 : Int32) : Prop := ∃ k, VL_X4_counts_36 Ret k σ x1 x2 x3
def V_X4_counts_19 (Ret : Int32 → ZS → Prop) (σ : ZS) (x1 : Int32) (s0 : Int32) : Prop :=
    wp_X4_bad σ s0 1 (fun r4 σ5 => ((r4 = 0 → (wp_X4_layRides σ5 (fun σ7 => V_X4_counts_36 Ret σ7 x1 0 0))) ∧ (¬ r4 = 0 → (Ret 0 σ5))))
def wp_X4_counts (σ : ZS) (a1 : Int32) (Ret : Int32 → ZS → Prop) : Prop :=
    ∀ σ1 : ZS, σ1 = sI σ 44 0 0 → (wp_X4_isStreet σ1 a1 (fun r2 σ3 => ((r2 = 0 → (V_X4_counts_19 Ret σ3 a1 1)) ∧ (¬ r2 = 0 → (V_X4_counts_19 Ret σ3 a1 0)))))
set_option maxHeartbeats 4000000 in
theorem mz_X4_counts {l : Launch} {E : ZE} (hE : EOK E) {σ : ZS} {a1 : Int32} {Ret : Int32 → ZS → Prop} (hV : wp_X4_counts σ a1 Ret) : MZ l E NS yX4_counts (ws_ yX4_counts cX4_counts 6 (some .int)) 8 σ [.ref (E.1.heap.size + 44), .int a1] (rI Ret) := by
  refine MZ.start (L := [some (.ref (E.1.heap.size + 44)), some (.int a1), none, none, none, none]) hE (by decide) (Nat.le_of_ble_eq_true rfl) rfl fun C hCl hQo hC => ?_
  replace hC : Cx C E cX4_counts 6 "RightTurnsModel" "counts" (some .int) [] 8 := hC
  unfold wp_X4_counts at hV
  have j_36 : ∀ (σ : ZS) (x1 : Int32) (x2 : Int32) (x3 : Int32), V_X4_counts_36 Ret σ x1 x2 x3 → zz C E NS 6 σ 36 [some (.ref (E.1.heap.size + 44)), some (.int x1), some (.int x2), some (.int x3), none, none] [] := by
    intro σ x1 x2 x3 ⟨k, hV⟩
    revert σ x1 x2 x3
    induction k with
    | zero => exact fun _ _ _ _ hV => hV.elim
    | succ k j_36 =>
      intro σ x1 x2 x3 hV
      simp only [VL_X4_counts_36] at hV
      generalize hKe36 : VL_X4_counts_36 Ret k = K36 at hV j_36
      clear hKe36
      have j_52 : ∀ (σ : ZS) (x1 : Int32) (x2 : Int32) (x3 : Int32) (x4 : Int32) (x5 : Int32), V_X4_counts_52 K36 Ret σ x1 x2 x3 x4 x5 → zz C E NS 6 σ 52 [some (.ref (E.1.heap.size + 44)), some (.int x1), some (.int x2), some (.int x3), some (.int x4), some (.int x5)] [] := by
        intro σ x1 x2 x3 x4 x5 ⟨k, hV⟩
        revert σ x1 x2 x3 x4 x5
        induction k with
        | zero => exact fun _ _ _ _ _ _ hV => hV.elim
        | succ k j_52 =>
          intro σ x1 x2 x3 x4 x5 hV
          simp only [VL_X4_counts_52] at hV
          generalize hKe52 : VL_X4_counts_52 K36 Ret k = K52 at hV j_52
          clear hKe52
          refine z_iload hC dX4_counts_52 rfl ?_
          refine z_aload_n hC dX4_counts_54 rfl rfl ?_
          refine g_X4_83_44 hC dX4_counts_55 ?_
          refine z_iload_n hC dX4_counts_58 rfl rfl ?_
          obtain ⟨h8, hV⟩ := hV
          refine z_iald hC dX4_counts_59 (k_1161 _) (h8) ?_
          refine z_icmp_ge (tgt := 96) hC dX4_counts_60 (by decide) (fun hc => ?_) (fun hc => ?_)
          · replace hV := hV.2 hc
            refine z_iload_n hC dX4_counts_96 rfl rfl ?_
            refine z_iload hC dX4_counts_97 rfl ?_
            refine z_if_eq (tgt := 106) hC dX4_counts_99 (by decide) (fun hc => ?_) (fun hc => ?_)
            · replace hV := hV.1 hc
              refine z_iconst (v := 0) hC dX4_counts_106 rfl ?_
              refine z_iadd hC dX4_counts_107 ?_
              obtain ⟨y9, e_y9⟩ : ∃ z, z = x2 + 0 := ⟨_, rfl⟩
              rw [← e_y9]
              replace hV := hV _ e_y9
              refine z_istore_n hC dX4_counts_108 rfl (Nat.le_of_ble_eq_true rfl) rfl rfl ?_
              obtain ⟨y10, e_y10⟩ : ∃ z : Int32, z = x3 + 1 := ⟨_, rfl⟩
              replace hV := hV _ e_y10
              refine z_iinc (v := y10) hC dX4_counts_109 rfl (by rw [e_y10]; rfl) (Nat.le_of_ble_eq_true rfl) rfl rfl ?_
              refine z_goto (tgt := 36) hC dX4_counts_112 (by decide) ?_
              refine zz_sub (L' := [some (.ref (E.1.heap.size + 44)), some (.int x1), some (.int y9), some (.int y10), none, none]) ⟨rfl, rfl, rfl, rfl, trivial⟩ ?_
              exact j_36 σ x1 y9 y10 hV
            · replace hV := hV.2 hc
              refine z_iconst (v := 1) hC dX4_counts_102 rfl ?_
              refine z_goto (tgt := 107) hC dX4_counts_103 (by decide) ?_
              refine z_iadd hC dX4_counts_107 ?_
              obtain ⟨y11, e_y11⟩ : ∃ z, z = x2 + 1 := ⟨_, rfl⟩
              rw [← e_y11]
              replace hV := hV _ e_y11
              refine z_istore_n hC dX4_counts_108 rfl (Nat.le_of_ble_eq_true rfl) rfl rfl ?_
              obtain ⟨y12, e_y12⟩ : ∃ z : Int32, z = x3 + 1 := ⟨_, rfl⟩
              replace hV := hV _ e_y12
              refine z_iinc (v := y12) hC dX4_counts_109 rfl (by rw [e_y12]; rfl) (Nat.le_of_ble_eq_true rfl) rfl rfl ?_
              refine z_goto (tgt := 36) hC dX4_counts_112 (by decide) ?_
              refine zz_sub (L' := [some (.ref (E.1.heap.size + 44)), some (.int x1), some (.int y11), some (.int y12), none, none]) ⟨rfl, rfl, rfl, rfl, trivial⟩ ?_
              exact j_36 σ x1 y11 y12 hV
          · replace hV := hV.1 hc
            refine z_iload hC dX4_counts_63 rfl ?_
            refine z_if_ne (tgt := 83) hC dX4_counts_65 (by decide) (fun hc => ?_) (fun hc => ?_)
            · replace hV := hV.2 hc
              refine z_iconst (v := 1) hC dX4_counts_83 rfl ?_
              refine z_goto (tgt := 88) hC dX4_counts_84 (by decide) ?_
              refine z_istore hC dX4_counts_88 (Nat.le_of_ble_eq_true rfl) rfl rfl ?_
              obtain ⟨y13, e_y13⟩ : ∃ z : Int32, z = x5 + 1 := ⟨_, rfl⟩
              replace hV := hV _ e_y13
              refine z_iinc (v := y13) hC dX4_counts_90 rfl (by rw [e_y13]; rfl) (Nat.le_of_ble_eq_true rfl) rfl rfl ?_
              refine z_goto (tgt := 52) hC dX4_counts_93 (by decide) ?_
              refine zz_sub (L' := [some (.ref (E.1.heap.size + 44)), some (.int x1), some (.int x2), some (.int x3), some (.int 1), some (.int y13)]) ⟨rfl, rfl, rfl, rfl, rfl, rfl, trivial⟩ ?_
              exact j_52 σ x1 x2 x3 1 y13 hV
            · replace hV := hV.1 hc
              refine z_aload_n hC dX4_counts_68 rfl rfl ?_
              refine g_X4_80_44 hC dX4_counts_69 ?_
              refine z_iload_n hC dX4_counts_72 rfl rfl ?_
              obtain ⟨h14, hV⟩ := hV
              refine z_aalS hC dX4_counts_73 (k_1148 _) (by decide) ps_1148 h14 ?_
              refine z_iload hC dX4_counts_74 rfl ?_
              obtain ⟨h15, hV⟩ := hV
              refine z_iald hC dX4_counts_76 (kr_1148 _ (ix_lt h14)) (h15) ?_
              refine z_iconst (v := 2) hC dX4_counts_77 rfl ?_
              refine z_idiv hC dX4_counts_78 (by decide) ?_
              refine z_iload_n hC dX4_counts_79 rfl rfl ?_
              refine z_icmp_ne (tgt := 87) hC dX4_counts_80 (by decide) (fun hc => ?_) (fun hc => ?_)
              · replace hV := hV.2 hc
                refine z_iconst (v := 0) hC dX4_counts_87 rfl ?_
                refine z_istore hC dX4_counts_88 (Nat.le_of_ble_eq_true rfl) rfl rfl ?_
                obtain ⟨y16, e_y16⟩ : ∃ z : Int32, z = x5 + 1 := ⟨_, rfl⟩
                replace hV := hV _ e_y16
                refine z_iinc (v := y16) hC dX4_counts_90 rfl (by rw [e_y16]; rfl) (Nat.le_of_ble_eq_true rfl) rfl rfl ?_
                refine z_goto (tgt := 52) hC dX4_counts_93 (by decide) ?_
                refine zz_sub (L' := [some (.ref (E.1.heap.size + 44)), some (.int x1), some (.int x2), some (.int x3), some (.int 0), some (.int y16)]) ⟨rfl, rfl, rfl, rfl, rfl, rfl, trivial⟩ ?_
                exact j_52 σ x1 x2 x3 0 y16 hV
              · replace hV := hV.1 hc
                refine z_iconst (v := 1) hC dX4_counts_83 rfl ?_
                refine z_goto (tgt := 88) hC dX4_counts_84 (by decide) ?_
                refine z_istore hC dX4_counts_88 (Nat.le_of_ble_eq_true rfl) rfl rfl ?_
                obtain ⟨y17, e_y17⟩ : ∃ z : Int32, z = x5 + 1 := ⟨_, rfl⟩
                replace hV := hV _ e_y17
                refine z_iinc (v := y17) hC dX4_counts_90 rfl (by rw [e_y17]; rfl) (Nat.le_of_ble_eq_true rfl) rfl rfl ?_
                refine z_goto (tgt := 52) hC dX4_counts_93 (by decide) ?_
                refine zz_sub (L' := [some (.ref (E.1.heap.size + 44)), some (.int x1), some (.int x2), some (.int x3), some (.int 1), some (.int y17)]) ⟨rfl, rfl, rfl, rfl, rfl, rfl, trivial⟩ ?_
                exact j_52 σ x1 x2 x3 1 y17 hV
      refine z_iload_n hC dX4_counts_36 rfl rfl ?_
      refine z_aload_n hC dX4_counts_37 rfl rfl ?_
      refine g_X4_20_44 hC dX4_counts_38 ?_
      refine z_iconst (v := 3) hC dX4_counts_41 rfl ?_
      refine z_iald hC dX4_counts_42 (k_47 _) (in_dec rfl) ?_
      refine z_icmp_ge (tgt := 115) hC dX4_counts_43 (by decide) (fun hc => ?_) (fun hc => ?_)
      · replace hV := hV.2 hc
        refine z_iload_n hC dX4_counts_115 rfl rfl ?_
        exact z_iret hC dX4_counts_116 rfl (by rw [hQo]; exact ⟨_, rfl, hV⟩)
      · replace hV := hV.1 hc
        refine z_iconst (v := 0) hC dX4_counts_46 rfl ?_
        refine z_istore hC dX4_counts_47 (Nat.le_of_ble_eq_true rfl) rfl rfl ?_
        refine z_iconst (v := 0) hC dX4_counts_49 rfl ?_
        refine z_istore hC dX4_counts_50 (Nat.le_of_ble_eq_true rfl) rfl rfl ?_
        refine zz_sub (L' := [some (.ref (E.1.heap.size + 44)), some (.int x1), some (.int x2), some (.int x3), some (.int 0), some (.int 0)]) ⟨rfl, rfl, rfl, rfl, rfl, rfl, trivial⟩ ?_
        exact j_52 σ x1 x2 x3 0 0 hV
  have j_19 : ∀ (σ : ZS) (x1 : Int32) (s0 : Int32), V_X4_counts_19 Ret σ x1 s0 → zz C E NS 6 σ 19 [some (.ref (E.1.heap.size + 44)), some (.int x1), none, none, none, none] [.int s0, .ref (E.1.heap.size + 44)] := by
    intro σ x1 s0 hV
    unfold V_X4_counts_19 at hV
    refine z_iconst (v := 1) hC dX4_counts_19 rfl ?_
    refine c_X4_227 hC (by decide) dX4_counts_20 (Nat.le_of_ble_eq_true rfl) hV (fun r4 σ5 hV => ?_)
    refine z_if_eq (tgt := 28) hC dX4_counts_23 (by decide) (fun hc => ?_) (fun hc => ?_)
    · replace hV := hV.1 hc
      refine z_aload_n hC dX4_counts_28 rfl rfl ?_
      refine c_X4_372 hC (by decide) dX4_counts_29 (Nat.le_of_ble_eq_true rfl) hV (fun σ7 hV => ?_)
      refine z_iconst (v := 0) hC dX4_counts_32 rfl ?_
      refine z_istore_n hC dX4_counts_33 rfl (Nat.le_of_ble_eq_true rfl) rfl rfl ?_
      refine z_iconst (v := 0) hC dX4_counts_34 rfl ?_
      refine z_istore_n hC dX4_counts_35 rfl (Nat.le_of_ble_eq_true rfl) rfl rfl ?_
      refine zz_sub (L' := [some (.ref (E.1.heap.size + 44)), some (.int x1), some (.int 0), some (.int 0), none, none]) ⟨rfl, rfl, rfl, rfl, trivial⟩ ?_
      exact j_36 σ7 x1 0 0 hV
    · replace hV := hV.2 hc
      refine z_iconst (v := 0) hC dX4_counts_26 rfl ?_
      exact z_iret hC dX4_counts_27 rfl (by rw [hQo]; exact ⟨_, rfl, hV⟩)
  refine z_aload_n hC dX4_counts_0 rfl rfl ?_
  refine z_iconst (v := 0) hC dX4_counts_1 rfl ?_
  refine p_X4_131_c3 hC dX4_counts_2 (k_44 _) ?_
  obtain ⟨σ1, e_σ1⟩ : ∃ z : ZS, z = sI σ 44 0 0 := ⟨_, rfl⟩
  replace hV := hV _ e_σ1
  rw [← e_σ1]
  refine z_aload_n hC dX4_counts_5 rfl rfl ?_
  refine z_aload_n hC dX4_counts_6 rfl rfl ?_
  refine z_iload_n hC dX4_counts_7 rfl rfl ?_
  refine c_X4_268 hC (by decide) dX4_counts_8 (Nat.le_of_ble_eq_true rfl) hV (fun r2 σ3 hV => ?_)
  refine z_if_ne (tgt := 18) hC dX4_counts_11 (by decide) (fun hc => ?_) (fun hc => ?_)
  · replace hV := hV.2 hc
    refine z_iconst (v := 0) hC dX4_counts_18 rfl ?_
    refine zz_sub (L' := [some (.ref (E.1.heap.size + 44)), some (.int a1), none, none, none, none]) ⟨rfl, rfl, trivial⟩ ?_
    exact j_19 σ3 a1 0 hV
  · replace hV := hV.1 hc
    refine z_iconst (v := 1) hC dX4_counts_14 rfl ?_
    refine z_goto (tgt := 19) hC dX4_counts_15 (by decide) ?_
    refine zz_sub (L' := [some (.ref (E.1.heap.size + 44)), some (.int a1), none, none, none, none]) ⟨rfl, rfl, trivial⟩ ?_
    exact j_19 σ3 a1 1 hV
def V_X4_cut_165 (K73 : ZS → Nat → Int32 → Int32 → Prop) (Ret : Int32 → ZS → Prop) (σ : ZS) (x2 : Nat) (x3 : Int32) (x4 : Int32) (x5 : Int32) : Prop :=
    ((x5 = 0 → (∀ y12 : Int32, y12 = x4 + 1 → (K73 σ x2 x3 y12))) ∧ (¬ x5 = 0 → (∀ y13 : Int32, y13 = x4 + 1 → (K73 σ x2 x4 y13))))
def VL_X4_cut_114 (K73 : ZS → Nat → Int32 → Int32 → Prop) (Ret : Int32 → ZS → Prop) : Nat → ZS → Nat → Int32 → Int32 → Int32 → Int32 → Prop
  | 0 => fun _ _ _ _ _ _ => False
  | k + 1 => fun σ x2 x3 x4 x5 x6 =>
    let K114 := VL_X4_cut_114 K73 Ret k
    ((x6 < (zI σ 47 (ix 0)) → (((x5 = 0 → (V_X4_cut_165 K73 Ret σ x2 x3 x4 x5)) ∧ (¬ x5 = 0 → (((((x4 >>> (x6 &&& 31)) &&& 1) = 0 → (∀ y14 : Int32, y14 = x6 + 1 → (K114 σ x2 x3 x4 1 y14))) ∧ (¬ ((x4 >>> (x6 &&& 31)) &&& 1) = 0 → (∃ n16, kK NS σ x2 = (0, n16) ∧ (vp_in x6 n16 ∧ (((((zI σ x2 (ix x6)) &&& (x4 ^^^ (-1))) = 0 → (∀ y19 : Int32, y19 = x6 + 1 → (K114 σ x2 x3 x4 1 y19))) ∧ (¬ ((zI σ x2 (ix x6)) &&& (x4 ^^^ (-1))) = 0 → (∀ y18 : Int32, y18 = x6 + 1 → (K114 σ x2 x3 x4 0 y18)))))))))))))) ∧ (¬ x6 < (zI σ 47 (ix 0)) → (V_X4_cut_165 K73 Ret σ x2 x3 x4 x5)))
def V_X4_cut_114 (K73 : ZS → Nat → Int32 → Int32 → Prop) (Ret : Int32 → ZS → Prop) (σ : ZS) (x2 : Nat) (x3 : Int32) (x4 : Int32) (x5 : Int32) (x6 : Int32) : Prop := ∃ k, VL_X4_cut_114 K73 Ret k σ x2 x3 x4 x5 x6
def VL_X4_cut_73 (Ret : Int32 → ZS → Prop) : Nat → ZS → Nat → Int32 → Int32 → Prop
  | 0 => fun _ _ _ _ => False
  | k + 1 => fun σ x2 x3 x4 =>
    let K73 := VL_X4_cut_73 Ret k
    ((x4 < (((1 : Int32) <<< ((zI σ 47 (ix 0)) &&& 31)) - 1) → (((x3 = 0 → (V_X4_cut_114 K73 Ret σ x2 x3 x4 1 0)) ∧ (¬ x3 = 0 → (wp_X4_ones σ x4 (fun r20 σ21 => wp_X4_ones σ21 x3 (fun r22 σ23 => ((r20 < r22 → (V_X4_cut_114 K73 Ret σ23 x2 x3 x4 1 0)) ∧ (¬ r20 < r22 → (V_X4_cut_114 K73 Ret σ23 x2 x3 x4 0 0)))))))))) ∧ (¬ x4 < (((1 : Int32) <<< ((zI σ 47 (ix 0)) &&& 31)) - 1) → (Ret x3 σ)))
def V_X4_cut_73 (Ret : Int32 → ZS → Prop) (σ : ZS) (x2 : Nat) (x3 : Int32) (x4 : Int32) : Prop := ∃ k, VL_X4_cut_73 Ret k σ x2 x3 x4
def VL_X4_cut_44 (Ret : Int32 → ZS → Prop) : Nat → ZS → Nat → Int32 → Prop
  | 0 => fun _ _ _ => False
  | k + 1 => fun σ x2 x3 =>
    let K44 := VL_X4_cut_44 Ret k
    ((x3 < (zI σ 47 (ix 0)) → (wp_X4_reachOf σ x3 (fun r24 σ25 => ∃ n27, kK NS σ25 x2 = (0, n27) ∧ (vp_in x3 n27 ∧ (∀ σ29 : ZS, σ29 = sI σ25 x2 (ix x3) r24 → (∀ y30 : Int32, y30 = x3 + 1 → (K44 σ29 x2 y30))))))) ∧ (¬ x3 < (zI σ 47 (ix 0)) → (V_X4_cut_73 Ret σ x2 0 1)))
def V_X4_cut_44 (Ret : Int32 → ZS → Prop) (σ : ZS) (x2 : Nat) (x3 : Int32) : Prop := ∃ k, VL_X4_cut_44 Ret k σ x2 x3
def V_X4_cut_19 (Ret : Int32 → ZS → Prop) (σ : ZS) (x1 : Int32) (s0 : Int32) : Prop :=
    wp_X4_bad σ s0 1 (fun r4 σ5 => ((r4 = 0 → (wp_X4_asks σ5 x1 (fun σ7 => wp_X4_layReaches σ7 (fun σ9 => (NS ≤ zt σ9 ∧ zt σ9 + 1 ≤ NB ∧ zn σ9 + 16 ≤ SB) ∧ (∀ σ11 : ZS, σ11 = sA σ9 (0, 16) 16 → (V_X4_cut_44 Ret σ11 (zt σ9) 0)))))) ∧ (¬ r4 = 0 → (Ret 0 σ5))))
def wp_X4_cut (σ : ZS) (a1 : Int32) (Ret : Int32 → ZS → Prop) : Prop :=
    ∀ σ1 : ZS, σ1 = sI σ 44 0 0 → (wp_X4_isTime σ1 a1 (fun r2 σ3 => ((r2 = 0 → (V_X4_cut_19 Ret σ3 a1 1)) ∧ (¬ r2 = 0 → (V_X4_cut_19 Ret σ3 a1 0)))))
set_option maxHeartbeats 4000000 in
theorem mz_X4_cut {l : Launch} {E : ZE} (hE : EOK E) {σ : ZS} {a1 : Int32} {Ret : Int32 → ZS → Prop} (hV : wp_X4_cut σ a1 Ret) : MZ l E NS yX4_cut (ws_ yX4_cut cX4_cut 7 (some .int)) 7 σ [.ref (E.1.heap.size + 44), .int a1] (rI Ret) := by
  refine MZ.start (L := [some (.ref (E.1.heap.size + 44)), some (.int a1), none, none, none, none, none]) hE (by decide) (Nat.le_of_ble_eq_true rfl) rfl fun C hCl hQo hC => ?_
  replace hC : Cx C E cX4_cut 7 "RightTurnsModel" "cut" (some .int) [] 7 := hC
  unfold wp_X4_cut at hV
  have j_73 : ∀ (σ : ZS) (x2 : Nat) (x3 : Int32) (x4 : Int32), V_X4_cut_73 Ret σ x2 x3 x4 → zz C E NS 7 σ 73 [some (.ref (E.1.heap.size + 44)), none, some (.ref (E.1.heap.size + x2)), some (.int x3), some (.int x4), none, none] [] := by
    intro σ x2 x3 x4 ⟨k, hV⟩
    revert σ x2 x3 x4
    induction k with
    | zero => exact fun _ _ _ _ hV => hV.elim
    | succ k j_73 =>
      intro σ x2 x3 x4 hV
      simp only [VL_X4_cut_73] at hV
      generalize hKe73 : VL_X4_cut_73 Ret k = K73 at hV j_73
      clear hKe73
      have j_165 : ∀ (σ : ZS) (x2 : Nat) (x3 : Int32) (x4 : Int32) (x5 : Int32), V_X4_cut_165 K73 Ret σ x2 x3 x4 x5 → zz C E NS 7 σ 165 [some (.ref (E.1.heap.size + 44)), none, some (.ref (E.1.heap.size + x2)), some (.int x3), some (.int x4), some (.int x5), none] [] := by
        intro σ x2 x3 x4 x5 hV
        unfold V_X4_cut_165 at hV
        refine z_iload hC dX4_cut_165 rfl ?_
        refine z_if_eq (tgt := 175) hC dX4_cut_167 (by decide) (fun hc => ?_) (fun hc => ?_)
        · replace hV := hV.1 hc
          refine z_iload_n hC dX4_cut_175 rfl rfl ?_
          refine z_istore_n hC dX4_cut_176 rfl (Nat.le_of_ble_eq_true rfl) rfl rfl ?_
          obtain ⟨y12, e_y12⟩ : ∃ z : Int32, z = x4 + 1 := ⟨_, rfl⟩
          replace hV := hV _ e_y12
          refine z_iinc (v := y12) hC dX4_cut_177 rfl (by rw [e_y12]; rfl) (Nat.le_of_ble_eq_true rfl) rfl rfl ?_
          refine z_goto (tgt := 73) hC dX4_cut_180 (by decide) ?_
          refine zz_sub (L' := [some (.ref (E.1.heap.size + 44)), none, some (.ref (E.1.heap.size + x2)), some (.int x3), some (.int y12), none, none]) ⟨rfl, rfl, rfl, rfl, trivial⟩ ?_
          exact j_73 σ x2 x3 y12 hV
        · replace hV := hV.2 hc
          refine z_iload hC dX4_cut_170 rfl ?_
          refine z_goto (tgt := 176) hC dX4_cut_172 (by decide) ?_
          refine z_istore_n hC dX4_cut_176 rfl (Nat.le_of_ble_eq_true rfl) rfl rfl ?_
          obtain ⟨y13, e_y13⟩ : ∃ z : Int32, z = x4 + 1 := ⟨_, rfl⟩
          replace hV := hV _ e_y13
          refine z_iinc (v := y13) hC dX4_cut_177 rfl (by rw [e_y13]; rfl) (Nat.le_of_ble_eq_true rfl) rfl rfl ?_
          refine z_goto (tgt := 73) hC dX4_cut_180 (by decide) ?_
          refine zz_sub (L' := [some (.ref (E.1.heap.size + 44)), none, some (.ref (E.1.heap.size + x2)), some (.int x4), some (.int y13), none, none]) ⟨rfl, rfl, rfl, rfl, trivial⟩ ?_
          exact j_73 σ x2 x4 y13 hV
      have j_114 : ∀ (σ : ZS) (x2 : Nat) (x3 : Int32) (x4 : Int32) (x5 : Int32) (x6 : Int32), V_X4_cut_114 K73 Ret σ x2 x3 x4 x5 x6 → zz C E NS 7 σ 114 [some (.ref (E.1.heap.size + 44)), none, some (.ref (E.1.heap.size + x2)), some (.int x3), some (.int x4), some (.int x5), some (.int x6)] [] := by
        intro σ x2 x3 x4 x5 x6 ⟨k, hV⟩
        revert σ x2 x3 x4 x5 x6
        induction k with
        | zero => exact fun _ _ _ _ _ _ hV => hV.elim
        | succ k j_114 =>
          intro σ x2 x3 x4 x5 x6 hV
          simp only [VL_X4_cut_114] at hV
          generalize hKe114 : VL_X4_cut_114 K73 Ret k = K114 at hV j_114
          clear hKe114
          refine z_iload hC dX4_cut_114 rfl ?_
          refine z_aload_n hC dX4_cut_116 rfl rfl ?_
          refine g_X4_20_44 hC dX4_cut_117 ?_
          refine z_iconst (v := 0) hC dX4_cut_120 rfl ?_
          refine z_iald hC dX4_cut_121 (k_47 _) (in_dec rfl) ?_
          refine z_icmp_ge (tgt := 165) hC dX4_cut_122 (by decide) (fun hc => ?_) (fun hc => ?_)
          · replace hV := hV.2 hc
            refine zz_sub (L' := [some (.ref (E.1.heap.size + 44)), none, some (.ref (E.1.heap.size + x2)), some (.int x3), some (.int x4), some (.int x5), none]) ⟨rfl, rfl, rfl, rfl, rfl, trivial⟩ ?_
            exact j_165 σ x2 x3 x4 x5 hV
          · replace hV := hV.1 hc
            refine z_iload hC dX4_cut_125 rfl ?_
            refine z_if_eq (tgt := 165) hC dX4_cut_127 (by decide) (fun hc => ?_) (fun hc => ?_)
            · replace hV := hV.1 hc
              refine zz_sub (L' := [some (.ref (E.1.heap.size + 44)), none, some (.ref (E.1.heap.size + x2)), some (.int x3), some (.int x4), some (.int x5), none]) ⟨rfl, rfl, rfl, rfl, rfl, trivial⟩ ?_
              exact j_165 σ x2 x3 x4 x5 hV
            · replace hV := hV.2 hc
              refine z_iload hC dX4_cut_130 rfl ?_
              refine z_iload hC dX4_cut_132 rfl ?_
              refine z_ishr hC dX4_cut_134 ?_
              refine z_iconst (v := 1) hC dX4_cut_135 rfl ?_
              refine z_iand hC dX4_cut_136 ?_
              refine z_if_eq (tgt := 152) hC dX4_cut_137 (by decide) (fun hc => ?_) (fun hc => ?_)
              · replace hV := hV.1 hc
                refine z_iconst (v := 1) hC dX4_cut_152 rfl ?_
                refine z_goto (tgt := 157) hC dX4_cut_153 (by decide) ?_
                refine z_istore hC dX4_cut_157 (Nat.le_of_ble_eq_true rfl) rfl rfl ?_
                obtain ⟨y14, e_y14⟩ : ∃ z : Int32, z = x6 + 1 := ⟨_, rfl⟩
                replace hV := hV _ e_y14
                refine z_iinc (v := y14) hC dX4_cut_159 rfl (by rw [e_y14]; rfl) (Nat.le_of_ble_eq_true rfl) rfl rfl ?_
                refine z_goto (tgt := 114) hC dX4_cut_162 (by decide) ?_
                refine zz_sub (L' := [some (.ref (E.1.heap.size + 44)), none, some (.ref (E.1.heap.size + x2)), some (.int x3), some (.int x4), some (.int 1), some (.int y14)]) ⟨rfl, rfl, rfl, rfl, rfl, rfl, trivial⟩ ?_
                exact j_114 σ x2 x3 x4 1 y14 hV
              · replace hV := hV.2 hc
                refine z_aload_n hC dX4_cut_140 rfl rfl ?_
                refine z_iload hC dX4_cut_141 rfl ?_
                obtain ⟨n16, h15, hV⟩ := hV
                obtain ⟨h17, hV⟩ := hV
                refine z_iald hC dX4_cut_143 h15 (h17) ?_
                refine z_iload hC dX4_cut_144 rfl ?_
                refine z_iconst (v := (-1)) hC dX4_cut_146 rfl ?_
                refine z_ixor hC dX4_cut_147 ?_
                refine z_iand hC dX4_cut_148 ?_
                refine z_if_ne (tgt := 156) hC dX4_cut_149 (by decide) (fun hc => ?_) (fun hc => ?_)
                · replace hV := hV.2 hc
                  refine z_iconst (v := 0) hC dX4_cut_156 rfl ?_
                  refine z_istore hC dX4_cut_157 (Nat.le_of_ble_eq_true rfl) rfl rfl ?_
                  obtain ⟨y18, e_y18⟩ : ∃ z : Int32, z = x6 + 1 := ⟨_, rfl⟩
                  replace hV := hV _ e_y18
                  refine z_iinc (v := y18) hC dX4_cut_159 rfl (by rw [e_y18]; rfl) (Nat.le_of_ble_eq_true rfl) rfl rfl ?_
                  refine z_goto (tgt := 114) hC dX4_cut_162 (by decide) ?_
                  refine zz_sub (L' := [some (.ref (E.1.heap.size + 44)), none, some (.ref (E.1.heap.size + x2)), some (.int x3), some (.int x4), some (.int 0), some (.int y18)]) ⟨rfl, rfl, rfl, rfl, rfl, rfl, trivial⟩ ?_
                  exact j_114 σ x2 x3 x4 0 y18 hV
                · replace hV := hV.1 hc
                  refine z_iconst (v := 1) hC dX4_cut_152 rfl ?_
                  refine z_goto (tgt := 157) hC dX4_cut_153 (by decide) ?_
                  refine z_istore hC dX4_cut_157 (Nat.le_of_ble_eq_true rfl) rfl rfl ?_
                  obtain ⟨y19, e_y19⟩ : ∃ z : Int32, z = x6 + 1 := ⟨_, rfl⟩
                  replace hV := hV _ e_y19
                  refine z_iinc (v := y19) hC dX4_cut_159 rfl (by rw [e_y19]; rfl) (Nat.le_of_ble_eq_true rfl) rfl rfl ?_
                  refine z_goto (tgt := 114) hC dX4_cut_162 (by decide) ?_
                  refine zz_sub (L' := [some (.ref (E.1.heap.size + 44)), none, some (.ref (E.1.heap.size + x2)), some (.int x3), some (.int x4), some (.int 1), some (.int y19)]) ⟨rfl, rfl, rfl, rfl, rfl, rfl, trivial⟩ ?_
                  exact j_114 σ x2 x3 x4 1 y19 hV
      refine z_iload hC dX4_cut_73 rfl ?_
      refine z_iconst (v := 1) hC dX4_cut_75 rfl ?_
      refine z_aload_n hC dX4_cut_76 rfl rfl ?_
      refine g_X4_20_44 hC dX4_cut_77 ?_
      refine z_iconst (v := 0) hC dX4_cut_80 rfl ?_
      refine z_iald hC dX4_cut_81 (k_47 _) (in_dec rfl) ?_
      refine z_ishl hC dX4_cut_82 ?_
      refine z_iconst (v := 1) hC dX4_cut_83 rfl ?_
      refine z_isub hC dX4_cut_84 ?_
      refine z_icmp_ge (tgt := 183) hC dX4_cut_85 (by decide) (fun hc => ?_) (fun hc => ?_)
      · replace hV := hV.2 hc
        refine z_iload_n hC dX4_cut_183 rfl rfl ?_
        exact z_iret hC dX4_cut_184 rfl (by rw [hQo]; exact ⟨_, rfl, hV⟩)
      · replace hV := hV.1 hc
        refine z_iload_n hC dX4_cut_88 rfl rfl ?_
        refine z_if_eq (tgt := 104) hC dX4_cut_89 (by decide) (fun hc => ?_) (fun hc => ?_)
        · replace hV := hV.1 hc
          refine z_iconst (v := 1) hC dX4_cut_104 rfl ?_
          refine z_goto (tgt := 109) hC dX4_cut_105 (by decide) ?_
          refine z_istore hC dX4_cut_109 (Nat.le_of_ble_eq_true rfl) rfl rfl ?_
          refine z_iconst (v := 0) hC dX4_cut_111 rfl ?_
          refine z_istore hC dX4_cut_112 (Nat.le_of_ble_eq_true rfl) rfl rfl ?_
          refine zz_sub (L' := [some (.ref (E.1.heap.size + 44)), none, some (.ref (E.1.heap.size + x2)), some (.int x3), some (.int x4), some (.int 1), some (.int 0)]) ⟨rfl, rfl, rfl, rfl, rfl, rfl, trivial⟩ ?_
          exact j_114 σ x2 x3 x4 1 0 hV
        · replace hV := hV.2 hc
          refine z_iload hC dX4_cut_92 rfl ?_
          refine c_X4_187 hC (by decide) dX4_cut_94 (Nat.le_of_ble_eq_true rfl) hV (fun r20 σ21 hV => ?_)
          refine z_iload_n hC dX4_cut_97 rfl rfl ?_
          refine c_X4_187 hC (by decide) dX4_cut_98 (Nat.le_of_ble_eq_true rfl) hV (fun r22 σ23 hV => ?_)
          refine z_icmp_ge (tgt := 108) hC dX4_cut_101 (by decide) (fun hc => ?_) (fun hc => ?_)
          · replace hV := hV.2 hc
            refine z_iconst (v := 0) hC dX4_cut_108 rfl ?_
            refine z_istore hC dX4_cut_109 (Nat.le_of_ble_eq_true rfl) rfl rfl ?_
            refine z_iconst (v := 0) hC dX4_cut_111 rfl ?_
            refine z_istore hC dX4_cut_112 (Nat.le_of_ble_eq_true rfl) rfl rfl ?_
            refine zz_sub (L' := [some (.ref (E.1.heap.size + 44)), none, some (.ref (E.1.heap.size + x2)), some (.int x3), some (.int x4), some (.int 0), some (.int 0)]) ⟨rfl, rfl, rfl, rfl, rfl, rfl, trivial⟩ ?_
            exact j_114 σ23 x2 x3 x4 0 0 hV
          · replace hV := hV.1 hc
            refine z_iconst (v := 1) hC dX4_cut_104 rfl ?_
            refine z_goto (tgt := 109) hC dX4_cut_105 (by decide) ?_
            refine z_istore hC dX4_cut_109 (Nat.le_of_ble_eq_true rfl) rfl rfl ?_
            refine z_iconst (v := 0) hC dX4_cut_111 rfl ?_
            refine z_istore hC dX4_cut_112 (Nat.le_of_ble_eq_true rfl) rfl rfl ?_
            refine zz_sub (L' := [some (.ref (E.1.heap.size + 44)), none, some (.ref (E.1.heap.size + x2)), some (.int x3), some (.int x4), some (.int 1), some (.int 0)]) ⟨rfl, rfl, rfl, rfl, rfl, rfl, trivial⟩ ?_
            exact j_114 σ23 x2 x3 x4 1 0 hV
  have j_44 : ∀ (σ : ZS) (x2 : Nat) (x3 : Int32), V_X4_cut_44 Ret σ x2 x3 → zz C E NS 7 σ 44 [some (.ref (E.1.heap.size + 44)), none, some (.ref (E.1.heap.size + x2)), some (.int x3), none, none, none] [] := by
    intro σ x2 x3 ⟨k, hV⟩
    revert σ x2 x3
    induction k with
    | zero => exact fun _ _ _ hV => hV.elim
    | succ k j_44 =>
      intro σ x2 x3 hV
      simp only [VL_X4_cut_44] at hV
      generalize hKe44 : VL_X4_cut_44 Ret k = K44 at hV j_44
      clear hKe44
      refine z_iload_n hC dX4_cut_44 rfl rfl ?_
      refine z_aload_n hC dX4_cut_45 rfl rfl ?_
      refine g_X4_20_44 hC dX4_cut_46 ?_
      refine z_iconst (v := 0) hC dX4_cut_49 rfl ?_
      refine z_iald hC dX4_cut_50 (k_47 _) (in_dec rfl) ?_
      refine z_icmp_ge (tgt := 68) hC dX4_cut_51 (by decide) (fun hc => ?_) (fun hc => ?_)
      · replace hV := hV.2 hc
        refine z_iconst (v := 0) hC dX4_cut_68 rfl ?_
        refine z_istore_n hC dX4_cut_69 rfl (Nat.le_of_ble_eq_true rfl) rfl rfl ?_
        refine z_iconst (v := 1) hC dX4_cut_70 rfl ?_
        refine z_istore hC dX4_cut_71 (Nat.le_of_ble_eq_true rfl) rfl rfl ?_
        refine zz_sub (L' := [some (.ref (E.1.heap.size + 44)), none, some (.ref (E.1.heap.size + x2)), some (.int 0), some (.int 1), none, none]) ⟨rfl, rfl, rfl, rfl, trivial⟩ ?_
        exact j_73 σ x2 0 1 hV
      · replace hV := hV.1 hc
        refine z_aload_n hC dX4_cut_54 rfl rfl ?_
        refine z_iload_n hC dX4_cut_55 rfl rfl ?_
        refine z_aload_n hC dX4_cut_56 rfl rfl ?_
        refine z_iload_n hC dX4_cut_57 rfl rfl ?_
        refine c_X4_319 hC (by decide) dX4_cut_58 (Nat.le_of_ble_eq_true rfl) hV (fun r24 σ25 hV => ?_)
        obtain ⟨n27, h26, hV⟩ := hV
        obtain ⟨h28, hV⟩ := hV
        refine z_iast hC dX4_cut_61 h26 (h28) ?_
        obtain ⟨σ29, e_σ29⟩ : ∃ z : ZS, z = sI σ25 x2 (ix x3) r24 := ⟨_, rfl⟩
        replace hV := hV _ e_σ29
        rw [← e_σ29]
        obtain ⟨y30, e_y30⟩ : ∃ z : Int32, z = x3 + 1 := ⟨_, rfl⟩
        replace hV := hV _ e_y30
        refine z_iinc (v := y30) hC dX4_cut_62 rfl (by rw [e_y30]; rfl) (Nat.le_of_ble_eq_true rfl) rfl rfl ?_
        refine z_goto (tgt := 44) hC dX4_cut_65 (by decide) ?_
        refine zz_sub (L' := [some (.ref (E.1.heap.size + 44)), none, some (.ref (E.1.heap.size + x2)), some (.int y30), none, none, none]) ⟨rfl, rfl, rfl, trivial⟩ ?_
        exact j_44 σ29 x2 y30 hV
  have j_19 : ∀ (σ : ZS) (x1 : Int32) (s0 : Int32), V_X4_cut_19 Ret σ x1 s0 → zz C E NS 7 σ 19 [some (.ref (E.1.heap.size + 44)), some (.int x1), none, none, none, none, none] [.int s0, .ref (E.1.heap.size + 44)] := by
    intro σ x1 s0 hV
    unfold V_X4_cut_19 at hV
    refine z_iconst (v := 1) hC dX4_cut_19 rfl ?_
    refine c_X4_227 hC (by decide) dX4_cut_20 (Nat.le_of_ble_eq_true rfl) hV (fun r4 σ5 hV => ?_)
    refine z_if_eq (tgt := 28) hC dX4_cut_23 (by decide) (fun hc => ?_) (fun hc => ?_)
    · replace hV := hV.1 hc
      refine z_aload_n hC dX4_cut_28 rfl rfl ?_
      refine z_iload_n hC dX4_cut_29 rfl rfl ?_
      refine c_X4_310 hC (by decide) dX4_cut_30 (Nat.le_of_ble_eq_true rfl) hV (fun σ7 hV => ?_)
      refine z_aload_n hC dX4_cut_33 rfl rfl ?_
      refine c_X4_322 hC (by decide) dX4_cut_34 (Nat.le_of_ble_eq_true rfl) hV (fun σ9 hV => ?_)
      refine z_bipush (v := 16) hC dX4_cut_37 rfl ?_
      obtain ⟨h10, hV⟩ := hV
      refine z_newa0 (len := 16) hC dX4_cut_39 (by decide) rfl h10.1 h10.2.1 h10.2.2 ?_
      obtain ⟨σ11, e_σ11⟩ : ∃ z : ZS, z = sA σ9 (0, 16) 16 := ⟨_, rfl⟩
      replace hV := hV _ e_σ11
      rw [← e_σ11]
      refine z_astore_n hC dX4_cut_41 rfl (Nat.le_of_ble_eq_true rfl) rfl rfl ?_
      refine z_iconst (v := 0) hC dX4_cut_42 rfl ?_
      refine z_istore_n hC dX4_cut_43 rfl (Nat.le_of_ble_eq_true rfl) rfl rfl ?_
      refine zz_sub (L' := [some (.ref (E.1.heap.size + 44)), none, some (.ref (E.1.heap.size + (zt σ9))), some (.int 0), none, none, none]) ⟨rfl, rfl, rfl, trivial⟩ ?_
      exact j_44 σ11 (zt σ9) 0 hV
    · replace hV := hV.2 hc
      refine z_iconst (v := 0) hC dX4_cut_26 rfl ?_
      exact z_iret hC dX4_cut_27 rfl (by rw [hQo]; exact ⟨_, rfl, hV⟩)
  refine z_aload_n hC dX4_cut_0 rfl rfl ?_
  refine z_iconst (v := 0) hC dX4_cut_1 rfl ?_
  refine p_X4_131_c3 hC dX4_cut_2 (k_44 _) ?_
  obtain ⟨σ1, e_σ1⟩ : ∃ z : ZS, z = sI σ 44 0 0 := ⟨_, rfl⟩
  replace hV := hV _ e_σ1
  rw [← e_σ1]
  refine z_aload_n hC dX4_cut_5 rfl rfl ?_
  refine z_aload_n hC dX4_cut_6 rfl rfl ?_
  refine z_iload_n hC dX4_cut_7 rfl rfl ?_
  refine c_X4_281 hC (by decide) dX4_cut_8 (Nat.le_of_ble_eq_true rfl) hV (fun r2 σ3 hV => ?_)
  refine z_if_ne (tgt := 18) hC dX4_cut_11 (by decide) (fun hc => ?_) (fun hc => ?_)
  · replace hV := hV.2 hc
    refine z_iconst (v := 0) hC dX4_cut_18 rfl ?_
    refine zz_sub (L' := [some (.ref (E.1.heap.size + 44)), some (.int a1), none, none, none, none, none]) ⟨rfl, rfl, trivial⟩ ?_
    exact j_19 σ3 a1 0 hV
  · replace hV := hV.1 hc
    refine z_iconst (v := 1) hC dX4_cut_14 rfl ?_
    refine z_goto (tgt := 19) hC dX4_cut_15 (by decide) ?_
    refine zz_sub (L' := [some (.ref (E.1.heap.size + 44)), some (.int a1), none, none, none, none, none]) ⟨rfl, rfl, trivial⟩ ?_
    exact j_19 σ3 a1 1 hV
def VL_X4_detour_105 (K81 : ZS → Int32 → Int32 → Int32 → Int32 → Prop) (Ret : Int32 → ZS → Prop) : Nat → ZS → Int32 → Int32 → Int32 → Int32 → Int32 → Prop
  | 0 => fun _ _ _ _ _ _ => False
  | k + 1 => fun σ x1 x2 x4 x5 x6 =>
    let K105 := VL_X4_detour_105 K81 Ret k
    ((x6 < (2 * (zI σ 47 (ix 1))) → (wp_X4_isArc σ x5 (fun r19 σ20 => ((r19 = 0 → (∀ y21 : Int32, y21 = x6 + 1 → (K105 σ20 x1 x2 x4 x5 y21))) ∧ (¬ r19 = 0 → (wp_X4_isArc σ20 x6 (fun r22 σ23 => ((r22 = 0 → (∀ y24 : Int32, y24 = x6 + 1 → (K105 σ23 x1 x2 x4 x5 y24))) ∧ (¬ r22 = 0 → (wp_X4_turnOf σ23 x5 x6 (fun r25 σ26 => ((0 < r25 → (vp_in x5 48 ∧ (vp_in x5 48 ∧ (∀ σ30 : ZS, σ30 = sJ σ26 566 (ix x5) ((zJ σ26 566 (ix x5)) ||| ((1 : Int64) <<< (x6.toInt64 &&& 63))) → (∀ y31 : Int32, y31 = x6 + 1 → (K105 σ30 x1 x2 x4 x5 y31)))))) ∧ (¬ 0 < r25 → (∀ y27 : Int32, y27 = x6 + 1 → (K105 σ26 x1 x2 x4 x5 y27))))))))))))))) ∧ (¬ x6 < (2 * (zI σ 47 (ix 1))) → (∀ y18 : Int32, y18 = x5 + 1 → (K81 σ x1 x2 x4 y18))))
def V_X4_detour_105 (K81 : ZS → Int32 → Int32 → Int32 → Int32 → Prop) (Ret : Int32 → ZS → Prop) (σ : ZS) (x1 : Int32) (x2 : Int32) (x4 : Int32) (x5 : Int32) (x6 : Int32) : Prop := ∃ k, VL_X4_detour_105 K81 Ret k σ x1 x2 x4 x5 x6
def VL_X4_detour_81 (Ret : Int32 → ZS → Prop) : Nat → ZS → Int32 → Int32 → Int32 → Int32 → Prop
  | 0 => fun _ _ _ _ _ => False
  | k + 1 => fun σ x1 x2 x4 x5 =>
    let K81 := VL_X4_detour_81 Ret k
    ((x5 < (2 * (zI σ 47 (ix 1))) → (vp_in x5 48 ∧ (∀ σ17 : ZS, σ17 = sJ σ 566 (ix x5) 0 → (V_X4_detour_105 K81 Ret σ17 x1 x2 x4 x5 0)))) ∧ (¬ x5 < (2 * (zI σ 47 (ix 1))) → (wp_X4_rideOf σ x1 x2 (fun r14 σ15 => Ret (x4 - r14) σ15))))
def V_X4_detour_81 (Ret : Int32 → ZS → Prop) (σ : ZS) (x1 : Int32) (x2 : Int32) (x4 : Int32) (x5 : Int32) : Prop := ∃ k, VL_X4_detour_81 Ret k σ x1 x2 x4 x5
def V_X4_detour_48 (Ret : Int32 → ZS → Prop) (σ : ZS) (x1 : Int32) (x2 : Int32) (x3 : Int32) (s0 : Int32) : Prop :=
    wp_X4_bad σ s0 2 (fun r8 σ9 => ((r8 = 0 → (wp_X4_asks σ9 x3 (fun σ11 => wp_X4_rideOf σ11 x1 x2 (fun r12 σ13 => ((r12 = (-1) → (Ret (-1) σ13)) ∧ (¬ r12 = (-1) → (V_X4_detour_81 Ret σ13 x1 x2 r12 0))))))) ∧ (¬ r8 = 0 → (Ret 0 σ9))))
def V_X4_detour_27 (Ret : Int32 → ZS → Prop) (σ : ZS) (x1 : Int32) (x2 : Int32) (x3 : Int32) (s0 : Int32) : Prop :=
    wp_X4_bad σ s0 1 (fun r4 σ5 => ((r4 = 0 → (wp_X4_isTime σ5 x3 (fun r6 σ7 => ((r6 = 0 → (V_X4_detour_48 Ret σ7 x1 x2 x3 1)) ∧ (¬ r6 = 0 → (V_X4_detour_48 Ret σ7 x1 x2 x3 0)))))) ∧ (¬ r4 = 0 → (Ret 0 σ5))))
def V_X4_detour_22 (Ret : Int32 → ZS → Prop) (σ : ZS) (x1 : Int32) (x2 : Int32) (x3 : Int32) : Prop :=
    V_X4_detour_27 Ret σ x1 x2 x3 1
def wp_X4_detour (σ : ZS) (a1 : Int32) (a2 : Int32) (a3 : Int32) (Ret : Int32 → ZS → Prop) : Prop :=
    ∀ σ1 : ZS, σ1 = sI σ 44 0 0 → (wp_X4_isCorner σ1 a1 (fun r2 σ3 => ((r2 = 0 → (V_X4_detour_22 Ret σ3 a1 a2 a3)) ∧ (¬ r2 = 0 → (wp_X4_isCorner σ3 a2 (fun r32 σ33 => ((r32 = 0 → (V_X4_detour_22 Ret σ33 a1 a2 a3)) ∧ (¬ r32 = 0 → (V_X4_detour_27 Ret σ33 a1 a2 a3 0)))))))))
set_option maxHeartbeats 4000000 in
theorem mz_X4_detour {l : Launch} {E : ZE} (hE : EOK E) {σ : ZS} {a1 : Int32} {a2 : Int32} {a3 : Int32} {Ret : Int32 → ZS → Prop} (hV : wp_X4_detour σ a1 a2 a3 Ret) : MZ l E NS yX4_detour (ws_ yX4_detour cX4_detour 7 (some .int)) 7 σ [.ref (E.1.heap.size + 44), .int a1, .int a2, .int a3] (rI Ret) := by
  refine MZ.start (L := [some (.ref (E.1.heap.size + 44)), some (.int a1), some (.int a2), some (.int a3), none, none, none]) hE (by decide) (Nat.le_of_ble_eq_true rfl) rfl fun C hCl hQo hC => ?_
  replace hC : Cx C E cX4_detour 7 "RightTurnsModel" "detour" (some .int) [] 7 := hC
  unfold wp_X4_detour at hV
  have j_81 : ∀ (σ : ZS) (x1 : Int32) (x2 : Int32) (x4 : Int32) (x5 : Int32), V_X4_detour_81 Ret σ x1 x2 x4 x5 → zz C E NS 7 σ 81 [some (.ref (E.1.heap.size + 44)), some (.int x1), some (.int x2), none, some (.int x4), some (.int x5), none] [] := by
    intro σ x1 x2 x4 x5 ⟨k, hV⟩
    revert σ x1 x2 x4 x5
    induction k with
    | zero => exact fun _ _ _ _ _ hV => hV.elim
    | succ k j_81 =>
      intro σ x1 x2 x4 x5 hV
      simp only [VL_X4_detour_81] at hV
      generalize hKe81 : VL_X4_detour_81 Ret k = K81 at hV j_81
      clear hKe81
      have j_105 : ∀ (σ : ZS) (x1 : Int32) (x2 : Int32) (x4 : Int32) (x5 : Int32) (x6 : Int32), V_X4_detour_105 K81 Ret σ x1 x2 x4 x5 x6 → zz C E NS 7 σ 105 [some (.ref (E.1.heap.size + 44)), some (.int x1), some (.int x2), none, some (.int x4), some (.int x5), some (.int x6)] [] := by
        intro σ x1 x2 x4 x5 x6 ⟨k, hV⟩
        revert σ x1 x2 x4 x5 x6
        induction k with
        | zero => exact fun _ _ _ _ _ _ hV => hV.elim
        | succ k j_105 =>
          intro σ x1 x2 x4 x5 x6 hV
          simp only [VL_X4_detour_105] at hV
          generalize hKe105 : VL_X4_detour_105 K81 Ret k = K105 at hV j_105
          clear hKe105
          refine z_iload hC dX4_detour_105 rfl ?_
          refine z_iconst (v := 2) hC dX4_detour_107 rfl ?_
          refine z_aload_n hC dX4_detour_108 rfl rfl ?_
          refine g_X4_20_44 hC dX4_detour_109 ?_
          refine z_iconst (v := 1) hC dX4_detour_112 rfl ?_
          refine z_iald hC dX4_detour_113 (k_47 _) (in_dec rfl) ?_
          refine z_imul hC dX4_detour_114 ?_
          refine z_icmp_ge (tgt := 167) hC dX4_detour_115 (by decide) (fun hc => ?_) (fun hc => ?_)
          · replace hV := hV.2 hc
            obtain ⟨y18, e_y18⟩ : ∃ z : Int32, z = x5 + 1 := ⟨_, rfl⟩
            replace hV := hV _ e_y18
            refine z_iinc (v := y18) hC dX4_detour_167 rfl (by rw [e_y18]; rfl) (Nat.le_of_ble_eq_true rfl) rfl rfl ?_
            refine z_goto (tgt := 81) hC dX4_detour_170 (by decide) ?_
            refine zz_sub (L' := [some (.ref (E.1.heap.size + 44)), some (.int x1), some (.int x2), none, some (.int x4), some (.int y18), none]) ⟨rfl, rfl, rfl, rfl, rfl, trivial⟩ ?_
            exact j_81 σ x1 x2 x4 y18 hV
          · replace hV := hV.1 hc
            refine z_aload_n hC dX4_detour_118 rfl rfl ?_
            refine z_iload hC dX4_detour_119 rfl ?_
            refine c_X4_262 hC (by decide) dX4_detour_121 (Nat.le_of_ble_eq_true rfl) hV (fun r19 σ20 hV => ?_)
            refine z_if_eq (tgt := 161) hC dX4_detour_124 (by decide) (fun hc => ?_) (fun hc => ?_)
            · replace hV := hV.1 hc
              obtain ⟨y21, e_y21⟩ : ∃ z : Int32, z = x6 + 1 := ⟨_, rfl⟩
              replace hV := hV _ e_y21
              refine z_iinc (v := y21) hC dX4_detour_161 rfl (by rw [e_y21]; rfl) (Nat.le_of_ble_eq_true rfl) rfl rfl ?_
              refine z_goto (tgt := 105) hC dX4_detour_164 (by decide) ?_
              refine zz_sub (L' := [some (.ref (E.1.heap.size + 44)), some (.int x1), some (.int x2), none, some (.int x4), some (.int x5), some (.int y21)]) ⟨rfl, rfl, rfl, rfl, rfl, rfl, trivial⟩ ?_
              exact j_105 σ20 x1 x2 x4 x5 y21 hV
            · replace hV := hV.2 hc
              refine z_aload_n hC dX4_detour_127 rfl rfl ?_
              refine z_iload hC dX4_detour_128 rfl ?_
              refine c_X4_262 hC (by decide) dX4_detour_130 (Nat.le_of_ble_eq_true rfl) hV (fun r22 σ23 hV => ?_)
              refine z_if_eq (tgt := 161) hC dX4_detour_133 (by decide) (fun hc => ?_) (fun hc => ?_)
              · replace hV := hV.1 hc
                obtain ⟨y24, e_y24⟩ : ∃ z : Int32, z = x6 + 1 := ⟨_, rfl⟩
                replace hV := hV _ e_y24
                refine z_iinc (v := y24) hC dX4_detour_161 rfl (by rw [e_y24]; rfl) (Nat.le_of_ble_eq_true rfl) rfl rfl ?_
                refine z_goto (tgt := 105) hC dX4_detour_164 (by decide) ?_
                refine zz_sub (L' := [some (.ref (E.1.heap.size + 44)), some (.int x1), some (.int x2), none, some (.int x4), some (.int x5), some (.int y24)]) ⟨rfl, rfl, rfl, rfl, rfl, rfl, trivial⟩ ?_
                exact j_105 σ23 x1 x2 x4 x5 y24 hV
              · replace hV := hV.2 hc
                refine z_aload_n hC dX4_detour_136 rfl rfl ?_
                refine z_iload hC dX4_detour_137 rfl ?_
                refine z_iload hC dX4_detour_139 rfl ?_
                refine c_X4_265 hC (by decide) dX4_detour_141 (Nat.le_of_ble_eq_true rfl) hV (fun r25 σ26 hV => ?_)
                refine z_if_le (tgt := 161) hC dX4_detour_144 (by decide) (fun hc => ?_) (fun hc => ?_)
                · replace hV := hV.2 hc
                  obtain ⟨y27, e_y27⟩ : ∃ z : Int32, z = x6 + 1 := ⟨_, rfl⟩
                  replace hV := hV _ e_y27
                  refine z_iinc (v := y27) hC dX4_detour_161 rfl (by rw [e_y27]; rfl) (Nat.le_of_ble_eq_true rfl) rfl rfl ?_
                  refine z_goto (tgt := 105) hC dX4_detour_164 (by decide) ?_
                  refine zz_sub (L' := [some (.ref (E.1.heap.size + 44)), some (.int x1), some (.int x2), none, some (.int x4), some (.int x5), some (.int y27)]) ⟨rfl, rfl, rfl, rfl, rfl, rfl, trivial⟩ ?_
                  exact j_105 σ26 x1 x2 x4 x5 y27 hV
                · replace hV := hV.1 hc
                  refine z_aload_n hC dX4_detour_147 rfl rfl ?_
                  refine g_X4_61_44 hC dX4_detour_148 ?_
                  refine z_iload hC dX4_detour_151 rfl ?_
                  refine z_dup2 hC dX4_detour_153 rfl rfl ?_
                  obtain ⟨h28, hV⟩ := hV
                  refine z_lald hC dX4_detour_154 (k_566 _) (h28) ?_
                  refine z_lconst (v := 1) hC dX4_detour_155 rfl ?_
                  refine z_iload hC dX4_detour_156 rfl ?_
                  refine z_lshl hC dX4_detour_158 ?_
                  refine z_lor hC dX4_detour_159 ?_
                  obtain ⟨h29, hV⟩ := hV
                  refine z_last hC dX4_detour_160 (k_566 _) (h29) ?_
                  obtain ⟨σ30, e_σ30⟩ : ∃ z : ZS, z = sJ σ26 566 (ix x5) ((zJ σ26 566 (ix x5)) ||| ((1 : Int64) <<< (x6.toInt64 &&& 63))) := ⟨_, rfl⟩
                  replace hV := hV _ e_σ30
                  rw [← e_σ30]
                  obtain ⟨y31, e_y31⟩ : ∃ z : Int32, z = x6 + 1 := ⟨_, rfl⟩
                  replace hV := hV _ e_y31
                  refine z_iinc (v := y31) hC dX4_detour_161 rfl (by rw [e_y31]; rfl) (Nat.le_of_ble_eq_true rfl) rfl rfl ?_
                  refine z_goto (tgt := 105) hC dX4_detour_164 (by decide) ?_
                  refine zz_sub (L' := [some (.ref (E.1.heap.size + 44)), some (.int x1), some (.int x2), none, some (.int x4), some (.int x5), some (.int y31)]) ⟨rfl, rfl, rfl, rfl, rfl, rfl, trivial⟩ ?_
                  exact j_105 σ30 x1 x2 x4 x5 y31 hV
      refine z_iload hC dX4_detour_81 rfl ?_
      refine z_iconst (v := 2) hC dX4_detour_83 rfl ?_
      refine z_aload_n hC dX4_detour_84 rfl rfl ?_
      refine g_X4_20_44 hC dX4_detour_85 ?_
      refine z_iconst (v := 1) hC dX4_detour_88 rfl ?_
      refine z_iald hC dX4_detour_89 (k_47 _) (in_dec rfl) ?_
      refine z_imul hC dX4_detour_90 ?_
      refine z_icmp_ge (tgt := 173) hC dX4_detour_91 (by decide) (fun hc => ?_) (fun hc => ?_)
      · replace hV := hV.2 hc
        refine z_iload hC dX4_detour_173 rfl ?_
        refine z_aload_n hC dX4_detour_175 rfl rfl ?_
        refine z_iload_n hC dX4_detour_176 rfl rfl ?_
        refine z_iload_n hC dX4_detour_177 rfl rfl ?_
        refine c_X4_313 hC (by decide) dX4_detour_178 (Nat.le_of_ble_eq_true rfl) hV (fun r14 σ15 hV => ?_)
        refine z_isub hC dX4_detour_181 ?_
        exact z_iret hC dX4_detour_182 rfl (by rw [hQo]; exact ⟨_, rfl, hV⟩)
      · replace hV := hV.1 hc
        refine z_aload_n hC dX4_detour_94 rfl rfl ?_
        refine g_X4_61_44 hC dX4_detour_95 ?_
        refine z_iload hC dX4_detour_98 rfl ?_
        refine z_lconst (v := 0) hC dX4_detour_100 rfl ?_
        obtain ⟨h16, hV⟩ := hV
        refine z_last hC dX4_detour_101 (k_566 _) (h16) ?_
        obtain ⟨σ17, e_σ17⟩ : ∃ z : ZS, z = sJ σ 566 (ix x5) 0 := ⟨_, rfl⟩
        replace hV := hV _ e_σ17
        rw [← e_σ17]
        refine z_iconst (v := 0) hC dX4_detour_102 rfl ?_
        refine z_istore hC dX4_detour_103 (Nat.le_of_ble_eq_true rfl) rfl rfl ?_
        refine zz_sub (L' := [some (.ref (E.1.heap.size + 44)), some (.int x1), some (.int x2), none, some (.int x4), some (.int x5), some (.int 0)]) ⟨rfl, rfl, rfl, rfl, rfl, rfl, trivial⟩ ?_
        exact j_105 σ17 x1 x2 x4 x5 0 hV
  have j_48 : ∀ (σ : ZS) (x1 : Int32) (x2 : Int32) (x3 : Int32) (s0 : Int32), V_X4_detour_48 Ret σ x1 x2 x3 s0 → zz C E NS 7 σ 48 [some (.ref (E.1.heap.size + 44)), some (.int x1), some (.int x2), some (.int x3), none, none, none] [.int s0, .ref (E.1.heap.size + 44)] := by
    intro σ x1 x2 x3 s0 hV
    unfold V_X4_detour_48 at hV
    refine z_iconst (v := 2) hC dX4_detour_48 rfl ?_
    refine c_X4_227 hC (by decide) dX4_detour_49 (Nat.le_of_ble_eq_true rfl) hV (fun r8 σ9 hV => ?_)
    refine z_if_eq (tgt := 57) hC dX4_detour_52 (by decide) (fun hc => ?_) (fun hc => ?_)
    · replace hV := hV.1 hc
      refine z_aload_n hC dX4_detour_57 rfl rfl ?_
      refine z_iload_n hC dX4_detour_58 rfl rfl ?_
      refine c_X4_310 hC (by decide) dX4_detour_59 (Nat.le_of_ble_eq_true rfl) hV (fun σ11 hV => ?_)
      refine z_aload_n hC dX4_detour_62 rfl rfl ?_
      refine z_iload_n hC dX4_detour_63 rfl rfl ?_
      refine z_iload_n hC dX4_detour_64 rfl rfl ?_
      refine c_X4_313 hC (by decide) dX4_detour_65 (Nat.le_of_ble_eq_true rfl) hV (fun r12 σ13 hV => ?_)
      refine z_istore hC dX4_detour_68 (Nat.le_of_ble_eq_true rfl) rfl rfl ?_
      refine z_iload hC dX4_detour_70 rfl ?_
      refine z_iconst (v := (-1)) hC dX4_detour_72 rfl ?_
      refine z_icmp_ne (tgt := 78) hC dX4_detour_73 (by decide) (fun hc => ?_) (fun hc => ?_)
      · replace hV := hV.2 hc
        refine z_iconst (v := 0) hC dX4_detour_78 rfl ?_
        refine z_istore hC dX4_detour_79 (Nat.le_of_ble_eq_true rfl) rfl rfl ?_
        refine zz_sub (L' := [some (.ref (E.1.heap.size + 44)), some (.int x1), some (.int x2), none, some (.int r12), some (.int 0), none]) ⟨rfl, rfl, rfl, rfl, rfl, trivial⟩ ?_
        exact j_81 σ13 x1 x2 r12 0 hV
      · replace hV := hV.1 hc
        refine z_iconst (v := (-1)) hC dX4_detour_76 rfl ?_
        exact z_iret hC dX4_detour_77 rfl (by rw [hQo]; exact ⟨_, rfl, hV⟩)
    · replace hV := hV.2 hc
      refine z_iconst (v := 0) hC dX4_detour_55 rfl ?_
      exact z_iret hC dX4_detour_56 rfl (by rw [hQo]; exact ⟨_, rfl, hV⟩)
  have j_27 : ∀ (σ : ZS) (x1 : Int32) (x2 : Int32) (x3 : Int32) (s0 : Int32), V_X4_detour_27 Ret σ x1 x2 x3 s0 → zz C E NS 7 σ 27 [some (.ref (E.1.heap.size + 44)), some (.int x1), some (.int x2), some (.int x3), none, none, none] [.int s0, .ref (E.1.heap.size + 44)] := by
    intro σ x1 x2 x3 s0 hV
    unfold V_X4_detour_27 at hV
    refine z_iconst (v := 1) hC dX4_detour_27 rfl ?_
    refine c_X4_227 hC (by decide) dX4_detour_28 (Nat.le_of_ble_eq_true rfl) hV (fun r4 σ5 hV => ?_)
    refine z_if_ne (tgt := 55) hC dX4_detour_31 (by decide) (fun hc => ?_) (fun hc => ?_)
    · replace hV := hV.2 hc
      refine z_iconst (v := 0) hC dX4_detour_55 rfl ?_
      exact z_iret hC dX4_detour_56 rfl (by rw [hQo]; exact ⟨_, rfl, hV⟩)
    · replace hV := hV.1 hc
      refine z_aload_n hC dX4_detour_34 rfl rfl ?_
      refine z_aload_n hC dX4_detour_35 rfl rfl ?_
      refine z_iload_n hC dX4_detour_36 rfl rfl ?_
      refine c_X4_281 hC (by decide) dX4_detour_37 (Nat.le_of_ble_eq_true rfl) hV (fun r6 σ7 hV => ?_)
      refine z_if_ne (tgt := 47) hC dX4_detour_40 (by decide) (fun hc => ?_) (fun hc => ?_)
      · replace hV := hV.2 hc
        refine z_iconst (v := 0) hC dX4_detour_47 rfl ?_
        refine zz_sub (L' := [some (.ref (E.1.heap.size + 44)), some (.int x1), some (.int x2), some (.int x3), none, none, none]) ⟨rfl, rfl, rfl, rfl, trivial⟩ ?_
        exact j_48 σ7 x1 x2 x3 0 hV
      · replace hV := hV.1 hc
        refine z_iconst (v := 1) hC dX4_detour_43 rfl ?_
        refine z_goto (tgt := 48) hC dX4_detour_44 (by decide) ?_
        refine zz_sub (L' := [some (.ref (E.1.heap.size + 44)), some (.int x1), some (.int x2), some (.int x3), none, none, none]) ⟨rfl, rfl, rfl, rfl, trivial⟩ ?_
        exact j_48 σ7 x1 x2 x3 1 hV
  have j_22 : ∀ (σ : ZS) (x1 : Int32) (x2 : Int32) (x3 : Int32), V_X4_detour_22 Ret σ x1 x2 x3 → zz C E NS 7 σ 22 [some (.ref (E.1.heap.size + 44)), some (.int x1), some (.int x2), some (.int x3), none, none, none] [.ref (E.1.heap.size + 44)] := by
    intro σ x1 x2 x3 hV
    unfold V_X4_detour_22 at hV
    refine z_iconst (v := 1) hC dX4_detour_22 rfl ?_
    refine z_goto (tgt := 27) hC dX4_detour_23 (by decide) ?_
    refine zz_sub (L' := [some (.ref (E.1.heap.size + 44)), some (.int x1), some (.int x2), some (.int x3), none, none, none]) ⟨rfl, rfl, rfl, rfl, trivial⟩ ?_
    exact j_27 σ x1 x2 x3 1 hV
  refine z_aload_n hC dX4_detour_0 rfl rfl ?_
  refine z_iconst (v := 0) hC dX4_detour_1 rfl ?_
  refine p_X4_131_c3 hC dX4_detour_2 (k_44 _) ?_
  obtain ⟨σ1, e_σ1⟩ : ∃ z : ZS, z = sI σ 44 0 0 := ⟨_, rfl⟩
  replace hV := hV _ e_σ1
  rw [← e_σ1]
  refine z_aload_n hC dX4_detour_5 rfl rfl ?_
  refine z_aload_n hC dX4_detour_6 rfl rfl ?_
  refine z_iload_n hC dX4_detour_7 rfl rfl ?_
  refine c_X4_307 hC (by decide) dX4_detour_8 (Nat.le_of_ble_eq_true rfl) hV (fun r2 σ3 hV => ?_)
  refine z_if_eq (tgt := 22) hC dX4_detour_11 (by decide) (fun hc => ?_) (fun hc => ?_)
  · replace hV := hV.1 hc
    refine zz_sub (L' := [some (.ref (E.1.heap.size + 44)), some (.int a1), some (.int a2), some (.int a3), none, none, none]) ⟨rfl, rfl, rfl, rfl, trivial⟩ ?_
    exact j_22 σ3 a1 a2 a3 hV
  · replace hV := hV.2 hc
    refine z_aload_n hC dX4_detour_14 rfl rfl ?_
    refine z_iload_n hC dX4_detour_15 rfl rfl ?_
    refine c_X4_307 hC (by decide) dX4_detour_16 (Nat.le_of_ble_eq_true rfl) hV (fun r32 σ33 hV => ?_)
    refine z_if_ne (tgt := 26) hC dX4_detour_19 (by decide) (fun hc => ?_) (fun hc => ?_)
    · replace hV := hV.2 hc
      refine z_iconst (v := 0) hC dX4_detour_26 rfl ?_
      refine zz_sub (L' := [some (.ref (E.1.heap.size + 44)), some (.int a1), some (.int a2), some (.int a3), none, none, none]) ⟨rfl, rfl, rfl, rfl, trivial⟩ ?_
      exact j_27 σ33 a1 a2 a3 0 hV
    · replace hV := hV.1 hc
      refine zz_sub (L' := [some (.ref (E.1.heap.size + 44)), some (.int a1), some (.int a2), some (.int a3), none, none, none]) ⟨rfl, rfl, rfl, rfl, trivial⟩ ?_
      exact j_22 σ33 a1 a2 a3 hV
def VL_X4_exchange_86 (K53 : ZS → Int32 → Int32 → Int32 → Int32 → Prop) (Ret : Int32 → ZS → Prop) : Nat → ZS → Int32 → Int32 → Int32 → Int32 → Int32 → Prop
  | 0 => fun _ _ _ _ _ _ => False
  | k + 1 => fun σ x2 x3 x4 x5 x6 =>
    let K86 := VL_X4_exchange_86 K53 Ret k
    ((x6 < (zI σ 44 33) → (wp_X4_flips σ x5 (fun σ17 => vp_in x6 14 ∧ (wp_X4_flips σ17 (zI σ17 1147 (ix x6)) (fun σ20 => wp_X4_pairs σ20 (fun r21 σ22 => wp_X4_flips σ22 x5 (fun σ24 => vp_in x6 14 ∧ (wp_X4_flips σ24 (zI σ24 1147 (ix x6)) (fun σ27 => ((x4 < r21 → (vp_in x6 14 ∧ (∀ y29 : Int32, y29 = (1000 * x5) + (zI σ27 1147 (ix x6)) → (∀ y30 : Int32, y30 = x6 + 1 → (K86 σ27 x2 y29 r21 x5 y30))))) ∧ (¬ x4 < r21 → (∀ y31 : Int32, y31 = x6 + 1 → (K86 σ27 x2 x3 x4 x5 y31))))))))))))) ∧ (¬ x6 < (zI σ 44 33) → (∀ y15 : Int32, y15 = x5 + 1 → (K53 σ x2 x3 x4 y15))))
def V_X4_exchange_86 (K53 : ZS → Int32 → Int32 → Int32 → Int32 → Prop) (Ret : Int32 → ZS → Prop) (σ : ZS) (x2 : Int32) (x3 : Int32) (x4 : Int32) (x5 : Int32) (x6 : Int32) : Prop := ∃ k, VL_X4_exchange_86 K53 Ret k σ x2 x3 x4 x5 x6
def VL_X4_exchange_53 (Ret : Int32 → ZS → Prop) : Nat → ZS → Int32 → Int32 → Int32 → Int32 → Prop
  | 0 => fun _ _ _ _ _ => False
  | k + 1 => fun σ x2 x3 x4 x5 =>
    let K53 := VL_X4_exchange_53 Ret k
    ((x5 < (zI σ 44 27) → (wp_X4_isAllowed σ x5 (fun r10 σ11 => ((r10 = 0 → (∀ y12 : Int32, y12 = x5 + 1 → (K53 σ11 x2 x3 x4 y12))) ∧ (¬ r10 = 0 → (wp_X4_isSigned σ11 x5 (fun r13 σ14 => ((r13 = 0 → (V_X4_exchange_86 K53 Ret σ14 x2 x3 x4 x5 0)) ∧ (¬ r13 = 0 → (∀ y32 : Int32, y32 = x5 + 1 → (K53 σ14 x2 x3 x4 y32))))))))))) ∧ (¬ x5 < (zI σ 44 27) → (((x2 = 0 → (Ret x3 σ)) ∧ (¬ x2 = 0 → (Ret x4 σ))))))
def V_X4_exchange_53 (Ret : Int32 → ZS → Prop) (σ : ZS) (x2 : Int32) (x3 : Int32) (x4 : Int32) (x5 : Int32) : Prop := ∃ k, VL_X4_exchange_53 Ret k σ x2 x3 x4 x5
def V_X4_exchange_28 (Ret : Int32 → ZS → Prop) (σ : ZS) (x1 : Int32) (x2 : Int32) (s0 : Int32) : Prop :=
    wp_X4_bad σ s0 1 (fun r4 σ5 => ((r4 = 0 → (wp_X4_findLater σ5 x1 (fun σ7 => wp_X4_pairs σ7 (fun r8 σ9 => V_X4_exchange_53 Ret σ9 x2 (-1) r8 0)))) ∧ (¬ r4 = 0 → (Ret 0 σ5))))
def V_X4_exchange_23 (Ret : Int32 → ZS → Prop) (σ : ZS) (x1 : Int32) (x2 : Int32) : Prop :=
    V_X4_exchange_28 Ret σ x1 x2 1
def wp_X4_exchange (σ : ZS) (a1 : Int32) (a2 : Int32) (Ret : Int32 → ZS → Prop) : Prop :=
    ∀ σ1 : ZS, σ1 = sI σ 44 0 0 → (wp_X4_isTime σ1 a1 (fun r2 σ3 => ((r2 = 0 → (V_X4_exchange_23 Ret σ3 a1 a2)) ∧ (¬ r2 = 0 → (wp_X4_in σ3 a2 0 1 (fun r33 σ34 => ((r33 = 0 → (V_X4_exchange_23 Ret σ34 a1 a2)) ∧ (¬ r33 = 0 → (V_X4_exchange_28 Ret σ34 a1 a2 0)))))))))
set_option maxHeartbeats 4000000 in
theorem mz_X4_exchange {l : Launch} {E : ZE} (hE : EOK E) {σ : ZS} {a1 : Int32} {a2 : Int32} {Ret : Int32 → ZS → Prop} (hV : wp_X4_exchange σ a1 a2 Ret) : MZ l E NS yX4_exchange (ws_ yX4_exchange cX4_exchange 8 (some .int)) 7 σ [.ref (E.1.heap.size + 44), .int a1, .int a2] (rI Ret) := by
  refine MZ.start (L := [some (.ref (E.1.heap.size + 44)), some (.int a1), some (.int a2), none, none, none, none, none]) hE (by decide) (Nat.le_of_ble_eq_true rfl) rfl fun C hCl hQo hC => ?_
  replace hC : Cx C E cX4_exchange 8 "RightTurnsModel" "exchange" (some .int) [] 7 := hC
  unfold wp_X4_exchange at hV
  have j_53 : ∀ (σ : ZS) (x2 : Int32) (x3 : Int32) (x4 : Int32) (x5 : Int32), V_X4_exchange_53 Ret σ x2 x3 x4 x5 → zz C E NS 8 σ 53 [some (.ref (E.1.heap.size + 44)), none, some (.int x2), some (.int x3), some (.int x4), some (.int x5), none, none] [] := by
    intro σ x2 x3 x4 x5 ⟨k, hV⟩
    revert σ x2 x3 x4 x5
    induction k with
    | zero => exact fun _ _ _ _ _ hV => hV.elim
    | succ k j_53 =>
      intro σ x2 x3 x4 x5 hV
      simp only [VL_X4_exchange_53] at hV
      generalize hKe53 : VL_X4_exchange_53 Ret k = K53 at hV j_53
      clear hKe53
      have j_86 : ∀ (σ : ZS) (x2 : Int32) (x3 : Int32) (x4 : Int32) (x5 : Int32) (x6 : Int32), V_X4_exchange_86 K53 Ret σ x2 x3 x4 x5 x6 → zz C E NS 8 σ 86 [some (.ref (E.1.heap.size + 44)), none, some (.int x2), some (.int x3), some (.int x4), some (.int x5), some (.int x6), none] [] := by
        intro σ x2 x3 x4 x5 x6 ⟨k, hV⟩
        revert σ x2 x3 x4 x5 x6
        induction k with
        | zero => exact fun _ _ _ _ _ _ hV => hV.elim
        | succ k j_86 =>
          intro σ x2 x3 x4 x5 x6 hV
          simp only [VL_X4_exchange_86] at hV
          generalize hKe86 : VL_X4_exchange_86 K53 Ret k = K86 at hV j_86
          clear hKe86
          refine z_iload hC dX4_exchange_86 rfl ?_
          refine z_aload_n hC dX4_exchange_88 rfl rfl ?_
          refine g_X4_334_44 hC dX4_exchange_89 ?_
          refine z_icmp_ge (tgt := 170) hC dX4_exchange_92 (by decide) (fun hc => ?_) (fun hc => ?_)
          · replace hV := hV.2 hc
            obtain ⟨y15, e_y15⟩ : ∃ z : Int32, z = x5 + 1 := ⟨_, rfl⟩
            replace hV := hV _ e_y15
            refine z_iinc (v := y15) hC dX4_exchange_170 rfl (by rw [e_y15]; rfl) (Nat.le_of_ble_eq_true rfl) rfl rfl ?_
            refine z_goto (tgt := 53) hC dX4_exchange_173 (by decide) ?_
            refine zz_sub (L' := [some (.ref (E.1.heap.size + 44)), none, some (.int x2), some (.int x3), some (.int x4), some (.int y15), none, none]) ⟨rfl, rfl, rfl, rfl, rfl, trivial⟩ ?_
            exact j_53 σ x2 x3 x4 y15 hV
          · replace hV := hV.1 hc
            refine z_aload_n hC dX4_exchange_95 rfl rfl ?_
            refine z_iload hC dX4_exchange_96 rfl ?_
            refine c_X4_355 hC (by decide) dX4_exchange_98 (Nat.le_of_ble_eq_true rfl) hV (fun σ17 hV => ?_)
            refine z_aload_n hC dX4_exchange_101 rfl rfl ?_
            refine z_aload_n hC dX4_exchange_102 rfl rfl ?_
            refine g_X4_77_44 hC dX4_exchange_103 ?_
            refine z_iload hC dX4_exchange_106 rfl ?_
            obtain ⟨h18, hV⟩ := hV
            refine z_iald hC dX4_exchange_108 (k_1147 _) (h18) ?_
            refine c_X4_355 hC (by decide) dX4_exchange_109 (Nat.le_of_ble_eq_true rfl) hV (fun σ20 hV => ?_)
            refine z_aload_n hC dX4_exchange_112 rfl rfl ?_
            refine c_X4_331 hC (by decide) dX4_exchange_113 (Nat.le_of_ble_eq_true rfl) hV (fun r21 σ22 hV => ?_)
            refine z_istore hC dX4_exchange_116 (Nat.le_of_ble_eq_true rfl) rfl rfl ?_
            refine z_aload_n hC dX4_exchange_118 rfl rfl ?_
            refine z_iload hC dX4_exchange_119 rfl ?_
            refine c_X4_355 hC (by decide) dX4_exchange_121 (Nat.le_of_ble_eq_true rfl) hV (fun σ24 hV => ?_)
            refine z_aload_n hC dX4_exchange_124 rfl rfl ?_
            refine z_aload_n hC dX4_exchange_125 rfl rfl ?_
            refine g_X4_77_44 hC dX4_exchange_126 ?_
            refine z_iload hC dX4_exchange_129 rfl ?_
            obtain ⟨h25, hV⟩ := hV
            refine z_iald hC dX4_exchange_131 (k_1147 _) (h25) ?_
            refine c_X4_355 hC (by decide) dX4_exchange_132 (Nat.le_of_ble_eq_true rfl) hV (fun σ27 hV => ?_)
            refine z_iload hC dX4_exchange_135 rfl ?_
            refine z_iload hC dX4_exchange_137 rfl ?_
            refine z_icmp_gt (tgt := 145) hC dX4_exchange_139 (by decide) (fun hc => ?_) (fun hc => ?_)
            · replace hV := hV.1 hc
              refine z_sipush (v := 1000) hC dX4_exchange_145 rfl ?_
              refine z_iload hC dX4_exchange_148 rfl ?_
              refine z_imul hC dX4_exchange_150 ?_
              refine z_aload_n hC dX4_exchange_151 rfl rfl ?_
              refine g_X4_77_44 hC dX4_exchange_152 ?_
              refine z_iload hC dX4_exchange_155 rfl ?_
              obtain ⟨h28, hV⟩ := hV
              refine z_iald hC dX4_exchange_157 (k_1147 _) (h28) ?_
              refine z_iadd hC dX4_exchange_158 ?_
              obtain ⟨y29, e_y29⟩ : ∃ z, z = (1000 * x5) + (zI σ27 1147 (ix x6)) := ⟨_, rfl⟩
              rw [← e_y29]
              replace hV := hV _ e_y29
              refine z_istore_n hC dX4_exchange_159 rfl (Nat.le_of_ble_eq_true rfl) rfl rfl ?_
              refine z_iload hC dX4_exchange_160 rfl ?_
              refine z_istore hC dX4_exchange_162 (Nat.le_of_ble_eq_true rfl) rfl rfl ?_
              obtain ⟨y30, e_y30⟩ : ∃ z : Int32, z = x6 + 1 := ⟨_, rfl⟩
              replace hV := hV _ e_y30
              refine z_iinc (v := y30) hC dX4_exchange_164 rfl (by rw [e_y30]; rfl) (Nat.le_of_ble_eq_true rfl) rfl rfl ?_
              refine z_goto (tgt := 86) hC dX4_exchange_167 (by decide) ?_
              refine zz_sub (L' := [some (.ref (E.1.heap.size + 44)), none, some (.int x2), some (.int y29), some (.int r21), some (.int x5), some (.int y30), none]) ⟨rfl, rfl, rfl, rfl, rfl, rfl, trivial⟩ ?_
              exact j_86 σ27 x2 y29 r21 x5 y30 hV
            · replace hV := hV.2 hc
              refine z_goto (tgt := 164) hC dX4_exchange_142 (by decide) ?_
              obtain ⟨y31, e_y31⟩ : ∃ z : Int32, z = x6 + 1 := ⟨_, rfl⟩
              replace hV := hV _ e_y31
              refine z_iinc (v := y31) hC dX4_exchange_164 rfl (by rw [e_y31]; rfl) (Nat.le_of_ble_eq_true rfl) rfl rfl ?_
              refine z_goto (tgt := 86) hC dX4_exchange_167 (by decide) ?_
              refine zz_sub (L' := [some (.ref (E.1.heap.size + 44)), none, some (.int x2), some (.int x3), some (.int x4), some (.int x5), some (.int y31), none]) ⟨rfl, rfl, rfl, rfl, rfl, rfl, trivial⟩ ?_
              exact j_86 σ27 x2 x3 x4 x5 y31 hV
      refine z_iload hC dX4_exchange_53 rfl ?_
      refine z_aload_n hC dX4_exchange_55 rfl rfl ?_
      refine g_X4_259_44 hC dX4_exchange_56 ?_
      refine z_icmp_ge (tgt := 176) hC dX4_exchange_59 (by decide) (fun hc => ?_) (fun hc => ?_)
      · replace hV := hV.2 hc
        refine z_iload_n hC dX4_exchange_176 rfl rfl ?_
        refine z_if_ne (tgt := 184) hC dX4_exchange_177 (by decide) (fun hc => ?_) (fun hc => ?_)
        · replace hV := hV.2 hc
          refine z_iload hC dX4_exchange_184 rfl ?_
          exact z_iret hC dX4_exchange_186 rfl (by rw [hQo]; exact ⟨_, rfl, hV⟩)
        · replace hV := hV.1 hc
          refine z_iload_n hC dX4_exchange_180 rfl rfl ?_
          refine z_goto (tgt := 186) hC dX4_exchange_181 (by decide) ?_
          exact z_iret hC dX4_exchange_186 rfl (by rw [hQo]; exact ⟨_, rfl, hV⟩)
      · replace hV := hV.1 hc
        refine z_aload_n hC dX4_exchange_62 rfl rfl ?_
        refine z_iload hC dX4_exchange_63 rfl ?_
        refine c_X4_337 hC (by decide) dX4_exchange_65 (Nat.le_of_ble_eq_true rfl) hV (fun r10 σ11 hV => ?_)
        refine z_if_eq (tgt := 170) hC dX4_exchange_68 (by decide) (fun hc => ?_) (fun hc => ?_)
        · replace hV := hV.1 hc
          obtain ⟨y12, e_y12⟩ : ∃ z : Int32, z = x5 + 1 := ⟨_, rfl⟩
          replace hV := hV _ e_y12
          refine z_iinc (v := y12) hC dX4_exchange_170 rfl (by rw [e_y12]; rfl) (Nat.le_of_ble_eq_true rfl) rfl rfl ?_
          refine z_goto (tgt := 53) hC dX4_exchange_173 (by decide) ?_
          refine zz_sub (L' := [some (.ref (E.1.heap.size + 44)), none, some (.int x2), some (.int x3), some (.int x4), some (.int y12), none, none]) ⟨rfl, rfl, rfl, rfl, rfl, trivial⟩ ?_
          exact j_53 σ11 x2 x3 x4 y12 hV
        · replace hV := hV.2 hc
          refine z_aload_n hC dX4_exchange_71 rfl rfl ?_
          refine z_iload hC dX4_exchange_72 rfl ?_
          refine c_X4_340 hC (by decide) dX4_exchange_74 (Nat.le_of_ble_eq_true rfl) hV (fun r13 σ14 hV => ?_)
          refine z_if_eq (tgt := 83) hC dX4_exchange_77 (by decide) (fun hc => ?_) (fun hc => ?_)
          · replace hV := hV.1 hc
            refine z_iconst (v := 0) hC dX4_exchange_83 rfl ?_
            refine z_istore hC dX4_exchange_84 (Nat.le_of_ble_eq_true rfl) rfl rfl ?_
            refine zz_sub (L' := [some (.ref (E.1.heap.size + 44)), none, some (.int x2), some (.int x3), some (.int x4), some (.int x5), some (.int 0), none]) ⟨rfl, rfl, rfl, rfl, rfl, rfl, trivial⟩ ?_
            exact j_86 σ14 x2 x3 x4 x5 0 hV
          · replace hV := hV.2 hc
            refine z_goto (tgt := 170) hC dX4_exchange_80 (by decide) ?_
            obtain ⟨y32, e_y32⟩ : ∃ z : Int32, z = x5 + 1 := ⟨_, rfl⟩
            replace hV := hV _ e_y32
            refine z_iinc (v := y32) hC dX4_exchange_170 rfl (by rw [e_y32]; rfl) (Nat.le_of_ble_eq_true rfl) rfl rfl ?_
            refine z_goto (tgt := 53) hC dX4_exchange_173 (by decide) ?_
            refine zz_sub (L' := [some (.ref (E.1.heap.size + 44)), none, some (.int x2), some (.int x3), some (.int x4), some (.int y32), none, none]) ⟨rfl, rfl, rfl, rfl, rfl, trivial⟩ ?_
            exact j_53 σ14 x2 x3 x4 y32 hV
  have j_28 : ∀ (σ : ZS) (x1 : Int32) (x2 : Int32) (s0 : Int32), V_X4_exchange_28 Ret σ x1 x2 s0 → zz C E NS 8 σ 28 [some (.ref (E.1.heap.size + 44)), some (.int x1), some (.int x2), none, none, none, none, none] [.int s0, .ref (E.1.heap.size + 44)] := by
    intro σ x1 x2 s0 hV
    unfold V_X4_exchange_28 at hV
    refine z_iconst (v := 1) hC dX4_exchange_28 rfl ?_
    refine c_X4_227 hC (by decide) dX4_exchange_29 (Nat.le_of_ble_eq_true rfl) hV (fun r4 σ5 hV => ?_)
    refine z_if_eq (tgt := 37) hC dX4_exchange_32 (by decide) (fun hc => ?_) (fun hc => ?_)
    · replace hV := hV.1 hc
      refine z_aload_n hC dX4_exchange_37 rfl rfl ?_
      refine z_iload_n hC dX4_exchange_38 rfl rfl ?_
      refine c_X4_343 hC (by decide) dX4_exchange_39 (Nat.le_of_ble_eq_true rfl) hV (fun σ7 hV => ?_)
      refine z_iconst (v := (-1)) hC dX4_exchange_42 rfl ?_
      refine z_istore_n hC dX4_exchange_43 rfl (Nat.le_of_ble_eq_true rfl) rfl rfl ?_
      refine z_aload_n hC dX4_exchange_44 rfl rfl ?_
      refine c_X4_331 hC (by decide) dX4_exchange_45 (Nat.le_of_ble_eq_true rfl) hV (fun r8 σ9 hV => ?_)
      refine z_istore hC dX4_exchange_48 (Nat.le_of_ble_eq_true rfl) rfl rfl ?_
      refine z_iconst (v := 0) hC dX4_exchange_50 rfl ?_
      refine z_istore hC dX4_exchange_51 (Nat.le_of_ble_eq_true rfl) rfl rfl ?_
      refine zz_sub (L' := [some (.ref (E.1.heap.size + 44)), none, some (.int x2), some (.int (-1)), some (.int r8), some (.int 0), none, none]) ⟨rfl, rfl, rfl, rfl, rfl, trivial⟩ ?_
      exact j_53 σ9 x2 (-1) r8 0 hV
    · replace hV := hV.2 hc
      refine z_iconst (v := 0) hC dX4_exchange_35 rfl ?_
      exact z_iret hC dX4_exchange_36 rfl (by rw [hQo]; exact ⟨_, rfl, hV⟩)
  have j_23 : ∀ (σ : ZS) (x1 : Int32) (x2 : Int32), V_X4_exchange_23 Ret σ x1 x2 → zz C E NS 8 σ 23 [some (.ref (E.1.heap.size + 44)), some (.int x1), some (.int x2), none, none, none, none, none] [.ref (E.1.heap.size + 44)] := by
    intro σ x1 x2 hV
    unfold V_X4_exchange_23 at hV
    refine z_iconst (v := 1) hC dX4_exchange_23 rfl ?_
    refine z_goto (tgt := 28) hC dX4_exchange_24 (by decide) ?_
    refine zz_sub (L' := [some (.ref (E.1.heap.size + 44)), some (.int x1), some (.int x2), none, none, none, none, none]) ⟨rfl, rfl, rfl, trivial⟩ ?_
    exact j_28 σ x1 x2 1 hV
  refine z_aload_n hC dX4_exchange_0 rfl rfl ?_
  refine z_iconst (v := 0) hC dX4_exchange_1 rfl ?_
  refine p_X4_131_c3 hC dX4_exchange_2 (k_44 _) ?_
  obtain ⟨σ1, e_σ1⟩ : ∃ z : ZS, z = sI σ 44 0 0 := ⟨_, rfl⟩
  replace hV := hV _ e_σ1
  rw [← e_σ1]
  refine z_aload_n hC dX4_exchange_5 rfl rfl ?_
  refine z_aload_n hC dX4_exchange_6 rfl rfl ?_
  refine z_iload_n hC dX4_exchange_7 rfl rfl ?_
  refine c_X4_281 hC (by decide) dX4_exchange_8 (Nat.le_of_ble_eq_true rfl) hV (fun r2 σ3 hV => ?_)
  refine z_if_eq (tgt := 23) hC dX4_exchange_11 (by decide) (fun hc => ?_) (fun hc => ?_)
  · replace hV := hV.1 hc
    refine zz_sub (L' := [some (.ref (E.1.heap.size + 44)), some (.int a1), some (.int a2), none, none, none, none, none]) ⟨rfl, rfl, rfl, trivial⟩ ?_
    exact j_23 σ3 a1 a2 hV
  · replace hV := hV.2 hc
    refine z_iload_n hC dX4_exchange_14 rfl rfl ?_
    refine z_iconst (v := 0) hC dX4_exchange_15 rfl ?_
    refine z_iconst (v := 1) hC dX4_exchange_16 rfl ?_
    refine c_X4_165 hC (by decide) dX4_exchange_17 (Nat.le_of_ble_eq_true rfl) hV (fun r33 σ34 hV => ?_)
    refine z_if_ne (tgt := 27) hC dX4_exchange_20 (by decide) (fun hc => ?_) (fun hc => ?_)
    · replace hV := hV.2 hc
      refine z_iconst (v := 0) hC dX4_exchange_27 rfl ?_
      refine zz_sub (L' := [some (.ref (E.1.heap.size + 44)), some (.int a1), some (.int a2), none, none, none, none, none]) ⟨rfl, rfl, rfl, trivial⟩ ?_
      exact j_28 σ34 a1 a2 0 hV
    · replace hV := hV.1 hc
      refine zz_sub (L' := [some (.ref (E.1.heap.size + 44)), some (.int a1), some (.int a2), none, none, none, none, none]) ⟨rfl, rfl, rfl, trivial⟩ ?_
      exact j_23 σ34 a1 a2 hV
theorem g_X4_9_44 {C : ZC} {E : ZE} {cc : ByteArray} {nL pc d : Nat} {nm : String} {ret : Option FieldType} {hh : List (Nat × Nat × Nat × Nat)} {σ : ZS} {L : List (Option Value)} {st : List Value} (hC : Cx C E cc nL "RightTurnsModel" nm ret hh d) (hd : decode cc pc = .ok (.getfield 9, 3)) (k : zz C E NS nL σ (pc + 3) L (.int (zI σ 44 3) :: st)) : zz C E NS nL σ pc L (.ref (E.1.heap.size + 44) :: st) :=
  z_get hC cf3 hd (k_44 σ) (k := 3) (by decide) (Or.inl q1588) (Or.inl rfl) rfl k
def wp_X4_fault (σ : ZS) (Ret : Int32 → ZS → Prop) : Prop :=
    ∀ σ1 : ZS, σ1 = sI σ 44 0 0 → (Ret (zI σ1 44 3) σ1)
set_option maxHeartbeats 4000000 in
theorem mz_X4_fault {l : Launch} {E : ZE} (hE : EOK E) {σ : ZS} {Ret : Int32 → ZS → Prop} (hV : wp_X4_fault σ Ret) : MZ l E NS yX4_fault (ws_ yX4_fault cX4_fault 1 (some .int)) 1 σ [.ref (E.1.heap.size + 44)] (rI Ret) := by
  refine MZ.start (L := [some (.ref (E.1.heap.size + 44))]) hE (by decide) (Nat.le_of_ble_eq_true rfl) rfl fun C hCl hQo hC => ?_
  replace hC : Cx C E cX4_fault 1 "RightTurnsModel" "fault" (some .int) [] 1 := hC
  unfold wp_X4_fault at hV
  refine z_aload_n hC dX4_fault_0 rfl rfl ?_
  refine z_iconst (v := 0) hC dX4_fault_1 rfl ?_
  refine p_X4_131_c3 hC dX4_fault_2 (k_44 _) ?_
  obtain ⟨σ1, e_σ1⟩ : ∃ z : ZS, z = sI σ 44 0 0 := ⟨_, rfl⟩
  replace hV := hV _ e_σ1
  rw [← e_σ1]
  refine z_aload_n hC dX4_fault_5 rfl rfl ?_
  refine g_X4_9_44 hC dX4_fault_6 ?_
  exact z_iret hC dX4_fault_9 rfl (by rw [hQo]; exact ⟨_, rfl, hV⟩)
theorem p_X4_134_c3 {C : ZC} {E : ZE} {cc : ByteArray} {n nL pc d a x : Nat} {nm : String} {ret : Option FieldType} {hh : List (Nat × Nat × Nat × Nat)} {σ : ZS} {L : List (Option Value)} {st : List Value} {v : Int32} (hC : Cx C E cc nL "RightTurnsModel" nm ret hh d) (hd : decode cc pc = .ok (.putfield 134, 3)) (hk : kK n σ a = (3 + 7, x)) (k : zz C E n nL (sI σ a 1 v) (pc + 3) L st) : zz C E n nL σ pc L (.int v :: .ref (E.1.heap.size + a) :: st) :=
  z_putI hC cf3 hd hk (k := 1) (by decide) (Or.inl q1586) (Or.inl rfl) (Or.inl rfl) rfl rfl rfl k
def V_X4_feed_76 (K23 : ZS → Int32 → Int32 → Int32 → Int32 → Int32 → Int32 → Prop) (Ret : Int32 → ZS → Prop) (σ : ZS) (x1 : Int32) (x2 : Int32) (x3 : Int32) (x4 : Int32) (x5 : Int32) (x6 : Int32) (s0 : Int32) : Prop :=
    vp_in (zI σ 44 1) 500 ∧ (∀ σ3 : ZS, σ3 = sI σ 45 (ix (zI σ 44 1)) ((s0 >>> ((24 - (8 * (x6 - x6 / 4 * 4))) &&& 31)) &&& 255) → (∀ σ4 : ZS, σ4 = sI σ3 44 1 ((zI σ3 44 1) + 1) → (∀ y5 : Int32, y5 = x6 + 1 → (K23 σ4 x1 x2 x3 x4 x5 y5))))
def VL_X4_feed_23 (Ret : Int32 → ZS → Prop) : Nat → ZS → Int32 → Int32 → Int32 → Int32 → Int32 → Int32 → Prop
  | 0 => fun _ _ _ _ _ _ _ => False
  | k + 1 => fun σ x1 x2 x3 x4 x5 x6 =>
    let K23 := VL_X4_feed_23 Ret k
    ((x6 < 20 → (((x6 < 4 → (V_X4_feed_76 K23 Ret σ x1 x2 x3 x4 x5 x6 x1)) ∧ (¬ x6 < 4 → (((x6 < 8 → (V_X4_feed_76 K23 Ret σ x1 x2 x3 x4 x5 x6 x2)) ∧ (¬ x6 < 8 → (((x6 < 12 → (V_X4_feed_76 K23 Ret σ x1 x2 x3 x4 x5 x6 x3)) ∧ (¬ x6 < 12 → (((x6 < 16 → (V_X4_feed_76 K23 Ret σ x1 x2 x3 x4 x5 x6 x4)) ∧ (¬ x6 < 16 → (V_X4_feed_76 K23 Ret σ x1 x2 x3 x4 x5 x6 x5)))))))))))))) ∧ (¬ x6 < 20 → (Ret (zI σ 44 1) σ)))
def V_X4_feed_23 (Ret : Int32 → ZS → Prop) (σ : ZS) (x1 : Int32) (x2 : Int32) (x3 : Int32) (x4 : Int32) (x5 : Int32) (x6 : Int32) : Prop := ∃ k, VL_X4_feed_23 Ret k σ x1 x2 x3 x4 x5 x6
def wp_X4_feed (σ : ZS) (a1 : Int32) (a2 : Int32) (a3 : Int32) (a4 : Int32) (a5 : Int32) (Ret : Int32 → ZS → Prop) : Prop :=
    ∀ σ1 : ZS, σ1 = sI σ 44 0 0 → (((500 < ((zI σ1 44 1) + 20) → (Ret (-1) σ1)) ∧ (¬ 500 < ((zI σ1 44 1) + 20) → (V_X4_feed_23 Ret σ1 a1 a2 a3 a4 a5 0))))
set_option maxHeartbeats 4000000 in
theorem mz_X4_feed {l : Launch} {E : ZE} (hE : EOK E) {σ : ZS} {a1 : Int32} {a2 : Int32} {a3 : Int32} {a4 : Int32} {a5 : Int32} {Ret : Int32 → ZS → Prop} (hV : wp_X4_feed σ a1 a2 a3 a4 a5 Ret) : MZ l E NS yX4_feed (ws_ yX4_feed cX4_feed 8 (some .int)) 1 σ [.ref (E.1.heap.size + 44), .int a1, .int a2, .int a3, .int a4, .int a5] (rI Ret) := by
  refine MZ.start (L := [some (.ref (E.1.heap.size + 44)), some (.int a1), some (.int a2), some (.int a3), some (.int a4), some (.int a5), none, none]) hE (by decide) (Nat.le_of_ble_eq_true rfl) rfl fun C hCl hQo hC => ?_
  replace hC : Cx C E cX4_feed 8 "RightTurnsModel" "feed" (some .int) [] 1 := hC
  unfold wp_X4_feed at hV
  have j_23 : ∀ (σ : ZS) (x1 : Int32) (x2 : Int32) (x3 : Int32) (x4 : Int32) (x5 : Int32) (x6 : Int32), V_X4_feed_23 Ret σ x1 x2 x3 x4 x5 x6 → zz C E NS 8 σ 23 [some (.ref (E.1.heap.size + 44)), some (.int x1), some (.int x2), some (.int x3), some (.int x4), some (.int x5), some (.int x6), none] [] := by
    intro σ x1 x2 x3 x4 x5 x6 ⟨k, hV⟩
    revert σ x1 x2 x3 x4 x5 x6
    induction k with
    | zero => exact fun _ _ _ _ _ _ _ hV => hV.elim
    | succ k j_23 =>
      intro σ x1 x2 x3 x4 x5 x6 hV
      simp only [VL_X4_feed_23] at hV
      generalize hKe23 : VL_X4_feed_23 Ret k = K23 at hV j_23
      clear hKe23
      have j_76 : ∀ (σ : ZS) (x1 : Int32) (x2 : Int32) (x3 : Int32) (x4 : Int32) (x5 : Int32) (x6 : Int32) (s0 : Int32), V_X4_feed_76 K23 Ret σ x1 x2 x3 x4 x5 x6 s0 → zz C E NS 8 σ 76 [some (.ref (E.1.heap.size + 44)), some (.int x1), some (.int x2), some (.int x3), some (.int x4), some (.int x5), some (.int x6), none] [.int s0] := by
        intro σ x1 x2 x3 x4 x5 x6 s0 hV
        unfold V_X4_feed_76 at hV
        refine z_istore hC dX4_feed_76 (Nat.le_of_ble_eq_true rfl) rfl rfl ?_
        refine z_aload_n hC dX4_feed_78 rfl rfl ?_
        refine g_X4_13_44 hC dX4_feed_79 ?_
        refine z_aload_n hC dX4_feed_82 rfl rfl ?_
        refine g_X4_134_44 hC dX4_feed_83 ?_
        refine z_iload hC dX4_feed_86 rfl ?_
        refine z_bipush (v := 24) hC dX4_feed_88 rfl ?_
        refine z_bipush (v := 8) hC dX4_feed_90 rfl ?_
        refine z_iload hC dX4_feed_92 rfl ?_
        refine z_iconst (v := 4) hC dX4_feed_94 rfl ?_
        refine z_irem hC dX4_feed_95 (by decide) ?_
        refine z_imul hC dX4_feed_96 ?_
        refine z_isub hC dX4_feed_97 ?_
        refine z_ishr hC dX4_feed_98 ?_
        refine z_sipush (v := 255) hC dX4_feed_99 rfl ?_
        refine z_iand hC dX4_feed_102 ?_
        obtain ⟨h2, hV⟩ := hV
        refine z_iast hC dX4_feed_103 (k_45 _) (h2) ?_
        obtain ⟨σ3, e_σ3⟩ : ∃ z : ZS, z = sI σ 45 (ix (zI σ 44 1)) ((s0 >>> ((24 - (8 * (x6 - x6 / 4 * 4))) &&& 31)) &&& 255) := ⟨_, rfl⟩
        replace hV := hV _ e_σ3
        rw [← e_σ3]
        refine z_aload_n hC dX4_feed_104 rfl rfl ?_
        refine z_dup hC dX4_feed_105 rfl ?_
        refine g_X4_134_44 hC dX4_feed_106 ?_
        refine z_iconst (v := 1) hC dX4_feed_109 rfl ?_
        refine z_iadd hC dX4_feed_110 ?_
        refine p_X4_134_c3 hC dX4_feed_111 (k_44 _) ?_
        obtain ⟨σ4, e_σ4⟩ : ∃ z : ZS, z = sI σ3 44 1 ((zI σ3 44 1) + 1) := ⟨_, rfl⟩
        replace hV := hV _ e_σ4
        rw [← e_σ4]
        obtain ⟨y5, e_y5⟩ : ∃ z : Int32, z = x6 + 1 := ⟨_, rfl⟩
        replace hV := hV _ e_y5
        refine z_iinc (v := y5) hC dX4_feed_114 rfl (by rw [e_y5]; rfl) (Nat.le_of_ble_eq_true rfl) rfl rfl ?_
        refine z_goto (tgt := 23) hC dX4_feed_117 (by decide) ?_
        refine zz_sub (L' := [some (.ref (E.1.heap.size + 44)), some (.int x1), some (.int x2), some (.int x3), some (.int x4), some (.int x5), some (.int y5), none]) ⟨rfl, rfl, rfl, rfl, rfl, rfl, rfl, trivial⟩ ?_
        exact j_23 σ4 x1 x2 x3 x4 x5 y5 hV
      refine z_iload hC dX4_feed_23 rfl ?_
      refine z_bipush (v := 20) hC dX4_feed_25 rfl ?_
      refine z_icmp_ge (tgt := 120) hC dX4_feed_27 (by decide) (fun hc => ?_) (fun hc => ?_)
      · replace hV := hV.2 hc
        refine z_aload_n hC dX4_feed_120 rfl rfl ?_
        refine g_X4_134_44 hC dX4_feed_121 ?_
        exact z_iret hC dX4_feed_124 rfl (by rw [hQo]; exact ⟨_, rfl, hV⟩)
      · replace hV := hV.1 hc
        refine z_iload hC dX4_feed_30 rfl ?_
        refine z_iconst (v := 4) hC dX4_feed_32 rfl ?_
        refine z_icmp_ge (tgt := 40) hC dX4_feed_33 (by decide) (fun hc => ?_) (fun hc => ?_)
        · replace hV := hV.2 hc
          refine z_iload hC dX4_feed_40 rfl ?_
          refine z_bipush (v := 8) hC dX4_feed_42 rfl ?_
          refine z_icmp_ge (tgt := 51) hC dX4_feed_44 (by decide) (fun hc => ?_) (fun hc => ?_)
          · replace hV := hV.2 hc
            refine z_iload hC dX4_feed_51 rfl ?_
            refine z_bipush (v := 12) hC dX4_feed_53 rfl ?_
            refine z_icmp_ge (tgt := 62) hC dX4_feed_55 (by decide) (fun hc => ?_) (fun hc => ?_)
            · replace hV := hV.2 hc
              refine z_iload hC dX4_feed_62 rfl ?_
              refine z_bipush (v := 16) hC dX4_feed_64 rfl ?_
              refine z_icmp_ge (tgt := 74) hC dX4_feed_66 (by decide) (fun hc => ?_) (fun hc => ?_)
              · replace hV := hV.2 hc
                refine z_iload hC dX4_feed_74 rfl ?_
                refine zz_sub (L' := [some (.ref (E.1.heap.size + 44)), some (.int x1), some (.int x2), some (.int x3), some (.int x4), some (.int x5), some (.int x6), none]) ⟨rfl, rfl, rfl, rfl, rfl, rfl, rfl, trivial⟩ ?_
                exact j_76 σ x1 x2 x3 x4 x5 x6 x5 hV
              · replace hV := hV.1 hc
                refine z_iload hC dX4_feed_69 rfl ?_
                refine z_goto (tgt := 76) hC dX4_feed_71 (by decide) ?_
                refine zz_sub (L' := [some (.ref (E.1.heap.size + 44)), some (.int x1), some (.int x2), some (.int x3), some (.int x4), some (.int x5), some (.int x6), none]) ⟨rfl, rfl, rfl, rfl, rfl, rfl, rfl, trivial⟩ ?_
                exact j_76 σ x1 x2 x3 x4 x5 x6 x4 hV
            · replace hV := hV.1 hc
              refine z_iload_n hC dX4_feed_58 rfl rfl ?_
              refine z_goto (tgt := 76) hC dX4_feed_59 (by decide) ?_
              refine zz_sub (L' := [some (.ref (E.1.heap.size + 44)), some (.int x1), some (.int x2), some (.int x3), some (.int x4), some (.int x5), some (.int x6), none]) ⟨rfl, rfl, rfl, rfl, rfl, rfl, rfl, trivial⟩ ?_
              exact j_76 σ x1 x2 x3 x4 x5 x6 x3 hV
          · replace hV := hV.1 hc
            refine z_iload_n hC dX4_feed_47 rfl rfl ?_
            refine z_goto (tgt := 76) hC dX4_feed_48 (by decide) ?_
            refine zz_sub (L' := [some (.ref (E.1.heap.size + 44)), some (.int x1), some (.int x2), some (.int x3), some (.int x4), some (.int x5), some (.int x6), none]) ⟨rfl, rfl, rfl, rfl, rfl, rfl, rfl, trivial⟩ ?_
            exact j_76 σ x1 x2 x3 x4 x5 x6 x2 hV
        · replace hV := hV.1 hc
          refine z_iload_n hC dX4_feed_36 rfl rfl ?_
          refine z_goto (tgt := 76) hC dX4_feed_37 (by decide) ?_
          refine zz_sub (L' := [some (.ref (E.1.heap.size + 44)), some (.int x1), some (.int x2), some (.int x3), some (.int x4), some (.int x5), some (.int x6), none]) ⟨rfl, rfl, rfl, rfl, rfl, rfl, rfl, trivial⟩ ?_
          exact j_76 σ x1 x2 x3 x4 x5 x6 x1 hV
  refine z_aload_n hC dX4_feed_0 rfl rfl ?_
  refine z_iconst (v := 0) hC dX4_feed_1 rfl ?_
  refine p_X4_131_c3 hC dX4_feed_2 (k_44 _) ?_
  obtain ⟨σ1, e_σ1⟩ : ∃ z : ZS, z = sI σ 44 0 0 := ⟨_, rfl⟩
  replace hV := hV _ e_σ1
  rw [← e_σ1]
  refine z_aload_n hC dX4_feed_5 rfl rfl ?_
  refine g_X4_134_44 hC dX4_feed_6 ?_
  refine z_bipush (v := 20) hC dX4_feed_9 rfl ?_
  refine z_iadd hC dX4_feed_11 ?_
  refine z_sipush (v := 500) hC dX4_feed_12 rfl ?_
  refine z_icmp_le (tgt := 20) hC dX4_feed_15 (by decide) (fun hc => ?_) (fun hc => ?_)
  · replace hV := hV.2 hc
    refine z_iconst (v := 0) hC dX4_feed_20 rfl ?_
    refine z_istore hC dX4_feed_21 (Nat.le_of_ble_eq_true rfl) rfl rfl ?_
    refine zz_sub (L' := [some (.ref (E.1.heap.size + 44)), some (.int a1), some (.int a2), some (.int a3), some (.int a4), some (.int a5), some (.int 0), none]) ⟨rfl, rfl, rfl, rfl, rfl, rfl, rfl, trivial⟩ ?_
    exact j_23 σ1 a1 a2 a3 a4 a5 0 hV
  · replace hV := hV.1 hc
    refine z_iconst (v := (-1)) hC dX4_feed_18 rfl ?_
    exact z_iret hC dX4_feed_19 rfl (by rw [hQo]; exact ⟨_, rfl, hV⟩)
def V_X4_fewest_28 (Ret : Int32 → ZS → Prop) (σ : ZS) (x1 : Int32) (x2 : Int32) (s0 : Int32) : Prop :=
    wp_X4_bad σ s0 1 (fun r4 σ5 => ((r4 = 0 → (wp_X4_findSet σ5 x1 0 (fun σ7 => ((x2 = 0 → (Ret (zI σ7 44 34) σ7)) ∧ (¬ x2 = 0 → (Ret (zI σ7 44 35) σ7)))))) ∧ (¬ r4 = 0 → (Ret 0 σ5))))
def V_X4_fewest_23 (Ret : Int32 → ZS → Prop) (σ : ZS) (x1 : Int32) (x2 : Int32) : Prop :=
    V_X4_fewest_28 Ret σ x1 x2 1
def wp_X4_fewest (σ : ZS) (a1 : Int32) (a2 : Int32) (Ret : Int32 → ZS → Prop) : Prop :=
    ∀ σ1 : ZS, σ1 = sI σ 44 0 0 → (wp_X4_isTime σ1 a1 (fun r2 σ3 => ((r2 = 0 → (V_X4_fewest_23 Ret σ3 a1 a2)) ∧ (¬ r2 = 0 → (wp_X4_in σ3 a2 0 1 (fun r8 σ9 => ((r8 = 0 → (V_X4_fewest_23 Ret σ9 a1 a2)) ∧ (¬ r8 = 0 → (V_X4_fewest_28 Ret σ9 a1 a2 0)))))))))
set_option maxHeartbeats 4000000 in
theorem mz_X4_fewest {l : Launch} {E : ZE} (hE : EOK E) {σ : ZS} {a1 : Int32} {a2 : Int32} {Ret : Int32 → ZS → Prop} (hV : wp_X4_fewest σ a1 a2 Ret) : MZ l E NS yX4_fewest (ws_ yX4_fewest cX4_fewest 3 (some .int)) 9 σ [.ref (E.1.heap.size + 44), .int a1, .int a2] (rI Ret) := by
  refine MZ.start (L := [some (.ref (E.1.heap.size + 44)), some (.int a1), some (.int a2)]) hE (by decide) (Nat.le_of_ble_eq_true rfl) rfl fun C hCl hQo hC => ?_
  replace hC : Cx C E cX4_fewest 3 "RightTurnsModel" "fewest" (some .int) [] 9 := hC
  unfold wp_X4_fewest at hV
  have j_28 : ∀ (σ : ZS) (x1 : Int32) (x2 : Int32) (s0 : Int32), V_X4_fewest_28 Ret σ x1 x2 s0 → zz C E NS 3 σ 28 [some (.ref (E.1.heap.size + 44)), some (.int x1), some (.int x2)] [.int s0, .ref (E.1.heap.size + 44)] := by
    intro σ x1 x2 s0 hV
    unfold V_X4_fewest_28 at hV
    refine z_iconst (v := 1) hC dX4_fewest_28 rfl ?_
    refine c_X4_227 hC (by decide) dX4_fewest_29 (Nat.le_of_ble_eq_true rfl) hV (fun r4 σ5 hV => ?_)
    refine z_if_eq (tgt := 37) hC dX4_fewest_32 (by decide) (fun hc => ?_) (fun hc => ?_)
    · replace hV := hV.1 hc
      refine z_aload_n hC dX4_fewest_37 rfl rfl ?_
      refine z_iload_n hC dX4_fewest_38 rfl rfl ?_
      refine z_iconst (v := 0) hC dX4_fewest_39 rfl ?_
      refine c_X4_362 hC (by decide) dX4_fewest_40 (Nat.le_of_ble_eq_true rfl) hV (fun σ7 hV => ?_)
      refine z_iload_n hC dX4_fewest_43 rfl rfl ?_
      refine z_if_ne (tgt := 54) hC dX4_fewest_44 (by decide) (fun hc => ?_) (fun hc => ?_)
      · replace hV := hV.2 hc
        refine z_aload_n hC dX4_fewest_54 rfl rfl ?_
        refine g_X4_349_44 hC dX4_fewest_55 ?_
        exact z_iret hC dX4_fewest_58 rfl (by rw [hQo]; exact ⟨_, rfl, hV⟩)
      · replace hV := hV.1 hc
        refine z_aload_n hC dX4_fewest_47 rfl rfl ?_
        refine g_X4_346_44 hC dX4_fewest_48 ?_
        refine z_goto (tgt := 58) hC dX4_fewest_51 (by decide) ?_
        exact z_iret hC dX4_fewest_58 rfl (by rw [hQo]; exact ⟨_, rfl, hV⟩)
    · replace hV := hV.2 hc
      refine z_iconst (v := 0) hC dX4_fewest_35 rfl ?_
      exact z_iret hC dX4_fewest_36 rfl (by rw [hQo]; exact ⟨_, rfl, hV⟩)
  have j_23 : ∀ (σ : ZS) (x1 : Int32) (x2 : Int32), V_X4_fewest_23 Ret σ x1 x2 → zz C E NS 3 σ 23 [some (.ref (E.1.heap.size + 44)), some (.int x1), some (.int x2)] [.ref (E.1.heap.size + 44)] := by
    intro σ x1 x2 hV
    unfold V_X4_fewest_23 at hV
    refine z_iconst (v := 1) hC dX4_fewest_23 rfl ?_
    refine z_goto (tgt := 28) hC dX4_fewest_24 (by decide) ?_
    refine zz_sub (L' := [some (.ref (E.1.heap.size + 44)), some (.int x1), some (.int x2)]) ⟨rfl, rfl, rfl, trivial⟩ ?_
    exact j_28 σ x1 x2 1 hV
  refine z_aload_n hC dX4_fewest_0 rfl rfl ?_
  refine z_iconst (v := 0) hC dX4_fewest_1 rfl ?_
  refine p_X4_131_c3 hC dX4_fewest_2 (k_44 _) ?_
  obtain ⟨σ1, e_σ1⟩ : ∃ z : ZS, z = sI σ 44 0 0 := ⟨_, rfl⟩
  replace hV := hV _ e_σ1
  rw [← e_σ1]
  refine z_aload_n hC dX4_fewest_5 rfl rfl ?_
  refine z_aload_n hC dX4_fewest_6 rfl rfl ?_
  refine z_iload_n hC dX4_fewest_7 rfl rfl ?_
  refine c_X4_281 hC (by decide) dX4_fewest_8 (Nat.le_of_ble_eq_true rfl) hV (fun r2 σ3 hV => ?_)
  refine z_if_eq (tgt := 23) hC dX4_fewest_11 (by decide) (fun hc => ?_) (fun hc => ?_)
  · replace hV := hV.1 hc
    refine zz_sub (L' := [some (.ref (E.1.heap.size + 44)), some (.int a1), some (.int a2)]) ⟨rfl, rfl, rfl, trivial⟩ ?_
    exact j_23 σ3 a1 a2 hV
  · replace hV := hV.2 hc
    refine z_iload_n hC dX4_fewest_14 rfl rfl ?_
    refine z_iconst (v := 0) hC dX4_fewest_15 rfl ?_
    refine z_iconst (v := 1) hC dX4_fewest_16 rfl ?_
    refine c_X4_165 hC (by decide) dX4_fewest_17 (Nat.le_of_ble_eq_true rfl) hV (fun r8 σ9 hV => ?_)
    refine z_if_ne (tgt := 27) hC dX4_fewest_20 (by decide) (fun hc => ?_) (fun hc => ?_)
    · replace hV := hV.2 hc
      refine z_iconst (v := 0) hC dX4_fewest_27 rfl ?_
      refine zz_sub (L' := [some (.ref (E.1.heap.size + 44)), some (.int a1), some (.int a2)]) ⟨rfl, rfl, rfl, trivial⟩ ?_
      exact j_28 σ9 a1 a2 0 hV
    · replace hV := hV.1 hc
      refine zz_sub (L' := [some (.ref (E.1.heap.size + 44)), some (.int a1), some (.int a2)]) ⟨rfl, rfl, rfl, trivial⟩ ?_
      exact j_23 σ9 a1 a2 hV
theorem p_X4_259_c3 {C : ZC} {E : ZE} {cc : ByteArray} {n nL pc d a x : Nat} {nm : String} {ret : Option FieldType} {hh : List (Nat × Nat × Nat × Nat)} {σ : ZS} {L : List (Option Value)} {st : List Value} {v : Int32} (hC : Cx C E cc nL "RightTurnsModel" nm ret hh d) (hd : decode cc pc = .ok (.putfield 259, 3)) (hk : kK n σ a = (3 + 7, x)) (k : zz C E n nL (sI σ a 27 v) (pc + 3) L st) : zz C E n nL σ pc L (.int v :: .ref (E.1.heap.size + a) :: st) :=
  z_putI hC cf3 hd hk (k := 27) (by decide) (Or.inl q1612) (Or.inl rfl) (Or.inl rfl) rfl rfl rfl k
def VL_X4_findLefts_34 (K7 : ZS → Int32 → Prop) (K19 : ZS → Int32 → Int32 → Prop) (Ret : ZS → Prop) : Nat → ZS → Int32 → Int32 → Int32 → Int32 → Prop
  | 0 => fun _ _ _ _ _ => False
  | k + 1 => fun σ x1 x2 x3 x4 =>
    let K34 := VL_X4_findLefts_34 K7 K19 Ret k
    ((x4 < 4 → (((x3 = 0 → (wp_X4_isArc σ ((2 * x1) + (x4 / 2)) (fun r11 σ12 => ((r11 = 0 → (∀ y13 : Int32, y13 = x4 + 1 → (K34 σ12 x1 x2 0 y13))) ∧ (¬ r11 = 0 → (wp_X4_isArc σ12 ((2 * x2) + (x4 - x4 / 2 * 2)) (fun r14 σ15 => ((r14 = 0 → (∀ y16 : Int32, y16 = x4 + 1 → (K34 σ15 x1 x2 0 y16))) ∧ (¬ r14 = 0 → (wp_X4_turnOf σ15 ((2 * x1) + (x4 / 2)) ((2 * x2) + (x4 - x4 / 2 * 2)) (fun r17 σ18 => ((r17 = 3 → (∀ y20 : Int32, y20 = x4 + 1 → (K34 σ18 x1 x2 1 y20))) ∧ (¬ r17 = 3 → (∀ y19 : Int32, y19 = x4 + 1 → (K34 σ18 x1 x2 0 y19))))))))))))))) ∧ (¬ x3 = 0 → (∀ y10 : Int32, y10 = x4 + 1 → (K34 σ x1 x2 1 y10)))))) ∧ (¬ x4 < 4 → (((x3 = 0 → (∀ y9 : Int32, y9 = x2 + 1 → (K19 σ x1 y9))) ∧ (¬ x3 = 0 → (vp_in (zI σ 44 27) 576 ∧ (∀ σ4 : ZS, σ4 = sI σ (569 + 1 + ix (zI σ 44 27)) (ix 0) x1 → (vp_in (zI σ4 44 27) 576 ∧ (∀ σ6 : ZS, σ6 = sI σ4 (569 + 1 + ix (zI σ4 44 27)) (ix 1) x2 → (∀ σ7 : ZS, σ7 = sI σ6 44 27 ((zI σ6 44 27) + 1) → (∀ y8 : Int32, y8 = x2 + 1 → (K19 σ7 x1 y8))))))))))))
def V_X4_findLefts_34 (K7 : ZS → Int32 → Prop) (K19 : ZS → Int32 → Int32 → Prop) (Ret : ZS → Prop) (σ : ZS) (x1 : Int32) (x2 : Int32) (x3 : Int32) (x4 : Int32) : Prop := ∃ k, VL_X4_findLefts_34 K7 K19 Ret k σ x1 x2 x3 x4
def VL_X4_findLefts_19 (K7 : ZS → Int32 → Prop) (Ret : ZS → Prop) : Nat → ZS → Int32 → Int32 → Prop
  | 0 => fun _ _ _ => False
  | k + 1 => fun σ x1 x2 =>
    let K19 := VL_X4_findLefts_19 K7 Ret k
    ((x2 < (zI σ 47 (ix 1)) → (V_X4_findLefts_34 K7 K19 Ret σ x1 x2 0 0)) ∧ (¬ x2 < (zI σ 47 (ix 1)) → (∀ y2 : Int32, y2 = x1 + 1 → (K7 σ y2))))
def V_X4_findLefts_19 (K7 : ZS → Int32 → Prop) (Ret : ZS → Prop) (σ : ZS) (x1 : Int32) (x2 : Int32) : Prop := ∃ k, VL_X4_findLefts_19 K7 Ret k σ x1 x2
def VL_X4_findLefts_7 (Ret : ZS → Prop) : Nat → ZS → Int32 → Prop
  | 0 => fun _ _ => False
  | k + 1 => fun σ x1 =>
    let K7 := VL_X4_findLefts_7 Ret k
    ((x1 < (zI σ 47 (ix 1)) → (V_X4_findLefts_19 K7 Ret σ x1 0)) ∧ (¬ x1 < (zI σ 47 (ix 1)) → (Ret σ)))
def V_X4_findLefts_7 (Ret : ZS → Prop) (σ : ZS) (x1 : Int32) : Prop := ∃ k, VL_X4_findLefts_7 Ret k σ x1
def wp_X4_findLefts (σ : ZS) (Ret : ZS → Prop) : Prop :=
    ∀ σ1 : ZS, σ1 = sI σ 44 27 0 → (V_X4_findLefts_7 Ret σ1 0)
set_option maxHeartbeats 4000000 in
theorem mz_X4_findLefts {l : Launch} {E : ZE} (hE : EOK E) {σ : ZS} {Ret : ZS → Prop} (hV : wp_X4_findLefts σ Ret) : MZ l E NS yX4_findLefts (ws_ yX4_findLefts cX4_findLefts 5 none) 4 σ [.ref (E.1.heap.size + 44)] (rV Ret) := by
  refine MZ.start (L := [some (.ref (E.1.heap.size + 44)), none, none, none, none]) hE (by decide) (Nat.le_of_ble_eq_true rfl) rfl fun C hCl hQo hC => ?_
  replace hC : Cx C E cX4_findLefts 5 "RightTurnsModel" "findLefts" none [] 4 := hC
  unfold wp_X4_findLefts at hV
  have j_7 : ∀ (σ : ZS) (x1 : Int32), V_X4_findLefts_7 Ret σ x1 → zz C E NS 5 σ 7 [some (.ref (E.1.heap.size + 44)), some (.int x1), none, none, none] [] := by
    intro σ x1 ⟨k, hV⟩
    revert σ x1
    induction k with
    | zero => exact fun _ _ hV => hV.elim
    | succ k j_7 =>
      intro σ x1 hV
      simp only [VL_X4_findLefts_7] at hV
      generalize hKe7 : VL_X4_findLefts_7 Ret k = K7 at hV j_7
      clear hKe7
      have j_19 : ∀ (σ : ZS) (x1 : Int32) (x2 : Int32), V_X4_findLefts_19 K7 Ret σ x1 x2 → zz C E NS 5 σ 19 [some (.ref (E.1.heap.size + 44)), some (.int x1), some (.int x2), none, none] [] := by
        intro σ x1 x2 ⟨k, hV⟩
        revert σ x1 x2
        induction k with
        | zero => exact fun _ _ _ hV => hV.elim
        | succ k j_19 =>
          intro σ x1 x2 hV
          simp only [VL_X4_findLefts_19] at hV
          generalize hKe19 : VL_X4_findLefts_19 K7 Ret k = K19 at hV j_19
          clear hKe19
          have j_34 : ∀ (σ : ZS) (x1 : Int32) (x2 : Int32) (x3 : Int32) (x4 : Int32), V_X4_findLefts_34 K7 K19 Ret σ x1 x2 x3 x4 → zz C E NS 5 σ 34 [some (.ref (E.1.heap.size + 44)), some (.int x1), some (.int x2), some (.int x3), some (.int x4)] [] := by
            intro σ x1 x2 x3 x4 ⟨k, hV⟩
            revert σ x1 x2 x3 x4
            induction k with
            | zero => exact fun _ _ _ _ _ hV => hV.elim
            | succ k j_34 =>
              intro σ x1 x2 x3 x4 hV
              simp only [VL_X4_findLefts_34] at hV
              generalize hKe34 : VL_X4_findLefts_34 K7 K19 Ret k = K34 at hV j_34
              clear hKe34
              refine z_iload hC dX4_findLefts_34 rfl ?_
              refine z_iconst (v := 4) hC dX4_findLefts_36 rfl ?_
              refine z_icmp_ge (tgt := 110) hC dX4_findLefts_37 (by decide) (fun hc => ?_) (fun hc => ?_)
              · replace hV := hV.2 hc
                refine z_iload_n hC dX4_findLefts_110 rfl rfl ?_
                refine z_if_ne (tgt := 117) hC dX4_findLefts_111 (by decide) (fun hc => ?_) (fun hc => ?_)
                · replace hV := hV.2 hc
                  refine z_aload_n hC dX4_findLefts_117 rfl rfl ?_
                  refine g_X4_71_44 hC dX4_findLefts_118 ?_
                  refine z_aload_n hC dX4_findLefts_121 rfl rfl ?_
                  refine g_X4_259_44 hC dX4_findLefts_122 ?_
                  obtain ⟨h3, hV⟩ := hV
                  refine z_aalS hC dX4_findLefts_125 (k_569 _) (by decide) ps_569 h3 ?_
                  refine z_iconst (v := 0) hC dX4_findLefts_126 rfl ?_
                  refine z_iload_n hC dX4_findLefts_127 rfl rfl ?_
                  refine z_iast hC dX4_findLefts_128 (kr_569 _ (ix_lt h3)) (in_dec rfl) ?_
                  obtain ⟨σ4, e_σ4⟩ : ∃ z : ZS, z = sI σ (569 + 1 + ix (zI σ 44 27)) (ix 0) x1 := ⟨_, rfl⟩
                  replace hV := hV _ e_σ4
                  rw [← e_σ4]
                  refine z_aload_n hC dX4_findLefts_129 rfl rfl ?_
                  refine g_X4_71_44 hC dX4_findLefts_130 ?_
                  refine z_aload_n hC dX4_findLefts_133 rfl rfl ?_
                  refine g_X4_259_44 hC dX4_findLefts_134 ?_
                  obtain ⟨h5, hV⟩ := hV
                  refine z_aalS hC dX4_findLefts_137 (k_569 _) (by decide) ps_569 h5 ?_
                  refine z_iconst (v := 1) hC dX4_findLefts_138 rfl ?_
                  refine z_iload_n hC dX4_findLefts_139 rfl rfl ?_
                  refine z_iast hC dX4_findLefts_140 (kr_569 _ (ix_lt h5)) (in_dec rfl) ?_
                  obtain ⟨σ6, e_σ6⟩ : ∃ z : ZS, z = sI σ4 (569 + 1 + ix (zI σ4 44 27)) (ix 1) x2 := ⟨_, rfl⟩
                  replace hV := hV _ e_σ6
                  rw [← e_σ6]
                  refine z_aload_n hC dX4_findLefts_141 rfl rfl ?_
                  refine z_dup hC dX4_findLefts_142 rfl ?_
                  refine g_X4_259_44 hC dX4_findLefts_143 ?_
                  refine z_iconst (v := 1) hC dX4_findLefts_146 rfl ?_
                  refine z_iadd hC dX4_findLefts_147 ?_
                  refine p_X4_259_c3 hC dX4_findLefts_148 (k_44 _) ?_
                  obtain ⟨σ7, e_σ7⟩ : ∃ z : ZS, z = sI σ6 44 27 ((zI σ6 44 27) + 1) := ⟨_, rfl⟩
                  replace hV := hV _ e_σ7
                  rw [← e_σ7]
                  obtain ⟨y8, e_y8⟩ : ∃ z : Int32, z = x2 + 1 := ⟨_, rfl⟩
                  replace hV := hV _ e_y8
                  refine z_iinc (v := y8) hC dX4_findLefts_151 rfl (by rw [e_y8]; rfl) (Nat.le_of_ble_eq_true rfl) rfl rfl ?_
                  refine z_goto (tgt := 19) hC dX4_findLefts_154 (by decide) ?_
                  refine zz_sub (L' := [some (.ref (E.1.heap.size + 44)), some (.int x1), some (.int y8), none, none]) ⟨rfl, rfl, rfl, trivial⟩ ?_
                  exact j_19 σ7 x1 y8 hV
                · replace hV := hV.1 hc
                  refine z_goto (tgt := 151) hC dX4_findLefts_114 (by decide) ?_
                  obtain ⟨y9, e_y9⟩ : ∃ z : Int32, z = x2 + 1 := ⟨_, rfl⟩
                  replace hV := hV _ e_y9
                  refine z_iinc (v := y9) hC dX4_findLefts_151 rfl (by rw [e_y9]; rfl) (Nat.le_of_ble_eq_true rfl) rfl rfl ?_
                  refine z_goto (tgt := 19) hC dX4_findLefts_154 (by decide) ?_
                  refine zz_sub (L' := [some (.ref (E.1.heap.size + 44)), some (.int x1), some (.int y9), none, none]) ⟨rfl, rfl, rfl, trivial⟩ ?_
                  exact j_19 σ x1 y9 hV
              · replace hV := hV.1 hc
                refine z_iload_n hC dX4_findLefts_40 rfl rfl ?_
                refine z_if_ne (tgt := 98) hC dX4_findLefts_41 (by decide) (fun hc => ?_) (fun hc => ?_)
                · replace hV := hV.2 hc
                  refine z_iconst (v := 1) hC dX4_findLefts_98 rfl ?_
                  refine z_goto (tgt := 103) hC dX4_findLefts_99 (by decide) ?_
                  refine z_istore_n hC dX4_findLefts_103 rfl (Nat.le_of_ble_eq_true rfl) rfl rfl ?_
                  obtain ⟨y10, e_y10⟩ : ∃ z : Int32, z = x4 + 1 := ⟨_, rfl⟩
                  replace hV := hV _ e_y10
                  refine z_iinc (v := y10) hC dX4_findLefts_104 rfl (by rw [e_y10]; rfl) (Nat.le_of_ble_eq_true rfl) rfl rfl ?_
                  refine z_goto (tgt := 34) hC dX4_findLefts_107 (by decide) ?_
                  refine zz_sub (L' := [some (.ref (E.1.heap.size + 44)), some (.int x1), some (.int x2), some (.int 1), some (.int y10)]) ⟨rfl, rfl, rfl, rfl, rfl, trivial⟩ ?_
                  exact j_34 σ x1 x2 1 y10 hV
                · replace hV := hV.1 hc
                  refine z_aload_n hC dX4_findLefts_44 rfl rfl ?_
                  refine z_iconst (v := 2) hC dX4_findLefts_45 rfl ?_
                  refine z_iload_n hC dX4_findLefts_46 rfl rfl ?_
                  refine z_imul hC dX4_findLefts_47 ?_
                  refine z_iload hC dX4_findLefts_48 rfl ?_
                  refine z_iconst (v := 2) hC dX4_findLefts_50 rfl ?_
                  refine z_idiv hC dX4_findLefts_51 (by decide) ?_
                  refine z_iadd hC dX4_findLefts_52 ?_
                  refine c_X4_262 hC (by decide) dX4_findLefts_53 (Nat.le_of_ble_eq_true rfl) hV (fun r11 σ12 hV => ?_)
                  refine z_if_eq (tgt := 102) hC dX4_findLefts_56 (by decide) (fun hc => ?_) (fun hc => ?_)
                  · replace hV := hV.1 hc
                    refine z_iconst (v := 0) hC dX4_findLefts_102 rfl ?_
                    refine z_istore_n hC dX4_findLefts_103 rfl (Nat.le_of_ble_eq_true rfl) rfl rfl ?_
                    obtain ⟨y13, e_y13⟩ : ∃ z : Int32, z = x4 + 1 := ⟨_, rfl⟩
                    replace hV := hV _ e_y13
                    refine z_iinc (v := y13) hC dX4_findLefts_104 rfl (by rw [e_y13]; rfl) (Nat.le_of_ble_eq_true rfl) rfl rfl ?_
                    refine z_goto (tgt := 34) hC dX4_findLefts_107 (by decide) ?_
                    refine zz_sub (L' := [some (.ref (E.1.heap.size + 44)), some (.int x1), some (.int x2), some (.int 0), some (.int y13)]) ⟨rfl, rfl, rfl, rfl, rfl, trivial⟩ ?_
                    exact j_34 σ12 x1 x2 0 y13 hV
                  · replace hV := hV.2 hc
                    refine z_aload_n hC dX4_findLefts_59 rfl rfl ?_
                    refine z_iconst (v := 2) hC dX4_findLefts_60 rfl ?_
                    refine z_iload_n hC dX4_findLefts_61 rfl rfl ?_
                    refine z_imul hC dX4_findLefts_62 ?_
                    refine z_iload hC dX4_findLefts_63 rfl ?_
                    refine z_iconst (v := 2) hC dX4_findLefts_65 rfl ?_
                    refine z_irem hC dX4_findLefts_66 (by decide) ?_
                    refine z_iadd hC dX4_findLefts_67 ?_
                    refine c_X4_262 hC (by decide) dX4_findLefts_68 (Nat.le_of_ble_eq_true rfl) hV (fun r14 σ15 hV => ?_)
                    refine z_if_eq (tgt := 102) hC dX4_findLefts_71 (by decide) (fun hc => ?_) (fun hc => ?_)
                    · replace hV := hV.1 hc
                      refine z_iconst (v := 0) hC dX4_findLefts_102 rfl ?_
                      refine z_istore_n hC dX4_findLefts_103 rfl (Nat.le_of_ble_eq_true rfl) rfl rfl ?_
                      obtain ⟨y16, e_y16⟩ : ∃ z : Int32, z = x4 + 1 := ⟨_, rfl⟩
                      replace hV := hV _ e_y16
                      refine z_iinc (v := y16) hC dX4_findLefts_104 rfl (by rw [e_y16]; rfl) (Nat.le_of_ble_eq_true rfl) rfl rfl ?_
                      refine z_goto (tgt := 34) hC dX4_findLefts_107 (by decide) ?_
                      refine zz_sub (L' := [some (.ref (E.1.heap.size + 44)), some (.int x1), some (.int x2), some (.int 0), some (.int y16)]) ⟨rfl, rfl, rfl, rfl, rfl, trivial⟩ ?_
                      exact j_34 σ15 x1 x2 0 y16 hV
                    · replace hV := hV.2 hc
                      refine z_aload_n hC dX4_findLefts_74 rfl rfl ?_
                      refine z_iconst (v := 2) hC dX4_findLefts_75 rfl ?_
                      refine z_iload_n hC dX4_findLefts_76 rfl rfl ?_
                      refine z_imul hC dX4_findLefts_77 ?_
                      refine z_iload hC dX4_findLefts_78 rfl ?_
                      refine z_iconst (v := 2) hC dX4_findLefts_80 rfl ?_
                      refine z_idiv hC dX4_findLefts_81 (by decide) ?_
                      refine z_iadd hC dX4_findLefts_82 ?_
                      refine z_iconst (v := 2) hC dX4_findLefts_83 rfl ?_
                      refine z_iload_n hC dX4_findLefts_84 rfl rfl ?_
                      refine z_imul hC dX4_findLefts_85 ?_
                      refine z_iload hC dX4_findLefts_86 rfl ?_
                      refine z_iconst (v := 2) hC dX4_findLefts_88 rfl ?_
                      refine z_irem hC dX4_findLefts_89 (by decide) ?_
                      refine z_iadd hC dX4_findLefts_90 ?_
                      refine c_X4_265 hC (by decide) dX4_findLefts_91 (Nat.le_of_ble_eq_true rfl) hV (fun r17 σ18 hV => ?_)
                      refine z_iconst (v := 3) hC dX4_findLefts_94 rfl ?_
                      refine z_icmp_ne (tgt := 102) hC dX4_findLefts_95 (by decide) (fun hc => ?_) (fun hc => ?_)
                      · replace hV := hV.2 hc
                        refine z_iconst (v := 0) hC dX4_findLefts_102 rfl ?_
                        refine z_istore_n hC dX4_findLefts_103 rfl (Nat.le_of_ble_eq_true rfl) rfl rfl ?_
                        obtain ⟨y19, e_y19⟩ : ∃ z : Int32, z = x4 + 1 := ⟨_, rfl⟩
                        replace hV := hV _ e_y19
                        refine z_iinc (v := y19) hC dX4_findLefts_104 rfl (by rw [e_y19]; rfl) (Nat.le_of_ble_eq_true rfl) rfl rfl ?_
                        refine z_goto (tgt := 34) hC dX4_findLefts_107 (by decide) ?_
                        refine zz_sub (L' := [some (.ref (E.1.heap.size + 44)), some (.int x1), some (.int x2), some (.int 0), some (.int y19)]) ⟨rfl, rfl, rfl, rfl, rfl, trivial⟩ ?_
                        exact j_34 σ18 x1 x2 0 y19 hV
                      · replace hV := hV.1 hc
                        refine z_iconst (v := 1) hC dX4_findLefts_98 rfl ?_
                        refine z_goto (tgt := 103) hC dX4_findLefts_99 (by decide) ?_
                        refine z_istore_n hC dX4_findLefts_103 rfl (Nat.le_of_ble_eq_true rfl) rfl rfl ?_
                        obtain ⟨y20, e_y20⟩ : ∃ z : Int32, z = x4 + 1 := ⟨_, rfl⟩
                        replace hV := hV _ e_y20
                        refine z_iinc (v := y20) hC dX4_findLefts_104 rfl (by rw [e_y20]; rfl) (Nat.le_of_ble_eq_true rfl) rfl rfl ?_
                        refine z_goto (tgt := 34) hC dX4_findLefts_107 (by decide) ?_
                        refine zz_sub (L' := [some (.ref (E.1.heap.size + 44)), some (.int x1), some (.int x2), some (.int 1), some (.int y20)]) ⟨rfl, rfl, rfl, rfl, rfl, trivial⟩ ?_
                        exact j_34 σ18 x1 x2 1 y20 hV
          refine z_iload_n hC dX4_findLefts_19 rfl rfl ?_
          refine z_aload_n hC dX4_findLefts_20 rfl rfl ?_
          refine g_X4_20_44 hC dX4_findLefts_21 ?_
          refine z_iconst (v := 1) hC dX4_findLefts_24 rfl ?_
          refine z_iald hC dX4_findLefts_25 (k_47 _) (in_dec rfl) ?_
          refine z_icmp_ge (tgt := 157) hC dX4_findLefts_26 (by decide) (fun hc => ?_) (fun hc => ?_)
          · replace hV := hV.2 hc
            obtain ⟨y2, e_y2⟩ : ∃ z : Int32, z = x1 + 1 := ⟨_, rfl⟩
            replace hV := hV _ e_y2
            refine z_iinc (v := y2) hC dX4_findLefts_157 rfl (by rw [e_y2]; rfl) (Nat.le_of_ble_eq_true rfl) rfl rfl ?_
            refine z_goto (tgt := 7) hC dX4_findLefts_160 (by decide) ?_
            refine zz_sub (L' := [some (.ref (E.1.heap.size + 44)), some (.int y2), none, none, none]) ⟨rfl, rfl, trivial⟩ ?_
            exact j_7 σ y2 hV
          · replace hV := hV.1 hc
            refine z_iconst (v := 0) hC dX4_findLefts_29 rfl ?_
            refine z_istore_n hC dX4_findLefts_30 rfl (Nat.le_of_ble_eq_true rfl) rfl rfl ?_
            refine z_iconst (v := 0) hC dX4_findLefts_31 rfl ?_
            refine z_istore hC dX4_findLefts_32 (Nat.le_of_ble_eq_true rfl) rfl rfl ?_
            refine zz_sub (L' := [some (.ref (E.1.heap.size + 44)), some (.int x1), some (.int x2), some (.int 0), some (.int 0)]) ⟨rfl, rfl, rfl, rfl, rfl, trivial⟩ ?_
            exact j_34 σ x1 x2 0 0 hV
      refine z_iload_n hC dX4_findLefts_7 rfl rfl ?_
      refine z_aload_n hC dX4_findLefts_8 rfl rfl ?_
      refine g_X4_20_44 hC dX4_findLefts_9 ?_
      refine z_iconst (v := 1) hC dX4_findLefts_12 rfl ?_
      refine z_iald hC dX4_findLefts_13 (k_47 _) (in_dec rfl) ?_
      refine z_icmp_ge (tgt := 163) hC dX4_findLefts_14 (by decide) (fun hc => ?_) (fun hc => ?_)
      · replace hV := hV.2 hc
        exact z_vret hC dX4_findLefts_163 (by rw [hQo]; exact ⟨rfl, hV⟩)
      · replace hV := hV.1 hc
        refine z_iconst (v := 0) hC dX4_findLefts_17 rfl ?_
        refine z_istore_n hC dX4_findLefts_18 rfl (Nat.le_of_ble_eq_true rfl) rfl rfl ?_
        refine zz_sub (L' := [some (.ref (E.1.heap.size + 44)), some (.int x1), some (.int 0), none, none]) ⟨rfl, rfl, rfl, trivial⟩ ?_
        exact j_19 σ x1 0 hV
  refine z_aload_n hC dX4_findLefts_0 rfl rfl ?_
  refine z_iconst (v := 0) hC dX4_findLefts_1 rfl ?_
  refine p_X4_259_c3 hC dX4_findLefts_2 (k_44 _) ?_
  obtain ⟨σ1, e_σ1⟩ : ∃ z : ZS, z = sI σ 44 27 0 := ⟨_, rfl⟩
  replace hV := hV _ e_σ1
  rw [← e_σ1]
  refine z_iconst (v := 0) hC dX4_findLefts_5 rfl ?_
  refine z_istore_n hC dX4_findLefts_6 rfl (Nat.le_of_ble_eq_true rfl) rfl rfl ?_
  refine zz_sub (L' := [some (.ref (E.1.heap.size + 44)), some (.int 0), none, none, none]) ⟨rfl, rfl, trivial⟩ ?_
  exact j_7 σ1 0 hV
theorem p_X4_241_c3 {C : ZC} {E : ZE} {cc : ByteArray} {n nL pc d a x : Nat} {nm : String} {ret : Option FieldType} {hh : List (Nat × Nat × Nat × Nat)} {σ : ZS} {L : List (Option Value)} {st : List Value} {v : Int32} (hC : Cx C E cc nL "RightTurnsModel" nm ret hh d) (hd : decode cc pc = .ok (.putfield 241, 3)) (hk : kK n σ a = (3 + 7, x)) (k : zz C E n nL (sI σ a 28 v) (pc + 3) L st) : zz C E n nL σ pc L (.int v :: .ref (E.1.heap.size + a) :: st) :=
  z_putI hC cf3 hd hk (k := 28) (by decide) (Or.inl q1613) (Or.inl rfl) (Or.inl rfl) rfl rfl rfl k
def wp_X4_forget (σ : ZS) (Ret : Int32 → ZS → Prop) : Prop :=
    ∀ σ1 : ZS, σ1 = sI σ 44 0 0 → (∀ y2 : Int32, y2 = zI σ1 44 28 → (∀ σ3 : ZS, σ3 = sI σ1 44 28 0 → (Ret y2 σ3)))
set_option maxHeartbeats 4000000 in
theorem mz_X4_forget {l : Launch} {E : ZE} (hE : EOK E) {σ : ZS} {Ret : Int32 → ZS → Prop} (hV : wp_X4_forget σ Ret) : MZ l E NS yX4_forget (ws_ yX4_forget cX4_forget 2 (some .int)) 1 σ [.ref (E.1.heap.size + 44)] (rI Ret) := by
  refine MZ.start (L := [some (.ref (E.1.heap.size + 44)), none]) hE (by decide) (Nat.le_of_ble_eq_true rfl) rfl fun C hCl hQo hC => ?_
  replace hC : Cx C E cX4_forget 2 "RightTurnsModel" "forget" (some .int) [] 1 := hC
  unfold wp_X4_forget at hV
  refine z_aload_n hC dX4_forget_0 rfl rfl ?_
  refine z_iconst (v := 0) hC dX4_forget_1 rfl ?_
  refine p_X4_131_c3 hC dX4_forget_2 (k_44 _) ?_
  obtain ⟨σ1, e_σ1⟩ : ∃ z : ZS, z = sI σ 44 0 0 := ⟨_, rfl⟩
  replace hV := hV _ e_σ1
  rw [← e_σ1]
  refine z_aload_n hC dX4_forget_5 rfl rfl ?_
  refine g_X4_241_44 hC dX4_forget_6 ?_
  obtain ⟨y2, e_y2⟩ : ∃ z, z = zI σ1 44 28 := ⟨_, rfl⟩
  rw [← e_y2]
  replace hV := hV _ e_y2
  refine z_istore_n hC dX4_forget_9 rfl (Nat.le_of_ble_eq_true rfl) rfl rfl ?_
  refine z_aload_n hC dX4_forget_10 rfl rfl ?_
  refine z_iconst (v := 0) hC dX4_forget_11 rfl ?_
  refine p_X4_241_c3 hC dX4_forget_12 (k_44 _) ?_
  obtain ⟨σ3, e_σ3⟩ : ∃ z : ZS, z = sI σ1 44 28 0 := ⟨_, rfl⟩
  replace hV := hV _ e_σ3
  rw [← e_σ3]
  refine z_iload_n hC dX4_forget_15 rfl rfl ?_
  exact z_iret hC dX4_forget_16 rfl (by rw [hQo]; exact ⟨_, rfl, hV⟩)
theorem g_X4_408_44 {C : ZC} {E : ZE} {cc : ByteArray} {nL pc d : Nat} {nm : String} {ret : Option FieldType} {hh : List (Nat × Nat × Nat × Nat)} {σ : ZS} {L : List (Option Value)} {st : List Value} (hC : Cx C E cc nL "RightTurnsModel" nm ret hh d) (hd : decode cc pc = .ok (.getfield 408, 3)) (k : zz C E NS nL σ (pc + 3) L (.int (zI σ 44 58) :: st)) : zz C E NS nL σ pc L (.ref (E.1.heap.size + 44) :: st) :=
  z_get hC cf3 hd (k_44 σ) (k := 58) (by decide) (Or.inl q1643) (Or.inl rfl) rfl k
theorem g_X4_411_44 {C : ZC} {E : ZE} {cc : ByteArray} {nL pc d : Nat} {nm : String} {ret : Option FieldType} {hh : List (Nat × Nat × Nat × Nat)} {σ : ZS} {L : List (Option Value)} {st : List Value} (hC : Cx C E cc nL "RightTurnsModel" nm ret hh d) (hd : decode cc pc = .ok (.getfield 411, 3)) (k : zz C E NS nL σ (pc + 3) L (.int (zI σ 44 59) :: st)) : zz C E NS nL σ pc L (.ref (E.1.heap.size + 44) :: st) :=
  z_get hC cf3 hd (k_44 σ) (k := 59) (by decide) (Or.inl q1644) (Or.inl rfl) rfl k
theorem p_X4_408_c3 {C : ZC} {E : ZE} {cc : ByteArray} {n nL pc d a x : Nat} {nm : String} {ret : Option FieldType} {hh : List (Nat × Nat × Nat × Nat)} {σ : ZS} {L : List (Option Value)} {st : List Value} {v : Int32} (hC : Cx C E cc nL "RightTurnsModel" nm ret hh d) (hd : decode cc pc = .ok (.putfield 408, 3)) (hk : kK n σ a = (3 + 7, x)) (k : zz C E n nL (sI σ a 58 v) (pc + 3) L st) : zz C E n nL σ pc L (.int v :: .ref (E.1.heap.size + a) :: st) :=
  z_putI hC cf3 hd hk (k := 58) (by decide) (Or.inl q1643) (Or.inl rfl) (Or.inl rfl) rfl rfl rfl k
theorem p_X4_411_c3 {C : ZC} {E : ZE} {cc : ByteArray} {n nL pc d a x : Nat} {nm : String} {ret : Option FieldType} {hh : List (Nat × Nat × Nat × Nat)} {σ : ZS} {L : List (Option Value)} {st : List Value} {v : Int32} (hC : Cx C E cc nL "RightTurnsModel" nm ret hh d) (hd : decode cc pc = .ok (.putfield 411, 3)) (hk : kK n σ a = (3 + 7, x)) (k : zz C E n nL (sI σ a 59 v) (pc + 3) L st) : zz C E n nL σ pc L (.int v :: .ref (E.1.heap.size + a) :: st) :=
  z_putI hC cf3 hd hk (k := 59) (by decide) (Or.inl q1644) (Or.inl rfl) (Or.inl rfl) rfl rfl rfl k
def V_X4_sums_62 (K16 : ZS → Int32 → Prop) (Ret : ZS → Prop) (σ : ZS) (x1 : Int32) (x2 : Int32) (s0 : Int32) (s1 : Int32) : Prop :=
    ∀ σ9 : ZS, σ9 = sI σ 44 58 (s1 + s0) → (((x2 = (-1) → (∀ σ12 : ZS, σ12 = sI σ9 44 59 ((zI σ9 44 59) + 0) → (∀ y13 : Int32, y13 = x1 + 1 → (K16 σ12 y13)))) ∧ (¬ x2 = (-1) → (∀ σ10 : ZS, σ10 = sI σ9 44 59 ((zI σ9 44 59) + x2) → (∀ y11 : Int32, y11 = x1 + 1 → (K16 σ10 y11))))))
def VL_X4_sums_16 (Ret : ZS → Prop) : Nat → ZS → Int32 → Prop
  | 0 => fun _ _ => False
  | k + 1 => fun σ x1 =>
    let K16 := VL_X4_sums_16 Ret k
    ((x1 < (zI σ 47 (ix 3)) → (vp_in x1 12 ∧ (vp_in x1 12 ∧ (wp_X4_rideOf σ (zI σ (145 + 1 + ix x1) (ix 0)) (zI σ (145 + 1 + ix x1) (ix 1)) (fun r7 σ8 => ((r7 = (-1) → (V_X4_sums_62 K16 Ret σ8 x1 r7 0 (zI σ8 44 58))) ∧ (¬ r7 = (-1) → (V_X4_sums_62 K16 Ret σ8 x1 r7 1 (zI σ8 44 58))))))))) ∧ (¬ x1 < (zI σ 47 (ix 3)) → (Ret σ)))
def V_X4_sums_16 (Ret : ZS → Prop) (σ : ZS) (x1 : Int32) : Prop := ∃ k, VL_X4_sums_16 Ret k σ x1
def wp_X4_sums (σ : ZS) (Ret : ZS → Prop) : Prop :=
    wp_X4_layFollows σ (fun σ2 => ∀ σ3 : ZS, σ3 = sI σ2 44 58 0 → (∀ σ4 : ZS, σ4 = sI σ3 44 59 0 → (V_X4_sums_16 Ret σ4 0)))
set_option maxHeartbeats 4000000 in
theorem mz_X4_sums {l : Launch} {E : ZE} (hE : EOK E) {σ : ZS} {Ret : ZS → Prop} (hV : wp_X4_sums σ Ret) : MZ l E NS yX4_sums (ws_ yX4_sums cX4_sums 3 none) 6 σ [.ref (E.1.heap.size + 44)] (rV Ret) := by
  refine MZ.start (L := [some (.ref (E.1.heap.size + 44)), none, none]) hE (by decide) (Nat.le_of_ble_eq_true rfl) rfl fun C hCl hQo hC => ?_
  replace hC : Cx C E cX4_sums 3 "RightTurnsModel" "sums" none [] 6 := hC
  unfold wp_X4_sums at hV
  have j_16 : ∀ (σ : ZS) (x1 : Int32), V_X4_sums_16 Ret σ x1 → zz C E NS 3 σ 16 [some (.ref (E.1.heap.size + 44)), some (.int x1), none] [] := by
    intro σ x1 ⟨k, hV⟩
    revert σ x1
    induction k with
    | zero => exact fun _ _ hV => hV.elim
    | succ k j_16 =>
      intro σ x1 hV
      simp only [VL_X4_sums_16] at hV
      generalize hKe16 : VL_X4_sums_16 Ret k = K16 at hV j_16
      clear hKe16
      have j_62 : ∀ (σ : ZS) (x1 : Int32) (x2 : Int32) (s0 : Int32) (s1 : Int32), V_X4_sums_62 K16 Ret σ x1 x2 s0 s1 → zz C E NS 3 σ 62 [some (.ref (E.1.heap.size + 44)), some (.int x1), some (.int x2)] [.int s0, .int s1, .ref (E.1.heap.size + 44)] := by
        intro σ x1 x2 s0 s1 hV
        unfold V_X4_sums_62 at hV
        refine z_iadd hC dX4_sums_62 ?_
        refine p_X4_408_c3 hC dX4_sums_63 (k_44 _) ?_
        obtain ⟨σ9, e_σ9⟩ : ∃ z : ZS, z = sI σ 44 58 (s1 + s0) := ⟨_, rfl⟩
        replace hV := hV _ e_σ9
        rw [← e_σ9]
        refine z_aload_n hC dX4_sums_66 rfl rfl ?_
        refine z_dup hC dX4_sums_67 rfl ?_
        refine g_X4_411_44 hC dX4_sums_68 ?_
        refine z_iload_n hC dX4_sums_71 rfl rfl ?_
        refine z_iconst (v := (-1)) hC dX4_sums_72 rfl ?_
        refine z_icmp_ne (tgt := 80) hC dX4_sums_73 (by decide) (fun hc => ?_) (fun hc => ?_)
        · replace hV := hV.2 hc
          refine z_iload_n hC dX4_sums_80 rfl rfl ?_
          refine z_iadd hC dX4_sums_81 ?_
          refine p_X4_411_c3 hC dX4_sums_82 (k_44 _) ?_
          obtain ⟨σ10, e_σ10⟩ : ∃ z : ZS, z = sI σ9 44 59 ((zI σ9 44 59) + x2) := ⟨_, rfl⟩
          replace hV := hV _ e_σ10
          rw [← e_σ10]
          obtain ⟨y11, e_y11⟩ : ∃ z : Int32, z = x1 + 1 := ⟨_, rfl⟩
          replace hV := hV _ e_y11
          refine z_iinc (v := y11) hC dX4_sums_85 rfl (by rw [e_y11]; rfl) (Nat.le_of_ble_eq_true rfl) rfl rfl ?_
          refine z_goto (tgt := 16) hC dX4_sums_88 (by decide) ?_
          refine zz_sub (L' := [some (.ref (E.1.heap.size + 44)), some (.int y11), none]) ⟨rfl, rfl, trivial⟩ ?_
          exact j_16 σ10 y11 hV
        · replace hV := hV.1 hc
          refine z_iconst (v := 0) hC dX4_sums_76 rfl ?_
          refine z_goto (tgt := 81) hC dX4_sums_77 (by decide) ?_
          refine z_iadd hC dX4_sums_81 ?_
          refine p_X4_411_c3 hC dX4_sums_82 (k_44 _) ?_
          obtain ⟨σ12, e_σ12⟩ : ∃ z : ZS, z = sI σ9 44 59 ((zI σ9 44 59) + 0) := ⟨_, rfl⟩
          replace hV := hV _ e_σ12
          rw [← e_σ12]
          obtain ⟨y13, e_y13⟩ : ∃ z : Int32, z = x1 + 1 := ⟨_, rfl⟩
          replace hV := hV _ e_y13
          refine z_iinc (v := y13) hC dX4_sums_85 rfl (by rw [e_y13]; rfl) (Nat.le_of_ble_eq_true rfl) rfl rfl ?_
          refine z_goto (tgt := 16) hC dX4_sums_88 (by decide) ?_
          refine zz_sub (L' := [some (.ref (E.1.heap.size + 44)), some (.int y13), none]) ⟨rfl, rfl, trivial⟩ ?_
          exact j_16 σ12 y13 hV
      refine z_iload_n hC dX4_sums_16 rfl rfl ?_
      refine z_aload_n hC dX4_sums_17 rfl rfl ?_
      refine g_X4_20_44 hC dX4_sums_18 ?_
      refine z_iconst (v := 3) hC dX4_sums_21 rfl ?_
      refine z_iald hC dX4_sums_22 (k_47 _) (in_dec rfl) ?_
      refine z_icmp_ge (tgt := 91) hC dX4_sums_23 (by decide) (fun hc => ?_) (fun hc => ?_)
      · replace hV := hV.2 hc
        exact z_vret hC dX4_sums_91 (by rw [hQo]; exact ⟨rfl, hV⟩)
      · replace hV := hV.1 hc
        refine z_aload_n hC dX4_sums_26 rfl rfl ?_
        refine z_aload_n hC dX4_sums_27 rfl rfl ?_
        refine g_X4_40_44 hC dX4_sums_28 ?_
        refine z_iload_n hC dX4_sums_31 rfl rfl ?_
        obtain ⟨h5, hV⟩ := hV
        refine z_aalS hC dX4_sums_32 (k_145 _) (by decide) ps_145 h5 ?_
        refine z_iconst (v := 0) hC dX4_sums_33 rfl ?_
        refine z_iald hC dX4_sums_34 (kr_145 _ (ix_lt h5)) (in_dec rfl) ?_
        refine z_aload_n hC dX4_sums_35 rfl rfl ?_
        refine g_X4_40_44 hC dX4_sums_36 ?_
        refine z_iload_n hC dX4_sums_39 rfl rfl ?_
        obtain ⟨h6, hV⟩ := hV
        refine z_aalS hC dX4_sums_40 (k_145 _) (by decide) ps_145 h6 ?_
        refine z_iconst (v := 1) hC dX4_sums_41 rfl ?_
        refine z_iald hC dX4_sums_42 (kr_145 _ (ix_lt h6)) (in_dec rfl) ?_
        refine c_X4_313 hC (by decide) dX4_sums_43 (Nat.le_of_ble_eq_true rfl) hV (fun r7 σ8 hV => ?_)
        refine z_istore_n hC dX4_sums_46 rfl (Nat.le_of_ble_eq_true rfl) rfl rfl ?_
        refine z_aload_n hC dX4_sums_47 rfl rfl ?_
        refine z_dup hC dX4_sums_48 rfl ?_
        refine g_X4_408_44 hC dX4_sums_49 ?_
        refine z_iload_n hC dX4_sums_52 rfl rfl ?_
        refine z_iconst (v := (-1)) hC dX4_sums_53 rfl ?_
        refine z_icmp_ne (tgt := 61) hC dX4_sums_54 (by decide) (fun hc => ?_) (fun hc => ?_)
        · replace hV := hV.2 hc
          refine z_iconst (v := 1) hC dX4_sums_61 rfl ?_
          refine zz_sub (L' := [some (.ref (E.1.heap.size + 44)), some (.int x1), some (.int r7)]) ⟨rfl, rfl, rfl, trivial⟩ ?_
          exact j_62 σ8 x1 r7 1 (zI σ8 44 58) hV
        · replace hV := hV.1 hc
          refine z_iconst (v := 0) hC dX4_sums_57 rfl ?_
          refine z_goto (tgt := 62) hC dX4_sums_58 (by decide) ?_
          refine zz_sub (L' := [some (.ref (E.1.heap.size + 44)), some (.int x1), some (.int r7)]) ⟨rfl, rfl, rfl, trivial⟩ ?_
          exact j_62 σ8 x1 r7 0 (zI σ8 44 58) hV
  refine z_aload_n hC dX4_sums_0 rfl rfl ?_
  refine c_X4_278 hC (by decide) dX4_sums_1 (Nat.le_of_ble_eq_true rfl) hV (fun σ2 hV => ?_)
  refine z_aload_n hC dX4_sums_4 rfl rfl ?_
  refine z_iconst (v := 0) hC dX4_sums_5 rfl ?_
  refine p_X4_408_c3 hC dX4_sums_6 (k_44 _) ?_
  obtain ⟨σ3, e_σ3⟩ : ∃ z : ZS, z = sI σ2 44 58 0 := ⟨_, rfl⟩
  replace hV := hV _ e_σ3
  rw [← e_σ3]
  refine z_aload_n hC dX4_sums_9 rfl rfl ?_
  refine z_iconst (v := 0) hC dX4_sums_10 rfl ?_
  refine p_X4_411_c3 hC dX4_sums_11 (k_44 _) ?_
  obtain ⟨σ4, e_σ4⟩ : ∃ z : ZS, z = sI σ3 44 59 0 := ⟨_, rfl⟩
  replace hV := hV _ e_σ4
  rw [← e_σ4]
  refine z_iconst (v := 0) hC dX4_sums_14 rfl ?_
  refine z_istore_n hC dX4_sums_15 rfl (Nat.le_of_ble_eq_true rfl) rfl rfl ?_
  refine zz_sub (L' := [some (.ref (E.1.heap.size + 44)), some (.int 0), none]) ⟨rfl, rfl, trivial⟩ ?_
  exact j_16 σ4 0 hV
theorem cw_X4_sums : CodeW yX4_sums (ws_ yX4_sums cX4_sums 3 none) 3 := ⟨fun w h => (List.mem_cons.mp h).elim (fun e => e ▸ q2178) id, Or.inl ⟨_, _, q2178⟩, q138, by decide, by decide⟩
theorem c_X4_414 {C : ZC} {E : ZE} {cc : ByteArray} {nL pc d : Nat} {nm : String} {ret : Option FieldType} {hh : List (Nat × Nat × Nat × Nat)} {σ : ZS} {L : List (Option Value)} {st : List Value} {Ret : ZS → Prop} (hC : Cx C E cc nL "RightTurnsModel" nm ret hh d) (hdd : 6 + 1 ≤ d) (hd : decode cc pc = .ok (.invokevirtual 414, 3)) (hW : (st.map fun v => v.category).sum ≤ 8) (hV : wp_X4_sums σ Ret) (k : ∀ σ', Ret σ' → zz C E NS nL σ' (pc + 3) L st) : zz C E NS nL σ pc L (.ref (E.1.heap.size + 44) :: st) :=
  z_callVG hC cf3 cw_X4_sums hdd (by decide) (mz_X4_sums (cxE hC) hV) hd (k_44 σ) q2175 q2177 qs112 (np := 0) rfl rfl hW rfl (kV k)
def V_X4_gain_128 (K63 : ZS → Int32 → Int32 → Int32 → Int32 → Int32 → Prop) (Ret : Int32 → ZS → Prop) (σ : ZS) (x2 : Int32) (x6 : Int32) : Prop :=
    vp_in x6 14 ∧ (∀ y22 : Int32, y22 = zI σ 1147 (ix x6) → (∀ y23 : Int32, y23 = zI σ 44 58 → (∀ y24 : Int32, y24 = zI σ 44 59 → (∀ y25 : Int32, y25 = x6 + 1 → (K63 σ x2 y22 y23 y24 y25)))))
def VL_X4_gain_63 (Ret : Int32 → ZS → Prop) : Nat → ZS → Int32 → Int32 → Int32 → Int32 → Int32 → Prop
  | 0 => fun _ _ _ _ _ _ => False
  | k + 1 => fun σ x2 x3 x4 x5 x6 =>
    let K63 := VL_X4_gain_63 Ret k
    ((x6 < (zI σ 44 33) → (vp_in x6 14 ∧ (wp_X4_flips σ (zI σ 1147 (ix x6)) (fun σ14 => wp_X4_sums σ14 (fun σ16 => vp_in x6 14 ∧ (wp_X4_flips σ16 (zI σ16 1147 (ix x6)) (fun σ19 => (((zI σ19 44 58) < x4 → (∀ y20 : Int32, y20 = x6 + 1 → (K63 σ19 x2 x3 x4 x5 y20))) ∧ (¬ (zI σ19 44 58) < x4 → ((((zI σ19 44 58) = x4 → ((((zI σ19 44 59) < x5 → (V_X4_gain_128 K63 Ret σ19 x2 x6)) ∧ (¬ (zI σ19 44 59) < x5 → (∀ y26 : Int32, y26 = x6 + 1 → (K63 σ19 x2 x3 x4 x5 y26)))))) ∧ (¬ (zI σ19 44 58) = x4 → (V_X4_gain_128 K63 Ret σ19 x2 x6))))))))))))) ∧ (¬ x6 < (zI σ 44 33) → (((x2 = 0 → (Ret x3 σ)) ∧ (¬ x2 = 0 → (Ret x5 σ))))))
def V_X4_gain_63 (Ret : Int32 → ZS → Prop) (σ : ZS) (x2 : Int32) (x3 : Int32) (x4 : Int32) (x5 : Int32) (x6 : Int32) : Prop := ∃ k, VL_X4_gain_63 Ret k σ x2 x3 x4 x5 x6
def V_X4_gain_28 (Ret : Int32 → ZS → Prop) (σ : ZS) (x1 : Int32) (x2 : Int32) (s0 : Int32) : Prop :=
    wp_X4_bad σ s0 1 (fun r4 σ5 => ((r4 = 0 → (wp_X4_findLater σ5 x1 (fun σ7 => wp_X4_sums σ7 (fun σ9 => ∀ y10 : Int32, y10 = zI σ9 44 58 → (∀ y11 : Int32, y11 = zI σ9 44 59 → (V_X4_gain_63 Ret σ9 x2 (-1) y10 y11 0)))))) ∧ (¬ r4 = 0 → (Ret 0 σ5))))
def V_X4_gain_23 (Ret : Int32 → ZS → Prop) (σ : ZS) (x1 : Int32) (x2 : Int32) : Prop :=
    V_X4_gain_28 Ret σ x1 x2 1
def wp_X4_gain (σ : ZS) (a1 : Int32) (a2 : Int32) (Ret : Int32 → ZS → Prop) : Prop :=
    ∀ σ1 : ZS, σ1 = sI σ 44 0 0 → (wp_X4_isTime σ1 a1 (fun r2 σ3 => ((r2 = 0 → (V_X4_gain_23 Ret σ3 a1 a2)) ∧ (¬ r2 = 0 → (wp_X4_in σ3 a2 0 1 (fun r27 σ28 => ((r27 = 0 → (V_X4_gain_23 Ret σ28 a1 a2)) ∧ (¬ r27 = 0 → (V_X4_gain_28 Ret σ28 a1 a2 0)))))))))
set_option maxHeartbeats 4000000 in
theorem mz_X4_gain {l : Launch} {E : ZE} (hE : EOK E) {σ : ZS} {a1 : Int32} {a2 : Int32} {Ret : Int32 → ZS → Prop} (hV : wp_X4_gain σ a1 a2 Ret) : MZ l E NS yX4_gain (ws_ yX4_gain cX4_gain 7 (some .int)) 7 σ [.ref (E.1.heap.size + 44), .int a1, .int a2] (rI Ret) := by
  refine MZ.start (L := [some (.ref (E.1.heap.size + 44)), some (.int a1), some (.int a2), none, none, none, none]) hE (by decide) (Nat.le_of_ble_eq_true rfl) rfl fun C hCl hQo hC => ?_
  replace hC : Cx C E cX4_gain 7 "RightTurnsModel" "gain" (some .int) [] 7 := hC
  unfold wp_X4_gain at hV
  have j_63 : ∀ (σ : ZS) (x2 : Int32) (x3 : Int32) (x4 : Int32) (x5 : Int32) (x6 : Int32), V_X4_gain_63 Ret σ x2 x3 x4 x5 x6 → zz C E NS 7 σ 63 [some (.ref (E.1.heap.size + 44)), none, some (.int x2), some (.int x3), some (.int x4), some (.int x5), some (.int x6)] [] := by
    intro σ x2 x3 x4 x5 x6 ⟨k, hV⟩
    revert σ x2 x3 x4 x5 x6
    induction k with
    | zero => exact fun _ _ _ _ _ _ hV => hV.elim
    | succ k j_63 =>
      intro σ x2 x3 x4 x5 x6 hV
      simp only [VL_X4_gain_63] at hV
      generalize hKe63 : VL_X4_gain_63 Ret k = K63 at hV j_63
      clear hKe63
      have j_128 : ∀ (σ : ZS) (x2 : Int32) (x6 : Int32), V_X4_gain_128 K63 Ret σ x2 x6 → zz C E NS 7 σ 128 [some (.ref (E.1.heap.size + 44)), none, some (.int x2), none, none, none, some (.int x6)] [] := by
        intro σ x2 x6 hV
        unfold V_X4_gain_128 at hV
        refine z_aload_n hC dX4_gain_128 rfl rfl ?_
        refine g_X4_77_44 hC dX4_gain_129 ?_
        refine z_iload hC dX4_gain_132 rfl ?_
        obtain ⟨h21, hV⟩ := hV
        refine z_iald hC dX4_gain_134 (k_1147 _) (h21) ?_
        obtain ⟨y22, e_y22⟩ : ∃ z, z = zI σ 1147 (ix x6) := ⟨_, rfl⟩
        rw [← e_y22]
        replace hV := hV _ e_y22
        refine z_istore_n hC dX4_gain_135 rfl (Nat.le_of_ble_eq_true rfl) rfl rfl ?_
        refine z_aload_n hC dX4_gain_136 rfl rfl ?_
        refine g_X4_408_44 hC dX4_gain_137 ?_
        obtain ⟨y23, e_y23⟩ : ∃ z, z = zI σ 44 58 := ⟨_, rfl⟩
        rw [← e_y23]
        replace hV := hV _ e_y23
        refine z_istore hC dX4_gain_140 (Nat.le_of_ble_eq_true rfl) rfl rfl ?_
        refine z_aload_n hC dX4_gain_142 rfl rfl ?_
        refine g_X4_411_44 hC dX4_gain_143 ?_
        obtain ⟨y24, e_y24⟩ : ∃ z, z = zI σ 44 59 := ⟨_, rfl⟩
        rw [← e_y24]
        replace hV := hV _ e_y24
        refine z_istore hC dX4_gain_146 (Nat.le_of_ble_eq_true rfl) rfl rfl ?_
        obtain ⟨y25, e_y25⟩ : ∃ z : Int32, z = x6 + 1 := ⟨_, rfl⟩
        replace hV := hV _ e_y25
        refine z_iinc (v := y25) hC dX4_gain_148 rfl (by rw [e_y25]; rfl) (Nat.le_of_ble_eq_true rfl) rfl rfl ?_
        refine z_goto (tgt := 63) hC dX4_gain_151 (by decide) ?_
        refine zz_sub (L' := [some (.ref (E.1.heap.size + 44)), none, some (.int x2), some (.int y22), some (.int y23), some (.int y24), some (.int y25)]) ⟨rfl, rfl, rfl, rfl, rfl, rfl, trivial⟩ ?_
        exact j_63 σ x2 y22 y23 y24 y25 hV
      refine z_iload hC dX4_gain_63 rfl ?_
      refine z_aload_n hC dX4_gain_65 rfl rfl ?_
      refine g_X4_334_44 hC dX4_gain_66 ?_
      refine z_icmp_ge (tgt := 154) hC dX4_gain_69 (by decide) (fun hc => ?_) (fun hc => ?_)
      · replace hV := hV.2 hc
        refine z_iload_n hC dX4_gain_154 rfl rfl ?_
        refine z_if_ne (tgt := 162) hC dX4_gain_155 (by decide) (fun hc => ?_) (fun hc => ?_)
        · replace hV := hV.2 hc
          refine z_iload hC dX4_gain_162 rfl ?_
          exact z_iret hC dX4_gain_164 rfl (by rw [hQo]; exact ⟨_, rfl, hV⟩)
        · replace hV := hV.1 hc
          refine z_iload_n hC dX4_gain_158 rfl rfl ?_
          refine z_goto (tgt := 164) hC dX4_gain_159 (by decide) ?_
          exact z_iret hC dX4_gain_164 rfl (by rw [hQo]; exact ⟨_, rfl, hV⟩)
      · replace hV := hV.1 hc
        refine z_aload_n hC dX4_gain_72 rfl rfl ?_
        refine z_aload_n hC dX4_gain_73 rfl rfl ?_
        refine g_X4_77_44 hC dX4_gain_74 ?_
        refine z_iload hC dX4_gain_77 rfl ?_
        obtain ⟨h12, hV⟩ := hV
        refine z_iald hC dX4_gain_79 (k_1147 _) (h12) ?_
        refine c_X4_355 hC (by decide) dX4_gain_80 (Nat.le_of_ble_eq_true rfl) hV (fun σ14 hV => ?_)
        refine z_aload_n hC dX4_gain_83 rfl rfl ?_
        refine c_X4_414 hC (by decide) dX4_gain_84 (Nat.le_of_ble_eq_true rfl) hV (fun σ16 hV => ?_)
        refine z_aload_n hC dX4_gain_87 rfl rfl ?_
        refine z_aload_n hC dX4_gain_88 rfl rfl ?_
        refine g_X4_77_44 hC dX4_gain_89 ?_
        refine z_iload hC dX4_gain_92 rfl ?_
        obtain ⟨h17, hV⟩ := hV
        refine z_iald hC dX4_gain_94 (k_1147 _) (h17) ?_
        refine c_X4_355 hC (by decide) dX4_gain_95 (Nat.le_of_ble_eq_true rfl) hV (fun σ19 hV => ?_)
        refine z_aload_n hC dX4_gain_98 rfl rfl ?_
        refine g_X4_408_44 hC dX4_gain_99 ?_
        refine z_iload hC dX4_gain_102 rfl ?_
        refine z_icmp_lt (tgt := 148) hC dX4_gain_104 (by decide) (fun hc => ?_) (fun hc => ?_)
        · replace hV := hV.1 hc
          obtain ⟨y20, e_y20⟩ : ∃ z : Int32, z = x6 + 1 := ⟨_, rfl⟩
          replace hV := hV _ e_y20
          refine z_iinc (v := y20) hC dX4_gain_148 rfl (by rw [e_y20]; rfl) (Nat.le_of_ble_eq_true rfl) rfl rfl ?_
          refine z_goto (tgt := 63) hC dX4_gain_151 (by decide) ?_
          refine zz_sub (L' := [some (.ref (E.1.heap.size + 44)), none, some (.int x2), some (.int x3), some (.int x4), some (.int x5), some (.int y20)]) ⟨rfl, rfl, rfl, rfl, rfl, rfl, trivial⟩ ?_
          exact j_63 σ19 x2 x3 x4 x5 y20 hV
        · replace hV := hV.2 hc
          refine z_aload_n hC dX4_gain_107 rfl rfl ?_
          refine g_X4_408_44 hC dX4_gain_108 ?_
          refine z_iload hC dX4_gain_111 rfl ?_
          refine z_icmp_ne (tgt := 128) hC dX4_gain_113 (by decide) (fun hc => ?_) (fun hc => ?_)
          · replace hV := hV.2 hc
            refine zz_sub (L' := [some (.ref (E.1.heap.size + 44)), none, some (.int x2), none, none, none, some (.int x6)]) ⟨rfl, rfl, rfl, trivial⟩ ?_
            exact j_128 σ19 x2 x6 hV
          · replace hV := hV.1 hc
            refine z_aload_n hC dX4_gain_116 rfl rfl ?_
            refine g_X4_411_44 hC dX4_gain_117 ?_
            refine z_iload hC dX4_gain_120 rfl ?_
            refine z_icmp_lt (tgt := 128) hC dX4_gain_122 (by decide) (fun hc => ?_) (fun hc => ?_)
            · replace hV := hV.1 hc
              refine zz_sub (L' := [some (.ref (E.1.heap.size + 44)), none, some (.int x2), none, none, none, some (.int x6)]) ⟨rfl, rfl, rfl, trivial⟩ ?_
              exact j_128 σ19 x2 x6 hV
            · replace hV := hV.2 hc
              refine z_goto (tgt := 148) hC dX4_gain_125 (by decide) ?_
              obtain ⟨y26, e_y26⟩ : ∃ z : Int32, z = x6 + 1 := ⟨_, rfl⟩
              replace hV := hV _ e_y26
              refine z_iinc (v := y26) hC dX4_gain_148 rfl (by rw [e_y26]; rfl) (Nat.le_of_ble_eq_true rfl) rfl rfl ?_
              refine z_goto (tgt := 63) hC dX4_gain_151 (by decide) ?_
              refine zz_sub (L' := [some (.ref (E.1.heap.size + 44)), none, some (.int x2), some (.int x3), some (.int x4), some (.int x5), some (.int y26)]) ⟨rfl, rfl, rfl, rfl, rfl, rfl, trivial⟩ ?_
              exact j_63 σ19 x2 x3 x4 x5 y26 hV
  have j_28 : ∀ (σ : ZS) (x1 : Int32) (x2 : Int32) (s0 : Int32), V_X4_gain_28 Ret σ x1 x2 s0 → zz C E NS 7 σ 28 [some (.ref (E.1.heap.size + 44)), some (.int x1), some (.int x2), none, none, none, none] [.int s0, .ref (E.1.heap.size + 44)] := by
    intro σ x1 x2 s0 hV
    unfold V_X4_gain_28 at hV
    refine z_iconst (v := 1) hC dX4_gain_28 rfl ?_
    refine c_X4_227 hC (by decide) dX4_gain_29 (Nat.le_of_ble_eq_true rfl) hV (fun r4 σ5 hV => ?_)
    refine z_if_eq (tgt := 37) hC dX4_gain_32 (by decide) (fun hc => ?_) (fun hc => ?_)
    · replace hV := hV.1 hc
      refine z_aload_n hC dX4_gain_37 rfl rfl ?_
      refine z_iload_n hC dX4_gain_38 rfl rfl ?_
      refine c_X4_343 hC (by decide) dX4_gain_39 (Nat.le_of_ble_eq_true rfl) hV (fun σ7 hV => ?_)
      refine z_aload_n hC dX4_gain_42 rfl rfl ?_
      refine c_X4_414 hC (by decide) dX4_gain_43 (Nat.le_of_ble_eq_true rfl) hV (fun σ9 hV => ?_)
      refine z_iconst (v := (-1)) hC dX4_gain_46 rfl ?_
      refine z_istore_n hC dX4_gain_47 rfl (Nat.le_of_ble_eq_true rfl) rfl rfl ?_
      refine z_aload_n hC dX4_gain_48 rfl rfl ?_
      refine g_X4_408_44 hC dX4_gain_49 ?_
      obtain ⟨y10, e_y10⟩ : ∃ z, z = zI σ9 44 58 := ⟨_, rfl⟩
      rw [← e_y10]
      replace hV := hV _ e_y10
      refine z_istore hC dX4_gain_52 (Nat.le_of_ble_eq_true rfl) rfl rfl ?_
      refine z_aload_n hC dX4_gain_54 rfl rfl ?_
      refine g_X4_411_44 hC dX4_gain_55 ?_
      obtain ⟨y11, e_y11⟩ : ∃ z, z = zI σ9 44 59 := ⟨_, rfl⟩
      rw [← e_y11]
      replace hV := hV _ e_y11
      refine z_istore hC dX4_gain_58 (Nat.le_of_ble_eq_true rfl) rfl rfl ?_
      refine z_iconst (v := 0) hC dX4_gain_60 rfl ?_
      refine z_istore hC dX4_gain_61 (Nat.le_of_ble_eq_true rfl) rfl rfl ?_
      refine zz_sub (L' := [some (.ref (E.1.heap.size + 44)), none, some (.int x2), some (.int (-1)), some (.int y10), some (.int y11), some (.int 0)]) ⟨rfl, rfl, rfl, rfl, rfl, rfl, trivial⟩ ?_
      exact j_63 σ9 x2 (-1) y10 y11 0 hV
    · replace hV := hV.2 hc
      refine z_iconst (v := 0) hC dX4_gain_35 rfl ?_
      exact z_iret hC dX4_gain_36 rfl (by rw [hQo]; exact ⟨_, rfl, hV⟩)
  have j_23 : ∀ (σ : ZS) (x1 : Int32) (x2 : Int32), V_X4_gain_23 Ret σ x1 x2 → zz C E NS 7 σ 23 [some (.ref (E.1.heap.size + 44)), some (.int x1), some (.int x2), none, none, none, none] [.ref (E.1.heap.size + 44)] := by
    intro σ x1 x2 hV
    unfold V_X4_gain_23 at hV
    refine z_iconst (v := 1) hC dX4_gain_23 rfl ?_
    refine z_goto (tgt := 28) hC dX4_gain_24 (by decide) ?_
    refine zz_sub (L' := [some (.ref (E.1.heap.size + 44)), some (.int x1), some (.int x2), none, none, none, none]) ⟨rfl, rfl, rfl, trivial⟩ ?_
    exact j_28 σ x1 x2 1 hV
  refine z_aload_n hC dX4_gain_0 rfl rfl ?_
  refine z_iconst (v := 0) hC dX4_gain_1 rfl ?_
  refine p_X4_131_c3 hC dX4_gain_2 (k_44 _) ?_
  obtain ⟨σ1, e_σ1⟩ : ∃ z : ZS, z = sI σ 44 0 0 := ⟨_, rfl⟩
  replace hV := hV _ e_σ1
  rw [← e_σ1]
  refine z_aload_n hC dX4_gain_5 rfl rfl ?_
  refine z_aload_n hC dX4_gain_6 rfl rfl ?_
  refine z_iload_n hC dX4_gain_7 rfl rfl ?_
  refine c_X4_281 hC (by decide) dX4_gain_8 (Nat.le_of_ble_eq_true rfl) hV (fun r2 σ3 hV => ?_)
  refine z_if_eq (tgt := 23) hC dX4_gain_11 (by decide) (fun hc => ?_) (fun hc => ?_)
  · replace hV := hV.1 hc
    refine zz_sub (L' := [some (.ref (E.1.heap.size + 44)), some (.int a1), some (.int a2), none, none, none, none]) ⟨rfl, rfl, rfl, trivial⟩ ?_
    exact j_23 σ3 a1 a2 hV
  · replace hV := hV.2 hc
    refine z_iload_n hC dX4_gain_14 rfl rfl ?_
    refine z_iconst (v := 0) hC dX4_gain_15 rfl ?_
    refine z_iconst (v := 1) hC dX4_gain_16 rfl ?_
    refine c_X4_165 hC (by decide) dX4_gain_17 (Nat.le_of_ble_eq_true rfl) hV (fun r27 σ28 hV => ?_)
    refine z_if_ne (tgt := 27) hC dX4_gain_20 (by decide) (fun hc => ?_) (fun hc => ?_)
    · replace hV := hV.2 hc
      refine z_iconst (v := 0) hC dX4_gain_27 rfl ?_
      refine zz_sub (L' := [some (.ref (E.1.heap.size + 44)), some (.int a1), some (.int a2), none, none, none, none]) ⟨rfl, rfl, rfl, trivial⟩ ?_
      exact j_28 σ28 a1 a2 0 hV
    · replace hV := hV.1 hc
      refine zz_sub (L' := [some (.ref (E.1.heap.size + 44)), some (.int a1), some (.int a2), none, none, none, none]) ⟨rfl, rfl, rfl, trivial⟩ ?_
      exact j_23 σ28 a1 a2 hV
