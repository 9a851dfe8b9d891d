set_option maxRecDepth 100000
def wp_X1_tell (σ : ZS) (a1 : Int32) (Thr : Nat → ZS → Prop) (Ret : Int32 → ZS → Prop) : Prop :=
    wp_X1_needCorner σ a1 (fun x σ => Thr x σ) (fun σ2 => (((zI σ2 12 4) = 12 → (Ret (-1) σ2)) ∧ (¬ (zI σ2 12 4) = 12 → (vp_in (zI σ2 12 4) 12 ∧ (∀ σ4 : ZS, σ4 = sI σ2 15 (ix (zI σ2 12 4)) a1 → (∀ σ5 : ZS, σ5 = sI σ4 12 4 ((zI σ4 12 4) + 1) → (Ret (zI σ5 12 4) σ5)))))))
set_option maxHeartbeats 4000000 in
theorem mz_X1_tell {l : Launch} {E : ZE} (hE : EOK E) {σ : ZS} {a1 : Int32} {Thr : Nat → ZS → Prop} {Ret : Int32 → ZS → Prop} (hV : wp_X1_tell σ a1 Thr Ret) : MZ l E NS yX1_tell (ws_ yX1_tell cX1_tell 2 (some .int)) 7 σ [.ref (E.1.heap.size + 0), .int a1] (rT E.1.heap.size (rI Ret) Thr) := by
  refine MZ.start (L := [some (.ref (E.1.heap.size + 0)), some (.int a1)]) hE (by decide) (Nat.le_of_ble_eq_true rfl) rfl fun C hCl hQo hC => ?_
  replace hC : Cx C E cX1_tell 2 "RightTurns" "tell" (some .int) [] 7 := hC
  unfold wp_X1_tell at hV
  refine z_aload_n hC dX1_tell_0 rfl rfl ?_
  refine z_iload_n hC dX1_tell_1 rfl rfl ?_
  refine c_X1_294 hC (by decide) dX1_tell_2 (Nat.le_of_ble_eq_true rfl) hV (fun σ2 hV => ?_) (fun x σ hV => zth_out hC (by rw [hQo]; exact Or.inr ⟨_, rfl, hV⟩))
  refine z_aload_n hC dX1_tell_5 rfl rfl ?_
  refine g_X1_19_0 hC dX1_tell_6 ?_
  refine g_X1_177_12 hC dX1_tell_9 ?_
  refine z_bipush (v := 12) hC dX1_tell_12 rfl ?_
  refine z_icmp_ne (tgt := 19) hC dX1_tell_14 (by decide) (fun hc => ?_) (fun hc => ?_)
  · replace hV := hV.2 hc
    refine z_aload_n hC dX1_tell_19 rfl rfl ?_
    refine g_X1_19_0 hC dX1_tell_20 ?_
    refine g_X1_394_12 hC dX1_tell_23 ?_
    refine z_aload_n hC dX1_tell_26 rfl rfl ?_
    refine g_X1_19_0 hC dX1_tell_27 ?_
    refine g_X1_177_12 hC dX1_tell_30 ?_
    refine z_iload_n hC dX1_tell_33 rfl rfl ?_
    obtain ⟨h3, hV⟩ := hV
    refine z_iast hC dX1_tell_34 (k_15 _) (h3) ?_
    obtain ⟨σ4, e_σ4⟩ : ∃ z : ZS, z = sI σ2 15 (ix (zI σ2 12 4)) a1 := ⟨_, rfl⟩
    replace hV := hV _ e_σ4
    rw [← e_σ4]
    refine z_aload_n hC dX1_tell_35 rfl rfl ?_
    refine g_X1_19_0 hC dX1_tell_36 ?_
    refine z_dup hC dX1_tell_39 rfl ?_
    refine g_X1_177_12 hC dX1_tell_40 ?_
    refine z_iconst (v := 1) hC dX1_tell_43 rfl ?_
    refine z_iadd hC dX1_tell_44 ?_
    refine p_X1_177_c2 hC dX1_tell_45 (k_12 _) ?_
    obtain ⟨σ5, e_σ5⟩ : ∃ z : ZS, z = sI σ4 12 4 ((zI σ4 12 4) + 1) := ⟨_, rfl⟩
    replace hV := hV _ e_σ5
    rw [← e_σ5]
    refine z_aload_n hC dX1_tell_48 rfl rfl ?_
    refine g_X1_19_0 hC dX1_tell_49 ?_
    refine g_X1_177_12 hC dX1_tell_52 ?_
    exact z_iret hC dX1_tell_55 rfl (by rw [hQo]; exact Or.inl ⟨_, rfl, hV⟩)
  · replace hV := hV.1 hc
    refine z_iconst (v := (-1)) hC dX1_tell_17 rfl ?_
    exact z_iret hC dX1_tell_18 rfl (by rw [hQo]; exact Or.inl ⟨_, rfl, hV⟩)
def wp_X1_together (σ : ZS) (a1 : Int32) (a2 : Int32) (a3 : Int32) (Thr : Nat → ZS → Prop) (Ret : Int32 → ZS → Prop) : Prop :=
    wp_X1_needArc σ a1 (fun x σ => Thr x σ) (fun σ2 => wp_X1_needArc σ2 a2 (fun x σ => Thr x σ) (fun σ4 => wp_X1_isTime σ4 a3 (fun r5 σ6 => wp_X1_need σ6 r5 (fun x σ => Thr x σ) (fun σ8 => wp_X1_findParts σ8 a3 (fun σ10 => vp_in a1 48 ∧ (vp_in a2 48 ∧ ((((zI σ10 24 (ix a1)) = (zI σ10 24 (ix a2)) → (Ret 1 σ10)) ∧ (¬ (zI σ10 24 (ix a1)) = (zI σ10 24 (ix a2)) → (Ret 0 σ10))))))))))
set_option maxHeartbeats 4000000 in
theorem mz_X1_together {l : Launch} {E : ZE} (hE : EOK E) {σ : ZS} {a1 : Int32} {a2 : Int32} {a3 : Int32} {Thr : Nat → ZS → Prop} {Ret : Int32 → ZS → Prop} (hV : wp_X1_together σ a1 a2 a3 Thr Ret) : MZ l E NS yX1_together (ws_ yX1_together cX1_together 4 (some .boolean)) 10 σ [.ref (E.1.heap.size + 0), .int a1, .int a2, .int a3] (rT E.1.heap.size (rI Ret) Thr) := by
  refine MZ.start (L := [some (.ref (E.1.heap.size + 0)), some (.int a1), some (.int a2), some (.int a3)]) hE (by decide) (Nat.le_of_ble_eq_true rfl) rfl fun C hCl hQo hC => ?_
  replace hC : Cx C E cX1_together 4 "RightTurns" "together" (some .boolean) [] 10 := hC
  unfold wp_X1_together at hV
  refine z_aload_n hC dX1_together_0 rfl rfl ?_
  refine z_iload_n hC dX1_together_1 rfl rfl ?_
  refine c_X1_237 hC (by decide) dX1_together_2 (Nat.le_of_ble_eq_true rfl) hV (fun σ2 hV => ?_) (fun x σ hV => zth_out hC (by rw [hQo]; exact Or.inr ⟨_, rfl, hV⟩))
  refine z_aload_n hC dX1_together_5 rfl rfl ?_
  refine z_iload_n hC dX1_together_6 rfl rfl ?_
  refine c_X1_237 hC (by decide) dX1_together_7 (Nat.le_of_ble_eq_true rfl) hV (fun σ4 hV => ?_) (fun x σ hV => zth_out hC (by rw [hQo]; exact Or.inr ⟨_, rfl, hV⟩))
  refine z_aload_n hC dX1_together_10 rfl rfl ?_
  refine z_iload_n hC dX1_together_11 rfl rfl ?_
  refine c_X1_254 hC (by decide) dX1_together_12 (Nat.le_of_ble_eq_true rfl) hV (fun r5 σ6 hV => ?_)
  refine c_X1_164 hC (by decide) dX1_together_15 (Nat.le_of_ble_eq_true rfl) hV (fun σ8 hV => ?_) (fun x σ hV => zth_out hC (by rw [hQo]; exact Or.inr ⟨_, rfl, hV⟩))
  refine z_aload_n hC dX1_together_18 rfl rfl ?_
  refine z_iload_n hC dX1_together_19 rfl rfl ?_
  refine c_X1_320 hC (by decide) dX1_together_20 (Nat.le_of_ble_eq_true rfl) hV (fun σ10 hV => ?_)
  refine z_aload_n hC dX1_together_23 rfl rfl ?_
  refine g_X1_55_0 hC dX1_together_24 ?_
  refine z_iload_n hC dX1_together_27 rfl rfl ?_
  obtain ⟨h11, hV⟩ := hV
  refine z_iald hC dX1_together_28 (k_24 _) (h11) ?_
  refine z_aload_n hC dX1_together_29 rfl rfl ?_
  refine g_X1_55_0 hC dX1_together_30 ?_
  refine z_iload_n hC dX1_together_33 rfl rfl ?_
  obtain ⟨h12, hV⟩ := hV
  refine z_iald hC dX1_together_34 (k_24 _) (h12) ?_
  refine z_icmp_ne (tgt := 42) hC dX1_together_35 (by decide) (fun hc => ?_) (fun hc => ?_)
  · replace hV := hV.2 hc
    refine z_iconst (v := 0) hC dX1_together_42 rfl ?_
    exact z_iret hC dX1_together_43 rfl (by rw [hQo]; exact Or.inl ⟨_, rfl, hV⟩)
  · replace hV := hV.1 hc
    refine z_iconst (v := 1) hC dX1_together_38 rfl ?_
    refine z_goto (tgt := 43) hC dX1_together_39 (by decide) ?_
    exact z_iret hC dX1_together_43 rfl (by rw [hQo]; exact Or.inl ⟨_, rfl, hV⟩)
def V_X1_told_14 (Thr : Nat → ZS → Prop) (Ret : Int32 → ZS → Prop) (σ : ZS) (x1 : Int32) (s0 : Int32) : Prop :=
    wp_X1_need σ s0 (fun x σ => Thr x σ) (fun σ2 => ((x1 = 0 → (wp_X1_corners σ2 (fun r3 σ4 => Ret r3 σ4))) ∧ (¬ x1 = 0 → (((x1 = 1 → ((zP σ2 0 0) = some (.inl (zo (zP σ2 0 0))) ∧ ((∃ n7, kK NS σ2 (zo (zP σ2 0 0)) = (8, n7)) ∧ ((kP NS σ2 (zo (zP σ2 0 0)) 1) = some (.inl (zo (kP NS σ2 (zo (zP σ2 0 0)) 1))) ∧ ((∃ n12, kK NS σ2 (zo (kP NS σ2 (zo (zP σ2 0 0)) 1)) = (16, n12)) ∧ (wp_J2_size σ2 (zo (kP NS σ2 (zo (zP σ2 0 0)) 1)) (fun r9 σ10 => Ret r9 σ10))))))) ∧ (¬ x1 = 1 → (((x1 = 2 → ((zP σ2 0 0) = some (.inl (zo (zP σ2 0 0))) ∧ ((∃ n15, kK NS σ2 (zo (zP σ2 0 0)) = (8, n15)) ∧ (wp_J16_bitCount σ2 (zI σ2 (zo (zP σ2 0 0)) 7) (fun r16 σ17 => Ret r16 σ17))))) ∧ (¬ x1 = 2 → (((x1 = 3 → ((zP σ2 0 0) = some (.inl (zo (zP σ2 0 0))) ∧ ((∃ n20, kK NS σ2 (zo (zP σ2 0 0)) = (8, n20)) ∧ ((kP NS σ2 (zo (zP σ2 0 0)) 2) = some (.inl (zo (kP NS σ2 (zo (zP σ2 0 0)) 2))) ∧ ((∃ n25, kK NS σ2 (zo (kP NS σ2 (zo (zP σ2 0 0)) 2)) = (16, n25)) ∧ (wp_J2_size σ2 (zo (kP NS σ2 (zo (zP σ2 0 0)) 2)) (fun r22 σ23 => Ret r22 σ23))))))) ∧ (¬ x1 = 3 → (((x1 = 4 → ((zP σ2 0 0) = some (.inl (zo (zP σ2 0 0))) ∧ ((∃ n28, kK NS σ2 (zo (zP σ2 0 0)) = (8, n28)) ∧ (Ret (zI σ2 (zo (zP σ2 0 0)) 8) σ2)))) ∧ (¬ x1 = 4 → (Ret (zI σ2 12 3) σ2))))))))))))))))
def V_X1_told_13 (Thr : Nat → ZS → Prop) (Ret : Int32 → ZS → Prop) (σ : ZS) (x1 : Int32) : Prop :=
    V_X1_told_14 Thr Ret σ x1 0
def wp_X1_told (σ : ZS) (a1 : Int32) (Thr : Nat → ZS → Prop) (Ret : Int32 → ZS → Prop) : Prop :=
    ((a1 < 0 → (V_X1_told_13 Thr Ret σ a1)) ∧ (¬ a1 < 0 → (((5 < a1 → (V_X1_told_13 Thr Ret σ a1)) ∧ (¬ 5 < a1 → (V_X1_told_14 Thr Ret σ a1 1))))))
set_option maxHeartbeats 4000000 in
theorem mz_X1_told {l : Launch} {E : ZE} (hE : EOK E) {σ : ZS} {a1 : Int32} {Thr : Nat → ZS → Prop} {Ret : Int32 → ZS → Prop} (hV : wp_X1_told σ a1 Thr Ret) : MZ l E NS yX1_told (ws_ yX1_told cX1_told 2 (some .int)) 7 σ [.ref (E.1.heap.size + 0), .int a1] (rT E.1.heap.size (rI Ret) Thr) := by
  refine MZ.start (L := [some (.ref (E.1.heap.size + 0)), some (.int a1)]) hE (by decide) (Nat.le_of_ble_eq_true rfl) rfl fun C hCl hQo hC => ?_
  replace hC : Cx C E cX1_told 2 "RightTurns" "told" (some .int) [] 7 := hC
  unfold wp_X1_told at hV
  have j_14 : ∀ (σ : ZS) (x1 : Int32) (s0 : Int32), V_X1_told_14 Thr Ret σ x1 s0 → zz C E NS 2 σ 14 [some (.ref (E.1.heap.size + 0)), some (.int x1)] [.int s0] := by
    intro σ x1 s0 hV
    unfold V_X1_told_14 at hV
    refine c_X1_164 hC (by decide) dX1_told_14 (Nat.le_of_ble_eq_true rfl) hV (fun σ2 hV => ?_) (fun x σ hV => zth_out hC (by rw [hQo]; exact Or.inr ⟨_, rfl, hV⟩))
    refine z_iload_n hC dX1_told_17 rfl rfl ?_
    by_cases hc0 : x1 = 0
    · replace hV := hV.1 hc0
      refine z_tableIn (tgt := 52) (off := 34) hC dX1_told_18 (by rw [hc0]; decide) (by rw [hc0]; decide) (by rw [hc0]; rfl) (by decide) ?_
      refine z_aload_n hC dX1_told_52 rfl rfl ?_
      refine c_X1_133 hC (by decide) dX1_told_53 (Nat.le_of_ble_eq_true rfl) hV (fun r3 σ4 hV => ?_)
      exact z_iret hC dX1_told_56 rfl (by rw [hQo]; exact Or.inl ⟨_, rfl, hV⟩)
    replace hV := hV.2 hc0
    by_cases hc1 : x1 = 1
    · replace hV := hV.1 hc1
      refine z_tableIn (tgt := 57) (off := 39) hC dX1_told_18 (by rw [hc1]; decide) (by rw [hc1]; decide) (by rw [hc1]; rfl) (by decide) ?_
      refine z_aload_n hC dX1_told_57 rfl rfl ?_
      refine g_X1_12_0 hC dX1_told_58 ?_
      obtain ⟨h5, hV⟩ := hV
      refine zz_at rfl (by rw [pvo h5]) ?_
      obtain ⟨⟨n7, h6⟩, hV⟩ := hV
      refine g_X1_138_c1 hC dX1_told_61 h6 ?_
      obtain ⟨h8, hV⟩ := hV
      refine zz_at rfl (by rw [pvo h8]) ?_
      obtain ⟨⟨n12, h11⟩, hV⟩ := hV
      refine c_X1_127 hC (by decide) dX1_told_64 (Nat.le_of_ble_eq_true rfl) h11 hV (fun r9 σ10 hV => ?_)
      exact z_iret hC dX1_told_67 rfl (by rw [hQo]; exact Or.inl ⟨_, rfl, hV⟩)
    replace hV := hV.2 hc1
    by_cases hc2 : x1 = 2
    · replace hV := hV.1 hc2
      refine z_tableIn (tgt := 68) (off := 50) hC dX1_told_18 (by rw [hc2]; decide) (by rw [hc2]; decide) (by rw [hc2]; rfl) (by decide) ?_
      refine z_aload_n hC dX1_told_68 rfl rfl ?_
      refine g_X1_12_0 hC dX1_told_69 ?_
      obtain ⟨h13, hV⟩ := hV
      refine zz_at rfl (by rw [pvo h13]) ?_
      obtain ⟨⟨n15, h14⟩, hV⟩ := hV
      refine g_X1_205_c1 hC dX1_told_72 h14 ?_
      refine c_X1_208 hC (by decide) dX1_told_75 (Nat.le_of_ble_eq_true rfl) hV (fun r16 σ17 hV => ?_)
      exact z_iret hC dX1_told_78 rfl (by rw [hQo]; exact Or.inl ⟨_, rfl, hV⟩)
    replace hV := hV.2 hc2
    by_cases hc3 : x1 = 3
    · replace hV := hV.1 hc3
      refine z_tableIn (tgt := 79) (off := 61) hC dX1_told_18 (by rw [hc3]; decide) (by rw [hc3]; decide) (by rw [hc3]; rfl) (by decide) ?_
      refine z_aload_n hC dX1_told_79 rfl rfl ?_
      refine g_X1_12_0 hC dX1_told_80 ?_
      obtain ⟨h18, hV⟩ := hV
      refine zz_at rfl (by rw [pvo h18]) ?_
      obtain ⟨⟨n20, h19⟩, hV⟩ := hV
      refine g_X1_214_c1 hC dX1_told_83 h19 ?_
      obtain ⟨h21, hV⟩ := hV
      refine zz_at rfl (by rw [pvo h21]) ?_
      obtain ⟨⟨n25, h24⟩, hV⟩ := hV
      refine c_X1_127 hC (by decide) dX1_told_86 (Nat.le_of_ble_eq_true rfl) h24 hV (fun r22 σ23 hV => ?_)
      exact z_iret hC dX1_told_89 rfl (by rw [hQo]; exact Or.inl ⟨_, rfl, hV⟩)
    replace hV := hV.2 hc3
    by_cases hc4 : x1 = 4
    · replace hV := hV.1 hc4
      refine z_tableIn (tgt := 90) (off := 72) hC dX1_told_18 (by rw [hc4]; decide) (by rw [hc4]; decide) (by rw [hc4]; rfl) (by decide) ?_
      refine z_aload_n hC dX1_told_90 rfl rfl ?_
      refine g_X1_12_0 hC dX1_told_91 ?_
      obtain ⟨h26, hV⟩ := hV
      refine zz_at rfl (by rw [pvo h26]) ?_
      obtain ⟨⟨n28, h27⟩, hV⟩ := hV
      refine g_X1_217_c1 hC dX1_told_94 h27 ?_
      exact z_iret hC dX1_told_97 rfl (by rw [hQo]; exact Or.inl ⟨_, rfl, hV⟩)
    replace hV := hV.2 hc4
    refine z_tableOut (tgt := 98) hC dX1_told_18 (tb_out (lo := 0) (hi := 4) (x := x1) (fun i h1 h2 => ?_)) (by decide) ?_
    · rcases (show i = 0 ∨ i = 1 ∨ i = 2 ∨ i = 3 ∨ i = 4 by omega) with rfl | rfl | rfl | rfl | rfl
      · exact fun q => hc0 (Int32.toInt_inj.mp (q.trans (by decide)))
      · exact fun q => hc1 (Int32.toInt_inj.mp (q.trans (by decide)))
      · exact fun q => hc2 (Int32.toInt_inj.mp (q.trans (by decide)))
      · exact fun q => hc3 (Int32.toInt_inj.mp (q.trans (by decide)))
      · exact fun q => hc4 (Int32.toInt_inj.mp (q.trans (by decide)))
    · refine z_aload_n hC dX1_told_98 rfl rfl ?_
      refine g_X1_19_0 hC dX1_told_99 ?_
      refine g_X1_154_12 hC dX1_told_102 ?_
      exact z_iret hC dX1_told_105 rfl (by rw [hQo]; exact Or.inl ⟨_, rfl, hV⟩)
  have j_13 : ∀ (σ : ZS) (x1 : Int32), V_X1_told_13 Thr Ret σ x1 → zz C E NS 2 σ 13 [some (.ref (E.1.heap.size + 0)), some (.int x1)] [] := by
    intro σ x1 hV
    unfold V_X1_told_13 at hV
    refine z_iconst (v := 0) hC dX1_told_13 rfl ?_
    refine zz_sub (L' := [some (.ref (E.1.heap.size + 0)), some (.int x1)]) ⟨rfl, rfl, trivial⟩ ?_
    exact j_14 σ x1 0 hV
  refine z_iload_n hC dX1_told_0 rfl rfl ?_
  refine z_if_lt (tgt := 13) hC dX1_told_1 (by decide) (fun hc => ?_) (fun hc => ?_)
  · replace hV := hV.1 hc
    refine zz_sub (L' := [some (.ref (E.1.heap.size + 0)), some (.int a1)]) ⟨rfl, rfl, trivial⟩ ?_
    exact j_13 σ a1 hV
  · replace hV := hV.2 hc
    refine z_iload_n hC dX1_told_4 rfl rfl ?_
    refine z_iconst (v := 5) hC dX1_told_5 rfl ?_
    refine z_icmp_gt (tgt := 13) hC dX1_told_6 (by decide) (fun hc => ?_) (fun hc => ?_)
    · replace hV := hV.1 hc
      refine zz_sub (L' := [some (.ref (E.1.heap.size + 0)), some (.int a1)]) ⟨rfl, rfl, trivial⟩ ?_
      exact j_13 σ a1 hV
    · replace hV := hV.2 hc
      refine z_iconst (v := 1) hC dX1_told_9 rfl ?_
      refine z_goto (tgt := 14) hC dX1_told_10 (by decide) ?_
      refine zz_sub (L' := [some (.ref (E.1.heap.size + 0)), some (.int a1)]) ⟨rfl, rfl, trivial⟩ ?_
      exact j_14 σ a1 1 hV
def VL_X1_traffic_49 (Thr : Nat → ZS → Prop) (Ret : Int32 → ZS → Prop) : Nat → ZS → Int32 → Int32 → Int32 → Int32 → Prop
  | 0 => fun _ _ _ _ _ => False
  | k + 1 => fun σ x1 x2 x3 x4 =>
    let K49 := VL_X1_traffic_49 Thr Ret k
    (zP σ 0 0) = some (.inl (zo (zP σ 0 0))) ∧ ((∃ n7, kK NS σ (zo (zP σ 0 0)) = (8, n7)) ∧ ((kP NS σ (zo (zP σ 0 0)) 2) = some (.inl (zo (kP NS σ (zo (zP σ 0 0)) 2))) ∧ ((∃ n12, kK NS σ (zo (kP NS σ (zo (zP σ 0 0)) 2)) = (16, n12)) ∧ (wp_J2_size σ (zo (kP NS σ (zo (zP σ 0 0)) 2)) (fun r9 σ10 => ((x4 < r9 → (vp_in x4 12 ∧ (∀ y14 : Int32, y14 = x2 + (zI σ10 38 (ix x4)) → (vp_in x4 12 ∧ (((0 < (zI σ10 38 (ix x4)) → (((x3 = (-1) → (∀ y17 : Int32, y17 = x4 + 1 → (K49 σ10 x1 y14 x4 y17))) ∧ (¬ x3 = (-1) → (vp_in x4 12 ∧ (vp_in x3 12 ∧ ((((zI σ10 38 (ix x3)) < (zI σ10 38 (ix x4)) → (∀ y21 : Int32, y21 = x4 + 1 → (K49 σ10 x1 y14 x4 y21))) ∧ (¬ (zI σ10 38 (ix x3)) < (zI σ10 38 (ix x4)) → (∀ y20 : Int32, y20 = x4 + 1 → (K49 σ10 x1 y14 x3 y20))))))))))) ∧ (¬ 0 < (zI σ10 38 (ix x4)) → (∀ y16 : Int32, y16 = x4 + 1 → (K49 σ10 x1 y14 x3 y16))))))))) ∧ (¬ x4 < r9 → (((x1 = 2 → (Ret x2 σ10)) ∧ (¬ x1 = 2 → (Ret x3 σ10)))))))))))
def V_X1_traffic_49 (Thr : Nat → ZS → Prop) (Ret : Int32 → ZS → Prop) (σ : ZS) (x1 : Int32) (x2 : Int32) (x3 : Int32) (x4 : Int32) : Prop := ∃ k, VL_X1_traffic_49 Thr Ret k σ x1 x2 x3 x4
def V_X1_traffic_14 (Thr : Nat → ZS → Prop) (Ret : Int32 → ZS → Prop) (σ : ZS) (x1 : Int32) (s0 : Int32) : Prop :=
    wp_X1_need σ s0 (fun x σ => Thr x σ) (fun σ2 => wp_X1_goes σ2 (fun σ4 => ((x1 < 2 → (((x1 = 0 → (Ret (zI σ4 0 30) σ4)) ∧ (¬ x1 = 0 → (Ret (zI σ4 0 31) σ4))))) ∧ (¬ x1 < 2 → (V_X1_traffic_49 Thr Ret σ4 x1 0 (-1) 0)))))
def V_X1_traffic_13 (Thr : Nat → ZS → Prop) (Ret : Int32 → ZS → Prop) (σ : ZS) (x1 : Int32) : Prop :=
    V_X1_traffic_14 Thr Ret σ x1 0
def wp_X1_traffic (σ : ZS) (a1 : Int32) (Thr : Nat → ZS → Prop) (Ret : Int32 → ZS → Prop) : Prop :=
    ((a1 < 0 → (V_X1_traffic_13 Thr Ret σ a1)) ∧ (¬ a1 < 0 → (((3 < a1 → (V_X1_traffic_13 Thr Ret σ a1)) ∧ (¬ 3 < a1 → (V_X1_traffic_14 Thr Ret σ a1 1))))))
set_option maxHeartbeats 4000000 in
theorem mz_X1_traffic {l : Launch} {E : ZE} (hE : EOK E) {σ : ZS} {a1 : Int32} {Thr : Nat → ZS → Prop} {Ret : Int32 → ZS → Prop} (hV : wp_X1_traffic σ a1 Thr Ret) : MZ l E NS yX1_traffic (ws_ yX1_traffic cX1_traffic 5 (some .int)) 13 σ [.ref (E.1.heap.size + 0), .int a1] (rT E.1.heap.size (rI Ret) Thr) := by
  refine MZ.start (L := [some (.ref (E.1.heap.size + 0)), some (.int a1), none, none, none]) hE (by decide) (Nat.le_of_ble_eq_true rfl) rfl fun C hCl hQo hC => ?_
  replace hC : Cx C E cX1_traffic 5 "RightTurns" "traffic" (some .int) [] 13 := hC
  unfold wp_X1_traffic at hV
  have j_49 : ∀ (σ : ZS) (x1 : Int32) (x2 : Int32) (x3 : Int32) (x4 : Int32), V_X1_traffic_49 Thr Ret σ x1 x2 x3 x4 → zz C E NS 5 σ 49 [some (.ref (E.1.heap.size + 0)), some (.int x1), some (.int x2), some (.int x3), some (.int x4)] [] := by
    intro σ x1 x2 x3 x4 ⟨k, hV⟩
    revert σ x1 x2 x3 x4
    induction k with
    | zero => exact fun _ _ _ _ _ hV => hV.elim
    | succ k j_49 =>
      intro σ x1 x2 x3 x4 hV
      simp only [VL_X1_traffic_49] at hV
      generalize hKe49 : VL_X1_traffic_49 Thr Ret k = K49 at hV j_49
      clear hKe49
      refine z_iload hC dX1_traffic_49 rfl ?_
      refine z_aload_n hC dX1_traffic_51 rfl rfl ?_
      refine g_X1_12_0 hC dX1_traffic_52 ?_
      obtain ⟨h5, hV⟩ := hV
      refine zz_at rfl (by rw [pvo h5]) ?_
      obtain ⟨⟨n7, h6⟩, hV⟩ := hV
      refine g_X1_214_c1 hC dX1_traffic_55 h6 ?_
      obtain ⟨h8, hV⟩ := hV
      refine zz_at rfl (by rw [pvo h8]) ?_
      obtain ⟨⟨n12, h11⟩, hV⟩ := hV
      refine c_X1_127 hC (by decide) dX1_traffic_58 (Nat.le_of_ble_eq_true rfl) h11 hV (fun r9 σ10 hV => ?_)
      refine z_icmp_ge (tgt := 114) hC dX1_traffic_61 (by decide) (fun hc => ?_) (fun hc => ?_)
      · replace hV := hV.2 hc
        refine z_iload_n hC dX1_traffic_114 rfl rfl ?_
        refine z_iconst (v := 2) hC dX1_traffic_115 rfl ?_
        refine z_icmp_ne (tgt := 123) hC dX1_traffic_116 (by decide) (fun hc => ?_) (fun hc => ?_)
        · replace hV := hV.2 hc
          refine z_iload_n hC dX1_traffic_123 rfl rfl ?_
          exact z_iret hC dX1_traffic_124 rfl (by rw [hQo]; exact Or.inl ⟨_, rfl, hV⟩)
        · replace hV := hV.1 hc
          refine z_iload_n hC dX1_traffic_119 rfl rfl ?_
          refine z_goto (tgt := 124) hC dX1_traffic_120 (by decide) ?_
          exact z_iret hC dX1_traffic_124 rfl (by rw [hQo]; exact Or.inl ⟨_, rfl, hV⟩)
      · replace hV := hV.1 hc
        refine z_iload_n hC dX1_traffic_64 rfl rfl ?_
        refine z_aload_n hC dX1_traffic_65 rfl rfl ?_
        refine g_X1_99_0 hC dX1_traffic_66 ?_
        refine z_iload hC dX1_traffic_69 rfl ?_
        obtain ⟨h13, hV⟩ := hV
        refine z_iald hC dX1_traffic_71 (k_38 _) (h13) ?_
        refine z_iadd hC dX1_traffic_72 ?_
        obtain ⟨y14, e_y14⟩ : ∃ z, z = x2 + (zI σ10 38 (ix x4)) := ⟨_, rfl⟩
        rw [← e_y14]
        replace hV := hV _ e_y14
        refine z_istore_n hC dX1_traffic_73 rfl (Nat.le_of_ble_eq_true rfl) rfl rfl ?_
        refine z_aload_n hC dX1_traffic_74 rfl rfl ?_
        refine g_X1_99_0 hC dX1_traffic_75 ?_
        refine z_iload hC dX1_traffic_78 rfl ?_
        obtain ⟨h15, hV⟩ := hV
        refine z_iald hC dX1_traffic_80 (k_38 _) (h15) ?_
        refine z_if_le (tgt := 108) hC dX1_traffic_81 (by decide) (fun hc => ?_) (fun hc => ?_)
        · replace hV := hV.2 hc
          obtain ⟨y16, e_y16⟩ : ∃ z : Int32, z = x4 + 1 := ⟨_, rfl⟩
          replace hV := hV _ e_y16
          refine z_iinc (v := y16) hC dX1_traffic_108 rfl (by rw [e_y16]; rfl) (Nat.le_of_ble_eq_true rfl) rfl rfl ?_
          refine z_goto (tgt := 49) hC dX1_traffic_111 (by decide) ?_
          refine zz_sub (L' := [some (.ref (E.1.heap.size + 0)), some (.int x1), some (.int y14), some (.int x3), some (.int y16)]) ⟨rfl, rfl, rfl, rfl, rfl, trivial⟩ ?_
          exact j_49 σ10 x1 y14 x3 y16 hV
        · replace hV := hV.1 hc
          refine z_iload_n hC dX1_traffic_84 rfl rfl ?_
          refine z_iconst (v := (-1)) hC dX1_traffic_85 rfl ?_
          refine z_icmp_eq (tgt := 105) hC dX1_traffic_86 (by decide) (fun hc => ?_) (fun hc => ?_)
          · replace hV := hV.1 hc
            refine z_iload hC dX1_traffic_105 rfl ?_
            refine z_istore_n hC dX1_traffic_107 rfl (Nat.le_of_ble_eq_true rfl) rfl rfl ?_
            obtain ⟨y17, e_y17⟩ : ∃ z : Int32, z = x4 + 1 := ⟨_, rfl⟩
            replace hV := hV _ e_y17
            refine z_iinc (v := y17) hC dX1_traffic_108 rfl (by rw [e_y17]; rfl) (Nat.le_of_ble_eq_true rfl) rfl rfl ?_
            refine z_goto (tgt := 49) hC dX1_traffic_111 (by decide) ?_
            refine zz_sub (L' := [some (.ref (E.1.heap.size + 0)), some (.int x1), some (.int y14), some (.int x4), some (.int y17)]) ⟨rfl, rfl, rfl, rfl, rfl, trivial⟩ ?_
            exact j_49 σ10 x1 y14 x4 y17 hV
          · replace hV := hV.2 hc
            refine z_aload_n hC dX1_traffic_89 rfl rfl ?_
            refine g_X1_99_0 hC dX1_traffic_90 ?_
            refine z_iload hC dX1_traffic_93 rfl ?_
            obtain ⟨h18, hV⟩ := hV
            refine z_iald hC dX1_traffic_95 (k_38 _) (h18) ?_
            refine z_aload_n hC dX1_traffic_96 rfl rfl ?_
            refine g_X1_99_0 hC dX1_traffic_97 ?_
            refine z_iload_n hC dX1_traffic_100 rfl rfl ?_
            obtain ⟨h19, hV⟩ := hV
            refine z_iald hC dX1_traffic_101 (k_38 _) (h19) ?_
            refine z_icmp_le (tgt := 108) hC dX1_traffic_102 (by decide) (fun hc => ?_) (fun hc => ?_)
            · replace hV := hV.2 hc
              obtain ⟨y20, e_y20⟩ : ∃ z : Int32, z = x4 + 1 := ⟨_, rfl⟩
              replace hV := hV _ e_y20
              refine z_iinc (v := y20) hC dX1_traffic_108 rfl (by rw [e_y20]; rfl) (Nat.le_of_ble_eq_true rfl) rfl rfl ?_
              refine z_goto (tgt := 49) hC dX1_traffic_111 (by decide) ?_
              refine zz_sub (L' := [some (.ref (E.1.heap.size + 0)), some (.int x1), some (.int y14), some (.int x3), some (.int y20)]) ⟨rfl, rfl, rfl, rfl, rfl, trivial⟩ ?_
              exact j_49 σ10 x1 y14 x3 y20 hV
            · replace hV := hV.1 hc
              refine z_iload hC dX1_traffic_105 rfl ?_
              refine z_istore_n hC dX1_traffic_107 rfl (Nat.le_of_ble_eq_true rfl) rfl rfl ?_
              obtain ⟨y21, e_y21⟩ : ∃ z : Int32, z = x4 + 1 := ⟨_, rfl⟩
              replace hV := hV _ e_y21
              refine z_iinc (v := y21) hC dX1_traffic_108 rfl (by rw [e_y21]; rfl) (Nat.le_of_ble_eq_true rfl) rfl rfl ?_
              refine z_goto (tgt := 49) hC dX1_traffic_111 (by decide) ?_
              refine zz_sub (L' := [some (.ref (E.1.heap.size + 0)), some (.int x1), some (.int y14), some (.int x4), some (.int y21)]) ⟨rfl, rfl, rfl, rfl, rfl, trivial⟩ ?_
              exact j_49 σ10 x1 y14 x4 y21 hV
  have j_14 : ∀ (σ : ZS) (x1 : Int32) (s0 : Int32), V_X1_traffic_14 Thr Ret σ x1 s0 → zz C E NS 5 σ 14 [some (.ref (E.1.heap.size + 0)), some (.int x1), none, none, none] [.int s0] := by
    intro σ x1 s0 hV
    unfold V_X1_traffic_14 at hV
    refine c_X1_164 hC (by decide) dX1_traffic_14 (Nat.le_of_ble_eq_true rfl) hV (fun σ2 hV => ?_) (fun x σ hV => zth_out hC (by rw [hQo]; exact Or.inr ⟨_, rfl, hV⟩))
    refine z_aload_n hC dX1_traffic_17 rfl rfl ?_
    refine c_X1_391 hC (by decide) dX1_traffic_18 (Nat.le_of_ble_eq_true rfl) hV (fun σ4 hV => ?_)
    refine z_iload_n hC dX1_traffic_21 rfl rfl ?_
    refine z_iconst (v := 2) hC dX1_traffic_22 rfl ?_
    refine z_icmp_ge (tgt := 42) hC dX1_traffic_23 (by decide) (fun hc => ?_) (fun hc => ?_)
    · replace hV := hV.2 hc
      refine z_iconst (v := 0) hC dX1_traffic_42 rfl ?_
      refine z_istore_n hC dX1_traffic_43 rfl (Nat.le_of_ble_eq_true rfl) rfl rfl ?_
      refine z_iconst (v := (-1)) hC dX1_traffic_44 rfl ?_
      refine z_istore_n hC dX1_traffic_45 rfl (Nat.le_of_ble_eq_true rfl) rfl rfl ?_
      refine z_iconst (v := 0) hC dX1_traffic_46 rfl ?_
      refine z_istore hC dX1_traffic_47 (Nat.le_of_ble_eq_true rfl) rfl rfl ?_
      refine zz_sub (L' := [some (.ref (E.1.heap.size + 0)), some (.int x1), some (.int 0), some (.int (-1)), some (.int 0)]) ⟨rfl, rfl, rfl, rfl, rfl, trivial⟩ ?_
      exact j_49 σ4 x1 0 (-1) 0 hV
    · replace hV := hV.1 hc
      refine z_iload_n hC dX1_traffic_26 rfl rfl ?_
      refine z_if_ne (tgt := 37) hC dX1_traffic_27 (by decide) (fun hc => ?_) (fun hc => ?_)
      · replace hV := hV.2 hc
        refine z_aload_n hC dX1_traffic_37 rfl rfl ?_
        refine g_X1_373_0 hC dX1_traffic_38 ?_
        exact z_iret hC dX1_traffic_41 rfl (by rw [hQo]; exact Or.inl ⟨_, rfl, hV⟩)
      · replace hV := hV.1 hc
        refine z_aload_n hC dX1_traffic_30 rfl rfl ?_
        refine g_X1_370_0 hC dX1_traffic_31 ?_
        refine z_goto (tgt := 41) hC dX1_traffic_34 (by decide) ?_
        exact z_iret hC dX1_traffic_41 rfl (by rw [hQo]; exact Or.inl ⟨_, rfl, hV⟩)
  have j_13 : ∀ (σ : ZS) (x1 : Int32), V_X1_traffic_13 Thr Ret σ x1 → zz C E NS 5 σ 13 [some (.ref (E.1.heap.size + 0)), some (.int x1), none, none, none] [] := by
    intro σ x1 hV
    unfold V_X1_traffic_13 at hV
    refine z_iconst (v := 0) hC dX1_traffic_13 rfl ?_
    refine zz_sub (L' := [some (.ref (E.1.heap.size + 0)), some (.int x1), none, none, none]) ⟨rfl, rfl, trivial⟩ ?_
    exact j_14 σ x1 0 hV
  refine z_iload_n hC dX1_traffic_0 rfl rfl ?_
  refine z_if_lt (tgt := 13) hC dX1_traffic_1 (by decide) (fun hc => ?_) (fun hc => ?_)
  · replace hV := hV.1 hc
    refine zz_sub (L' := [some (.ref (E.1.heap.size + 0)), some (.int a1), none, none, none]) ⟨rfl, rfl, trivial⟩ ?_
    exact j_13 σ a1 hV
  · replace hV := hV.2 hc
    refine z_iload_n hC dX1_traffic_4 rfl rfl ?_
    refine z_iconst (v := 3) hC dX1_traffic_5 rfl ?_
    refine z_icmp_gt (tgt := 13) hC dX1_traffic_6 (by decide) (fun hc => ?_) (fun hc => ?_)
    · replace hV := hV.1 hc
      refine zz_sub (L' := [some (.ref (E.1.heap.size + 0)), some (.int a1), none, none, none]) ⟨rfl, rfl, trivial⟩ ?_
      exact j_13 σ a1 hV
    · replace hV := hV.2 hc
      refine z_iconst (v := 1) hC dX1_traffic_9 rfl ?_
      refine z_goto (tgt := 14) hC dX1_traffic_10 (by decide) ?_
      refine zz_sub (L' := [some (.ref (E.1.heap.size + 0)), some (.int a1), none, none, none]) ⟨rfl, rfl, trivial⟩ ?_
      exact j_14 σ a1 1 hV
def wp_X1_turn (σ : ZS) (a1 : Int32) (a2 : Int32) (Thr : Nat → ZS → Prop) (Ret : Int32 → ZS → Prop) : Prop :=
    wp_X1_needArc σ a1 (fun x σ => Thr x σ) (fun σ2 => wp_X1_needArc σ2 a2 (fun x σ => Thr x σ) (fun σ4 => (zP σ4 0 0) = some (.inl (zo (zP σ4 0 0))) ∧ ((∃ n9, kK NS σ4 (zo (zP σ4 0 0)) = (8, n9)) ∧ (wp_X2_turn σ4 (zo (zP σ4 0 0)) a1 a2 (fun r6 σ7 => Ret r6 σ7)))))
set_option maxHeartbeats 4000000 in
theorem mz_X1_turn {l : Launch} {E : ZE} (hE : EOK E) {σ : ZS} {a1 : Int32} {a2 : Int32} {Thr : Nat → ZS → Prop} {Ret : Int32 → ZS → Prop} (hV : wp_X1_turn σ a1 a2 Thr Ret) : MZ l E NS yX1_turn (ws_ yX1_turn cX1_turn 3 (some .int)) 7 σ [.ref (E.1.heap.size + 0), .int a1, .int a2] (rT E.1.heap.size (rI Ret) Thr) := by
  refine MZ.start (L := [some (.ref (E.1.heap.size + 0)), some (.int a1), some (.int a2)]) hE (by decide) (Nat.le_of_ble_eq_true rfl) rfl fun C hCl hQo hC => ?_
  replace hC : Cx C E cX1_turn 3 "RightTurns" "turn" (some .int) [] 7 := hC
  unfold wp_X1_turn at hV
  refine z_aload_n hC dX1_turn_0 rfl rfl ?_
  refine z_iload_n hC dX1_turn_1 rfl rfl ?_
  refine c_X1_237 hC (by decide) dX1_turn_2 (Nat.le_of_ble_eq_true rfl) hV (fun σ2 hV => ?_) (fun x σ hV => zth_out hC (by rw [hQo]; exact Or.inr ⟨_, rfl, hV⟩))
  refine z_aload_n hC dX1_turn_5 rfl rfl ?_
  refine z_iload_n hC dX1_turn_6 rfl rfl ?_
  refine c_X1_237 hC (by decide) dX1_turn_7 (Nat.le_of_ble_eq_true rfl) hV (fun σ4 hV => ?_) (fun x σ hV => zth_out hC (by rw [hQo]; exact Or.inr ⟨_, rfl, hV⟩))
  refine z_aload_n hC dX1_turn_10 rfl rfl ?_
  refine g_X1_12_0 hC dX1_turn_11 ?_
  obtain ⟨h5, hV⟩ := hV
  refine zz_at rfl (by rw [pvo h5]) ?_
  refine z_iload_n hC dX1_turn_14 rfl rfl ?_
  refine z_iload_n hC dX1_turn_15 rfl rfl ?_
  obtain ⟨⟨n9, h8⟩, hV⟩ := hV
  refine c_X1_240 hC (by decide) dX1_turn_16 (Nat.le_of_ble_eq_true rfl) h8 hV (fun r6 σ7 hV => ?_)
  exact z_iret hC dX1_turn_19 rfl (by rw [hQo]; exact Or.inl ⟨_, rfl, hV⟩)
theorem dv_4 : ∀ k, k < 5 → defaultValue (tyX5 k) = (match fty 4 k with | 0 => Value.int 0 | 1 => .long 0 | _ => .null) := by decide +kernel
theorem g_X1_180_c1 {a x : Nat} {C : ZC} {E : ZE} {cc : ByteArray} {n nL pc d : Nat} {nm : String} {ret : Option FieldType} {hh : List (Nat × Nat × Nat × Nat)} {σ : ZS} {L : List (Option Value)} {st : List Value} (hC : Cx C E cc nL "RightTurns" nm ret hh d) (hd : decode cc pc = .ok (.getfield 180, 3)) (hk : kK n σ a = (1 + 7, x)) (k : zz C E n nL σ (pc + 3) L (pv E.1.heap.size (kP n σ a 3) :: st)) : zz C E n nL σ pc L (.ref (E.1.heap.size + a) :: st) :=
  z_get hC cf1 hd hk (k := 3) (by decide) (Or.inr ⟨_, q516⟩) (Or.inl rfl) rfl k
theorem g_X1_190_c1 {a x : Nat} {C : ZC} {E : ZE} {cc : ByteArray} {n nL pc d : Nat} {nm : String} {ret : Option FieldType} {hh : List (Nat × Nat × Nat × Nat)} {σ : ZS} {L : List (Option Value)} {st : List Value} (hC : Cx C E cc nL "RightTurns" nm ret hh d) (hd : decode cc pc = .ok (.getfield 190, 3)) (hk : kK n σ a = (1 + 7, x)) (k : zz C E n nL σ (pc + 3) L (pv E.1.heap.size (kP n σ a 4) :: st)) : zz C E n nL σ pc L (.ref (E.1.heap.size + a) :: st) :=
  z_get hC cf1 hd hk (k := 4) (by decide) (Or.inr ⟨_, q519⟩) (Or.inl rfl) rfl k
theorem g_X1_199_c5 {a x : Nat} {C : ZC} {E : ZE} {cc : ByteArray} {n nL pc d : Nat} {nm : String} {ret : Option FieldType} {hh : List (Nat × Nat × Nat × Nat)} {σ : ZS} {L : List (Option Value)} {st : List Value} (hC : Cx C E cc nL "RightTurns" nm ret hh d) (hd : decode cc pc = .ok (.getfield 199, 3)) (hk : kK n σ a = (5 + 7, x)) (k : zz C E n nL σ (pc + 3) L (.int (zI σ a 7) :: st)) : zz C E n nL σ pc L (.ref (E.1.heap.size + a) :: st) :=
  z_get hC cf5 hd hk (k := 7) (by decide) (Or.inr ⟨_, q941⟩) (Or.inl rfl) rfl k
theorem g_X1_202_c5 {a x : Nat} {C : ZC} {E : ZE} {cc : ByteArray} {n nL pc d : Nat} {nm : String} {ret : Option FieldType} {hh : List (Nat × Nat × Nat × Nat)} {σ : ZS} {L : List (Option Value)} {st : List Value} (hC : Cx C E cc nL "RightTurns" nm ret hh d) (hd : decode cc pc = .ok (.getfield 202, 3)) (hk : kK n σ a = (5 + 7, x)) (k : zz C E n nL σ (pc + 3) L (.int (zI σ a 6) :: st)) : zz C E n nL σ pc L (.ref (E.1.heap.size + a) :: st) :=
  z_get hC cf5 hd hk (k := 6) (by decide) (Or.inr ⟨_, q939⟩) (Or.inl rfl) rfl k
theorem p_X1_12_c0 {C : ZC} {E : ZE} {cc : ByteArray} {n nL pc d a x : Nat} {nm : String} {ret : Option FieldType} {hh : List (Nat × Nat × Nat × Nat)} {σ : ZS} {L : List (Option Value)} {st : List Value} {r : ZR} (hC : Cx C E cc nL "RightTurns" nm ret hh d) (hd : decode cc pc = .ok (.putfield 12, 3)) (hk : kK n σ a = (0 + 7, x)) (hf : pfree n a 0) (k : zz C E n nL (sP σ a 0 r) (pc + 3) L st) : zz C E n nL σ pc L (pv E.1.heap.size r :: .ref (E.1.heap.size + a) :: st) :=
  z_putP hC cf0 hd hk (k := 0) (by decide) (Or.inl q581) (Or.inl rfl) (Or.inl rfl) (Or.inl ⟨_, rfl⟩) rfl hf k
theorem p_X1_154_c2 {C : ZC} {E : ZE} {cc : ByteArray} {n nL pc d a x : Nat} {nm : String} {ret : Option FieldType} {hh : List (Nat × Nat × Nat × Nat)} {σ : ZS} {L : List (Option Value)} {st : List Value} {v : Int32} (hC : Cx C E cc nL "RightTurns" nm ret hh d) (hd : decode cc pc = .ok (.putfield 154, 3)) (hk : kK n σ a = (2 + 7, x)) (k : zz C E n nL (sI σ a 3 v) (pc + 3) L st) : zz C E n nL σ pc L (.int v :: .ref (E.1.heap.size + a) :: st) :=
  z_putI hC cf2 hd hk (k := 3) (by decide) (Or.inr ⟨_, q565⟩) (Or.inl rfl) (Or.inl rfl) rfl rfl rfl k
theorem p_X1_23_c0 {C : ZC} {E : ZE} {cc : ByteArray} {n nL pc d a x : Nat} {nm : String} {ret : Option FieldType} {hh : List (Nat × Nat × Nat × Nat)} {σ : ZS} {L : List (Option Value)} {st : List Value} {v : Int32} (hC : Cx C E cc nL "RightTurns" nm ret hh d) (hd : decode cc pc = .ok (.putfield 23, 3)) (hk : kK n σ a = (0 + 7, x)) (k : zz C E n nL (sI σ a 3 v) (pc + 3) L st) : zz C E n nL σ pc L (.int v :: .ref (E.1.heap.size + a) :: st) :=
  z_putI hC cf0 hd hk (k := 3) (by decide) (Or.inl q584) (Or.inl rfl) (Or.inl rfl) rfl rfl rfl k
theorem cw_X5_init : CodeW yX5_init (ws_ yX5_init cX5_init 3 none) 3 := ⟨fun w h => (List.mem_cons.mp h).elim (fun e => e ▸ q768) id, Or.inl ⟨_, _, q768⟩, q139, by decide, by decide⟩
theorem c_X1_170 {C : ZC} {E : ZE} {cc : ByteArray} {nL pc d : Nat} {nm : String} {ret : Option FieldType} {hh : List (Nat × Nat × Nat × Nat)} {σ : ZS} {L : List (Option Value)} {st : List Value} {a0 : Nat} {a1 : Nat} {a2 : Int32} {Ret : ZS → Prop} (hC : Cx C E cc nL "RightTurns" nm ret hh d) (hdd : 5 + 1 ≤ d) (hd : decode cc pc = .ok (.invokespecial 170, 3)) (hW : (st.map fun v => v.category).sum ≤ 8) (hV : wp_X5_init σ a0 a1 a2 Ret) (k : ∀ σ', Ret σ' → zz C E NS nL σ' (pc + 3) L st) : zz C E NS nL σ pc L (.int a2 :: .ref (E.1.heap.size + a1) :: .ref (E.1.heap.size + a0) :: st) :=
  z_callIG hC cw_X5_init q768 hdd (by decide) (mz_X5_init (cxE hC) hV) hd rfl q766 q767 (np := 2) rfl rfl hW rfl (kV k)
theorem cw_X5_reads : CodeW yX5_reads (ws_ yX5_reads cX5_reads 1 (Option.some (FieldType.object "RightTurns$Town"))) 1 := ⟨fun w h => (List.mem_cons.mp h).elim (fun e => e ▸ q791) id, Or.inl ⟨_, _, q791⟩, q139, by decide, by decide⟩
theorem c_X1_173 {C : ZC} {E : ZE} {cc : ByteArray} {nL pc d : Nat} {nm : String} {ret : Option FieldType} {hh : List (Nat × Nat × Nat × Nat)} {σ : ZS} {L : List (Option Value)} {st : List Value} {a0 : Nat} {Ret : ZR → ZS → Prop} {Thr : Nat → ZS → Prop} (hC : Cx C E cc nL "RightTurns" nm ret hh d) (hdd : 10 + 1 ≤ d) (hd : decode cc pc = .ok (.invokevirtual 173, 3)) (hW : (st.map fun v => v.category).sum ≤ 8) {x : Nat} (hk : kK NS σ a0 = (4 + 7, x)) (hV : wp_X5_reads σ a0 Thr Ret) (k : ∀ r σ', Ret r σ' → zz C E NS nL σ' (pc + 3) L (pv E.1.heap.size r :: st)) (kt : ∀ a σ', Thr a σ' → zth C E NS nL σ' pc L st (E.1.heap.size + a)) : zz C E NS nL σ pc L (.ref (E.1.heap.size + a0) :: st) :=
  z_callVG hC cf4 cw_X5_reads hdd (by decide) (mz_X5_reads (cxE hC) hV) hd hk q788 q789 q790 (np := 0) rfl rfl hW rfl (kT (kR k) kt)
def V_X1_town_17 (Thr : Nat → ZS → Prop) (Ret : Int32 → ZS → Prop) (σ : ZS) (x1 : Int32) (s0 : Int32) : Prop :=
    wp_X1_need σ s0 (fun x σ => Thr x σ) (fun σ2 => ∀ σ3 : ZS, σ3 = sI σ2 0 3 (-1) → ((NS ≤ zt σ3 ∧ zt σ3 + 1 ≤ NB ∧ zn σ3 + 5 ≤ SB) ∧ (∀ σ5 : ZS, σ5 = sA σ3 (11, 0) 5 → (wp_X5_init σ5 (zt σ3) 16 x1 (fun σ7 => (∃ n11, kK NS σ7 (zt σ3) = (11, n11)) ∧ (wp_X5_reads σ7 (zt σ3) (fun x12 σ13 => ((∃ x, kK NS σ13 x12 = (5 + 7, x)) ∧ ((∃ n15, kK NS σ13 x12 = (12, n15)) ∧ (∀ σ16 : ZS, σ16 = sI σ13 0 3 (zI σ13 x12 7) → ((∃ n18, kK NS σ16 x12 = (12, n18)) ∧ (∀ y19 : Int32, y19 = (zI σ16 x12 6) - 10 → (∀ σ20 : ZS, σ20 = sI σ16 0 2 0 → (Ret y19 σ20)))))))) (fun r8 σ9 => r8 = some (.inl (zo r8)) ∧ (∀ σ23 : ZS, σ23 = sP σ9 0 0 (some (.inl (zo r8))) → (∀ σ24 : ZS, σ24 = sI σ23 12 3 0 → (∀ σ25 : ZS, σ25 = sI σ24 12 4 0 → ((∃ n27, kK NS σ25 (zo r8) = (8, n27)) ∧ ((kP NS σ25 (zo r8) 3) = some (.inl (zo (kP NS σ25 (zo r8) 3))) ∧ (∃ n30, kK NS σ25 (zo (kP NS σ25 (zo r8) 3)) = (0, n30) ∧ ((¬ (0 : Int32) < 0 ∧ ¬ (0 : Int32) < 0 ∧ ¬ (24 : Int32) < 0 ∧ ix 0 + ix 24 ≤ n30 ∧ ix 0 + ix 24 ≤ 4824) ∧ (∀ σ32 : ZS, σ32 = cI σ25 (zo (kP NS σ25 (zo r8) 3)) 13 (ix 0) (ix 0) (ix 24) → ((∃ n34, kK NS σ32 (zo r8) = (8, n34)) ∧ ((kP NS σ32 (zo r8) 4) = some (.inl (zo (kP NS σ32 (zo r8) 4))) ∧ (∃ n37, kK NS σ32 (zo (kP NS σ32 (zo r8) 4)) = (0, n37) ∧ ((¬ (0 : Int32) < 0 ∧ ¬ (0 : Int32) < 0 ∧ ¬ (24 : Int32) < 0 ∧ ix 0 + ix 24 ≤ n37 ∧ ix 0 + ix 24 ≤ 4824) ∧ (∀ σ39 : ZS, σ39 = cI σ32 (zo (kP NS σ32 (zo r8) 4)) 14 (ix 0) (ix 0) (ix 24) → (∀ σ40 : ZS, σ40 = sI σ39 0 4 0 → (wp_X1_corners σ40 (fun r41 σ42 => ∀ σ43 : ZS, σ43 = sI σ42 0 2 0 → (Ret r41 σ43))))))))))))))))))))))))
def V_X1_town_16 (Thr : Nat → ZS → Prop) (Ret : Int32 → ZS → Prop) (σ : ZS) (x1 : Int32) : Prop :=
    V_X1_town_17 Thr Ret σ x1 0
def wp_X1_town (σ : ZS) (a1 : Int32) (Thr : Nat → ZS → Prop) (Ret : Int32 → ZS → Prop) : Prop :=
    ((a1 < 0 → (V_X1_town_16 Thr Ret σ a1)) ∧ (¬ a1 < 0 → ((((zI σ 0 2) < a1 → (V_X1_town_16 Thr Ret σ a1)) ∧ (¬ (zI σ 0 2) < a1 → (V_X1_town_17 Thr Ret σ a1 1))))))
set_option maxHeartbeats 4000000 in
theorem mz_X1_town {l : Launch} {E : ZE} (hE : EOK E) {σ : ZS} {a1 : Int32} {Thr : Nat → ZS → Prop} {Ret : Int32 → ZS → Prop} (hV : wp_X1_town σ a1 Thr Ret) : MZ l E NS yX1_town (wsW_ yX1_town cX1_town 5 (some .int) [(20, 108, 115, 197), (20, 108, 139, 0), (115, 132, 139, 0), (139, 141, 139, 0)]) 11 σ [.ref (E.1.heap.size + 0), .int a1] (rT E.1.heap.size (rI Ret) Thr) := by
  refine MZ.startW (L := [some (.ref (E.1.heap.size + 0)), some (.int a1), none, none, none]) hE (by decide) (Nat.le_of_ble_eq_true rfl) rfl fun C hCl hQo hC => ?_
  replace hC : Cx C E cX1_town 5 "RightTurns" "town" (some .int) [(20, 108, 115, 197), (20, 108, 139, 0), (115, 132, 139, 0), (139, 141, 139, 0)] 11 := hC
  unfold wp_X1_town at hV
  have j_17 : ∀ (σ : ZS) (x1 : Int32) (s0 : Int32), V_X1_town_17 Thr Ret σ x1 s0 → zz C E NS 5 σ 17 [some (.ref (E.1.heap.size + 0)), some (.int x1), none, none, none] [.int s0] := by
    intro σ x1 s0 hV
    unfold V_X1_town_17 at hV
    refine c_X1_164 hC (by decide) dX1_town_17 (Nat.le_of_ble_eq_true rfl) hV (fun σ2 hV => ?_) (fun x σ hV => zth_outH hC (by decide) (by rw [hQo]; exact Or.inr ⟨_, rfl, hV⟩))
    refine z_aload_n hC dX1_town_20 rfl rfl ?_
    refine z_iconst (v := (-1)) hC dX1_town_21 rfl ?_
    refine p_X1_23_c0 hC dX1_town_22 (k_0 _) ?_
    obtain ⟨σ3, e_σ3⟩ : ∃ z : ZS, z = sI σ2 0 3 (-1) := ⟨_, rfl⟩
    replace hV := hV _ e_σ3
    rw [← e_σ3]
    obtain ⟨h4, hV⟩ := hV
    refine z_new hC cf4 dX1_town_25 q764 q765 q139 dv_4 h4.1 h4.2.1 h4.2.2 ?_
    obtain ⟨σ5, e_σ5⟩ : ∃ z : ZS, z = sA σ3 (11, 0) 5 := ⟨_, rfl⟩
    replace hV := hV _ e_σ5
    rw [← e_σ5]
    refine z_dup hC dX1_town_28 rfl ?_
    refine z_aload_n hC dX1_town_29 rfl rfl ?_
    refine g_X1_27_0 hC dX1_town_30 ?_
    refine z_iload_n hC dX1_town_33 rfl rfl ?_
    refine c_X1_170 hC (by decide) dX1_town_34 (Nat.le_of_ble_eq_true rfl) hV (fun σ7 hV => ?_)
    obtain ⟨⟨n11, h10⟩, hV⟩ := hV
    have hT21 : ∀ (x12 : Nat) (σ13 : ZS), (((∃ x, kK NS σ13 x12 = (5 + 7, x)) ∧ ((∃ n15, kK NS σ13 x12 = (12, n15)) ∧ (∀ σ16 : ZS, σ16 = sI σ13 0 3 (zI σ13 x12 7) → ((∃ n18, kK NS σ16 x12 = (12, n18)) ∧ (∀ y19 : Int32, y19 = (zI σ16 x12 6) - 10 → (∀ σ20 : ZS, σ20 = sI σ16 0 2 0 → (Ret y19 σ20)))))))) → zth C E NS 5 σ13 37 [some (.ref (E.1.heap.size + 0)), some (.int x1), none, none, none] [] (E.1.heap.size + x12) := by
      clear hV
      intro x12 σ13 hV
      obtain ⟨⟨_, hk⟩, hV⟩ := hV
      refine zth_catch0 hC (by decide) (by decide) cf5 hk q749 ?_
      refine z_astore_n hC dX1_town_115 rfl (Nat.le_of_ble_eq_true rfl) rfl rfl ?_
      refine z_aload_n hC dX1_town_116 rfl rfl ?_
      refine z_aload_n hC dX1_town_117 rfl rfl ?_
      obtain ⟨⟨n15, h14⟩, hV⟩ := hV
      refine g_X1_199_c5 hC dX1_town_118 h14 ?_
      refine p_X1_23_c0 hC dX1_town_121 (k_0 _) ?_
      obtain ⟨σ16, e_σ16⟩ : ∃ z : ZS, z = sI σ13 0 3 (zI σ13 x12 7) := ⟨_, rfl⟩
      replace hV := hV _ e_σ16
      rw [← e_σ16]
      refine z_aload_n hC dX1_town_124 rfl rfl ?_
      obtain ⟨⟨n18, h17⟩, hV⟩ := hV
      refine g_X1_202_c5 hC dX1_town_125 h17 ?_
      refine z_bipush (v := 10) hC dX1_town_128 rfl ?_
      refine z_isub hC dX1_town_130 ?_
      obtain ⟨y19, e_y19⟩ : ∃ z, z = (zI σ16 x12 6) - 10 := ⟨_, rfl⟩
      rw [← e_y19]
      replace hV := hV _ e_y19
      refine z_istore_n hC dX1_town_131 rfl (Nat.le_of_ble_eq_true rfl) rfl rfl ?_
      refine z_aload_n hC dX1_town_132 rfl rfl ?_
      refine z_iconst (v := 0) hC dX1_town_133 rfl ?_
      refine p_X1_157_c0 hC dX1_town_134 (k_0 _) ?_
      obtain ⟨σ20, e_σ20⟩ : ∃ z : ZS, z = sI σ16 0 2 0 := ⟨_, rfl⟩
      replace hV := hV _ e_σ20
      rw [← e_σ20]
      refine z_iload_n hC dX1_town_137 rfl rfl ?_
      exact z_iret hC dX1_town_138 rfl (by rw [hQo]; exact Or.inl ⟨_, rfl, hV⟩)
    refine c_X1_173 hC (by decide) dX1_town_37 (Nat.le_of_ble_eq_true rfl) h10 hV (fun r8 σ9 hV => ?_) hT21
    obtain ⟨h22, hV⟩ := hV
    refine zz_at rfl (by rw [pvo h22]) ?_
    refine z_astore_n hC dX1_town_40 rfl (Nat.le_of_ble_eq_true rfl) rfl rfl ?_
    refine z_aload_n hC dX1_town_41 rfl rfl ?_
    refine z_aload_n hC dX1_town_42 rfl rfl ?_
    refine p_X1_12_c0 (r := (some (.inl (zo r8)))) hC dX1_town_43 (k_0 _) (fun _ => rfl) ?_
    obtain ⟨σ23, e_σ23⟩ : ∃ z : ZS, z = sP σ9 0 0 (some (.inl (zo r8))) := ⟨_, rfl⟩
    replace hV := hV _ e_σ23
    rw [← e_σ23]
    refine z_aload_n hC dX1_town_46 rfl rfl ?_
    refine g_X1_19_0 hC dX1_town_47 ?_
    refine z_iconst (v := 0) hC dX1_town_50 rfl ?_
    refine p_X1_154_c2 hC dX1_town_51 (k_12 _) ?_
    obtain ⟨σ24, e_σ24⟩ : ∃ z : ZS, z = sI σ23 12 3 0 := ⟨_, rfl⟩
    replace hV := hV _ e_σ24
    rw [← e_σ24]
    refine z_aload_n hC dX1_town_54 rfl rfl ?_
    refine g_X1_19_0 hC dX1_town_55 ?_
    refine z_iconst (v := 0) hC dX1_town_58 rfl ?_
    refine p_X1_177_c2 hC dX1_town_59 (k_12 _) ?_
    obtain ⟨σ25, e_σ25⟩ : ∃ z : ZS, z = sI σ24 12 4 0 := ⟨_, rfl⟩
    replace hV := hV _ e_σ25
    rw [← e_σ25]
    refine z_aload_n hC dX1_town_62 rfl rfl ?_
    obtain ⟨⟨n27, h26⟩, hV⟩ := hV
    refine g_X1_180_c1 hC dX1_town_63 h26 ?_
    obtain ⟨h28, hV⟩ := hV
    refine zz_at rfl (by rw [pvo h28]) ?_
    refine z_iconst (v := 0) hC dX1_town_66 rfl ?_
    refine z_aload_n hC dX1_town_67 rfl rfl ?_
    refine g_X1_19_0 hC dX1_town_68 ?_
    refine g_X1_183_12 hC dX1_town_71 ?_
    refine z_iconst (v := 0) hC dX1_town_74 rfl ?_
    refine z_bipush (v := 24) hC dX1_town_75 rfl ?_
    obtain ⟨n30, h29, hV⟩ := hV
    obtain ⟨h31, hV⟩ := hV
    refine z_copy0 hC dX1_town_77 q1130 (by decide) h29 (k_13 _) h31.1 h31.2.1 h31.2.2.1 h31.2.2.2.1 h31.2.2.2.2 (Nat.le_of_ble_eq_true rfl) ?_
    obtain ⟨σ32, e_σ32⟩ : ∃ z : ZS, z = cI σ25 (zo (kP NS σ25 (zo r8) 3)) 13 (ix 0) (ix 0) (ix 24) := ⟨_, rfl⟩
    replace hV := hV _ e_σ32
    rw [← e_σ32]
    refine z_aload_n hC dX1_town_80 rfl rfl ?_
    obtain ⟨⟨n34, h33⟩, hV⟩ := hV
    refine g_X1_190_c1 hC dX1_town_81 h33 ?_
    obtain ⟨h35, hV⟩ := hV
    refine zz_at rfl (by rw [pvo h35]) ?_
    refine z_iconst (v := 0) hC dX1_town_84 rfl ?_
    refine z_aload_n hC dX1_town_85 rfl rfl ?_
    refine g_X1_19_0 hC dX1_town_86 ?_
    refine g_X1_193_12 hC dX1_town_89 ?_
    refine z_iconst (v := 0) hC dX1_town_92 rfl ?_
    refine z_bipush (v := 24) hC dX1_town_93 rfl ?_
    obtain ⟨n37, h36, hV⟩ := hV
    obtain ⟨h38, hV⟩ := hV
    refine z_copy0 hC dX1_town_95 q1130 (by decide) h36 (k_14 _) h38.1 h38.2.1 h38.2.2.1 h38.2.2.2.1 h38.2.2.2.2 (Nat.le_of_ble_eq_true rfl) ?_
    obtain ⟨σ39, e_σ39⟩ : ∃ z : ZS, z = cI σ32 (zo (kP NS σ32 (zo r8) 4)) 14 (ix 0) (ix 0) (ix 24) := ⟨_, rfl⟩
    replace hV := hV _ e_σ39
    rw [← e_σ39]
    refine z_aload_n hC dX1_town_98 rfl rfl ?_
    refine z_iconst (v := 0) hC dX1_town_99 rfl ?_
    refine p_X1_194_c0 hC dX1_town_100 (k_0 _) ?_
    obtain ⟨σ40, e_σ40⟩ : ∃ z : ZS, z = sI σ39 0 4 0 := ⟨_, rfl⟩
    replace hV := hV _ e_σ40
    rw [← e_σ40]
    refine z_aload_n hC dX1_town_103 rfl rfl ?_
    refine c_X1_133 hC (by decide) dX1_town_104 (Nat.le_of_ble_eq_true rfl) hV (fun r41 σ42 hV => ?_)
    refine z_istore_n hC dX1_town_107 rfl (Nat.le_of_ble_eq_true rfl) rfl rfl ?_
    refine z_aload_n hC dX1_town_108 rfl rfl ?_
    refine z_iconst (v := 0) hC dX1_town_109 rfl ?_
    refine p_X1_157_c0 hC dX1_town_110 (k_0 _) ?_
    obtain ⟨σ43, e_σ43⟩ : ∃ z : ZS, z = sI σ42 0 2 0 := ⟨_, rfl⟩
    replace hV := hV _ e_σ43
    rw [← e_σ43]
    refine z_iload_n hC dX1_town_113 rfl rfl ?_
    exact z_iret hC dX1_town_114 rfl (by rw [hQo]; exact Or.inl ⟨_, rfl, hV⟩)
  have j_16 : ∀ (σ : ZS) (x1 : Int32), V_X1_town_16 Thr Ret σ x1 → zz C E NS 5 σ 16 [some (.ref (E.1.heap.size + 0)), some (.int x1), none, none, none] [] := by
    intro σ x1 hV
    unfold V_X1_town_16 at hV
    refine z_iconst (v := 0) hC dX1_town_16 rfl ?_
    refine zz_sub (L' := [some (.ref (E.1.heap.size + 0)), some (.int x1), none, none, none]) ⟨rfl, rfl, trivial⟩ ?_
    exact j_17 σ x1 0 hV
  refine z_iload_n hC dX1_town_0 rfl rfl ?_
  refine z_if_lt (tgt := 16) hC dX1_town_1 (by decide) (fun hc => ?_) (fun hc => ?_)
  · replace hV := hV.1 hc
    refine zz_sub (L' := [some (.ref (E.1.heap.size + 0)), some (.int a1), none, none, none]) ⟨rfl, rfl, trivial⟩ ?_
    exact j_16 σ a1 hV
  · replace hV := hV.2 hc
    refine z_iload_n hC dX1_town_4 rfl rfl ?_
    refine z_aload_n hC dX1_town_5 rfl rfl ?_
    refine g_X1_157_0 hC dX1_town_6 ?_
    refine z_icmp_gt (tgt := 16) hC dX1_town_9 (by decide) (fun hc => ?_) (fun hc => ?_)
    · replace hV := hV.1 hc
      refine zz_sub (L' := [some (.ref (E.1.heap.size + 0)), some (.int a1), none, none, none]) ⟨rfl, rfl, trivial⟩ ?_
      exact j_16 σ a1 hV
    · replace hV := hV.2 hc
      refine z_iconst (v := 1) hC dX1_town_12 rfl ?_
      refine z_goto (tgt := 17) hC dX1_town_13 (by decide) ?_
      refine zz_sub (L' := [some (.ref (E.1.heap.size + 0)), some (.int a1), none, none, none]) ⟨rfl, rfl, trivial⟩ ?_
      exact j_17 σ a1 1 hV
theorem p_X1_102i_c0 {C : ZC} {E : ZE} {cc : ByteArray} {n nL pc d a x : Nat} {ret : Option FieldType} {hh : List (Nat × Nat × Nat × Nat)} {σ : ZS} {L : List (Option Value)} {st : List Value} {r : ZR} (hC : Cx C E cc nL "RightTurns" "<init>" ret hh d) (hd : decode cc pc = .ok (.putfield 102, 3)) (hk : kK n σ a = (0 + 7, x)) (hf : pfree n a 32) (k : zz C E n nL (sP σ a 32 r) (pc + 3) L st) : zz C E n nL σ pc L (pv E.1.heap.size r :: .ref (E.1.heap.size + a) :: st) :=
  z_putP hC cf0 hd hk (k := 32) (by decide) (Or.inl q613) (Or.inl rfl) (Or.inr ⟨rfl, rfl, rfl, q613⟩) (Or.inr ⟨_, rfl⟩) rfl hf k
theorem p_X1_105i_c0 {C : ZC} {E : ZE} {cc : ByteArray} {n nL pc d a x : Nat} {ret : Option FieldType} {hh : List (Nat × Nat × Nat × Nat)} {σ : ZS} {L : List (Option Value)} {st : List Value} {r : ZR} (hC : Cx C E cc nL "RightTurns" "<init>" ret hh d) (hd : decode cc pc = .ok (.putfield 105, 3)) (hk : kK n σ a = (0 + 7, x)) (hf : pfree n a 33) (k : zz C E n nL (sP σ a 33 r) (pc + 3) L st) : zz C E n nL σ pc L (pv E.1.heap.size r :: .ref (E.1.heap.size + a) :: st) :=
  z_putP hC cf0 hd hk (k := 33) (by decide) (Or.inl q614) (Or.inl rfl) (Or.inr ⟨rfl, rfl, rfl, q614⟩) (Or.inr ⟨_, rfl⟩) rfl hf k
theorem p_X1_108i_c0 {C : ZC} {E : ZE} {cc : ByteArray} {n nL pc d a x : Nat} {ret : Option FieldType} {hh : List (Nat × Nat × Nat × Nat)} {σ : ZS} {L : List (Option Value)} {st : List Value} {r : ZR} (hC : Cx C E cc nL "RightTurns" "<init>" ret hh d) (hd : decode cc pc = .ok (.putfield 108, 3)) (hk : kK n σ a = (0 + 7, x)) (hf : pfree n a 34) (k : zz C E n nL (sP σ a 34 r) (pc + 3) L st) : zz C E n nL σ pc L (pv E.1.heap.size r :: .ref (E.1.heap.size + a) :: st) :=
  z_putP hC cf0 hd hk (k := 34) (by decide) (Or.inl q615) (Or.inl rfl) (Or.inr ⟨rfl, rfl, rfl, q615⟩) (Or.inr ⟨_, rfl⟩) rfl hf k
theorem p_X1_111i_c0 {C : ZC} {E : ZE} {cc : ByteArray} {n nL pc d a x : Nat} {ret : Option FieldType} {hh : List (Nat × Nat × Nat × Nat)} {σ : ZS} {L : List (Option Value)} {st : List Value} {r : ZR} (hC : Cx C E cc nL "RightTurns" "<init>" ret hh d) (hd : decode cc pc = .ok (.putfield 111, 3)) (hk : kK n σ a = (0 + 7, x)) (hf : pfree n a 35) (k : zz C E n nL (sP σ a 35 r) (pc + 3) L st) : zz C E n nL σ pc L (pv E.1.heap.size r :: .ref (E.1.heap.size + a) :: st) :=
  z_putP hC cf0 hd hk (k := 35) (by decide) (Or.inl q616) (Or.inl rfl) (Or.inr ⟨rfl, rfl, rfl, q616⟩) (Or.inr ⟨_, rfl⟩) rfl hf k
theorem p_X1_114i_c0 {C : ZC} {E : ZE} {cc : ByteArray} {n nL pc d a x : Nat} {ret : Option FieldType} {hh : List (Nat × Nat × Nat × Nat)} {σ : ZS} {L : List (Option Value)} {st : List Value} {v : Int32} (hC : Cx C E cc nL "RightTurns" "<init>" ret hh d) (hd : decode cc pc = .ok (.putfield 114, 3)) (hk : kK n σ a = (0 + 7, x)) (k : zz C E n nL (sI σ a 36 v) (pc + 3) L st) : zz C E n nL σ pc L (.int v :: .ref (E.1.heap.size + a) :: st) :=
  z_putI hC cf0 hd hk (k := 36) (by decide) (Or.inl q617) (Or.inl rfl) (Or.inl rfl) rfl rfl rfl k
theorem p_X1_117i_c0 {C : ZC} {E : ZE} {cc : ByteArray} {n nL pc d a x : Nat} {ret : Option FieldType} {hh : List (Nat × Nat × Nat × Nat)} {σ : ZS} {L : List (Option Value)} {st : List Value} {r : ZR} (hC : Cx C E cc nL "RightTurns" "<init>" ret hh d) (hd : decode cc pc = .ok (.putfield 117, 3)) (hk : kK n σ a = (0 + 7, x)) (hf : pfree n a 39) (k : zz C E n nL (sP σ a 39 r) (pc + 3) L st) : zz C E n nL σ pc L (pv E.1.heap.size r :: .ref (E.1.heap.size + a) :: st) :=
  z_putP hC cf0 hd hk (k := 39) (by decide) (Or.inl q620) (Or.inl rfl) (Or.inr ⟨rfl, rfl, rfl, q620⟩) (Or.inr ⟨_, rfl⟩) rfl hf k
theorem p_X1_12i_c0 {C : ZC} {E : ZE} {cc : ByteArray} {n nL pc d a x : Nat} {ret : Option FieldType} {hh : List (Nat × Nat × Nat × Nat)} {σ : ZS} {L : List (Option Value)} {st : List Value} {r : ZR} (hC : Cx C E cc nL "RightTurns" "<init>" ret hh d) (hd : decode cc pc = .ok (.putfield 12, 3)) (hk : kK n σ a = (0 + 7, x)) (hf : pfree n a 0) (k : zz C E n nL (sP σ a 0 r) (pc + 3) L st) : zz C E n nL σ pc L (pv E.1.heap.size r :: .ref (E.1.heap.size + a) :: st) :=
  z_putP hC cf0 hd hk (k := 0) (by decide) (Or.inl q581) (Or.inl rfl) (Or.inl rfl) (Or.inl ⟨_, rfl⟩) rfl hf k
theorem p_X1_19i_c0 {C : ZC} {E : ZE} {cc : ByteArray} {n nL pc d a x : Nat} {ret : Option FieldType} {hh : List (Nat × Nat × Nat × Nat)} {σ : ZS} {L : List (Option Value)} {st : List Value} {r : ZR} (hC : Cx C E cc nL "RightTurns" "<init>" ret hh d) (hd : decode cc pc = .ok (.putfield 19, 3)) (hk : kK n σ a = (0 + 7, x)) (hf : pfree n a 1) (k : zz C E n nL (sP σ a 1 r) (pc + 3) L st) : zz C E n nL σ pc L (pv E.1.heap.size r :: .ref (E.1.heap.size + a) :: st) :=
  z_putP hC cf0 hd hk (k := 1) (by decide) (Or.inl q582) (Or.inl rfl) (Or.inr ⟨rfl, rfl, rfl, q582⟩) (Or.inl ⟨_, rfl⟩) rfl hf k
theorem p_X1_23i_c0 {C : ZC} {E : ZE} {cc : ByteArray} {n nL pc d a x : Nat} {ret : Option FieldType} {hh : List (Nat × Nat × Nat × Nat)} {σ : ZS} {L : List (Option Value)} {st : List Value} {v : Int32} (hC : Cx C E cc nL "RightTurns" "<init>" ret hh d) (hd : decode cc pc = .ok (.putfield 23, 3)) (hk : kK n σ a = (0 + 7, x)) (k : zz C E n nL (sI σ a 3 v) (pc + 3) L st) : zz C E n nL σ pc L (.int v :: .ref (E.1.heap.size + a) :: st) :=
  z_putI hC cf0 hd hk (k := 3) (by decide) (Or.inl q584) (Or.inl rfl) (Or.inl rfl) rfl rfl rfl k
theorem p_X1_27i_c0 {C : ZC} {E : ZE} {cc : ByteArray} {n nL pc d a x : Nat} {ret : Option FieldType} {hh : List (Nat × Nat × Nat × Nat)} {σ : ZS} {L : List (Option Value)} {st : List Value} {r : ZR} (hC : Cx C E cc nL "RightTurns" "<init>" ret hh d) (hd : decode cc pc = .ok (.putfield 27, 3)) (hk : kK n σ a = (0 + 7, x)) (hf : pfree n a 5) (k : zz C E n nL (sP σ a 5 r) (pc + 3) L st) : zz C E n nL σ pc L (pv E.1.heap.size r :: .ref (E.1.heap.size + a) :: st) :=
  z_putP hC cf0 hd hk (k := 5) (by decide) (Or.inl q586) (Or.inl rfl) (Or.inr ⟨rfl, rfl, rfl, q586⟩) (Or.inr ⟨_, rfl⟩) rfl hf k
theorem p_X1_31i_c0 {C : ZC} {E : ZE} {cc : ByteArray} {n nL pc d a x : Nat} {ret : Option FieldType} {hh : List (Nat × Nat × Nat × Nat)} {σ : ZS} {L : List (Option Value)} {st : List Value} {r : ZR} (hC : Cx C E cc nL "RightTurns" "<init>" ret hh d) (hd : decode cc pc = .ok (.putfield 31, 3)) (hk : kK n σ a = (0 + 7, x)) (hf : pfree n a 6) (k : zz C E n nL (sP σ a 6 r) (pc + 3) L st) : zz C E n nL σ pc L (pv E.1.heap.size r :: .ref (E.1.heap.size + a) :: st) :=
  z_putP hC cf0 hd hk (k := 6) (by decide) (Or.inl q587) (Or.inl rfl) (Or.inr ⟨rfl, rfl, rfl, q587⟩) (Or.inr ⟨_, rfl⟩) rfl hf k
theorem p_X1_35i_c0 {C : ZC} {E : ZE} {cc : ByteArray} {n nL pc d a x : Nat} {ret : Option FieldType} {hh : List (Nat × Nat × Nat × Nat)} {σ : ZS} {L : List (Option Value)} {st : List Value} {r : ZR} (hC : Cx C E cc nL "RightTurns" "<init>" ret hh d) (hd : decode cc pc = .ok (.putfield 35, 3)) (hk : kK n σ a = (0 + 7, x)) (hf : pfree n a 7) (k : zz C E n nL (sP σ a 7 r) (pc + 3) L st) : zz C E n nL σ pc L (pv E.1.heap.size r :: .ref (E.1.heap.size + a) :: st) :=
  z_putP hC cf0 hd hk (k := 7) (by decide) (Or.inl q588) (Or.inl rfl) (Or.inr ⟨rfl, rfl, rfl, q588⟩) (Or.inr ⟨_, rfl⟩) rfl hf k
theorem p_X1_39i_c0 {C : ZC} {E : ZE} {cc : ByteArray} {n nL pc d a x : Nat} {ret : Option FieldType} {hh : List (Nat × Nat × Nat × Nat)} {σ : ZS} {L : List (Option Value)} {st : List Value} {r : ZR} (hC : Cx C E cc nL "RightTurns" "<init>" ret hh d) (hd : decode cc pc = .ok (.putfield 39, 3)) (hk : kK n σ a = (0 + 7, x)) (hf : pfree n a 8) (k : zz C E n nL (sP σ a 8 r) (pc + 3) L st) : zz C E n nL σ pc L (pv E.1.heap.size r :: .ref (E.1.heap.size + a) :: st) :=
  z_putP hC cf0 hd hk (k := 8) (by decide) (Or.inl q589) (Or.inl rfl) (Or.inr ⟨rfl, rfl, rfl, q589⟩) (Or.inr ⟨_, rfl⟩) rfl hf k
theorem p_X1_42i_c0 {C : ZC} {E : ZE} {cc : ByteArray} {n nL pc d a x : Nat} {ret : Option FieldType} {hh : List (Nat × Nat × Nat × Nat)} {σ : ZS} {L : List (Option Value)} {st : List Value} {r : ZR} (hC : Cx C E cc nL "RightTurns" "<init>" ret hh d) (hd : decode cc pc = .ok (.putfield 42, 3)) (hk : kK n σ a = (0 + 7, x)) (hf : pfree n a 10) (k : zz C E n nL (sP σ a 10 r) (pc + 3) L st) : zz C E n nL σ pc L (pv E.1.heap.size r :: .ref (E.1.heap.size + a) :: st) :=
  z_putP hC cf0 hd hk (k := 10) (by decide) (Or.inl q591) (Or.inl rfl) (Or.inr ⟨rfl, rfl, rfl, q591⟩) (Or.inr ⟨_, rfl⟩) rfl hf k
theorem p_X1_45i_c0 {C : ZC} {E : ZE} {cc : ByteArray} {n nL pc d a x : Nat} {ret : Option FieldType} {hh : List (Nat × Nat × Nat × Nat)} {σ : ZS} {L : List (Option Value)} {st : List Value} {r : ZR} (hC : Cx C E cc nL "RightTurns" "<init>" ret hh d) (hd : decode cc pc = .ok (.putfield 45, 3)) (hk : kK n σ a = (0 + 7, x)) (hf : pfree n a 11) (k : zz C E n nL (sP σ a 11 r) (pc + 3) L st) : zz C E n nL σ pc L (pv E.1.heap.size r :: .ref (E.1.heap.size + a) :: st) :=
  z_putP hC cf0 hd hk (k := 11) (by decide) (Or.inl q592) (Or.inl rfl) (Or.inr ⟨rfl, rfl, rfl, q592⟩) (Or.inr ⟨_, rfl⟩) rfl hf k
theorem p_X1_48i_c0 {C : ZC} {E : ZE} {cc : ByteArray} {n nL pc d a x : Nat} {ret : Option FieldType} {hh : List (Nat × Nat × Nat × Nat)} {σ : ZS} {L : List (Option Value)} {st : List Value} {r : ZR} (hC : Cx C E cc nL "RightTurns" "<init>" ret hh d) (hd : decode cc pc = .ok (.putfield 48, 3)) (hk : kK n σ a = (0 + 7, x)) (hf : pfree n a 12) (k : zz C E n nL (sP σ a 12 r) (pc + 3) L st) : zz C E n nL σ pc L (pv E.1.heap.size r :: .ref (E.1.heap.size + a) :: st) :=
  z_putP hC cf0 hd hk (k := 12) (by decide) (Or.inl q593) (Or.inl rfl) (Or.inr ⟨rfl, rfl, rfl, q593⟩) (Or.inr ⟨_, rfl⟩) rfl hf k
theorem p_X1_52i_c0 {C : ZC} {E : ZE} {cc : ByteArray} {n nL pc d a x : Nat} {ret : Option FieldType} {hh : List (Nat × Nat × Nat × Nat)} {σ : ZS} {L : List (Option Value)} {st : List Value} {r : ZR} (hC : Cx C E cc nL "RightTurns" "<init>" ret hh d) (hd : decode cc pc = .ok (.putfield 52, 3)) (hk : kK n σ a = (0 + 7, x)) (hf : pfree n a 13) (k : zz C E n nL (sP σ a 13 r) (pc + 3) L st) : zz C E n nL σ pc L (pv E.1.heap.size r :: .ref (E.1.heap.size + a) :: st) :=
  z_putP hC cf0 hd hk (k := 13) (by decide) (Or.inl q594) (Or.inl rfl) (Or.inr ⟨rfl, rfl, rfl, q594⟩) (Or.inr ⟨_, rfl⟩) rfl hf k
theorem p_X1_55i_c0 {C : ZC} {E : ZE} {cc : ByteArray} {n nL pc d a x : Nat} {ret : Option FieldType} {hh : List (Nat × Nat × Nat × Nat)} {σ : ZS} {L : List (Option Value)} {st : List Value} {r : ZR} (hC : Cx C E cc nL "RightTurns" "<init>" ret hh d) (hd : decode cc pc = .ok (.putfield 55, 3)) (hk : kK n σ a = (0 + 7, x)) (hf : pfree n a 14) (k : zz C E n nL (sP σ a 14 r) (pc + 3) L st) : zz C E n nL σ pc L (pv E.1.heap.size r :: .ref (E.1.heap.size + a) :: st) :=
  z_putP hC cf0 hd hk (k := 14) (by decide) (Or.inl q595) (Or.inl rfl) (Or.inr ⟨rfl, rfl, rfl, q595⟩) (Or.inr ⟨_, rfl⟩) rfl hf k
theorem p_X1_58i_c0 {C : ZC} {E : ZE} {cc : ByteArray} {n nL pc d a x : Nat} {ret : Option FieldType} {hh : List (Nat × Nat × Nat × Nat)} {σ : ZS} {L : List (Option Value)} {st : List Value} {r : ZR} (hC : Cx C E cc nL "RightTurns" "<init>" ret hh d) (hd : decode cc pc = .ok (.putfield 58, 3)) (hk : kK n σ a = (0 + 7, x)) (hf : pfree n a 15) (k : zz C E n nL (sP σ a 15 r) (pc + 3) L st) : zz C E n nL σ pc L (pv E.1.heap.size r :: .ref (E.1.heap.size + a) :: st) :=
  z_putP hC cf0 hd hk (k := 15) (by decide) (Or.inl q596) (Or.inl rfl) (Or.inr ⟨rfl, rfl, rfl, q596⟩) (Or.inr ⟨_, rfl⟩) rfl hf k
theorem p_X1_62i_c0 {C : ZC} {E : ZE} {cc : ByteArray} {n nL pc d a x : Nat} {ret : Option FieldType} {hh : List (Nat × Nat × Nat × Nat)} {σ : ZS} {L : List (Option Value)} {st : List Value} {r : ZR} (hC : Cx C E cc nL "RightTurns" "<init>" ret hh d) (hd : decode cc pc = .ok (.putfield 62, 3)) (hk : kK n σ a = (0 + 7, x)) (hf : pfree n a 16) (k : zz C E n nL (sP σ a 16 r) (pc + 3) L st) : zz C E n nL σ pc L (pv E.1.heap.size r :: .ref (E.1.heap.size + a) :: st) :=
  z_putP hC cf0 hd hk (k := 16) (by decide) (Or.inl q597) (Or.inl rfl) (Or.inr ⟨rfl, rfl, rfl, q597⟩) (Or.inr ⟨_, rfl⟩) rfl hf k
theorem p_X1_66i_c0 {C : ZC} {E : ZE} {cc : ByteArray} {n nL pc d a x : Nat} {ret : Option FieldType} {hh : List (Nat × Nat × Nat × Nat)} {σ : ZS} {L : List (Option Value)} {st : List Value} {r : ZR} (hC : Cx C E cc nL "RightTurns" "<init>" ret hh d) (hd : decode cc pc = .ok (.putfield 66, 3)) (hk : kK n σ a = (0 + 7, x)) (hf : pfree n a 18) (k : zz C E n nL (sP σ a 18 r) (pc + 3) L st) : zz C E n nL σ pc L (pv E.1.heap.size r :: .ref (E.1.heap.size + a) :: st) :=
  z_putP hC cf0 hd hk (k := 18) (by decide) (Or.inl q599) (Or.inl rfl) (Or.inr ⟨rfl, rfl, rfl, q599⟩) (Or.inr ⟨_, rfl⟩) rfl hf k
theorem p_X1_69i_c0 {C : ZC} {E : ZE} {cc : ByteArray} {n nL pc d a x : Nat} {ret : Option FieldType} {hh : List (Nat × Nat × Nat × Nat)} {σ : ZS} {L : List (Option Value)} {st : List Value} {r : ZR} (hC : Cx C E cc nL "RightTurns" "<init>" ret hh d) (hd : decode cc pc = .ok (.putfield 69, 3)) (hk : kK n σ a = (0 + 7, x)) (hf : pfree n a 19) (k : zz C E n nL (sP σ a 19 r) (pc + 3) L st) : zz C E n nL σ pc L (pv E.1.heap.size r :: .ref (E.1.heap.size + a) :: st) :=
  z_putP hC cf0 hd hk (k := 19) (by decide) (Or.inl q600) (Or.inl rfl) (Or.inr ⟨rfl, rfl, rfl, q600⟩) (Or.inr ⟨_, rfl⟩) rfl hf k
theorem p_X1_72i_c0 {C : ZC} {E : ZE} {cc : ByteArray} {n nL pc d a x : Nat} {ret : Option FieldType} {hh : List (Nat × Nat × Nat × Nat)} {σ : ZS} {L : List (Option Value)} {st : List Value} {r : ZR} (hC : Cx C E cc nL "RightTurns" "<init>" ret hh d) (hd : decode cc pc = .ok (.putfield 72, 3)) (hk : kK n σ a = (0 + 7, x)) (hf : pfree n a 20) (k : zz C E n nL (sP σ a 20 r) (pc + 3) L st) : zz C E n nL σ pc L (pv E.1.heap.size r :: .ref (E.1.heap.size + a) :: st) :=
  z_putP hC cf0 hd hk (k := 20) (by decide) (Or.inl q601) (Or.inl rfl) (Or.inr ⟨rfl, rfl, rfl, q601⟩) (Or.inr ⟨_, rfl⟩) rfl hf k
theorem p_X1_75i_c0 {C : ZC} {E : ZE} {cc : ByteArray} {n nL pc d a x : Nat} {ret : Option FieldType} {hh : List (Nat × Nat × Nat × Nat)} {σ : ZS} {L : List (Option Value)} {st : List Value} {r : ZR} (hC : Cx C E cc nL "RightTurns" "<init>" ret hh d) (hd : decode cc pc = .ok (.putfield 75, 3)) (hk : kK n σ a = (0 + 7, x)) (hf : pfree n a 21) (k : zz C E n nL (sP σ a 21 r) (pc + 3) L st) : zz C E n nL σ pc L (pv E.1.heap.size r :: .ref (E.1.heap.size + a) :: st) :=
  z_putP hC cf0 hd hk (k := 21) (by decide) (Or.inl q602) (Or.inl rfl) (Or.inr ⟨rfl, rfl, rfl, q602⟩) (Or.inr ⟨_, rfl⟩) rfl hf k
theorem p_X1_78i_c0 {C : ZC} {E : ZE} {cc : ByteArray} {n nL pc d a x : Nat} {ret : Option FieldType} {hh : List (Nat × Nat × Nat × Nat)} {σ : ZS} {L : List (Option Value)} {st : List Value} {r : ZR} (hC : Cx C E cc nL "RightTurns" "<init>" ret hh d) (hd : decode cc pc = .ok (.putfield 78, 3)) (hk : kK n σ a = (0 + 7, x)) (hf : pfree n a 22) (k : zz C E n nL (sP σ a 22 r) (pc + 3) L st) : zz C E n nL σ pc L (pv E.1.heap.size r :: .ref (E.1.heap.size + a) :: st) :=
  z_putP hC cf0 hd hk (k := 22) (by decide) (Or.inl q603) (Or.inl rfl) (Or.inr ⟨rfl, rfl, rfl, q603⟩) (Or.inr ⟨_, rfl⟩) rfl hf k
theorem p_X1_81i_c0 {C : ZC} {E : ZE} {cc : ByteArray} {n nL pc d a x : Nat} {ret : Option FieldType} {hh : List (Nat × Nat × Nat × Nat)} {σ : ZS} {L : List (Option Value)} {st : List Value} {r : ZR} (hC : Cx C E cc nL "RightTurns" "<init>" ret hh d) (hd : decode cc pc = .ok (.putfield 81, 3)) (hk : kK n σ a = (0 + 7, x)) (hf : pfree n a 23) (k : zz C E n nL (sP σ a 23 r) (pc + 3) L st) : zz C E n nL σ pc L (pv E.1.heap.size r :: .ref (E.1.heap.size + a) :: st) :=
  z_putP hC cf0 hd hk (k := 23) (by decide) (Or.inl q604) (Or.inl rfl) (Or.inr ⟨rfl, rfl, rfl, q604⟩) (Or.inr ⟨_, rfl⟩) rfl hf k
theorem p_X1_84i_c0 {C : ZC} {E : ZE} {cc : ByteArray} {n nL pc d a x : Nat} {ret : Option FieldType} {hh : List (Nat × Nat × Nat × Nat)} {σ : ZS} {L : List (Option Value)} {st : List Value} {r : ZR} (hC : Cx C E cc nL "RightTurns" "<init>" ret hh d) (hd : decode cc pc = .ok (.putfield 84, 3)) (hk : kK n σ a = (0 + 7, x)) (hf : pfree n a 24) (k : zz C E n nL (sP σ a 24 r) (pc + 3) L st) : zz C E n nL σ pc L (pv E.1.heap.size r :: .ref (E.1.heap.size + a) :: st) :=
  z_putP hC cf0 hd hk (k := 24) (by decide) (Or.inl q605) (Or.inl rfl) (Or.inr ⟨rfl, rfl, rfl, q605⟩) (Or.inr ⟨_, rfl⟩) rfl hf k
theorem p_X1_87i_c0 {C : ZC} {E : ZE} {cc : ByteArray} {n nL pc d a x : Nat} {ret : Option FieldType} {hh : List (Nat × Nat × Nat × Nat)} {σ : ZS} {L : List (Option Value)} {st : List Value} {r : ZR} (hC : Cx C E cc nL "RightTurns" "<init>" ret hh d) (hd : decode cc pc = .ok (.putfield 87, 3)) (hk : kK n σ a = (0 + 7, x)) (hf : pfree n a 25) (k : zz C E n nL (sP σ a 25 r) (pc + 3) L st) : zz C E n nL σ pc L (pv E.1.heap.size r :: .ref (E.1.heap.size + a) :: st) :=
  z_putP hC cf0 hd hk (k := 25) (by decide) (Or.inl q606) (Or.inl rfl) (Or.inr ⟨rfl, rfl, rfl, q606⟩) (Or.inr ⟨_, rfl⟩) rfl hf k
theorem p_X1_90i_c0 {C : ZC} {E : ZE} {cc : ByteArray} {n nL pc d a x : Nat} {ret : Option FieldType} {hh : List (Nat × Nat × Nat × Nat)} {σ : ZS} {L : List (Option Value)} {st : List Value} {r : ZR} (hC : Cx C E cc nL "RightTurns" "<init>" ret hh d) (hd : decode cc pc = .ok (.putfield 90, 3)) (hk : kK n σ a = (0 + 7, x)) (hf : pfree n a 26) (k : zz C E n nL (sP σ a 26 r) (pc + 3) L st) : zz C E n nL σ pc L (pv E.1.heap.size r :: .ref (E.1.heap.size + a) :: st) :=
  z_putP hC cf0 hd hk (k := 26) (by decide) (Or.inl q607) (Or.inl rfl) (Or.inr ⟨rfl, rfl, rfl, q607⟩) (Or.inr ⟨_, rfl⟩) rfl hf k
theorem p_X1_93i_c0 {C : ZC} {E : ZE} {cc : ByteArray} {n nL pc d a x : Nat} {ret : Option FieldType} {hh : List (Nat × Nat × Nat × Nat)} {σ : ZS} {L : List (Option Value)} {st : List Value} {r : ZR} (hC : Cx C E cc nL "RightTurns" "<init>" ret hh d) (hd : decode cc pc = .ok (.putfield 93, 3)) (hk : kK n σ a = (0 + 7, x)) (hf : pfree n a 27) (k : zz C E n nL (sP σ a 27 r) (pc + 3) L st) : zz C E n nL σ pc L (pv E.1.heap.size r :: .ref (E.1.heap.size + a) :: st) :=
  z_putP hC cf0 hd hk (k := 27) (by decide) (Or.inl q608) (Or.inl rfl) (Or.inr ⟨rfl, rfl, rfl, q608⟩) (Or.inr ⟨_, rfl⟩) rfl hf k
theorem p_X1_96i_c0 {C : ZC} {E : ZE} {cc : ByteArray} {n nL pc d a x : Nat} {ret : Option FieldType} {hh : List (Nat × Nat × Nat × Nat)} {σ : ZS} {L : List (Option Value)} {st : List Value} {r : ZR} (hC : Cx C E cc nL "RightTurns" "<init>" ret hh d) (hd : decode cc pc = .ok (.putfield 96, 3)) (hk : kK n σ a = (0 + 7, x)) (hf : pfree n a 28) (k : zz C E n nL (sP σ a 28 r) (pc + 3) L st) : zz C E n nL σ pc L (pv E.1.heap.size r :: .ref (E.1.heap.size + a) :: st) :=
  z_putP hC cf0 hd hk (k := 28) (by decide) (Or.inl q609) (Or.inl rfl) (Or.inr ⟨rfl, rfl, rfl, q609⟩) (Or.inr ⟨_, rfl⟩) rfl hf k
theorem p_X1_99i_c0 {C : ZC} {E : ZE} {cc : ByteArray} {n nL pc d a x : Nat} {ret : Option FieldType} {hh : List (Nat × Nat × Nat × Nat)} {σ : ZS} {L : List (Option Value)} {st : List Value} {r : ZR} (hC : Cx C E cc nL "RightTurns" "<init>" ret hh d) (hd : decode cc pc = .ok (.putfield 99, 3)) (hk : kK n σ a = (0 + 7, x)) (hf : pfree n a 29) (k : zz C E n nL (sP σ a 29 r) (pc + 3) L st) : zz C E n nL σ pc L (pv E.1.heap.size r :: .ref (E.1.heap.size + a) :: st) :=
  z_putP hC cf0 hd hk (k := 29) (by decide) (Or.inl q610) (Or.inl rfl) (Or.inr ⟨rfl, rfl, rfl, q610⟩) (Or.inr ⟨_, rfl⟩) rfl hf k
theorem c_X1_11 {C : ZC} {E : ZE} {cc : ByteArray} {n nL pc d : Nat} {nm : String} {ret : Option FieldType} {hh : List (Nat × Nat × Nat × Nat)} {σ : ZS} {L : List (Option Value)} {st : List Value} {a0 : Nat} {Ret : ZS → Prop} (hC : Cx C E cc nL "RightTurns" nm ret hh d) (hdd : 4 + 1 ≤ d) (hd : decode cc pc = .ok (.invokespecial 11, 3)) (hW : (st.map fun v => v.category).sum ≤ 8) (hV : wp_X2_init n σ a0 Ret) (k : ∀ σ', Ret σ' → zz C E n nL σ' (pc + 3) L st) : zz C E n nL σ pc L (.ref (E.1.heap.size + a0) :: st) :=
  z_callING hC cw_X2_init q160 hdd (by decide) (mz_X2_init (cxE hC) hV) hd rfl q158 q159 (np := 0) rfl rfl hW rfl (kV k)
def wp_X1_init (n : Nat) (σ : ZS) (a0 : Nat) (Ret : ZS → Prop) : Prop :=
    (n ≤ zt σ ∧ zt σ + 1 ≤ NB ∧ zn σ + 10 ≤ SB) ∧ (∀ σ2 : ZS, σ2 = sA σ (8, 0) 10 → (wp_X2_init n σ2 (zt σ) (fun σ4 => (∃ n6, kK n σ4 a0 = (7, n6)) ∧ (n ≤ a0 ∧ (∀ σ8 : ZS, σ8 = sP σ4 a0 0 (some (.inl (zt σ))) → ((n ≤ zt σ8 ∧ zt σ8 + 1 ≤ NB ∧ zn σ8 + 5 ≤ SB) ∧ (∀ σ10 : ZS, σ10 = sA σ8 (9, 0) 5 → (wp_X3_init n σ10 (zt σ8) (fun σ12 => (∃ n14, kK n σ12 a0 = (7, n14)) ∧ (n ≤ a0 ∧ (∀ σ16 : ZS, σ16 = sP σ12 a0 1 (some (.inl (zt σ8))) → ((∃ n18, kK n σ16 a0 = (7, n18)) ∧ (∀ σ19 : ZS, σ19 = sI σ16 a0 3 (-1) → ((n ≤ zt σ19 ∧ zt σ19 + 1 ≤ NB ∧ zn σ19 + 500 ≤ SB) ∧ (∀ σ21 : ZS, σ21 = sA σ19 (2, 500) 500 → ((∃ n23, kK n σ21 a0 = (7, n23)) ∧ (n ≤ a0 ∧ (∀ σ25 : ZS, σ25 = sP σ21 a0 5 (some (.inl (zt σ19))) → ((n ≤ zt σ25 ∧ zt σ25 + 1 ≤ NB ∧ zn σ25 + 3 ≤ SB) ∧ (∀ σ27 : ZS, σ27 = sA σ25 (5, 3) 3 → ((∃ n29, kK n σ27 a0 = (7, n29)) ∧ (n ≤ a0 ∧ (∀ σ31 : ZS, σ31 = sP σ27 a0 6 (some (.inl (zt σ25))) → ((n ≤ zt σ31 ∧ zt σ31 + 1 ≤ NB ∧ zn σ31 + 24 ≤ SB) ∧ (∀ σ33 : ZS, σ33 = sA σ31 (0, 24) 24 → ((∃ n35, kK n σ33 a0 = (7, n35)) ∧ (n ≤ a0 ∧ (∀ σ37 : ZS, σ37 = sP σ33 a0 7 (some (.inl (zt σ31))) → ((n ≤ zt σ37 ∧ zt σ37 + 1 ≤ NB ∧ zn σ37 + 24 ≤ SB) ∧ (∀ σ39 : ZS, σ39 = sA σ37 (0, 24) 24 → ((∃ n41, kK n σ39 a0 = (7, n41)) ∧ (n ≤ a0 ∧ (∀ σ43 : ZS, σ43 = sP σ39 a0 8 (some (.inl (zt σ37))) → ((n ≤ zt σ43 ∧ zt σ43 + 1 ≤ NB ∧ zn σ43 + 48 ≤ SB) ∧ (∀ σ45 : ZS, σ45 = sA σ43 (0, 48) 48 → ((∃ n47, kK n σ45 a0 = (7, n47)) ∧ (n ≤ a0 ∧ (∀ σ49 : ZS, σ49 = sP σ45 a0 10 (some (.inl (zt σ43))) → ((n ≤ zt σ49 ∧ zt σ49 + 1 ≤ NB ∧ zn σ49 + 48 ≤ SB) ∧ (∀ σ51 : ZS, σ51 = sA σ49 (0, 48) 48 → ((∃ n53, kK n σ51 a0 = (7, n53)) ∧ (n ≤ a0 ∧ (∀ σ55 : ZS, σ55 = sP σ51 a0 11 (some (.inl (zt σ49))) → ((n ≤ zt σ55 ∧ zt σ55 + 1 ≤ NB ∧ zn σ55 + 48 ≤ SB) ∧ (∀ σ57 : ZS, σ57 = sA σ55 (3, 48) 48 → ((∃ n59, kK n σ57 a0 = (7, n59)) ∧ (n ≤ a0 ∧ (∀ σ61 : ZS, σ61 = sP σ57 a0 12 (some (.inl (zt σ55))) → ((n ≤ zt σ61 ∧ zt σ61 + 1 ≤ NB ∧ zn σ61 + 48 ≤ SB) ∧ (∀ σ63 : ZS, σ63 = sA σ61 (0, 48) 48 → ((∃ n65, kK n σ63 a0 = (7, n65)) ∧ (n ≤ a0 ∧ (∀ σ67 : ZS, σ67 = sP σ63 a0 13 (some (.inl (zt σ61))) → ((n ≤ zt σ67 ∧ zt σ67 + 1 ≤ NB ∧ zn σ67 + 48 ≤ SB) ∧ (∀ σ69 : ZS, σ69 = sA σ67 (0, 48) 48 → ((∃ n71, kK n σ69 a0 = (7, n71)) ∧ (n ≤ a0 ∧ (∀ σ73 : ZS, σ73 = sP σ69 a0 14 (some (.inl (zt σ67))) → ((n ≤ zt σ73 ∧ zt σ73 + 1 ≤ NB ∧ zn σ73 + 48 ≤ SB) ∧ (∀ σ75 : ZS, σ75 = sA σ73 (1, 48) 48 → ((∃ n77, kK n σ75 a0 = (7, n77)) ∧ (n ≤ a0 ∧ (∀ σ79 : ZS, σ79 = sP σ75 a0 15 (some (.inl (zt σ73))) → ((n ≤ zt σ79 ∧ zt σ79 + 1 ≤ NB ∧ zn σ79 + 14 ≤ SB) ∧ (∀ σ81 : ZS, σ81 = sA σ79 (0, 14) 14 → ((∃ n83, kK n σ81 a0 = (7, n83)) ∧ (n ≤ a0 ∧ (∀ σ85 : ZS, σ85 = sP σ81 a0 16 (some (.inl (zt σ79))) → ((n ≤ zt σ85 ∧ zt σ85 + 1 ≤ NB ∧ zn σ85 + 49152 ≤ SB) ∧ (∀ σ87 : ZS, σ87 = sA σ85 (0, 49152) 49152 → ((∃ n89, kK n σ87 a0 = (7, n89)) ∧ (n ≤ a0 ∧ (∀ σ91 : ZS, σ91 = sP σ87 a0 18 (some (.inl (zt σ85))) → ((n ≤ zt σ91 ∧ zt σ91 + 1 ≤ NB ∧ zn σ91 + 16 ≤ SB) ∧ (∀ σ93 : ZS, σ93 = sA σ91 (0, 16) 16 → ((∃ n95, kK n σ93 a0 = (7, n95)) ∧ (n ≤ a0 ∧ (∀ σ97 : ZS, σ97 = sP σ93 a0 19 (some (.inl (zt σ91))) → ((n ≤ zt σ97 ∧ zt σ97 + 1 ≤ NB ∧ zn σ97 + 11 ≤ SB) ∧ (∀ σ99 : ZS, σ99 = sA σ97 (0, 11) 11 → ((∃ n101, kK n σ99 a0 = (7, n101)) ∧ (n ≤ a0 ∧ (∀ σ103 : ZS, σ103 = sP σ99 a0 20 (some (.inl (zt σ97))) → ((n ≤ zt σ103 ∧ zt σ103 + 1 ≤ NB ∧ zn σ103 + 121 ≤ SB) ∧ (∀ σ105 : ZS, σ105 = sA σ103 (0, 121) 121 → ((∃ n107, kK n σ105 a0 = (7, n107)) ∧ (n ≤ a0 ∧ (∀ σ109 : ZS, σ109 = sP σ105 a0 21 (some (.inl (zt σ103))) → ((n ≤ zt σ109 ∧ zt σ109 + 1 ≤ NB ∧ zn σ109 + 2048 ≤ SB) ∧ (∀ σ111 : ZS, σ111 = sA σ109 (0, 2048) 2048 → ((∃ n113, kK n σ111 a0 = (7, n113)) ∧ (n ≤ a0 ∧ (∀ σ115 : ZS, σ115 = sP σ111 a0 22 (some (.inl (zt σ109))) → ((n ≤ zt σ115 ∧ zt σ115 + 1 ≤ NB ∧ zn σ115 + 576 ≤ SB) ∧ (∀ σ117 : ZS, σ117 = sA σ115 (0, 576) 576 → ((∃ n119, kK n σ117 a0 = (7, n119)) ∧ (n ≤ a0 ∧ (∀ σ121 : ZS, σ121 = sP σ117 a0 23 (some (.inl (zt σ115))) → ((n ≤ zt σ121 ∧ zt σ121 + 1 ≤ NB ∧ zn σ121 + 12 ≤ SB) ∧ (∀ σ123 : ZS, σ123 = sA σ121 (0, 12) 12 → ((∃ n125, kK n σ123 a0 = (7, n125)) ∧ (n ≤ a0 ∧ (∀ σ127 : ZS, σ127 = sP σ123 a0 24 (some (.inl (zt σ121))) → ((n ≤ zt σ127 ∧ zt σ127 + 1 ≤ NB ∧ zn σ127 + 12 ≤ SB) ∧ (∀ σ129 : ZS, σ129 = sA σ127 (0, 12) 12 → ((∃ n131, kK n σ129 a0 = (7, n131)) ∧ (n ≤ a0 ∧ (∀ σ133 : ZS, σ133 = sP σ129 a0 25 (some (.inl (zt σ127))) → ((n ≤ zt σ133 ∧ zt σ133 + 1 ≤ NB ∧ zn σ133 + 12 ≤ SB) ∧ (∀ σ135 : ZS, σ135 = sA σ133 (0, 12) 12 → ((∃ n137, kK n σ135 a0 = (7, n137)) ∧ (n ≤ a0 ∧ (∀ σ139 : ZS, σ139 = sP σ135 a0 26 (some (.inl (zt σ133))) → ((n ≤ zt σ139 ∧ zt σ139 + 1 ≤ NB ∧ zn σ139 + 12 ≤ SB) ∧ (∀ σ141 : ZS, σ141 = sA σ139 (0, 12) 12 → ((∃ n143, kK n σ141 a0 = (7, n143)) ∧ (n ≤ a0 ∧ (∀ σ145 : ZS, σ145 = sP σ141 a0 27 (some (.inl (zt σ139))) → ((n ≤ zt σ145 ∧ zt σ145 + 1 ≤ NB ∧ zn σ145 + 12 ≤ SB) ∧ (∀ σ147 : ZS, σ147 = sA σ145 (0, 12) 12 → ((∃ n149, kK n σ147 a0 = (7, n149)) ∧ (n ≤ a0 ∧ (∀ σ151 : ZS, σ151 = sP σ147 a0 28 (some (.inl (zt σ145))) → ((n ≤ zt σ151 ∧ zt σ151 + 1 ≤ NB ∧ zn σ151 + 12 ≤ SB) ∧ (∀ σ153 : ZS, σ153 = sA σ151 (0, 12) 12 → ((∃ n155, kK n σ153 a0 = (7, n155)) ∧ (n ≤ a0 ∧ (∀ σ157 : ZS, σ157 = sP σ153 a0 29 (some (.inl (zt σ151))) → ((n ≤ zt σ157 ∧ zt σ157 + 1 ≤ NB ∧ zn σ157 + 48 ≤ SB) ∧ (∀ σ159 : ZS, σ159 = sA σ157 (0, 48) 48 → ((∃ n161, kK n σ159 a0 = (7, n161)) ∧ (n ≤ a0 ∧ (∀ σ163 : ZS, σ163 = sP σ159 a0 32 (some (.inl (zt σ157))) → ((n ≤ zt σ163 ∧ zt σ163 + 1 ≤ NB ∧ zn σ163 + 48 ≤ SB) ∧ (∀ σ165 : ZS, σ165 = sA σ163 (0, 48) 48 → ((∃ n167, kK n σ165 a0 = (7, n167)) ∧ (n ≤ a0 ∧ (∀ σ169 : ZS, σ169 = sP σ165 a0 33 (some (.inl (zt σ163))) → ((n ≤ zt σ169 ∧ zt σ169 + 1 ≤ NB ∧ zn σ169 + 48 ≤ SB) ∧ (∀ σ171 : ZS, σ171 = sA σ169 (1, 48) 48 → ((∃ n173, kK n σ171 a0 = (7, n173)) ∧ (n ≤ a0 ∧ (∀ σ175 : ZS, σ175 = sP σ171 a0 34 (some (.inl (zt σ169))) → ((n ≤ zt σ175 ∧ zt σ175 + 1 ≤ NB ∧ zn σ175 + 48 ≤ SB) ∧ (∀ σ177 : ZS, σ177 = sA σ175 (1, 48) 48 → ((∃ n179, kK n σ177 a0 = (7, n179)) ∧ (n ≤ a0 ∧ (∀ σ181 : ZS, σ181 = sP σ177 a0 35 (some (.inl (zt σ175))) → ((∃ n183, kK n σ181 a0 = (7, n183)) ∧ (∀ σ184 : ZS, σ184 = sI σ181 a0 36 (-1) → ((n ≤ zt σ184 ∧ zt σ184 + 1 ≤ NB ∧ zn σ184 + 24 ≤ SB) ∧ (∀ σ186 : ZS, σ186 = sA σ184 (0, 24) 24 → ((∃ n188, kK n σ186 a0 = (7, n188)) ∧ (n ≤ a0 ∧ (∀ σ190 : ZS, σ190 = sP σ186 a0 39 (some (.inl (zt σ184))) → (Ret σ190))))))))))))))))))))))))))))))))))))))))))))))))))))))))))))))))))))))))))))))))))))))))))))))))))))))))))))))))))))))))))))))))))))))))))))))))))))))))))))
set_option maxHeartbeats 4000000 in
theorem mz_X1_init {l : Launch} {E : ZE} (hE : EOK E) {n : Nat} {σ : ZS} {a0 : Nat} {Ret : ZS → Prop} (hV : wp_X1_init n σ a0 Ret) : MZ l E n yX1_init (ws_ yX1_init cX1_init 1 none) 5 σ [.ref (E.1.heap.size + a0)] (rV Ret) := by
  refine MZ.start (L := [some (.ref (E.1.heap.size + a0))]) hE (by decide) (Nat.le_of_ble_eq_true rfl) rfl fun C hCl hQo hC => ?_
  replace hC : Cx C E cX1_init 1 "RightTurns" "<init>" none [] 5 := hC
  unfold wp_X1_init at hV
  refine z_aload_n hC dX1_init_0 rfl rfl ?_
  refine z_objInit hC dX1_init_1 q153 q154 qobj (by decide) (Nat.le_of_ble_eq_true rfl) ?_
  refine z_aload_n hC dX1_init_4 rfl rfl ?_
  obtain ⟨h1, hV⟩ := hV
  refine z_new hC cf1 dX1_init_5 q156 q157 q117 dv_1 h1.1 h1.2.1 h1.2.2 ?_
  obtain ⟨σ2, e_σ2⟩ : ∃ z : ZS, z = sA σ (8, 0) 10 := ⟨_, rfl⟩
  replace hV := hV _ e_σ2
  rw [← e_σ2]
  refine z_dup hC dX1_init_8 rfl ?_
  refine c_X1_11 hC (by decide) dX1_init_9 (Nat.le_of_ble_eq_true rfl) hV (fun σ4 hV => ?_)
  obtain ⟨⟨n6, h5⟩, hV⟩ := hV
  obtain ⟨h7, hV⟩ := hV
  refine p_X1_12i_c0 (r := (some (.inl (zt σ)))) hC dX1_init_12 h5 (pf_dyn h7) ?_
  obtain ⟨σ8, e_σ8⟩ : ∃ z : ZS, z = sP σ4 a0 0 (some (.inl (zt σ))) := ⟨_, rfl⟩
  replace hV := hV _ e_σ8
  rw [← e_σ8]
  refine z_aload_n hC dX1_init_15 rfl rfl ?_
  obtain ⟨h9, hV⟩ := hV
  refine z_new hC cf2 dX1_init_16 q552 q553 q137 dv_2 h9.1 h9.2.1 h9.2.2 ?_
  obtain ⟨σ10, e_σ10⟩ : ∃ z : ZS, z = sA σ8 (9, 0) 5 := ⟨_, rfl⟩
  replace hV := hV _ e_σ10
  rw [← e_σ10]
  refine z_dup hC dX1_init_19 rfl ?_
  refine c_X1_18 hC (by decide) dX1_init_20 (Nat.le_of_ble_eq_true rfl) hV (fun σ12 hV => ?_)
  obtain ⟨⟨n14, h13⟩, hV⟩ := hV
  obtain ⟨h15, hV⟩ := hV
  refine p_X1_19i_c0 (r := (some (.inl (zt σ8)))) hC dX1_init_23 h13 (pf_dyn h15) ?_
  obtain ⟨σ16, e_σ16⟩ : ∃ z : ZS, z = sP σ12 a0 1 (some (.inl (zt σ8))) := ⟨_, rfl⟩
  replace hV := hV _ e_σ16
  rw [← e_σ16]
  refine z_aload_n hC dX1_init_26 rfl rfl ?_
  refine z_iconst (v := (-1)) hC dX1_init_27 rfl ?_
  obtain ⟨⟨n18, h17⟩, hV⟩ := hV
  refine p_X1_23i_c0 hC dX1_init_28 h17 ?_
  obtain ⟨σ19, e_σ19⟩ : ∃ z : ZS, z = sI σ16 a0 3 (-1) := ⟨_, rfl⟩
  replace hV := hV _ e_σ19
  rw [← e_σ19]
  refine z_aload_n hC dX1_init_31 rfl rfl ?_
  refine z_sipush (v := 500) hC dX1_init_32 rfl ?_
  obtain ⟨h20, hV⟩ := hV
  refine z_newa2 (len := 500) hC dX1_init_35 (by decide) rfl h20.1 h20.2.1 h20.2.2 ?_
  obtain ⟨σ21, e_σ21⟩ : ∃ z : ZS, z = sA σ19 (2, 500) 500 := ⟨_, rfl⟩
  replace hV := hV _ e_σ21
  rw [← e_σ21]
  obtain ⟨⟨n23, h22⟩, hV⟩ := hV
  obtain ⟨h24, hV⟩ := hV
  refine p_X1_27i_c0 (r := (some (.inl (zt σ19)))) hC dX1_init_37 h22 (pf_dyn h24) ?_
  obtain ⟨σ25, e_σ25⟩ : ∃ z : ZS, z = sP σ21 a0 5 (some (.inl (zt σ19))) := ⟨_, rfl⟩
  replace hV := hV _ e_σ25
  rw [← e_σ25]
  refine z_aload_n hC dX1_init_40 rfl rfl ?_
  refine z_iconst (v := 3) hC dX1_init_41 rfl ?_
  obtain ⟨h26, hV⟩ := hV
  refine z_anew5 (len := 3) hC dX1_init_42 q552 (by decide) rfl h26.1 h26.2.1 h26.2.2 ?_
  obtain ⟨σ27, e_σ27⟩ : ∃ z : ZS, z = sA σ25 (5, 3) 3 := ⟨_, rfl⟩
  replace hV := hV _ e_σ27
  rw [← e_σ27]
  obtain ⟨⟨n29, h28⟩, hV⟩ := hV
  obtain ⟨h30, hV⟩ := hV
  refine p_X1_31i_c0 (r := (some (.inl (zt σ25)))) hC dX1_init_45 h28 (pf_dyn h30) ?_
  obtain ⟨σ31, e_σ31⟩ : ∃ z : ZS, z = sP σ27 a0 6 (some (.inl (zt σ25))) := ⟨_, rfl⟩
  replace hV := hV _ e_σ31
  rw [← e_σ31]
  refine z_aload_n hC dX1_init_48 rfl rfl ?_
  refine z_bipush (v := 24) hC dX1_init_49 rfl ?_
  obtain ⟨h32, hV⟩ := hV
  refine z_newa0 (len := 24) hC dX1_init_51 (by decide) rfl h32.1 h32.2.1 h32.2.2 ?_
  obtain ⟨σ33, e_σ33⟩ : ∃ z : ZS, z = sA σ31 (0, 24) 24 := ⟨_, rfl⟩
  replace hV := hV _ e_σ33
  rw [← e_σ33]
  obtain ⟨⟨n35, h34⟩, hV⟩ := hV
  obtain ⟨h36, hV⟩ := hV
  refine p_X1_35i_c0 (r := (some (.inl (zt σ31)))) hC dX1_init_53 h34 (pf_dyn h36) ?_
  obtain ⟨σ37, e_σ37⟩ : ∃ z : ZS, z = sP σ33 a0 7 (some (.inl (zt σ31))) := ⟨_, rfl⟩
  replace hV := hV _ e_σ37
  rw [← e_σ37]
  refine z_aload_n hC dX1_init_56 rfl rfl ?_
  refine z_bipush (v := 24) hC dX1_init_57 rfl ?_
  obtain ⟨h38, hV⟩ := hV
  refine z_newa0 (len := 24) hC dX1_init_59 (by decide) rfl h38.1 h38.2.1 h38.2.2 ?_
  obtain ⟨σ39, e_σ39⟩ : ∃ z : ZS, z = sA σ37 (0, 24) 24 := ⟨_, rfl⟩
  replace hV := hV _ e_σ39
  rw [← e_σ39]
  obtain ⟨⟨n41, h40⟩, hV⟩ := hV
  obtain ⟨h42, hV⟩ := hV
  refine p_X1_39i_c0 (r := (some (.inl (zt σ37)))) hC dX1_init_61 h40 (pf_dyn h42) ?_
  obtain ⟨σ43, e_σ43⟩ : ∃ z : ZS, z = sP σ39 a0 8 (some (.inl (zt σ37))) := ⟨_, rfl⟩
  replace hV := hV _ e_σ43
  rw [← e_σ43]
  refine z_aload_n hC dX1_init_64 rfl rfl ?_
  refine z_bipush (v := 48) hC dX1_init_65 rfl ?_
  obtain ⟨h44, hV⟩ := hV
  refine z_newa0 (len := 48) hC dX1_init_67 (by decide) rfl h44.1 h44.2.1 h44.2.2 ?_
  obtain ⟨σ45, e_σ45⟩ : ∃ z : ZS, z = sA σ43 (0, 48) 48 := ⟨_, rfl⟩
  replace hV := hV _ e_σ45
  rw [← e_σ45]
  obtain ⟨⟨n47, h46⟩, hV⟩ := hV
  obtain ⟨h48, hV⟩ := hV
  refine p_X1_42i_c0 (r := (some (.inl (zt σ43)))) hC dX1_init_69 h46 (pf_dyn h48) ?_
  obtain ⟨σ49, e_σ49⟩ : ∃ z : ZS, z = sP σ45 a0 10 (some (.inl (zt σ43))) := ⟨_, rfl⟩
  replace hV := hV _ e_σ49
  rw [← e_σ49]
  refine z_aload_n hC dX1_init_72 rfl rfl ?_
  refine z_bipush (v := 48) hC dX1_init_73 rfl ?_
  obtain ⟨h50, hV⟩ := hV
  refine z_newa0 (len := 48) hC dX1_init_75 (by decide) rfl h50.1 h50.2.1 h50.2.2 ?_
  obtain ⟨σ51, e_σ51⟩ : ∃ z : ZS, z = sA σ49 (0, 48) 48 := ⟨_, rfl⟩
  replace hV := hV _ e_σ51
  rw [← e_σ51]
  obtain ⟨⟨n53, h52⟩, hV⟩ := hV
  obtain ⟨h54, hV⟩ := hV
  refine p_X1_45i_c0 (r := (some (.inl (zt σ49)))) hC dX1_init_77 h52 (pf_dyn h54) ?_
  obtain ⟨σ55, e_σ55⟩ : ∃ z : ZS, z = sP σ51 a0 11 (some (.inl (zt σ49))) := ⟨_, rfl⟩
  replace hV := hV _ e_σ55
  rw [← e_σ55]
  refine z_aload_n hC dX1_init_80 rfl rfl ?_
  refine z_bipush (v := 48) hC dX1_init_81 rfl ?_
  obtain ⟨h56, hV⟩ := hV
  refine z_newa3 (len := 48) hC dX1_init_83 (by decide) rfl h56.1 h56.2.1 h56.2.2 ?_
  obtain ⟨σ57, e_σ57⟩ : ∃ z : ZS, z = sA σ55 (3, 48) 48 := ⟨_, rfl⟩
  replace hV := hV _ e_σ57
  rw [← e_σ57]
  obtain ⟨⟨n59, h58⟩, hV⟩ := hV
  obtain ⟨h60, hV⟩ := hV
  refine p_X1_48i_c0 (r := (some (.inl (zt σ55)))) hC dX1_init_85 h58 (pf_dyn h60) ?_
  obtain ⟨σ61, e_σ61⟩ : ∃ z : ZS, z = sP σ57 a0 12 (some (.inl (zt σ55))) := ⟨_, rfl⟩
  replace hV := hV _ e_σ61
  rw [← e_σ61]
  refine z_aload_n hC dX1_init_88 rfl rfl ?_
  refine z_bipush (v := 48) hC dX1_init_89 rfl ?_
  obtain ⟨h62, hV⟩ := hV
  refine z_newa0 (len := 48) hC dX1_init_91 (by decide) rfl h62.1 h62.2.1 h62.2.2 ?_
  obtain ⟨σ63, e_σ63⟩ : ∃ z : ZS, z = sA σ61 (0, 48) 48 := ⟨_, rfl⟩
  replace hV := hV _ e_σ63
  rw [← e_σ63]
  obtain ⟨⟨n65, h64⟩, hV⟩ := hV
  obtain ⟨h66, hV⟩ := hV
  refine p_X1_52i_c0 (r := (some (.inl (zt σ61)))) hC dX1_init_93 h64 (pf_dyn h66) ?_
  obtain ⟨σ67, e_σ67⟩ : ∃ z : ZS, z = sP σ63 a0 13 (some (.inl (zt σ61))) := ⟨_, rfl⟩
  replace hV := hV _ e_σ67
  rw [← e_σ67]
  refine z_aload_n hC dX1_init_96 rfl rfl ?_
  refine z_bipush (v := 48) hC dX1_init_97 rfl ?_
  obtain ⟨h68, hV⟩ := hV
  refine z_newa0 (len := 48) hC dX1_init_99 (by decide) rfl h68.1 h68.2.1 h68.2.2 ?_
  obtain ⟨σ69, e_σ69⟩ : ∃ z : ZS, z = sA σ67 (0, 48) 48 := ⟨_, rfl⟩
  replace hV := hV _ e_σ69
  rw [← e_σ69]
  obtain ⟨⟨n71, h70⟩, hV⟩ := hV
  obtain ⟨h72, hV⟩ := hV
  refine p_X1_55i_c0 (r := (some (.inl (zt σ67)))) hC dX1_init_101 h70 (pf_dyn h72) ?_
  obtain ⟨σ73, e_σ73⟩ : ∃ z : ZS, z = sP σ69 a0 14 (some (.inl (zt σ67))) := ⟨_, rfl⟩
  replace hV := hV _ e_σ73
  rw [← e_σ73]
  refine z_aload_n hC dX1_init_104 rfl rfl ?_
  refine z_bipush (v := 48) hC dX1_init_105 rfl ?_
  obtain ⟨h74, hV⟩ := hV
  refine z_newa1 (len := 48) hC dX1_init_107 (by decide) rfl h74.1 h74.2.1 h74.2.2 ?_
  obtain ⟨σ75, e_σ75⟩ : ∃ z : ZS, z = sA σ73 (1, 48) 48 := ⟨_, rfl⟩
  replace hV := hV _ e_σ75
  rw [← e_σ75]
  obtain ⟨⟨n77, h76⟩, hV⟩ := hV
  obtain ⟨h78, hV⟩ := hV
  refine p_X1_58i_c0 (r := (some (.inl (zt σ73)))) hC dX1_init_109 h76 (pf_dyn h78) ?_
  obtain ⟨σ79, e_σ79⟩ : ∃ z : ZS, z = sP σ75 a0 15 (some (.inl (zt σ73))) := ⟨_, rfl⟩
  replace hV := hV _ e_σ79
  rw [← e_σ79]
  refine z_aload_n hC dX1_init_112 rfl rfl ?_
  refine z_bipush (v := 14) hC dX1_init_113 rfl ?_
  obtain ⟨h80, hV⟩ := hV
  refine z_newa0 (len := 14) hC dX1_init_115 (by decide) rfl h80.1 h80.2.1 h80.2.2 ?_
  obtain ⟨σ81, e_σ81⟩ : ∃ z : ZS, z = sA σ79 (0, 14) 14 := ⟨_, rfl⟩
  replace hV := hV _ e_σ81
  rw [← e_σ81]
  obtain ⟨⟨n83, h82⟩, hV⟩ := hV
  obtain ⟨h84, hV⟩ := hV
  refine p_X1_62i_c0 (r := (some (.inl (zt σ79)))) hC dX1_init_117 h82 (pf_dyn h84) ?_
  obtain ⟨σ85, e_σ85⟩ : ∃ z : ZS, z = sP σ81 a0 16 (some (.inl (zt σ79))) := ⟨_, rfl⟩
  replace hV := hV _ e_σ85
  rw [← e_σ85]
  refine z_aload_n hC dX1_init_120 rfl rfl ?_
  refine z_ldc hC dX1_init_121 q580 ?_
  obtain ⟨h86, hV⟩ := hV
  refine z_newa0 (len := 49152) hC dX1_init_123 (by decide) rfl h86.1 h86.2.1 h86.2.2 ?_
  obtain ⟨σ87, e_σ87⟩ : ∃ z : ZS, z = sA σ85 (0, 49152) 49152 := ⟨_, rfl⟩
  replace hV := hV _ e_σ87
  rw [← e_σ87]
  obtain ⟨⟨n89, h88⟩, hV⟩ := hV
  obtain ⟨h90, hV⟩ := hV
  refine p_X1_66i_c0 (r := (some (.inl (zt σ85)))) hC dX1_init_125 h88 (pf_dyn h90) ?_
  obtain ⟨σ91, e_σ91⟩ : ∃ z : ZS, z = sP σ87 a0 18 (some (.inl (zt σ85))) := ⟨_, rfl⟩
  replace hV := hV _ e_σ91
  rw [← e_σ91]
  refine z_aload_n hC dX1_init_128 rfl rfl ?_
  refine z_bipush (v := 16) hC dX1_init_129 rfl ?_
  obtain ⟨h92, hV⟩ := hV
  refine z_newa0 (len := 16) hC dX1_init_131 (by decide) rfl h92.1 h92.2.1 h92.2.2 ?_
  obtain ⟨σ93, e_σ93⟩ : ∃ z : ZS, z = sA σ91 (0, 16) 16 := ⟨_, rfl⟩
  replace hV := hV _ e_σ93
  rw [← e_σ93]
  obtain ⟨⟨n95, h94⟩, hV⟩ := hV
  obtain ⟨h96, hV⟩ := hV
  refine p_X1_69i_c0 (r := (some (.inl (zt σ91)))) hC dX1_init_133 h94 (pf_dyn h96) ?_
  obtain ⟨σ97, e_σ97⟩ : ∃ z : ZS, z = sP σ93 a0 19 (some (.inl (zt σ91))) := ⟨_, rfl⟩
  replace hV := hV _ e_σ97
  rw [← e_σ97]
  refine z_aload_n hC dX1_init_136 rfl rfl ?_
  refine z_bipush (v := 11) hC dX1_init_137 rfl ?_
  obtain ⟨h98, hV⟩ := hV
  refine z_newa0 (len := 11) hC dX1_init_139 (by decide) rfl h98.1 h98.2.1 h98.2.2 ?_
  obtain ⟨σ99, e_σ99⟩ : ∃ z : ZS, z = sA σ97 (0, 11) 11 := ⟨_, rfl⟩
  replace hV := hV _ e_σ99
  rw [← e_σ99]
  obtain ⟨⟨n101, h100⟩, hV⟩ := hV
  obtain ⟨h102, hV⟩ := hV
  refine p_X1_72i_c0 (r := (some (.inl (zt σ97)))) hC dX1_init_141 h100 (pf_dyn h102) ?_
  obtain ⟨σ103, e_σ103⟩ : ∃ z : ZS, z = sP σ99 a0 20 (some (.inl (zt σ97))) := ⟨_, rfl⟩
  replace hV := hV _ e_σ103
  rw [← e_σ103]
  refine z_aload_n hC dX1_init_144 rfl rfl ?_
  refine z_bipush (v := 121) hC dX1_init_145 rfl ?_
  obtain ⟨h104, hV⟩ := hV
  refine z_newa0 (len := 121) hC dX1_init_147 (by decide) rfl h104.1 h104.2.1 h104.2.2 ?_
  obtain ⟨σ105, e_σ105⟩ : ∃ z : ZS, z = sA σ103 (0, 121) 121 := ⟨_, rfl⟩
  replace hV := hV _ e_σ105
  rw [← e_σ105]
  obtain ⟨⟨n107, h106⟩, hV⟩ := hV
  obtain ⟨h108, hV⟩ := hV
  refine p_X1_75i_c0 (r := (some (.inl (zt σ103)))) hC dX1_init_149 h106 (pf_dyn h108) ?_
  obtain ⟨σ109, e_σ109⟩ : ∃ z : ZS, z = sP σ105 a0 21 (some (.inl (zt σ103))) := ⟨_, rfl⟩
  replace hV := hV _ e_σ109
  rw [← e_σ109]
  refine z_aload_n hC dX1_init_152 rfl rfl ?_
  refine z_sipush (v := 2048) hC dX1_init_153 rfl ?_
  obtain ⟨h110, hV⟩ := hV
  refine z_newa0 (len := 2048) hC dX1_init_156 (by decide) rfl h110.1 h110.2.1 h110.2.2 ?_
  obtain ⟨σ111, e_σ111⟩ : ∃ z : ZS, z = sA σ109 (0, 2048) 2048 := ⟨_, rfl⟩
  replace hV := hV _ e_σ111
  rw [← e_σ111]
  obtain ⟨⟨n113, h112⟩, hV⟩ := hV
  obtain ⟨h114, hV⟩ := hV
  refine p_X1_78i_c0 (r := (some (.inl (zt σ109)))) hC dX1_init_158 h112 (pf_dyn h114) ?_
  obtain ⟨σ115, e_σ115⟩ : ∃ z : ZS, z = sP σ111 a0 22 (some (.inl (zt σ109))) := ⟨_, rfl⟩
  replace hV := hV _ e_σ115
  rw [← e_σ115]
  refine z_aload_n hC dX1_init_161 rfl rfl ?_
  refine z_sipush (v := 576) hC dX1_init_162 rfl ?_
  obtain ⟨h116, hV⟩ := hV
  refine z_newa0 (len := 576) hC dX1_init_165 (by decide) rfl h116.1 h116.2.1 h116.2.2 ?_
  obtain ⟨σ117, e_σ117⟩ : ∃ z : ZS, z = sA σ115 (0, 576) 576 := ⟨_, rfl⟩
  replace hV := hV _ e_σ117
  rw [← e_σ117]
  obtain ⟨⟨n119, h118⟩, hV⟩ := hV
  obtain ⟨h120, hV⟩ := hV
  refine p_X1_81i_c0 (r := (some (.inl (zt σ115)))) hC dX1_init_167 h118 (pf_dyn h120) ?_
  obtain ⟨σ121, e_σ121⟩ : ∃ z : ZS, z = sP σ117 a0 23 (some (.inl (zt σ115))) := ⟨_, rfl⟩
  replace hV := hV _ e_σ121
  rw [← e_σ121]
  refine z_aload_n hC dX1_init_170 rfl rfl ?_
  refine z_bipush (v := 12) hC dX1_init_171 rfl ?_
  obtain ⟨h122, hV⟩ := hV
  refine z_newa0 (len := 12) hC dX1_init_173 (by decide) rfl h122.1 h122.2.1 h122.2.2 ?_
  obtain ⟨σ123, e_σ123⟩ : ∃ z : ZS, z = sA σ121 (0, 12) 12 := ⟨_, rfl⟩
  replace hV := hV _ e_σ123
  rw [← e_σ123]
  obtain ⟨⟨n125, h124⟩, hV⟩ := hV
  obtain ⟨h126, hV⟩ := hV
  refine p_X1_84i_c0 (r := (some (.inl (zt σ121)))) hC dX1_init_175 h124 (pf_dyn h126) ?_
  obtain ⟨σ127, e_σ127⟩ : ∃ z : ZS, z = sP σ123 a0 24 (some (.inl (zt σ121))) := ⟨_, rfl⟩
  replace hV := hV _ e_σ127
  rw [← e_σ127]
  refine z_aload_n hC dX1_init_178 rfl rfl ?_
  refine z_bipush (v := 12) hC dX1_init_179 rfl ?_
  obtain ⟨h128, hV⟩ := hV
  refine z_newa0 (len := 12) hC dX1_init_181 (by decide) rfl h128.1 h128.2.1 h128.2.2 ?_
  obtain ⟨σ129, e_σ129⟩ : ∃ z : ZS, z = sA σ127 (0, 12) 12 := ⟨_, rfl⟩
  replace hV := hV _ e_σ129
  rw [← e_σ129]
  obtain ⟨⟨n131, h130⟩, hV⟩ := hV
  obtain ⟨h132, hV⟩ := hV
  refine p_X1_87i_c0 (r := (some (.inl (zt σ127)))) hC dX1_init_183 h130 (pf_dyn h132) ?_
  obtain ⟨σ133, e_σ133⟩ : ∃ z : ZS, z = sP σ129 a0 25 (some (.inl (zt σ127))) := ⟨_, rfl⟩
  replace hV := hV _ e_σ133
  rw [← e_σ133]
  refine z_aload_n hC dX1_init_186 rfl rfl ?_
  refine z_bipush (v := 12) hC dX1_init_187 rfl ?_
  obtain ⟨h134, hV⟩ := hV
  refine z_newa0 (len := 12) hC dX1_init_189 (by decide) rfl h134.1 h134.2.1 h134.2.2 ?_
  obtain ⟨σ135, e_σ135⟩ : ∃ z : ZS, z = sA σ133 (0, 12) 12 := ⟨_, rfl⟩
  replace hV := hV _ e_σ135
  rw [← e_σ135]
  obtain ⟨⟨n137, h136⟩, hV⟩ := hV
  obtain ⟨h138, hV⟩ := hV
  refine p_X1_90i_c0 (r := (some (.inl (zt σ133)))) hC dX1_init_191 h136 (pf_dyn h138) ?_
  obtain ⟨σ139, e_σ139⟩ : ∃ z : ZS, z = sP σ135 a0 26 (some (.inl (zt σ133))) := ⟨_, rfl⟩
  replace hV := hV _ e_σ139
  rw [← e_σ139]
  refine z_aload_n hC dX1_init_194 rfl rfl ?_
  refine z_bipush (v := 12) hC dX1_init_195 rfl ?_
  obtain ⟨h140, hV⟩ := hV
  refine z_newa0 (len := 12) hC dX1_init_197 (by decide) rfl h140.1 h140.2.1 h140.2.2 ?_
  obtain ⟨σ141, e_σ141⟩ : ∃ z : ZS, z = sA σ139 (0, 12) 12 := ⟨_, rfl⟩
  replace hV := hV _ e_σ141
  rw [← e_σ141]
  obtain ⟨⟨n143, h142⟩, hV⟩ := hV
  obtain ⟨h144, hV⟩ := hV
  refine p_X1_93i_c0 (r := (some (.inl (zt σ139)))) hC dX1_init_199 h142 (pf_dyn h144) ?_
  obtain ⟨σ145, e_σ145⟩ : ∃ z : ZS, z = sP σ141 a0 27 (some (.inl (zt σ139))) := ⟨_, rfl⟩
  replace hV := hV _ e_σ145
  rw [← e_σ145]
  refine z_aload_n hC dX1_init_202 rfl rfl ?_
  refine z_bipush (v := 12) hC dX1_init_203 rfl ?_
  obtain ⟨h146, hV⟩ := hV
  refine z_newa0 (len := 12) hC dX1_init_205 (by decide) rfl h146.1 h146.2.1 h146.2.2 ?_
  obtain ⟨σ147, e_σ147⟩ : ∃ z : ZS, z = sA σ145 (0, 12) 12 := ⟨_, rfl⟩
  replace hV := hV _ e_σ147
  rw [← e_σ147]
  obtain ⟨⟨n149, h148⟩, hV⟩ := hV
  obtain ⟨h150, hV⟩ := hV
  refine p_X1_96i_c0 (r := (some (.inl (zt σ145)))) hC dX1_init_207 h148 (pf_dyn h150) ?_
  obtain ⟨σ151, e_σ151⟩ : ∃ z : ZS, z = sP σ147 a0 28 (some (.inl (zt σ145))) := ⟨_, rfl⟩
  replace hV := hV _ e_σ151
  rw [← e_σ151]
  refine z_aload_n hC dX1_init_210 rfl rfl ?_
  refine z_bipush (v := 12) hC dX1_init_211 rfl ?_
  obtain ⟨h152, hV⟩ := hV
  refine z_newa0 (len := 12) hC dX1_init_213 (by decide) rfl h152.1 h152.2.1 h152.2.2 ?_
  obtain ⟨σ153, e_σ153⟩ : ∃ z : ZS, z = sA σ151 (0, 12) 12 := ⟨_, rfl⟩
  replace hV := hV _ e_σ153
  rw [← e_σ153]
  obtain ⟨⟨n155, h154⟩, hV⟩ := hV
  obtain ⟨h156, hV⟩ := hV
  refine p_X1_99i_c0 (r := (some (.inl (zt σ151)))) hC dX1_init_215 h154 (pf_dyn h156) ?_
  obtain ⟨σ157, e_σ157⟩ : ∃ z : ZS, z = sP σ153 a0 29 (some (.inl (zt σ151))) := ⟨_, rfl⟩
  replace hV := hV _ e_σ157
  rw [← e_σ157]
  refine z_aload_n hC dX1_init_218 rfl rfl ?_
  refine z_bipush (v := 48) hC dX1_init_219 rfl ?_
  obtain ⟨h158, hV⟩ := hV
  refine z_newa0 (len := 48) hC dX1_init_221 (by decide) rfl h158.1 h158.2.1 h158.2.2 ?_
  obtain ⟨σ159, e_σ159⟩ : ∃ z : ZS, z = sA σ157 (0, 48) 48 := ⟨_, rfl⟩
  replace hV := hV _ e_σ159
  rw [← e_σ159]
  obtain ⟨⟨n161, h160⟩, hV⟩ := hV
  obtain ⟨h162, hV⟩ := hV
  refine p_X1_102i_c0 (r := (some (.inl (zt σ157)))) hC dX1_init_223 h160 (pf_dyn h162) ?_
  obtain ⟨σ163, e_σ163⟩ : ∃ z : ZS, z = sP σ159 a0 32 (some (.inl (zt σ157))) := ⟨_, rfl⟩
  replace hV := hV _ e_σ163
  rw [← e_σ163]
  refine z_aload_n hC dX1_init_226 rfl rfl ?_
  refine z_bipush (v := 48) hC dX1_init_227 rfl ?_
  obtain ⟨h164, hV⟩ := hV
  refine z_newa0 (len := 48) hC dX1_init_229 (by decide) rfl h164.1 h164.2.1 h164.2.2 ?_
  obtain ⟨σ165, e_σ165⟩ : ∃ z : ZS, z = sA σ163 (0, 48) 48 := ⟨_, rfl⟩
  replace hV := hV _ e_σ165
  rw [← e_σ165]
  obtain ⟨⟨n167, h166⟩, hV⟩ := hV
  obtain ⟨h168, hV⟩ := hV
  refine p_X1_105i_c0 (r := (some (.inl (zt σ163)))) hC dX1_init_231 h166 (pf_dyn h168) ?_
  obtain ⟨σ169, e_σ169⟩ : ∃ z : ZS, z = sP σ165 a0 33 (some (.inl (zt σ163))) := ⟨_, rfl⟩
  replace hV := hV _ e_σ169
  rw [← e_σ169]
  refine z_aload_n hC dX1_init_234 rfl rfl ?_
  refine z_bipush (v := 48) hC dX1_init_235 rfl ?_
  obtain ⟨h170, hV⟩ := hV
  refine z_newa1 (len := 48) hC dX1_init_237 (by decide) rfl h170.1 h170.2.1 h170.2.2 ?_
  obtain ⟨σ171, e_σ171⟩ : ∃ z : ZS, z = sA σ169 (1, 48) 48 := ⟨_, rfl⟩
  replace hV := hV _ e_σ171
  rw [← e_σ171]
  obtain ⟨⟨n173, h172⟩, hV⟩ := hV
  obtain ⟨h174, hV⟩ := hV
  refine p_X1_108i_c0 (r := (some (.inl (zt σ169)))) hC dX1_init_239 h172 (pf_dyn h174) ?_
  obtain ⟨σ175, e_σ175⟩ : ∃ z : ZS, z = sP σ171 a0 34 (some (.inl (zt σ169))) := ⟨_, rfl⟩
  replace hV := hV _ e_σ175
  rw [← e_σ175]
  refine z_aload_n hC dX1_init_242 rfl rfl ?_
  refine z_bipush (v := 48) hC dX1_init_243 rfl ?_
  obtain ⟨h176, hV⟩ := hV
  refine z_newa1 (len := 48) hC dX1_init_245 (by decide) rfl h176.1 h176.2.1 h176.2.2 ?_
  obtain ⟨σ177, e_σ177⟩ : ∃ z : ZS, z = sA σ175 (1, 48) 48 := ⟨_, rfl⟩
  replace hV := hV _ e_σ177
  rw [← e_σ177]
  obtain ⟨⟨n179, h178⟩, hV⟩ := hV
  obtain ⟨h180, hV⟩ := hV
  refine p_X1_111i_c0 (r := (some (.inl (zt σ175)))) hC dX1_init_247 h178 (pf_dyn h180) ?_
  obtain ⟨σ181, e_σ181⟩ : ∃ z : ZS, z = sP σ177 a0 35 (some (.inl (zt σ175))) := ⟨_, rfl⟩
  replace hV := hV _ e_σ181
  rw [← e_σ181]
  refine z_aload_n hC dX1_init_250 rfl rfl ?_
  refine z_iconst (v := (-1)) hC dX1_init_251 rfl ?_
  obtain ⟨⟨n183, h182⟩, hV⟩ := hV
  refine p_X1_114i_c0 hC dX1_init_252 h182 ?_
  obtain ⟨σ184, e_σ184⟩ : ∃ z : ZS, z = sI σ181 a0 36 (-1) := ⟨_, rfl⟩
  replace hV := hV _ e_σ184
  rw [← e_σ184]
  refine z_aload_n hC dX1_init_255 rfl rfl ?_
  refine z_bipush (v := 24) hC dX1_init_256 rfl ?_
  obtain ⟨h185, hV⟩ := hV
  refine z_newa0 (len := 24) hC dX1_init_258 (by decide) rfl h185.1 h185.2.1 h185.2.2 ?_
  obtain ⟨σ186, e_σ186⟩ : ∃ z : ZS, z = sA σ184 (0, 24) 24 := ⟨_, rfl⟩
  replace hV := hV _ e_σ186
  rw [← e_σ186]
  obtain ⟨⟨n188, h187⟩, hV⟩ := hV
  obtain ⟨h189, hV⟩ := hV
  refine p_X1_117i_c0 (r := (some (.inl (zt σ184)))) hC dX1_init_260 h187 (pf_dyn h189) ?_
  obtain ⟨σ190, e_σ190⟩ : ∃ z : ZS, z = sP σ186 a0 39 (some (.inl (zt σ184))) := ⟨_, rfl⟩
  replace hV := hV _ e_σ190
  rw [← e_σ190]
  exact z_vret hC dX1_init_263 (by rw [hQo]; exact ⟨rfl, hV⟩)
theorem p_X4_101i_c3 {C : ZC} {E : ZE} {cc : ByteArray} {n nL pc d a x : Nat} {ret : Option FieldType} {hh : List (Nat × Nat × Nat × Nat)} {σ : ZS} {L : List (Option Value)} {st : List Value} {r : ZR} (hC : Cx C E cc nL "RightTurnsModel" "<init>" ret hh d) (hd : decode cc pc = .ok (.putfield 101, 3)) (hk : kK n σ a = (3 + 7, x)) (hf : pfree n a 44) (k : zz C E n nL (sP σ a 44 r) (pc + 3) L st) : zz C E n nL σ pc L (pv E.1.heap.size r :: .ref (E.1.heap.size + a) :: st) :=
  z_putP hC cf3 hd hk (k := 44) (by decide) (Or.inl q1629) (Or.inl rfl) (Or.inr ⟨rfl, rfl, rfl, q1629⟩) (Or.inr ⟨_, rfl⟩) rfl hf k
theorem p_X4_104i_c3 {C : ZC} {E : ZE} {cc : ByteArray} {n nL pc d a x : Nat} {ret : Option FieldType} {hh : List (Nat × Nat × Nat × Nat)} {σ : ZS} {L : List (Option Value)} {st : List Value} {r : ZR} (hC : Cx C E cc nL "RightTurnsModel" "<init>" ret hh d) (hd : decode cc pc = .ok (.putfield 104, 3)) (hk : kK n σ a = (3 + 7, x)) (hf : pfree n a 46) (k : zz C E n nL (sP σ a 46 r) (pc + 3) L st) : zz C E n nL σ pc L (pv E.1.heap.size r :: .ref (E.1.heap.size + a) :: st) :=
  z_putP hC cf3 hd hk (k := 46) (by decide) (Or.inl q1631) (Or.inl rfl) (Or.inr ⟨rfl, rfl, rfl, q1631⟩) (Or.inr ⟨_, rfl⟩) rfl hf k
theorem p_X4_107i_c3 {C : ZC} {E : ZE} {cc : ByteArray} {n nL pc d a x : Nat} {ret : Option FieldType} {hh : List (Nat × Nat × Nat × Nat)} {σ : ZS} {L : List (Option Value)} {st : List Value} {r : ZR} (hC : Cx C E cc nL "RightTurnsModel" "<init>" ret hh d) (hd : decode cc pc = .ok (.putfield 107, 3)) (hk : kK n σ a = (3 + 7, x)) (hf : pfree n a 47) (k : zz C E n nL (sP σ a 47 r) (pc + 3) L st) : zz C E n nL σ pc L (pv E.1.heap.size r :: .ref (E.1.heap.size + a) :: st) :=
  z_putP hC cf3 hd hk (k := 47) (by decide) (Or.inl q1632) (Or.inl rfl) (Or.inr ⟨rfl, rfl, rfl, q1632⟩) (Or.inr ⟨_, rfl⟩) rfl hf k
theorem p_X4_110i_c3 {C : ZC} {E : ZE} {cc : ByteArray} {n nL pc d a x : Nat} {ret : Option FieldType} {hh : List (Nat × Nat × Nat × Nat)} {σ : ZS} {L : List (Option Value)} {st : List Value} {r : ZR} (hC : Cx C E cc nL "RightTurnsModel" "<init>" ret hh d) (hd : decode cc pc = .ok (.putfield 110, 3)) (hk : kK n σ a = (3 + 7, x)) (hf : pfree n a 48) (k : zz C E n nL (sP σ a 48 r) (pc + 3) L st) : zz C E n nL σ pc L (pv E.1.heap.size r :: .ref (E.1.heap.size + a) :: st) :=
  z_putP hC cf3 hd hk (k := 48) (by decide) (Or.inl q1633) (Or.inl rfl) (Or.inr ⟨rfl, rfl, rfl, q1633⟩) (Or.inr ⟨_, rfl⟩) rfl hf k
theorem p_X4_113i_c3 {C : ZC} {E : ZE} {cc : ByteArray} {n nL pc d a x : Nat} {ret : Option FieldType} {hh : List (Nat × Nat × Nat × Nat)} {σ : ZS} {L : List (Option Value)} {st : List Value} {r : ZR} (hC : Cx C E cc nL "RightTurnsModel" "<init>" ret hh d) (hd : decode cc pc = .ok (.putfield 113, 3)) (hk : kK n σ a = (3 + 7, x)) (hf : pfree n a 49) (k : zz C E n nL (sP σ a 49 r) (pc + 3) L st) : zz C E n nL σ pc L (pv E.1.heap.size r :: .ref (E.1.heap.size + a) :: st) :=
  z_putP hC cf3 hd hk (k := 49) (by decide) (Or.inl q1634) (Or.inl rfl) (Or.inr ⟨rfl, rfl, rfl, q1634⟩) (Or.inr ⟨_, rfl⟩) rfl hf k
theorem p_X4_116i_c3 {C : ZC} {E : ZE} {cc : ByteArray} {n nL pc d a x : Nat} {ret : Option FieldType} {hh : List (Nat × Nat × Nat × Nat)} {σ : ZS} {L : List (Option Value)} {st : List Value} {r : ZR} (hC : Cx C E cc nL "RightTurnsModel" "<init>" ret hh d) (hd : decode cc pc = .ok (.putfield 116, 3)) (hk : kK n σ a = (3 + 7, x)) (hf : pfree n a 50) (k : zz C E n nL (sP σ a 50 r) (pc + 3) L st) : zz C E n nL σ pc L (pv E.1.heap.size r :: .ref (E.1.heap.size + a) :: st) :=
  z_putP hC cf3 hd hk (k := 50) (by decide) (Or.inl q1635) (Or.inl rfl) (Or.inr ⟨rfl, rfl, rfl, q1635⟩) (Or.inr ⟨_, rfl⟩) rfl hf k
theorem p_X4_119i_c3 {C : ZC} {E : ZE} {cc : ByteArray} {n nL pc d a x : Nat} {ret : Option FieldType} {hh : List (Nat × Nat × Nat × Nat)} {σ : ZS} {L : List (Option Value)} {st : List Value} {r : ZR} (hC : Cx C E cc nL "RightTurnsModel" "<init>" ret hh d) (hd : decode cc pc = .ok (.putfield 119, 3)) (hk : kK n σ a = (3 + 7, x)) (hf : pfree n a 51) (k : zz C E n nL (sP σ a 51 r) (pc + 3) L st) : zz C E n nL σ pc L (pv E.1.heap.size r :: .ref (E.1.heap.size + a) :: st) :=
  z_putP hC cf3 hd hk (k := 51) (by decide) (Or.inl q1636) (Or.inl rfl) (Or.inr ⟨rfl, rfl, rfl, q1636⟩) (Or.inr ⟨_, rfl⟩) rfl hf k
theorem p_X4_122i_c3 {C : ZC} {E : ZE} {cc : ByteArray} {n nL pc d a x : Nat} {ret : Option FieldType} {hh : List (Nat × Nat × Nat × Nat)} {σ : ZS} {L : List (Option Value)} {st : List Value} {r : ZR} (hC : Cx C E cc nL "RightTurnsModel" "<init>" ret hh d) (hd : decode cc pc = .ok (.putfield 122, 3)) (hk : kK n σ a = (3 + 7, x)) (hf : pfree n a 52) (k : zz C E n nL (sP σ a 52 r) (pc + 3) L st) : zz C E n nL σ pc L (pv E.1.heap.size r :: .ref (E.1.heap.size + a) :: st) :=
  z_putP hC cf3 hd hk (k := 52) (by decide) (Or.inl q1637) (Or.inl rfl) (Or.inr ⟨rfl, rfl, rfl, q1637⟩) (Or.inr ⟨_, rfl⟩) rfl hf k
theorem p_X4_125i_c3 {C : ZC} {E : ZE} {cc : ByteArray} {n nL pc d a x : Nat} {ret : Option FieldType} {hh : List (Nat × Nat × Nat × Nat)} {σ : ZS} {L : List (Option Value)} {st : List Value} {r : ZR} (hC : Cx C E cc nL "RightTurnsModel" "<init>" ret hh d) (hd : decode cc pc = .ok (.putfield 125, 3)) (hk : kK n σ a = (3 + 7, x)) (hf : pfree n a 53) (k : zz C E n nL (sP σ a 53 r) (pc + 3) L st) : zz C E n nL σ pc L (pv E.1.heap.size r :: .ref (E.1.heap.size + a) :: st) :=
  z_putP hC cf3 hd hk (k := 53) (by decide) (Or.inl q1638) (Or.inl rfl) (Or.inr ⟨rfl, rfl, rfl, q1638⟩) (Or.inr ⟨_, rfl⟩) rfl hf k
theorem p_X4_128i_c3 {C : ZC} {E : ZE} {cc : ByteArray} {n nL pc d a x : Nat} {ret : Option FieldType} {hh : List (Nat × Nat × Nat × Nat)} {σ : ZS} {L : List (Option Value)} {st : List Value} {v : Int32} (hC : Cx C E cc nL "RightTurnsModel" "<init>" ret hh d) (hd : decode cc pc = .ok (.putfield 128, 3)) (hk : kK n σ a = (3 + 7, x)) (k : zz C E n nL (sI σ a 54 v) (pc + 3) L st) : zz C E n nL σ pc L (.int v :: .ref (E.1.heap.size + a) :: st) :=
  z_putI hC cf3 hd hk (k := 54) (by decide) (Or.inl q1639) (Or.inl rfl) (Or.inl rfl) rfl rfl rfl k
theorem p_X4_13i_c3 {C : ZC} {E : ZE} {cc : ByteArray} {n nL pc d a x : Nat} {ret : Option FieldType} {hh : List (Nat × Nat × Nat × Nat)} {σ : ZS} {L : List (Option Value)} {st : List Value} {r : ZR} (hC : Cx C E cc nL "RightTurnsModel" "<init>" ret hh d) (hd : decode cc pc = .ok (.putfield 13, 3)) (hk : kK n σ a = (3 + 7, x)) (hf : pfree n a 8) (k : zz C E n nL (sP σ a 8 r) (pc + 3) L st) : zz C E n nL σ pc L (pv E.1.heap.size r :: .ref (E.1.heap.size + a) :: st) :=
  z_putP hC cf3 hd hk (k := 8) (by decide) (Or.inl q1593) (Or.inl rfl) (Or.inr ⟨rfl, rfl, rfl, q1593⟩) (Or.inr ⟨_, rfl⟩) rfl hf k
theorem p_X4_17i_c3 {C : ZC} {E : ZE} {cc : ByteArray} {n nL pc d a x : Nat} {ret : Option FieldType} {hh : List (Nat × Nat × Nat × Nat)} {σ : ZS} {L : List (Option Value)} {st : List Value} {r : ZR} (hC : Cx C E cc nL "RightTurnsModel" "<init>" ret hh d) (hd : decode cc pc = .ok (.putfield 17, 3)) (hk : kK n σ a = (3 + 7, x)) (hf : pfree n a 9) (k : zz C E n nL (sP σ a 9 r) (pc + 3) L st) : zz C E n nL σ pc L (pv E.1.heap.size r :: .ref (E.1.heap.size + a) :: st) :=
  z_putP hC cf3 hd hk (k := 9) (by decide) (Or.inl q1594) (Or.inl rfl) (Or.inr ⟨rfl, rfl, rfl, q1594⟩) (Or.inr ⟨_, rfl⟩) rfl hf k
theorem p_X4_20i_c3 {C : ZC} {E : ZE} {cc : ByteArray} {n nL pc d a x : Nat} {ret : Option FieldType} {hh : List (Nat × Nat × Nat × Nat)} {σ : ZS} {L : List (Option Value)} {st : List Value} {r : ZR} (hC : Cx C E cc nL "RightTurnsModel" "<init>" ret hh d) (hd : decode cc pc = .ok (.putfield 20, 3)) (hk : kK n σ a = (3 + 7, x)) (hf : pfree n a 10) (k : zz C E n nL (sP σ a 10 r) (pc + 3) L st) : zz C E n nL σ pc L (pv E.1.heap.size r :: .ref (E.1.heap.size + a) :: st) :=
  z_putP hC cf3 hd hk (k := 10) (by decide) (Or.inl q1595) (Or.inl rfl) (Or.inr ⟨rfl, rfl, rfl, q1595⟩) (Or.inr ⟨_, rfl⟩) rfl hf k
theorem p_X4_25i_c3 {C : ZC} {E : ZE} {cc : ByteArray} {n nL pc d a x : Nat} {ret : Option FieldType} {hh : List (Nat × Nat × Nat × Nat)} {σ : ZS} {L : List (Option Value)} {st : List Value} {r : ZR} (hC : Cx C E cc nL "RightTurnsModel" "<init>" ret hh d) (hd : decode cc pc = .ok (.putfield 25, 3)) (hk : kK n σ a = (3 + 7, x)) (hf : pfree n a 11) (k : zz C E n nL (sP σ a 11 r) (pc + 3) L st) : zz C E n nL σ pc L (pv E.1.heap.size r :: .ref (E.1.heap.size + a) :: st) :=
  z_putP hC cf3 hd hk (k := 11) (by decide) (Or.inl q1596) (Or.inl rfl) (Or.inr ⟨rfl, rfl, rfl, q1596⟩) (Or.inr ⟨_, rfl⟩) rfl hf k
theorem p_X4_28i_c3 {C : ZC} {E : ZE} {cc : ByteArray} {n nL pc d a x : Nat} {ret : Option FieldType} {hh : List (Nat × Nat × Nat × Nat)} {σ : ZS} {L : List (Option Value)} {st : List Value} {r : ZR} (hC : Cx C E cc nL "RightTurnsModel" "<init>" ret hh d) (hd : decode cc pc = .ok (.putfield 28, 3)) (hk : kK n σ a = (3 + 7, x)) (hf : pfree n a 12) (k : zz C E n nL (sP σ a 12 r) (pc + 3) L st) : zz C E n nL σ pc L (pv E.1.heap.size r :: .ref (E.1.heap.size + a) :: st) :=
  z_putP hC cf3 hd hk (k := 12) (by decide) (Or.inl q1597) (Or.inl rfl) (Or.inr ⟨rfl, rfl, rfl, q1597⟩) (Or.inr ⟨_, rfl⟩) rfl hf k
theorem p_X4_31i_c3 {C : ZC} {E : ZE} {cc : ByteArray} {n nL pc d a x : Nat} {ret : Option FieldType} {hh : List (Nat × Nat × Nat × Nat)} {σ : ZS} {L : List (Option Value)} {st : List Value} {r : ZR} (hC : Cx C E cc nL "RightTurnsModel" "<init>" ret hh d) (hd : decode cc pc = .ok (.putfield 31, 3)) (hk : kK n σ a = (3 + 7, x)) (hf : pfree n a 13) (k : zz C E n nL (sP σ a 13 r) (pc + 3) L st) : zz C E n nL σ pc L (pv E.1.heap.size r :: .ref (E.1.heap.size + a) :: st) :=
  z_putP hC cf3 hd hk (k := 13) (by decide) (Or.inl q1598) (Or.inl rfl) (Or.inr ⟨rfl, rfl, rfl, q1598⟩) (Or.inr ⟨_, rfl⟩) rfl hf k
theorem p_X4_34i_c3 {C : ZC} {E : ZE} {cc : ByteArray} {n nL pc d a x : Nat} {ret : Option FieldType} {hh : List (Nat × Nat × Nat × Nat)} {σ : ZS} {L : List (Option Value)} {st : List Value} {r : ZR} (hC : Cx C E cc nL "RightTurnsModel" "<init>" ret hh d) (hd : decode cc pc = .ok (.putfield 34, 3)) (hk : kK n σ a = (3 + 7, x)) (hf : pfree n a 14) (k : zz C E n nL (sP σ a 14 r) (pc + 3) L st) : zz C E n nL σ pc L (pv E.1.heap.size r :: .ref (E.1.heap.size + a) :: st) :=
  z_putP hC cf3 hd hk (k := 14) (by decide) (Or.inl q1599) (Or.inl rfl) (Or.inr ⟨rfl, rfl, rfl, q1599⟩) (Or.inr ⟨_, rfl⟩) rfl hf k
theorem p_X4_37i_c3 {C : ZC} {E : ZE} {cc : ByteArray} {n nL pc d a x : Nat} {ret : Option FieldType} {hh : List (Nat × Nat × Nat × Nat)} {σ : ZS} {L : List (Option Value)} {st : List Value} {r : ZR} (hC : Cx C E cc nL "RightTurnsModel" "<init>" ret hh d) (hd : decode cc pc = .ok (.putfield 37, 3)) (hk : kK n σ a = (3 + 7, x)) (hf : pfree n a 15) (k : zz C E n nL (sP σ a 15 r) (pc + 3) L st) : zz C E n nL σ pc L (pv E.1.heap.size r :: .ref (E.1.heap.size + a) :: st) :=
  z_putP hC cf3 hd hk (k := 15) (by decide) (Or.inl q1600) (Or.inl rfl) (Or.inr ⟨rfl, rfl, rfl, q1600⟩) (Or.inr ⟨_, rfl⟩) rfl hf k
theorem p_X4_40i_c3 {C : ZC} {E : ZE} {cc : ByteArray} {n nL pc d a x : Nat} {ret : Option FieldType} {hh : List (Nat × Nat × Nat × Nat)} {σ : ZS} {L : List (Option Value)} {st : List Value} {r : ZR} (hC : Cx C E cc nL "RightTurnsModel" "<init>" ret hh d) (hd : decode cc pc = .ok (.putfield 40, 3)) (hk : kK n σ a = (3 + 7, x)) (hf : pfree n a 16) (k : zz C E n nL (sP σ a 16 r) (pc + 3) L st) : zz C E n nL σ pc L (pv E.1.heap.size r :: .ref (E.1.heap.size + a) :: st) :=
  z_putP hC cf3 hd hk (k := 16) (by decide) (Or.inl q1601) (Or.inl rfl) (Or.inr ⟨rfl, rfl, rfl, q1601⟩) (Or.inr ⟨_, rfl⟩) rfl hf k
theorem p_X4_43i_c3 {C : ZC} {E : ZE} {cc : ByteArray} {n nL pc d a x : Nat} {ret : Option FieldType} {hh : List (Nat × Nat × Nat × Nat)} {σ : ZS} {L : List (Option Value)} {st : List Value} {r : ZR} (hC : Cx C E cc nL "RightTurnsModel" "<init>" ret hh d) (hd : decode cc pc = .ok (.putfield 43, 3)) (hk : kK n σ a = (3 + 7, x)) (hf : pfree n a 17) (k : zz C E n nL (sP σ a 17 r) (pc + 3) L st) : zz C E n nL σ pc L (pv E.1.heap.size r :: .ref (E.1.heap.size + a) :: st) :=
  z_putP hC cf3 hd hk (k := 17) (by decide) (Or.inl q1602) (Or.inl rfl) (Or.inr ⟨rfl, rfl, rfl, q1602⟩) (Or.inr ⟨_, rfl⟩) rfl hf k
theorem p_X4_46i_c3 {C : ZC} {E : ZE} {cc : ByteArray} {n nL pc d a x : Nat} {ret : Option FieldType} {hh : List (Nat × Nat × Nat × Nat)} {σ : ZS} {L : List (Option Value)} {st : List Value} {r : ZR} (hC : Cx C E cc nL "RightTurnsModel" "<init>" ret hh d) (hd : decode cc pc = .ok (.putfield 46, 3)) (hk : kK n σ a = (3 + 7, x)) (hf : pfree n a 18) (k : zz C E n nL (sP σ a 18 r) (pc + 3) L st) : zz C E n nL σ pc L (pv E.1.heap.size r :: .ref (E.1.heap.size + a) :: st) :=
  z_putP hC cf3 hd hk (k := 18) (by decide) (Or.inl q1603) (Or.inl rfl) (Or.inr ⟨rfl, rfl, rfl, q1603⟩) (Or.inr ⟨_, rfl⟩) rfl hf k
theorem p_X4_49i_c3 {C : ZC} {E : ZE} {cc : ByteArray} {n nL pc d a x : Nat} {ret : Option FieldType} {hh : List (Nat × Nat × Nat × Nat)} {σ : ZS} {L : List (Option Value)} {st : List Value} {r : ZR} (hC : Cx C E cc nL "RightTurnsModel" "<init>" ret hh d) (hd : decode cc pc = .ok (.putfield 49, 3)) (hk : kK n σ a = (3 + 7, x)) (hf : pfree n a 20) (k : zz C E n nL (sP σ a 20 r) (pc + 3) L st) : zz C E n nL σ pc L (pv E.1.heap.size r :: .ref (E.1.heap.size + a) :: st) :=
  z_putP hC cf3 hd hk (k := 20) (by decide) (Or.inl q1605) (Or.inl rfl) (Or.inr ⟨rfl, rfl, rfl, q1605⟩) (Or.inr ⟨_, rfl⟩) rfl hf k
theorem p_X4_52i_c3 {C : ZC} {E : ZE} {cc : ByteArray} {n nL pc d a x : Nat} {ret : Option FieldType} {hh : List (Nat × Nat × Nat × Nat)} {σ : ZS} {L : List (Option Value)} {st : List Value} {r : ZR} (hC : Cx C E cc nL "RightTurnsModel" "<init>" ret hh d) (hd : decode cc pc = .ok (.putfield 52, 3)) (hk : kK n σ a = (3 + 7, x)) (hf : pfree n a 21) (k : zz C E n nL (sP σ a 21 r) (pc + 3) L st) : zz C E n nL σ pc L (pv E.1.heap.size r :: .ref (E.1.heap.size + a) :: st) :=
  z_putP hC cf3 hd hk (k := 21) (by decide) (Or.inl q1606) (Or.inl rfl) (Or.inr ⟨rfl, rfl, rfl, q1606⟩) (Or.inr ⟨_, rfl⟩) rfl hf k
theorem p_X4_55i_c3 {C : ZC} {E : ZE} {cc : ByteArray} {n nL pc d a x : Nat} {ret : Option FieldType} {hh : List (Nat × Nat × Nat × Nat)} {σ : ZS} {L : List (Option Value)} {st : List Value} {r : ZR} (hC : Cx C E cc nL "RightTurnsModel" "<init>" ret hh d) (hd : decode cc pc = .ok (.putfield 55, 3)) (hk : kK n σ a = (3 + 7, x)) (hf : pfree n a 22) (k : zz C E n nL (sP σ a 22 r) (pc + 3) L st) : zz C E n nL σ pc L (pv E.1.heap.size r :: .ref (E.1.heap.size + a) :: st) :=
  z_putP hC cf3 hd hk (k := 22) (by decide) (Or.inl q1607) (Or.inl rfl) (Or.inr ⟨rfl, rfl, rfl, q1607⟩) (Or.inr ⟨_, rfl⟩) rfl hf k
theorem p_X4_58i_c3 {C : ZC} {E : ZE} {cc : ByteArray} {n nL pc d a x : Nat} {ret : Option FieldType} {hh : List (Nat × Nat × Nat × Nat)} {σ : ZS} {L : List (Option Value)} {st : List Value} {r : ZR} (hC : Cx C E cc nL "RightTurnsModel" "<init>" ret hh d) (hd : decode cc pc = .ok (.putfield 58, 3)) (hk : kK n σ a = (3 + 7, x)) (hf : pfree n a 23) (k : zz C E n nL (sP σ a 23 r) (pc + 3) L st) : zz C E n nL σ pc L (pv E.1.heap.size r :: .ref (E.1.heap.size + a) :: st) :=
  z_putP hC cf3 hd hk (k := 23) (by decide) (Or.inl q1608) (Or.inl rfl) (Or.inr ⟨rfl, rfl, rfl, q1608⟩) (Or.inr ⟨_, rfl⟩) rfl hf k
theorem p_X4_61i_c3 {C : ZC} {E : ZE} {cc : ByteArray} {n nL pc d a x : Nat} {ret : Option FieldType} {hh : List (Nat × Nat × Nat × Nat)} {σ : ZS} {L : List (Option Value)} {st : List Value} {r : ZR} (hC : Cx C E cc nL "RightTurnsModel" "<init>" ret hh d) (hd : decode cc pc = .ok (.putfield 61, 3)) (hk : kK n σ a = (3 + 7, x)) (hf : pfree n a 24) (k : zz C E n nL (sP σ a 24 r) (pc + 3) L st) : zz C E n nL σ pc L (pv E.1.heap.size r :: .ref (E.1.heap.size + a) :: st) :=
  z_putP hC cf3 hd hk (k := 24) (by decide) (Or.inl q1609) (Or.inl rfl) (Or.inr ⟨rfl, rfl, rfl, q1609⟩) (Or.inr ⟨_, rfl⟩) rfl hf k
theorem p_X4_65i_c3 {C : ZC} {E : ZE} {cc : ByteArray} {n nL pc d a x : Nat} {ret : Option FieldType} {hh : List (Nat × Nat × Nat × Nat)} {σ : ZS} {L : List (Option Value)} {st : List Value} {r : ZR} (hC : Cx C E cc nL "RightTurnsModel" "<init>" ret hh d) (hd : decode cc pc = .ok (.putfield 65, 3)) (hk : kK n σ a = (3 + 7, x)) (hf : pfree n a 25) (k : zz C E n nL (sP σ a 25 r) (pc + 3) L st) : zz C E n nL σ pc L (pv E.1.heap.size r :: .ref (E.1.heap.size + a) :: st) :=
  z_putP hC cf3 hd hk (k := 25) (by decide) (Or.inl q1610) (Or.inl rfl) (Or.inr ⟨rfl, rfl, rfl, q1610⟩) (Or.inr ⟨_, rfl⟩) rfl hf k
theorem p_X4_68i_c3 {C : ZC} {E : ZE} {cc : ByteArray} {n nL pc d a x : Nat} {ret : Option FieldType} {hh : List (Nat × Nat × Nat × Nat)} {σ : ZS} {L : List (Option Value)} {st : List Value} {r : ZR} (hC : Cx C E cc nL "RightTurnsModel" "<init>" ret hh d) (hd : decode cc pc = .ok (.putfield 68, 3)) (hk : kK n σ a = (3 + 7, x)) (hf : pfree n a 26) (k : zz C E n nL (sP σ a 26 r) (pc + 3) L st) : zz C E n nL σ pc L (pv E.1.heap.size r :: .ref (E.1.heap.size + a) :: st) :=
  z_putP hC cf3 hd hk (k := 26) (by decide) (Or.inl q1611) (Or.inl rfl) (Or.inr ⟨rfl, rfl, rfl, q1611⟩) (Or.inr ⟨_, rfl⟩) rfl hf k
theorem p_X4_71i_c3 {C : ZC} {E : ZE} {cc : ByteArray} {n nL pc d a x : Nat} {ret : Option FieldType} {hh : List (Nat × Nat × Nat × Nat)} {σ : ZS} {L : List (Option Value)} {st : List Value} {r : ZR} (hC : Cx C E cc nL "RightTurnsModel" "<init>" ret hh d) (hd : decode cc pc = .ok (.putfield 71, 3)) (hk : kK n σ a = (3 + 7, x)) (hf : pfree n a 30) (k : zz C E n nL (sP σ a 30 r) (pc + 3) L st) : zz C E n nL σ pc L (pv E.1.heap.size r :: .ref (E.1.heap.size + a) :: st) :=
  z_putP hC cf3 hd hk (k := 30) (by decide) (Or.inl q1615) (Or.inl rfl) (Or.inr ⟨rfl, rfl, rfl, q1615⟩) (Or.inr ⟨_, rfl⟩) rfl hf k
theorem p_X4_74i_c3 {C : ZC} {E : ZE} {cc : ByteArray} {n nL pc d a x : Nat} {ret : Option FieldType} {hh : List (Nat × Nat × Nat × Nat)} {σ : ZS} {L : List (Option Value)} {st : List Value} {r : ZR} (hC : Cx C E cc nL "RightTurnsModel" "<init>" ret hh d) (hd : decode cc pc = .ok (.putfield 74, 3)) (hk : kK n σ a = (3 + 7, x)) (hf : pfree n a 31) (k : zz C E n nL (sP σ a 31 r) (pc + 3) L st) : zz C E n nL σ pc L (pv E.1.heap.size r :: .ref (E.1.heap.size + a) :: st) :=
  z_putP hC cf3 hd hk (k := 31) (by decide) (Or.inl q1616) (Or.inl rfl) (Or.inr ⟨rfl, rfl, rfl, q1616⟩) (Or.inr ⟨_, rfl⟩) rfl hf k
theorem p_X4_77i_c3 {C : ZC} {E : ZE} {cc : ByteArray} {n nL pc d a x : Nat} {ret : Option FieldType} {hh : List (Nat × Nat × Nat × Nat)} {σ : ZS} {L : List (Option Value)} {st : List Value} {r : ZR} (hC : Cx C E cc nL "RightTurnsModel" "<init>" ret hh d) (hd : decode cc pc = .ok (.putfield 77, 3)) (hk : kK n σ a = (3 + 7, x)) (hf : pfree n a 32) (k : zz C E n nL (sP σ a 32 r) (pc + 3) L st) : zz C E n nL σ pc L (pv E.1.heap.size r :: .ref (E.1.heap.size + a) :: st) :=
  z_putP hC cf3 hd hk (k := 32) (by decide) (Or.inl q1617) (Or.inl rfl) (Or.inr ⟨rfl, rfl, rfl, q1617⟩) (Or.inr ⟨_, rfl⟩) rfl hf k
theorem p_X4_80i_c3 {C : ZC} {E : ZE} {cc : ByteArray} {n nL pc d a x : Nat} {ret : Option FieldType} {hh : List (Nat × Nat × Nat × Nat)} {σ : ZS} {L : List (Option Value)} {st : List Value} {r : ZR} (hC : Cx C E cc nL "RightTurnsModel" "<init>" ret hh d) (hd : decode cc pc = .ok (.putfield 80, 3)) (hk : kK n σ a = (3 + 7, x)) (hf : pfree n a 36) (k : zz C E n nL (sP σ a 36 r) (pc + 3) L st) : zz C E n nL σ pc L (pv E.1.heap.size r :: .ref (E.1.heap.size + a) :: st) :=
  z_putP hC cf3 hd hk (k := 36) (by decide) (Or.inl q1621) (Or.inl rfl) (Or.inr ⟨rfl, rfl, rfl, q1621⟩) (Or.inr ⟨_, rfl⟩) rfl hf k
theorem p_X4_83i_c3 {C : ZC} {E : ZE} {cc : ByteArray} {n nL pc d a x : Nat} {ret : Option FieldType} {hh : List (Nat × Nat × Nat × Nat)} {σ : ZS} {L : List (Option Value)} {st : List Value} {r : ZR} (hC : Cx C E cc nL "RightTurnsModel" "<init>" ret hh d) (hd : decode cc pc = .ok (.putfield 83, 3)) (hk : kK n σ a = (3 + 7, x)) (hf : pfree n a 37) (k : zz C E n nL (sP σ a 37 r) (pc + 3) L st) : zz C E n nL σ pc L (pv E.1.heap.size r :: .ref (E.1.heap.size + a) :: st) :=
  z_putP hC cf3 hd hk (k := 37) (by decide) (Or.inl q1622) (Or.inl rfl) (Or.inr ⟨rfl, rfl, rfl, q1622⟩) (Or.inr ⟨_, rfl⟩) rfl hf k
theorem p_X4_86i_c3 {C : ZC} {E : ZE} {cc : ByteArray} {n nL pc d a x : Nat} {ret : Option FieldType} {hh : List (Nat × Nat × Nat × Nat)} {σ : ZS} {L : List (Option Value)} {st : List Value} {r : ZR} (hC : Cx C E cc nL "RightTurnsModel" "<init>" ret hh d) (hd : decode cc pc = .ok (.putfield 86, 3)) (hk : kK n σ a = (3 + 7, x)) (hf : pfree n a 38) (k : zz C E n nL (sP σ a 38 r) (pc + 3) L st) : zz C E n nL σ pc L (pv E.1.heap.size r :: .ref (E.1.heap.size + a) :: st) :=
  z_putP hC cf3 hd hk (k := 38) (by decide) (Or.inl q1623) (Or.inl rfl) (Or.inr ⟨rfl, rfl, rfl, q1623⟩) (Or.inr ⟨_, rfl⟩) rfl hf k
theorem p_X4_89i_c3 {C : ZC} {E : ZE} {cc : ByteArray} {n nL pc d a x : Nat} {ret : Option FieldType} {hh : List (Nat × Nat × Nat × Nat)} {σ : ZS} {L : List (Option Value)} {st : List Value} {r : ZR} (hC : Cx C E cc nL "RightTurnsModel" "<init>" ret hh d) (hd : decode cc pc = .ok (.putfield 89, 3)) (hk : kK n σ a = (3 + 7, x)) (hf : pfree n a 39) (k : zz C E n nL (sP σ a 39 r) (pc + 3) L st) : zz C E n nL σ pc L (pv E.1.heap.size r :: .ref (E.1.heap.size + a) :: st) :=
  z_putP hC cf3 hd hk (k := 39) (by decide) (Or.inl q1624) (Or.inl rfl) (Or.inr ⟨rfl, rfl, rfl, q1624⟩) (Or.inr ⟨_, rfl⟩) rfl hf k
theorem p_X4_9i_c3 {C : ZC} {E : ZE} {cc : ByteArray} {n nL pc d a x : Nat} {ret : Option FieldType} {hh : List (Nat × Nat × Nat × Nat)} {σ : ZS} {L : List (Option Value)} {st : List Value} {v : Int32} (hC : Cx C E cc nL "RightTurnsModel" "<init>" ret hh d) (hd : decode cc pc = .ok (.putfield 9, 3)) (hk : kK n σ a = (3 + 7, x)) (k : zz C E n nL (sI σ a 3 v) (pc + 3) L st) : zz C E n nL σ pc L (.int v :: .ref (E.1.heap.size + a) :: st) :=
  z_putI hC cf3 hd hk (k := 3) (by decide) (Or.inl q1588) (Or.inl rfl) (Or.inl rfl) rfl rfl rfl k
theorem p_X4_92i_c3 {C : ZC} {E : ZE} {cc : ByteArray} {n nL pc d a x : Nat} {ret : Option FieldType} {hh : List (Nat × Nat × Nat × Nat)} {σ : ZS} {L : List (Option Value)} {st : List Value} {r : ZR} (hC : Cx C E cc nL "RightTurnsModel" "<init>" ret hh d) (hd : decode cc pc = .ok (.putfield 92, 3)) (hk : kK n σ a = (3 + 7, x)) (hf : pfree n a 40) (k : zz C E n nL (sP σ a 40 r) (pc + 3) L st) : zz C E n nL σ pc L (pv E.1.heap.size r :: .ref (E.1.heap.size + a) :: st) :=
  z_putP hC cf3 hd hk (k := 40) (by decide) (Or.inl q1625) (Or.inl rfl) (Or.inr ⟨rfl, rfl, rfl, q1625⟩) (Or.inr ⟨_, rfl⟩) rfl hf k
theorem p_X4_95i_c3 {C : ZC} {E : ZE} {cc : ByteArray} {n nL pc d a x : Nat} {ret : Option FieldType} {hh : List (Nat × Nat × Nat × Nat)} {σ : ZS} {L : List (Option Value)} {st : List Value} {r : ZR} (hC : Cx C E cc nL "RightTurnsModel" "<init>" ret hh d) (hd : decode cc pc = .ok (.putfield 95, 3)) (hk : kK n σ a = (3 + 7, x)) (hf : pfree n a 41) (k : zz C E n nL (sP σ a 41 r) (pc + 3) L st) : zz C E n nL σ pc L (pv E.1.heap.size r :: .ref (E.1.heap.size + a) :: st) :=
  z_putP hC cf3 hd hk (k := 41) (by decide) (Or.inl q1626) (Or.inl rfl) (Or.inr ⟨rfl, rfl, rfl, q1626⟩) (Or.inr ⟨_, rfl⟩) rfl hf k
theorem p_X4_98i_c3 {C : ZC} {E : ZE} {cc : ByteArray} {n nL pc d a x : Nat} {ret : Option FieldType} {hh : List (Nat × Nat × Nat × Nat)} {σ : ZS} {L : List (Option Value)} {st : List Value} {r : ZR} (hC : Cx C E cc nL "RightTurnsModel" "<init>" ret hh d) (hd : decode cc pc = .ok (.putfield 98, 3)) (hk : kK n σ a = (3 + 7, x)) (hf : pfree n a 42) (k : zz C E n nL (sP σ a 42 r) (pc + 3) L st) : zz C E n nL σ pc L (pv E.1.heap.size r :: .ref (E.1.heap.size + a) :: st) :=
  z_putP hC cf3 hd hk (k := 42) (by decide) (Or.inl q1627) (Or.inl rfl) (Or.inr ⟨rfl, rfl, rfl, q1627⟩) (Or.inr ⟨_, rfl⟩) rfl hf k
def wp_X4_init (n : Nat) (σ : ZS) (a0 : Nat) (Ret : ZS → Prop) : Prop :=
    (∃ n2, kK n σ a0 = (10, n2)) ∧ (∀ σ3 : ZS, σ3 = sI σ a0 3 (-1) → ((n ≤ zt σ3 ∧ zt σ3 + 1 ≤ NB ∧ zn σ3 + 500 ≤ SB) ∧ (∀ σ5 : ZS, σ5 = sA σ3 (0, 500) 500 → ((∃ n7, kK n σ5 a0 = (10, n7)) ∧ (n ≤ a0 ∧ (∀ σ9 : ZS, σ9 = sP σ5 a0 8 (some (.inl (zt σ3))) → ((n ≤ zt σ9 ∧ zt σ9 + 1 ≤ NB ∧ zn σ9 + 4 ≤ SB) ∧ (∀ σ11 : ZS, σ11 = sA σ9 (0, 4) 4 → ((∃ n13, kK n σ11 a0 = (10, n13)) ∧ (n ≤ a0 ∧ (∀ σ15 : ZS, σ15 = sP σ11 a0 9 (some (.inl (zt σ9))) → ((n ≤ zt σ15 ∧ zt σ15 + 1 ≤ NB ∧ zn σ15 + 4 ≤ SB) ∧ (∀ σ17 : ZS, σ17 = sA σ15 (0, 4) 4 → ((∃ n19, kK n σ17 a0 = (10, n19)) ∧ (n ≤ a0 ∧ (∀ σ21 : ZS, σ21 = sP σ17 a0 10 (some (.inl (zt σ15))) → ((n ≤ zt σ21 ∧ zt σ21 + 1 + 16 ≤ NB ∧ zn σ21 + 16 + 16 * 2 ≤ SB) ∧ (∀ σ23 : ZS, σ23 = mA σ21 16 2 16 → ((∃ n25, kK n σ23 a0 = (10, n25)) ∧ (n ≤ a0 ∧ (∀ σ27 : ZS, σ27 = sP σ23 a0 11 (some (.inl (zt σ21))) → ((n ≤ zt σ27 ∧ zt σ27 + 1 + 16 ≤ NB ∧ zn σ27 + 16 + 16 * 2 ≤ SB) ∧ (∀ σ29 : ZS, σ29 = mA σ27 16 2 16 → ((∃ n31, kK n σ29 a0 = (10, n31)) ∧ (n ≤ a0 ∧ (∀ σ33 : ZS, σ33 = sP σ29 a0 12 (some (.inl (zt σ27))) → ((n ≤ zt σ33 ∧ zt σ33 + 1 + 24 ≤ NB ∧ zn σ33 + 24 + 24 * 4 ≤ SB) ∧ (∀ σ35 : ZS, σ35 = mA σ33 24 4 24 → ((∃ n37, kK n σ35 a0 = (10, n37)) ∧ (n ≤ a0 ∧ (∀ σ39 : ZS, σ39 = sP σ35 a0 13 (some (.inl (zt σ33))) → ((n ≤ zt σ39 ∧ zt σ39 + 1 + 24 ≤ NB ∧ zn σ39 + 24 + 24 * 4 ≤ SB) ∧ (∀ σ41 : ZS, σ41 = mA σ39 24 4 24 → ((∃ n43, kK n σ41 a0 = (10, n43)) ∧ (n ≤ a0 ∧ (∀ σ45 : ZS, σ45 = sP σ41 a0 14 (some (.inl (zt σ39))) → ((n ≤ zt σ45 ∧ zt σ45 + 1 + 12 ≤ NB ∧ zn σ45 + 12 + 12 * 3 ≤ SB) ∧ (∀ σ47 : ZS, σ47 = mA σ45 12 3 12 → ((∃ n49, kK n σ47 a0 = (10, n49)) ∧ (n ≤ a0 ∧ (∀ σ51 : ZS, σ51 = sP σ47 a0 15 (some (.inl (zt σ45))) → ((n ≤ zt σ51 ∧ zt σ51 + 1 + 12 ≤ NB ∧ zn σ51 + 12 + 12 * 3 ≤ SB) ∧ (∀ σ53 : ZS, σ53 = mA σ51 12 3 12 → ((∃ n55, kK n σ53 a0 = (10, n55)) ∧ (n ≤ a0 ∧ (∀ σ57 : ZS, σ57 = sP σ53 a0 16 (some (.inl (zt σ51))) → ((n ≤ zt σ57 ∧ zt σ57 + 1 ≤ NB ∧ zn σ57 + 24 ≤ SB) ∧ (∀ σ59 : ZS, σ59 = sA σ57 (0, 24) 24 → ((∃ n61, kK n σ59 a0 = (10, n61)) ∧ (n ≤ a0 ∧ (∀ σ63 : ZS, σ63 = sP σ59 a0 17 (some (.inl (zt σ57))) → ((n ≤ zt σ63 ∧ zt σ63 + 1 ≤ NB ∧ zn σ63 + 24 ≤ SB) ∧ (∀ σ65 : ZS, σ65 = sA σ63 (0, 24) 24 → ((∃ n67, kK n σ65 a0 = (10, n67)) ∧ (n ≤ a0 ∧ (∀ σ69 : ZS, σ69 = sP σ65 a0 18 (some (.inl (zt σ63))) → ((n ≤ zt σ69 ∧ zt σ69 + 1 + 201 ≤ NB ∧ zn σ69 + 201 + 201 * 24 ≤ SB) ∧ (∀ σ71 : ZS, σ71 = mA σ69 201 24 201 → ((∃ n73, kK n σ71 a0 = (10, n73)) ∧ (n ≤ a0 ∧ (∀ σ75 : ZS, σ75 = sP σ71 a0 20 (some (.inl (zt σ69))) → ((n ≤ zt σ75 ∧ zt σ75 + 1 + 201 ≤ NB ∧ zn σ75 + 201 + 201 * 24 ≤ SB) ∧ (∀ σ77 : ZS, σ77 = mA σ75 201 24 201 → ((∃ n79, kK n σ77 a0 = (10, n79)) ∧ (n ≤ a0 ∧ (∀ σ81 : ZS, σ81 = sP σ77 a0 21 (some (.inl (zt σ75))) → ((n ≤ zt σ81 ∧ zt σ81 + 1 ≤ NB ∧ zn σ81 + 24 ≤ SB) ∧ (∀ σ83 : ZS, σ83 = sA σ81 (0, 24) 24 → ((∃ n85, kK n σ83 a0 = (10, n85)) ∧ (n ≤ a0 ∧ (∀ σ87 : ZS, σ87 = sP σ83 a0 22 (some (.inl (zt σ81))) → ((n ≤ zt σ87 ∧ zt σ87 + 1 ≤ NB ∧ zn σ87 + 24 ≤ SB) ∧ (∀ σ89 : ZS, σ89 = sA σ87 (0, 24) 24 → ((∃ n91, kK n σ89 a0 = (10, n91)) ∧ (n ≤ a0 ∧ (∀ σ93 : ZS, σ93 = sP σ89 a0 23 (some (.inl (zt σ87))) → ((n ≤ zt σ93 ∧ zt σ93 + 1 ≤ NB ∧ zn σ93 + 48 ≤ SB) ∧ (∀ σ95 : ZS, σ95 = sA σ93 (1, 48) 48 → ((∃ n97, kK n σ95 a0 = (10, n97)) ∧ (n ≤ a0 ∧ (∀ σ99 : ZS, σ99 = sP σ95 a0 24 (some (.inl (zt σ93))) → ((n ≤ zt σ99 ∧ zt σ99 + 1 ≤ NB ∧ zn σ99 + 48 ≤ SB) ∧ (∀ σ101 : ZS, σ101 = sA σ99 (1, 48) 48 → ((∃ n103, kK n σ101 a0 = (10, n103)) ∧ (n ≤ a0 ∧ (∀ σ105 : ZS, σ105 = sP σ101 a0 25 (some (.inl (zt σ99))) → ((n ≤ zt σ105 ∧ zt σ105 + 1 ≤ NB ∧ zn σ105 + 48 ≤ SB) ∧ (∀ σ107 : ZS, σ107 = sA σ105 (0, 48) 48 → ((∃ n109, kK n σ107 a0 = (10, n109)) ∧ (n ≤ a0 ∧ (∀ σ111 : ZS, σ111 = sP σ107 a0 26 (some (.inl (zt σ105))) → ((n ≤ zt σ111 ∧ zt σ111 + 1 + 576 ≤ NB ∧ zn σ111 + 576 + 576 * 2 ≤ SB) ∧ (∀ σ113 : ZS, σ113 = mA σ111 576 2 576 → ((∃ n115, kK n σ113 a0 = (10, n115)) ∧ (n ≤ a0 ∧ (∀ σ117 : ZS, σ117 = sP σ113 a0 30 (some (.inl (zt σ111))) → ((n ≤ zt σ117 ∧ zt σ117 + 1 ≤ NB ∧ zn σ117 + 12 ≤ SB) ∧ (∀ σ119 : ZS, σ119 = sA σ117 (0, 12) 12 → ((∃ n121, kK n σ119 a0 = (10, n121)) ∧ (n ≤ a0 ∧ (∀ σ123 : ZS, σ123 = sP σ119 a0 31 (some (.inl (zt σ117))) → ((n ≤ zt σ123 ∧ zt σ123 + 1 ≤ NB ∧ zn σ123 + 14 ≤ SB) ∧ (∀ σ125 : ZS, σ125 = sA σ123 (0, 14) 14 → ((∃ n127, kK n σ125 a0 = (10, n127)) ∧ (n ≤ a0 ∧ (∀ σ129 : ZS, σ129 = sP σ125 a0 32 (some (.inl (zt σ123))) → ((n ≤ zt σ129 ∧ zt σ129 + 1 + 12 ≤ NB ∧ zn σ129 + 12 + 12 * 48 ≤ SB) ∧ (∀ σ131 : ZS, σ131 = mA σ129 12 48 12 → ((∃ n133, kK n σ131 a0 = (10, n133)) ∧ (n ≤ a0 ∧ (∀ σ135 : ZS, σ135 = sP σ131 a0 36 (some (.inl (zt σ129))) → ((n ≤ zt σ135 ∧ zt σ135 + 1 ≤ NB ∧ zn σ135 + 12 ≤ SB) ∧ (∀ σ137 : ZS, σ137 = sA σ135 (0, 12) 12 → ((∃ n139, kK n σ137 a0 = (10, n139)) ∧ (n ≤ a0 ∧ (∀ σ141 : ZS, σ141 = sP σ137 a0 37 (some (.inl (zt σ135))) → ((n ≤ zt σ141 ∧ zt σ141 + 1 ≤ NB ∧ zn σ141 + 12 ≤ SB) ∧ (∀ σ143 : ZS, σ143 = sA σ141 (0, 12) 12 → ((∃ n145, kK n σ143 a0 = (10, n145)) ∧ (n ≤ a0 ∧ (∀ σ147 : ZS, σ147 = sP σ143 a0 38 (some (.inl (zt σ141))) → ((n ≤ zt σ147 ∧ zt σ147 + 1 ≤ NB ∧ zn σ147 + 12 ≤ SB) ∧ (∀ σ149 : ZS, σ149 = sA σ147 (0, 12) 12 → ((∃ n151, kK n σ149 a0 = (10, n151)) ∧ (n ≤ a0 ∧ (∀ σ153 : ZS, σ153 = sP σ149 a0 39 (some (.inl (zt σ147))) → ((n ≤ zt σ153 ∧ zt σ153 + 1 ≤ NB ∧ zn σ153 + 12 ≤ SB) ∧ (∀ σ155 : ZS, σ155 = sA σ153 (0, 12) 12 → ((∃ n157, kK n σ155 a0 = (10, n157)) ∧ (n ≤ a0 ∧ (∀ σ159 : ZS, σ159 = sP σ155 a0 40 (some (.inl (zt σ153))) → ((n ≤ zt σ159 ∧ zt σ159 + 1 ≤ NB ∧ zn σ159 + 12 ≤ SB) ∧ (∀ σ161 : ZS, σ161 = sA σ159 (0, 12) 12 → ((∃ n163, kK n σ161 a0 = (10, n163)) ∧ (n ≤ a0 ∧ (∀ σ165 : ZS, σ165 = sP σ161 a0 41 (some (.inl (zt σ159))) → ((n ≤ zt σ165 ∧ zt σ165 + 1 ≤ NB ∧ zn σ165 + 12 ≤ SB) ∧ (∀ σ167 : ZS, σ167 = sA σ165 (0, 12) 12 → ((∃ n169, kK n σ167 a0 = (10, n169)) ∧ (n ≤ a0 ∧ (∀ σ171 : ZS, σ171 = sP σ167 a0 42 (some (.inl (zt σ165))) → ((n ≤ zt σ171 ∧ zt σ171 + 1 + 3 ≤ NB ∧ zn σ171 + 3 + 3 * 10000 ≤ SB) ∧ (∀ σ173 : ZS, σ173 = mA σ171 3 10000 3 → ((∃ n175, kK n σ173 a0 = (10, n175)) ∧ (n ≤ a0 ∧ (∀ σ177 : ZS, σ177 = sP σ173 a0 44 (some (.inl (zt σ171))) → ((n ≤ zt σ177 ∧ zt σ177 + 1 + 48 ≤ NB ∧ zn σ177 + 48 + 48 * 1024 ≤ SB) ∧ (∀ σ179 : ZS, σ179 = mA σ177 48 1024 48 → ((∃ n181, kK n σ179 a0 = (10, n181)) ∧ (n ≤ a0 ∧ (∀ σ183 : ZS, σ183 = sP σ179 a0 46 (some (.inl (zt σ177))) → ((n ≤ zt σ183 ∧ zt σ183 + 1 ≤ NB ∧ zn σ183 + 11 ≤ SB) ∧ (∀ σ185 : ZS, σ185 = sA σ183 (0, 11) 11 → ((∃ n187, kK n σ185 a0 = (10, n187)) ∧ (n ≤ a0 ∧ (∀ σ189 : ZS, σ189 = sP σ185 a0 47 (some (.inl (zt σ183))) → ((n ≤ zt σ189 ∧ zt σ189 + 1 + 11 ≤ NB ∧ zn σ189 + 11 + 11 * 11 ≤ SB) ∧ (∀ σ191 : ZS, σ191 = mA σ189 11 11 11 → ((∃ n193, kK n σ191 a0 = (10, n193)) ∧ (n ≤ a0 ∧ (∀ σ195 : ZS, σ195 = sP σ191 a0 48 (some (.inl (zt σ189))) → ((n ≤ zt σ195 ∧ zt σ195 + 1 ≤ NB ∧ zn σ195 + 2048 ≤ SB) ∧ (∀ σ197 : ZS, σ197 = sA σ195 (0, 2048) 2048 → ((∃ n199, kK n σ197 a0 = (10, n199)) ∧ (n ≤ a0 ∧ (∀ σ201 : ZS, σ201 = sP σ197 a0 49 (some (.inl (zt σ195))) → ((n ≤ zt σ201 ∧ zt σ201 + 1 ≤ NB ∧ zn σ201 + 48 ≤ SB) ∧ (∀ σ203 : ZS, σ203 = sA σ201 (0, 48) 48 → ((∃ n205, kK n σ203 a0 = (10, n205)) ∧ (n ≤ a0 ∧ (∀ σ207 : ZS, σ207 = sP σ203 a0 50 (some (.inl (zt σ201))) → ((n ≤ zt σ207 ∧ zt σ207 + 1 ≤ NB ∧ zn σ207 + 48 ≤ SB) ∧ (∀ σ209 : ZS, σ209 = sA σ207 (0, 48) 48 → ((∃ n211, kK n σ209 a0 = (10, n211)) ∧ (n ≤ a0 ∧ (∀ σ213 : ZS, σ213 = sP σ209 a0 51 (some (.inl (zt σ207))) → ((n ≤ zt σ213 ∧ zt σ213 + 1 ≤ NB ∧ zn σ213 + 48 ≤ SB) ∧ (∀ σ215 : ZS, σ215 = sA σ213 (1, 48) 48 → ((∃ n217, kK n σ215 a0 = (10, n217)) ∧ (n ≤ a0 ∧ (∀ σ219 : ZS, σ219 = sP σ215 a0 52 (some (.inl (zt σ213))) → ((n ≤ zt σ219 ∧ zt σ219 + 1 ≤ NB ∧ zn σ219 + 48 ≤ SB) ∧ (∀ σ221 : ZS, σ221 = sA σ219 (1, 48) 48 → ((∃ n223, kK n σ221 a0 = (10, n223)) ∧ (n ≤ a0 ∧ (∀ σ225 : ZS, σ225 = sP σ221 a0 53 (some (.inl (zt σ219))) → ((∃ n227, kK n σ225 a0 = (10, n227)) ∧ (∀ σ228 : ZS, σ228 = sI σ225 a0 54 (-1) → (Ret σ228)))))))))))))))))))))))))))))))))))))))))))))))))))))))))))))))))))))))))))))))))))))))))))))))))))))))))))))))))))))))))))))))))))))))))))))))))))))))))))))))))))))))))))))))))))))))))))))
set_option maxHeartbeats 4000000 in
theorem mz_X4_init {l : Launch} {E : ZE} (hE : EOK E) {n : Nat} {σ : ZS} {a0 : Nat} {Ret : ZS → Prop} (hV : wp_X4_init n σ a0 Ret) : MZ l E n yX4_init (ws_ yX4_init cX4_init 1 none) 1 σ [.ref (E.1.heap.size + a0)] (rV Ret) := by
  refine MZ.start (L := [some (.ref (E.1.heap.size + a0))]) hE (by decide) (Nat.le_of_ble_eq_true rfl) rfl fun C hCl hQo hC => ?_
  replace hC : Cx C E cX4_init 1 "RightTurnsModel" "<init>" none [] 1 := hC
  unfold wp_X4_init at hV
  refine z_aload_n hC dX4_init_0 rfl rfl ?_
  refine z_objInit hC dX4_init_1 q1582 q154 qobj (by decide) (Nat.le_of_ble_eq_true rfl) ?_
  refine z_aload_n hC dX4_init_4 rfl rfl ?_
  refine z_iconst (v := (-1)) hC dX4_init_5 rfl ?_
  obtain ⟨⟨n2, h1⟩, hV⟩ := hV
  refine p_X4_9i_c3 hC dX4_init_6 h1 ?_
  obtain ⟨σ3, e_σ3⟩ : ∃ z : ZS, z = sI σ a0 3 (-1) := ⟨_, rfl⟩
  replace hV := hV _ e_σ3
  rw [← e_σ3]
  refine z_aload_n hC dX4_init_9 rfl rfl ?_
  refine z_sipush (v := 500) hC dX4_init_10 rfl ?_
  obtain ⟨h4, hV⟩ := hV
  refine z_newa0 (len := 500) hC dX4_init_13 (by decide) rfl h4.1 h4.2.1 h4.2.2 ?_
  obtain ⟨σ5, e_σ5⟩ : ∃ z : ZS, z = sA σ3 (0, 500) 500 := ⟨_, rfl⟩
  replace hV := hV _ e_σ5
  rw [← e_σ5]
  obtain ⟨⟨n7, h6⟩, hV⟩ := hV
  obtain ⟨h8, hV⟩ := hV
  refine p_X4_13i_c3 (r := (some (.inl (zt σ3)))) hC dX4_init_15 h6 (pf_dyn h8) ?_
  obtain ⟨σ9, e_σ9⟩ : ∃ z : ZS, z = sP σ5 a0 8 (some (.inl (zt σ3))) := ⟨_, rfl⟩
  replace hV := hV _ e_σ9
  rw [← e_σ9]
  refine z_aload_n hC dX4_init_18 rfl rfl ?_
  refine z_iconst (v := 4) hC dX4_init_19 rfl ?_
  obtain ⟨h10, hV⟩ := hV
  refine z_newa0 (len := 4) hC dX4_init_20 (by decide) rfl h10.1 h10.2.1 h10.2.2 ?_
  obtain ⟨σ11, e_σ11⟩ : ∃ z : ZS, z = sA σ9 (0, 4) 4 := ⟨_, rfl⟩
  replace hV := hV _ e_σ11
  rw [← e_σ11]
  obtain ⟨⟨n13, h12⟩, hV⟩ := hV
  obtain ⟨h14, hV⟩ := hV
  refine p_X4_17i_c3 (r := (some (.inl (zt σ9)))) hC dX4_init_22 h12 (pf_dyn h14) ?_
  obtain ⟨σ15, e_σ15⟩ : ∃ z : ZS, z = sP σ11 a0 9 (some (.inl (zt σ9))) := ⟨_, rfl⟩
  replace hV := hV _ e_σ15
  rw [← e_σ15]
  refine z_aload_n hC dX4_init_25 rfl rfl ?_
  refine z_iconst (v := 4) hC dX4_init_26 rfl ?_
  obtain ⟨h16, hV⟩ := hV
  refine z_newa0 (len := 4) hC dX4_init_27 (by decide) rfl h16.1 h16.2.1 h16.2.2 ?_
  obtain ⟨σ17, e_σ17⟩ : ∃ z : ZS, z = sA σ15 (0, 4) 4 := ⟨_, rfl⟩
  replace hV := hV _ e_σ17
  rw [← e_σ17]
  obtain ⟨⟨n19, h18⟩, hV⟩ := hV
  obtain ⟨h20, hV⟩ := hV
  refine p_X4_20i_c3 (r := (some (.inl (zt σ15)))) hC dX4_init_29 h18 (pf_dyn h20) ?_
  obtain ⟨σ21, e_σ21⟩ : ∃ z : ZS, z = sP σ17 a0 10 (some (.inl (zt σ15))) := ⟨_, rfl⟩
  replace hV := hV _ e_σ21
  rw [← e_σ21]
  refine z_aload_n hC dX4_init_32 rfl rfl ?_
  refine z_bipush (v := 16) hC dX4_init_33 rfl ?_
  refine z_iconst (v := 2) hC dX4_init_35 rfl ?_
  obtain ⟨h22, hV⟩ := hV
  refine z_manew (N := 16) (M := 2) hC dX4_init_36 q1583 (by decide) (by decide) (by decide) (by decide) h22.1 h22.2.1 h22.2.2 (by decide) ?_
  obtain ⟨σ23, e_σ23⟩ : ∃ z : ZS, z = mA σ21 16 2 16 := ⟨_, rfl⟩
  replace hV := hV _ e_σ23
  rw [← e_σ23]
  obtain ⟨⟨n25, h24⟩, hV⟩ := hV
  obtain ⟨h26, hV⟩ := hV
  refine p_X4_25i_c3 (r := (some (.inl (zt σ21)))) hC dX4_init_40 h24 (pf_dyn h26) ?_
  obtain ⟨σ27, e_σ27⟩ : ∃ z : ZS, z = sP σ23 a0 11 (some (.inl (zt σ21))) := ⟨_, rfl⟩
  replace hV := hV _ e_σ27
  rw [← e_σ27]
  refine z_aload_n hC dX4_init_43 rfl rfl ?_
  refine z_bipush (v := 16) hC dX4_init_44 rfl ?_
  refine z_iconst (v := 2) hC dX4_init_46 rfl ?_
  obtain ⟨h28, hV⟩ := hV
  refine z_manew (N := 16) (M := 2) hC dX4_init_47 q1583 (by decide) (by decide) (by decide) (by decide) h28.1 h28.2.1 h28.2.2 (by decide) ?_
  obtain ⟨σ29, e_σ29⟩ : ∃ z : ZS, z = mA σ27 16 2 16 := ⟨_, rfl⟩
  replace hV := hV _ e_σ29
  rw [← e_σ29]
  obtain ⟨⟨n31, h30⟩, hV⟩ := hV
  obtain ⟨h32, hV⟩ := hV
  refine p_X4_28i_c3 (r := (some (.inl (zt σ27)))) hC dX4_init_51 h30 (pf_dyn h32) ?_
  obtain ⟨σ33, e_σ33⟩ : ∃ z : ZS, z = sP σ29 a0 12 (some (.inl (zt σ27))) := ⟨_, rfl⟩
  replace hV := hV _ e_σ33
  rw [← e_σ33]
  refine z_aload_n hC dX4_init_54 rfl rfl ?_
  refine z_bipush (v := 24) hC dX4_init_55 rfl ?_
  refine z_iconst (v := 4) hC dX4_init_57 rfl ?_
  obtain ⟨h34, hV⟩ := hV
  refine z_manew (N := 24) (M := 4) hC dX4_init_58 q1583 (by decide) (by decide) (by decide) (by decide) h34.1 h34.2.1 h34.2.2 (by decide) ?_
  obtain ⟨σ35, e_σ35⟩ : ∃ z : ZS, z = mA σ33 24 4 24 := ⟨_, rfl⟩
  replace hV := hV _ e_σ35
  rw [← e_σ35]
  obtain ⟨⟨n37, h36⟩, hV⟩ := hV
  obtain ⟨h38, hV⟩ := hV
  refine p_X4_31i_c3 (r := (some (.inl (zt σ33)))) hC dX4_init_62 h36 (pf_dyn h38) ?_
  obtain ⟨σ39, e_σ39⟩ : ∃ z : ZS, z = sP σ35 a0 13 (some (.inl (zt σ33))) := ⟨_, rfl⟩
  replace hV := hV _ e_σ39
  rw [← e_σ39]
  refine z_aload_n hC dX4_init_65 rfl rfl ?_
  refine z_bipush (v := 24) hC dX4_init_66 rfl ?_
  refine z_iconst (v := 4) hC dX4_init_68 rfl ?_
  obtain ⟨h40, hV⟩ := hV
  refine z_manew (N := 24) (M := 4) hC dX4_init_69 q1583 (by decide) (by decide) (by decide) (by decide) h40.1 h40.2.1 h40.2.2 (by decide) ?_
  obtain ⟨σ41, e_σ41⟩ : ∃ z : ZS, z = mA σ39 24 4 24 := ⟨_, rfl⟩
  replace hV := hV _ e_σ41
  rw [← e_σ41]
  obtain ⟨⟨n43, h42⟩, hV⟩ := hV
  obtain ⟨h44, hV⟩ := hV
  refine p_X4_34i_c3 (r := (some (.inl (zt σ39)))) hC dX4_init_73 h42 (pf_dyn h44) ?_
  obtain ⟨σ45, e_σ45⟩ : ∃ z : ZS, z = sP σ41 a0 14 (some (.inl (zt σ39))) := ⟨_, rfl⟩
  replace hV := hV _ e_σ45
  rw [← e_σ45]
  refine z_aload_n hC dX4_init_76 rfl rfl ?_
  refine z_bipush (v := 12) hC dX4_init_77 rfl ?_
  refine z_iconst (v := 3) hC dX4_init_79 rfl ?_
  obtain ⟨h46, hV⟩ := hV
  refine z_manew (N := 12) (M := 3) hC dX4_init_80 q1583 (by decide) (by decide) (by decide) (by decide) h46.1 h46.2.1 h46.2.2 (by decide) ?_
  obtain ⟨σ47, e_σ47⟩ : ∃ z : ZS, z = mA σ45 12 3 12 := ⟨_, rfl⟩
  replace hV := hV _ e_σ47
  rw [← e_σ47]
  obtain ⟨⟨n49, h48⟩, hV⟩ := hV
  obtain ⟨h50, hV⟩ := hV
  refine p_X4_37i_c3 (r := (some (.inl (zt σ45)))) hC dX4_init_84 h48 (pf_dyn h50) ?_
  obtain ⟨σ51, e_σ51⟩ : ∃ z : ZS, z = sP σ47 a0 15 (some (.inl (zt σ45))) := ⟨_, rfl⟩
  replace hV := hV _ e_σ51
  rw [← e_σ51]
  refine z_aload_n hC dX4_init_87 rfl rfl ?_
  refine z_bipush (v := 12) hC dX4_init_88 rfl ?_
  refine z_iconst (v := 3) hC dX4_init_90 rfl ?_
  obtain ⟨h52, hV⟩ := hV
  refine z_manew (N := 12) (M := 3) hC dX4_init_91 q1583 (by decide) (by decide) (by decide) (by decide) h52.1 h52.2.1 h52.2.2 (by decide) ?_
  obtain ⟨σ53, e_σ53⟩ : ∃ z : ZS, z = mA σ51 12 3 12 := ⟨_, rfl⟩
  replace hV := hV _ e_σ53
  rw [← e_σ53]
  obtain ⟨⟨n55, h54⟩, hV⟩ := hV
  obtain ⟨h56, hV⟩ := hV
  refine p_X4_40i_c3 (r := (some (.inl (zt σ51)))) hC dX4_init_95 h54 (pf_dyn h56) ?_
  obtain ⟨σ57, e_σ57⟩ : ∃ z : ZS, z = sP σ53 a0 16 (some (.inl (zt σ51))) := ⟨_, rfl⟩
  replace hV := hV _ e_σ57
  rw [← e_σ57]
  refine z_aload_n hC dX4_init_98 rfl rfl ?_
  refine z_bipush (v := 24) hC dX4_init_99 rfl ?_
  obtain ⟨h58, hV⟩ := hV
  refine z_newa0 (len := 24) hC dX4_init_101 (by decide) rfl h58.1 h58.2.1 h58.2.2 ?_
  obtain ⟨σ59, e_σ59⟩ : ∃ z : ZS, z = sA σ57 (0, 24) 24 := ⟨_, rfl⟩
  replace hV := hV _ e_σ59
  rw [← e_σ59]
  obtain ⟨⟨n61, h60⟩, hV⟩ := hV
  obtain ⟨h62, hV⟩ := hV
  refine p_X4_43i_c3 (r := (some (.inl (zt σ57)))) hC dX4_init_103 h60 (pf_dyn h62) ?_
  obtain ⟨σ63, e_σ63⟩ : ∃ z : ZS, z = sP σ59 a0 17 (some (.inl (zt σ57))) := ⟨_, rfl⟩
  replace hV := hV _ e_σ63
  rw [← e_σ63]
  refine z_aload_n hC dX4_init_106 rfl rfl ?_
  refine z_bipush (v := 24) hC dX4_init_107 rfl ?_
  obtain ⟨h64, hV⟩ := hV
  refine z_newa0 (len := 24) hC dX4_init_109 (by decide) rfl h64.1 h64.2.1 h64.2.2 ?_
  obtain ⟨σ65, e_σ65⟩ : ∃ z : ZS, z = sA σ63 (0, 24) 24 := ⟨_, rfl⟩
  replace hV := hV _ e_σ65
  rw [← e_σ65]
  obtain ⟨⟨n67, h66⟩, hV⟩ := hV
  obtain ⟨h68, hV⟩ := hV
  refine p_X4_46i_c3 (r := (some (.inl (zt σ63)))) hC dX4_init_111 h66 (pf_dyn h68) ?_
  obtain ⟨σ69, e_σ69⟩ : ∃ z : ZS, z = sP σ65 a0 18 (some (.inl (zt σ63))) := ⟨_, rfl⟩
  replace hV := hV _ e_σ69
  rw [← e_σ69]
  refine z_aload_n hC dX4_init_114 rfl rfl ?_
  refine z_sipush (v := 201) hC dX4_init_115 rfl ?_
  refine z_bipush (v := 24) hC dX4_init_118 rfl ?_
  obtain ⟨h70, hV⟩ := hV
  refine z_manew (N := 201) (M := 24) hC dX4_init_120 q1583 (by decide) (by decide) (by decide) (by decide) h70.1 h70.2.1 h70.2.2 (by decide) ?_
  obtain ⟨σ71, e_σ71⟩ : ∃ z : ZS, z = mA σ69 201 24 201 := ⟨_, rfl⟩
  replace hV := hV _ e_σ71
  rw [← e_σ71]
  obtain ⟨⟨n73, h72⟩, hV⟩ := hV
  obtain ⟨h74, hV⟩ := hV
  refine p_X4_49i_c3 (r := (some (.inl (zt σ69)))) hC dX4_init_124 h72 (pf_dyn h74) ?_
  obtain ⟨σ75, e_σ75⟩ : ∃ z : ZS, z = sP σ71 a0 20 (some (.inl (zt σ69))) := ⟨_, rfl⟩
  replace hV := hV _ e_σ75
  rw [← e_σ75]
  refine z_aload_n hC dX4_init_127 rfl rfl ?_
  refine z_sipush (v := 201) hC dX4_init_128 rfl ?_
  refine z_bipush (v := 24) hC dX4_init_131 rfl ?_
  obtain ⟨h76, hV⟩ := hV
  refine z_manew (N := 201) (M := 24) hC dX4_init_133 q1583 (by decide) (by decide) (by decide) (by decide) h76.1 h76.2.1 h76.2.2 (by decide) ?_
  obtain ⟨σ77, e_σ77⟩ : ∃ z : ZS, z = mA σ75 201 24 201 := ⟨_, rfl⟩
  replace hV := hV _ e_σ77
  rw [← e_σ77]
  obtain ⟨⟨n79, h78⟩, hV⟩ := hV
  obtain ⟨h80, hV⟩ := hV
  refine p_X4_52i_c3 (r := (some (.inl (zt σ75)))) hC dX4_init_137 h78 (pf_dyn h80) ?_
  obtain ⟨σ81, e_σ81⟩ : ∃ z : ZS, z = sP σ77 a0 21 (some (.inl (zt σ75))) := ⟨_, rfl⟩
  replace hV := hV _ e_σ81
  rw [← e_σ81]
  refine z_aload_n hC dX4_init_140 rfl rfl ?_
  refine z_bipush (v := 24) hC dX4_init_141 rfl ?_
  obtain ⟨h82, hV⟩ := hV
  refine z_newa0 (len := 24) hC dX4_init_143 (by decide) rfl h82.1 h82.2.1 h82.2.2 ?_
  obtain ⟨σ83, e_σ83⟩ : ∃ z : ZS, z = sA σ81 (0, 24) 24 := ⟨_, rfl⟩
  replace hV := hV _ e_σ83
  rw [← e_σ83]
  obtain ⟨⟨n85, h84⟩, hV⟩ := hV
  obtain ⟨h86, hV⟩ := hV
  refine p_X4_55i_c3 (r := (some (.inl (zt σ81)))) hC dX4_init_145 h84 (pf_dyn h86) ?_
  obtain ⟨σ87, e_σ87⟩ : ∃ z : ZS, z = sP σ83 a0 22 (some (.inl (zt σ81))) := ⟨_, rfl⟩
  replace hV := hV _ e_σ87
  rw [← e_σ87]
  refine z_aload_n hC dX4_init_148 rfl rfl ?_
  refine z_bipush (v := 24) hC dX4_init_149 rfl ?_
  obtain ⟨h88, hV⟩ := hV
  refine z_newa0 (len := 24) hC dX4_init_151 (by decide) rfl h88.1 h88.2.1 h88.2.2 ?_
  obtain ⟨σ89, e_σ89⟩ : ∃ z : ZS, z = sA σ87 (0, 24) 24 := ⟨_, rfl⟩
  replace hV := hV _ e_σ89
  rw [← e_σ89]
  obtain ⟨⟨n91, h90⟩, hV⟩ := hV
  obtain ⟨h92, hV⟩ := hV
  refine p_X4_58i_c3 (r := (some (.inl (zt σ87)))) hC dX4_init_153 h90 (pf_dyn h92) ?_
  obtain ⟨σ93, e_σ93⟩ : ∃ z : ZS, z = sP σ89 a0 23 (some (.inl (zt σ87))) := ⟨_, rfl⟩
  replace hV := hV _ e_σ93
  rw [← e_σ93]
  refine z_aload_n hC dX4_init_156 rfl rfl ?_
  refine z_bipush (v := 48) hC dX4_init_157 rfl ?_
  obtain ⟨h94, hV⟩ := hV
  refine z_newa1 (len := 48) hC dX4_init_159 (by decide) rfl h94.1 h94.2.1 h94.2.2 ?_
  obtain ⟨σ95, e_σ95⟩ : ∃ z : ZS, z = sA σ93 (1, 48) 48 := ⟨_, rfl⟩
  replace hV := hV _ e_σ95
  rw [← e_σ95]
  obtain ⟨⟨n97, h96⟩, hV⟩ := hV
  obtain ⟨h98, hV⟩ := hV
  refine p_X4_61i_c3 (r := (some (.inl (zt σ93)))) hC dX4_init_161 h96 (pf_dyn h98) ?_
  obtain ⟨σ99, e_σ99⟩ : ∃ z : ZS, z = sP σ95 a0 24 (some (.inl (zt σ93))) := ⟨_, rfl⟩
  replace hV := hV _ e_σ99
  rw [← e_σ99]
  refine z_aload_n hC dX4_init_164 rfl rfl ?_
  refine z_bipush (v := 48) hC dX4_init_165 rfl ?_
  obtain ⟨h100, hV⟩ := hV
  refine z_newa1 (len := 48) hC dX4_init_167 (by decide) rfl h100.1 h100.2.1 h100.2.2 ?_
  obtain ⟨σ101, e_σ101⟩ : ∃ z : ZS, z = sA σ99 (1, 48) 48 := ⟨_, rfl⟩
  replace hV := hV _ e_σ101
  rw [← e_σ101]
  obtain ⟨⟨n103, h102⟩, hV⟩ := hV
  obtain ⟨h104, hV⟩ := hV
  refine p_X4_65i_c3 (r := (some (.inl (zt σ99)))) hC dX4_init_169 h102 (pf_dyn h104) ?_
  obtain ⟨σ105, e_σ105⟩ : ∃ z : ZS, z = sP σ101 a0 25 (some (.inl (zt σ99))) := ⟨_, rfl⟩
  replace hV := hV _ e_σ105
  rw [← e_σ105]
  refine z_aload_n hC dX4_init_172 rfl rfl ?_
  refine z_bipush (v := 48) hC dX4_init_173 rfl ?_
  obtain ⟨h106, hV⟩ := hV
  refine z_newa0 (len := 48) hC dX4_init_175 (by decide) rfl h106.1 h106.2.1 h106.2.2 ?_
  obtain ⟨σ107, e_σ107⟩ : ∃ z : ZS, z = sA σ105 (0, 48) 48 := ⟨_, rfl⟩
  replace hV := hV _ e_σ107
  rw [← e_σ107]
  obtain ⟨⟨n109, h108⟩, hV⟩ := hV
  obtain ⟨h110, hV⟩ := hV
  refine p_X4_68i_c3 (r := (some (.inl (zt σ105)))) hC dX4_init_177 h108 (pf_dyn h110) ?_
  obtain ⟨σ111, e_σ111⟩ : ∃ z : ZS, z = sP σ107 a0 26 (some (.inl (zt σ105))) := ⟨_, rfl⟩
  replace hV := hV _ e_σ111
  rw [← e_σ111]
  refine z_aload_n hC dX4_init_180 rfl rfl ?_
  refine z_sipush (v := 576) hC dX4_init_181 rfl ?_
  refine z_iconst (v := 2) hC dX4_init_184 rfl ?_
  obtain ⟨h112, hV⟩ := hV
  refine z_manew (N := 576) (M := 2) hC dX4_init_185 q1583 (by decide) (by decide) (by decide) (by decide) h112.1 h112.2.1 h112.2.2 (by decide) ?_
  obtain ⟨σ113, e_σ113⟩ : ∃ z : ZS, z = mA σ111 576 2 576 := ⟨_, rfl⟩
  replace hV := hV _ e_σ113
  rw [← e_σ113]
  obtain ⟨⟨n115, h114⟩, hV⟩ := hV
  obtain ⟨h116, hV⟩ := hV
  refine p_X4_71i_c3 (r := (some (.inl (zt σ111)))) hC dX4_init_189 h114 (pf_dyn h116) ?_
  obtain ⟨σ117, e_σ117⟩ : ∃ z : ZS, z = sP σ113 a0 30 (some (.inl (zt σ111))) := ⟨_, rfl⟩
  replace hV := hV _ e_σ117
  rw [← e_σ117]
  refine z_aload_n hC dX4_init_192 rfl rfl ?_
  refine z_bipush (v := 12) hC dX4_init_193 rfl ?_
  obtain ⟨h118, hV⟩ := hV
  refine z_newa0 (len := 12) hC dX4_init_195 (by decide) rfl h118.1 h118.2.1 h118.2.2 ?_
  obtain ⟨σ119, e_σ119⟩ : ∃ z : ZS, z = sA σ117 (0, 12) 12 := ⟨_, rfl⟩
  replace hV := hV _ e_σ119
  rw [← e_σ119]
  obtain ⟨⟨n121, h120⟩, hV⟩ := hV
  obtain ⟨h122, hV⟩ := hV
  refine p_X4_74i_c3 (r := (some (.inl (zt σ117)))) hC dX4_init_197 h120 (pf_dyn h122) ?_
  obtain ⟨σ123, e_σ123⟩ : ∃ z : ZS, z = sP σ119 a0 31 (some (.inl (zt σ117))) := ⟨_, rfl⟩
  replace hV := hV _ e_σ123
  rw [← e_σ123]
  refine z_aload_n hC dX4_init_200 rfl rfl ?_
  refine z_bipush (v := 14) hC dX4_init_201 rfl ?_
  obtain ⟨h124, hV⟩ := hV
  refine z_newa0 (len := 14) hC dX4_init_203 (by decide) rfl h124.1 h124.2.1 h124.2.2 ?_
  obtain ⟨σ125, e_σ125⟩ : ∃ z : ZS, z = sA σ123 (0, 14) 14 := ⟨_, rfl⟩
  replace hV := hV _ e_σ125
  rw [← e_σ125]
  obtain ⟨⟨n127, h126⟩, hV⟩ := hV
  obtain ⟨h128, hV⟩ := hV
  refine p_X4_77i_c3 (r := (some (.inl (zt σ123)))) hC dX4_init_205 h126 (pf_dyn h128) ?_
  obtain ⟨σ129, e_σ129⟩ : ∃ z : ZS, z = sP σ125 a0 32 (some (.inl (zt σ123))) := ⟨_, rfl⟩
  replace hV := hV _ e_σ129
  rw [← e_σ129]
  refine z_aload_n hC dX4_init_208 rfl rfl ?_
  refine z_bipush (v := 12) hC dX4_init_209 rfl ?_
  refine z_bipush (v := 48) hC dX4_init_211 rfl ?_
  obtain ⟨h130, hV⟩ := hV
  refine z_manew (N := 12) (M := 48) hC dX4_init_213 q1583 (by decide) (by decide) (by decide) (by decide) h130.1 h130.2.1 h130.2.2 (by decide) ?_
  obtain ⟨σ131, e_σ131⟩ : ∃ z : ZS, z = mA σ129 12 48 12 := ⟨_, rfl⟩
  replace hV := hV _ e_σ131
  rw [← e_σ131]
  obtain ⟨⟨n133, h132⟩, hV⟩ := hV
  obtain ⟨h134, hV⟩ := hV
  refine p_X4_80i_c3 (r := (some (.inl (zt σ129)))) hC dX4_init_217 h132 (pf_dyn h134) ?_
  obtain ⟨σ135, e_σ135⟩ : ∃ z : ZS, z = sP σ131 a0 36 (some (.inl (zt σ129))) := ⟨_, rfl⟩
  replace hV := hV _ e_σ135
  rw [← e_σ135]
  refine z_aload_n hC dX4_init_220 rfl rfl ?_
  refine z_bipush (v := 12) hC dX4_init_221 rfl ?_
  obtain ⟨h136, hV⟩ := hV
  refine z_newa0 (len := 12) hC dX4_init_223 (by decide) rfl h136.1 h136.2.1 h136.2.2 ?_
  obtain ⟨σ137, e_σ137⟩ : ∃ z : ZS, z = sA σ135 (0, 12) 12 := ⟨_, rfl⟩
  replace hV := hV _ e_σ137
  rw [← e_σ137]
  obtain ⟨⟨n139, h138⟩, hV⟩ := hV
  obtain ⟨h140, hV⟩ := hV
  refine p_X4_83i_c3 (r := (some (.inl (zt σ135)))) hC dX4_init_225 h138 (pf_dyn h140) ?_
  obtain ⟨σ141, e_σ141⟩ : ∃ z : ZS, z = sP σ137 a0 37 (some (.inl (zt σ135))) := ⟨_, rfl⟩
  replace hV := hV _ e_σ141
  rw [← e_σ141]
  refine z_aload_n hC dX4_init_228 rfl rfl ?_
  refine z_bipush (v := 12) hC dX4_init_229 rfl ?_
  obtain ⟨h142, hV⟩ := hV
  refine z_newa0 (len := 12) hC dX4_init_231 (by decide) rfl h142.1 h142.2.1 h142.2.2 ?_
  obtain ⟨σ143, e_σ143⟩ : ∃ z : ZS, z = sA σ141 (0, 12) 12 := ⟨_, rfl⟩
  replace hV := hV _ e_σ143
  rw [← e_σ143]
  obtain ⟨⟨n145, h144⟩, hV⟩ := hV
  obtain ⟨h146, hV⟩ := hV
  refine p_X4_86i_c3 (r := (some (.inl (zt σ141)))) hC dX4_init_233 h144 (pf_dyn h146) ?_
  obtain ⟨σ147, e_σ147⟩ : ∃ z : ZS, z = sP σ143 a0 38 (some (.inl (zt σ141))) := ⟨_, rfl⟩
  replace hV := hV _ e_σ147
  rw [← e_σ147]
  refine z_aload_n hC dX4_init_236 rfl rfl ?_
  refine z_bipush (v := 12) hC dX4_init_237 rfl ?_
  obtain ⟨h148, hV⟩ := hV
  refine z_newa0 (len := 12) hC dX4_init_239 (by decide) rfl h148.1 h148.2.1 h148.2.2 ?_
  obtain ⟨σ149, e_σ149⟩ : ∃ z : ZS, z = sA σ147 (0, 12) 12 := ⟨_, rfl⟩
  replace hV := hV _ e_σ149
  rw [← e_σ149]
  obtain ⟨⟨n151, h150⟩, hV⟩ := hV
  obtain ⟨h152, hV⟩ := hV
  refine p_X4_89i_c3 (r := (some (.inl (zt σ147)))) hC dX4_init_241 h150 (pf_dyn h152) ?_
  obtain ⟨σ153, e_σ153⟩ : ∃ z : ZS, z = sP σ149 a0 39 (some (.inl (zt σ147))) := ⟨_, rfl⟩
  replace hV := hV _ e_σ153
  rw [← e_σ153]
  refine z_aload_n hC dX4_init_244 rfl rfl ?_
  refine z_bipush (v := 12) hC dX4_init_245 rfl ?_
  obtain ⟨h154, hV⟩ := hV
  refine z_newa0 (len := 12) hC dX4_init_247 (by decide) rfl h154.1 h154.2.1 h154.2.2 ?_
  obtain ⟨σ155, e_σ155⟩ : ∃ z : ZS, z = sA σ153 (0, 12) 12 := ⟨_, rfl⟩
  replace hV := hV _ e_σ155
  rw [← e_σ155]
  obtain ⟨⟨n157, h156⟩, hV⟩ := hV
  obtain ⟨h158, hV⟩ := hV
  refine p_X4_92i_c3 (r := (some (.inl (zt σ153)))) hC dX4_init_249 h156 (pf_dyn h158) ?_
  obtain ⟨σ159, e_σ159⟩ : ∃ z : ZS, z = sP σ155 a0 40 (some (.inl (zt σ153))) := ⟨_, rfl⟩
  replace hV := hV _ e_σ159
  rw [← e_σ159]
  refine z_aload_n hC dX4_init_252 rfl rfl ?_
  refine z_bipush (v := 12) hC dX4_init_253 rfl ?_
  obtain ⟨h160, hV⟩ := hV
  refine z_newa0 (len := 12) hC dX4_init_255 (by decide) rfl h160.1 h160.2.1 h160.2.2 ?_
  obtain ⟨σ161, e_σ161⟩ : ∃ z : ZS, z = sA σ159 (0, 12) 12 := ⟨_, rfl⟩
  replace hV := hV _ e_σ161
  rw [← e_σ161]
  obtain ⟨⟨n163, h162⟩, hV⟩ := hV
  obtain ⟨h164, hV⟩ := hV
  refine p_X4_95i_c3 (r := (some (.inl (zt σ159)))) hC dX4_init_257 h162 (pf_dyn h164) ?_
  obtain ⟨σ165, e_σ165⟩ : ∃ z : ZS, z = sP σ161 a0 41 (some (.inl (zt σ159))) := ⟨_, rfl⟩
  replace hV := hV _ e_σ165
  rw [← e_σ165]
  refine z_aload_n hC dX4_init_260 rfl rfl ?_
  refine z_bipush (v := 12) hC dX4_init_261 rfl ?_
  obtain ⟨h166, hV⟩ := hV
  refine z_newa0 (len := 12) hC dX4_init_263 (by decide) rfl h166.1 h166.2.1 h166.2.2 ?_
  obtain ⟨σ167, e_σ167⟩ : ∃ z : ZS, z = sA σ165 (0, 12) 12 := ⟨_, rfl⟩
  replace hV := hV _ e_σ167
  rw [← e_σ167]
  obtain ⟨⟨n169, h168⟩, hV⟩ := hV
  obtain ⟨h170, hV⟩ := hV
  refine p_X4_98i_c3 (r := (some (.inl (zt σ165)))) hC dX4_init_265 h168 (pf_dyn h170) ?_
  obtain ⟨σ171, e_σ171⟩ : ∃ z : ZS, z = sP σ167 a0 42 (some (.inl (zt σ165))) := ⟨_, rfl⟩
  replace hV := hV _ e_σ171
  rw [← e_σ171]
  refine z_aload_n hC dX4_init_268 rfl rfl ?_
  refine z_iconst (v := 3) hC dX4_init_269 rfl ?_
  refine z_sipush (v := 10000) hC dX4_init_270 rfl ?_
  obtain ⟨h172, hV⟩ := hV
  refine z_manew (N := 3) (M := 10000) hC dX4_init_273 q1583 (by decide) (by decide) (by decide) (by decide) h172.1 h172.2.1 h172.2.2 (by decide) ?_
  obtain ⟨σ173, e_σ173⟩ : ∃ z : ZS, z = mA σ171 3 10000 3 := ⟨_, rfl⟩
  replace hV := hV _ e_σ173
  rw [← e_σ173]
  obtain ⟨⟨n175, h174⟩, hV⟩ := hV
  obtain ⟨h176, hV⟩ := hV
  refine p_X4_101i_c3 (r := (some (.inl (zt σ171)))) hC dX4_init_277 h174 (pf_dyn h176) ?_
  obtain ⟨σ177, e_σ177⟩ : ∃ z : ZS, z = sP σ173 a0 44 (some (.inl (zt σ171))) := ⟨_, rfl⟩
  replace hV := hV _ e_σ177
  rw [← e_σ177]
  refine z_aload_n hC dX4_init_280 rfl rfl ?_
  refine z_bipush (v := 48) hC dX4_init_281 rfl ?_
  refine z_sipush (v := 1024) hC dX4_init_283 rfl ?_
  obtain ⟨h178, hV⟩ := hV
  refine z_manew (N := 48) (M := 1024) hC dX4_init_286 q1583 (by decide) (by decide) (by decide) (by decide) h178.1 h178.2.1 h178.2.2 (by decide) ?_
  obtain ⟨σ179, e_σ179⟩ : ∃ z : ZS, z = mA σ177 48 1024 48 := ⟨_, rfl⟩
  replace hV := hV _ e_σ179
  rw [← e_σ179]
  obtain ⟨⟨n181, h180⟩, hV⟩ := hV
  obtain ⟨h182, hV⟩ := hV
  refine p_X4_104i_c3 (r := (some (.inl (zt σ177)))) hC dX4_init_290 h180 (pf_dyn h182) ?_
  obtain ⟨σ183, e_σ183⟩ : ∃ z : ZS, z = sP σ179 a0 46 (some (.inl (zt σ177))) := ⟨_, rfl⟩
  replace hV := hV _ e_σ183
  rw [← e_σ183]
  refine z_aload_n hC dX4_init_293 rfl rfl ?_
  refine z_bipush (v := 11) hC dX4_init_294 rfl ?_
  obtain ⟨h184, hV⟩ := hV
  refine z_newa0 (len := 11) hC dX4_init_296 (by decide) rfl h184.1 h184.2.1 h184.2.2 ?_
  obtain ⟨σ185, e_σ185⟩ : ∃ z : ZS, z = sA σ183 (0, 11) 11 := ⟨_, rfl⟩
  replace hV := hV _ e_σ185
  rw [← e_σ185]
  obtain ⟨⟨n187, h186⟩, hV⟩ := hV
  obtain ⟨h188, hV⟩ := hV
  refine p_X4_107i_c3 (r := (some (.inl (zt σ183)))) hC dX4_init_298 h186 (pf_dyn h188) ?_
  obtain ⟨σ189, e_σ189⟩ : ∃ z : ZS, z = sP σ185 a0 47 (some (.inl (zt σ183))) := ⟨_, rfl⟩
  replace hV := hV _ e_σ189
  rw [← e_σ189]
  refine z_aload_n hC dX4_init_301 rfl rfl ?_
  refine z_bipush (v := 11) hC dX4_init_302 rfl ?_
  refine z_bipush (v := 11) hC dX4_init_304 rfl ?_
  obtain ⟨h190, hV⟩ := hV
  refine z_manew (N := 11) (M := 11) hC dX4_init_306 q1583 (by decide) (by decide) (by decide) (by decide) h190.1 h190.2.1 h190.2.2 (by decide) ?_
  obtain ⟨σ191, e_σ191⟩ : ∃ z : ZS, z = mA σ189 11 11 11 := ⟨_, rfl⟩
  replace hV := hV _ e_σ191
  rw [← e_σ191]
  obtain ⟨⟨n193, h192⟩, hV⟩ := hV
  obtain ⟨h194, hV⟩ := hV
  refine p_X4_110i_c3 (r := (some (.inl (zt σ189)))) hC dX4_init_310 h192 (pf_dyn h194) ?_
  obtain ⟨σ195, e_σ195⟩ : ∃ z : ZS, z = sP σ191 a0 48 (some (.inl (zt σ189))) := ⟨_, rfl⟩
  replace hV := hV _ e_σ195
  rw [← e_σ195]
  refine z_aload_n hC dX4_init_313 rfl rfl ?_
  refine z_sipush (v := 2048) hC dX4_init_314 rfl ?_
  obtain ⟨h196, hV⟩ := hV
  refine z_newa0 (len := 2048) hC dX4_init_317 (by decide) rfl h196.1 h196.2.1 h196.2.2 ?_
  obtain ⟨σ197, e_σ197⟩ : ∃ z : ZS, z = sA σ195 (0, 2048) 2048 := ⟨_, rfl⟩
  replace hV := hV _ e_σ197
  rw [← e_σ197]
  obtain ⟨⟨n199, h198⟩, hV⟩ := hV
  obtain ⟨h200, hV⟩ := hV
  refine p_X4_113i_c3 (r := (some (.inl (zt σ195)))) hC dX4_init_319 h198 (pf_dyn h200) ?_
  obtain ⟨σ201, e_σ201⟩ : ∃ z : ZS, z = sP σ197 a0 49 (some (.inl (zt σ195))) := ⟨_, rfl⟩
  replace hV := hV _ e_σ201
  rw [← e_σ201]
  refine z_aload_n hC dX4_init_322 rfl rfl ?_
  refine z_bipush (v := 48) hC dX4_init_323 rfl ?_
  obtain ⟨h202, hV⟩ := hV
  refine z_newa0 (len := 48) hC dX4_init_325 (by decide) rfl h202.1 h202.2.1 h202.2.2 ?_
  obtain ⟨σ203, e_σ203⟩ : ∃ z : ZS, z = sA σ201 (0, 48) 48 := ⟨_, rfl⟩
  replace hV := hV _ e_σ203
  rw [← e_σ203]
  obtain ⟨⟨n205, h204⟩, hV⟩ := hV
  obtain ⟨h206, hV⟩ := hV
  refine p_X4_116i_c3 (r := (some (.inl (zt σ201)))) hC dX4_init_327 h204 (pf_dyn h206) ?_
  obtain ⟨σ207, e_σ207⟩ : ∃ z : ZS, z = sP σ203 a0 50 (some (.inl (zt σ201))) := ⟨_, rfl⟩
  replace hV := hV _ e_σ207
  rw [← e_σ207]
  refine z_aload_n hC dX4_init_330 rfl rfl ?_
  refine z_bipush (v := 48) hC dX4_init_331 rfl ?_
  obtain ⟨h208, hV⟩ := hV
  refine z_newa0 (len := 48) hC dX4_init_333 (by decide) rfl h208.1 h208.2.1 h208.2.2 ?_
  obtain ⟨σ209, e_σ209⟩ : ∃ z : ZS, z = sA σ207 (0, 48) 48 := ⟨_, rfl⟩
  replace hV := hV _ e_σ209
  rw [← e_σ209]
  obtain ⟨⟨n211, h210⟩, hV⟩ := hV
  obtain ⟨h212, hV⟩ := hV
  refine p_X4_119i_c3 (r := (some (.inl (zt σ207)))) hC dX4_init_335 h210 (pf_dyn h212) ?_
  obtain ⟨σ213, e_σ213⟩ : ∃ z : ZS, z = sP σ209 a0 51 (some (.inl (zt σ207))) := ⟨_, rfl⟩
  replace hV := hV _ e_σ213
  rw [← e_σ213]
  refine z_aload_n hC dX4_init_338 rfl rfl ?_
  refine z_bipush (v := 48) hC dX4_init_339 rfl ?_
  obtain ⟨h214, hV⟩ := hV
  refine z_newa1 (len := 48) hC dX4_init_341 (by decide) rfl h214.1 h214.2.1 h214.2.2 ?_
  obtain ⟨σ215, e_σ215⟩ : ∃ z : ZS, z = sA σ213 (1, 48) 48 := ⟨_, rfl⟩
  replace hV := hV _ e_σ215
  rw [← e_σ215]
  obtain ⟨⟨n217, h216⟩, hV⟩ := hV
  obtain ⟨h218, hV⟩ := hV
  refine p_X4_122i_c3 (r := (some (.inl (zt σ213)))) hC dX4_init_343 h216 (pf_dyn h218) ?_
  obtain ⟨σ219, e_σ219⟩ : ∃ z : ZS, z = sP σ215 a0 52 (some (.inl (zt σ213))) := ⟨_, rfl⟩
  replace hV := hV _ e_σ219
  rw [← e_σ219]
  refine z_aload_n hC dX4_init_346 rfl rfl ?_
  refine z_bipush (v := 48) hC dX4_init_347 rfl ?_
  obtain ⟨h220, hV⟩ := hV
  refine z_newa1 (len := 48) hC dX4_init_349 (by decide) rfl h220.1 h220.2.1 h220.2.2 ?_
  obtain ⟨σ221, e_σ221⟩ : ∃ z : ZS, z = sA σ219 (1, 48) 48 := ⟨_, rfl⟩
  replace hV := hV _ e_σ221
  rw [← e_σ221]
  obtain ⟨⟨n223, h222⟩, hV⟩ := hV
  obtain ⟨h224, hV⟩ := hV
  refine p_X4_125i_c3 (r := (some (.inl (zt σ219)))) hC dX4_init_351 h222 (pf_dyn h224) ?_
  obtain ⟨σ225, e_σ225⟩ : ∃ z : ZS, z = sP σ221 a0 53 (some (.inl (zt σ219))) := ⟨_, rfl⟩
  replace hV := hV _ e_σ225
  rw [← e_σ225]
  refine z_aload_n hC dX4_init_354 rfl rfl ?_
  refine z_iconst (v := (-1)) hC dX4_init_355 rfl ?_
  obtain ⟨⟨n227, h226⟩, hV⟩ := hV
  refine p_X4_128i_c3 hC dX4_init_356 h226 ?_
  obtain ⟨σ228, e_σ228⟩ : ∃ z : ZS, z = sI σ225 a0 54 (-1) := ⟨_, rfl⟩
  replace hV := hV _ e_σ228
  rw [← e_σ228]
  exact z_vret hC dX4_init_359 (by rw [hQo]; exact ⟨rfl, hV⟩)
theorem cw_X1_town : CodeW yX1_town (wsW_ yX1_town cX1_town 5 (some .int) [(20, 108, 115, 197), (20, 108, 139, 0), (115, 132, 139, 0), (139, 141, 139, 0)]) 5 := ⟨fun w h => (List.mem_cons.mp h).elim (fun e => e ▸ q748) id, Or.inr ⟨_, _, _, q748⟩, q116, by decide, by decide⟩
theorem c_X0_7 {C : ZC} {E : ZE} {cc : ByteArray} {nL pc d : Nat} {nm : String} {ret : Option FieldType} {hh : List (Nat × Nat × Nat × Nat)} {σ : ZS} {L : List (Option Value)} {st : List Value} {a1 : Int32} {Ret : Int32 → ZS → Prop} {Thr : Nat → ZS → Prop} (hC : Cx C E cc nL "RightTurnsLaw" nm ret hh d) (hdd : 11 + 1 ≤ d) (hd : decode cc pc = .ok (.invokevirtual 7, 3)) (hW : (st.map fun v => v.category).sum ≤ 8) (hV : wp_X1_town σ a1 Thr Ret) (k : ∀ r σ', Ret r σ' → zz C E NS nL σ' (pc + 3) L (.int r :: st)) (kt : ∀ a σ', Thr a σ' → zth C E NS nL σ' pc L st (E.1.heap.size + a)) : zz C E NS nL σ pc L (.int a1 :: .ref (E.1.heap.size + 0) :: st) :=
  z_callVG hC cf0 cw_X1_town hdd (by decide) (mz_X1_town (cxE hC) hV) hd (k_0 σ) q745 q746 q747 (np := 1) rfl rfl hW rfl (kT (kI k) kt)
def wp_X0_town (σ : ZS) (a1 : Int32) (Ret : Int32 → ZS → Prop) : Prop :=
    wp_X1_town σ a1 (fun x3 σ4 => ((∃ x, kK NS σ4 x3 = (12 + 7, x)) ∧ (Ret 1 σ4))) (fun r1 σ2 => ∀ σ6 : ZS, σ6 = sJ σ2 1238 (ix 0) r1.toInt64 → (Ret 0 σ6))
set_option maxHeartbeats 4000000 in
theorem mz_X0_town {l : Launch} {E : ZE} (hE : EOK E) {σ : ZS} {a1 : Int32} {Ret : Int32 → ZS → Prop} (hV : wp_X0_town σ a1 Ret) : MZ l E NS yX0_town (wsW_ yX0_town cX0_town 4 (some .int) [(0, 9, 12, 13)]) 12 σ [.ref (E.1.heap.size + 0), .int a1, .ref (E.1.heap.size + 1238)] (rI Ret) := by
  refine MZ.startW (L := [some (.ref (E.1.heap.size + 0)), some (.int a1), some (.ref (E.1.heap.size + 1238)), none]) hE (by decide) (Nat.le_of_ble_eq_true rfl) rfl fun C hCl hQo hC => ?_
  replace hC : Cx C E cX0_town 4 "RightTurnsLaw" "town" (some .int) [(0, 9, 12, 13)] 12 := hC
  unfold wp_X0_town at hV
  refine z_aload_n hC dX0_town_0 rfl rfl ?_
  refine z_iconst (v := 0) hC dX0_town_1 rfl ?_
  refine z_aload_n hC dX0_town_2 rfl rfl ?_
  refine z_iload_n hC dX0_town_3 rfl rfl ?_
  have hT5 : ∀ (x3 : Nat) (σ4 : ZS), (((∃ x, kK NS σ4 x3 = (12 + 7, x)) ∧ (Ret 1 σ4))) → zth C E NS 4 σ4 4 [some (.ref (E.1.heap.size + 0)), some (.int a1), some (.ref (E.1.heap.size + 1238)), none] [.int 0, .ref (E.1.heap.size + 1238)] (E.1.heap.size + x3) := by
    clear hV
    intro x3 σ4 hV
    obtain ⟨⟨_, hk⟩, hV⟩ := hV
    refine zth_catch0 hC (by decide) (by decide) cf12 hk q744 ?_
    refine z_astore_n hC dX0_town_12 rfl (Nat.le_of_ble_eq_true rfl) rfl rfl ?_
    refine z_iconst (v := 1) hC dX0_town_13 rfl ?_
    exact z_iret hC dX0_town_14 rfl (by rw [hQo]; exact ⟨_, rfl, hV⟩)
  refine c_X0_7 hC (by decide) dX0_town_4 (Nat.le_of_ble_eq_true rfl) hV (fun r1 σ2 hV => ?_) hT5
  refine z_i2l hC dX0_town_7 ?_
  refine z_last hC dX0_town_8 (k_1238 _) (in_dec rfl) ?_
  obtain ⟨σ6, e_σ6⟩ : ∃ z : ZS, z = sJ σ2 1238 (ix 0) r1.toInt64 := ⟨_, rfl⟩
  replace hV := hV _ e_σ6
  rw [← e_σ6]
  refine z_goto (tgt := 15) hC dX0_town_9 (by decide) ?_
  refine z_iconst (v := 0) hC dX0_town_15 rfl ?_
  exact z_iret hC dX0_town_16 rfl (by rw [hQo]; exact ⟨_, rfl, hV⟩)
