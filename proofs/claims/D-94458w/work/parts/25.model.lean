set_option maxRecDepth 100000
def wp_X4_sign (σ : ZS) (a1 : Int32) (a2 : Int32) (a3 : Int32) (Ret : Int32 → ZS → Prop) : Prop :=
    ∀ σ1 : ZS, σ1 = sI σ 44 0 0 → (wp_X4_changesTo σ1 160 a1 a2 a3 (fun r2 σ3 => Ret r2 σ3))
set_option maxHeartbeats 4000000 in
theorem mz_X4_sign {l : Launch} {E : ZE} (hE : EOK E) {σ : ZS} {a1 : Int32} {a2 : Int32} {a3 : Int32} {Ret : Int32 → ZS → Prop} (hV : wp_X4_sign σ a1 a2 a3 Ret) : MZ l E NS yX4_sign (ws_ yX4_sign cX4_sign 4 (some .int)) 5 σ [.ref (E.1.heap.size + 44), .int a1, .int a2, .int a3] (rI Ret) := by
  refine MZ.start (L := [some (.ref (E.1.heap.size + 44)), some (.int a1), some (.int a2), some (.int a3)]) hE (by decide) (Nat.le_of_ble_eq_true rfl) rfl fun C hCl hQo hC => ?_
  replace hC : Cx C E cX4_sign 4 "RightTurnsModel" "sign" (some .int) [] 5 := hC
  unfold wp_X4_sign at hV
  refine z_aload_n hC dX4_sign_0 rfl rfl ?_
  refine z_iconst (v := 0) hC dX4_sign_1 rfl ?_
  refine p_X4_131_c3 hC dX4_sign_2 (k_44 _) ?_
  obtain ⟨σ1, e_σ1⟩ : ∃ z : ZS, z = sI σ 44 0 0 := ⟨_, rfl⟩
  replace hV := hV _ e_σ1
  rw [← e_σ1]
  refine z_aload_n hC dX4_sign_5 rfl rfl ?_
  refine z_aload_n hC dX4_sign_6 rfl rfl ?_
  refine g_X4_49_44 hC dX4_sign_7 ?_
  refine z_iload_n hC dX4_sign_10 rfl rfl ?_
  refine z_iload_n hC dX4_sign_11 rfl rfl ?_
  refine z_iload_n hC dX4_sign_12 rfl rfl ?_
  refine c_X4_290 hC (by decide) dX4_sign_13 (Nat.le_of_ble_eq_true rfl) hV (fun r2 σ3 hV => ?_)
  exact z_iret hC dX4_sign_16 rfl (by rw [hQo]; exact ⟨_, rfl, hV⟩)
def VL_X4_since_60 (Ret : Int32 → ZS → Prop) : Nat → ZS → Int32 → Int32 → Int32 → Int32 → Prop
  | 0 => fun _ _ _ _ _ => False
  | k + 1 => fun σ x1 x2 x4 x5 =>
    let K60 := VL_X4_since_60 Ret k
    (((zI σ 44 19) < x5 → (Ret (-1) σ)) ∧ (¬ (zI σ 44 19) < x5 → (wp_X4_asks σ x5 (fun σ11 => wp_X4_layReaches σ11 (fun σ13 => wp_X4_reachOf σ13 x1 (fun r14 σ15 => ((x4 = 0 → (((((r14 >>> (x2 &&& 31)) &&& 1) = 0 → (Ret x5 σ15)) ∧ (¬ ((r14 >>> (x2 &&& 31)) &&& 1) = 0 → (∀ y16 : Int32, y16 = x5 + 1 → (K60 σ15 x1 x2 x4 y16)))))) ∧ (¬ x4 = 0 → (((((r14 >>> (x2 &&& 31)) &&& 1) = 1 → (Ret x5 σ15)) ∧ (¬ ((r14 >>> (x2 &&& 31)) &&& 1) = 1 → (∀ y17 : Int32, y17 = x5 + 1 → (K60 σ15 x1 x2 x4 y17)))))))))))))
def V_X4_since_60 (Ret : Int32 → ZS → Prop) (σ : ZS) (x1 : Int32) (x2 : Int32) (x4 : Int32) (x5 : Int32) : Prop := ∃ k, VL_X4_since_60 Ret k σ x1 x2 x4 x5
def V_X4_since_48 (Ret : Int32 → ZS → Prop) (σ : ZS) (x1 : Int32) (x2 : Int32) (x3 : Int32) (x4 : Int32) (s0 : Int32) : Prop :=
    wp_X4_bad σ s0 2 (fun r8 σ9 => ((r8 = 0 → (V_X4_since_60 Ret σ9 x1 x2 x4 x3)) ∧ (¬ r8 = 0 → (Ret 0 σ9))))
def V_X4_since_27 (Ret : Int32 → ZS → Prop) (σ : ZS) (x1 : Int32) (x2 : Int32) (x3 : Int32) (x4 : Int32) (s0 : Int32) : Prop :=
    wp_X4_bad σ s0 1 (fun r4 σ5 => ((r4 = 0 → (wp_X4_isTime σ5 x3 (fun r6 σ7 => ((r6 = 0 → (V_X4_since_48 Ret σ7 x1 x2 x3 x4 1)) ∧ (¬ r6 = 0 → (V_X4_since_48 Ret σ7 x1 x2 x3 x4 0)))))) ∧ (¬ r4 = 0 → (Ret 0 σ5))))
def V_X4_since_22 (Ret : Int32 → ZS → Prop) (σ : ZS) (x1 : Int32) (x2 : Int32) (x3 : Int32) (x4 : Int32) : Prop :=
    V_X4_since_27 Ret σ x1 x2 x3 x4 1
def wp_X4_since (σ : ZS) (a1 : Int32) (a2 : Int32) (a3 : Int32) (a4 : Int32) (Ret : Int32 → ZS → Prop) : Prop :=
    ∀ σ1 : ZS, σ1 = sI σ 44 0 0 → (wp_X4_isCorner σ1 a1 (fun r2 σ3 => ((r2 = 0 → (V_X4_since_22 Ret σ3 a1 a2 a3 a4)) ∧ (¬ r2 = 0 → (wp_X4_isCorner σ3 a2 (fun r18 σ19 => ((r18 = 0 → (V_X4_since_22 Ret σ19 a1 a2 a3 a4)) ∧ (¬ r18 = 0 → (V_X4_since_27 Ret σ19 a1 a2 a3 a4 0)))))))))
set_option maxHeartbeats 4000000 in
theorem mz_X4_since {l : Launch} {E : ZE} (hE : EOK E) {σ : ZS} {a1 : Int32} {a2 : Int32} {a3 : Int32} {a4 : Int32} {Ret : Int32 → ZS → Prop} (hV : wp_X4_since σ a1 a2 a3 a4 Ret) : MZ l E NS yX4_since (ws_ yX4_since cX4_since 6 (some .int)) 7 σ [.ref (E.1.heap.size + 44), .int a1, .int a2, .int a3, .int a4] (rI Ret) := by
  refine MZ.start (L := [some (.ref (E.1.heap.size + 44)), some (.int a1), some (.int a2), some (.int a3), some (.int a4), none]) hE (by decide) (Nat.le_of_ble_eq_true rfl) rfl fun C hCl hQo hC => ?_
  replace hC : Cx C E cX4_since 6 "RightTurnsModel" "since" (some .int) [] 7 := hC
  unfold wp_X4_since at hV
  have j_60 : ∀ (σ : ZS) (x1 : Int32) (x2 : Int32) (x4 : Int32) (x5 : Int32), V_X4_since_60 Ret σ x1 x2 x4 x5 → zz C E NS 6 σ 60 [some (.ref (E.1.heap.size + 44)), some (.int x1), some (.int x2), none, some (.int x4), some (.int x5)] [] := by
    intro σ x1 x2 x4 x5 ⟨k, hV⟩
    revert σ x1 x2 x4 x5
    induction k with
    | zero => exact fun _ _ _ _ _ hV => hV.elim
    | succ k j_60 =>
      intro σ x1 x2 x4 x5 hV
      simp only [VL_X4_since_60] at hV
      generalize hKe60 : VL_X4_since_60 Ret k = K60 at hV j_60
      clear hKe60
      refine z_iload hC dX4_since_60 rfl ?_
      refine z_aload_n hC dX4_since_62 rfl rfl ?_
      refine g_X4_238_44 hC dX4_since_63 ?_
      refine z_icmp_gt (tgt := 110) hC dX4_since_66 (by decide) (fun hc => ?_) (fun hc => ?_)
      · replace hV := hV.1 hc
        refine z_iconst (v := (-1)) hC dX4_since_110 rfl ?_
        exact z_iret hC dX4_since_111 rfl (by rw [hQo]; exact ⟨_, rfl, hV⟩)
      · replace hV := hV.2 hc
        refine z_aload_n hC dX4_since_69 rfl rfl ?_
        refine z_iload hC dX4_since_70 rfl ?_
        refine c_X4_310 hC (by decide) dX4_since_72 (Nat.le_of_ble_eq_true rfl) hV (fun σ11 hV => ?_)
        refine z_aload_n hC dX4_since_75 rfl rfl ?_
        refine c_X4_322 hC (by decide) dX4_since_76 (Nat.le_of_ble_eq_true rfl) hV (fun σ13 hV => ?_)
        refine z_aload_n hC dX4_since_79 rfl rfl ?_
        refine z_iload_n hC dX4_since_80 rfl rfl ?_
        refine c_X4_319 hC (by decide) dX4_since_81 (Nat.le_of_ble_eq_true rfl) hV (fun r14 σ15 hV => ?_)
        refine z_iload_n hC dX4_since_84 rfl rfl ?_
        refine z_ishr hC dX4_since_85 ?_
        refine z_iconst (v := 1) hC dX4_since_86 rfl ?_
        refine z_iand hC dX4_since_87 ?_
        refine z_iload hC dX4_since_88 rfl ?_
        refine z_if_eq (tgt := 97) hC dX4_since_90 (by decide) (fun hc => ?_) (fun hc => ?_)
        · replace hV := hV.1 hc
          refine z_iconst (v := 0) hC dX4_since_97 rfl ?_
          refine z_icmp_ne (tgt := 104) hC dX4_since_98 (by decide) (fun hc => ?_) (fun hc => ?_)
          · replace hV := hV.2 hc
            obtain ⟨y16, e_y16⟩ : ∃ z : Int32, z = x5 + 1 := ⟨_, rfl⟩
            replace hV := hV _ e_y16
            refine z_iinc (v := y16) hC dX4_since_104 rfl (by rw [e_y16]; rfl) (Nat.le_of_ble_eq_true rfl) rfl rfl ?_
            refine z_goto (tgt := 60) hC dX4_since_107 (by decide) ?_
            refine zz_sub (L' := [some (.ref (E.1.heap.size + 44)), some (.int x1), some (.int x2), none, some (.int x4), some (.int y16)]) ⟨rfl, rfl, rfl, rfl, rfl, trivial⟩ ?_
            exact j_60 σ15 x1 x2 x4 y16 hV
          · replace hV := hV.1 hc
            refine z_iload hC dX4_since_101 rfl ?_
            exact z_iret hC dX4_since_103 rfl (by rw [hQo]; exact ⟨_, rfl, hV⟩)
        · replace hV := hV.2 hc
          refine z_iconst (v := 1) hC dX4_since_93 rfl ?_
          refine z_goto (tgt := 98) hC dX4_since_94 (by decide) ?_
          refine z_icmp_ne (tgt := 104) hC dX4_since_98 (by decide) (fun hc => ?_) (fun hc => ?_)
          · replace hV := hV.2 hc
            obtain ⟨y17, e_y17⟩ : ∃ z : Int32, z = x5 + 1 := ⟨_, rfl⟩
            replace hV := hV _ e_y17
            refine z_iinc (v := y17) hC dX4_since_104 rfl (by rw [e_y17]; rfl) (Nat.le_of_ble_eq_true rfl) rfl rfl ?_
            refine z_goto (tgt := 60) hC dX4_since_107 (by decide) ?_
            refine zz_sub (L' := [some (.ref (E.1.heap.size + 44)), some (.int x1), some (.int x2), none, some (.int x4), some (.int y17)]) ⟨rfl, rfl, rfl, rfl, rfl, trivial⟩ ?_
            exact j_60 σ15 x1 x2 x4 y17 hV
          · replace hV := hV.1 hc
            refine z_iload hC dX4_since_101 rfl ?_
            exact z_iret hC dX4_since_103 rfl (by rw [hQo]; exact ⟨_, rfl, hV⟩)
  have j_48 : ∀ (σ : ZS) (x1 : Int32) (x2 : Int32) (x3 : Int32) (x4 : Int32) (s0 : Int32), V_X4_since_48 Ret σ x1 x2 x3 x4 s0 → zz C E NS 6 σ 48 [some (.ref (E.1.heap.size + 44)), some (.int x1), some (.int x2), some (.int x3), some (.int x4), none] [.int s0, .ref (E.1.heap.size + 44)] := by
    intro σ x1 x2 x3 x4 s0 hV
    unfold V_X4_since_48 at hV
    refine z_iconst (v := 2) hC dX4_since_48 rfl ?_
    refine c_X4_227 hC (by decide) dX4_since_49 (Nat.le_of_ble_eq_true rfl) hV (fun r8 σ9 hV => ?_)
    refine z_if_eq (tgt := 57) hC dX4_since_52 (by decide) (fun hc => ?_) (fun hc => ?_)
    · replace hV := hV.1 hc
      refine z_iload_n hC dX4_since_57 rfl rfl ?_
      refine z_istore hC dX4_since_58 (Nat.le_of_ble_eq_true rfl) rfl rfl ?_
      refine zz_sub (L' := [some (.ref (E.1.heap.size + 44)), some (.int x1), some (.int x2), none, some (.int x4), some (.int x3)]) ⟨rfl, rfl, rfl, rfl, rfl, trivial⟩ ?_
      exact j_60 σ9 x1 x2 x4 x3 hV
    · replace hV := hV.2 hc
      refine z_iconst (v := 0) hC dX4_since_55 rfl ?_
      exact z_iret hC dX4_since_56 rfl (by rw [hQo]; exact ⟨_, rfl, hV⟩)
  have j_27 : ∀ (σ : ZS) (x1 : Int32) (x2 : Int32) (x3 : Int32) (x4 : Int32) (s0 : Int32), V_X4_since_27 Ret σ x1 x2 x3 x4 s0 → zz C E NS 6 σ 27 [some (.ref (E.1.heap.size + 44)), some (.int x1), some (.int x2), some (.int x3), some (.int x4), none] [.int s0, .ref (E.1.heap.size + 44)] := by
    intro σ x1 x2 x3 x4 s0 hV
    unfold V_X4_since_27 at hV
    refine z_iconst (v := 1) hC dX4_since_27 rfl ?_
    refine c_X4_227 hC (by decide) dX4_since_28 (Nat.le_of_ble_eq_true rfl) hV (fun r4 σ5 hV => ?_)
    refine z_if_ne (tgt := 55) hC dX4_since_31 (by decide) (fun hc => ?_) (fun hc => ?_)
    · replace hV := hV.2 hc
      refine z_iconst (v := 0) hC dX4_since_55 rfl ?_
      exact z_iret hC dX4_since_56 rfl (by rw [hQo]; exact ⟨_, rfl, hV⟩)
    · replace hV := hV.1 hc
      refine z_aload_n hC dX4_since_34 rfl rfl ?_
      refine z_aload_n hC dX4_since_35 rfl rfl ?_
      refine z_iload_n hC dX4_since_36 rfl rfl ?_
      refine c_X4_281 hC (by decide) dX4_since_37 (Nat.le_of_ble_eq_true rfl) hV (fun r6 σ7 hV => ?_)
      refine z_if_ne (tgt := 47) hC dX4_since_40 (by decide) (fun hc => ?_) (fun hc => ?_)
      · replace hV := hV.2 hc
        refine z_iconst (v := 0) hC dX4_since_47 rfl ?_
        refine zz_sub (L' := [some (.ref (E.1.heap.size + 44)), some (.int x1), some (.int x2), some (.int x3), some (.int x4), none]) ⟨rfl, rfl, rfl, rfl, rfl, trivial⟩ ?_
        exact j_48 σ7 x1 x2 x3 x4 0 hV
      · replace hV := hV.1 hc
        refine z_iconst (v := 1) hC dX4_since_43 rfl ?_
        refine z_goto (tgt := 48) hC dX4_since_44 (by decide) ?_
        refine zz_sub (L' := [some (.ref (E.1.heap.size + 44)), some (.int x1), some (.int x2), some (.int x3), some (.int x4), none]) ⟨rfl, rfl, rfl, rfl, rfl, trivial⟩ ?_
        exact j_48 σ7 x1 x2 x3 x4 1 hV
  have j_22 : ∀ (σ : ZS) (x1 : Int32) (x2 : Int32) (x3 : Int32) (x4 : Int32), V_X4_since_22 Ret σ x1 x2 x3 x4 → zz C E NS 6 σ 22 [some (.ref (E.1.heap.size + 44)), some (.int x1), some (.int x2), some (.int x3), some (.int x4), none] [.ref (E.1.heap.size + 44)] := by
    intro σ x1 x2 x3 x4 hV
    unfold V_X4_since_22 at hV
    refine z_iconst (v := 1) hC dX4_since_22 rfl ?_
    refine z_goto (tgt := 27) hC dX4_since_23 (by decide) ?_
    refine zz_sub (L' := [some (.ref (E.1.heap.size + 44)), some (.int x1), some (.int x2), some (.int x3), some (.int x4), none]) ⟨rfl, rfl, rfl, rfl, rfl, trivial⟩ ?_
    exact j_27 σ x1 x2 x3 x4 1 hV
  refine z_aload_n hC dX4_since_0 rfl rfl ?_
  refine z_iconst (v := 0) hC dX4_since_1 rfl ?_
  refine p_X4_131_c3 hC dX4_since_2 (k_44 _) ?_
  obtain ⟨σ1, e_σ1⟩ : ∃ z : ZS, z = sI σ 44 0 0 := ⟨_, rfl⟩
  replace hV := hV _ e_σ1
  rw [← e_σ1]
  refine z_aload_n hC dX4_since_5 rfl rfl ?_
  refine z_aload_n hC dX4_since_6 rfl rfl ?_
  refine z_iload_n hC dX4_since_7 rfl rfl ?_
  refine c_X4_307 hC (by decide) dX4_since_8 (Nat.le_of_ble_eq_true rfl) hV (fun r2 σ3 hV => ?_)
  refine z_if_eq (tgt := 22) hC dX4_since_11 (by decide) (fun hc => ?_) (fun hc => ?_)
  · replace hV := hV.1 hc
    refine zz_sub (L' := [some (.ref (E.1.heap.size + 44)), some (.int a1), some (.int a2), some (.int a3), some (.int a4), none]) ⟨rfl, rfl, rfl, rfl, rfl, trivial⟩ ?_
    exact j_22 σ3 a1 a2 a3 a4 hV
  · replace hV := hV.2 hc
    refine z_aload_n hC dX4_since_14 rfl rfl ?_
    refine z_iload_n hC dX4_since_15 rfl rfl ?_
    refine c_X4_307 hC (by decide) dX4_since_16 (Nat.le_of_ble_eq_true rfl) hV (fun r18 σ19 hV => ?_)
    refine z_if_ne (tgt := 26) hC dX4_since_19 (by decide) (fun hc => ?_) (fun hc => ?_)
    · replace hV := hV.2 hc
      refine z_iconst (v := 0) hC dX4_since_26 rfl ?_
      refine zz_sub (L' := [some (.ref (E.1.heap.size + 44)), some (.int a1), some (.int a2), some (.int a3), some (.int a4), none]) ⟨rfl, rfl, rfl, rfl, rfl, trivial⟩ ?_
      exact j_27 σ19 a1 a2 a3 a4 0 hV
    · replace hV := hV.1 hc
      refine zz_sub (L' := [some (.ref (E.1.heap.size + 44)), some (.int a1), some (.int a2), some (.int a3), some (.int a4), none]) ⟨rfl, rfl, rfl, rfl, rfl, trivial⟩ ?_
      exact j_22 σ19 a1 a2 a3 a4 hV
def V_X4_stands_76 (Ret : Int32 → ZS → Prop) (σ : ZS) (x1 : Int32) (x2 : Int32) (x3 : Int32) (s0 : Nat) : Prop :=
    ∃ n11, kK NS σ s0 = (4, n11) ∧ (vp_in x3 n11 ∧ ((kP NS σ s0 (ix x3)) = some (.inl (zo (kP NS σ s0 (ix x3)))) ∧ (∃ n15, kK NS σ (zo (kP NS σ s0 (ix x3))) = (0, n15) ∧ (vp_in x1 n15 ∧ ((((((zI σ (zo (kP NS σ s0 (ix x3))) (ix x1)) >>> (x2 &&& 31)) &&& 1) = 1 → (Ret 1 σ)) ∧ (¬ (((zI σ (zo (kP NS σ s0 (ix x3))) (ix x1)) >>> (x2 &&& 31)) &&& 1) = 1 → (Ret 0 σ))))))))
def V_X4_stands_51 (Ret : Int32 → ZS → Prop) (σ : ZS) (x1 : Int32) (x2 : Int32) (x3 : Int32) (x4 : Int32) (s0 : Int32) : Prop :=
    wp_X4_bad σ s0 2 (fun r8 σ9 => ((r8 = 0 → (((x4 = 0 → (V_X4_stands_76 Ret σ9 x1 x2 x3 160)) ∧ (¬ x4 = 0 → (V_X4_stands_76 Ret σ9 x1 x2 x3 362))))) ∧ (¬ r8 = 0 → (Ret 0 σ9))))
def V_X4_stands_46 (Ret : Int32 → ZS → Prop) (σ : ZS) (x1 : Int32) (x2 : Int32) (x3 : Int32) (x4 : Int32) : Prop :=
    V_X4_stands_51 Ret σ x1 x2 x3 x4 1
def V_X4_stands_20 (Ret : Int32 → ZS → Prop) (σ : ZS) (x1 : Int32) (x2 : Int32) (x3 : Int32) (x4 : Int32) (s0 : Int32) : Prop :=
    wp_X4_bad σ s0 1 (fun r4 σ5 => ((r4 = 0 → (wp_X4_isTime σ5 x3 (fun r6 σ7 => ((r6 = 0 → (V_X4_stands_46 Ret σ7 x1 x2 x3 x4)) ∧ (¬ r6 = 0 → (wp_X4_in σ7 x4 0 1 (fun r17 σ18 => ((r17 = 0 → (V_X4_stands_46 Ret σ18 x1 x2 x3 x4)) ∧ (¬ r17 = 0 → (V_X4_stands_51 Ret σ18 x1 x2 x3 x4 0)))))))))) ∧ (¬ r4 = 0 → (Ret 0 σ5))))
def wp_X4_stands (σ : ZS) (a1 : Int32) (a2 : Int32) (a3 : Int32) (a4 : Int32) (Ret : Int32 → ZS → Prop) : Prop :=
    ∀ σ1 : ZS, σ1 = sI σ 44 0 0 → (wp_X4_areStreets σ1 a1 a2 (fun r2 σ3 => ((r2 = 0 → (V_X4_stands_20 Ret σ3 a1 a2 a3 a4 1)) ∧ (¬ r2 = 0 → (V_X4_stands_20 Ret σ3 a1 a2 a3 a4 0)))))
set_option maxHeartbeats 4000000 in
theorem mz_X4_stands {l : Launch} {E : ZE} (hE : EOK E) {σ : ZS} {a1 : Int32} {a2 : Int32} {a3 : Int32} {a4 : Int32} {Ret : Int32 → ZS → Prop} (hV : wp_X4_stands σ a1 a2 a3 a4 Ret) : MZ l E NS yX4_stands (ws_ yX4_stands cX4_stands 5 (some .boolean)) 4 σ [.ref (E.1.heap.size + 44), .int a1, .int a2, .int a3, .int a4] (rI Ret) := by
  refine MZ.start (L := [some (.ref (E.1.heap.size + 44)), some (.int a1), some (.int a2), some (.int a3), some (.int a4)]) hE (by decide) (Nat.le_of_ble_eq_true rfl) rfl fun C hCl hQo hC => ?_
  replace hC : Cx C E cX4_stands 5 "RightTurnsModel" "stands" (some .boolean) [] 4 := hC
  unfold wp_X4_stands at hV
  have j_76 : ∀ (σ : ZS) (x1 : Int32) (x2 : Int32) (x3 : Int32) (s0 : Nat), V_X4_stands_76 Ret σ x1 x2 x3 s0 → zz C E NS 5 σ 76 [none, some (.int x1), some (.int x2), some (.int x3), none] [.ref (E.1.heap.size + s0)] := by
    intro σ x1 x2 x3 s0 hV
    unfold V_X4_stands_76 at hV
    refine z_iload_n hC dX4_stands_76 rfl rfl ?_
    obtain ⟨n11, h10, hV⟩ := hV
    obtain ⟨h12, hV⟩ := hV
    refine z_aald4 hC dX4_stands_77 h10 (h12) rfl ?_
    obtain ⟨h13, hV⟩ := hV
    refine zz_at rfl (by rw [pvo h13]) ?_
    refine z_iload_n hC dX4_stands_78 rfl rfl ?_
    obtain ⟨n15, h14, hV⟩ := hV
    obtain ⟨h16, hV⟩ := hV
    refine z_iald hC dX4_stands_79 h14 (h16) ?_
    refine z_iload_n hC dX4_stands_80 rfl rfl ?_
    refine z_ishr hC dX4_stands_81 ?_
    refine z_iconst (v := 1) hC dX4_stands_82 rfl ?_
    refine z_iand hC dX4_stands_83 ?_
    refine z_iconst (v := 1) hC dX4_stands_84 rfl ?_
    refine z_icmp_ne (tgt := 92) hC dX4_stands_85 (by decide) (fun hc => ?_) (fun hc => ?_)
    · replace hV := hV.2 hc
      refine z_iconst (v := 0) hC dX4_stands_92 rfl ?_
      exact z_iret hC dX4_stands_93 rfl (by rw [hQo]; exact ⟨_, rfl, hV⟩)
    · replace hV := hV.1 hc
      refine z_iconst (v := 1) hC dX4_stands_88 rfl ?_
      refine z_goto (tgt := 93) hC dX4_stands_89 (by decide) ?_
      exact z_iret hC dX4_stands_93 rfl (by rw [hQo]; exact ⟨_, rfl, hV⟩)
  have j_51 : ∀ (σ : ZS) (x1 : Int32) (x2 : Int32) (x3 : Int32) (x4 : Int32) (s0 : Int32), V_X4_stands_51 Ret σ x1 x2 x3 x4 s0 → zz C E NS 5 σ 51 [some (.ref (E.1.heap.size + 44)), some (.int x1), some (.int x2), some (.int x3), some (.int x4)] [.int s0, .ref (E.1.heap.size + 44)] := by
    intro σ x1 x2 x3 x4 s0 hV
    unfold V_X4_stands_51 at hV
    refine z_iconst (v := 2) hC dX4_stands_51 rfl ?_
    refine c_X4_227 hC (by decide) dX4_stands_52 (Nat.le_of_ble_eq_true rfl) hV (fun r8 σ9 hV => ?_)
    refine z_if_eq (tgt := 60) hC dX4_stands_55 (by decide) (fun hc => ?_) (fun hc => ?_)
    · replace hV := hV.1 hc
      refine z_iload hC dX4_stands_60 rfl ?_
      refine z_if_ne (tgt := 72) hC dX4_stands_62 (by decide) (fun hc => ?_) (fun hc => ?_)
      · replace hV := hV.2 hc
        refine z_aload_n hC dX4_stands_72 rfl rfl ?_
        refine g_X4_52_44 hC dX4_stands_73 ?_
        refine zz_sub (L' := [none, some (.int x1), some (.int x2), some (.int x3), none]) ⟨rfl, rfl, rfl, trivial⟩ ?_
        exact j_76 σ9 x1 x2 x3 362 hV
      · replace hV := hV.1 hc
        refine z_aload_n hC dX4_stands_65 rfl rfl ?_
        refine g_X4_49_44 hC dX4_stands_66 ?_
        refine z_goto (tgt := 76) hC dX4_stands_69 (by decide) ?_
        refine zz_sub (L' := [none, some (.int x1), some (.int x2), some (.int x3), none]) ⟨rfl, rfl, rfl, trivial⟩ ?_
        exact j_76 σ9 x1 x2 x3 160 hV
    · replace hV := hV.2 hc
      refine z_iconst (v := 0) hC dX4_stands_58 rfl ?_
      exact z_iret hC dX4_stands_59 rfl (by rw [hQo]; exact ⟨_, rfl, hV⟩)
  have j_46 : ∀ (σ : ZS) (x1 : Int32) (x2 : Int32) (x3 : Int32) (x4 : Int32), V_X4_stands_46 Ret σ x1 x2 x3 x4 → zz C E NS 5 σ 46 [some (.ref (E.1.heap.size + 44)), some (.int x1), some (.int x2), some (.int x3), some (.int x4)] [.ref (E.1.heap.size + 44)] := by
    intro σ x1 x2 x3 x4 hV
    unfold V_X4_stands_46 at hV
    refine z_iconst (v := 1) hC dX4_stands_46 rfl ?_
    refine z_goto (tgt := 51) hC dX4_stands_47 (by decide) ?_
    refine zz_sub (L' := [some (.ref (E.1.heap.size + 44)), some (.int x1), some (.int x2), some (.int x3), some (.int x4)]) ⟨rfl, rfl, rfl, rfl, rfl, trivial⟩ ?_
    exact j_51 σ x1 x2 x3 x4 1 hV
  have j_20 : ∀ (σ : ZS) (x1 : Int32) (x2 : Int32) (x3 : Int32) (x4 : Int32) (s0 : Int32), V_X4_stands_20 Ret σ x1 x2 x3 x4 s0 → zz C E NS 5 σ 20 [some (.ref (E.1.heap.size + 44)), some (.int x1), some (.int x2), some (.int x3), some (.int x4)] [.int s0, .ref (E.1.heap.size + 44)] := by
    intro σ x1 x2 x3 x4 s0 hV
    unfold V_X4_stands_20 at hV
    refine z_iconst (v := 1) hC dX4_stands_20 rfl ?_
    refine c_X4_227 hC (by decide) dX4_stands_21 (Nat.le_of_ble_eq_true rfl) hV (fun r4 σ5 hV => ?_)
    refine z_if_ne (tgt := 58) hC dX4_stands_24 (by decide) (fun hc => ?_) (fun hc => ?_)
    · replace hV := hV.2 hc
      refine z_iconst (v := 0) hC dX4_stands_58 rfl ?_
      exact z_iret hC dX4_stands_59 rfl (by rw [hQo]; exact ⟨_, rfl, hV⟩)
    · replace hV := hV.1 hc
      refine z_aload_n hC dX4_stands_27 rfl rfl ?_
      refine z_aload_n hC dX4_stands_28 rfl rfl ?_
      refine z_iload_n hC dX4_stands_29 rfl rfl ?_
      refine c_X4_281 hC (by decide) dX4_stands_30 (Nat.le_of_ble_eq_true rfl) hV (fun r6 σ7 hV => ?_)
      refine z_if_eq (tgt := 46) hC dX4_stands_33 (by decide) (fun hc => ?_) (fun hc => ?_)
      · replace hV := hV.1 hc
        refine zz_sub (L' := [some (.ref (E.1.heap.size + 44)), some (.int x1), some (.int x2), some (.int x3), some (.int x4)]) ⟨rfl, rfl, rfl, rfl, rfl, trivial⟩ ?_
        exact j_46 σ7 x1 x2 x3 x4 hV
      · replace hV := hV.2 hc
        refine z_iload hC dX4_stands_36 rfl ?_
        refine z_iconst (v := 0) hC dX4_stands_38 rfl ?_
        refine z_iconst (v := 1) hC dX4_stands_39 rfl ?_
        refine c_X4_165 hC (by decide) dX4_stands_40 (Nat.le_of_ble_eq_true rfl) hV (fun r17 σ18 hV => ?_)
        refine z_if_ne (tgt := 50) hC dX4_stands_43 (by decide) (fun hc => ?_) (fun hc => ?_)
        · replace hV := hV.2 hc
          refine z_iconst (v := 0) hC dX4_stands_50 rfl ?_
          refine zz_sub (L' := [some (.ref (E.1.heap.size + 44)), some (.int x1), some (.int x2), some (.int x3), some (.int x4)]) ⟨rfl, rfl, rfl, rfl, rfl, trivial⟩ ?_
          exact j_51 σ18 x1 x2 x3 x4 0 hV
        · replace hV := hV.1 hc
          refine zz_sub (L' := [some (.ref (E.1.heap.size + 44)), some (.int x1), some (.int x2), some (.int x3), some (.int x4)]) ⟨rfl, rfl, rfl, rfl, rfl, trivial⟩ ?_
          exact j_46 σ18 x1 x2 x3 x4 hV
  refine z_aload_n hC dX4_stands_0 rfl rfl ?_
  refine z_iconst (v := 0) hC dX4_stands_1 rfl ?_
  refine p_X4_131_c3 hC dX4_stands_2 (k_44 _) ?_
  obtain ⟨σ1, e_σ1⟩ : ∃ z : ZS, z = sI σ 44 0 0 := ⟨_, rfl⟩
  replace hV := hV _ e_σ1
  rw [← e_σ1]
  refine z_aload_n hC dX4_stands_5 rfl rfl ?_
  refine z_aload_n hC dX4_stands_6 rfl rfl ?_
  refine z_iload_n hC dX4_stands_7 rfl rfl ?_
  refine z_iload_n hC dX4_stands_8 rfl rfl ?_
  refine c_X4_284 hC (by decide) dX4_stands_9 (Nat.le_of_ble_eq_true rfl) hV (fun r2 σ3 hV => ?_)
  refine z_if_ne (tgt := 19) hC dX4_stands_12 (by decide) (fun hc => ?_) (fun hc => ?_)
  · replace hV := hV.2 hc
    refine z_iconst (v := 0) hC dX4_stands_19 rfl ?_
    refine zz_sub (L' := [some (.ref (E.1.heap.size + 44)), some (.int a1), some (.int a2), some (.int a3), some (.int a4)]) ⟨rfl, rfl, rfl, rfl, rfl, trivial⟩ ?_
    exact j_20 σ3 a1 a2 a3 a4 0 hV
  · replace hV := hV.1 hc
    refine z_iconst (v := 1) hC dX4_stands_15 rfl ?_
    refine z_goto (tgt := 20) hC dX4_stands_16 (by decide) ?_
    refine zz_sub (L' := [some (.ref (E.1.heap.size + 44)), some (.int a1), some (.int a2), some (.int a3), some (.int a4)]) ⟨rfl, rfl, rfl, rfl, rfl, trivial⟩ ?_
    exact j_20 σ3 a1 a2 a3 a4 1 hV
def VL_X4_step_89 (Ret : Int32 → ZS → Prop) : Nat → ZS → Int32 → Int32 → Int32 → Int32 → Prop
  | 0 => fun _ _ _ _ _ => False
  | k + 1 => fun σ x2 x4 x5 x6 =>
    let K89 := VL_X4_step_89 Ret k
    ((x6 < x4 → (((x5 = (-1) → (Ret x5 σ)) ∧ (¬ x5 = (-1) → (wp_X4_nextArc σ x5 x2 (fun r16 σ17 => ∀ y18 : Int32, y18 = x6 + 1 → (K89 σ17 x2 x4 r16 y18))))))) ∧ (¬ x6 < x4 → (Ret x5 σ)))
def V_X4_step_89 (Ret : Int32 → ZS → Prop) (σ : ZS) (x2 : Int32) (x4 : Int32) (x5 : Int32) (x6 : Int32) : Prop := ∃ k, VL_X4_step_89 Ret k σ x2 x4 x5 x6
def V_X4_step_48 (Ret : Int32 → ZS → Prop) (σ : ZS) (x1 : Int32) (x2 : Int32) (x3 : Int32) (x4 : Int32) (s0 : Int32) : Prop :=
    wp_X4_bad σ s0 2 (fun r8 σ9 => ((r8 = 0 → (wp_X4_asks σ9 x3 (fun σ11 => ((x4 < 0 → (Ret (-1) σ11)) ∧ (¬ x4 < 0 → (wp_X4_rideOf σ11 x1 x2 (fun r12 σ13 => ((r12 < 1 → (Ret (-1) σ13)) ∧ (¬ r12 < 1 → (wp_X4_firstArc σ13 x1 (fun r14 σ15 => V_X4_step_89 Ret σ15 x2 x4 r14 0))))))))))) ∧ (¬ r8 = 0 → (Ret 0 σ9))))
def V_X4_step_27 (Ret : Int32 → ZS → Prop) (σ : ZS) (x1 : Int32) (x2 : Int32) (x3 : Int32) (x4 : Int32) (s0 : Int32) : Prop :=
    wp_X4_bad σ s0 1 (fun r4 σ5 => ((r4 = 0 → (wp_X4_isTime σ5 x3 (fun r6 σ7 => ((r6 = 0 → (V_X4_step_48 Ret σ7 x1 x2 x3 x4 1)) ∧ (¬ r6 = 0 → (V_X4_step_48 Ret σ7 x1 x2 x3 x4 0)))))) ∧ (¬ r4 = 0 → (Ret 0 σ5))))
def V_X4_step_22 (Ret : Int32 → ZS → Prop) (σ : ZS) (x1 : Int32) (x2 : Int32) (x3 : Int32) (x4 : Int32) : Prop :=
    V_X4_step_27 Ret σ x1 x2 x3 x4 1
def wp_X4_step (σ : ZS) (a1 : Int32) (a2 : Int32) (a3 : Int32) (a4 : Int32) (Ret : Int32 → ZS → Prop) : Prop :=
    ∀ σ1 : ZS, σ1 = sI σ 44 0 0 → (wp_X4_isCorner σ1 a1 (fun r2 σ3 => ((r2 = 0 → (V_X4_step_22 Ret σ3 a1 a2 a3 a4)) ∧ (¬ r2 = 0 → (wp_X4_isCorner σ3 a2 (fun r19 σ20 => ((r19 = 0 → (V_X4_step_22 Ret σ20 a1 a2 a3 a4)) ∧ (¬ r19 = 0 → (V_X4_step_27 Ret σ20 a1 a2 a3 a4 0)))))))))
set_option maxHeartbeats 4000000 in
theorem mz_X4_step {l : Launch} {E : ZE} (hE : EOK E) {σ : ZS} {a1 : Int32} {a2 : Int32} {a3 : Int32} {a4 : Int32} {Ret : Int32 → ZS → Prop} (hV : wp_X4_step σ a1 a2 a3 a4 Ret) : MZ l E NS yX4_step (ws_ yX4_step cX4_step 7 (some .int)) 7 σ [.ref (E.1.heap.size + 44), .int a1, .int a2, .int a3, .int a4] (rI Ret) := by
  refine MZ.start (L := [some (.ref (E.1.heap.size + 44)), some (.int a1), some (.int a2), some (.int a3), some (.int a4), none, none]) hE (by decide) (Nat.le_of_ble_eq_true rfl) rfl fun C hCl hQo hC => ?_
  replace hC : Cx C E cX4_step 7 "RightTurnsModel" "step" (some .int) [] 7 := hC
  unfold wp_X4_step at hV
  have j_89 : ∀ (σ : ZS) (x2 : Int32) (x4 : Int32) (x5 : Int32) (x6 : Int32), V_X4_step_89 Ret σ x2 x4 x5 x6 → zz C E NS 7 σ 89 [some (.ref (E.1.heap.size + 44)), none, some (.int x2), none, some (.int x4), some (.int x5), some (.int x6)] [] := by
    intro σ x2 x4 x5 x6 ⟨k, hV⟩
    revert σ x2 x4 x5 x6
    induction k with
    | zero => exact fun _ _ _ _ _ hV => hV.elim
    | succ k j_89 =>
      intro σ x2 x4 x5 x6 hV
      simp only [VL_X4_step_89] at hV
      generalize hKe89 : VL_X4_step_89 Ret k = K89 at hV j_89
      clear hKe89
      refine z_iload hC dX4_step_89 rfl ?_
      refine z_iload hC dX4_step_91 rfl ?_
      refine z_icmp_ge (tgt := 117) hC dX4_step_93 (by decide) (fun hc => ?_) (fun hc => ?_)
      · replace hV := hV.2 hc
        refine z_iload hC dX4_step_117 rfl ?_
        exact z_iret hC dX4_step_119 rfl (by rw [hQo]; exact ⟨_, rfl, hV⟩)
      · replace hV := hV.1 hc
        refine z_iload hC dX4_step_96 rfl ?_
        refine z_iconst (v := (-1)) hC dX4_step_98 rfl ?_
        refine z_icmp_eq (tgt := 117) hC dX4_step_99 (by decide) (fun hc => ?_) (fun hc => ?_)
        · replace hV := hV.1 hc
          refine z_iload hC dX4_step_117 rfl ?_
          exact z_iret hC dX4_step_119 rfl (by rw [hQo]; exact ⟨_, rfl, hV⟩)
        · replace hV := hV.2 hc
          refine z_aload_n hC dX4_step_102 rfl rfl ?_
          refine z_iload hC dX4_step_103 rfl ?_
          refine z_iload_n hC dX4_step_105 rfl rfl ?_
          refine c_X4_316 hC (by decide) dX4_step_106 (Nat.le_of_ble_eq_true rfl) hV (fun r16 σ17 hV => ?_)
          refine z_istore hC dX4_step_109 (Nat.le_of_ble_eq_true rfl) rfl rfl ?_
          obtain ⟨y18, e_y18⟩ : ∃ z : Int32, z = x6 + 1 := ⟨_, rfl⟩
          replace hV := hV _ e_y18
          refine z_iinc (v := y18) hC dX4_step_111 rfl (by rw [e_y18]; rfl) (Nat.le_of_ble_eq_true rfl) rfl rfl ?_
          refine z_goto (tgt := 89) hC dX4_step_114 (by decide) ?_
          refine zz_sub (L' := [some (.ref (E.1.heap.size + 44)), none, some (.int x2), none, some (.int x4), some (.int r16), some (.int y18)]) ⟨rfl, rfl, rfl, rfl, rfl, trivial⟩ ?_
          exact j_89 σ17 x2 x4 r16 y18 hV
  have j_48 : ∀ (σ : ZS) (x1 : Int32) (x2 : Int32) (x3 : Int32) (x4 : Int32) (s0 : Int32), V_X4_step_48 Ret σ x1 x2 x3 x4 s0 → zz C E NS 7 σ 48 [some (.ref (E.1.heap.size + 44)), some (.int x1), some (.int x2), some (.int x3), some (.int x4), none, none] [.int s0, .ref (E.1.heap.size + 44)] := by
    intro σ x1 x2 x3 x4 s0 hV
    unfold V_X4_step_48 at hV
    refine z_iconst (v := 2) hC dX4_step_48 rfl ?_
    refine c_X4_227 hC (by decide) dX4_step_49 (Nat.le_of_ble_eq_true rfl) hV (fun r8 σ9 hV => ?_)
    refine z_if_eq (tgt := 57) hC dX4_step_52 (by decide) (fun hc => ?_) (fun hc => ?_)
    · replace hV := hV.1 hc
      refine z_aload_n hC dX4_step_57 rfl rfl ?_
      refine z_iload_n hC dX4_step_58 rfl rfl ?_
      refine c_X4_310 hC (by decide) dX4_step_59 (Nat.le_of_ble_eq_true rfl) hV (fun σ11 hV => ?_)
      refine z_iload hC dX4_step_62 rfl ?_
      refine z_if_lt (tgt := 77) hC dX4_step_64 (by decide) (fun hc => ?_) (fun hc => ?_)
      · replace hV := hV.1 hc
        refine z_iconst (v := (-1)) hC dX4_step_77 rfl ?_
        exact z_iret hC dX4_step_78 rfl (by rw [hQo]; exact ⟨_, rfl, hV⟩)
      · replace hV := hV.2 hc
        refine z_aload_n hC dX4_step_67 rfl rfl ?_
        refine z_iload_n hC dX4_step_68 rfl rfl ?_
        refine z_iload_n hC dX4_step_69 rfl rfl ?_
        refine c_X4_313 hC (by decide) dX4_step_70 (Nat.le_of_ble_eq_true rfl) hV (fun r12 σ13 hV => ?_)
        refine z_iconst (v := 1) hC dX4_step_73 rfl ?_
        refine z_icmp_ge (tgt := 79) hC dX4_step_74 (by decide) (fun hc => ?_) (fun hc => ?_)
        · replace hV := hV.2 hc
          refine z_aload_n hC dX4_step_79 rfl rfl ?_
          refine z_iload_n hC dX4_step_80 rfl rfl ?_
          refine c_X4_304 hC (by decide) dX4_step_81 (Nat.le_of_ble_eq_true rfl) hV (fun r14 σ15 hV => ?_)
          refine z_istore hC dX4_step_84 (Nat.le_of_ble_eq_true rfl) rfl rfl ?_
          refine z_iconst (v := 0) hC dX4_step_86 rfl ?_
          refine z_istore hC dX4_step_87 (Nat.le_of_ble_eq_true rfl) rfl rfl ?_
          refine zz_sub (L' := [some (.ref (E.1.heap.size + 44)), none, some (.int x2), none, some (.int x4), some (.int r14), some (.int 0)]) ⟨rfl, rfl, rfl, rfl, rfl, trivial⟩ ?_
          exact j_89 σ15 x2 x4 r14 0 hV
        · replace hV := hV.1 hc
          refine z_iconst (v := (-1)) hC dX4_step_77 rfl ?_
          exact z_iret hC dX4_step_78 rfl (by rw [hQo]; exact ⟨_, rfl, hV⟩)
    · replace hV := hV.2 hc
      refine z_iconst (v := 0) hC dX4_step_55 rfl ?_
      exact z_iret hC dX4_step_56 rfl (by rw [hQo]; exact ⟨_, rfl, hV⟩)
  have j_27 : ∀ (σ : ZS) (x1 : Int32) (x2 : Int32) (x3 : Int32) (x4 : Int32) (s0 : Int32), V_X4_step_27 Ret σ x1 x2 x3 x4 s0 → zz C E NS 7 σ 27 [some (.ref (E.1.heap.size + 44)), some (.int x1), some (.int x2), some (.int x3), some (.int x4), none, none] [.int s0, .ref (E.1.heap.size + 44)] := by
    intro σ x1 x2 x3 x4 s0 hV
    unfold V_X4_step_27 at hV
    refine z_iconst (v := 1) hC dX4_step_27 rfl ?_
    refine c_X4_227 hC (by decide) dX4_step_28 (Nat.le_of_ble_eq_true rfl) hV (fun r4 σ5 hV => ?_)
    refine z_if_ne (tgt := 55) hC dX4_step_31 (by decide) (fun hc => ?_) (fun hc => ?_)
    · replace hV := hV.2 hc
      refine z_iconst (v := 0) hC dX4_step_55 rfl ?_
      exact z_iret hC dX4_step_56 rfl (by rw [hQo]; exact ⟨_, rfl, hV⟩)
    · replace hV := hV.1 hc
      refine z_aload_n hC dX4_step_34 rfl rfl ?_
      refine z_aload_n hC dX4_step_35 rfl rfl ?_
      refine z_iload_n hC dX4_step_36 rfl rfl ?_
      refine c_X4_281 hC (by decide) dX4_step_37 (Nat.le_of_ble_eq_true rfl) hV (fun r6 σ7 hV => ?_)
      refine z_if_ne (tgt := 47) hC dX4_step_40 (by decide) (fun hc => ?_) (fun hc => ?_)
      · replace hV := hV.2 hc
        refine z_iconst (v := 0) hC dX4_step_47 rfl ?_
        refine zz_sub (L' := [some (.ref (E.1.heap.size + 44)), some (.int x1), some (.int x2), some (.int x3), some (.int x4), none, none]) ⟨rfl, rfl, rfl, rfl, rfl, trivial⟩ ?_
        exact j_48 σ7 x1 x2 x3 x4 0 hV
      · replace hV := hV.1 hc
        refine z_iconst (v := 1) hC dX4_step_43 rfl ?_
        refine z_goto (tgt := 48) hC dX4_step_44 (by decide) ?_
        refine zz_sub (L' := [some (.ref (E.1.heap.size + 44)), some (.int x1), some (.int x2), some (.int x3), some (.int x4), none, none]) ⟨rfl, rfl, rfl, rfl, rfl, trivial⟩ ?_
        exact j_48 σ7 x1 x2 x3 x4 1 hV
  have j_22 : ∀ (σ : ZS) (x1 : Int32) (x2 : Int32) (x3 : Int32) (x4 : Int32), V_X4_step_22 Ret σ x1 x2 x3 x4 → zz C E NS 7 σ 22 [some (.ref (E.1.heap.size + 44)), some (.int x1), some (.int x2), some (.int x3), some (.int x4), none, none] [.ref (E.1.heap.size + 44)] := by
    intro σ x1 x2 x3 x4 hV
    unfold V_X4_step_22 at hV
    refine z_iconst (v := 1) hC dX4_step_22 rfl ?_
    refine z_goto (tgt := 27) hC dX4_step_23 (by decide) ?_
    refine zz_sub (L' := [some (.ref (E.1.heap.size + 44)), some (.int x1), some (.int x2), some (.int x3), some (.int x4), none, none]) ⟨rfl, rfl, rfl, rfl, rfl, trivial⟩ ?_
    exact j_27 σ x1 x2 x3 x4 1 hV
  refine z_aload_n hC dX4_step_0 rfl rfl ?_
  refine z_iconst (v := 0) hC dX4_step_1 rfl ?_
  refine p_X4_131_c3 hC dX4_step_2 (k_44 _) ?_
  obtain ⟨σ1, e_σ1⟩ : ∃ z : ZS, z = sI σ 44 0 0 := ⟨_, rfl⟩
  replace hV := hV _ e_σ1
  rw [← e_σ1]
  refine z_aload_n hC dX4_step_5 rfl rfl ?_
  refine z_aload_n hC dX4_step_6 rfl rfl ?_
  refine z_iload_n hC dX4_step_7 rfl rfl ?_
  refine c_X4_307 hC (by decide) dX4_step_8 (Nat.le_of_ble_eq_true rfl) hV (fun r2 σ3 hV => ?_)
  refine z_if_eq (tgt := 22) hC dX4_step_11 (by decide) (fun hc => ?_) (fun hc => ?_)
  · replace hV := hV.1 hc
    refine zz_sub (L' := [some (.ref (E.1.heap.size + 44)), some (.int a1), some (.int a2), some (.int a3), some (.int a4), none, none]) ⟨rfl, rfl, rfl, rfl, rfl, trivial⟩ ?_
    exact j_22 σ3 a1 a2 a3 a4 hV
  · replace hV := hV.2 hc
    refine z_aload_n hC dX4_step_14 rfl rfl ?_
    refine z_iload_n hC dX4_step_15 rfl rfl ?_
    refine c_X4_307 hC (by decide) dX4_step_16 (Nat.le_of_ble_eq_true rfl) hV (fun r19 σ20 hV => ?_)
    refine z_if_ne (tgt := 26) hC dX4_step_19 (by decide) (fun hc => ?_) (fun hc => ?_)
    · replace hV := hV.2 hc
      refine z_iconst (v := 0) hC dX4_step_26 rfl ?_
      refine zz_sub (L' := [some (.ref (E.1.heap.size + 44)), some (.int a1), some (.int a2), some (.int a3), some (.int a4), none, none]) ⟨rfl, rfl, rfl, rfl, rfl, trivial⟩ ?_
      exact j_27 σ20 a1 a2 a3 a4 0 hV
    · replace hV := hV.1 hc
      refine zz_sub (L' := [some (.ref (E.1.heap.size + 44)), some (.int a1), some (.int a2), some (.int a3), some (.int a4), none, none]) ⟨rfl, rfl, rfl, rfl, rfl, trivial⟩ ?_
      exact j_22 σ20 a1 a2 a3 a4 hV
def V_X4_street_41 (Ret : Int32 → ZS → Prop) (σ : ZS) (x1 : Int32) (x2 : Int32) (s0 : Int32) : Prop :=
    wp_X4_bad σ s0 2 (fun r8 σ9 => ((r8 = 0 → (vp_in x1 24 ∧ (vp_in x2 4 ∧ (Ret (zI σ9 (107 + 1 + ix x1) (ix x2)) σ9)))) ∧ (¬ r8 = 0 → (Ret 0 σ9))))
def V_X4_street_19 (Ret : Int32 → ZS → Prop) (σ : ZS) (x1 : Int32) (x2 : Int32) (s0 : Int32) : Prop :=
    wp_X4_bad σ s0 1 (fun r4 σ5 => ((r4 = 0 → (wp_X4_in σ5 x2 0 3 (fun r6 σ7 => ((r6 = 0 → (V_X4_street_41 Ret σ7 x1 x2 1)) ∧ (¬ r6 = 0 → (V_X4_street_41 Ret σ7 x1 x2 0)))))) ∧ (¬ r4 = 0 → (Ret 0 σ5))))
def wp_X4_street (σ : ZS) (a1 : Int32) (a2 : Int32) (Ret : Int32 → ZS → Prop) : Prop :=
    ∀ σ1 : ZS, σ1 = sI σ 44 0 0 → (wp_X4_isStreet σ1 a1 (fun r2 σ3 => ((r2 = 0 → (V_X4_street_19 Ret σ3 a1 a2 1)) ∧ (¬ r2 = 0 → (V_X4_street_19 Ret σ3 a1 a2 0)))))
set_option maxHeartbeats 4000000 in
theorem mz_X4_street {l : Launch} {E : ZE} (hE : EOK E) {σ : ZS} {a1 : Int32} {a2 : Int32} {Ret : Int32 → ZS → Prop} (hV : wp_X4_street σ a1 a2 Ret) : MZ l E NS yX4_street (ws_ yX4_street cX4_street 3 (some .int)) 3 σ [.ref (E.1.heap.size + 44), .int a1, .int a2] (rI Ret) := by
  refine MZ.start (L := [some (.ref (E.1.heap.size + 44)), some (.int a1), some (.int a2)]) hE (by decide) (Nat.le_of_ble_eq_true rfl) rfl fun C hCl hQo hC => ?_
  replace hC : Cx C E cX4_street 3 "RightTurnsModel" "street" (some .int) [] 3 := hC
  unfold wp_X4_street at hV
  have j_41 : ∀ (σ : ZS) (x1 : Int32) (x2 : Int32) (s0 : Int32), V_X4_street_41 Ret σ x1 x2 s0 → zz C E NS 3 σ 41 [some (.ref (E.1.heap.size + 44)), some (.int x1), some (.int x2)] [.int s0, .ref (E.1.heap.size + 44)] := by
    intro σ x1 x2 s0 hV
    unfold V_X4_street_41 at hV
    refine z_iconst (v := 2) hC dX4_street_41 rfl ?_
    refine c_X4_227 hC (by decide) dX4_street_42 (Nat.le_of_ble_eq_true rfl) hV (fun r8 σ9 hV => ?_)
    refine z_if_eq (tgt := 50) hC dX4_street_45 (by decide) (fun hc => ?_) (fun hc => ?_)
    · replace hV := hV.1 hc
      refine z_aload_n hC dX4_street_50 rfl rfl ?_
      refine g_X4_34_44 hC dX4_street_51 ?_
      refine z_iload_n hC dX4_street_54 rfl rfl ?_
      obtain ⟨h10, hV⟩ := hV
      refine z_aalS hC dX4_street_55 (k_107 _) (by decide) ps_107 h10 ?_
      refine z_iload_n hC dX4_street_56 rfl rfl ?_
      obtain ⟨h11, hV⟩ := hV
      refine z_iald hC dX4_street_57 (kr_107 _ (ix_lt h10)) (h11) ?_
      exact z_iret hC dX4_street_58 rfl (by rw [hQo]; exact ⟨_, rfl, hV⟩)
    · replace hV := hV.2 hc
      refine z_iconst (v := 0) hC dX4_street_48 rfl ?_
      exact z_iret hC dX4_street_49 rfl (by rw [hQo]; exact ⟨_, rfl, hV⟩)
  have j_19 : ∀ (σ : ZS) (x1 : Int32) (x2 : Int32) (s0 : Int32), V_X4_street_19 Ret σ x1 x2 s0 → zz C E NS 3 σ 19 [some (.ref (E.1.heap.size + 44)), some (.int x1), some (.int x2)] [.int s0, .ref (E.1.heap.size + 44)] := by
    intro σ x1 x2 s0 hV
    unfold V_X4_street_19 at hV
    refine z_iconst (v := 1) hC dX4_street_19 rfl ?_
    refine c_X4_227 hC (by decide) dX4_street_20 (Nat.le_of_ble_eq_true rfl) hV (fun r4 σ5 hV => ?_)
    refine z_if_ne (tgt := 48) hC dX4_street_23 (by decide) (fun hc => ?_) (fun hc => ?_)
    · replace hV := hV.2 hc
      refine z_iconst (v := 0) hC dX4_street_48 rfl ?_
      exact z_iret hC dX4_street_49 rfl (by rw [hQo]; exact ⟨_, rfl, hV⟩)
    · replace hV := hV.1 hc
      refine z_aload_n hC dX4_street_26 rfl rfl ?_
      refine z_iload_n hC dX4_street_27 rfl rfl ?_
      refine z_iconst (v := 0) hC dX4_street_28 rfl ?_
      refine z_iconst (v := 3) hC dX4_street_29 rfl ?_
      refine c_X4_165 hC (by decide) dX4_street_30 (Nat.le_of_ble_eq_true rfl) hV (fun r6 σ7 hV => ?_)
      refine z_if_ne (tgt := 40) hC dX4_street_33 (by decide) (fun hc => ?_) (fun hc => ?_)
      · replace hV := hV.2 hc
        refine z_iconst (v := 0) hC dX4_street_40 rfl ?_
        refine zz_sub (L' := [some (.ref (E.1.heap.size + 44)), some (.int x1), some (.int x2)]) ⟨rfl, rfl, rfl, trivial⟩ ?_
        exact j_41 σ7 x1 x2 0 hV
      · replace hV := hV.1 hc
        refine z_iconst (v := 1) hC dX4_street_36 rfl ?_
        refine z_goto (tgt := 41) hC dX4_street_37 (by decide) ?_
        refine zz_sub (L' := [some (.ref (E.1.heap.size + 44)), some (.int x1), some (.int x2)]) ⟨rfl, rfl, rfl, trivial⟩ ?_
        exact j_41 σ7 x1 x2 1 hV
  refine z_aload_n hC dX4_street_0 rfl rfl ?_
  refine z_iconst (v := 0) hC dX4_street_1 rfl ?_
  refine p_X4_131_c3 hC dX4_street_2 (k_44 _) ?_
  obtain ⟨σ1, e_σ1⟩ : ∃ z : ZS, z = sI σ 44 0 0 := ⟨_, rfl⟩
  replace hV := hV _ e_σ1
  rw [← e_σ1]
  refine z_aload_n hC dX4_street_5 rfl rfl ?_
  refine z_aload_n hC dX4_street_6 rfl rfl ?_
  refine z_iload_n hC dX4_street_7 rfl rfl ?_
  refine c_X4_268 hC (by decide) dX4_street_8 (Nat.le_of_ble_eq_true rfl) hV (fun r2 σ3 hV => ?_)
  refine z_if_ne (tgt := 18) hC dX4_street_11 (by decide) (fun hc => ?_) (fun hc => ?_)
  · replace hV := hV.2 hc
    refine z_iconst (v := 0) hC dX4_street_18 rfl ?_
    refine zz_sub (L' := [some (.ref (E.1.heap.size + 44)), some (.int a1), some (.int a2)]) ⟨rfl, rfl, rfl, trivial⟩ ?_
    exact j_19 σ3 a1 a2 0 hV
  · replace hV := hV.1 hc
    refine z_iconst (v := 1) hC dX4_street_14 rfl ?_
    refine z_goto (tgt := 19) hC dX4_street_15 (by decide) ?_
    refine zz_sub (L' := [some (.ref (E.1.heap.size + 44)), some (.int a1), some (.int a2)]) ⟨rfl, rfl, rfl, trivial⟩ ?_
    exact j_19 σ3 a1 a2 1 hV
theorem p_X4_128_c3 {C : ZC} {E : ZE} {cc : ByteArray} {n nL pc d a x : Nat} {nm : String} {ret : Option FieldType} {hh : List (Nat × Nat × Nat × Nat)} {σ : ZS} {L : List (Option Value)} {st : List Value} {v : Int32} (hC : Cx C E cc nL "RightTurnsModel" nm ret hh d) (hd : decode cc pc = .ok (.putfield 128, 3)) (hk : kK n σ a = (3 + 7, x)) (k : zz C E n nL (sI σ a 54 v) (pc + 3) L st) : zz C E n nL σ pc L (.int v :: .ref (E.1.heap.size + a) :: st) :=
  z_putI hC cf3 hd hk (k := 54) (by decide) (Or.inl q1639) (Or.inl rfl) (Or.inl rfl) rfl rfl rfl k
theorem p_X4_405_c3 {C : ZC} {E : ZE} {cc : ByteArray} {n nL pc d a x : Nat} {nm : String} {ret : Option FieldType} {hh : List (Nat × Nat × Nat × Nat)} {σ : ZS} {L : List (Option Value)} {st : List Value} {v : Int32} (hC : Cx C E cc nL "RightTurnsModel" nm ret hh d) (hd : decode cc pc = .ok (.putfield 405, 3)) (hk : kK n σ a = (3 + 7, x)) (k : zz C E n nL (sI σ a 55 v) (pc + 3) L st) : zz C E n nL σ pc L (.int v :: .ref (E.1.heap.size + a) :: st) :=
  z_putI hC cf3 hd hk (k := 55) (by decide) (Or.inl q1640) (Or.inl rfl) (Or.inl rfl) rfl rfl rfl k
def VL_X4_sure_78 (Ret : Int32 → ZS → Prop) : Nat → ZS → Int32 → Int32 → Int32 → Int32 → Prop
  | 0 => fun _ _ _ _ _ => False
  | k + 1 => fun σ x3 x4 x5 x6 =>
    let K78 := VL_X4_sure_78 Ret k
    ((x6 < ((zI σ 47 (ix 1)) * (zI σ 47 (ix 1))) → (((x5 = (-1) → (¬ (zI σ 47 (ix 1)) = 0 ∧ (∀ σ14 : ZS, σ14 = sI σ 44 54 (x6 / (zI σ 47 (ix 1))) → (¬ (zI σ14 47 (ix 1)) = 0 ∧ (∀ σ16 : ZS, σ16 = sI σ14 44 55 (x6 - x6 / (zI σ14 47 (ix 1)) * (zI σ14 47 (ix 1))) → (wp_X4_findBreaks σ16 (fun σ18 => (((zI σ18 44 56) = x3 → (∀ y24 : Int32, y24 = x6 + 1 → (K78 σ18 x3 x4 x5 y24))) ∧ (¬ (zI σ18 44 56) = x3 → (((x4 = 0 → (∀ y21 : Int32, y21 = (100 * (zI σ18 44 54)) + (zI σ18 44 55) → (∀ y22 : Int32, y22 = x4 + (-1) → (∀ y23 : Int32, y23 = x6 + 1 → (K78 σ18 x3 y22 y21 y23))))) ∧ (¬ x4 = 0 → (∀ y19 : Int32, y19 = x4 + (-1) → (∀ y20 : Int32, y20 = x6 + 1 → (K78 σ18 x3 y19 (-1) y20))))))))))))))) ∧ (¬ x5 = (-1) → (∀ σ12 : ZS, σ12 = sI σ 44 54 (-1) → (Ret x5 σ12)))))) ∧ (¬ x6 < ((zI σ 47 (ix 1)) * (zI σ 47 (ix 1))) → (∀ σ11 : ZS, σ11 = sI σ 44 54 (-1) → (Ret x5 σ11))))
def V_X4_sure_78 (Ret : Int32 → ZS → Prop) (σ : ZS) (x3 : Int32) (x4 : Int32) (x5 : Int32) (x6 : Int32) : Prop := ∃ k, VL_X4_sure_78 Ret k σ x3 x4 x5 x6
def V_X4_sure_19 (Ret : Int32 → ZS → Prop) (σ : ZS) (x1 : Int32) (x2 : Int32) (s0 : Int32) : Prop :=
    wp_X4_bad σ s0 1 (fun r4 σ5 => ((r4 = 0 → ((((zI σ5 44 28) < 2 → (Ret (-1) σ5)) ∧ (¬ (zI σ5 44 28) < 2 → (wp_X4_laysTime σ5 x1 (fun σ7 => wp_X4_findBreaks σ7 (fun σ9 => ∀ y10 : Int32, y10 = zI σ9 44 56 → (((y10 = 1000000000 → (Ret (-1) σ9)) ∧ (¬ y10 = 1000000000 → (((y10 = 0 → (Ret (-1) σ9)) ∧ (¬ y10 = 0 → (((x2 < 0 → (Ret (-1) σ9)) ∧ (¬ x2 < 0 → (V_X4_sure_78 Ret σ9 y10 x2 (-1) 0))))))))))))))))) ∧ (¬ r4 = 0 → (Ret 0 σ5))))
def wp_X4_sure (σ : ZS) (a1 : Int32) (a2 : Int32) (Ret : Int32 → ZS → Prop) : Prop :=
    ∀ σ1 : ZS, σ1 = sI σ 44 0 0 → (wp_X4_isTime σ1 a1 (fun r2 σ3 => ((r2 = 0 → (V_X4_sure_19 Ret σ3 a1 a2 1)) ∧ (¬ r2 = 0 → (V_X4_sure_19 Ret σ3 a1 a2 0)))))
set_option maxHeartbeats 4000000 in
theorem mz_X4_sure {l : Launch} {E : ZE} (hE : EOK E) {σ : ZS} {a1 : Int32} {a2 : Int32} {Ret : Int32 → ZS → Prop} (hV : wp_X4_sure σ a1 a2 Ret) : MZ l E NS yX4_sure (ws_ yX4_sure cX4_sure 7 (some .int)) 7 σ [.ref (E.1.heap.size + 44), .int a1, .int a2] (rI Ret) := by
  refine MZ.start (L := [some (.ref (E.1.heap.size + 44)), some (.int a1), some (.int a2), none, none, none, none]) hE (by decide) (Nat.le_of_ble_eq_true rfl) rfl fun C hCl hQo hC => ?_
  replace hC : Cx C E cX4_sure 7 "RightTurnsModel" "sure" (some .int) [] 7 := hC
  unfold wp_X4_sure at hV
  have j_78 : ∀ (σ : ZS) (x3 : Int32) (x4 : Int32) (x5 : Int32) (x6 : Int32), V_X4_sure_78 Ret σ x3 x4 x5 x6 → zz C E NS 7 σ 78 [some (.ref (E.1.heap.size + 44)), none, none, some (.int x3), some (.int x4), some (.int x5), some (.int x6)] [] := by
    intro σ x3 x4 x5 x6 ⟨k, hV⟩
    revert σ x3 x4 x5 x6
    induction k with
    | zero => exact fun _ _ _ _ _ hV => hV.elim
    | succ k j_78 =>
      intro σ x3 x4 x5 x6 hV
      simp only [VL_X4_sure_78] at hV
      generalize hKe78 : VL_X4_sure_78 Ret k = K78 at hV j_78
      clear hKe78
      refine z_iload hC dX4_sure_78 rfl ?_
      refine z_aload_n hC dX4_sure_80 rfl rfl ?_
      refine g_X4_20_44 hC dX4_sure_81 ?_
      refine z_iconst (v := 1) hC dX4_sure_84 rfl ?_
      refine z_iald hC dX4_sure_85 (k_47 _) (in_dec rfl) ?_
      refine z_aload_n hC dX4_sure_86 rfl rfl ?_
      refine g_X4_20_44 hC dX4_sure_87 ?_
      refine z_iconst (v := 1) hC dX4_sure_90 rfl ?_
      refine z_iald hC dX4_sure_91 (k_47 _) (in_dec rfl) ?_
      refine z_imul hC dX4_sure_92 ?_
      refine z_icmp_ge (tgt := 175) hC dX4_sure_93 (by decide) (fun hc => ?_) (fun hc => ?_)
      · replace hV := hV.2 hc
        refine z_aload_n hC dX4_sure_175 rfl rfl ?_
        refine z_iconst (v := (-1)) hC dX4_sure_176 rfl ?_
        refine p_X4_128_c3 hC dX4_sure_177 (k_44 _) ?_
        obtain ⟨σ11, e_σ11⟩ : ∃ z : ZS, z = sI σ 44 54 (-1) := ⟨_, rfl⟩
        replace hV := hV _ e_σ11
        rw [← e_σ11]
        refine z_iload hC dX4_sure_180 rfl ?_
        exact z_iret hC dX4_sure_182 rfl (by rw [hQo]; exact ⟨_, rfl, hV⟩)
      · replace hV := hV.1 hc
        refine z_iload hC dX4_sure_96 rfl ?_
        refine z_iconst (v := (-1)) hC dX4_sure_98 rfl ?_
        refine z_icmp_ne (tgt := 175) hC dX4_sure_99 (by decide) (fun hc => ?_) (fun hc => ?_)
        · replace hV := hV.2 hc
          refine z_aload_n hC dX4_sure_175 rfl rfl ?_
          refine z_iconst (v := (-1)) hC dX4_sure_176 rfl ?_
          refine p_X4_128_c3 hC dX4_sure_177 (k_44 _) ?_
          obtain ⟨σ12, e_σ12⟩ : ∃ z : ZS, z = sI σ 44 54 (-1) := ⟨_, rfl⟩
          replace hV := hV _ e_σ12
          rw [← e_σ12]
          refine z_iload hC dX4_sure_180 rfl ?_
          exact z_iret hC dX4_sure_182 rfl (by rw [hQo]; exact ⟨_, rfl, hV⟩)
        · replace hV := hV.1 hc
          refine z_aload_n hC dX4_sure_102 rfl rfl ?_
          refine z_iload hC dX4_sure_103 rfl ?_
          refine z_aload_n hC dX4_sure_105 rfl rfl ?_
          refine g_X4_20_44 hC dX4_sure_106 ?_
          refine z_iconst (v := 1) hC dX4_sure_109 rfl ?_
          refine z_iald hC dX4_sure_110 (k_47 _) (in_dec rfl) ?_
          obtain ⟨h13, hV⟩ := hV
          refine z_idiv hC dX4_sure_111 h13 ?_
          refine p_X4_128_c3 hC dX4_sure_112 (k_44 _) ?_
          obtain ⟨σ14, e_σ14⟩ : ∃ z : ZS, z = sI σ 44 54 (x6 / (zI σ 47 (ix 1))) := ⟨_, rfl⟩
          replace hV := hV _ e_σ14
          rw [← e_σ14]
          refine z_aload_n hC dX4_sure_115 rfl rfl ?_
          refine z_iload hC dX4_sure_116 rfl ?_
          refine z_aload_n hC dX4_sure_118 rfl rfl ?_
          refine g_X4_20_44 hC dX4_sure_119 ?_
          refine z_iconst (v := 1) hC dX4_sure_122 rfl ?_
          refine z_iald hC dX4_sure_123 (k_47 _) (in_dec rfl) ?_
          obtain ⟨h15, hV⟩ := hV
          refine z_irem hC dX4_sure_124 h15 ?_
          refine p_X4_405_c3 hC dX4_sure_125 (k_44 _) ?_
          obtain ⟨σ16, e_σ16⟩ : ∃ z : ZS, z = sI σ14 44 55 (x6 - x6 / (zI σ14 47 (ix 1)) * (zI σ14 47 (ix 1))) := ⟨_, rfl⟩
          replace hV := hV _ e_σ16
          rw [← e_σ16]
          refine z_aload_n hC dX4_sure_128 rfl rfl ?_
          refine c_X4_390 hC (by decide) dX4_sure_129 (Nat.le_of_ble_eq_true rfl) hV (fun σ18 hV => ?_)
          refine z_aload_n hC dX4_sure_132 rfl rfl ?_
          refine g_X4_393_44 hC dX4_sure_133 ?_
          refine z_iload_n hC dX4_sure_136 rfl rfl ?_
          refine z_icmp_ne (tgt := 143) hC dX4_sure_137 (by decide) (fun hc => ?_) (fun hc => ?_)
          · replace hV := hV.2 hc
            refine z_iload hC dX4_sure_143 rfl ?_
            refine z_if_ne (tgt := 163) hC dX4_sure_145 (by decide) (fun hc => ?_) (fun hc => ?_)
            · replace hV := hV.2 hc
              refine z_iconst (v := (-1)) hC dX4_sure_163 rfl ?_
              refine z_istore hC dX4_sure_164 (Nat.le_of_ble_eq_true rfl) rfl rfl ?_
              obtain ⟨y19, e_y19⟩ : ∃ z : Int32, z = x4 + (-1) := ⟨_, rfl⟩
              replace hV := hV _ e_y19
              refine z_iinc (v := y19) hC dX4_sure_166 rfl (by rw [e_y19]; rfl) (Nat.le_of_ble_eq_true rfl) rfl rfl ?_
              obtain ⟨y20, e_y20⟩ : ∃ z : Int32, z = x6 + 1 := ⟨_, rfl⟩
              replace hV := hV _ e_y20
              refine z_iinc (v := y20) hC dX4_sure_169 rfl (by rw [e_y20]; rfl) (Nat.le_of_ble_eq_true rfl) rfl rfl ?_
              refine z_goto (tgt := 78) hC dX4_sure_172 (by decide) ?_
              refine zz_sub (L' := [some (.ref (E.1.heap.size + 44)), none, none, some (.int x3), some (.int y19), some (.int (-1)), some (.int y20)]) ⟨rfl, rfl, rfl, rfl, rfl, trivial⟩ ?_
              exact j_78 σ18 x3 y19 (-1) y20 hV
            · replace hV := hV.1 hc
              refine z_bipush (v := 100) hC dX4_sure_148 rfl ?_
              refine z_aload_n hC dX4_sure_150 rfl rfl ?_
              refine g_X4_128_44 hC dX4_sure_151 ?_
              refine z_imul hC dX4_sure_154 ?_
              refine z_aload_n hC dX4_sure_155 rfl rfl ?_
              refine g_X4_405_44 hC dX4_sure_156 ?_
              refine z_iadd hC dX4_sure_159 ?_
              refine z_goto (tgt := 164) hC dX4_sure_160 (by decide) ?_
              obtain ⟨y21, e_y21⟩ : ∃ z, z = (100 * (zI σ18 44 54)) + (zI σ18 44 55) := ⟨_, rfl⟩
              rw [← e_y21]
              replace hV := hV _ e_y21
              refine z_istore hC dX4_sure_164 (Nat.le_of_ble_eq_true rfl) rfl rfl ?_
              obtain ⟨y22, e_y22⟩ : ∃ z : Int32, z = x4 + (-1) := ⟨_, rfl⟩
              replace hV := hV _ e_y22
              refine z_iinc (v := y22) hC dX4_sure_166 rfl (by rw [e_y22]; rfl) (Nat.le_of_ble_eq_true rfl) rfl rfl ?_
              obtain ⟨y23, e_y23⟩ : ∃ z : Int32, z = x6 + 1 := ⟨_, rfl⟩
              replace hV := hV _ e_y23
              refine z_iinc (v := y23) hC dX4_sure_169 rfl (by rw [e_y23]; rfl) (Nat.le_of_ble_eq_true rfl) rfl rfl ?_
              refine z_goto (tgt := 78) hC dX4_sure_172 (by decide) ?_
              refine zz_sub (L' := [some (.ref (E.1.heap.size + 44)), none, none, some (.int x3), some (.int y22), some (.int y21), some (.int y23)]) ⟨rfl, rfl, rfl, rfl, rfl, trivial⟩ ?_
              exact j_78 σ18 x3 y22 y21 y23 hV
          · replace hV := hV.1 hc
            refine z_goto (tgt := 169) hC dX4_sure_140 (by decide) ?_
            obtain ⟨y24, e_y24⟩ : ∃ z : Int32, z = x6 + 1 := ⟨_, rfl⟩
            replace hV := hV _ e_y24
            refine z_iinc (v := y24) hC dX4_sure_169 rfl (by rw [e_y24]; rfl) (Nat.le_of_ble_eq_true rfl) rfl rfl ?_
            refine z_goto (tgt := 78) hC dX4_sure_172 (by decide) ?_
            refine zz_sub (L' := [some (.ref (E.1.heap.size + 44)), none, none, some (.int x3), some (.int x4), some (.int x5), some (.int y24)]) ⟨rfl, rfl, rfl, rfl, rfl, trivial⟩ ?_
            exact j_78 σ18 x3 x4 x5 y24 hV
  have j_19 : ∀ (σ : ZS) (x1 : Int32) (x2 : Int32) (s0 : Int32), V_X4_sure_19 Ret σ x1 x2 s0 → zz C E NS 7 σ 19 [some (.ref (E.1.heap.size + 44)), some (.int x1), some (.int x2), none, none, none, none] [.int s0, .ref (E.1.heap.size + 44)] := by
    intro σ x1 x2 s0 hV
    unfold V_X4_sure_19 at hV
    refine z_iconst (v := 1) hC dX4_sure_19 rfl ?_
    refine c_X4_227 hC (by decide) dX4_sure_20 (Nat.le_of_ble_eq_true rfl) hV (fun r4 σ5 hV => ?_)
    refine z_if_eq (tgt := 28) hC dX4_sure_23 (by decide) (fun hc => ?_) (fun hc => ?_)
    · replace hV := hV.1 hc
      refine z_aload_n hC dX4_sure_28 rfl rfl ?_
      refine g_X4_241_44 hC dX4_sure_29 ?_
      refine z_iconst (v := 2) hC dX4_sure_32 rfl ?_
      refine z_icmp_ge (tgt := 38) hC dX4_sure_33 (by decide) (fun hc => ?_) (fun hc => ?_)
      · replace hV := hV.2 hc
        refine z_aload_n hC dX4_sure_38 rfl rfl ?_
        refine z_iload_n hC dX4_sure_39 rfl rfl ?_
        refine c_X4_275 hC (by decide) dX4_sure_40 (Nat.le_of_ble_eq_true rfl) hV (fun σ7 hV => ?_)
        refine z_aload_n hC dX4_sure_43 rfl rfl ?_
        refine c_X4_390 hC (by decide) dX4_sure_44 (Nat.le_of_ble_eq_true rfl) hV (fun σ9 hV => ?_)
        refine z_aload_n hC dX4_sure_47 rfl rfl ?_
        refine g_X4_393_44 hC dX4_sure_48 ?_
        obtain ⟨y10, e_y10⟩ : ∃ z, z = zI σ9 44 56 := ⟨_, rfl⟩
        rw [← e_y10]
        replace hV := hV _ e_y10
        refine z_istore_n hC dX4_sure_51 rfl (Nat.le_of_ble_eq_true rfl) rfl rfl ?_
        refine z_iload_n hC dX4_sure_52 rfl rfl ?_
        refine z_istore hC dX4_sure_53 (Nat.le_of_ble_eq_true rfl) rfl rfl ?_
        refine z_iconst (v := (-1)) hC dX4_sure_55 rfl ?_
        refine z_istore hC dX4_sure_56 (Nat.le_of_ble_eq_true rfl) rfl rfl ?_
        refine z_iload_n hC dX4_sure_58 rfl rfl ?_
        refine z_ldcw hC dX4_sure_59 q1981 ?_
        refine z_icmp_eq (tgt := 73) hC dX4_sure_62 (by decide) (fun hc => ?_) (fun hc => ?_)
        · replace hV := hV.1 hc
          refine z_iconst (v := (-1)) hC dX4_sure_73 rfl ?_
          exact z_iret hC dX4_sure_74 rfl (by rw [hQo]; exact ⟨_, rfl, hV⟩)
        · replace hV := hV.2 hc
          refine z_iload_n hC dX4_sure_65 rfl rfl ?_
          refine z_if_eq (tgt := 73) hC dX4_sure_66 (by decide) (fun hc => ?_) (fun hc => ?_)
          · replace hV := hV.1 hc
            refine z_iconst (v := (-1)) hC dX4_sure_73 rfl ?_
            exact z_iret hC dX4_sure_74 rfl (by rw [hQo]; exact ⟨_, rfl, hV⟩)
          · replace hV := hV.2 hc
            refine z_iload_n hC dX4_sure_69 rfl rfl ?_
            refine z_if_ge (tgt := 75) hC dX4_sure_70 (by decide) (fun hc => ?_) (fun hc => ?_)
            · replace hV := hV.2 hc
              refine z_iconst (v := 0) hC dX4_sure_75 rfl ?_
              refine z_istore hC dX4_sure_76 (Nat.le_of_ble_eq_true rfl) rfl rfl ?_
              refine zz_sub (L' := [some (.ref (E.1.heap.size + 44)), none, none, some (.int y10), some (.int x2), some (.int (-1)), some (.int 0)]) ⟨rfl, rfl, rfl, rfl, rfl, trivial⟩ ?_
              exact j_78 σ9 y10 x2 (-1) 0 hV
            · replace hV := hV.1 hc
              refine z_iconst (v := (-1)) hC dX4_sure_73 rfl ?_
              exact z_iret hC dX4_sure_74 rfl (by rw [hQo]; exact ⟨_, rfl, hV⟩)
      · replace hV := hV.1 hc
        refine z_iconst (v := (-1)) hC dX4_sure_36 rfl ?_
        exact z_iret hC dX4_sure_37 rfl (by rw [hQo]; exact ⟨_, rfl, hV⟩)
    · replace hV := hV.2 hc
      refine z_iconst (v := 0) hC dX4_sure_26 rfl ?_
      exact z_iret hC dX4_sure_27 rfl (by rw [hQo]; exact ⟨_, rfl, hV⟩)
  refine z_aload_n hC dX4_sure_0 rfl rfl ?_
  refine z_iconst (v := 0) hC dX4_sure_1 rfl ?_
  refine p_X4_131_c3 hC dX4_sure_2 (k_44 _) ?_
  obtain ⟨σ1, e_σ1⟩ : ∃ z : ZS, z = sI σ 44 0 0 := ⟨_, rfl⟩
  replace hV := hV _ e_σ1
  rw [← e_σ1]
  refine z_aload_n hC dX4_sure_5 rfl rfl ?_
  refine z_aload_n hC dX4_sure_6 rfl rfl ?_
  refine z_iload_n hC dX4_sure_7 rfl rfl ?_
  refine c_X4_281 hC (by decide) dX4_sure_8 (Nat.le_of_ble_eq_true rfl) hV (fun r2 σ3 hV => ?_)
  refine z_if_ne (tgt := 18) hC dX4_sure_11 (by decide) (fun hc => ?_) (fun hc => ?_)
  · replace hV := hV.2 hc
    refine z_iconst (v := 0) hC dX4_sure_18 rfl ?_
    refine zz_sub (L' := [some (.ref (E.1.heap.size + 44)), some (.int a1), some (.int a2), none, none, none, none]) ⟨rfl, rfl, rfl, trivial⟩ ?_
    exact j_19 σ3 a1 a2 0 hV
  · replace hV := hV.1 hc
    refine z_iconst (v := 1) hC dX4_sure_14 rfl ?_
    refine z_goto (tgt := 19) hC dX4_sure_15 (by decide) ?_
    refine zz_sub (L' := [some (.ref (E.1.heap.size + 44)), some (.int a1), some (.int a2), none, none, none, none]) ⟨rfl, rfl, rfl, trivial⟩ ?_
    exact j_19 σ3 a1 a2 1 hV
def V_X4_tell_19 (Ret : Int32 → ZS → Prop) (σ : ZS) (x1 : Int32) (s0 : Int32) : Prop :=
    wp_X4_bad σ s0 1 (fun r4 σ5 => ((r4 = 0 → ((((zI σ5 44 28) = 12 → (Ret (-1) σ5)) ∧ (¬ (zI σ5 44 28) = 12 → (vp_in (zI σ5 44 28) 12 ∧ (∀ σ7 : ZS, σ7 = sI σ5 1146 (ix (zI σ5 44 28)) x1 → (∀ σ8 : ZS, σ8 = sI σ7 44 28 ((zI σ7 44 28) + 1) → (Ret (zI σ8 44 28) σ8)))))))) ∧ (¬ r4 = 0 → (Ret 0 σ5))))
def wp_X4_tell (σ : ZS) (a1 : Int32) (Ret : Int32 → ZS → Prop) : Prop :=
    ∀ σ1 : ZS, σ1 = sI σ 44 0 0 → (wp_X4_isCorner σ1 a1 (fun r2 σ3 => ((r2 = 0 → (V_X4_tell_19 Ret σ3 a1 1)) ∧ (¬ r2 = 0 → (V_X4_tell_19 Ret σ3 a1 0)))))
set_option maxHeartbeats 4000000 in
theorem mz_X4_tell {l : Launch} {E : ZE} (hE : EOK E) {σ : ZS} {a1 : Int32} {Ret : Int32 → ZS → Prop} (hV : wp_X4_tell σ a1 Ret) : MZ l E NS yX4_tell (ws_ yX4_tell cX4_tell 2 (some .int)) 3 σ [.ref (E.1.heap.size + 44), .int a1] (rI Ret) := by
  refine MZ.start (L := [some (.ref (E.1.heap.size + 44)), some (.int a1)]) hE (by decide) (Nat.le_of_ble_eq_true rfl) rfl fun C hCl hQo hC => ?_
  replace hC : Cx C E cX4_tell 2 "RightTurnsModel" "tell" (some .int) [] 3 := hC
  unfold wp_X4_tell at hV
  have j_19 : ∀ (σ : ZS) (x1 : Int32) (s0 : Int32), V_X4_tell_19 Ret σ x1 s0 → zz C E NS 2 σ 19 [some (.ref (E.1.heap.size + 44)), some (.int x1)] [.int s0, .ref (E.1.heap.size + 44)] := by
    intro σ x1 s0 hV
    unfold V_X4_tell_19 at hV
    refine z_iconst (v := 1) hC dX4_tell_19 rfl ?_
    refine c_X4_227 hC (by decide) dX4_tell_20 (Nat.le_of_ble_eq_true rfl) hV (fun r4 σ5 hV => ?_)
    refine z_if_eq (tgt := 28) hC dX4_tell_23 (by decide) (fun hc => ?_) (fun hc => ?_)
    · replace hV := hV.1 hc
      refine z_aload_n hC dX4_tell_28 rfl rfl ?_
      refine g_X4_241_44 hC dX4_tell_29 ?_
      refine z_bipush (v := 12) hC dX4_tell_32 rfl ?_
      refine z_icmp_ne (tgt := 39) hC dX4_tell_34 (by decide) (fun hc => ?_) (fun hc => ?_)
      · replace hV := hV.2 hc
        refine z_aload_n hC dX4_tell_39 rfl rfl ?_
        refine g_X4_74_44 hC dX4_tell_40 ?_
        refine z_aload_n hC dX4_tell_43 rfl rfl ?_
        refine g_X4_241_44 hC dX4_tell_44 ?_
        refine z_iload_n hC dX4_tell_47 rfl rfl ?_
        obtain ⟨h6, hV⟩ := hV
        refine z_iast hC dX4_tell_48 (k_1146 _) (h6) ?_
        obtain ⟨σ7, e_σ7⟩ : ∃ z : ZS, z = sI σ5 1146 (ix (zI σ5 44 28)) x1 := ⟨_, rfl⟩
        replace hV := hV _ e_σ7
        rw [← e_σ7]
        refine z_aload_n hC dX4_tell_49 rfl rfl ?_
        refine z_dup hC dX4_tell_50 rfl ?_
        refine g_X4_241_44 hC dX4_tell_51 ?_
        refine z_iconst (v := 1) hC dX4_tell_54 rfl ?_
        refine z_iadd hC dX4_tell_55 ?_
        refine p_X4_241_c3 hC dX4_tell_56 (k_44 _) ?_
        obtain ⟨σ8, e_σ8⟩ : ∃ z : ZS, z = sI σ7 44 28 ((zI σ7 44 28) + 1) := ⟨_, rfl⟩
        replace hV := hV _ e_σ8
        rw [← e_σ8]
        refine z_aload_n hC dX4_tell_59 rfl rfl ?_
        refine g_X4_241_44 hC dX4_tell_60 ?_
        exact z_iret hC dX4_tell_63 rfl (by rw [hQo]; exact ⟨_, rfl, hV⟩)
      · replace hV := hV.1 hc
        refine z_iconst (v := (-1)) hC dX4_tell_37 rfl ?_
        exact z_iret hC dX4_tell_38 rfl (by rw [hQo]; exact ⟨_, rfl, hV⟩)
    · replace hV := hV.2 hc
      refine z_iconst (v := 0) hC dX4_tell_26 rfl ?_
      exact z_iret hC dX4_tell_27 rfl (by rw [hQo]; exact ⟨_, rfl, hV⟩)
  refine z_aload_n hC dX4_tell_0 rfl rfl ?_
  refine z_iconst (v := 0) hC dX4_tell_1 rfl ?_
  refine p_X4_131_c3 hC dX4_tell_2 (k_44 _) ?_
  obtain ⟨σ1, e_σ1⟩ : ∃ z : ZS, z = sI σ 44 0 0 := ⟨_, rfl⟩
  replace hV := hV _ e_σ1
  rw [← e_σ1]
  refine z_aload_n hC dX4_tell_5 rfl rfl ?_
  refine z_aload_n hC dX4_tell_6 rfl rfl ?_
  refine z_iload_n hC dX4_tell_7 rfl rfl ?_
  refine c_X4_307 hC (by decide) dX4_tell_8 (Nat.le_of_ble_eq_true rfl) hV (fun r2 σ3 hV => ?_)
  refine z_if_ne (tgt := 18) hC dX4_tell_11 (by decide) (fun hc => ?_) (fun hc => ?_)
  · replace hV := hV.2 hc
    refine z_iconst (v := 0) hC dX4_tell_18 rfl ?_
    refine zz_sub (L' := [some (.ref (E.1.heap.size + 44)), some (.int a1)]) ⟨rfl, rfl, trivial⟩ ?_
    exact j_19 σ3 a1 0 hV
  · replace hV := hV.1 hc
    refine z_iconst (v := 1) hC dX4_tell_14 rfl ?_
    refine z_goto (tgt := 19) hC dX4_tell_15 (by decide) ?_
    refine zz_sub (L' := [some (.ref (E.1.heap.size + 44)), some (.int a1)]) ⟨rfl, rfl, trivial⟩ ?_
    exact j_19 σ3 a1 1 hV
def wp_X4_thrown (σ : ZS) (Ret : Int32 → ZS → Prop) : Prop :=
    Ret (zI σ 44 0) σ
set_option maxHeartbeats 4000000 in
theorem mz_X4_thrown {l : Launch} {E : ZE} (hE : EOK E) {σ : ZS} {Ret : Int32 → ZS → Prop} (hV : wp_X4_thrown σ Ret) : MZ l E NS yX4_thrown (ws_ yX4_thrown cX4_thrown 1 (some .int)) 1 σ [.ref (E.1.heap.size + 44)] (rI Ret) := by
  refine MZ.start (L := [some (.ref (E.1.heap.size + 44))]) hE (by decide) (Nat.le_of_ble_eq_true rfl) rfl fun C hCl hQo hC => ?_
  replace hC : Cx C E cX4_thrown 1 "RightTurnsModel" "thrown" (some .int) [] 1 := hC
  unfold wp_X4_thrown at hV
  refine z_aload_n hC dX4_thrown_0 rfl rfl ?_
  refine g_X4_131_44 hC dX4_thrown_1 ?_
  exact z_iret hC dX4_thrown_4 rfl (by rw [hQo]; exact ⟨_, rfl, hV⟩)
def V_X4_together_48 (Ret : Int32 → ZS → Prop) (σ : ZS) (x1 : Int32) (x2 : Int32) (x3 : Int32) (s0 : Int32) : Prop :=
    wp_X4_bad σ s0 2 (fun r8 σ9 => ((r8 = 0 → (wp_X4_asks σ9 x3 (fun σ11 => wp_X4_layReaches σ11 (fun σ13 => wp_X4_areOne σ13 x1 x2 (fun r14 σ15 => isB r14 ∧ (Ret r14 σ15)))))) ∧ (¬ r8 = 0 → (Ret 0 σ9))))
def V_X4_together_27 (Ret : Int32 → ZS → Prop) (σ : ZS) (x1 : Int32) (x2 : Int32) (x3 : Int32) (s0 : Int32) : Prop :=
    wp_X4_bad σ s0 1 (fun r4 σ5 => ((r4 = 0 → (wp_X4_isTime σ5 x3 (fun r6 σ7 => ((r6 = 0 → (V_X4_together_48 Ret σ7 x1 x2 x3 1)) ∧ (¬ r6 = 0 → (V_X4_together_48 Ret σ7 x1 x2 x3 0)))))) ∧ (¬ r4 = 0 → (Ret 0 σ5))))
def V_X4_together_22 (Ret : Int32 → ZS → Prop) (σ : ZS) (x1 : Int32) (x2 : Int32) (x3 : Int32) : Prop :=
    V_X4_together_27 Ret σ x1 x2 x3 1
def wp_X4_together (σ : ZS) (a1 : Int32) (a2 : Int32) (a3 : Int32) (Ret : Int32 → ZS → Prop) : Prop :=
    ∀ σ1 : ZS, σ1 = sI σ 44 0 0 → (wp_X4_isArc σ1 a1 (fun r2 σ3 => ((r2 = 0 → (V_X4_together_22 Ret σ3 a1 a2 a3)) ∧ (¬ r2 = 0 → (wp_X4_isArc σ3 a2 (fun r17 σ18 => ((r17 = 0 → (V_X4_together_22 Ret σ18 a1 a2 a3)) ∧ (¬ r17 = 0 → (V_X4_together_27 Ret σ18 a1 a2 a3 0)))))))))
set_option maxHeartbeats 4000000 in
theorem mz_X4_together {l : Launch} {E : ZE} (hE : EOK E) {σ : ZS} {a1 : Int32} {a2 : Int32} {a3 : Int32} {Ret : Int32 → ZS → Prop} (hV : wp_X4_together σ a1 a2 a3 Ret) : MZ l E NS yX4_together (ws_ yX4_together cX4_together 4 (some .boolean)) 7 σ [.ref (E.1.heap.size + 44), .int a1, .int a2, .int a3] (rI Ret) := by
  refine MZ.start (L := [some (.ref (E.1.heap.size + 44)), some (.int a1), some (.int a2), some (.int a3)]) hE (by decide) (Nat.le_of_ble_eq_true rfl) rfl fun C hCl hQo hC => ?_
  replace hC : Cx C E cX4_together 4 "RightTurnsModel" "together" (some .boolean) [] 7 := hC
  unfold wp_X4_together at hV
  have j_48 : ∀ (σ : ZS) (x1 : Int32) (x2 : Int32) (x3 : Int32) (s0 : Int32), V_X4_together_48 Ret σ x1 x2 x3 s0 → zz C E NS 4 σ 48 [some (.ref (E.1.heap.size + 44)), some (.int x1), some (.int x2), some (.int x3)] [.int s0, .ref (E.1.heap.size + 44)] := by
    intro σ x1 x2 x3 s0 hV
    unfold V_X4_together_48 at hV
    refine z_iconst (v := 2) hC dX4_together_48 rfl ?_
    refine c_X4_227 hC (by decide) dX4_together_49 (Nat.le_of_ble_eq_true rfl) hV (fun r8 σ9 hV => ?_)
    refine z_if_eq (tgt := 57) hC dX4_together_52 (by decide) (fun hc => ?_) (fun hc => ?_)
    · replace hV := hV.1 hc
      refine z_aload_n hC dX4_together_57 rfl rfl ?_
      refine z_iload_n hC dX4_together_58 rfl rfl ?_
      refine c_X4_310 hC (by decide) dX4_together_59 (Nat.le_of_ble_eq_true rfl) hV (fun σ11 hV => ?_)
      refine z_aload_n hC dX4_together_62 rfl rfl ?_
      refine c_X4_322 hC (by decide) dX4_together_63 (Nat.le_of_ble_eq_true rfl) hV (fun σ13 hV => ?_)
      refine z_aload_n hC dX4_together_66 rfl rfl ?_
      refine z_iload_n hC dX4_together_67 rfl rfl ?_
      refine z_iload_n hC dX4_together_68 rfl rfl ?_
      refine c_X4_328 hC (by decide) dX4_together_69 (Nat.le_of_ble_eq_true rfl) hV (fun r14 σ15 hV => ?_)
      obtain ⟨h16, hV⟩ := hV
      exact z_iret hC dX4_together_72 h16 (by rw [hQo]; exact ⟨_, rfl, hV⟩)
    · replace hV := hV.2 hc
      refine z_iconst (v := 0) hC dX4_together_55 rfl ?_
      exact z_iret hC dX4_together_56 rfl (by rw [hQo]; exact ⟨_, rfl, hV⟩)
  have j_27 : ∀ (σ : ZS) (x1 : Int32) (x2 : Int32) (x3 : Int32) (s0 : Int32), V_X4_together_27 Ret σ x1 x2 x3 s0 → zz C E NS 4 σ 27 [some (.ref (E.1.heap.size + 44)), some (.int x1), some (.int x2), some (.int x3)] [.int s0, .ref (E.1.heap.size + 44)] := by
    intro σ x1 x2 x3 s0 hV
    unfold V_X4_together_27 at hV
    refine z_iconst (v := 1) hC dX4_together_27 rfl ?_
    refine c_X4_227 hC (by decide) dX4_together_28 (Nat.le_of_ble_eq_true rfl) hV (fun r4 σ5 hV => ?_)
    refine z_if_ne (tgt := 55) hC dX4_together_31 (by decide) (fun hc => ?_) (fun hc => ?_)
    · replace hV := hV.2 hc
      refine z_iconst (v := 0) hC dX4_together_55 rfl ?_
      exact z_iret hC dX4_together_56 rfl (by rw [hQo]; exact ⟨_, rfl, hV⟩)
    · replace hV := hV.1 hc
      refine z_aload_n hC dX4_together_34 rfl rfl ?_
      refine z_aload_n hC dX4_together_35 rfl rfl ?_
      refine z_iload_n hC dX4_together_36 rfl rfl ?_
      refine c_X4_281 hC (by decide) dX4_together_37 (Nat.le_of_ble_eq_true rfl) hV (fun r6 σ7 hV => ?_)
      refine z_if_ne (tgt := 47) hC dX4_together_40 (by decide) (fun hc => ?_) (fun hc => ?_)
      · replace hV := hV.2 hc
        refine z_iconst (v := 0) hC dX4_together_47 rfl ?_
        refine zz_sub (L' := [some (.ref (E.1.heap.size + 44)), some (.int x1), some (.int x2), some (.int x3)]) ⟨rfl, rfl, rfl, rfl, trivial⟩ ?_
        exact j_48 σ7 x1 x2 x3 0 hV
      · replace hV := hV.1 hc
        refine z_iconst (v := 1) hC dX4_together_43 rfl ?_
        refine z_goto (tgt := 48) hC dX4_together_44 (by decide) ?_
        refine zz_sub (L' := [some (.ref (E.1.heap.size + 44)), some (.int x1), some (.int x2), some (.int x3)]) ⟨rfl, rfl, rfl, rfl, trivial⟩ ?_
        exact j_48 σ7 x1 x2 x3 1 hV
  have j_22 : ∀ (σ : ZS) (x1 : Int32) (x2 : Int32) (x3 : Int32), V_X4_together_22 Ret σ x1 x2 x3 → zz C E NS 4 σ 22 [some (.ref (E.1.heap.size + 44)), some (.int x1), some (.int x2), some (.int x3)] [.ref (E.1.heap.size + 44)] := by
    intro σ x1 x2 x3 hV
    unfold V_X4_together_22 at hV
    refine z_iconst (v := 1) hC dX4_together_22 rfl ?_
    refine z_goto (tgt := 27) hC dX4_together_23 (by decide) ?_
    refine zz_sub (L' := [some (.ref (E.1.heap.size + 44)), some (.int x1), some (.int x2), some (.int x3)]) ⟨rfl, rfl, rfl, rfl, trivial⟩ ?_
    exact j_27 σ x1 x2 x3 1 hV
  refine z_aload_n hC dX4_together_0 rfl rfl ?_
  refine z_iconst (v := 0) hC dX4_together_1 rfl ?_
  refine p_X4_131_c3 hC dX4_together_2 (k_44 _) ?_
  obtain ⟨σ1, e_σ1⟩ : ∃ z : ZS, z = sI σ 44 0 0 := ⟨_, rfl⟩
  replace hV := hV _ e_σ1
  rw [← e_σ1]
  refine z_aload_n hC dX4_together_5 rfl rfl ?_
  refine z_aload_n hC dX4_together_6 rfl rfl ?_
  refine z_iload_n hC dX4_together_7 rfl rfl ?_
  refine c_X4_262 hC (by decide) dX4_together_8 (Nat.le_of_ble_eq_true rfl) hV (fun r2 σ3 hV => ?_)
  refine z_if_eq (tgt := 22) hC dX4_together_11 (by decide) (fun hc => ?_) (fun hc => ?_)
  · replace hV := hV.1 hc
    refine zz_sub (L' := [some (.ref (E.1.heap.size + 44)), some (.int a1), some (.int a2), some (.int a3)]) ⟨rfl, rfl, rfl, rfl, trivial⟩ ?_
    exact j_22 σ3 a1 a2 a3 hV
  · replace hV := hV.2 hc
    refine z_aload_n hC dX4_together_14 rfl rfl ?_
    refine z_iload_n hC dX4_together_15 rfl rfl ?_
    refine c_X4_262 hC (by decide) dX4_together_16 (Nat.le_of_ble_eq_true rfl) hV (fun r17 σ18 hV => ?_)
    refine z_if_ne (tgt := 26) hC dX4_together_19 (by decide) (fun hc => ?_) (fun hc => ?_)
    · replace hV := hV.2 hc
      refine z_iconst (v := 0) hC dX4_together_26 rfl ?_
      refine zz_sub (L' := [some (.ref (E.1.heap.size + 44)), some (.int a1), some (.int a2), some (.int a3)]) ⟨rfl, rfl, rfl, rfl, trivial⟩ ?_
      exact j_27 σ18 a1 a2 a3 0 hV
    · replace hV := hV.1 hc
      refine zz_sub (L' := [some (.ref (E.1.heap.size + 44)), some (.int a1), some (.int a2), some (.int a3)]) ⟨rfl, rfl, rfl, rfl, trivial⟩ ?_
      exact j_22 σ18 a1 a2 a3 hV
def V_X4_told_20 (Ret : Int32 → ZS → Prop) (σ : ZS) (x1 : Int32) (s0 : Int32) : Prop :=
    wp_X4_bad σ s0 1 (fun r4 σ5 => ((r4 = 0 → (((x1 = 2 → (wp_X4_ones σ5 (zI σ5 47 (ix 2)) (fun r7 σ8 => Ret r7 σ8))) ∧ (¬ x1 = 2 → (((x1 = 4 → (Ret (zI σ5 44 27) σ5)) ∧ (¬ x1 = 4 → (((x1 = 5 → (Ret (zI σ5 44 19) σ5)) ∧ (¬ x1 = 5 → (vp_in x1 4 ∧ (Ret (zI σ5 47 (ix x1)) σ5)))))))))))) ∧ (¬ r4 = 0 → (Ret 0 σ5))))
def wp_X4_told (σ : ZS) (a1 : Int32) (Ret : Int32 → ZS → Prop) : Prop :=
    ∀ σ1 : ZS, σ1 = sI σ 44 0 0 → (wp_X4_in σ1 a1 0 5 (fun r2 σ3 => ((r2 = 0 → (V_X4_told_20 Ret σ3 a1 1)) ∧ (¬ r2 = 0 → (V_X4_told_20 Ret σ3 a1 0)))))
set_option maxHeartbeats 4000000 in
theorem mz_X4_told {l : Launch} {E : ZE} (hE : EOK E) {σ : ZS} {a1 : Int32} {Ret : Int32 → ZS → Prop} (hV : wp_X4_told σ a1 Ret) : MZ l E NS yX4_told (ws_ yX4_told cX4_told 2 (some .int)) 2 σ [.ref (E.1.heap.size + 44), .int a1] (rI Ret) := by
  refine MZ.start (L := [some (.ref (E.1.heap.size + 44)), some (.int a1)]) hE (by decide) (Nat.le_of_ble_eq_true rfl) rfl fun C hCl hQo hC => ?_
  replace hC : Cx C E cX4_told 2 "RightTurnsModel" "told" (some .int) [] 2 := hC
  unfold wp_X4_told at hV
  have j_20 : ∀ (σ : ZS) (x1 : Int32) (s0 : Int32), V_X4_told_20 Ret σ x1 s0 → zz C E NS 2 σ 20 [some (.ref (E.1.heap.size + 44)), some (.int x1)] [.int s0, .ref (E.1.heap.size + 44)] := by
    intro σ x1 s0 hV
    unfold V_X4_told_20 at hV
    refine z_iconst (v := 1) hC dX4_told_20 rfl ?_
    refine c_X4_227 hC (by decide) dX4_told_21 (Nat.le_of_ble_eq_true rfl) hV (fun r4 σ5 hV => ?_)
    refine z_if_eq (tgt := 29) hC dX4_told_24 (by decide) (fun hc => ?_) (fun hc => ?_)
    · replace hV := hV.1 hc
      refine z_iload_n hC dX4_told_29 rfl rfl ?_
      refine z_iconst (v := 2) hC dX4_told_30 rfl ?_
      refine z_icmp_ne (tgt := 46) hC dX4_told_31 (by decide) (fun hc => ?_) (fun hc => ?_)
      · replace hV := hV.2 hc
        refine z_iload_n hC dX4_told_46 rfl rfl ?_
        refine z_iconst (v := 4) hC dX4_told_47 rfl ?_
        refine z_icmp_ne (tgt := 58) hC dX4_told_48 (by decide) (fun hc => ?_) (fun hc => ?_)
        · replace hV := hV.2 hc
          refine z_iload_n hC dX4_told_58 rfl rfl ?_
          refine z_iconst (v := 5) hC dX4_told_59 rfl ?_
          refine z_icmp_ne (tgt := 70) hC dX4_told_60 (by decide) (fun hc => ?_) (fun hc => ?_)
          · replace hV := hV.2 hc
            refine z_aload_n hC dX4_told_70 rfl rfl ?_
            refine g_X4_20_44 hC dX4_told_71 ?_
            refine z_iload_n hC dX4_told_74 rfl rfl ?_
            obtain ⟨h6, hV⟩ := hV
            refine z_iald hC dX4_told_75 (k_47 _) (h6) ?_
            exact z_iret hC dX4_told_76 rfl (by rw [hQo]; exact ⟨_, rfl, hV⟩)
          · replace hV := hV.1 hc
            refine z_aload_n hC dX4_told_63 rfl rfl ?_
            refine g_X4_238_44 hC dX4_told_64 ?_
            refine z_goto (tgt := 76) hC dX4_told_67 (by decide) ?_
            exact z_iret hC dX4_told_76 rfl (by rw [hQo]; exact ⟨_, rfl, hV⟩)
        · replace hV := hV.1 hc
          refine z_aload_n hC dX4_told_51 rfl rfl ?_
          refine g_X4_259_44 hC dX4_told_52 ?_
          refine z_goto (tgt := 76) hC dX4_told_55 (by decide) ?_
          exact z_iret hC dX4_told_76 rfl (by rw [hQo]; exact ⟨_, rfl, hV⟩)
      · replace hV := hV.1 hc
        refine z_aload_n hC dX4_told_34 rfl rfl ?_
        refine g_X4_20_44 hC dX4_told_35 ?_
        refine z_iconst (v := 2) hC dX4_told_38 rfl ?_
        refine z_iald hC dX4_told_39 (k_47 _) (in_dec rfl) ?_
        refine c_X4_187 hC (by decide) dX4_told_40 (Nat.le_of_ble_eq_true rfl) hV (fun r7 σ8 hV => ?_)
        refine z_goto (tgt := 76) hC dX4_told_43 (by decide) ?_
        exact z_iret hC dX4_told_76 rfl (by rw [hQo]; exact ⟨_, rfl, hV⟩)
    · replace hV := hV.2 hc
      refine z_iconst (v := 0) hC dX4_told_27 rfl ?_
      exact z_iret hC dX4_told_28 rfl (by rw [hQo]; exact ⟨_, rfl, hV⟩)
  refine z_aload_n hC dX4_told_0 rfl rfl ?_
  refine z_iconst (v := 0) hC dX4_told_1 rfl ?_
  refine p_X4_131_c3 hC dX4_told_2 (k_44 _) ?_
  obtain ⟨σ1, e_σ1⟩ : ∃ z : ZS, z = sI σ 44 0 0 := ⟨_, rfl⟩
  replace hV := hV _ e_σ1
  rw [← e_σ1]
  refine z_aload_n hC dX4_told_5 rfl rfl ?_
  refine z_iload_n hC dX4_told_6 rfl rfl ?_
  refine z_iconst (v := 0) hC dX4_told_7 rfl ?_
  refine z_iconst (v := 5) hC dX4_told_8 rfl ?_
  refine c_X4_165 hC (by decide) dX4_told_9 (Nat.le_of_ble_eq_true rfl) hV (fun r2 σ3 hV => ?_)
  refine z_if_ne (tgt := 19) hC dX4_told_12 (by decide) (fun hc => ?_) (fun hc => ?_)
  · replace hV := hV.2 hc
    refine z_iconst (v := 0) hC dX4_told_19 rfl ?_
    refine zz_sub (L' := [some (.ref (E.1.heap.size + 44)), some (.int a1)]) ⟨rfl, rfl, trivial⟩ ?_
    exact j_20 σ3 a1 0 hV
  · replace hV := hV.1 hc
    refine z_iconst (v := 1) hC dX4_told_15 rfl ?_
    refine z_goto (tgt := 20) hC dX4_told_16 (by decide) ?_
    refine zz_sub (L' := [some (.ref (E.1.heap.size + 44)), some (.int a1)]) ⟨rfl, rfl, trivial⟩ ?_
    exact j_20 σ3 a1 1 hV
theorem g_X4_150_44 {C : ZC} {E : ZE} {cc : ByteArray} {nL pc d : Nat} {nm : String} {ret : Option FieldType} {hh : List (Nat × Nat × Nat × Nat)} {σ : ZS} {L : List (Option Value)} {st : List Value} (hC : Cx C E cc nL "RightTurnsModel" nm ret hh d) (hd : decode cc pc = .ok (.getfield 150, 3)) (k : zz C E NS nL σ (pc + 3) L (.int (zI σ 44 6) :: st)) : zz C E NS nL σ pc L (.ref (E.1.heap.size + 44) :: st) :=
  z_get hC cf3 hd (k_44 σ) (k := 6) (by decide) (Or.inl q1591) (Or.inl rfl) rfl k
theorem p_X4_137_c3 {C : ZC} {E : ZE} {cc : ByteArray} {n nL pc d a x : Nat} {nm : String} {ret : Option FieldType} {hh : List (Nat × Nat × Nat × Nat)} {σ : ZS} {L : List (Option Value)} {st : List Value} {v : Int32} (hC : Cx C E cc nL "RightTurnsModel" nm ret hh d) (hd : decode cc pc = .ok (.putfield 137, 3)) (hk : kK n σ a = (3 + 7, x)) (k : zz C E n nL (sI σ a 2 v) (pc + 3) L st) : zz C E n nL σ pc L (.int v :: .ref (E.1.heap.size + a) :: st) :=
  z_putI hC cf3 hd hk (k := 2) (by decide) (Or.inl q1587) (Or.inl rfl) (Or.inl rfl) rfl rfl rfl k
theorem p_X4_9_c3 {C : ZC} {E : ZE} {cc : ByteArray} {n nL pc d a x : Nat} {nm : String} {ret : Option FieldType} {hh : List (Nat × Nat × Nat × Nat)} {σ : ZS} {L : List (Option Value)} {st : List Value} {v : Int32} (hC : Cx C E cc nL "RightTurnsModel" nm ret hh d) (hd : decode cc pc = .ok (.putfield 9, 3)) (hk : kK n σ a = (3 + 7, x)) (k : zz C E n nL (sI σ a 3 v) (pc + 3) L st) : zz C E n nL σ pc L (.int v :: .ref (E.1.heap.size + a) :: st) :=
  z_putI hC cf3 hd hk (k := 3) (by decide) (Or.inl q1588) (Or.inl rfl) (Or.inl rfl) rfl rfl rfl k
theorem cw_X4_clause : CodeW yX4_clause (ws_ yX4_clause cX4_clause 2 none) 2 := ⟨fun w h => (List.mem_cons.mp h).elim (fun e => e ▸ q1796) id, Or.inl ⟨_, _, q1796⟩, q138, by decide, by decide⟩
theorem c_X4_231 {C : ZC} {E : ZE} {cc : ByteArray} {nL pc d : Nat} {nm : String} {ret : Option FieldType} {hh : List (Nat × Nat × Nat × Nat)} {σ : ZS} {L : List (Option Value)} {st : List Value} {Ret : ZS → Prop} (hC : Cx C E cc nL "RightTurnsModel" nm ret hh d) (hdd : 6 + 1 ≤ d) (hd : decode cc pc = .ok (.invokevirtual 231, 3)) (hW : (st.map fun v => v.category).sum ≤ 8) (hV : wp_X4_clause σ Ret) (k : ∀ σ', Ret σ' → zz C E NS nL σ' (pc + 3) L st) : zz C E NS nL σ pc L (.ref (E.1.heap.size + 44) :: st) :=
  z_callVG hC cf3 cw_X4_clause hdd (by decide) (mz_X4_clause (cxE hC) hV) hd (k_44 σ) q1793 q1795 qs54 (np := 0) rfl rfl hW rfl (kV k)
theorem cw_X4_copies : CodeW yX4_copies (ws_ yX4_copies cX4_copies 4 none) 4 := ⟨fun w h => (List.mem_cons.mp h).elim (fun e => e ▸ q1868) id, Or.inl ⟨_, _, q1868⟩, q138, by decide, by decide⟩
theorem c_X4_234 {C : ZC} {E : ZE} {cc : ByteArray} {nL pc d : Nat} {nm : String} {ret : Option FieldType} {hh : List (Nat × Nat × Nat × Nat)} {σ : ZS} {L : List (Option Value)} {st : List Value} {a0 : Nat} {a1 : Nat} {Ret : ZS → Prop} (hC : Cx C E cc nL "RightTurnsModel" nm ret hh d) (hdd : 1 + 1 ≤ d) (hd : decode cc pc = .ok (.invokestatic 234, 3)) (hW : (st.map fun v => v.category).sum ≤ 8) (hV : wp_X4_copies σ a0 a1 Ret) (k : ∀ σ', Ret σ' → zz C E NS nL σ' (pc + 3) L st) : zz C E NS nL σ pc L (.ref (E.1.heap.size + a1) :: .ref (E.1.heap.size + a0) :: st) :=
  z_callSG hC cw_X4_copies hdd (by decide) (mz_X4_copies (cxE hC) hV) hd q1866 q1867 (np := 2) rfl rfl hW rfl (kV k)
theorem cw_X4_findLefts : CodeW yX4_findLefts (ws_ yX4_findLefts cX4_findLefts 5 none) 5 := ⟨fun w h => (List.mem_cons.mp h).elim (fun e => e ▸ q1872) id, Or.inl ⟨_, _, q1872⟩, q138, by decide, by decide⟩
theorem c_X4_247 {C : ZC} {E : ZE} {cc : ByteArray} {nL pc d : Nat} {nm : String} {ret : Option FieldType} {hh : List (Nat × Nat × Nat × Nat)} {σ : ZS} {L : List (Option Value)} {st : List Value} {Ret : ZS → Prop} (hC : Cx C E cc nL "RightTurnsModel" nm ret hh d) (hdd : 4 + 1 ≤ d) (hd : decode cc pc = .ok (.invokevirtual 247, 3)) (hW : (st.map fun v => v.category).sum ≤ 8) (hV : wp_X4_findLefts σ Ret) (k : ∀ σ', Ret σ' → zz C E NS nL σ' (pc + 3) L st) : zz C E NS nL σ pc L (.ref (E.1.heap.size + 44) :: st) :=
  z_callVG hC cf3 cw_X4_findLefts hdd (by decide) (mz_X4_findLefts (cxE hC) hV) hd (k_44 σ) q1869 q1871 qs69 (np := 0) rfl rfl hW rfl (kV k)
def VL_X4_town_231 (Ret : Int32 → ZS → Prop) : Nat → ZS → Int32 → Prop
  | 0 => fun _ _ => False
  | k + 1 => fun σ x2 =>
    let K231 := VL_X4_town_231 Ret k
    ((x2 < 24 → (vp_in x2 24 ∧ (vp_in x2 24 ∧ (∀ σ29 : ZS, σ29 = sI σ (160 + 1 + ix 0) (ix x2) (zI σ 158 (ix x2)) → (vp_in x2 24 ∧ (vp_in x2 24 ∧ (∀ σ33 : ZS, σ33 = sI σ29 (362 + 1 + ix 0) (ix x2) (zI σ29 159 (ix x2)) → (∀ y34 : Int32, y34 = x2 + 1 → (K231 σ33 y34))))))))) ∧ (¬ x2 < 24 → (∀ σ22 : ZS, σ22 = sI σ 44 28 0 → (∀ σ23 : ZS, σ23 = sI σ22 44 29 0 → (wp_X4_findLefts σ23 (fun σ25 => Ret (zI σ25 47 (ix 0)) σ25))))))
def V_X4_town_231 (Ret : Int32 → ZS → Prop) (σ : ZS) (x2 : Int32) : Prop := ∃ k, VL_X4_town_231 Ret k σ x2
def VL_X4_town_168 (Ret : Int32 → ZS → Prop) : Nat → ZS → Int32 → Prop
  | 0 => fun _ _ => False
  | k + 1 => fun σ x2 =>
    let K168 := VL_X4_town_168 Ret k
    ((x2 < 4 → (vp_in x2 4 ∧ (vp_in x2 4 ∧ (∀ σ37 : ZS, σ37 = sI σ 47 (ix x2) (zI σ 46 (ix x2)) → (∀ y38 : Int32, y38 = x2 + 1 → (K168 σ37 y38)))))) ∧ (¬ x2 < 4 → (wp_X4_copies σ 48 65 (fun σ16 => wp_X4_copies σ16 82 107 (fun σ18 => wp_X4_copies σ18 132 145 (fun σ20 => ∀ σ21 : ZS, σ21 = sI σ20 44 19 0 → (V_X4_town_231 Ret σ21 0)))))))
def V_X4_town_168 (Ret : Int32 → ZS → Prop) (σ : ZS) (x2 : Int32) : Prop := ∃ k, VL_X4_town_168 Ret k σ x2
def V_X4_town_143 (Ret : Int32 → ZS → Prop) (σ : ZS) : Prop :=
    ∀ σ14 : ZS, σ14 = sI σ 44 3 (zI σ 44 6) → ((((zI σ14 44 5) = 0 → (V_X4_town_168 Ret σ14 0)) ∧ (¬ (zI σ14 44 5) = 0 → (Ret ((zI σ14 44 5) - 10) σ14))))
def VL_X4_town_114 (Ret : Int32 → ZS → Prop) : Nat → ZS → Prop
  | 0 => fun _ => False
  | k + 1 => fun σ =>
    let K114 := VL_X4_town_114 Ret k
    (((zI σ 44 5) = 0 → ((((zI σ 44 4) < (zI σ 44 2) → (wp_X4_clause σ (fun σ40 => wp_X4_blanks σ40 (fun σ42 => K114 σ42)))) ∧ (¬ (zI σ 44 4) < (zI σ 44 2) → (V_X4_town_143 Ret σ))))) ∧ (¬ (zI σ 44 5) = 0 → (V_X4_town_143 Ret σ)))
def V_X4_town_114 (Ret : Int32 → ZS → Prop) (σ : ZS) : Prop := ∃ k, VL_X4_town_114 Ret k σ
def VL_X4_town_84 (Ret : Int32 → ZS → Prop) : Nat → ZS → Int32 → Prop
  | 0 => fun _ _ => False
  | k + 1 => fun σ x2 =>
    let K84 := VL_X4_town_84 Ret k
    ((x2 < 24 → (vp_in x2 24 ∧ (∀ σ44 : ZS, σ44 = sI σ 158 (ix x2) 0 → (vp_in x2 24 ∧ (∀ σ46 : ZS, σ46 = sI σ44 159 (ix x2) 0 → (∀ y47 : Int32, y47 = x2 + 1 → (K84 σ46 y47))))))) ∧ (¬ x2 < 24 → (wp_X4_blanks σ (fun σ13 => V_X4_town_114 Ret σ13))))
def V_X4_town_84 (Ret : Int32 → ZS → Prop) (σ : ZS) (x2 : Int32) : Prop := ∃ k, VL_X4_town_84 Ret k σ x2
def VL_X4_town_64 (Ret : Int32 → ZS → Prop) : Nat → ZS → Int32 → Prop
  | 0 => fun _ _ => False
  | k + 1 => fun σ x2 =>
    let K64 := VL_X4_town_64 Ret k
    ((x2 < 4 → (vp_in x2 4 ∧ (∀ σ49 : ZS, σ49 = sI σ 46 (ix x2) 0 → (∀ y50 : Int32, y50 = x2 + 1 → (K64 σ49 y50))))) ∧ (¬ x2 < 4 → (V_X4_town_84 Ret σ 0)))
def V_X4_town_64 (Ret : Int32 → ZS → Prop) (σ : ZS) (x2 : Int32) : Prop := ∃ k, VL_X4_town_64 Ret k σ x2
def V_X4_town_23 (Ret : Int32 → ZS → Prop) (σ : ZS) (x1 : Int32) (s0 : Int32) : Prop :=
    wp_X4_bad σ s0 1 (fun r4 σ5 => ((r4 = 0 → (∀ σ6 : ZS, σ6 = sI σ5 44 1 0 → (∀ σ7 : ZS, σ7 = sI σ6 44 2 x1 → (∀ σ8 : ZS, σ8 = sI σ7 44 4 0 → (∀ σ9 : ZS, σ9 = sI σ8 44 5 0 → (∀ σ10 : ZS, σ10 = sI σ9 44 6 (-1) → (∀ σ11 : ZS, σ11 = sI σ10 44 7 0 → (V_X4_town_64 Ret σ11 0)))))))) ∧ (¬ r4 = 0 → (Ret 0 σ5))))
def wp_X4_town (σ : ZS) (a1 : Int32) (Ret : Int32 → ZS → Prop) : Prop :=
    ∀ σ1 : ZS, σ1 = sI σ 44 0 0 → (wp_X4_in σ1 a1 0 (zI σ1 44 1) (fun r2 σ3 => ((r2 = 0 → (V_X4_town_23 Ret σ3 a1 1)) ∧ (¬ r2 = 0 → (V_X4_town_23 Ret σ3 a1 0)))))
set_option maxHeartbeats 4000000 in
theorem mz_X4_town {l : Launch} {E : ZE} (hE : EOK E) {σ : ZS} {a1 : Int32} {Ret : Int32 → ZS → Prop} (hV : wp_X4_town σ a1 Ret) : MZ l E NS yX4_town (ws_ yX4_town cX4_town 3 (some .int)) 7 σ [.ref (E.1.heap.size + 44), .int a1] (rI Ret) := by
  refine MZ.start (L := [some (.ref (E.1.heap.size + 44)), some (.int a1), none]) hE (by decide) (Nat.le_of_ble_eq_true rfl) rfl fun C hCl hQo hC => ?_
  replace hC : Cx C E cX4_town 3 "RightTurnsModel" "town" (some .int) [] 7 := hC
  unfold wp_X4_town at hV
  have j_231 : ∀ (σ : ZS) (x2 : Int32), V_X4_town_231 Ret σ x2 → zz C E NS 3 σ 231 [some (.ref (E.1.heap.size + 44)), none, some (.int x2)] [] := by
    intro σ x2 ⟨k, hV⟩
    revert σ x2
    induction k with
    | zero => exact fun _ _ hV => hV.elim
    | succ k j_231 =>
      intro σ x2 hV
      simp only [VL_X4_town_231] at hV
      generalize hKe231 : VL_X4_town_231 Ret k = K231 at hV j_231
      clear hKe231
      refine z_iload_n hC dX4_town_231 rfl rfl ?_
      refine z_bipush (v := 24) hC dX4_town_232 rfl ?_
      refine z_icmp_ge (tgt := 271) hC dX4_town_234 (by decide) (fun hc => ?_) (fun hc => ?_)
      · replace hV := hV.2 hc
        refine z_aload_n hC dX4_town_271 rfl rfl ?_
        refine z_iconst (v := 0) hC dX4_town_272 rfl ?_
        refine p_X4_241_c3 hC dX4_town_273 (k_44 _) ?_
        obtain ⟨σ22, e_σ22⟩ : ∃ z : ZS, z = sI σ 44 28 0 := ⟨_, rfl⟩
        replace hV := hV _ e_σ22
        rw [← e_σ22]
        refine z_aload_n hC dX4_town_276 rfl rfl ?_
        refine z_iconst (v := 0) hC dX4_town_277 rfl ?_
        refine p_X4_244_c3 hC dX4_town_278 (k_44 _) ?_
        obtain ⟨σ23, e_σ23⟩ : ∃ z : ZS, z = sI σ22 44 29 0 := ⟨_, rfl⟩
        replace hV := hV _ e_σ23
        rw [← e_σ23]
        refine z_aload_n hC dX4_town_281 rfl rfl ?_
        refine c_X4_247 hC (by decide) dX4_town_282 (Nat.le_of_ble_eq_true rfl) hV (fun σ25 hV => ?_)
        refine z_aload_n hC dX4_town_285 rfl rfl ?_
        refine g_X4_20_44 hC dX4_town_286 ?_
        refine z_iconst (v := 0) hC dX4_town_289 rfl ?_
        refine z_iald hC dX4_town_290 (k_47 _) (in_dec rfl) ?_
        exact z_iret hC dX4_town_291 rfl (by rw [hQo]; exact ⟨_, rfl, hV⟩)
      · replace hV := hV.1 hc
        refine z_aload_n hC dX4_town_237 rfl rfl ?_
        refine g_X4_49_44 hC dX4_town_238 ?_
        refine z_iconst (v := 0) hC dX4_town_241 rfl ?_
        have h26 : vp_in 0 201 := in_dec rfl
        refine z_aalS hC dX4_town_242 (k_160 _) (by decide) ps_160 h26 ?_
        refine z_iload_n hC dX4_town_243 rfl rfl ?_
        refine z_aload_n hC dX4_town_244 rfl rfl ?_
        refine g_X4_43_44 hC dX4_town_245 ?_
        refine z_iload_n hC dX4_town_248 rfl rfl ?_
        obtain ⟨h27, hV⟩ := hV
        refine z_iald hC dX4_town_249 (k_158 _) (h27) ?_
        obtain ⟨h28, hV⟩ := hV
        refine z_iast hC dX4_town_250 (kr_160 _ (ix_lt h26)) (h28) ?_
        obtain ⟨σ29, e_σ29⟩ : ∃ z : ZS, z = sI σ (160 + 1 + ix 0) (ix x2) (zI σ 158 (ix x2)) := ⟨_, rfl⟩
        replace hV := hV _ e_σ29
        rw [← e_σ29]
        refine z_aload_n hC dX4_town_251 rfl rfl ?_
        refine g_X4_52_44 hC dX4_town_252 ?_
        refine z_iconst (v := 0) hC dX4_town_255 rfl ?_
        have h30 : vp_in 0 201 := in_dec rfl
        refine z_aalS hC dX4_town_256 (k_362 _) (by decide) ps_362 h30 ?_
        refine z_iload_n hC dX4_town_257 rfl rfl ?_
        refine z_aload_n hC dX4_town_258 rfl rfl ?_
        refine g_X4_46_44 hC dX4_town_259 ?_
        refine z_iload_n hC dX4_town_262 rfl rfl ?_
        obtain ⟨h31, hV⟩ := hV
        refine z_iald hC dX4_town_263 (k_159 _) (h31) ?_
        obtain ⟨h32, hV⟩ := hV
        refine z_iast hC dX4_town_264 (kr_362 _ (ix_lt h30)) (h32) ?_
        obtain ⟨σ33, e_σ33⟩ : ∃ z : ZS, z = sI σ29 (362 + 1 + ix 0) (ix x2) (zI σ29 159 (ix x2)) := ⟨_, rfl⟩
        replace hV := hV _ e_σ33
        rw [← e_σ33]
        obtain ⟨y34, e_y34⟩ : ∃ z : Int32, z = x2 + 1 := ⟨_, rfl⟩
        replace hV := hV _ e_y34
        refine z_iinc (v := y34) hC dX4_town_265 rfl (by rw [e_y34]; rfl) (Nat.le_of_ble_eq_true rfl) rfl rfl ?_
        refine z_goto (tgt := 231) hC dX4_town_268 (by decide) ?_
        refine zz_sub (L' := [some (.ref (E.1.heap.size + 44)), none, some (.int y34)]) ⟨rfl, rfl, trivial⟩ ?_
        exact j_231 σ33 y34 hV
  have j_168 : ∀ (σ : ZS) (x2 : Int32), V_X4_town_168 Ret σ x2 → zz C E NS 3 σ 168 [some (.ref (E.1.heap.size + 44)), none, some (.int x2)] [] := by
    intro σ x2 ⟨k, hV⟩
    revert σ x2
    induction k with
    | zero => exact fun _ _ hV => hV.elim
    | succ k j_168 =>
      intro σ x2 hV
      simp only [VL_X4_town_168] at hV
      generalize hKe168 : VL_X4_town_168 Ret k = K168 at hV j_168
      clear hKe168
      refine z_iload_n hC dX4_town_168 rfl rfl ?_
      refine z_iconst (v := 4) hC dX4_town_169 rfl ?_
      refine z_icmp_ge (tgt := 191) hC dX4_town_170 (by decide) (fun hc => ?_) (fun hc => ?_)
      · replace hV := hV.2 hc
        refine z_aload_n hC dX4_town_191 rfl rfl ?_
        refine g_X4_25_44 hC dX4_town_192 ?_
        refine z_aload_n hC dX4_town_195 rfl rfl ?_
        refine g_X4_28_44 hC dX4_town_196 ?_
        refine c_X4_234 hC (by decide) dX4_town_199 (Nat.le_of_ble_eq_true rfl) hV (fun σ16 hV => ?_)
        refine z_aload_n hC dX4_town_202 rfl rfl ?_
        refine g_X4_31_44 hC dX4_town_203 ?_
        refine z_aload_n hC dX4_town_206 rfl rfl ?_
        refine g_X4_34_44 hC dX4_town_207 ?_
        refine c_X4_234 hC (by decide) dX4_town_210 (Nat.le_of_ble_eq_true rfl) hV (fun σ18 hV => ?_)
        refine z_aload_n hC dX4_town_213 rfl rfl ?_
        refine g_X4_37_44 hC dX4_town_214 ?_
        refine z_aload_n hC dX4_town_217 rfl rfl ?_
        refine g_X4_40_44 hC dX4_town_218 ?_
        refine c_X4_234 hC (by decide) dX4_town_221 (Nat.le_of_ble_eq_true rfl) hV (fun σ20 hV => ?_)
        refine z_aload_n hC dX4_town_224 rfl rfl ?_
        refine z_iconst (v := 0) hC dX4_town_225 rfl ?_
        refine p_X4_238_c3 hC dX4_town_226 (k_44 _) ?_
        obtain ⟨σ21, e_σ21⟩ : ∃ z : ZS, z = sI σ20 44 19 0 := ⟨_, rfl⟩
        replace hV := hV _ e_σ21
        rw [← e_σ21]
        refine z_iconst (v := 0) hC dX4_town_229 rfl ?_
        refine z_istore_n hC dX4_town_230 rfl (Nat.le_of_ble_eq_true rfl) rfl rfl ?_
        refine zz_sub (L' := [some (.ref (E.1.heap.size + 44)), none, some (.int 0)]) ⟨rfl, rfl, trivial⟩ ?_
        exact j_231 σ21 0 hV
      · replace hV := hV.1 hc
        refine z_aload_n hC dX4_town_173 rfl rfl ?_
        refine g_X4_20_44 hC dX4_town_174 ?_
        refine z_iload_n hC dX4_town_177 rfl rfl ?_
        refine z_aload_n hC dX4_town_178 rfl rfl ?_
        refine g_X4_17_44 hC dX4_town_179 ?_
        refine z_iload_n hC dX4_town_182 rfl rfl ?_
        obtain ⟨h35, hV⟩ := hV
        refine z_iald hC dX4_town_183 (k_46 _) (h35) ?_
        obtain ⟨h36, hV⟩ := hV
        refine z_iast hC dX4_town_184 (k_47 _) (h36) ?_
        obtain ⟨σ37, e_σ37⟩ : ∃ z : ZS, z = sI σ 47 (ix x2) (zI σ 46 (ix x2)) := ⟨_, rfl⟩
        replace hV := hV _ e_σ37
        rw [← e_σ37]
        obtain ⟨y38, e_y38⟩ : ∃ z : Int32, z = x2 + 1 := ⟨_, rfl⟩
        replace hV := hV _ e_y38
        refine z_iinc (v := y38) hC dX4_town_185 rfl (by rw [e_y38]; rfl) (Nat.le_of_ble_eq_true rfl) rfl rfl ?_
        refine z_goto (tgt := 168) hC dX4_town_188 (by decide) ?_
        refine zz_sub (L' := [some (.ref (E.1.heap.size + 44)), none, some (.int y38)]) ⟨rfl, rfl, trivial⟩ ?_
        exact j_168 σ37 y38 hV
  have j_143 : ∀ (σ : ZS), V_X4_town_143 Ret σ → zz C E NS 3 σ 143 [some (.ref (E.1.heap.size + 44)), none, none] [] := by
    intro σ hV
    unfold V_X4_town_143 at hV
    refine z_aload_n hC dX4_town_143 rfl rfl ?_
    refine z_aload_n hC dX4_town_144 rfl rfl ?_
    refine g_X4_150_44 hC dX4_town_145 ?_
    refine p_X4_9_c3 hC dX4_town_148 (k_44 _) ?_
    obtain ⟨σ14, e_σ14⟩ : ∃ z : ZS, z = sI σ 44 3 (zI σ 44 6) := ⟨_, rfl⟩
    replace hV := hV _ e_σ14
    rw [← e_σ14]
    refine z_aload_n hC dX4_town_151 rfl rfl ?_
    refine g_X4_147_44 hC dX4_town_152 ?_
    refine z_if_eq (tgt := 166) hC dX4_town_155 (by decide) (fun hc => ?_) (fun hc => ?_)
    · replace hV := hV.1 hc
      refine z_iconst (v := 0) hC dX4_town_166 rfl ?_
      refine z_istore_n hC dX4_town_167 rfl (Nat.le_of_ble_eq_true rfl) rfl rfl ?_
      refine zz_sub (L' := [some (.ref (E.1.heap.size + 44)), none, some (.int 0)]) ⟨rfl, rfl, trivial⟩ ?_
      exact j_168 σ14 0 hV
    · replace hV := hV.2 hc
      refine z_aload_n hC dX4_town_158 rfl rfl ?_
      refine g_X4_147_44 hC dX4_town_159 ?_
      refine z_bipush (v := 10) hC dX4_town_162 rfl ?_
      refine z_isub hC dX4_town_164 ?_
      exact z_iret hC dX4_town_165 rfl (by rw [hQo]; exact ⟨_, rfl, hV⟩)
  have j_114 : ∀ (σ : ZS), V_X4_town_114 Ret σ → zz C E NS 3 σ 114 [some (.ref (E.1.heap.size + 44)), none, none] [] := by
    intro σ ⟨k, hV⟩
    revert σ
    induction k with
    | zero => exact fun _ hV => hV.elim
    | succ k j_114 =>
      intro σ hV
      simp only [VL_X4_town_114] at hV
      generalize hKe114 : VL_X4_town_114 Ret k = K114 at hV j_114
      clear hKe114
      refine z_aload_n hC dX4_town_114 rfl rfl ?_
      refine g_X4_147_44 hC dX4_town_115 ?_
      refine z_if_ne (tgt := 143) hC dX4_town_118 (by decide) (fun hc => ?_) (fun hc => ?_)
      · replace hV := hV.2 hc
        refine zz_sub (L' := [some (.ref (E.1.heap.size + 44)), none, none]) ⟨rfl, trivial⟩ ?_
        exact j_143 σ hV
      · replace hV := hV.1 hc
        refine z_aload_n hC dX4_town_121 rfl rfl ?_
        refine g_X4_140_44 hC dX4_town_122 ?_
        refine z_aload_n hC dX4_town_125 rfl rfl ?_
        refine g_X4_137_44 hC dX4_town_126 ?_
        refine z_icmp_ge (tgt := 143) hC dX4_town_129 (by decide) (fun hc => ?_) (fun hc => ?_)
        · replace hV := hV.2 hc
          refine zz_sub (L' := [some (.ref (E.1.heap.size + 44)), none, none]) ⟨rfl, trivial⟩ ?_
          exact j_143 σ hV
        · replace hV := hV.1 hc
          refine z_aload_n hC dX4_town_132 rfl rfl ?_
          refine c_X4_231 hC (by decide) dX4_town_133 (Nat.le_of_ble_eq_true rfl) hV (fun σ40 hV => ?_)
          refine z_aload_n hC dX4_town_136 rfl rfl ?_
          refine c_X4_153 hC (by decide) dX4_town_137 (Nat.le_of_ble_eq_true rfl) hV (fun σ42 hV => ?_)
          refine z_goto (tgt := 114) hC dX4_town_140 (by decide) ?_
          refine zz_sub (L' := [some (.ref (E.1.heap.size + 44)), none, none]) ⟨rfl, trivial⟩ ?_
          exact j_114 σ42 hV
  have j_84 : ∀ (σ : ZS) (x2 : Int32), V_X4_town_84 Ret σ x2 → zz C E NS 3 σ 84 [some (.ref (E.1.heap.size + 44)), none, some (.int x2)] [] := by
    intro σ x2 ⟨k, hV⟩
    revert σ x2
    induction k with
    | zero => exact fun _ _ hV => hV.elim
    | succ k j_84 =>
      intro σ x2 hV
      simp only [VL_X4_town_84] at hV
      generalize hKe84 : VL_X4_town_84 Ret k = K84 at hV j_84
      clear hKe84
      refine z_iload_n hC dX4_town_84 rfl rfl ?_
      refine z_bipush (v := 24) hC dX4_town_85 rfl ?_
      refine z_icmp_ge (tgt := 110) hC dX4_town_87 (by decide) (fun hc => ?_) (fun hc => ?_)
      · replace hV := hV.2 hc
        refine z_aload_n hC dX4_town_110 rfl rfl ?_
        refine c_X4_153 hC (by decide) dX4_town_111 (Nat.le_of_ble_eq_true rfl) hV (fun σ13 hV => ?_)
        refine zz_sub (L' := [some (.ref (E.1.heap.size + 44)), none, none]) ⟨rfl, trivial⟩ ?_
        exact j_114 σ13 hV
      · replace hV := hV.1 hc
        refine z_aload_n hC dX4_town_90 rfl rfl ?_
        refine g_X4_43_44 hC dX4_town_91 ?_
        refine z_iload_n hC dX4_town_94 rfl rfl ?_
        refine z_iconst (v := 0) hC dX4_town_95 rfl ?_
        obtain ⟨h43, hV⟩ := hV
        refine z_iast hC dX4_town_96 (k_158 _) (h43) ?_
        obtain ⟨σ44, e_σ44⟩ : ∃ z : ZS, z = sI σ 158 (ix x2) 0 := ⟨_, rfl⟩
        replace hV := hV _ e_σ44
        rw [← e_σ44]
        refine z_aload_n hC dX4_town_97 rfl rfl ?_
        refine g_X4_46_44 hC dX4_town_98 ?_
        refine z_iload_n hC dX4_town_101 rfl rfl ?_
        refine z_iconst (v := 0) hC dX4_town_102 rfl ?_
        obtain ⟨h45, hV⟩ := hV
        refine z_iast hC dX4_town_103 (k_159 _) (h45) ?_
        obtain ⟨σ46, e_σ46⟩ : ∃ z : ZS, z = sI σ44 159 (ix x2) 0 := ⟨_, rfl⟩
        replace hV := hV _ e_σ46
        rw [← e_σ46]
        obtain ⟨y47, e_y47⟩ : ∃ z : Int32, z = x2 + 1 := ⟨_, rfl⟩
        replace hV := hV _ e_y47
        refine z_iinc (v := y47) hC dX4_town_104 rfl (by rw [e_y47]; rfl) (Nat.le_of_ble_eq_true rfl) rfl rfl ?_
        refine z_goto (tgt := 84) hC dX4_town_107 (by decide) ?_
        refine zz_sub (L' := [some (.ref (E.1.heap.size + 44)), none, some (.int y47)]) ⟨rfl, rfl, trivial⟩ ?_
        exact j_84 σ46 y47 hV
  have j_64 : ∀ (σ : ZS) (x2 : Int32), V_X4_town_64 Ret σ x2 → zz C E NS 3 σ 64 [some (.ref (E.1.heap.size + 44)), none, some (.int x2)] [] := by
    intro σ x2 ⟨k, hV⟩
    revert σ x2
    induction k with
    | zero => exact fun _ _ hV => hV.elim
    | succ k j_64 =>
      intro σ x2 hV
      simp only [VL_X4_town_64] at hV
      generalize hKe64 : VL_X4_town_64 Ret k = K64 at hV j_64
      clear hKe64
      refine z_iload_n hC dX4_town_64 rfl rfl ?_
      refine z_iconst (v := 4) hC dX4_town_65 rfl ?_
      refine z_icmp_ge (tgt := 82) hC dX4_town_66 (by decide) (fun hc => ?_) (fun hc => ?_)
      · replace hV := hV.2 hc
        refine z_iconst (v := 0) hC dX4_town_82 rfl ?_
        refine z_istore_n hC dX4_town_83 rfl (Nat.le_of_ble_eq_true rfl) rfl rfl ?_
        refine zz_sub (L' := [some (.ref (E.1.heap.size + 44)), none, some (.int 0)]) ⟨rfl, rfl, trivial⟩ ?_
        exact j_84 σ 0 hV
      · replace hV := hV.1 hc
        refine z_aload_n hC dX4_town_69 rfl rfl ?_
        refine g_X4_17_44 hC dX4_town_70 ?_
        refine z_iload_n hC dX4_town_73 rfl rfl ?_
        refine z_iconst (v := 0) hC dX4_town_74 rfl ?_
        obtain ⟨h48, hV⟩ := hV
        refine z_iast hC dX4_town_75 (k_46 _) (h48) ?_
        obtain ⟨σ49, e_σ49⟩ : ∃ z : ZS, z = sI σ 46 (ix x2) 0 := ⟨_, rfl⟩
        replace hV := hV _ e_σ49
        rw [← e_σ49]
        obtain ⟨y50, e_y50⟩ : ∃ z : Int32, z = x2 + 1 := ⟨_, rfl⟩
        replace hV := hV _ e_y50
        refine z_iinc (v := y50) hC dX4_town_76 rfl (by rw [e_y50]; rfl) (Nat.le_of_ble_eq_true rfl) rfl rfl ?_
        refine z_goto (tgt := 64) hC dX4_town_79 (by decide) ?_
        refine zz_sub (L' := [some (.ref (E.1.heap.size + 44)), none, some (.int y50)]) ⟨rfl, rfl, trivial⟩ ?_
        exact j_64 σ49 y50 hV
  have j_23 : ∀ (σ : ZS) (x1 : Int32) (s0 : Int32), V_X4_town_23 Ret σ x1 s0 → zz C E NS 3 σ 23 [some (.ref (E.1.heap.size + 44)), some (.int x1), none] [.int s0, .ref (E.1.heap.size + 44)] := by
    intro σ x1 s0 hV
    unfold V_X4_town_23 at hV
    refine z_iconst (v := 1) hC dX4_town_23 rfl ?_
    refine c_X4_227 hC (by decide) dX4_town_24 (Nat.le_of_ble_eq_true rfl) hV (fun r4 σ5 hV => ?_)
    refine z_if_eq (tgt := 32) hC dX4_town_27 (by decide) (fun hc => ?_) (fun hc => ?_)
    · replace hV := hV.1 hc
      refine z_aload_n hC dX4_town_32 rfl rfl ?_
      refine z_iconst (v := 0) hC dX4_town_33 rfl ?_
      refine p_X4_134_c3 hC dX4_town_34 (k_44 _) ?_
      obtain ⟨σ6, e_σ6⟩ : ∃ z : ZS, z = sI σ5 44 1 0 := ⟨_, rfl⟩
      replace hV := hV _ e_σ6
      rw [← e_σ6]
      refine z_aload_n hC dX4_town_37 rfl rfl ?_
      refine z_iload_n hC dX4_town_38 rfl rfl ?_
      refine p_X4_137_c3 hC dX4_town_39 (k_44 _) ?_
      obtain ⟨σ7, e_σ7⟩ : ∃ z : ZS, z = sI σ6 44 2 x1 := ⟨_, rfl⟩
      replace hV := hV _ e_σ7
      rw [← e_σ7]
      refine z_aload_n hC dX4_town_42 rfl rfl ?_
      refine z_iconst (v := 0) hC dX4_town_43 rfl ?_
      refine p_X4_140_c3 hC dX4_town_44 (k_44 _) ?_
      obtain ⟨σ8, e_σ8⟩ : ∃ z : ZS, z = sI σ7 44 4 0 := ⟨_, rfl⟩
      replace hV := hV _ e_σ8
      rw [← e_σ8]
      refine z_aload_n hC dX4_town_47 rfl rfl ?_
      refine z_iconst (v := 0) hC dX4_town_48 rfl ?_
      refine p_X4_147_c3 hC dX4_town_49 (k_44 _) ?_
      obtain ⟨σ9, e_σ9⟩ : ∃ z : ZS, z = sI σ8 44 5 0 := ⟨_, rfl⟩
      replace hV := hV _ e_σ9
      rw [← e_σ9]
      refine z_aload_n hC dX4_town_52 rfl rfl ?_
      refine z_iconst (v := (-1)) hC dX4_town_53 rfl ?_
      refine p_X4_150_c3 hC dX4_town_54 (k_44 _) ?_
      obtain ⟨σ10, e_σ10⟩ : ∃ z : ZS, z = sI σ9 44 6 (-1) := ⟨_, rfl⟩
      replace hV := hV _ e_σ10
      rw [← e_σ10]
      refine z_aload_n hC dX4_town_57 rfl rfl ?_
      refine z_iconst (v := 0) hC dX4_town_58 rfl ?_
      refine p_X4_184_c3 hC dX4_town_59 (k_44 _) ?_
      obtain ⟨σ11, e_σ11⟩ : ∃ z : ZS, z = sI σ10 44 7 0 := ⟨_, rfl⟩
      replace hV := hV _ e_σ11
      rw [← e_σ11]
      refine z_iconst (v := 0) hC dX4_town_62 rfl ?_
      refine z_istore_n hC dX4_town_63 rfl (Nat.le_of_ble_eq_true rfl) rfl rfl ?_
      refine zz_sub (L' := [some (.ref (E.1.heap.size + 44)), none, some (.int 0)]) ⟨rfl, rfl, trivial⟩ ?_
      exact j_64 σ11 0 hV
    · replace hV := hV.2 hc
      refine z_iconst (v := 0) hC dX4_town_30 rfl ?_
      exact z_iret hC dX4_town_31 rfl (by rw [hQo]; exact ⟨_, rfl, hV⟩)
  refine z_aload_n hC dX4_town_0 rfl rfl ?_
  refine z_iconst (v := 0) hC dX4_town_1 rfl ?_
  refine p_X4_131_c3 hC dX4_town_2 (k_44 _) ?_
  obtain ⟨σ1, e_σ1⟩ : ∃ z : ZS, z = sI σ 44 0 0 := ⟨_, rfl⟩
  replace hV := hV _ e_σ1
  rw [← e_σ1]
  refine z_aload_n hC dX4_town_5 rfl rfl ?_
  refine z_iload_n hC dX4_town_6 rfl rfl ?_
  refine z_iconst (v := 0) hC dX4_town_7 rfl ?_
  refine z_aload_n hC dX4_town_8 rfl rfl ?_
  refine g_X4_134_44 hC dX4_town_9 ?_
  refine c_X4_165 hC (by decide) dX4_town_12 (Nat.le_of_ble_eq_true rfl) hV (fun r2 σ3 hV => ?_)
  refine z_if_ne (tgt := 22) hC dX4_town_15 (by decide) (fun hc => ?_) (fun hc => ?_)
  · replace hV := hV.2 hc
    refine z_iconst (v := 0) hC dX4_town_22 rfl ?_
    refine zz_sub (L' := [some (.ref (E.1.heap.size + 44)), some (.int a1), none]) ⟨rfl, rfl, trivial⟩ ?_
    exact j_23 σ3 a1 0 hV
  · replace hV := hV.1 hc
    refine z_iconst (v := 1) hC dX4_town_18 rfl ?_
    refine z_goto (tgt := 23) hC dX4_town_19 (by decide) ?_
    refine zz_sub (L' := [some (.ref (E.1.heap.size + 44)), some (.int a1), none]) ⟨rfl, rfl, trivial⟩ ?_
    exact j_23 σ3 a1 1 hV
def V_X4_traffic_71 (K43 : ZS → Int32 → Int32 → Int32 → Int32 → Int32 → Prop) (Ret : Int32 → ZS → Prop) (σ : ZS) (x1 : Int32) (x3 : Int32) (x4 : Int32) (x5 : Int32) (s0 : Int32) (s1 : Int32) : Prop :=
    ∀ y9 : Int32, y9 = s1 + s0 → (vp_in x5 12 ∧ (∀ y11 : Int32, y11 = x3 + (zI σ 1166 (ix x5)) → (vp_in x5 12 ∧ (((0 < (zI σ 1166 (ix x5)) → (((x4 = (-1) → (∀ y14 : Int32, y14 = x5 + 1 → (K43 σ x1 y9 y11 x5 y14))) ∧ (¬ x4 = (-1) → (vp_in x5 12 ∧ (vp_in x4 12 ∧ ((((zI σ 1166 (ix x4)) < (zI σ 1166 (ix x5)) → (∀ y18 : Int32, y18 = x5 + 1 → (K43 σ x1 y9 y11 x5 y18))) ∧ (¬ (zI σ 1166 (ix x4)) < (zI σ 1166 (ix x5)) → (∀ y17 : Int32, y17 = x5 + 1 → (K43 σ x1 y9 y11 x4 y17))))))))))) ∧ (¬ 0 < (zI σ 1166 (ix x5)) → (∀ y13 : Int32, y13 = x5 + 1 → (K43 σ x1 y9 y11 x4 y13))))))))
def VL_X4_traffic_43 (Ret : Int32 → ZS → Prop) : Nat → ZS → Int32 → Int32 → Int32 → Int32 → Int32 → Prop
  | 0 => fun _ _ _ _ _ _ => False
  | k + 1 => fun σ x1 x2 x3 x4 x5 =>
    let K43 := VL_X4_traffic_43 Ret k
    ((x5 < (zI σ 47 (ix 3)) → (vp_in x5 12 ∧ ((((zI σ 1165 (ix x5)) = (-1) → (V_X4_traffic_71 K43 Ret σ x1 x3 x4 x5 0 x2)) ∧ (¬ (zI σ 1165 (ix x5)) = (-1) → (V_X4_traffic_71 K43 Ret σ x1 x3 x4 x5 1 x2)))))) ∧ (¬ x5 < (zI σ 47 (ix 3)) → (((x1 = 0 → (Ret (zI σ 44 43) σ)) ∧ (¬ x1 = 0 → (((x1 = 1 → (Ret x2 σ)) ∧ (¬ x1 = 1 → (((x1 = 2 → (Ret x3 σ)) ∧ (¬ x1 = 2 → (Ret x4 σ))))))))))))
def V_X4_traffic_43 (Ret : Int32 → ZS → Prop) (σ : ZS) (x1 : Int32) (x2 : Int32) (x3 : Int32) (x4 : Int32) (x5 : Int32) : Prop := ∃ k, VL_X4_traffic_43 Ret k σ x1 x2 x3 x4 x5
def V_X4_traffic_20 (Ret : Int32 → ZS → Prop) (σ : ZS) (x1 : Int32) (s0 : Int32) : Prop :=
    wp_X4_bad σ s0 1 (fun r4 σ5 => ((r4 = 0 → (wp_X4_runs σ5 (fun σ7 => V_X4_traffic_43 Ret σ7 x1 0 0 (-1) 0))) ∧ (¬ r4 = 0 → (Ret 0 σ5))))
def wp_X4_traffic (σ : ZS) (a1 : Int32) (Ret : Int32 → ZS → Prop) : Prop :=
    ∀ σ1 : ZS, σ1 = sI σ 44 0 0 → (wp_X4_in σ1 a1 0 3 (fun r2 σ3 => ((r2 = 0 → (V_X4_traffic_20 Ret σ3 a1 1)) ∧ (¬ r2 = 0 → (V_X4_traffic_20 Ret σ3 a1 0)))))
set_option maxHeartbeats 4000000 in
theorem mz_X4_traffic {l : Launch} {E : ZE} (hE : EOK E) {σ : ZS} {a1 : Int32} {Ret : Int32 → ZS → Prop} (hV : wp_X4_traffic σ a1 Ret) : MZ l E NS yX4_traffic (ws_ yX4_traffic cX4_traffic 6 (some .int)) 9 σ [.ref (E.1.heap.size + 44), .int a1] (rI Ret) := by
  refine MZ.start (L := [some (.ref (E.1.heap.size + 44)), some (.int a1), none, none, none, none]) hE (by decide) (Nat.le_of_ble_eq_true rfl) rfl fun C hCl hQo hC => ?_
  replace hC : Cx C E cX4_traffic 6 "RightTurnsModel" "traffic" (some .int) [] 9 := hC
  unfold wp_X4_traffic at hV
  have j_43 : ∀ (σ : ZS) (x1 : Int32) (x2 : Int32) (x3 : Int32) (x4 : Int32) (x5 : Int32), V_X4_traffic_43 Ret σ x1 x2 x3 x4 x5 → zz C E NS 6 σ 43 [some (.ref (E.1.heap.size + 44)), some (.int x1), some (.int x2), some (.int x3), some (.int x4), some (.int x5)] [] := by
    intro σ x1 x2 x3 x4 x5 ⟨k, hV⟩
    revert σ x1 x2 x3 x4 x5
    induction k with
    | zero => exact fun _ _ _ _ _ _ hV => hV.elim
    | succ k j_43 =>
      intro σ x1 x2 x3 x4 x5 hV
      simp only [VL_X4_traffic_43] at hV
      generalize hKe43 : VL_X4_traffic_43 Ret k = K43 at hV j_43
      clear hKe43
      have j_71 : ∀ (σ : ZS) (x1 : Int32) (x3 : Int32) (x4 : Int32) (x5 : Int32) (s0 : Int32) (s1 : Int32), V_X4_traffic_71 K43 Ret σ x1 x3 x4 x5 s0 s1 → zz C E NS 6 σ 71 [some (.ref (E.1.heap.size + 44)), some (.int x1), none, some (.int x3), some (.int x4), some (.int x5)] [.int s0, .int s1] := by
        intro σ x1 x3 x4 x5 s0 s1 hV
        unfold V_X4_traffic_71 at hV
        refine z_iadd hC dX4_traffic_71 ?_
        obtain ⟨y9, e_y9⟩ : ∃ z, z = s1 + s0 := ⟨_, rfl⟩
        rw [← e_y9]
        replace hV := hV _ e_y9
        refine z_istore_n hC dX4_traffic_72 rfl (Nat.le_of_ble_eq_true rfl) rfl rfl ?_
        refine z_iload_n hC dX4_traffic_73 rfl rfl ?_
        refine z_aload_n hC dX4_traffic_74 rfl rfl ?_
        refine g_X4_98_44 hC dX4_traffic_75 ?_
        refine z_iload hC dX4_traffic_78 rfl ?_
        obtain ⟨h10, hV⟩ := hV
        refine z_iald hC dX4_traffic_80 (k_1166 _) (h10) ?_
        refine z_iadd hC dX4_traffic_81 ?_
        obtain ⟨y11, e_y11⟩ : ∃ z, z = x3 + (zI σ 1166 (ix x5)) := ⟨_, rfl⟩
        rw [← e_y11]
        replace hV := hV _ e_y11
        refine z_istore_n hC dX4_traffic_82 rfl (Nat.le_of_ble_eq_true rfl) rfl rfl ?_
        refine z_aload_n hC dX4_traffic_83 rfl rfl ?_
        refine g_X4_98_44 hC dX4_traffic_84 ?_
        refine z_iload hC dX4_traffic_87 rfl ?_
        obtain ⟨h12, hV⟩ := hV
        refine z_iald hC dX4_traffic_89 (k_1166 _) (h12) ?_
        refine z_if_le (tgt := 120) hC dX4_traffic_90 (by decide) (fun hc => ?_) (fun hc => ?_)
        · replace hV := hV.2 hc
          obtain ⟨y13, e_y13⟩ : ∃ z : Int32, z = x5 + 1 := ⟨_, rfl⟩
          replace hV := hV _ e_y13
          refine z_iinc (v := y13) hC dX4_traffic_120 rfl (by rw [e_y13]; rfl) (Nat.le_of_ble_eq_true rfl) rfl rfl ?_
          refine z_goto (tgt := 43) hC dX4_traffic_123 (by decide) ?_
          refine zz_sub (L' := [some (.ref (E.1.heap.size + 44)), some (.int x1), some (.int y9), some (.int y11), some (.int x4), some (.int y13)]) ⟨rfl, rfl, rfl, rfl, rfl, rfl, trivial⟩ ?_
          exact j_43 σ x1 y9 y11 x4 y13 hV
        · replace hV := hV.1 hc
          refine z_iload hC dX4_traffic_93 rfl ?_
          refine z_iconst (v := (-1)) hC dX4_traffic_95 rfl ?_
          refine z_icmp_eq (tgt := 116) hC dX4_traffic_96 (by decide) (fun hc => ?_) (fun hc => ?_)
          · replace hV := hV.1 hc
            refine z_iload hC dX4_traffic_116 rfl ?_
            refine z_istore hC dX4_traffic_118 (Nat.le_of_ble_eq_true rfl) rfl rfl ?_
            obtain ⟨y14, e_y14⟩ : ∃ z : Int32, z = x5 + 1 := ⟨_, rfl⟩
            replace hV := hV _ e_y14
            refine z_iinc (v := y14) hC dX4_traffic_120 rfl (by rw [e_y14]; rfl) (Nat.le_of_ble_eq_true rfl) rfl rfl ?_
            refine z_goto (tgt := 43) hC dX4_traffic_123 (by decide) ?_
            refine zz_sub (L' := [some (.ref (E.1.heap.size + 44)), some (.int x1), some (.int y9), some (.int y11), some (.int x5), some (.int y14)]) ⟨rfl, rfl, rfl, rfl, rfl, rfl, trivial⟩ ?_
            exact j_43 σ x1 y9 y11 x5 y14 hV
          · replace hV := hV.2 hc
            refine z_aload_n hC dX4_traffic_99 rfl rfl ?_
            refine g_X4_98_44 hC dX4_traffic_100 ?_
            refine z_iload hC dX4_traffic_103 rfl ?_
            obtain ⟨h15, hV⟩ := hV
            refine z_iald hC dX4_traffic_105 (k_1166 _) (h15) ?_
            refine z_aload_n hC dX4_traffic_106 rfl rfl ?_
            refine g_X4_98_44 hC dX4_traffic_107 ?_
            refine z_iload hC dX4_traffic_110 rfl ?_
            obtain ⟨h16, hV⟩ := hV
            refine z_iald hC dX4_traffic_112 (k_1166 _) (h16) ?_
            refine z_icmp_le (tgt := 120) hC dX4_traffic_113 (by decide) (fun hc => ?_) (fun hc => ?_)
            · replace hV := hV.2 hc
              obtain ⟨y17, e_y17⟩ : ∃ z : Int32, z = x5 + 1 := ⟨_, rfl⟩
              replace hV := hV _ e_y17
              refine z_iinc (v := y17) hC dX4_traffic_120 rfl (by rw [e_y17]; rfl) (Nat.le_of_ble_eq_true rfl) rfl rfl ?_
              refine z_goto (tgt := 43) hC dX4_traffic_123 (by decide) ?_
              refine zz_sub (L' := [some (.ref (E.1.heap.size + 44)), some (.int x1), some (.int y9), some (.int y11), some (.int x4), some (.int y17)]) ⟨rfl, rfl, rfl, rfl, rfl, rfl, trivial⟩ ?_
              exact j_43 σ x1 y9 y11 x4 y17 hV
            · replace hV := hV.1 hc
              refine z_iload hC dX4_traffic_116 rfl ?_
              refine z_istore hC dX4_traffic_118 (Nat.le_of_ble_eq_true rfl) rfl rfl ?_
              obtain ⟨y18, e_y18⟩ : ∃ z : Int32, z = x5 + 1 := ⟨_, rfl⟩
              replace hV := hV _ e_y18
              refine z_iinc (v := y18) hC dX4_traffic_120 rfl (by rw [e_y18]; rfl) (Nat.le_of_ble_eq_true rfl) rfl rfl ?_
              refine z_goto (tgt := 43) hC dX4_traffic_123 (by decide) ?_
              refine zz_sub (L' := [some (.ref (E.1.heap.size + 44)), some (.int x1), some (.int y9), some (.int y11), some (.int x5), some (.int y18)]) ⟨rfl, rfl, rfl, rfl, rfl, rfl, trivial⟩ ?_
              exact j_43 σ x1 y9 y11 x5 y18 hV
      refine z_iload hC dX4_traffic_43 rfl ?_
      refine z_aload_n hC dX4_traffic_45 rfl rfl ?_
      refine g_X4_20_44 hC dX4_traffic_46 ?_
      refine z_iconst (v := 3) hC dX4_traffic_49 rfl ?_
      refine z_iald hC dX4_traffic_50 (k_47 _) (in_dec rfl) ?_
      refine z_icmp_ge (tgt := 126) hC dX4_traffic_51 (by decide) (fun hc => ?_) (fun hc => ?_)
      · replace hV := hV.2 hc
        refine z_iload_n hC dX4_traffic_126 rfl rfl ?_
        refine z_if_ne (tgt := 137) hC dX4_traffic_127 (by decide) (fun hc => ?_) (fun hc => ?_)
        · replace hV := hV.2 hc
          refine z_iload_n hC dX4_traffic_137 rfl rfl ?_
          refine z_iconst (v := 1) hC dX4_traffic_138 rfl ?_
          refine z_icmp_ne (tgt := 146) hC dX4_traffic_139 (by decide) (fun hc => ?_) (fun hc => ?_)
          · replace hV := hV.2 hc
            refine z_iload_n hC dX4_traffic_146 rfl rfl ?_
            refine z_iconst (v := 2) hC dX4_traffic_147 rfl ?_
            refine z_icmp_ne (tgt := 155) hC dX4_traffic_148 (by decide) (fun hc => ?_) (fun hc => ?_)
            · replace hV := hV.2 hc
              refine z_iload hC dX4_traffic_155 rfl ?_
              exact z_iret hC dX4_traffic_157 rfl (by rw [hQo]; exact ⟨_, rfl, hV⟩)
            · replace hV := hV.1 hc
              refine z_iload_n hC dX4_traffic_151 rfl rfl ?_
              refine z_goto (tgt := 157) hC dX4_traffic_152 (by decide) ?_
              exact z_iret hC dX4_traffic_157 rfl (by rw [hQo]; exact ⟨_, rfl, hV⟩)
          · replace hV := hV.1 hc
            refine z_iload_n hC dX4_traffic_142 rfl rfl ?_
            refine z_goto (tgt := 157) hC dX4_traffic_143 (by decide) ?_
            exact z_iret hC dX4_traffic_157 rfl (by rw [hQo]; exact ⟨_, rfl, hV⟩)
        · replace hV := hV.1 hc
          refine z_aload_n hC dX4_traffic_130 rfl rfl ?_
          refine g_X4_375_44 hC dX4_traffic_131 ?_
          refine z_goto (tgt := 157) hC dX4_traffic_134 (by decide) ?_
          exact z_iret hC dX4_traffic_157 rfl (by rw [hQo]; exact ⟨_, rfl, hV⟩)
      · replace hV := hV.1 hc
        refine z_iload_n hC dX4_traffic_54 rfl rfl ?_
        refine z_aload_n hC dX4_traffic_55 rfl rfl ?_
        refine g_X4_95_44 hC dX4_traffic_56 ?_
        refine z_iload hC dX4_traffic_59 rfl ?_
        obtain ⟨h8, hV⟩ := hV
        refine z_iald hC dX4_traffic_61 (k_1165 _) (h8) ?_
        refine z_iconst (v := (-1)) hC dX4_traffic_62 rfl ?_
        refine z_icmp_ne (tgt := 70) hC dX4_traffic_63 (by decide) (fun hc => ?_) (fun hc => ?_)
        · replace hV := hV.2 hc
          refine z_iconst (v := 1) hC dX4_traffic_70 rfl ?_
          refine zz_sub (L' := [some (.ref (E.1.heap.size + 44)), some (.int x1), none, some (.int x3), some (.int x4), some (.int x5)]) ⟨rfl, rfl, rfl, rfl, rfl, trivial⟩ ?_
          exact j_71 σ x1 x3 x4 x5 1 x2 hV
        · replace hV := hV.1 hc
          refine z_iconst (v := 0) hC dX4_traffic_66 rfl ?_
          refine z_goto (tgt := 71) hC dX4_traffic_67 (by decide) ?_
          refine zz_sub (L' := [some (.ref (E.1.heap.size + 44)), some (.int x1), none, some (.int x3), some (.int x4), some (.int x5)]) ⟨rfl, rfl, rfl, rfl, rfl, trivial⟩ ?_
          exact j_71 σ x1 x3 x4 x5 0 x2 hV
  have j_20 : ∀ (σ : ZS) (x1 : Int32) (s0 : Int32), V_X4_traffic_20 Ret σ x1 s0 → zz C E NS 6 σ 20 [some (.ref (E.1.heap.size + 44)), some (.int x1), none, none, none, none] [.int s0, .ref (E.1.heap.size + 44)] := by
    intro σ x1 s0 hV
    unfold V_X4_traffic_20 at hV
    refine z_iconst (v := 1) hC dX4_traffic_20 rfl ?_
    refine c_X4_227 hC (by decide) dX4_traffic_21 (Nat.le_of_ble_eq_true rfl) hV (fun r4 σ5 hV => ?_)
    refine z_if_eq (tgt := 29) hC dX4_traffic_24 (by decide) (fun hc => ?_) (fun hc => ?_)
    · replace hV := hV.1 hc
      refine z_aload_n hC dX4_traffic_29 rfl rfl ?_
      refine c_X4_387 hC (by decide) dX4_traffic_30 (Nat.le_of_ble_eq_true rfl) hV (fun σ7 hV => ?_)
      refine z_iconst (v := 0) hC dX4_traffic_33 rfl ?_
      refine z_istore_n hC dX4_traffic_34 rfl (Nat.le_of_ble_eq_true rfl) rfl rfl ?_
      refine z_iconst (v := 0) hC dX4_traffic_35 rfl ?_
      refine z_istore_n hC dX4_traffic_36 rfl (Nat.le_of_ble_eq_true rfl) rfl rfl ?_
      refine z_iconst (v := (-1)) hC dX4_traffic_37 rfl ?_
      refine z_istore hC dX4_traffic_38 (Nat.le_of_ble_eq_true rfl) rfl rfl ?_
      refine z_iconst (v := 0) hC dX4_traffic_40 rfl ?_
      refine z_istore hC dX4_traffic_41 (Nat.le_of_ble_eq_true rfl) rfl rfl ?_
      refine zz_sub (L' := [some (.ref (E.1.heap.size + 44)), some (.int x1), some (.int 0), some (.int 0), some (.int (-1)), some (.int 0)]) ⟨rfl, rfl, rfl, rfl, rfl, rfl, trivial⟩ ?_
      exact j_43 σ7 x1 0 0 (-1) 0 hV
    · replace hV := hV.2 hc
      refine z_iconst (v := 0) hC dX4_traffic_27 rfl ?_
      exact z_iret hC dX4_traffic_28 rfl (by rw [hQo]; exact ⟨_, rfl, hV⟩)
  refine z_aload_n hC dX4_traffic_0 rfl rfl ?_
  refine z_iconst (v := 0) hC dX4_traffic_1 rfl ?_
  refine p_X4_131_c3 hC dX4_traffic_2 (k_44 _) ?_
  obtain ⟨σ1, e_σ1⟩ : ∃ z : ZS, z = sI σ 44 0 0 := ⟨_, rfl⟩
  replace hV := hV _ e_σ1
  rw [← e_σ1]
  refine z_aload_n hC dX4_traffic_5 rfl rfl ?_
  refine z_iload_n hC dX4_traffic_6 rfl rfl ?_
  refine z_iconst (v := 0) hC dX4_traffic_7 rfl ?_
  refine z_iconst (v := 3) hC dX4_traffic_8 rfl ?_
  refine c_X4_165 hC (by decide) dX4_traffic_9 (Nat.le_of_ble_eq_true rfl) hV (fun r2 σ3 hV => ?_)
  refine z_if_ne (tgt := 19) hC dX4_traffic_12 (by decide) (fun hc => ?_) (fun hc => ?_)
  · replace hV := hV.2 hc
    refine z_iconst (v := 0) hC dX4_traffic_19 rfl ?_
    refine zz_sub (L' := [some (.ref (E.1.heap.size + 44)), some (.int a1), none, none, none, none]) ⟨rfl, rfl, trivial⟩ ?_
    exact j_20 σ3 a1 0 hV
  · replace hV := hV.1 hc
    refine z_iconst (v := 1) hC dX4_traffic_15 rfl ?_
    refine z_goto (tgt := 20) hC dX4_traffic_16 (by decide) ?_
    refine zz_sub (L' := [some (.ref (E.1.heap.size + 44)), some (.int a1), none, none, none, none]) ⟨rfl, rfl, trivial⟩ ?_
    exact j_20 σ3 a1 1 hV
def V_X4_turn_27 (Ret : Int32 → ZS → Prop) (σ : ZS) (x1 : Int32) (x2 : Int32) (s0 : Int32) : Prop :=
    wp_X4_bad σ s0 1 (fun r4 σ5 => ((r4 = 0 → (wp_X4_turnOf σ5 x1 x2 (fun r6 σ7 => Ret r6 σ7))) ∧ (¬ r4 = 0 → (Ret 0 σ5))))
def V_X4_turn_22 (Ret : Int32 → ZS → Prop) (σ : ZS) (x1 : Int32) (x2 : Int32) : Prop :=
    V_X4_turn_27 Ret σ x1 x2 1
def wp_X4_turn (σ : ZS) (a1 : Int32) (a2 : Int32) (Ret : Int32 → ZS → Prop) : Prop :=
    ∀ σ1 : ZS, σ1 = sI σ 44 0 0 → (wp_X4_isArc σ1 a1 (fun r2 σ3 => ((r2 = 0 → (V_X4_turn_22 Ret σ3 a1 a2)) ∧ (¬ r2 = 0 → (wp_X4_isArc σ3 a2 (fun r8 σ9 => ((r8 = 0 → (V_X4_turn_22 Ret σ9 a1 a2)) ∧ (¬ r8 = 0 → (V_X4_turn_27 Ret σ9 a1 a2 0)))))))))
set_option maxHeartbeats 4000000 in
theorem mz_X4_turn {l : Launch} {E : ZE} (hE : EOK E) {σ : ZS} {a1 : Int32} {a2 : Int32} {Ret : Int32 → ZS → Prop} (hV : wp_X4_turn σ a1 a2 Ret) : MZ l E NS yX4_turn (ws_ yX4_turn cX4_turn 3 (some .int)) 4 σ [.ref (E.1.heap.size + 44), .int a1, .int a2] (rI Ret) := by
  refine MZ.start (L := [some (.ref (E.1.heap.size + 44)), some (.int a1), some (.int a2)]) hE (by decide) (Nat.le_of_ble_eq_true rfl) rfl fun C hCl hQo hC => ?_
  replace hC : Cx C E cX4_turn 3 "RightTurnsModel" "turn" (some .int) [] 4 := hC
  unfold wp_X4_turn at hV
  have j_27 : ∀ (σ : ZS) (x1 : Int32) (x2 : Int32) (s0 : Int32), V_X4_turn_27 Ret σ x1 x2 s0 → zz C E NS 3 σ 27 [some (.ref (E.1.heap.size + 44)), some (.int x1), some (.int x2)] [.int s0, .ref (E.1.heap.size + 44)] := by
    intro σ x1 x2 s0 hV
    unfold V_X4_turn_27 at hV
    refine z_iconst (v := 1) hC dX4_turn_27 rfl ?_
    refine c_X4_227 hC (by decide) dX4_turn_28 (Nat.le_of_ble_eq_true rfl) hV (fun r4 σ5 hV => ?_)
    refine z_if_eq (tgt := 36) hC dX4_turn_31 (by decide) (fun hc => ?_) (fun hc => ?_)
    · replace hV := hV.1 hc
      refine z_aload_n hC dX4_turn_36 rfl rfl ?_
      refine z_iload_n hC dX4_turn_37 rfl rfl ?_
      refine z_iload_n hC dX4_turn_38 rfl rfl ?_
      refine c_X4_265 hC (by decide) dX4_turn_39 (Nat.le_of_ble_eq_true rfl) hV (fun r6 σ7 hV => ?_)
      exact z_iret hC dX4_turn_42 rfl (by rw [hQo]; exact ⟨_, rfl, hV⟩)
    · replace hV := hV.2 hc
      refine z_iconst (v := 0) hC dX4_turn_34 rfl ?_
      exact z_iret hC dX4_turn_35 rfl (by rw [hQo]; exact ⟨_, rfl, hV⟩)
  have j_22 : ∀ (σ : ZS) (x1 : Int32) (x2 : Int32), V_X4_turn_22 Ret σ x1 x2 → zz C E NS 3 σ 22 [some (.ref (E.1.heap.size + 44)), some (.int x1), some (.int x2)] [.ref (E.1.heap.size + 44)] := by
    intro σ x1 x2 hV
    unfold V_X4_turn_22 at hV
    refine z_iconst (v := 1) hC dX4_turn_22 rfl ?_
    refine z_goto (tgt := 27) hC dX4_turn_23 (by decide) ?_
    refine zz_sub (L' := [some (.ref (E.1.heap.size + 44)), some (.int x1), some (.int x2)]) ⟨rfl, rfl, rfl, trivial⟩ ?_
    exact j_27 σ x1 x2 1 hV
  refine z_aload_n hC dX4_turn_0 rfl rfl ?_
  refine z_iconst (v := 0) hC dX4_turn_1 rfl ?_
  refine p_X4_131_c3 hC dX4_turn_2 (k_44 _) ?_
  obtain ⟨σ1, e_σ1⟩ : ∃ z : ZS, z = sI σ 44 0 0 := ⟨_, rfl⟩
  replace hV := hV _ e_σ1
  rw [← e_σ1]
  refine z_aload_n hC dX4_turn_5 rfl rfl ?_
  refine z_aload_n hC dX4_turn_6 rfl rfl ?_
  refine z_iload_n hC dX4_turn_7 rfl rfl ?_
  refine c_X4_262 hC (by decide) dX4_turn_8 (Nat.le_of_ble_eq_true rfl) hV (fun r2 σ3 hV => ?_)
  refine z_if_eq (tgt := 22) hC dX4_turn_11 (by decide) (fun hc => ?_) (fun hc => ?_)
  · replace hV := hV.1 hc
    refine zz_sub (L' := [some (.ref (E.1.heap.size + 44)), some (.int a1), some (.int a2)]) ⟨rfl, rfl, rfl, trivial⟩ ?_
    exact j_22 σ3 a1 a2 hV
  · replace hV := hV.2 hc
    refine z_aload_n hC dX4_turn_14 rfl rfl ?_
    refine z_iload_n hC dX4_turn_15 rfl rfl ?_
    refine c_X4_262 hC (by decide) dX4_turn_16 (Nat.le_of_ble_eq_true rfl) hV (fun r8 σ9 hV => ?_)
    refine z_if_ne (tgt := 26) hC dX4_turn_19 (by decide) (fun hc => ?_) (fun hc => ?_)
    · replace hV := hV.2 hc
      refine z_iconst (v := 0) hC dX4_turn_26 rfl ?_
      refine zz_sub (L' := [some (.ref (E.1.heap.size + 44)), some (.int a1), some (.int a2)]) ⟨rfl, rfl, rfl, trivial⟩ ?_
      exact j_27 σ9 a1 a2 0 hV
    · replace hV := hV.1 hc
      refine zz_sub (L' := [some (.ref (E.1.heap.size + 44)), some (.int a1), some (.int a2)]) ⟨rfl, rfl, rfl, trivial⟩ ?_
      exact j_22 σ9 a1 a2 hV
