set_option maxRecDepth 100000
theorem g_X1_66_0 {C : ZC} {E : ZE} {cc : ByteArray} {nL pc d : Nat} {nm : String} {ret : Option FieldType} {hh : List (Nat × Nat × Nat × Nat)} {σ : ZS} {L : List (Option Value)} {st : List Value} (hC : Cx C E cc nL "RightTurns" nm ret hh d) (hd : decode cc pc = .ok (.getfield 66, 3)) (k : zz C E NS nL σ (pc + 3) L (.ref (E.1.heap.size + 27) :: st)) : zz C E NS nL σ pc L (.ref (E.1.heap.size + 0) :: st) :=
  z_get hC cf0 hd (k_0 σ) (k := 18) (by decide) (Or.inl q599) (Or.inl rfl) rfl k
theorem cw_X1_with : CodeW yX1_with (ws_ yX1_with cX1_with 4 (some .int)) 4 := ⟨fun w h => (List.mem_cons.mp h).elim (fun e => e ▸ q1449) id, Or.inl ⟨_, _, q1449⟩, q116, by decide, by decide⟩
theorem c_X1_357 {C : ZC} {E : ZE} {cc : ByteArray} {nL pc d : Nat} {nm : String} {ret : Option FieldType} {hh : List (Nat × Nat × Nat × Nat)} {σ : ZS} {L : List (Option Value)} {st : List Value} {a1 : Int32} {a2 : Int32} {Ret : Int32 → ZS → Prop} (hC : Cx C E cc nL "RightTurns" nm ret hh d) (hdd : 6 + 1 ≤ d) (hd : decode cc pc = .ok (.invokevirtual 357, 3)) (hW : (st.map fun v => v.category).sum ≤ 8) (hV : wp_X1_with σ a1 a2 Ret) (k : ∀ r σ', Ret r σ' → zz C E NS nL σ' (pc + 3) L (.int r :: st)) : zz C E NS nL σ pc L (.int a2 :: .int a1 :: .ref (E.1.heap.size + 0) :: st) :=
  z_callVG hC cf0 cw_X1_with hdd (by decide) (mz_X1_with (cxE hC) hV) hd (k_0 σ) q1446 q1448 qs38 (np := 2) rfl rfl hW rfl (kI k)
def VL_X1_goesRound_51 (K2 : ZS → Int32 → Int32 → Int32 → Prop) (K11 : ZS → Int32 → Int32 → Int32 → Int32 → Prop) (Ret : ZS → Prop) : Nat → ZS → Int32 → Int32 → Int32 → Int32 → Int32 → Int32 → Prop
  | 0 => fun _ _ _ _ _ _ _ => False
  | k + 1 => fun σ x1 x2 x3 x4 x5 x6 =>
    let K51 := VL_X1_goesRound_51 K2 K11 Ret k
    (zP σ 0 0) = some (.inl (zo (zP σ 0 0))) ∧ ((∃ n12, kK NS σ (zo (zP σ 0 0)) = (8, n12)) ∧ (wp_X2_arcs σ (zo (zP σ 0 0)) (fun r9 σ10 => ((x6 < r9 → ((zP σ10 0 0) = some (.inl (zo (zP σ10 0 0))) ∧ ((∃ n18, kK NS σ10 (zo (zP σ10 0 0)) = (8, n18)) ∧ (wp_X2_isArc σ10 (zo (zP σ10 0 0)) x6 (fun r15 σ16 => ((r15 = 0 → (∀ y19 : Int32, y19 = x6 + 1 → (K51 σ16 x1 x2 x3 x4 x5 y19))) ∧ (¬ r15 = 0 → (wp_X1_mayRide σ16 x4 x6 x2 (fun r20 σ21 => ((r20 = 0 → (∀ y40 : Int32, y40 = x6 + 1 → (K51 σ21 x1 x2 x3 x4 x5 y40))) ∧ (¬ r20 = 0 → (wp_X1_with σ21 x1 x6 (fun r22 σ23 => ∀ y24 : Int32, y24 = (48 * r22) + x6 → ((zP σ23 0 0) = some (.inl (zo (zP σ23 0 0))) ∧ ((∃ n29, kK NS σ23 (zo (zP σ23 0 0)) = (8, n29)) ∧ (wp_X2_length σ23 (zo (zP σ23 0 0)) x6 (fun r26 σ27 => vp_in y24 49152 ∧ ((((x5 + r26) < (zI σ27 27 (ix y24)) → ((zP σ27 0 0) = some (.inl (zo (zP σ27 0 0))) ∧ ((∃ n35, kK NS σ27 (zo (zP σ27 0 0)) = (8, n35)) ∧ (wp_X2_length σ27 (zo (zP σ27 0 0)) x6 (fun r32 σ33 => vp_in y24 49152 ∧ (∀ σ37 : ZS, σ37 = sI σ33 27 (ix y24) (x5 + r32) → (∀ y38 : Int32, y38 = x6 + 1 → (K51 σ37 x1 x2 1 x4 x5 y38)))))))) ∧ (¬ (x5 + r26) < (zI σ27 27 (ix y24)) → (∀ y39 : Int32, y39 = x6 + 1 → (K51 σ27 x1 x2 x3 x4 x5 y39)))))))))))))))))))))) ∧ (¬ x6 < r9 → (∀ y13 : Int32, y13 = x4 + 1 → (K11 σ10 x1 x2 x3 y13)))))))
def V_X1_goesRound_51 (K2 : ZS → Int32 → Int32 → Int32 → Prop) (K11 : ZS → Int32 → Int32 → Int32 → Int32 → Prop) (Ret : ZS → Prop) (σ : ZS) (x1 : Int32) (x2 : Int32) (x3 : Int32) (x4 : Int32) (x5 : Int32) (x6 : Int32) : Prop := ∃ k, VL_X1_goesRound_51 K2 K11 Ret k σ x1 x2 x3 x4 x5 x6
def VL_X1_goesRound_11 (K2 : ZS → Int32 → Int32 → Int32 → Prop) (Ret : ZS → Prop) : Nat → ZS → Int32 → Int32 → Int32 → Int32 → Prop
  | 0 => fun _ _ _ _ _ => False
  | k + 1 => fun σ x1 x2 x3 x4 =>
    let K11 := VL_X1_goesRound_11 K2 Ret k
    (zP σ 0 0) = some (.inl (zo (zP σ 0 0))) ∧ ((∃ n5, kK NS σ (zo (zP σ 0 0)) = (8, n5)) ∧ (wp_X2_arcs σ (zo (zP σ 0 0)) (fun r2 σ3 => ((x4 < r2 → (vp_in ((48 * x1) + x4) 49152 ∧ (∀ y7 : Int32, y7 = zI σ3 27 (ix ((48 * x1) + x4)) → (((y7 = 1000000 → (∀ y41 : Int32, y41 = x4 + 1 → (K11 σ3 x1 x2 x3 y41))) ∧ (¬ y7 = 1000000 → (V_X1_goesRound_51 K2 K11 Ret σ3 x1 x2 x3 x4 y7 0))))))) ∧ (¬ x4 < r2 → (K2 σ3 x1 x2 x3))))))
def V_X1_goesRound_11 (K2 : ZS → Int32 → Int32 → Int32 → Prop) (Ret : ZS → Prop) (σ : ZS) (x1 : Int32) (x2 : Int32) (x3 : Int32) (x4 : Int32) : Prop := ∃ k, VL_X1_goesRound_11 K2 Ret k σ x1 x2 x3 x4
def VL_X1_goesRound_2 (Ret : ZS → Prop) : Nat → ZS → Int32 → Int32 → Int32 → Prop
  | 0 => fun _ _ _ _ => False
  | k + 1 => fun σ x1 x2 x3 =>
    let K2 := VL_X1_goesRound_2 Ret k
    ((x3 = 0 → (Ret σ)) ∧ (¬ x3 = 0 → (V_X1_goesRound_11 K2 Ret σ x1 x2 0 0)))
def V_X1_goesRound_2 (Ret : ZS → Prop) (σ : ZS) (x1 : Int32) (x2 : Int32) (x3 : Int32) : Prop := ∃ k, VL_X1_goesRound_2 Ret k σ x1 x2 x3
def wp_X1_goesRound (σ : ZS) (a1 : Int32) (a2 : Int32) (Ret : ZS → Prop) : Prop :=
    V_X1_goesRound_2 Ret σ a1 a2 1
set_option maxHeartbeats 4000000 in
theorem mz_X1_goesRound {l : Launch} {E : ZE} (hE : EOK E) {σ : ZS} {a1 : Int32} {a2 : Int32} {Ret : ZS → Prop} (hV : wp_X1_goesRound σ a1 a2 Ret) : MZ l E NS yX1_goesRound (ws_ yX1_goesRound cX1_goesRound 8 none) 8 σ [.ref (E.1.heap.size + 0), .int a1, .int a2] (rV Ret) := by
  refine MZ.start (L := [some (.ref (E.1.heap.size + 0)), some (.int a1), some (.int a2), none, none, none, none, none]) hE (by decide) (Nat.le_of_ble_eq_true rfl) rfl fun C hCl hQo hC => ?_
  replace hC : Cx C E cX1_goesRound 8 "RightTurns" "goesRound" none [] 8 := hC
  unfold wp_X1_goesRound at hV
  have j_2 : ∀ (σ : ZS) (x1 : Int32) (x2 : Int32) (x3 : Int32), V_X1_goesRound_2 Ret σ x1 x2 x3 → zz C E NS 8 σ 2 [some (.ref (E.1.heap.size + 0)), some (.int x1), some (.int x2), some (.int x3), none, none, none, none] [] := by
    intro σ x1 x2 x3 ⟨k, hV⟩
    revert σ x1 x2 x3
    induction k with
    | zero => exact fun _ _ _ _ hV => hV.elim
    | succ k j_2 =>
      intro σ x1 x2 x3 hV
      simp only [VL_X1_goesRound_2] at hV
      generalize hKe2 : VL_X1_goesRound_2 Ret k = K2 at hV j_2
      clear hKe2
      have j_11 : ∀ (σ : ZS) (x1 : Int32) (x2 : Int32) (x3 : Int32) (x4 : Int32), V_X1_goesRound_11 K2 Ret σ x1 x2 x3 x4 → zz C E NS 8 σ 11 [some (.ref (E.1.heap.size + 0)), some (.int x1), some (.int x2), some (.int x3), some (.int x4), none, none, none] [] := by
        intro σ x1 x2 x3 x4 ⟨k, hV⟩
        revert σ x1 x2 x3 x4
        induction k with
        | zero => exact fun _ _ _ _ _ hV => hV.elim
        | succ k j_11 =>
          intro σ x1 x2 x3 x4 hV
          simp only [VL_X1_goesRound_11] at hV
          generalize hKe11 : VL_X1_goesRound_11 K2 Ret k = K11 at hV j_11
          clear hKe11
          have j_51 : ∀ (σ : ZS) (x1 : Int32) (x2 : Int32) (x3 : Int32) (x4 : Int32) (x5 : Int32) (x6 : Int32), V_X1_goesRound_51 K2 K11 Ret σ x1 x2 x3 x4 x5 x6 → zz C E NS 8 σ 51 [some (.ref (E.1.heap.size + 0)), some (.int x1), some (.int x2), some (.int x3), some (.int x4), some (.int x5), some (.int x6), none] [] := by
            intro σ x1 x2 x3 x4 x5 x6 ⟨k, hV⟩
            revert σ x1 x2 x3 x4 x5 x6
            induction k with
            | zero => exact fun _ _ _ _ _ _ _ hV => hV.elim
            | succ k j_51 =>
              intro σ x1 x2 x3 x4 x5 x6 hV
              simp only [VL_X1_goesRound_51] at hV
              generalize hKe51 : VL_X1_goesRound_51 K2 K11 Ret k = K51 at hV j_51
              clear hKe51
              refine z_iload hC dX1_goesRound_51 rfl ?_
              refine z_aload_n hC dX1_goesRound_53 rfl rfl ?_
              refine g_X1_12_0 hC dX1_goesRound_54 ?_
              obtain ⟨h8, hV⟩ := hV
              refine zz_at rfl (by rw [pvo h8]) ?_
              obtain ⟨⟨n12, h11⟩, hV⟩ := hV
              refine c_X1_271 hC (by decide) dX1_goesRound_57 (Nat.le_of_ble_eq_true rfl) h11 hV (fun r9 σ10 hV => ?_)
              refine z_icmp_ge (tgt := 157) hC dX1_goesRound_60 (by decide) (fun hc => ?_) (fun hc => ?_)
              · replace hV := hV.2 hc
                obtain ⟨y13, e_y13⟩ : ∃ z : Int32, z = x4 + 1 := ⟨_, rfl⟩
                replace hV := hV _ e_y13
                refine z_iinc (v := y13) hC dX1_goesRound_157 rfl (by rw [e_y13]; rfl) (Nat.le_of_ble_eq_true rfl) rfl rfl ?_
                refine z_goto (tgt := 11) hC dX1_goesRound_160 (by decide) ?_
                refine zz_sub (L' := [some (.ref (E.1.heap.size + 0)), some (.int x1), some (.int x2), some (.int x3), some (.int y13), none, none, none]) ⟨rfl, rfl, rfl, rfl, rfl, trivial⟩ ?_
                exact j_11 σ10 x1 x2 x3 y13 hV
              · replace hV := hV.1 hc
                refine z_aload_n hC dX1_goesRound_63 rfl rfl ?_
                refine g_X1_12_0 hC dX1_goesRound_64 ?_
                obtain ⟨h14, hV⟩ := hV
                refine zz_at rfl (by rw [pvo h14]) ?_
                refine z_iload hC dX1_goesRound_67 rfl ?_
                obtain ⟨⟨n18, h17⟩, hV⟩ := hV
                refine c_X1_150 hC (by decide) dX1_goesRound_69 (Nat.le_of_ble_eq_true rfl) h17 hV (fun r15 σ16 hV => ?_)
                refine z_if_eq (tgt := 151) hC dX1_goesRound_72 (by decide) (fun hc => ?_) (fun hc => ?_)
                · replace hV := hV.1 hc
                  obtain ⟨y19, e_y19⟩ : ∃ z : Int32, z = x6 + 1 := ⟨_, rfl⟩
                  replace hV := hV _ e_y19
                  refine z_iinc (v := y19) hC dX1_goesRound_151 rfl (by rw [e_y19]; rfl) (Nat.le_of_ble_eq_true rfl) rfl rfl ?_
                  refine z_goto (tgt := 51) hC dX1_goesRound_154 (by decide) ?_
                  refine zz_sub (L' := [some (.ref (E.1.heap.size + 0)), some (.int x1), some (.int x2), some (.int x3), some (.int x4), some (.int x5), some (.int y19), none]) ⟨rfl, rfl, rfl, rfl, rfl, rfl, rfl, trivial⟩ ?_
                  exact j_51 σ16 x1 x2 x3 x4 x5 y19 hV
                · replace hV := hV.2 hc
                  refine z_aload_n hC dX1_goesRound_75 rfl rfl ?_
                  refine z_iload hC dX1_goesRound_76 rfl ?_
                  refine z_iload hC dX1_goesRound_78 rfl ?_
                  refine z_iload_n hC dX1_goesRound_80 rfl rfl ?_
                  refine c_X1_257 hC (by decide) dX1_goesRound_81 (Nat.le_of_ble_eq_true rfl) hV (fun r20 σ21 hV => ?_)
                  refine z_if_ne (tgt := 90) hC dX1_goesRound_84 (by decide) (fun hc => ?_) (fun hc => ?_)
                  · replace hV := hV.2 hc
                    refine z_bipush (v := 48) hC dX1_goesRound_90 rfl ?_
                    refine z_aload_n hC dX1_goesRound_92 rfl rfl ?_
                    refine z_iload_n hC dX1_goesRound_93 rfl rfl ?_
                    refine z_iload hC dX1_goesRound_94 rfl ?_
                    refine c_X1_357 hC (by decide) dX1_goesRound_96 (Nat.le_of_ble_eq_true rfl) hV (fun r22 σ23 hV => ?_)
                    refine z_imul hC dX1_goesRound_99 ?_
                    refine z_iload hC dX1_goesRound_100 rfl ?_
                    refine z_iadd hC dX1_goesRound_102 ?_
                    obtain ⟨y24, e_y24⟩ : ∃ z, z = (48 * r22) + x6 := ⟨_, rfl⟩
                    rw [← e_y24]
                    replace hV := hV _ e_y24
                    refine z_istore hC dX1_goesRound_103 (Nat.le_of_ble_eq_true rfl) rfl rfl ?_
                    refine z_iload hC dX1_goesRound_105 rfl ?_
                    refine z_aload_n hC dX1_goesRound_107 rfl rfl ?_
                    refine g_X1_12_0 hC dX1_goesRound_108 ?_
                    obtain ⟨h25, hV⟩ := hV
                    refine zz_at rfl (by rw [pvo h25]) ?_
                    refine z_iload hC dX1_goesRound_111 rfl ?_
                    obtain ⟨⟨n29, h28⟩, hV⟩ := hV
                    refine c_X1_278 hC (by decide) dX1_goesRound_113 (Nat.le_of_ble_eq_true rfl) h28 hV (fun r26 σ27 hV => ?_)
                    refine z_iadd hC dX1_goesRound_116 ?_
                    refine z_aload_n hC dX1_goesRound_117 rfl rfl ?_
                    refine g_X1_66_0 hC dX1_goesRound_118 ?_
                    refine z_iload hC dX1_goesRound_121 rfl ?_
                    obtain ⟨h30, hV⟩ := hV
                    refine z_iald hC dX1_goesRound_123 (k_27 _) (h30) ?_
                    refine z_icmp_lt (tgt := 130) hC dX1_goesRound_124 (by decide) (fun hc => ?_) (fun hc => ?_)
                    · replace hV := hV.1 hc
                      refine z_aload_n hC dX1_goesRound_130 rfl rfl ?_
                      refine g_X1_66_0 hC dX1_goesRound_131 ?_
                      refine z_iload hC dX1_goesRound_134 rfl ?_
                      refine z_iload hC dX1_goesRound_136 rfl ?_
                      refine z_aload_n hC dX1_goesRound_138 rfl rfl ?_
                      refine g_X1_12_0 hC dX1_goesRound_139 ?_
                      obtain ⟨h31, hV⟩ := hV
                      refine zz_at rfl (by rw [pvo h31]) ?_
                      refine z_iload hC dX1_goesRound_142 rfl ?_
                      obtain ⟨⟨n35, h34⟩, hV⟩ := hV
                      refine c_X1_278 hC (by decide) dX1_goesRound_144 (Nat.le_of_ble_eq_true rfl) h34 hV (fun r32 σ33 hV => ?_)
                      refine z_iadd hC dX1_goesRound_147 ?_
                      obtain ⟨h36, hV⟩ := hV
                      refine z_iast hC dX1_goesRound_148 (k_27 _) (h36) ?_
                      obtain ⟨σ37, e_σ37⟩ : ∃ z : ZS, z = sI σ33 27 (ix y24) (x5 + r32) := ⟨_, rfl⟩
                      replace hV := hV _ e_σ37
                      rw [← e_σ37]
                      refine z_iconst (v := 1) hC dX1_goesRound_149 rfl ?_
                      refine z_istore_n hC dX1_goesRound_150 rfl (Nat.le_of_ble_eq_true rfl) rfl rfl ?_
                      obtain ⟨y38, e_y38⟩ : ∃ z : Int32, z = x6 + 1 := ⟨_, rfl⟩
                      replace hV := hV _ e_y38
                      refine z_iinc (v := y38) hC dX1_goesRound_151 rfl (by rw [e_y38]; rfl) (Nat.le_of_ble_eq_true rfl) rfl rfl ?_
                      refine z_goto (tgt := 51) hC dX1_goesRound_154 (by decide) ?_
                      refine zz_sub (L' := [some (.ref (E.1.heap.size + 0)), some (.int x1), some (.int x2), some (.int 1), some (.int x4), some (.int x5), some (.int y38), none]) ⟨rfl, rfl, rfl, rfl, rfl, rfl, rfl, trivial⟩ ?_
                      exact j_51 σ37 x1 x2 1 x4 x5 y38 hV
                    · replace hV := hV.2 hc
                      refine z_goto (tgt := 151) hC dX1_goesRound_127 (by decide) ?_
                      obtain ⟨y39, e_y39⟩ : ∃ z : Int32, z = x6 + 1 := ⟨_, rfl⟩
                      replace hV := hV _ e_y39
                      refine z_iinc (v := y39) hC dX1_goesRound_151 rfl (by rw [e_y39]; rfl) (Nat.le_of_ble_eq_true rfl) rfl rfl ?_
                      refine z_goto (tgt := 51) hC dX1_goesRound_154 (by decide) ?_
                      refine zz_sub (L' := [some (.ref (E.1.heap.size + 0)), some (.int x1), some (.int x2), some (.int x3), some (.int x4), some (.int x5), some (.int y39), none]) ⟨rfl, rfl, rfl, rfl, rfl, rfl, rfl, trivial⟩ ?_
                      exact j_51 σ27 x1 x2 x3 x4 x5 y39 hV
                  · replace hV := hV.1 hc
                    refine z_goto (tgt := 151) hC dX1_goesRound_87 (by decide) ?_
                    obtain ⟨y40, e_y40⟩ : ∃ z : Int32, z = x6 + 1 := ⟨_, rfl⟩
                    replace hV := hV _ e_y40
                    refine z_iinc (v := y40) hC dX1_goesRound_151 rfl (by rw [e_y40]; rfl) (Nat.le_of_ble_eq_true rfl) rfl rfl ?_
                    refine z_goto (tgt := 51) hC dX1_goesRound_154 (by decide) ?_
                    refine zz_sub (L' := [some (.ref (E.1.heap.size + 0)), some (.int x1), some (.int x2), some (.int x3), some (.int x4), some (.int x5), some (.int y40), none]) ⟨rfl, rfl, rfl, rfl, rfl, rfl, rfl, trivial⟩ ?_
                    exact j_51 σ21 x1 x2 x3 x4 x5 y40 hV
          refine z_iload hC dX1_goesRound_11 rfl ?_
          refine z_aload_n hC dX1_goesRound_13 rfl rfl ?_
          refine g_X1_12_0 hC dX1_goesRound_14 ?_
          obtain ⟨h1, hV⟩ := hV
          refine zz_at rfl (by rw [pvo h1]) ?_
          obtain ⟨⟨n5, h4⟩, hV⟩ := hV
          refine c_X1_271 hC (by decide) dX1_goesRound_17 (Nat.le_of_ble_eq_true rfl) h4 hV (fun r2 σ3 hV => ?_)
          refine z_icmp_ge (tgt := 163) hC dX1_goesRound_20 (by decide) (fun hc => ?_) (fun hc => ?_)
          · replace hV := hV.2 hc
            refine z_goto (tgt := 2) hC dX1_goesRound_163 (by decide) ?_
            refine zz_sub (L' := [some (.ref (E.1.heap.size + 0)), some (.int x1), some (.int x2), some (.int x3), none, none, none, none]) ⟨rfl, rfl, rfl, rfl, trivial⟩ ?_
            exact j_2 σ3 x1 x2 x3 hV
          · replace hV := hV.1 hc
            refine z_aload_n hC dX1_goesRound_23 rfl rfl ?_
            refine g_X1_66_0 hC dX1_goesRound_24 ?_
            refine z_bipush (v := 48) hC dX1_goesRound_27 rfl ?_
            refine z_iload_n hC dX1_goesRound_29 rfl rfl ?_
            refine z_imul hC dX1_goesRound_30 ?_
            refine z_iload hC dX1_goesRound_31 rfl ?_
            refine z_iadd hC dX1_goesRound_33 ?_
            obtain ⟨h6, hV⟩ := hV
            refine z_iald hC dX1_goesRound_34 (k_27 _) (h6) ?_
            obtain ⟨y7, e_y7⟩ : ∃ z, z = zI σ3 27 (ix ((48 * x1) + x4)) := ⟨_, rfl⟩
            rw [← e_y7]
            replace hV := hV _ e_y7
            refine z_istore hC dX1_goesRound_35 (Nat.le_of_ble_eq_true rfl) rfl rfl ?_
            refine z_iload hC dX1_goesRound_37 rfl ?_
            refine z_ldcw hC dX1_goesRound_39 q1301 ?_
            refine z_icmp_ne (tgt := 48) hC dX1_goesRound_42 (by decide) (fun hc => ?_) (fun hc => ?_)
            · replace hV := hV.2 hc
              refine z_iconst (v := 0) hC dX1_goesRound_48 rfl ?_
              refine z_istore hC dX1_goesRound_49 (Nat.le_of_ble_eq_true rfl) rfl rfl ?_
              refine zz_sub (L' := [some (.ref (E.1.heap.size + 0)), some (.int x1), some (.int x2), some (.int x3), some (.int x4), some (.int y7), some (.int 0), none]) ⟨rfl, rfl, rfl, rfl, rfl, rfl, rfl, trivial⟩ ?_
              exact j_51 σ3 x1 x2 x3 x4 y7 0 hV
            · replace hV := hV.1 hc
              refine z_goto (tgt := 157) hC dX1_goesRound_45 (by decide) ?_
              obtain ⟨y41, e_y41⟩ : ∃ z : Int32, z = x4 + 1 := ⟨_, rfl⟩
              replace hV := hV _ e_y41
              refine z_iinc (v := y41) hC dX1_goesRound_157 rfl (by rw [e_y41]; rfl) (Nat.le_of_ble_eq_true rfl) rfl rfl ?_
              refine z_goto (tgt := 11) hC dX1_goesRound_160 (by decide) ?_
              refine zz_sub (L' := [some (.ref (E.1.heap.size + 0)), some (.int x1), some (.int x2), some (.int x3), some (.int y41), none, none, none]) ⟨rfl, rfl, rfl, rfl, rfl, trivial⟩ ?_
              exact j_11 σ3 x1 x2 x3 y41 hV
      refine z_iload_n hC dX1_goesRound_2 rfl rfl ?_
      refine z_if_eq (tgt := 166) hC dX1_goesRound_3 (by decide) (fun hc => ?_) (fun hc => ?_)
      · replace hV := hV.1 hc
        exact z_vret hC dX1_goesRound_166 (by rw [hQo]; exact ⟨rfl, hV⟩)
      · replace hV := hV.2 hc
        refine z_iconst (v := 0) hC dX1_goesRound_6 rfl ?_
        refine z_istore_n hC dX1_goesRound_7 rfl (Nat.le_of_ble_eq_true rfl) rfl rfl ?_
        refine z_iconst (v := 0) hC dX1_goesRound_8 rfl ?_
        refine z_istore hC dX1_goesRound_9 (Nat.le_of_ble_eq_true rfl) rfl rfl ?_
        refine zz_sub (L' := [some (.ref (E.1.heap.size + 0)), some (.int x1), some (.int x2), some (.int 0), some (.int 0), none, none, none]) ⟨rfl, rfl, rfl, rfl, rfl, trivial⟩ ?_
        exact j_11 σ x1 x2 0 0 hV
  refine z_iconst (v := 1) hC dX1_goesRound_0 rfl ?_
  refine z_istore_n hC dX1_goesRound_1 rfl (Nat.le_of_ble_eq_true rfl) rfl rfl ?_
  refine zz_sub (L' := [some (.ref (E.1.heap.size + 0)), some (.int a1), some (.int a2), some (.int 1), none, none, none, none]) ⟨rfl, rfl, rfl, rfl, trivial⟩ ?_
  exact j_2 σ a1 a2 1 hV
def VL_X1_homeOf_5 (Ret : Int32 → ZS → Prop) : Nat → ZS → Int32 → Int32 → Int32 → Int32 → Prop
  | 0 => fun _ _ _ _ _ => False
  | k + 1 => fun σ x1 x2 x3 x4 =>
    let K5 := VL_X1_homeOf_5 Ret k
    wp_X1_corners σ (fun r1 σ2 => ((x4 < r1 → (wp_X1_reached σ2 x4 x2 (fun r3 σ4 => ((((r3 >>> (x1 &&& 31)) &&& 1) = 1 → (∀ y6 : Int32, y6 = x3 ||| ((1 : Int32) <<< (x4 &&& 31)) → (∀ y7 : Int32, y7 = x4 + 1 → (K5 σ4 x1 x2 y6 y7)))) ∧ (¬ ((r3 >>> (x1 &&& 31)) &&& 1) = 1 → (∀ y5 : Int32, y5 = x4 + 1 → (K5 σ4 x1 x2 x3 y5))))))) ∧ (¬ x4 < r1 → (Ret x3 σ2))))
def V_X1_homeOf_5 (Ret : Int32 → ZS → Prop) (σ : ZS) (x1 : Int32) (x2 : Int32) (x3 : Int32) (x4 : Int32) : Prop := ∃ k, VL_X1_homeOf_5 Ret k σ x1 x2 x3 x4
def wp_X1_homeOf (σ : ZS) (a1 : Int32) (a2 : Int32) (Ret : Int32 → ZS → Prop) : Prop :=
    V_X1_homeOf_5 Ret σ a1 a2 0 0
set_option maxHeartbeats 4000000 in
theorem mz_X1_homeOf {l : Launch} {E : ZE} (hE : EOK E) {σ : ZS} {a1 : Int32} {a2 : Int32} {Ret : Int32 → ZS → Prop} (hV : wp_X1_homeOf σ a1 a2 Ret) : MZ l E NS yX1_homeOf (ws_ yX1_homeOf cX1_homeOf 5 (some .int)) 10 σ [.ref (E.1.heap.size + 0), .int a1, .int a2] (rI Ret) := by
  refine MZ.start (L := [some (.ref (E.1.heap.size + 0)), some (.int a1), some (.int a2), none, none]) hE (by decide) (Nat.le_of_ble_eq_true rfl) rfl fun C hCl hQo hC => ?_
  replace hC : Cx C E cX1_homeOf 5 "RightTurns" "homeOf" (some .int) [] 10 := hC
  unfold wp_X1_homeOf at hV
  have j_5 : ∀ (σ : ZS) (x1 : Int32) (x2 : Int32) (x3 : Int32) (x4 : Int32), V_X1_homeOf_5 Ret σ x1 x2 x3 x4 → zz C E NS 5 σ 5 [some (.ref (E.1.heap.size + 0)), some (.int x1), some (.int x2), some (.int x3), some (.int x4)] [] := by
    intro σ x1 x2 x3 x4 ⟨k, hV⟩
    revert σ x1 x2 x3 x4
    induction k with
    | zero => exact fun _ _ _ _ _ hV => hV.elim
    | succ k j_5 =>
      intro σ x1 x2 x3 x4 hV
      simp only [VL_X1_homeOf_5] at hV
      generalize hKe5 : VL_X1_homeOf_5 Ret k = K5 at hV j_5
      clear hKe5
      refine z_iload hC dX1_homeOf_5 rfl ?_
      refine z_aload_n hC dX1_homeOf_7 rfl rfl ?_
      refine c_X1_133 hC (by decide) dX1_homeOf_8 (Nat.le_of_ble_eq_true rfl) hV (fun r1 σ2 hV => ?_)
      refine z_icmp_ge (tgt := 42) hC dX1_homeOf_11 (by decide) (fun hc => ?_) (fun hc => ?_)
      · replace hV := hV.2 hc
        refine z_iload_n hC dX1_homeOf_42 rfl rfl ?_
        exact z_iret hC dX1_homeOf_43 rfl (by rw [hQo]; exact ⟨_, rfl, hV⟩)
      · replace hV := hV.1 hc
        refine z_aload_n hC dX1_homeOf_14 rfl rfl ?_
        refine z_iload hC dX1_homeOf_15 rfl ?_
        refine z_iload_n hC dX1_homeOf_17 rfl rfl ?_
        refine c_X1_310 hC (by decide) dX1_homeOf_18 (Nat.le_of_ble_eq_true rfl) hV (fun r3 σ4 hV => ?_)
        refine z_iload_n hC dX1_homeOf_21 rfl rfl ?_
        refine z_ishr hC dX1_homeOf_22 ?_
        refine z_iconst (v := 1) hC dX1_homeOf_23 rfl ?_
        refine z_iand hC dX1_homeOf_24 ?_
        refine z_iconst (v := 1) hC dX1_homeOf_25 rfl ?_
        refine z_icmp_ne (tgt := 36) hC dX1_homeOf_26 (by decide) (fun hc => ?_) (fun hc => ?_)
        · replace hV := hV.2 hc
          obtain ⟨y5, e_y5⟩ : ∃ z : Int32, z = x4 + 1 := ⟨_, rfl⟩
          replace hV := hV _ e_y5
          refine z_iinc (v := y5) hC dX1_homeOf_36 rfl (by rw [e_y5]; rfl) (Nat.le_of_ble_eq_true rfl) rfl rfl ?_
          refine z_goto (tgt := 5) hC dX1_homeOf_39 (by decide) ?_
          refine zz_sub (L' := [some (.ref (E.1.heap.size + 0)), some (.int x1), some (.int x2), some (.int x3), some (.int y5)]) ⟨rfl, rfl, rfl, rfl, rfl, trivial⟩ ?_
          exact j_5 σ4 x1 x2 x3 y5 hV
        · replace hV := hV.1 hc
          refine z_iload_n hC dX1_homeOf_29 rfl rfl ?_
          refine z_iconst (v := 1) hC dX1_homeOf_30 rfl ?_
          refine z_iload hC dX1_homeOf_31 rfl ?_
          refine z_ishl hC dX1_homeOf_33 ?_
          refine z_ior hC dX1_homeOf_34 ?_
          obtain ⟨y6, e_y6⟩ : ∃ z, z = x3 ||| ((1 : Int32) <<< (x4 &&& 31)) := ⟨_, rfl⟩
          rw [← e_y6]
          replace hV := hV _ e_y6
          refine z_istore_n hC dX1_homeOf_35 rfl (Nat.le_of_ble_eq_true rfl) rfl rfl ?_
          obtain ⟨y7, e_y7⟩ : ∃ z : Int32, z = x4 + 1 := ⟨_, rfl⟩
          replace hV := hV _ e_y7
          refine z_iinc (v := y7) hC dX1_homeOf_36 rfl (by rw [e_y7]; rfl) (Nat.le_of_ble_eq_true rfl) rfl rfl ?_
          refine z_goto (tgt := 5) hC dX1_homeOf_39 (by decide) ?_
          refine zz_sub (L' := [some (.ref (E.1.heap.size + 0)), some (.int x1), some (.int x2), some (.int y6), some (.int y7)]) ⟨rfl, rfl, rfl, rfl, rfl, trivial⟩ ?_
          exact j_5 σ4 x1 x2 y6 y7 hV
  refine z_iconst (v := 0) hC dX1_homeOf_0 rfl ?_
  refine z_istore_n hC dX1_homeOf_1 rfl (Nat.le_of_ble_eq_true rfl) rfl rfl ?_
  refine z_iconst (v := 0) hC dX1_homeOf_2 rfl ?_
  refine z_istore hC dX1_homeOf_3 (Nat.le_of_ble_eq_true rfl) rfl rfl ?_
  refine zz_sub (L' := [some (.ref (E.1.heap.size + 0)), some (.int a1), some (.int a2), some (.int 0), some (.int 0)]) ⟨rfl, rfl, rfl, rfl, rfl, trivial⟩ ?_
  exact j_5 σ a1 a2 0 0 hV
theorem dv_2 : ∀ k, k < 5 → defaultValue (tyX3 k) = (match fty 2 k with | 0 => Value.int 0 | 1 => .long 0 | _ => .null) := by decide +kernel
theorem g_X1_31_0 {C : ZC} {E : ZE} {cc : ByteArray} {nL pc d : Nat} {nm : String} {ret : Option FieldType} {hh : List (Nat × Nat × Nat × Nat)} {σ : ZS} {L : List (Option Value)} {st : List Value} (hC : Cx C E cc nL "RightTurns" nm ret hh d) (hd : decode cc pc = .ok (.getfield 31, 3)) (k : zz C E NS nL σ (pc + 3) L (.ref (E.1.heap.size + 17) :: st)) : zz C E NS nL σ pc L (.ref (E.1.heap.size + 0) :: st) :=
  z_get hC cf0 hd (k_0 σ) (k := 6) (by decide) (Or.inl q587) (Or.inl rfl) rfl k
theorem p_X1_194_c0 {C : ZC} {E : ZE} {cc : ByteArray} {n nL pc d a x : Nat} {nm : String} {ret : Option FieldType} {hh : List (Nat × Nat × Nat × Nat)} {σ : ZS} {L : List (Option Value)} {st : List Value} {v : Int32} (hC : Cx C E cc nL "RightTurns" nm ret hh d) (hd : decode cc pc = .ok (.putfield 194, 3)) (hk : kK n σ a = (0 + 7, x)) (k : zz C E n nL (sI σ a 4 v) (pc + 3) L st) : zz C E n nL σ pc L (.int v :: .ref (E.1.heap.size + a) :: st) :=
  z_putI hC cf0 hd hk (k := 4) (by decide) (Or.inl q585) (Or.inl rfl) (Or.inl rfl) rfl rfl rfl k
theorem cw_X3_init : CodeW yX3_init (ws_ yX3_init cX3_init 1 none) 1 := ⟨fun w h => (List.mem_cons.mp h).elim (fun e => e ▸ q556) id, Or.inl ⟨_, _, q556⟩, q137, by decide, by decide⟩
theorem c_X1_18 {C : ZC} {E : ZE} {cc : ByteArray} {n nL pc d : Nat} {nm : String} {ret : Option FieldType} {hh : List (Nat × Nat × Nat × Nat)} {σ : ZS} {L : List (Option Value)} {st : List Value} {a0 : Nat} {Ret : ZS → Prop} (hC : Cx C E cc nL "RightTurns" nm ret hh d) (hdd : 1 + 1 ≤ d) (hd : decode cc pc = .ok (.invokespecial 18, 3)) (hW : (st.map fun v => v.category).sum ≤ 8) (hV : wp_X3_init n σ a0 Ret) (k : ∀ σ', Ret σ' → zz C E n nL σ' (pc + 3) L st) : zz C E n nL σ pc L (.ref (E.1.heap.size + a0) :: st) :=
  z_callING hC cw_X3_init q556 hdd (by decide) (mz_X3_init (cxE hC) hV) hd rfl q554 q555 (np := 0) rfl rfl hW rfl (kV k)
theorem cw_X3_become : CodeW yX3_become (ws_ yX3_become cX3_become 2 none) 2 := ⟨fun w h => (List.mem_cons.mp h).elim (fun e => e ▸ q731) id, Or.inl ⟨_, _, q731⟩, q137, by decide, by decide⟩
theorem c_X1_421 {C : ZC} {E : ZE} {cc : ByteArray} {nL pc d : Nat} {nm : String} {ret : Option FieldType} {hh : List (Nat × Nat × Nat × Nat)} {σ : ZS} {L : List (Option Value)} {st : List Value} {a0 : Nat} {a1 : Nat} {Ret : ZS → Prop} (hC : Cx C E cc nL "RightTurns" nm ret hh d) (hdd : 2 + 1 ≤ d) (hd : decode cc pc = .ok (.invokevirtual 421, 3)) (hW : (st.map fun v => v.category).sum ≤ 8) {x : Nat} (hk : kK NS σ a0 = (2 + 7, x)) (hV : wp_X3_become σ a0 a1 Ret) (k : ∀ σ', Ret σ' → zz C E NS nL σ' (pc + 3) L st) : zz C E NS nL σ pc L (.ref (E.1.heap.size + a1) :: .ref (E.1.heap.size + a0) :: st) :=
  z_callVG hC cf2 cw_X3_become hdd (by decide) (mz_X3_become (cxE hC) hV) hd hk q728 q729 q730 (np := 1) rfl rfl hW rfl (kV k)
def V_X1_image_38 (Ret : Int32 → ZS → Prop) (σ : ZS) : Prop :=
    vp_in (zI σ 0 4) 3 ∧ ((kP NS σ 17 (ix (zI σ 0 4))) = some (.inl (zo (kP NS σ 17 (ix (zI σ 0 4))))) ∧ ((∃ n7, kK NS σ (zo (kP NS σ 17 (ix (zI σ 0 4)))) = (9, n7)) ∧ (wp_X3_become σ (zo (kP NS σ 17 (ix (zI σ 0 4)))) 12 (fun σ5 => ∀ σ8 : ZS, σ8 = sI σ5 0 4 ((zI σ5 0 4) + 1) → (Ret (zI σ8 0 4) σ8)))))
def wp_X1_image (σ : ZS) (Ret : Int32 → ZS → Prop) : Prop :=
    (((zI σ 0 4) = 3 → (Ret (-1) σ)) ∧ (¬ (zI σ 0 4) = 3 → (vp_in (zI σ 0 4) 3 ∧ ((((kP NS σ 17 (ix (zI σ 0 4))) = none → ((NS ≤ zt σ ∧ zt σ + 1 ≤ NB ∧ zn σ + 5 ≤ SB) ∧ (∀ σ10 : ZS, σ10 = sA σ (9, 0) 5 → (wp_X3_init NS σ10 (zt σ) (fun σ12 => vp_in (zI σ 0 4) 3 ∧ ((∃ n15, kK NS σ12 (zt σ) = (9, n15)) ∧ (∀ σ16 : ZS, σ16 = sP σ12 17 (ix (zI σ 0 4)) (some (.inl (zt σ))) → (V_X1_image_38 Ret σ16)))))))) ∧ (¬ (kP NS σ 17 (ix (zI σ 0 4))) = none → (V_X1_image_38 Ret σ)))))))
set_option maxHeartbeats 4000000 in
theorem mz_X1_image {l : Launch} {E : ZE} (hE : EOK E) {σ : ZS} {Ret : Int32 → ZS → Prop} (hV : wp_X1_image σ Ret) : MZ l E NS yX1_image (ws_ yX1_image cX1_image 1 (some .int)) 3 σ [.ref (E.1.heap.size + 0)] (rI Ret) := by
  refine MZ.start (L := [some (.ref (E.1.heap.size + 0))]) hE (by decide) (Nat.le_of_ble_eq_true rfl) rfl fun C hCl hQo hC => ?_
  replace hC : Cx C E cX1_image 1 "RightTurns" "image" (some .int) [] 3 := hC
  unfold wp_X1_image at hV
  have j_38 : ∀ (σ : ZS), V_X1_image_38 Ret σ → zz C E NS 1 σ 38 [some (.ref (E.1.heap.size + 0))] [] := by
    intro σ hV
    unfold V_X1_image_38 at hV
    refine z_aload_n hC dX1_image_38 rfl rfl ?_
    refine g_X1_31_0 hC dX1_image_39 ?_
    refine z_aload_n hC dX1_image_42 rfl rfl ?_
    refine g_X1_194_0 hC dX1_image_43 ?_
    obtain ⟨h2, hV⟩ := hV
    refine z_aald5 hC dX1_image_46 (k_17 _) (h2) rfl ?_
    obtain ⟨h3, hV⟩ := hV
    refine zz_at rfl (by rw [pvo h3]) ?_
    refine z_aload_n hC dX1_image_47 rfl rfl ?_
    refine g_X1_19_0 hC dX1_image_48 ?_
    obtain ⟨⟨n7, h6⟩, hV⟩ := hV
    refine c_X1_421 hC (by decide) dX1_image_51 (Nat.le_of_ble_eq_true rfl) h6 hV (fun σ5 hV => ?_)
    refine z_aload_n hC dX1_image_54 rfl rfl ?_
    refine z_dup hC dX1_image_55 rfl ?_
    refine g_X1_194_0 hC dX1_image_56 ?_
    refine z_iconst (v := 1) hC dX1_image_59 rfl ?_
    refine z_iadd hC dX1_image_60 ?_
    refine p_X1_194_c0 hC dX1_image_61 (k_0 _) ?_
    obtain ⟨σ8, e_σ8⟩ : ∃ z : ZS, z = sI σ5 0 4 ((zI σ5 0 4) + 1) := ⟨_, rfl⟩
    replace hV := hV _ e_σ8
    rw [← e_σ8]
    refine z_aload_n hC dX1_image_64 rfl rfl ?_
    refine g_X1_194_0 hC dX1_image_65 ?_
    exact z_iret hC dX1_image_68 rfl (by rw [hQo]; exact ⟨_, rfl, hV⟩)
  refine z_aload_n hC dX1_image_0 rfl rfl ?_
  refine g_X1_194_0 hC dX1_image_1 ?_
  refine z_iconst (v := 3) hC dX1_image_4 rfl ?_
  refine z_icmp_ne (tgt := 10) hC dX1_image_5 (by decide) (fun hc => ?_) (fun hc => ?_)
  · replace hV := hV.2 hc
    refine z_aload_n hC dX1_image_10 rfl rfl ?_
    refine g_X1_31_0 hC dX1_image_11 ?_
    refine z_aload_n hC dX1_image_14 rfl rfl ?_
    refine g_X1_194_0 hC dX1_image_15 ?_
    obtain ⟨h1, hV⟩ := hV
    refine z_aald5 hC dX1_image_18 (k_17 _) (h1) rfl ?_
    refine z_ifnonnull (tgt := 38) hC dX1_image_19 (by decide) (fun hc => ?_) (fun hc => ?_)
    · replace hV := hV.2 hc
      refine zz_sub (L' := [some (.ref (E.1.heap.size + 0))]) ⟨rfl, trivial⟩ ?_
      exact j_38 σ hV
    · replace hV := hV.1 hc
      refine z_aload_n hC dX1_image_22 rfl rfl ?_
      refine g_X1_31_0 hC dX1_image_23 ?_
      refine z_aload_n hC dX1_image_26 rfl rfl ?_
      refine g_X1_194_0 hC dX1_image_27 ?_
      obtain ⟨h9, hV⟩ := hV
      refine z_new hC cf2 dX1_image_30 q552 q553 q137 dv_2 h9.1 h9.2.1 h9.2.2 ?_
      obtain ⟨σ10, e_σ10⟩ : ∃ z : ZS, z = sA σ (9, 0) 5 := ⟨_, rfl⟩
      replace hV := hV _ e_σ10
      rw [← e_σ10]
      refine z_dup hC dX1_image_33 rfl ?_
      refine c_X1_18 hC (by decide) dX1_image_34 (Nat.le_of_ble_eq_true rfl) hV (fun σ12 hV => ?_)
      obtain ⟨h13, hV⟩ := hV
      obtain ⟨⟨n15, h14⟩, hV⟩ := hV
      refine z_aastO hC dX1_image_37 (k_17 _) cf2 rfl h14 (h13) (fun _ => rfl) ?_
      obtain ⟨σ16, e_σ16⟩ : ∃ z : ZS, z = sP σ12 17 (ix (zI σ 0 4)) (some (.inl (zt σ))) := ⟨_, rfl⟩
      replace hV := hV _ e_σ16
      rw [← e_σ16]
      refine zz_sub (L' := [some (.ref (E.1.heap.size + 0))]) ⟨rfl, trivial⟩ ?_
      exact j_38 σ16 hV
  · replace hV := hV.1 hc
    refine z_iconst (v := (-1)) hC dX1_image_8 rfl ?_
    exact z_iret hC dX1_image_9 rfl (by rw [hQo]; exact ⟨_, rfl, hV⟩)
def wp_X1_left (σ : ZS) (a1 : Int32) (Ret : Int32 → ZS → Prop) : Prop :=
    ((a1 < 0 → (Ret (-1) σ)) ∧ (¬ a1 < 0 → ((zP σ 0 0) = some (.inl (zo (zP σ 0 0))) ∧ ((∃ n3, kK NS σ (zo (zP σ 0 0)) = (8, n3)) ∧ (((a1 < (zI σ (zo (zP σ 0 0)) 8) → ((zP σ 0 0) = some (.inl (zo (zP σ 0 0))) ∧ ((∃ n6, kK NS σ (zo (zP σ 0 0)) = (8, n6)) ∧ ((kP NS σ (zo (zP σ 0 0)) 5) = some (.inl (zo (kP NS σ (zo (zP σ 0 0)) 5))) ∧ (∃ n9, kK NS σ (zo (kP NS σ (zo (zP σ 0 0)) 5)) = (0, n9) ∧ (vp_in a1 n9 ∧ ((zP σ 0 0) = some (.inl (zo (zP σ 0 0))) ∧ ((∃ n13, kK NS σ (zo (zP σ 0 0)) = (8, n13)) ∧ ((kP NS σ (zo (zP σ 0 0)) 6) = some (.inl (zo (kP NS σ (zo (zP σ 0 0)) 6))) ∧ (∃ n16, kK NS σ (zo (kP NS σ (zo (zP σ 0 0)) 6)) = (0, n16) ∧ (vp_in a1 n16 ∧ (Ret ((100 * (zI σ (zo (kP NS σ (zo (zP σ 0 0)) 5)) (ix a1))) + (zI σ (zo (kP NS σ (zo (zP σ 0 0)) 6)) (ix a1))) σ)))))))))))) ∧ (¬ a1 < (zI σ (zo (zP σ 0 0)) 8) → (Ret (-1) σ))))))))
set_option maxHeartbeats 4000000 in
theorem mz_X1_left {l : Launch} {E : ZE} (hE : EOK E) {σ : ZS} {a1 : Int32} {Ret : Int32 → ZS → Prop} (hV : wp_X1_left σ a1 Ret) : MZ l E NS yX1_left (ws_ yX1_left cX1_left 2 (some .int)) 1 σ [.ref (E.1.heap.size + 0), .int a1] (rI Ret) := by
  refine MZ.start (L := [some (.ref (E.1.heap.size + 0)), some (.int a1)]) hE (by decide) (Nat.le_of_ble_eq_true rfl) rfl fun C hCl hQo hC => ?_
  replace hC : Cx C E cX1_left 2 "RightTurns" "left" (some .int) [] 1 := hC
  unfold wp_X1_left at hV
  refine z_iload_n hC dX1_left_0 rfl rfl ?_
  refine z_if_lt (tgt := 15) hC dX1_left_1 (by decide) (fun hc => ?_) (fun hc => ?_)
  · replace hV := hV.1 hc
    refine z_iconst (v := (-1)) hC dX1_left_15 rfl ?_
    refine z_goto (tgt := 41) hC dX1_left_16 (by decide) ?_
    exact z_iret hC dX1_left_41 rfl (by rw [hQo]; exact ⟨_, rfl, hV⟩)
  · replace hV := hV.2 hc
    refine z_iload_n hC dX1_left_4 rfl rfl ?_
    refine z_aload_n hC dX1_left_5 rfl rfl ?_
    refine g_X1_12_0 hC dX1_left_6 ?_
    obtain ⟨h1, hV⟩ := hV
    refine zz_at rfl (by rw [pvo h1]) ?_
    obtain ⟨⟨n3, h2⟩, hV⟩ := hV
    refine g_X1_217_c1 hC dX1_left_9 h2 ?_
    refine z_icmp_lt (tgt := 19) hC dX1_left_12 (by decide) (fun hc => ?_) (fun hc => ?_)
    · replace hV := hV.1 hc
      refine z_bipush (v := 100) hC dX1_left_19 rfl ?_
      refine z_aload_n hC dX1_left_21 rfl rfl ?_
      refine g_X1_12_0 hC dX1_left_22 ?_
      obtain ⟨h4, hV⟩ := hV
      refine zz_at rfl (by rw [pvo h4]) ?_
      obtain ⟨⟨n6, h5⟩, hV⟩ := hV
      refine g_X1_332_c1 hC dX1_left_25 h5 ?_
      obtain ⟨h7, hV⟩ := hV
      refine zz_at rfl (by rw [pvo h7]) ?_
      refine z_iload_n hC dX1_left_28 rfl rfl ?_
      obtain ⟨n9, h8, hV⟩ := hV
      obtain ⟨h10, hV⟩ := hV
      refine z_iald hC dX1_left_29 h8 (h10) ?_
      refine z_imul hC dX1_left_30 ?_
      refine z_aload_n hC dX1_left_31 rfl rfl ?_
      refine g_X1_12_0 hC dX1_left_32 ?_
      obtain ⟨h11, hV⟩ := hV
      refine zz_at rfl (by rw [pvo h11]) ?_
      obtain ⟨⟨n13, h12⟩, hV⟩ := hV
      refine g_X1_335_c1 hC dX1_left_35 h12 ?_
      obtain ⟨h14, hV⟩ := hV
      refine zz_at rfl (by rw [pvo h14]) ?_
      refine z_iload_n hC dX1_left_38 rfl rfl ?_
      obtain ⟨n16, h15, hV⟩ := hV
      obtain ⟨h17, hV⟩ := hV
      refine z_iald hC dX1_left_39 h15 (h17) ?_
      refine z_iadd hC dX1_left_40 ?_
      exact z_iret hC dX1_left_41 rfl (by rw [hQo]; exact ⟨_, rfl, hV⟩)
    · replace hV := hV.2 hc
      refine z_iconst (v := (-1)) hC dX1_left_15 rfl ?_
      refine z_goto (tgt := 41) hC dX1_left_16 (by decide) ?_
      exact z_iret hC dX1_left_41 rfl (by rw [hQo]; exact ⟨_, rfl, hV⟩)
def wp_X1_restore (σ : ZS) (Ret : Int32 → ZS → Prop) : Prop :=
    (((zI σ 0 4) = 0 → (Ret (-1) σ)) ∧ (¬ (zI σ 0 4) = 0 → (∀ σ1 : ZS, σ1 = sI σ 0 4 ((zI σ 0 4) - 1) → (vp_in (zI σ1 0 4) 3 ∧ ((kP NS σ1 17 (ix (zI σ1 0 4))) = some (.inl (zo (kP NS σ1 17 (ix (zI σ1 0 4))))) ∧ (wp_X3_become σ1 12 (zo (kP NS σ1 17 (ix (zI σ1 0 4)))) (fun σ5 => Ret (zI σ5 0 4) σ5)))))))
set_option maxHeartbeats 4000000 in
theorem mz_X1_restore {l : Launch} {E : ZE} (hE : EOK E) {σ : ZS} {Ret : Int32 → ZS → Prop} (hV : wp_X1_restore σ Ret) : MZ l E NS yX1_restore (ws_ yX1_restore cX1_restore 1 (some .int)) 3 σ [.ref (E.1.heap.size + 0)] (rI Ret) := by
  refine MZ.start (L := [some (.ref (E.1.heap.size + 0))]) hE (by decide) (Nat.le_of_ble_eq_true rfl) rfl fun C hCl hQo hC => ?_
  replace hC : Cx C E cX1_restore 1 "RightTurns" "restore" (some .int) [] 3 := hC
  unfold wp_X1_restore at hV
  refine z_aload_n hC dX1_restore_0 rfl rfl ?_
  refine g_X1_194_0 hC dX1_restore_1 ?_
  refine z_if_ne (tgt := 9) hC dX1_restore_4 (by decide) (fun hc => ?_) (fun hc => ?_)
  · replace hV := hV.2 hc
    refine z_aload_n hC dX1_restore_9 rfl rfl ?_
    refine z_dup hC dX1_restore_10 rfl ?_
    refine g_X1_194_0 hC dX1_restore_11 ?_
    refine z_iconst (v := 1) hC dX1_restore_14 rfl ?_
    refine z_isub hC dX1_restore_15 ?_
    refine p_X1_194_c0 hC dX1_restore_16 (k_0 _) ?_
    obtain ⟨σ1, e_σ1⟩ : ∃ z : ZS, z = sI σ 0 4 ((zI σ 0 4) - 1) := ⟨_, rfl⟩
    replace hV := hV _ e_σ1
    rw [← e_σ1]
    refine z_aload_n hC dX1_restore_19 rfl rfl ?_
    refine g_X1_19_0 hC dX1_restore_20 ?_
    refine z_aload_n hC dX1_restore_23 rfl rfl ?_
    refine g_X1_31_0 hC dX1_restore_24 ?_
    refine z_aload_n hC dX1_restore_27 rfl rfl ?_
    refine g_X1_194_0 hC dX1_restore_28 ?_
    obtain ⟨h2, hV⟩ := hV
    refine z_aald5 hC dX1_restore_31 (k_17 _) (h2) rfl ?_
    obtain ⟨h3, hV⟩ := hV
    refine zz_at rfl (by rw [pvo h3]) ?_
    refine c_X1_421 hC (by decide) dX1_restore_32 (Nat.le_of_ble_eq_true rfl) (k_12 _) hV (fun σ5 hV => ?_)
    refine z_aload_n hC dX1_restore_35 rfl rfl ?_
    refine g_X1_194_0 hC dX1_restore_36 ?_
    exact z_iret hC dX1_restore_39 rfl (by rw [hQo]; exact ⟨_, rfl, hV⟩)
  · replace hV := hV.1 hc
    refine z_iconst (v := (-1)) hC dX1_restore_7 rfl ?_
    exact z_iret hC dX1_restore_8 rfl (by rw [hQo]; exact ⟨_, rfl, hV⟩)
theorem dv_12 : ∀ k, k < 6 → defaultValue (tyJ6 k) = (match fty 12 k with | 0 => Value.int 0 | 1 => .long 0 | _ => .null) := by decide +kernel
def wp_X1_need (σ : ZS) (a0 : Int32) (Thr : Nat → ZS → Prop) (Ret : ZS → Prop) : Prop :=
    ((a0 = 0 → ((NS ≤ zt σ ∧ zt σ + 1 ≤ NB ∧ zn σ + 6 ≤ SB) ∧ (∀ σ2 : ZS, exc (sA σ (19, 0) 6) (zt σ) σ2 → (Thr (zt σ) σ2)))) ∧ (¬ a0 = 0 → (Ret σ)))
set_option maxHeartbeats 4000000 in
theorem mz_X1_need {l : Launch} {E : ZE} (hE : EOK E) {σ : ZS} {a0 : Int32} {Thr : Nat → ZS → Prop} {Ret : ZS → Prop} (hV : wp_X1_need σ a0 Thr Ret) : MZ l E NS yX1_need (ws_ yX1_need cX1_need 1 none) 6 σ [.int a0] (rT E.1.heap.size (rV Ret) Thr) := by
  refine MZ.start (L := [some (.int a0)]) hE (by decide) (Nat.le_of_ble_eq_true rfl) rfl fun C hCl hQo hC => ?_
  replace hC : Cx C E cX1_need 1 "RightTurns" "need" none [] 6 := hC
  unfold wp_X1_need at hV
  refine z_iload_n hC dX1_need_0 rfl rfl ?_
  refine z_if_ne (tgt := 12) hC dX1_need_1 (by decide) (fun hc => ?_) (fun hc => ?_)
  · replace hV := hV.2 hc
    exact z_vret hC dX1_need_12 (by rw [hQo]; exact Or.inl ⟨rfl, hV⟩)
  · replace hV := hV.1 hc
    obtain ⟨h1, hV⟩ := hV
    refine z_excG cf12 hC dX1_need_4 dX1_need_7 dX1_need_8 q753 q179 q124 dv_12 q754 (by decide +kernel) (fun _ _ h => ch_at12 h) q187 q188 q189 q191 q193 q197 rfl rfl rfl (by decide) h1.1 h1.2.1 h1.2.2 (by decide) (Nat.le_of_ble_eq_true rfl) (fun σ2 h3 => ?_)
    replace hV := hV σ2 h3
    exact z_athrow hC dX1_need_11 (zth_out hC (by rw [hQo]; exact Or.inr ⟨_, rfl, hV⟩))
theorem dv_13 : ∀ k, k < 6 → defaultValue (tyJ18 k) = (match fty 13 k with | 0 => Value.int 0 | 1 => .long 0 | _ => .null) := by decide +kernel
def wp_X1_streetOf (σ : ZS) (a1 : Int32) (Thr : Nat → ZS → Prop) (Ret : ZR → ZS → Prop) : Prop :=
    ((a1 < 0 → ((NS ≤ zt σ ∧ zt σ + 1 ≤ NB ∧ zn σ + 6 ≤ SB) ∧ (∀ σ2 : ZS, exc (sA σ (20, 0) 6) (zt σ) σ2 → (Thr (zt σ) σ2)))) ∧ (¬ a1 < 0 → ((zP σ 0 0) = some (.inl (zo (zP σ 0 0))) ∧ ((∃ n6, kK NS σ (zo (zP σ 0 0)) = (8, n6)) ∧ ((kP NS σ (zo (zP σ 0 0)) 1) = some (.inl (zo (kP NS σ (zo (zP σ 0 0)) 1))) ∧ ((∃ n11, kK NS σ (zo (kP NS σ (zo (zP σ 0 0)) 1)) = (16, n11)) ∧ (wp_J2_size σ (zo (kP NS σ (zo (zP σ 0 0)) 1)) (fun r8 σ9 => ((a1 < r8 → ((zP σ9 0 0) = some (.inl (zo (zP σ9 0 0))) ∧ ((∃ n14, kK NS σ9 (zo (zP σ9 0 0)) = (8, n14)) ∧ ((kP NS σ9 (zo (zP σ9 0 0)) 1) = some (.inl (zo (kP NS σ9 (zo (zP σ9 0 0)) 1))) ∧ ((∃ n19, kK NS σ9 (zo (kP NS σ9 (zo (zP σ9 0 0)) 1)) = (16, n19)) ∧ (wp_J2_get σ9 (zo (kP NS σ9 (zo (zP σ9 0 0)) 1)) a1 (fun r16 σ17 => r16 = some (.inl (zo r16)) ∧ ((∃ n22, kK NS σ17 (zo r16) = (14, n22)) ∧ (Ret (some (.inl (zo r16))) σ17))))))))) ∧ (¬ a1 < r8 → ((NS ≤ zt σ9 ∧ zt σ9 + 1 ≤ NB ∧ zn σ9 + 6 ≤ SB) ∧ (∀ σ24 : ZS, exc (sA σ9 (20, 0) 6) (zt σ9) σ24 → (Thr (zt σ9) σ24)))))))))))))
set_option maxHeartbeats 4000000 in
theorem mz_X1_streetOf {l : Launch} {E : ZE} (hE : EOK E) {σ : ZS} {a1 : Int32} {Thr : Nat → ZS → Prop} {Ret : ZR → ZS → Prop} (hV : wp_X1_streetOf σ a1 Thr Ret) : MZ l E NS yX1_streetOf (ws_ yX1_streetOf cX1_streetOf 2 (Option.some (FieldType.object "RightTurns$Street"))) 6 σ [.ref (E.1.heap.size + 0), .int a1] (rT E.1.heap.size (rP E.1.heap.size Ret) Thr) := by
  refine MZ.start (L := [some (.ref (E.1.heap.size + 0)), some (.int a1)]) hE (by decide) (Nat.le_of_ble_eq_true rfl) rfl fun C hCl hQo hC => ?_
  replace hC : Cx C E cX1_streetOf 2 "RightTurns" "streetOf" (Option.some (FieldType.object "RightTurns$Street")) [] 6 := hC
  unfold wp_X1_streetOf at hV
  refine z_iload_n hC dX1_streetOf_0 rfl rfl ?_
  refine z_if_lt (tgt := 18) hC dX1_streetOf_1 (by decide) (fun hc => ?_) (fun hc => ?_)
  · replace hV := hV.1 hc
    obtain ⟨h1, hV⟩ := hV
    refine z_excG cf13 hC dX1_streetOf_18 dX1_streetOf_21 dX1_streetOf_22 q1156 q1157 q145 dv_13 q1165 (by decide +kernel) (fun _ _ h => ch_at13 h) q1159 q214 q1160 q1161 q1162 q1164 rfl rfl rfl (by decide) h1.1 h1.2.1 h1.2.2 (by decide) (Nat.le_of_ble_eq_true rfl) (fun σ2 h3 => ?_)
    replace hV := hV σ2 h3
    exact z_athrow hC dX1_streetOf_25 (zth_out hC (by rw [hQo]; exact Or.inr ⟨_, rfl, hV⟩))
  · replace hV := hV.2 hc
    refine z_iload_n hC dX1_streetOf_4 rfl rfl ?_
    refine z_aload_n hC dX1_streetOf_5 rfl rfl ?_
    refine g_X1_12_0 hC dX1_streetOf_6 ?_
    obtain ⟨h4, hV⟩ := hV
    refine zz_at rfl (by rw [pvo h4]) ?_
    obtain ⟨⟨n6, h5⟩, hV⟩ := hV
    refine g_X1_138_c1 hC dX1_streetOf_9 h5 ?_
    obtain ⟨h7, hV⟩ := hV
    refine zz_at rfl (by rw [pvo h7]) ?_
    obtain ⟨⟨n11, h10⟩, hV⟩ := hV
    refine c_X1_127 hC (by decide) dX1_streetOf_12 (Nat.le_of_ble_eq_true rfl) h10 hV (fun r8 σ9 hV => ?_)
    refine z_icmp_lt (tgt := 26) hC dX1_streetOf_15 (by decide) (fun hc => ?_) (fun hc => ?_)
    · replace hV := hV.1 hc
      refine z_aload_n hC dX1_streetOf_26 rfl rfl ?_
      refine g_X1_12_0 hC dX1_streetOf_27 ?_
      obtain ⟨h12, hV⟩ := hV
      refine zz_at rfl (by rw [pvo h12]) ?_
      obtain ⟨⟨n14, h13⟩, hV⟩ := hV
      refine g_X1_138_c1 hC dX1_streetOf_30 h13 ?_
      obtain ⟨h15, hV⟩ := hV
      refine zz_at rfl (by rw [pvo h15]) ?_
      refine z_iload_n hC dX1_streetOf_33 rfl rfl ?_
      obtain ⟨⟨n19, h18⟩, hV⟩ := hV
      refine c_X1_144 hC (by decide) dX1_streetOf_34 (Nat.le_of_ble_eq_true rfl) h18 hV (fun r16 σ17 hV => ?_)
      obtain ⟨h20, hV⟩ := hV
      refine zz_at rfl (by rw [pvo h20]) ?_
      obtain ⟨⟨n22, h21⟩, hV⟩ := hV
      refine z_cast hC cf7 dX1_streetOf_37 h21 q1172 ?_
      exact z_aret (r := (some (.inl (zo r16)))) hC (Or.inl ⟨_, rfl⟩) dX1_streetOf_40 (by rw [hQo]; exact Or.inl ⟨_, rfl, hV⟩)
    · replace hV := hV.2 hc
      obtain ⟨h23, hV⟩ := hV
      refine z_excG cf13 hC dX1_streetOf_18 dX1_streetOf_21 dX1_streetOf_22 q1156 q1157 q145 dv_13 q1165 (by decide +kernel) (fun _ _ h => ch_at13 h) q1159 q214 q1160 q1161 q1162 q1164 rfl rfl rfl (by decide) h23.1 h23.2.1 h23.2.2 (by decide) (Nat.le_of_ble_eq_true rfl) (fun σ24 h25 => ?_)
      replace hV := hV σ24 h25
      exact z_athrow hC dX1_streetOf_25 (zth_out hC (by rw [hQo]; exact Or.inr ⟨_, rfl, hV⟩))
theorem cw_X1_need : CodeW yX1_need (ws_ yX1_need cX1_need 1 none) 1 := ⟨fun w h => (List.mem_cons.mp h).elim (fun e => e ▸ q752) id, Or.inl ⟨_, _, q752⟩, q116, by decide, by decide⟩
theorem c_X1_164 {C : ZC} {E : ZE} {cc : ByteArray} {nL pc d : Nat} {nm : String} {ret : Option FieldType} {hh : List (Nat × Nat × Nat × Nat)} {σ : ZS} {L : List (Option Value)} {st : List Value} {a0 : Int32} {Ret : ZS → Prop} {Thr : Nat → ZS → Prop} (hC : Cx C E cc nL "RightTurns" nm ret hh d) (hdd : 6 + 1 ≤ d) (hd : decode cc pc = .ok (.invokestatic 164, 3)) (hW : (st.map fun v => v.category).sum ≤ 8) (hV : wp_X1_need σ a0 Thr Ret) (k : ∀ σ', Ret σ' → zz C E NS nL σ' (pc + 3) L st) (kt : ∀ a σ', Thr a σ' → zth C E NS nL σ' pc L st (E.1.heap.size + a)) : zz C E NS nL σ pc L (.int a0 :: st) :=
  z_callSG hC cw_X1_need hdd (by decide) (mz_X1_need (cxE hC) hV) hd q750 q751 (np := 1) rfl rfl hW rfl (kT (kV k) kt)
theorem cw_X1_streetOf : CodeW yX1_streetOf (ws_ yX1_streetOf cX1_streetOf 2 (Option.some (FieldType.object "RightTurns$Street"))) 2 := ⟨fun w h => (List.mem_cons.mp h).elim (fun e => e ▸ q1155) id, Or.inl ⟨_, _, q1155⟩, q116, by decide, by decide⟩
theorem c_X1_220 {C : ZC} {E : ZE} {cc : ByteArray} {nL pc d : Nat} {nm : String} {ret : Option FieldType} {hh : List (Nat × Nat × Nat × Nat)} {σ : ZS} {L : List (Option Value)} {st : List Value} {a1 : Int32} {Ret : ZR → ZS → Prop} {Thr : Nat → ZS → Prop} (hC : Cx C E cc nL "RightTurns" nm ret hh d) (hdd : 6 + 1 ≤ d) (hd : decode cc pc = .ok (.invokevirtual 220, 3)) (hW : (st.map fun v => v.category).sum ≤ 8) (hV : wp_X1_streetOf σ a1 Thr Ret) (k : ∀ r σ', Ret r σ' → zz C E NS nL σ' (pc + 3) L (pv E.1.heap.size r :: st)) (kt : ∀ a σ', Thr a σ' → zth C E NS nL σ' pc L st (E.1.heap.size + a)) : zz C E NS nL σ pc L (.int a1 :: .ref (E.1.heap.size + 0) :: st) :=
  z_callVG hC cf0 cw_X1_streetOf hdd (by decide) (mz_X1_streetOf (cxE hC) hV) hd (k_0 σ) q1152 q1154 qs15 (np := 1) rfl rfl hW rfl (kT (kR k) kt)
theorem c_X1_260 {C : ZC} {E : ZE} {cc : ByteArray} {nL pc d : Nat} {nm : String} {ret : Option FieldType} {hh : List (Nat × Nat × Nat × Nat)} {σ : ZS} {L : List (Option Value)} {st : List Value} {a0 : Nat} {a1 : Nat} {Ret : Int32 → ZS → Prop} (hC : Cx C E cc nL "RightTurns" nm ret hh d) (hdd : 1 + 1 ≤ d) (hd : decode cc pc = .ok (.invokevirtual 260, 3)) (hW : (st.map fun v => v.category).sum ≤ 8) {x : Nat} (hk : kK NS σ a0 = (7 + 7, x)) (hV : wp_X8_meets σ a0 a1 Ret) (k : ∀ r σ', Ret r σ' → zz C E NS nL σ' (pc + 3) L (.int r :: st)) : zz C E NS nL σ pc L (.ref (E.1.heap.size + a1) :: .ref (E.1.heap.size + a0) :: st) :=
  z_callVG hC cf7 cw_X8_meets hdd (by decide) (mz_X8_meets (cxE hC) hV) hd hk q1220 q1072 q1073 (np := 1) rfl rfl hW rfl (kI k)
def wp_X1_needMeeting (σ : ZS) (a1 : Int32) (a2 : Int32) (Thr : Nat → ZS → Prop) (Ret : ZS → Prop) : Prop :=
    wp_X1_streetOf σ a1 (fun x σ => Thr x σ) (fun r1 σ2 => r1 = some (.inl (zo r1)) ∧ (wp_X1_streetOf σ2 a2 (fun x σ => Thr x σ) (fun r4 σ5 => r4 = some (.inl (zo r4)) ∧ (((a1 = a2 → (wp_X1_need σ5 0 (fun x σ => Thr x σ) (fun σ8 => Ret σ8))) ∧ (¬ a1 = a2 → ((∃ n12, kK NS σ5 (zo r1) = (14, n12)) ∧ (wp_X8_meets σ5 (zo r1) (zo r4) (fun r9 σ10 => ((r9 = 0 → (wp_X1_need σ10 0 (fun x σ => Thr x σ) (fun σ14 => Ret σ14))) ∧ (¬ r9 = 0 → (wp_X1_need σ10 1 (fun x σ => Thr x σ) (fun σ16 => Ret σ16)))))))))))))
set_option maxHeartbeats 4000000 in
theorem mz_X1_needMeeting {l : Launch} {E : ZE} (hE : EOK E) {σ : ZS} {a1 : Int32} {a2 : Int32} {Thr : Nat → ZS → Prop} {Ret : ZS → Prop} (hV : wp_X1_needMeeting σ a1 a2 Thr Ret) : MZ l E NS yX1_needMeeting (ws_ yX1_needMeeting cX1_needMeeting 5 none) 7 σ [.ref (E.1.heap.size + 0), .int a1, .int a2] (rT E.1.heap.size (rV Ret) Thr) := by
  refine MZ.start (L := [some (.ref (E.1.heap.size + 0)), some (.int a1), some (.int a2), none, none]) hE (by decide) (Nat.le_of_ble_eq_true rfl) rfl fun C hCl hQo hC => ?_
  replace hC : Cx C E cX1_needMeeting 5 "RightTurns" "needMeeting" none [] 7 := hC
  unfold wp_X1_needMeeting at hV
  refine z_aload_n hC dX1_needMeeting_0 rfl rfl ?_
  refine z_iload_n hC dX1_needMeeting_1 rfl rfl ?_
  refine c_X1_220 hC (by decide) dX1_needMeeting_2 (Nat.le_of_ble_eq_true rfl) hV (fun r1 σ2 hV => ?_) (fun x σ hV => zth_out hC (by rw [hQo]; exact Or.inr ⟨_, rfl, hV⟩))
  obtain ⟨h3, hV⟩ := hV
  refine zz_at rfl (by rw [pvo h3]) ?_
  refine z_astore_n hC dX1_needMeeting_5 rfl (Nat.le_of_ble_eq_true rfl) rfl rfl ?_
  refine z_aload_n hC dX1_needMeeting_6 rfl rfl ?_
  refine z_iload_n hC dX1_needMeeting_7 rfl rfl ?_
  refine c_X1_220 hC (by decide) dX1_needMeeting_8 (Nat.le_of_ble_eq_true rfl) hV (fun r4 σ5 hV => ?_) (fun x σ hV => zth_out hC (by rw [hQo]; exact Or.inr ⟨_, rfl, hV⟩))
  obtain ⟨h6, hV⟩ := hV
  refine zz_at rfl (by rw [pvo h6]) ?_
  refine z_astore hC dX1_needMeeting_11 (Nat.le_of_ble_eq_true rfl) rfl rfl ?_
  refine z_iload_n hC dX1_needMeeting_13 rfl rfl ?_
  refine z_iload_n hC dX1_needMeeting_14 rfl rfl ?_
  refine z_icmp_eq (tgt := 31) hC dX1_needMeeting_15 (by decide) (fun hc => ?_) (fun hc => ?_)
  · replace hV := hV.1 hc
    refine z_iconst (v := 0) hC dX1_needMeeting_31 rfl ?_
    refine c_X1_164 hC (by decide) dX1_needMeeting_32 (Nat.le_of_ble_eq_true rfl) hV (fun σ8 hV => ?_) (fun x σ hV => zth_out hC (by rw [hQo]; exact Or.inr ⟨_, rfl, hV⟩))
    exact z_vret hC dX1_needMeeting_35 (by rw [hQo]; exact Or.inl ⟨rfl, hV⟩)
  · replace hV := hV.2 hc
    refine z_aload_n hC dX1_needMeeting_18 rfl rfl ?_
    refine z_aload hC dX1_needMeeting_19 rfl ?_
    obtain ⟨⟨n12, h11⟩, hV⟩ := hV
    refine c_X1_260 hC (by decide) dX1_needMeeting_21 (Nat.le_of_ble_eq_true rfl) h11 hV (fun r9 σ10 hV => ?_)
    refine z_if_eq (tgt := 31) hC dX1_needMeeting_24 (by decide) (fun hc => ?_) (fun hc => ?_)
    · replace hV := hV.1 hc
      refine z_iconst (v := 0) hC dX1_needMeeting_31 rfl ?_
      refine c_X1_164 hC (by decide) dX1_needMeeting_32 (Nat.le_of_ble_eq_true rfl) hV (fun σ14 hV => ?_) (fun x σ hV => zth_out hC (by rw [hQo]; exact Or.inr ⟨_, rfl, hV⟩))
      exact z_vret hC dX1_needMeeting_35 (by rw [hQo]; exact Or.inl ⟨rfl, hV⟩)
    · replace hV := hV.2 hc
      refine z_iconst (v := 1) hC dX1_needMeeting_27 rfl ?_
      refine z_goto (tgt := 32) hC dX1_needMeeting_28 (by decide) ?_
      refine c_X1_164 hC (by decide) dX1_needMeeting_32 (Nat.le_of_ble_eq_true rfl) hV (fun σ16 hV => ?_) (fun x σ hV => zth_out hC (by rw [hQo]; exact Or.inr ⟨_, rfl, hV⟩))
      exact z_vret hC dX1_needMeeting_35 (by rw [hQo]; exact Or.inl ⟨rfl, hV⟩)
theorem g_X1_193_12 {C : ZC} {E : ZE} {cc : ByteArray} {nL pc d : Nat} {nm : String} {ret : Option FieldType} {hh : List (Nat × Nat × Nat × Nat)} {σ : ZS} {L : List (Option Value)} {st : List Value} (hC : Cx C E cc nL "RightTurns" nm ret hh d) (hd : decode cc pc = .ok (.getfield 193, 3)) (k : zz C E NS nL σ (pc + 3) L (.ref (E.1.heap.size + 14) :: st)) : zz C E NS nL σ pc L (.ref (E.1.heap.size + 12) :: st) :=
  z_get hC cf2 hd (k_12 σ) (k := 1) (by decide) (Or.inr ⟨_, q561⟩) (Or.inl rfl) rfl k
theorem cw_X1_needMeeting : CodeW yX1_needMeeting (ws_ yX1_needMeeting cX1_needMeeting 5 none) 5 := ⟨fun w h => (List.mem_cons.mp h).elim (fun e => e ▸ q1219) id, Or.inl ⟨_, _, q1219⟩, q116, by decide, by decide⟩
theorem c_X1_264 {C : ZC} {E : ZE} {cc : ByteArray} {nL pc d : Nat} {nm : String} {ret : Option FieldType} {hh : List (Nat × Nat × Nat × Nat)} {σ : ZS} {L : List (Option Value)} {st : List Value} {a1 : Int32} {a2 : Int32} {Ret : ZS → Prop} {Thr : Nat → ZS → Prop} (hC : Cx C E cc nL "RightTurns" nm ret hh d) (hdd : 7 + 1 ≤ d) (hd : decode cc pc = .ok (.invokevirtual 264, 3)) (hW : (st.map fun v => v.category).sum ≤ 8) (hV : wp_X1_needMeeting σ a1 a2 Thr Ret) (k : ∀ σ', Ret σ' → zz C E NS nL σ' (pc + 3) L st) (kt : ∀ a σ', Thr a σ' → zth C E NS nL σ' pc L st (E.1.heap.size + a)) : zz C E NS nL σ pc L (.int a2 :: .int a1 :: .ref (E.1.heap.size + 0) :: st) :=
  z_callVG hC cf0 cw_X1_needMeeting hdd (by decide) (mz_X1_needMeeting (cxE hC) hV) hd (k_0 σ) q1216 q1218 qs19 (np := 2) rfl rfl hW rfl (kT (kV k) kt)
theorem cw_X3_goesOn : CodeW yX3_goesOn (ws_ yX3_goesOn cX3_goesOn 2 none) 2 := ⟨fun w h => (List.mem_cons.mp h).elim (fun e => e ▸ q1224) id, Or.inl ⟨_, _, q1224⟩, q137, by decide, by decide⟩
theorem c_X1_268 {C : ZC} {E : ZE} {cc : ByteArray} {nL pc d : Nat} {nm : String} {ret : Option FieldType} {hh : List (Nat × Nat × Nat × Nat)} {σ : ZS} {L : List (Option Value)} {st : List Value} {a0 : Nat} {a1 : Int32} {Ret : ZS → Prop} (hC : Cx C E cc nL "RightTurns" nm ret hh d) (hdd : 2 + 1 ≤ d) (hd : decode cc pc = .ok (.invokevirtual 268, 3)) (hW : (st.map fun v => v.category).sum ≤ 8) {x : Nat} (hk : kK NS σ a0 = (2 + 7, x)) (hV : wp_X3_goesOn σ a0 a1 Ret) (k : ∀ σ', Ret σ' → zz C E NS nL σ' (pc + 3) L st) : zz C E NS nL σ pc L (.int a1 :: .ref (E.1.heap.size + a0) :: st) :=
  z_callVG hC cf2 cw_X3_goesOn hdd (by decide) (mz_X3_goesOn (cxE hC) hV) hd hk q1221 q1222 q1223 (np := 1) rfl rfl hW rfl (kV k)
def wp_X1_allow (σ : ZS) (a1 : Int32) (a2 : Int32) (a3 : Int32) (Thr : Nat → ZS → Prop) (Ret : Int32 → ZS → Prop) : Prop :=
    wp_X1_needMeeting σ a1 a2 (fun x σ => Thr x σ) (fun σ2 => (((zI σ2 12 3) = 200 → (Ret (-1) σ2)) ∧ (¬ (zI σ2 12 3) = 200 → (wp_X3_isAllowed σ2 12 (zI σ2 12 3) a1 a2 (fun r3 σ4 => ((r3 = a3 → (Ret (-2) σ4)) ∧ (¬ r3 = a3 → (wp_X3_goesOn σ4 12 (zI σ4 12 3) (fun σ6 => ∀ y7 : Int32, y7 = (24 * (zI σ6 12 3)) + a1 → (vp_in y7 4824 ∧ (vp_in y7 4824 ∧ (∀ σ10 : ZS, σ10 = sI σ6 14 (ix y7) ((zI σ6 14 (ix y7)) ^^^ ((1 : Int32) <<< (a2 &&& 31))) → (Ret (zI σ10 12 3) σ10)))))))))))))
set_option maxHeartbeats 4000000 in
theorem mz_X1_allow {l : Launch} {E : ZE} (hE : EOK E) {σ : ZS} {a1 : Int32} {a2 : Int32} {a3 : Int32} {Thr : Nat → ZS → Prop} {Ret : Int32 → ZS → Prop} (hV : wp_X1_allow σ a1 a2 a3 Thr Ret) : MZ l E NS yX1_allow (ws_ yX1_allow cX1_allow 4 (some .int)) 8 σ [.ref (E.1.heap.size + 0), .int a1, .int a2, .int a3] (rT E.1.heap.size (rI Ret) Thr) := by
  refine MZ.start (L := [some (.ref (E.1.heap.size + 0)), some (.int a1), some (.int a2), some (.int a3)]) hE (by decide) (Nat.le_of_ble_eq_true rfl) rfl fun C hCl hQo hC => ?_
  replace hC : Cx C E cX1_allow 4 "RightTurns" "allow" (some .int) [] 8 := hC
  unfold wp_X1_allow at hV
  refine z_aload_n hC dX1_allow_0 rfl rfl ?_
  refine z_iload_n hC dX1_allow_1 rfl rfl ?_
  refine z_iload_n hC dX1_allow_2 rfl rfl ?_
  refine c_X1_264 hC (by decide) dX1_allow_3 (Nat.le_of_ble_eq_true rfl) hV (fun σ2 hV => ?_) (fun x σ hV => zth_out hC (by rw [hQo]; exact Or.inr ⟨_, rfl, hV⟩))
  refine z_aload_n hC dX1_allow_6 rfl rfl ?_
  refine g_X1_19_0 hC dX1_allow_7 ?_
  refine g_X1_154_12 hC dX1_allow_10 ?_
  refine z_sipush (v := 200) hC dX1_allow_13 rfl ?_
  refine z_icmp_ne (tgt := 21) hC dX1_allow_16 (by decide) (fun hc => ?_) (fun hc => ?_)
  · replace hV := hV.2 hc
    refine z_aload_n hC dX1_allow_21 rfl rfl ?_
    refine g_X1_19_0 hC dX1_allow_22 ?_
    refine z_aload_n hC dX1_allow_25 rfl rfl ?_
    refine g_X1_19_0 hC dX1_allow_26 ?_
    refine g_X1_154_12 hC dX1_allow_29 ?_
    refine z_iload_n hC dX1_allow_32 rfl rfl ?_
    refine z_iload_n hC dX1_allow_33 rfl rfl ?_
    refine c_X1_251 hC (by decide) dX1_allow_34 (Nat.le_of_ble_eq_true rfl) (k_12 _) hV (fun r3 σ4 hV => ?_)
    refine z_iload_n hC dX1_allow_37 rfl rfl ?_
    refine z_icmp_ne (tgt := 44) hC dX1_allow_38 (by decide) (fun hc => ?_) (fun hc => ?_)
    · replace hV := hV.2 hc
      refine z_aload_n hC dX1_allow_44 rfl rfl ?_
      refine g_X1_19_0 hC dX1_allow_45 ?_
      refine z_aload_n hC dX1_allow_48 rfl rfl ?_
      refine g_X1_19_0 hC dX1_allow_49 ?_
      refine g_X1_154_12 hC dX1_allow_52 ?_
      refine c_X1_268 hC (by decide) dX1_allow_55 (Nat.le_of_ble_eq_true rfl) (k_12 _) hV (fun σ6 hV => ?_)
      refine z_aload_n hC dX1_allow_58 rfl rfl ?_
      refine g_X1_19_0 hC dX1_allow_59 ?_
      refine g_X1_193_12 hC dX1_allow_62 ?_
      refine z_bipush (v := 24) hC dX1_allow_65 rfl ?_
      refine z_aload_n hC dX1_allow_67 rfl rfl ?_
      refine g_X1_19_0 hC dX1_allow_68 ?_
      refine g_X1_154_12 hC dX1_allow_71 ?_
      refine z_imul hC dX1_allow_74 ?_
      refine z_iload_n hC dX1_allow_75 rfl rfl ?_
      refine z_iadd hC dX1_allow_76 ?_
      obtain ⟨y7, e_y7⟩ : ∃ z, z = (24 * (zI σ6 12 3)) + a1 := ⟨_, rfl⟩
      rw [← e_y7]
      replace hV := hV _ e_y7
      refine z_dup2 hC dX1_allow_77 rfl rfl ?_
      obtain ⟨h8, hV⟩ := hV
      refine z_iald hC dX1_allow_78 (k_14 _) (h8) ?_
      refine z_iconst (v := 1) hC dX1_allow_79 rfl ?_
      refine z_iload_n hC dX1_allow_80 rfl rfl ?_
      refine z_ishl hC dX1_allow_81 ?_
      refine z_ixor hC dX1_allow_82 ?_
      obtain ⟨h9, hV⟩ := hV
      refine z_iast hC dX1_allow_83 (k_14 _) (h9) ?_
      obtain ⟨σ10, e_σ10⟩ : ∃ z : ZS, z = sI σ6 14 (ix y7) ((zI σ6 14 (ix y7)) ^^^ ((1 : Int32) <<< (a2 &&& 31))) := ⟨_, rfl⟩
      replace hV := hV _ e_σ10
      rw [← e_σ10]
      refine z_aload_n hC dX1_allow_84 rfl rfl ?_
      refine g_X1_19_0 hC dX1_allow_85 ?_
      refine g_X1_154_12 hC dX1_allow_88 ?_
      exact z_iret hC dX1_allow_91 rfl (by rw [hQo]; exact Or.inl ⟨_, rfl, hV⟩)
    · replace hV := hV.1 hc
      refine z_bipush (v := (-2)) hC dX1_allow_41 rfl ?_
      exact z_iret hC dX1_allow_43 rfl (by rw [hQo]; exact Or.inl ⟨_, rfl, hV⟩)
  · replace hV := hV.1 hc
    refine z_iconst (v := (-1)) hC dX1_allow_19 rfl ?_
    exact z_iret hC dX1_allow_20 rfl (by rw [hQo]; exact Or.inl ⟨_, rfl, hV⟩)
theorem cw_X1_isTime : CodeW yX1_isTime (ws_ yX1_isTime cX1_isTime 2 (some .boolean)) 2 := ⟨fun w h => (List.mem_cons.mp h).elim (fun e => e ▸ q1196) id, Or.inl ⟨_, _, q1196⟩, q116, by decide, by decide⟩
theorem c_X1_254 {C : ZC} {E : ZE} {cc : ByteArray} {nL pc d : Nat} {nm : String} {ret : Option FieldType} {hh : List (Nat × Nat × Nat × Nat)} {σ : ZS} {L : List (Option Value)} {st : List Value} {a1 : Int32} {Ret : Int32 → ZS → Prop} (hC : Cx C E cc nL "RightTurns" nm ret hh d) (hdd : 1 + 1 ≤ d) (hd : decode cc pc = .ok (.invokevirtual 254, 3)) (hW : (st.map fun v => v.category).sum ≤ 8) (hV : wp_X1_isTime σ a1 Ret) (k : ∀ r σ', Ret r σ' → zz C E NS nL σ' (pc + 3) L (.int r :: st)) : zz C E NS nL σ pc L (.int a1 :: .ref (E.1.heap.size + 0) :: st) :=
  z_callVG hC cf0 cw_X1_isTime hdd (by decide) (mz_X1_isTime (cxE hC) hV) hd (k_0 σ) q1193 q1195 qs17 (np := 1) rfl rfl hW rfl (kI k)
def wp_X1_back (σ : ZS) (a1 : Int32) (Thr : Nat → ZS → Prop) (Ret : Int32 → ZS → Prop) : Prop :=
    wp_X1_isTime σ a1 (fun r1 σ2 => wp_X1_need σ2 r1 (fun x σ => Thr x σ) (fun σ4 => (((zI σ4 12 3) = 200 → (Ret (-1) σ4)) ∧ (¬ (zI σ4 12 3) = 200 → (wp_X3_goesOn σ4 12 a1 (fun σ6 => Ret (zI σ6 12 3) σ6))))))
set_option maxHeartbeats 4000000 in
theorem mz_X1_back {l : Launch} {E : ZE} (hE : EOK E) {σ : ZS} {a1 : Int32} {Thr : Nat → ZS → Prop} {Ret : Int32 → ZS → Prop} (hV : wp_X1_back σ a1 Thr Ret) : MZ l E NS yX1_back (ws_ yX1_back cX1_back 2 (some .int)) 7 σ [.ref (E.1.heap.size + 0), .int a1] (rT E.1.heap.size (rI Ret) Thr) := by
  refine MZ.start (L := [some (.ref (E.1.heap.size + 0)), some (.int a1)]) hE (by decide) (Nat.le_of_ble_eq_true rfl) rfl fun C hCl hQo hC => ?_
  replace hC : Cx C E cX1_back 2 "RightTurns" "back" (some .int) [] 7 := hC
  unfold wp_X1_back at hV
  refine z_aload_n hC dX1_back_0 rfl rfl ?_
  refine z_iload_n hC dX1_back_1 rfl rfl ?_
  refine c_X1_254 hC (by decide) dX1_back_2 (Nat.le_of_ble_eq_true rfl) hV (fun r1 σ2 hV => ?_)
  refine c_X1_164 hC (by decide) dX1_back_5 (Nat.le_of_ble_eq_true rfl) hV (fun σ4 hV => ?_) (fun x σ hV => zth_out hC (by rw [hQo]; exact Or.inr ⟨_, rfl, hV⟩))
  refine z_aload_n hC dX1_back_8 rfl rfl ?_
  refine g_X1_19_0 hC dX1_back_9 ?_
  refine g_X1_154_12 hC dX1_back_12 ?_
  refine z_sipush (v := 200) hC dX1_back_15 rfl ?_
  refine z_icmp_ne (tgt := 23) hC dX1_back_18 (by decide) (fun hc => ?_) (fun hc => ?_)
  · replace hV := hV.2 hc
    refine z_aload_n hC dX1_back_23 rfl rfl ?_
    refine g_X1_19_0 hC dX1_back_24 ?_
    refine z_iload_n hC dX1_back_27 rfl rfl ?_
    refine c_X1_268 hC (by decide) dX1_back_28 (Nat.le_of_ble_eq_true rfl) (k_12 _) hV (fun σ6 hV => ?_)
    refine z_aload_n hC dX1_back_31 rfl rfl ?_
    refine g_X1_19_0 hC dX1_back_32 ?_
    refine g_X1_154_12 hC dX1_back_35 ?_
    exact z_iret hC dX1_back_38 rfl (by rw [hQo]; exact Or.inl ⟨_, rfl, hV⟩)
  · replace hV := hV.1 hc
    refine z_iconst (v := (-1)) hC dX1_back_21 rfl ?_
    exact z_iret hC dX1_back_22 rfl (by rw [hQo]; exact Or.inl ⟨_, rfl, hV⟩)
theorem g_X1_117_0 {C : ZC} {E : ZE} {cc : ByteArray} {nL pc d : Nat} {nm : String} {ret : Option FieldType} {hh : List (Nat × Nat × Nat × Nat)} {σ : ZS} {L : List (Option Value)} {st : List Value} (hC : Cx C E cc nL "RightTurns" nm ret hh d) (hd : decode cc pc = .ok (.getfield 117, 3)) (k : zz C E NS nL σ (pc + 3) L (.ref (E.1.heap.size + 43) :: st)) : zz C E NS nL σ pc L (.ref (E.1.heap.size + 0) :: st) :=
  z_get hC cf0 hd (k_0 σ) (k := 39) (by decide) (Or.inl q620) (Or.inl rfl) rfl k
def VL_X1_baker_163 (Thr : Nat → ZS → Prop) (Ret : Int32 → ZS → Prop) : Nat → ZS → Int32 → Int32 → Int32 → Prop
  | 0 => fun _ _ _ _ => False
  | k + 1 => fun σ x2 x3 x4 =>
    let K163 := VL_X1_baker_163 Thr Ret k
    ((x4 < 24 → (vp_in x4 24 ∧ (vp_in x3 24 ∧ ((((zI σ 43 (ix x3)) < (zI σ 43 (ix x4)) → (∀ y12 : Int32, y12 = x4 + 1 → (K163 σ x2 x4 y12))) ∧ (¬ (zI σ 43 (ix x3)) < (zI σ 43 (ix x4)) → (∀ y11 : Int32, y11 = x4 + 1 → (K163 σ x2 x3 y11)))))))) ∧ (¬ x4 < 24 → (((x2 = 1 → (vp_in x3 24 ∧ (Ret (zI σ 43 (ix x3)) σ))) ∧ (¬ x2 = 1 → (vp_in x3 24 ∧ ((((zI σ 43 (ix x3)) = 0 → (Ret (-1) σ)) ∧ (¬ (zI σ 43 (ix x3)) = 0 → (Ret x3 σ))))))))))
def V_X1_baker_163 (Thr : Nat → ZS → Prop) (Ret : Int32 → ZS → Prop) (σ : ZS) (x2 : Int32) (x3 : Int32) (x4 : Int32) : Prop := ∃ k, VL_X1_baker_163 Thr Ret k σ x2 x3 x4
def VL_X1_baker_116 (K48 : ZS → Int32 → Int32 → Int32 → Prop) (K59 : ZS → Int32 → Int32 → Int32 → Int32 → Prop) (Thr : Nat → ZS → Prop) (Ret : Int32 → ZS → Prop) : Nat → ZS → Int32 → Int32 → Int32 → Int32 → Int32 → Int32 → Prop
  | 0 => fun _ _ _ _ _ _ _ => False
  | k + 1 => fun σ x1 x2 x3 x4 x6 x7 =>
    let K116 := VL_X1_baker_116 K48 K59 Thr Ret k
    ((x7 < 24 → (vp_in x7 24 ∧ (vp_in x7 24 ∧ (∀ σ21 : ZS, σ21 = sI σ 43 (ix x7) ((zI σ 43 (ix x7)) + ((x6 >>> (x7 &&& 31)) &&& 1)) → (∀ y22 : Int32, y22 = x7 + 1 → (K116 σ21 x1 x2 x3 x4 x6 y22)))))) ∧ (¬ x7 < 24 → (∀ y18 : Int32, y18 = x4 + 1 → (K59 σ x1 x2 x3 y18))))
def V_X1_baker_116 (K48 : ZS → Int32 → Int32 → Int32 → Prop) (K59 : ZS → Int32 → Int32 → Int32 → Int32 → Prop) (Thr : Nat → ZS → Prop) (Ret : Int32 → ZS → Prop) (σ : ZS) (x1 : Int32) (x2 : Int32) (x3 : Int32) (x4 : Int32) (x6 : Int32) (x7 : Int32) : Prop := ∃ k, VL_X1_baker_116 K48 K59 Thr Ret k σ x1 x2 x3 x4 x6 x7
def VL_X1_baker_84 (K48 : ZS → Int32 → Int32 → Int32 → Prop) (K59 : ZS → Int32 → Int32 → Int32 → Int32 → Prop) (Thr : Nat → ZS → Prop) (Ret : Int32 → ZS → Prop) : Nat → ZS → Int32 → Int32 → Int32 → Int32 → Int32 → Int32 → Int32 → Prop
  | 0 => fun _ _ _ _ _ _ _ _ => False
  | k + 1 => fun σ x1 x2 x3 x4 x5 x6 x7 =>
    let K84 := VL_X1_baker_84 K48 K59 Thr Ret k
    ((x7 < x5 → (vp_in x7 48 ∧ (∀ y24 : Int32, y24 = x6 ||| ((1 : Int32) <<< (((zI σ 21 (ix x7)) / 2) &&& 31)) → (∀ y25 : Int32, y25 = x7 + 1 → (K84 σ x1 x2 x3 x4 x5 y24 y25))))) ∧ (¬ x7 < x5 → (V_X1_baker_116 K48 K59 Thr Ret σ x1 x2 x3 x4 x6 0)))
def V_X1_baker_84 (K48 : ZS → Int32 → Int32 → Int32 → Prop) (K59 : ZS → Int32 → Int32 → Int32 → Int32 → Prop) (Thr : Nat → ZS → Prop) (Ret : Int32 → ZS → Prop) (σ : ZS) (x1 : Int32) (x2 : Int32) (x3 : Int32) (x4 : Int32) (x5 : Int32) (x6 : Int32) (x7 : Int32) : Prop := ∃ k, VL_X1_baker_84 K48 K59 Thr Ret k σ x1 x2 x3 x4 x5 x6 x7
def VL_X1_baker_59 (K48 : ZS → Int32 → Int32 → Int32 → Prop) (Thr : Nat → ZS → Prop) (Ret : Int32 → ZS → Prop) : Nat → ZS → Int32 → Int32 → Int32 → Int32 → Prop
  | 0 => fun _ _ _ _ _ => False
  | k + 1 => fun σ x1 x2 x3 x4 =>
    let K59 := VL_X1_baker_59 K48 Thr Ret k
    wp_X1_corners σ (fun r13 σ14 => ((x4 < r13 → (wp_X1_pathOf σ14 x3 x4 x1 (fun r16 σ17 => V_X1_baker_84 K48 K59 Thr Ret σ17 x1 x2 x3 x4 r16 0 0))) ∧ (¬ x4 < r13 → (∀ y15 : Int32, y15 = x3 + 1 → (K48 σ14 x1 x2 y15)))))
def V_X1_baker_59 (K48 : ZS → Int32 → Int32 → Int32 → Prop) (Thr : Nat → ZS → Prop) (Ret : Int32 → ZS → Prop) (σ : ZS) (x1 : Int32) (x2 : Int32) (x3 : Int32) (x4 : Int32) : Prop := ∃ k, VL_X1_baker_59 K48 Thr Ret k σ x1 x2 x3 x4
def VL_X1_baker_48 (Thr : Nat → ZS → Prop) (Ret : Int32 → ZS → Prop) : Nat → ZS → Int32 → Int32 → Int32 → Prop
  | 0 => fun _ _ _ _ => False
  | k + 1 => fun σ x1 x2 x3 =>
    let K48 := VL_X1_baker_48 Thr Ret k
    wp_X1_corners σ (fun r5 σ6 => ((x3 < r5 → (V_X1_baker_59 K48 Thr Ret σ6 x1 x2 x3 0)) ∧ (¬ x3 < r5 → (V_X1_baker_163 Thr Ret σ6 x2 0 1))))
def V_X1_baker_48 (Thr : Nat → ZS → Prop) (Ret : Int32 → ZS → Prop) (σ : ZS) (x1 : Int32) (x2 : Int32) (x3 : Int32) : Prop := ∃ k, VL_X1_baker_48 Thr Ret k σ x1 x2 x3
def VL_X1_baker_27 (Thr : Nat → ZS → Prop) (Ret : Int32 → ZS → Prop) : Nat → ZS → Int32 → Int32 → Int32 → Prop
  | 0 => fun _ _ _ _ => False
  | k + 1 => fun σ x1 x2 x3 =>
    let K27 := VL_X1_baker_27 Thr Ret k
    ((x3 < 24 → (vp_in x3 24 ∧ (∀ σ27 : ZS, σ27 = sI σ 43 (ix x3) 0 → (∀ y28 : Int32, y28 = x3 + 1 → (K27 σ27 x1 x2 y28))))) ∧ (¬ x3 < 24 → (V_X1_baker_48 Thr Ret σ x1 x2 0)))
def V_X1_baker_27 (Thr : Nat → ZS → Prop) (Ret : Int32 → ZS → Prop) (σ : ZS) (x1 : Int32) (x2 : Int32) (x3 : Int32) : Prop := ∃ k, VL_X1_baker_27 Thr Ret k σ x1 x2 x3
def wp_X1_baker (σ : ZS) (a1 : Int32) (a2 : Int32) (Thr : Nat → ZS → Prop) (Ret : Int32 → ZS → Prop) : Prop :=
    wp_X1_isTime σ a1 (fun r1 σ2 => ((r1 = 0 → (wp_X1_need σ2 0 (fun x σ => Thr x σ) (fun σ4 => V_X1_baker_27 Thr Ret σ4 a1 a2 0))) ∧ (¬ r1 = 0 → (((a2 = 0 → (wp_X1_need σ2 1 (fun x σ => Thr x σ) (fun σ30 => V_X1_baker_27 Thr Ret σ30 a1 a2 0))) ∧ (¬ a2 = 0 → (((a2 = 1 → (wp_X1_need σ2 1 (fun x σ => Thr x σ) (fun σ34 => V_X1_baker_27 Thr Ret σ34 a1 a2 0))) ∧ (¬ a2 = 1 → (wp_X1_need σ2 0 (fun x σ => Thr x σ) (fun σ32 => V_X1_baker_27 Thr Ret σ32 a1 a2 0)))))))))))
set_option maxHeartbeats 4000000 in
theorem mz_X1_baker {l : Launch} {E : ZE} (hE : EOK E) {σ : ZS} {a1 : Int32} {a2 : Int32} {Thr : Nat → ZS → Prop} {Ret : Int32 → ZS → Prop} (hV : wp_X1_baker σ a1 a2 Thr Ret) : MZ l E NS yX1_baker (ws_ yX1_baker cX1_baker 8 (some .int)) 11 σ [.ref (E.1.heap.size + 0), .int a1, .int a2] (rT E.1.heap.size (rI Ret) Thr) := by
  refine MZ.start (L := [some (.ref (E.1.heap.size + 0)), some (.int a1), some (.int a2), none, none, none, none, none]) hE (by decide) (Nat.le_of_ble_eq_true rfl) rfl fun C hCl hQo hC => ?_
  replace hC : Cx C E cX1_baker 8 "RightTurns" "baker" (some .int) [] 11 := hC
  unfold wp_X1_baker at hV
  have j_163 : ∀ (σ : ZS) (x2 : Int32) (x3 : Int32) (x4 : Int32), V_X1_baker_163 Thr Ret σ x2 x3 x4 → zz C E NS 8 σ 163 [some (.ref (E.1.heap.size + 0)), none, some (.int x2), some (.int x3), some (.int x4), none, none, none] [] := by
    intro σ x2 x3 x4 ⟨k, hV⟩
    revert σ x2 x3 x4
    induction k with
    | zero => exact fun _ _ _ _ hV => hV.elim
    | succ k j_163 =>
      intro σ x2 x3 x4 hV
      simp only [VL_X1_baker_163] at hV
      generalize hKe163 : VL_X1_baker_163 Thr Ret k = K163 at hV j_163
      clear hKe163
      refine z_iload hC dX1_baker_163 rfl ?_
      refine z_bipush (v := 24) hC dX1_baker_165 rfl ?_
      refine z_icmp_ge (tgt := 199) hC dX1_baker_167 (by decide) (fun hc => ?_) (fun hc => ?_)
      · replace hV := hV.2 hc
        refine z_iload_n hC dX1_baker_199 rfl rfl ?_
        refine z_iconst (v := 1) hC dX1_baker_200 rfl ?_
        refine z_icmp_ne (tgt := 213) hC dX1_baker_201 (by decide) (fun hc => ?_) (fun hc => ?_)
        · replace hV := hV.2 hc
          refine z_aload_n hC dX1_baker_213 rfl rfl ?_
          refine g_X1_117_0 hC dX1_baker_214 ?_
          refine z_iload_n hC dX1_baker_217 rfl rfl ?_
          obtain ⟨h7, hV⟩ := hV
          refine z_iald hC dX1_baker_218 (k_43 _) (h7) ?_
          refine z_if_ne (tgt := 226) hC dX1_baker_219 (by decide) (fun hc => ?_) (fun hc => ?_)
          · replace hV := hV.2 hc
            refine z_iload_n hC dX1_baker_226 rfl rfl ?_
            exact z_iret hC dX1_baker_227 rfl (by rw [hQo]; exact Or.inl ⟨_, rfl, hV⟩)
          · replace hV := hV.1 hc
            refine z_iconst (v := (-1)) hC dX1_baker_222 rfl ?_
            refine z_goto (tgt := 227) hC dX1_baker_223 (by decide) ?_
            exact z_iret hC dX1_baker_227 rfl (by rw [hQo]; exact Or.inl ⟨_, rfl, hV⟩)
        · replace hV := hV.1 hc
          refine z_aload_n hC dX1_baker_204 rfl rfl ?_
          refine g_X1_117_0 hC dX1_baker_205 ?_
          refine z_iload_n hC dX1_baker_208 rfl rfl ?_
          obtain ⟨h8, hV⟩ := hV
          refine z_iald hC dX1_baker_209 (k_43 _) (h8) ?_
          refine z_goto (tgt := 227) hC dX1_baker_210 (by decide) ?_
          exact z_iret hC dX1_baker_227 rfl (by rw [hQo]; exact Or.inl ⟨_, rfl, hV⟩)
      · replace hV := hV.1 hc
        refine z_aload_n hC dX1_baker_170 rfl rfl ?_
        refine g_X1_117_0 hC dX1_baker_171 ?_
        refine z_iload hC dX1_baker_174 rfl ?_
        obtain ⟨h9, hV⟩ := hV
        refine z_iald hC dX1_baker_176 (k_43 _) (h9) ?_
        refine z_aload_n hC dX1_baker_177 rfl rfl ?_
        refine g_X1_117_0 hC dX1_baker_178 ?_
        refine z_iload_n hC dX1_baker_181 rfl rfl ?_
        obtain ⟨h10, hV⟩ := hV
        refine z_iald hC dX1_baker_182 (k_43 _) (h10) ?_
        refine z_icmp_le (tgt := 191) hC dX1_baker_183 (by decide) (fun hc => ?_) (fun hc => ?_)
        · replace hV := hV.2 hc
          refine z_iload_n hC dX1_baker_191 rfl rfl ?_
          refine z_istore_n hC dX1_baker_192 rfl (Nat.le_of_ble_eq_true rfl) rfl rfl ?_
          obtain ⟨y11, e_y11⟩ : ∃ z : Int32, z = x4 + 1 := ⟨_, rfl⟩
          replace hV := hV _ e_y11
          refine z_iinc (v := y11) hC dX1_baker_193 rfl (by rw [e_y11]; rfl) (Nat.le_of_ble_eq_true rfl) rfl rfl ?_
          refine z_goto (tgt := 163) hC dX1_baker_196 (by decide) ?_
          refine zz_sub (L' := [some (.ref (E.1.heap.size + 0)), none, some (.int x2), some (.int x3), some (.int y11), none, none, none]) ⟨rfl, rfl, rfl, rfl, trivial⟩ ?_
          exact j_163 σ x2 x3 y11 hV
        · replace hV := hV.1 hc
          refine z_iload hC dX1_baker_186 rfl ?_
          refine z_goto (tgt := 192) hC dX1_baker_188 (by decide) ?_
          refine z_istore_n hC dX1_baker_192 rfl (Nat.le_of_ble_eq_true rfl) rfl rfl ?_
          obtain ⟨y12, e_y12⟩ : ∃ z : Int32, z = x4 + 1 := ⟨_, rfl⟩
          replace hV := hV _ e_y12
          refine z_iinc (v := y12) hC dX1_baker_193 rfl (by rw [e_y12]; rfl) (Nat.le_of_ble_eq_true rfl) rfl rfl ?_
          refine z_goto (tgt := 163) hC dX1_baker_196 (by decide) ?_
          refine zz_sub (L' := [some (.ref (E.1.heap.size + 0)), none, some (.int x2), some (.int x4), some (.int y12), none, none, none]) ⟨rfl, rfl, rfl, rfl, trivial⟩ ?_
          exact j_163 σ x2 x4 y12 hV
  have j_48 : ∀ (σ : ZS) (x1 : Int32) (x2 : Int32) (x3 : Int32), V_X1_baker_48 Thr Ret σ x1 x2 x3 → zz C E NS 8 σ 48 [some (.ref (E.1.heap.size + 0)), some (.int x1), some (.int x2), some (.int x3), none, none, none, none] [] := by
    intro σ x1 x2 x3 ⟨k, hV⟩
    revert σ x1 x2 x3
    induction k with
    | zero => exact fun _ _ _ _ hV => hV.elim
    | succ k j_48 =>
      intro σ x1 x2 x3 hV
      simp only [VL_X1_baker_48] at hV
      generalize hKe48 : VL_X1_baker_48 Thr Ret k = K48 at hV j_48
      clear hKe48
      have j_59 : ∀ (σ : ZS) (x1 : Int32) (x2 : Int32) (x3 : Int32) (x4 : Int32), V_X1_baker_59 K48 Thr Ret σ x1 x2 x3 x4 → zz C E NS 8 σ 59 [some (.ref (E.1.heap.size + 0)), some (.int x1), some (.int x2), some (.int x3), some (.int x4), none, none, none] [] := by
        intro σ x1 x2 x3 x4 ⟨k, hV⟩
        revert σ x1 x2 x3 x4
        induction k with
        | zero => exact fun _ _ _ _ _ hV => hV.elim
        | succ k j_59 =>
          intro σ x1 x2 x3 x4 hV
          simp only [VL_X1_baker_59] at hV
          generalize hKe59 : VL_X1_baker_59 K48 Thr Ret k = K59 at hV j_59
          clear hKe59
          have j_116 : ∀ (σ : ZS) (x1 : Int32) (x2 : Int32) (x3 : Int32) (x4 : Int32) (x6 : Int32) (x7 : Int32), V_X1_baker_116 K48 K59 Thr Ret σ x1 x2 x3 x4 x6 x7 → zz C E NS 8 σ 116 [some (.ref (E.1.heap.size + 0)), some (.int x1), some (.int x2), some (.int x3), some (.int x4), none, some (.int x6), some (.int x7)] [] := by
            intro σ x1 x2 x3 x4 x6 x7 ⟨k, hV⟩
            revert σ x1 x2 x3 x4 x6 x7
            induction k with
            | zero => exact fun _ _ _ _ _ _ _ hV => hV.elim
            | succ k j_116 =>
              intro σ x1 x2 x3 x4 x6 x7 hV
              simp only [VL_X1_baker_116] at hV
              generalize hKe116 : VL_X1_baker_116 K48 K59 Thr Ret k = K116 at hV j_116
              clear hKe116
              refine z_iload hC dX1_baker_116 rfl ?_
              refine z_bipush (v := 24) hC dX1_baker_118 rfl ?_
              refine z_icmp_ge (tgt := 146) hC dX1_baker_120 (by decide) (fun hc => ?_) (fun hc => ?_)
              · replace hV := hV.2 hc
                obtain ⟨y18, e_y18⟩ : ∃ z : Int32, z = x4 + 1 := ⟨_, rfl⟩
                replace hV := hV _ e_y18
                refine z_iinc (v := y18) hC dX1_baker_146 rfl (by rw [e_y18]; rfl) (Nat.le_of_ble_eq_true rfl) rfl rfl ?_
                refine z_goto (tgt := 59) hC dX1_baker_149 (by decide) ?_
                refine zz_sub (L' := [some (.ref (E.1.heap.size + 0)), some (.int x1), some (.int x2), some (.int x3), some (.int y18), none, none, none]) ⟨rfl, rfl, rfl, rfl, rfl, trivial⟩ ?_
                exact j_59 σ x1 x2 x3 y18 hV
              · replace hV := hV.1 hc
                refine z_aload_n hC dX1_baker_123 rfl rfl ?_
                refine g_X1_117_0 hC dX1_baker_124 ?_
                refine z_iload hC dX1_baker_127 rfl ?_
                refine z_dup2 hC dX1_baker_129 rfl rfl ?_
                obtain ⟨h19, hV⟩ := hV
                refine z_iald hC dX1_baker_130 (k_43 _) (h19) ?_
                refine z_iload hC dX1_baker_131 rfl ?_
                refine z_iload hC dX1_baker_133 rfl ?_
                refine z_ishr hC dX1_baker_135 ?_
                refine z_iconst (v := 1) hC dX1_baker_136 rfl ?_
                refine z_iand hC dX1_baker_137 ?_
                refine z_iadd hC dX1_baker_138 ?_
                obtain ⟨h20, hV⟩ := hV
                refine z_iast hC dX1_baker_139 (k_43 _) (h20) ?_
                obtain ⟨σ21, e_σ21⟩ : ∃ z : ZS, z = sI σ 43 (ix x7) ((zI σ 43 (ix x7)) + ((x6 >>> (x7 &&& 31)) &&& 1)) := ⟨_, rfl⟩
                replace hV := hV _ e_σ21
                rw [← e_σ21]
                obtain ⟨y22, e_y22⟩ : ∃ z : Int32, z = x7 + 1 := ⟨_, rfl⟩
                replace hV := hV _ e_y22
                refine z_iinc (v := y22) hC dX1_baker_140 rfl (by rw [e_y22]; rfl) (Nat.le_of_ble_eq_true rfl) rfl rfl ?_
                refine z_goto (tgt := 116) hC dX1_baker_143 (by decide) ?_
                refine zz_sub (L' := [some (.ref (E.1.heap.size + 0)), some (.int x1), some (.int x2), some (.int x3), some (.int x4), none, some (.int x6), some (.int y22)]) ⟨rfl, rfl, rfl, rfl, rfl, rfl, rfl, trivial⟩ ?_
                exact j_116 σ21 x1 x2 x3 x4 x6 y22 hV
          have j_84 : ∀ (σ : ZS) (x1 : Int32) (x2 : Int32) (x3 : Int32) (x4 : Int32) (x5 : Int32) (x6 : Int32) (x7 : Int32), V_X1_baker_84 K48 K59 Thr Ret σ x1 x2 x3 x4 x5 x6 x7 → zz C E NS 8 σ 84 [some (.ref (E.1.heap.size + 0)), some (.int x1), some (.int x2), some (.int x3), some (.int x4), some (.int x5), some (.int x6), some (.int x7)] [] := by
            intro σ x1 x2 x3 x4 x5 x6 x7 ⟨k, hV⟩
            revert σ x1 x2 x3 x4 x5 x6 x7
            induction k with
            | zero => exact fun _ _ _ _ _ _ _ _ hV => hV.elim
            | succ k j_84 =>
              intro σ x1 x2 x3 x4 x5 x6 x7 hV
              simp only [VL_X1_baker_84] at hV
              generalize hKe84 : VL_X1_baker_84 K48 K59 Thr Ret k = K84 at hV j_84
              clear hKe84
              refine z_iload hC dX1_baker_84 rfl ?_
              refine z_iload hC dX1_baker_86 rfl ?_
              refine z_icmp_ge (tgt := 113) hC dX1_baker_88 (by decide) (fun hc => ?_) (fun hc => ?_)
              · replace hV := hV.2 hc
                refine z_iconst (v := 0) hC dX1_baker_113 rfl ?_
                refine z_istore hC dX1_baker_114 (Nat.le_of_ble_eq_true rfl) rfl rfl ?_
                refine zz_sub (L' := [some (.ref (E.1.heap.size + 0)), some (.int x1), some (.int x2), some (.int x3), some (.int x4), none, some (.int x6), some (.int 0)]) ⟨rfl, rfl, rfl, rfl, rfl, rfl, rfl, trivial⟩ ?_
                exact j_116 σ x1 x2 x3 x4 x6 0 hV
              · replace hV := hV.1 hc
                refine z_iload hC dX1_baker_91 rfl ?_
                refine z_iconst (v := 1) hC dX1_baker_93 rfl ?_
                refine z_aload_n hC dX1_baker_94 rfl rfl ?_
                refine g_X1_45_0 hC dX1_baker_95 ?_
                refine z_iload hC dX1_baker_98 rfl ?_
                obtain ⟨h23, hV⟩ := hV
                refine z_iald hC dX1_baker_100 (k_21 _) (h23) ?_
                refine z_iconst (v := 2) hC dX1_baker_101 rfl ?_
                refine z_idiv hC dX1_baker_102 (by decide) ?_
                refine z_ishl hC dX1_baker_103 ?_
                refine z_ior hC dX1_baker_104 ?_
                obtain ⟨y24, e_y24⟩ : ∃ z, z = x6 ||| ((1 : Int32) <<< (((zI σ 21 (ix x7)) / 2) &&& 31)) := ⟨_, rfl⟩
                rw [← e_y24]
                replace hV := hV _ e_y24
                refine z_istore hC dX1_baker_105 (Nat.le_of_ble_eq_true rfl) rfl rfl ?_
                obtain ⟨y25, e_y25⟩ : ∃ z : Int32, z = x7 + 1 := ⟨_, rfl⟩
                replace hV := hV _ e_y25
                refine z_iinc (v := y25) hC dX1_baker_107 rfl (by rw [e_y25]; rfl) (Nat.le_of_ble_eq_true rfl) rfl rfl ?_
                refine z_goto (tgt := 84) hC dX1_baker_110 (by decide) ?_
                refine zz_sub (L' := [some (.ref (E.1.heap.size + 0)), some (.int x1), some (.int x2), some (.int x3), some (.int x4), some (.int x5), some (.int y24), some (.int y25)]) ⟨rfl, rfl, rfl, rfl, rfl, rfl, rfl, rfl, trivial⟩ ?_
                exact j_84 σ x1 x2 x3 x4 x5 y24 y25 hV
          refine z_iload hC dX1_baker_59 rfl ?_
          refine z_aload_n hC dX1_baker_61 rfl rfl ?_
          refine c_X1_133 hC (by decide) dX1_baker_62 (Nat.le_of_ble_eq_true rfl) hV (fun r13 σ14 hV => ?_)
          refine z_icmp_ge (tgt := 152) hC dX1_baker_65 (by decide) (fun hc => ?_) (fun hc => ?_)
          · replace hV := hV.2 hc
            obtain ⟨y15, e_y15⟩ : ∃ z : Int32, z = x3 + 1 := ⟨_, rfl⟩
            replace hV := hV _ e_y15
            refine z_iinc (v := y15) hC dX1_baker_152 rfl (by rw [e_y15]; rfl) (Nat.le_of_ble_eq_true rfl) rfl rfl ?_
            refine z_goto (tgt := 48) hC dX1_baker_155 (by decide) ?_
            refine zz_sub (L' := [some (.ref (E.1.heap.size + 0)), some (.int x1), some (.int x2), some (.int y15), none, none, none, none]) ⟨rfl, rfl, rfl, rfl, trivial⟩ ?_
            exact j_48 σ14 x1 x2 y15 hV
          · replace hV := hV.1 hc
            refine z_aload_n hC dX1_baker_68 rfl rfl ?_
            refine z_iload_n hC dX1_baker_69 rfl rfl ?_
            refine z_iload hC dX1_baker_70 rfl ?_
            refine z_iload_n hC dX1_baker_72 rfl rfl ?_
            refine c_X1_305 hC (by decide) dX1_baker_73 (Nat.le_of_ble_eq_true rfl) hV (fun r16 σ17 hV => ?_)
            refine z_istore hC dX1_baker_76 (Nat.le_of_ble_eq_true rfl) rfl rfl ?_
            refine z_iconst (v := 0) hC dX1_baker_78 rfl ?_
            refine z_istore hC dX1_baker_79 (Nat.le_of_ble_eq_true rfl) rfl rfl ?_
            refine z_iconst (v := 0) hC dX1_baker_81 rfl ?_
            refine z_istore hC dX1_baker_82 (Nat.le_of_ble_eq_true rfl) rfl rfl ?_
            refine zz_sub (L' := [some (.ref (E.1.heap.size + 0)), some (.int x1), some (.int x2), some (.int x3), some (.int x4), some (.int r16), some (.int 0), some (.int 0)]) ⟨rfl, rfl, rfl, rfl, rfl, rfl, rfl, rfl, trivial⟩ ?_
            exact j_84 σ17 x1 x2 x3 x4 r16 0 0 hV
      refine z_iload_n hC dX1_baker_48 rfl rfl ?_
      refine z_aload_n hC dX1_baker_49 rfl rfl ?_
      refine c_X1_133 hC (by decide) dX1_baker_50 (Nat.le_of_ble_eq_true rfl) hV (fun r5 σ6 hV => ?_)
      refine z_icmp_ge (tgt := 158) hC dX1_baker_53 (by decide) (fun hc => ?_) (fun hc => ?_)
      · replace hV := hV.2 hc
        refine z_iconst (v := 0) hC dX1_baker_158 rfl ?_
        refine z_istore_n hC dX1_baker_159 rfl (Nat.le_of_ble_eq_true rfl) rfl rfl ?_
        refine z_iconst (v := 1) hC dX1_baker_160 rfl ?_
        refine z_istore hC dX1_baker_161 (Nat.le_of_ble_eq_true rfl) rfl rfl ?_
        refine zz_sub (L' := [some (.ref (E.1.heap.size + 0)), none, some (.int x2), some (.int 0), some (.int 1), none, none, none]) ⟨rfl, rfl, rfl, rfl, trivial⟩ ?_
        exact j_163 σ6 x2 0 1 hV
      · replace hV := hV.1 hc
        refine z_iconst (v := 0) hC dX1_baker_56 rfl ?_
        refine z_istore hC dX1_baker_57 (Nat.le_of_ble_eq_true rfl) rfl rfl ?_
        refine zz_sub (L' := [some (.ref (E.1.heap.size + 0)), some (.int x1), some (.int x2), some (.int x3), some (.int 0), none, none, none]) ⟨rfl, rfl, rfl, rfl, rfl, trivial⟩ ?_
        exact j_59 σ6 x1 x2 x3 0 hV
  have j_27 : ∀ (σ : ZS) (x1 : Int32) (x2 : Int32) (x3 : Int32), V_X1_baker_27 Thr Ret σ x1 x2 x3 → zz C E NS 8 σ 27 [some (.ref (E.1.heap.size + 0)), some (.int x1), some (.int x2), some (.int x3), none, none, none, none] [] := by
    intro σ x1 x2 x3 ⟨k, hV⟩
    revert σ x1 x2 x3
    induction k with
    | zero => exact fun _ _ _ _ hV => hV.elim
    | succ k j_27 =>
      intro σ x1 x2 x3 hV
      simp only [VL_X1_baker_27] at hV
      generalize hKe27 : VL_X1_baker_27 Thr Ret k = K27 at hV j_27
      clear hKe27
      refine z_iload_n hC dX1_baker_27 rfl rfl ?_
      refine z_bipush (v := 24) hC dX1_baker_28 rfl ?_
      refine z_icmp_ge (tgt := 46) hC dX1_baker_30 (by decide) (fun hc => ?_) (fun hc => ?_)
      · replace hV := hV.2 hc
        refine z_iconst (v := 0) hC dX1_baker_46 rfl ?_
        refine z_istore_n hC dX1_baker_47 rfl (Nat.le_of_ble_eq_true rfl) rfl rfl ?_
        refine zz_sub (L' := [some (.ref (E.1.heap.size + 0)), some (.int x1), some (.int x2), some (.int 0), none, none, none, none]) ⟨rfl, rfl, rfl, rfl, trivial⟩ ?_
        exact j_48 σ x1 x2 0 hV
      · replace hV := hV.1 hc
        refine z_aload_n hC dX1_baker_33 rfl rfl ?_
        refine g_X1_117_0 hC dX1_baker_34 ?_
        refine z_iload_n hC dX1_baker_37 rfl rfl ?_
        refine z_iconst (v := 0) hC dX1_baker_38 rfl ?_
        obtain ⟨h26, hV⟩ := hV
        refine z_iast hC dX1_baker_39 (k_43 _) (h26) ?_
        obtain ⟨σ27, e_σ27⟩ : ∃ z : ZS, z = sI σ 43 (ix x3) 0 := ⟨_, rfl⟩
        replace hV := hV _ e_σ27
        rw [← e_σ27]
        obtain ⟨y28, e_y28⟩ : ∃ z : Int32, z = x3 + 1 := ⟨_, rfl⟩
        replace hV := hV _ e_y28
        refine z_iinc (v := y28) hC dX1_baker_40 rfl (by rw [e_y28]; rfl) (Nat.le_of_ble_eq_true rfl) rfl rfl ?_
        refine z_goto (tgt := 27) hC dX1_baker_43 (by decide) ?_
        refine zz_sub (L' := [some (.ref (E.1.heap.size + 0)), some (.int x1), some (.int x2), some (.int y28), none, none, none, none]) ⟨rfl, rfl, rfl, rfl, trivial⟩ ?_
        exact j_27 σ27 x1 x2 y28 hV
  refine z_aload_n hC dX1_baker_0 rfl rfl ?_
  refine z_iload_n hC dX1_baker_1 rfl rfl ?_
  refine c_X1_254 hC (by decide) dX1_baker_2 (Nat.le_of_ble_eq_true rfl) hV (fun r1 σ2 hV => ?_)
  refine z_if_eq (tgt := 21) hC dX1_baker_5 (by decide) (fun hc => ?_) (fun hc => ?_)
  · replace hV := hV.1 hc
    refine z_iconst (v := 0) hC dX1_baker_21 rfl ?_
    refine c_X1_164 hC (by decide) dX1_baker_22 (Nat.le_of_ble_eq_true rfl) hV (fun σ4 hV => ?_) (fun x σ hV => zth_out hC (by rw [hQo]; exact Or.inr ⟨_, rfl, hV⟩))
    refine z_iconst (v := 0) hC dX1_baker_25 rfl ?_
    refine z_istore_n hC dX1_baker_26 rfl (Nat.le_of_ble_eq_true rfl) rfl rfl ?_
    refine zz_sub (L' := [some (.ref (E.1.heap.size + 0)), some (.int a1), some (.int a2), some (.int 0), none, none, none, none]) ⟨rfl, rfl, rfl, rfl, trivial⟩ ?_
    exact j_27 σ4 a1 a2 0 hV
  · replace hV := hV.2 hc
    refine z_iload_n hC dX1_baker_8 rfl rfl ?_
    refine z_if_eq (tgt := 17) hC dX1_baker_9 (by decide) (fun hc => ?_) (fun hc => ?_)
    · replace hV := hV.1 hc
      refine z_iconst (v := 1) hC dX1_baker_17 rfl ?_
      refine z_goto (tgt := 22) hC dX1_baker_18 (by decide) ?_
      refine c_X1_164 hC (by decide) dX1_baker_22 (Nat.le_of_ble_eq_true rfl) hV (fun σ30 hV => ?_) (fun x σ hV => zth_out hC (by rw [hQo]; exact Or.inr ⟨_, rfl, hV⟩))
      refine z_iconst (v := 0) hC dX1_baker_25 rfl ?_
      refine z_istore_n hC dX1_baker_26 rfl (Nat.le_of_ble_eq_true rfl) rfl rfl ?_
      refine zz_sub (L' := [some (.ref (E.1.heap.size + 0)), some (.int a1), some (.int a2), some (.int 0), none, none, none, none]) ⟨rfl, rfl, rfl, rfl, trivial⟩ ?_
      exact j_27 σ30 a1 a2 0 hV
    · replace hV := hV.2 hc
      refine z_iload_n hC dX1_baker_12 rfl rfl ?_
      refine z_iconst (v := 1) hC dX1_baker_13 rfl ?_
      refine z_icmp_ne (tgt := 21) hC dX1_baker_14 (by decide) (fun hc => ?_) (fun hc => ?_)
      · replace hV := hV.2 hc
        refine z_iconst (v := 0) hC dX1_baker_21 rfl ?_
        refine c_X1_164 hC (by decide) dX1_baker_22 (Nat.le_of_ble_eq_true rfl) hV (fun σ32 hV => ?_) (fun x σ hV => zth_out hC (by rw [hQo]; exact Or.inr ⟨_, rfl, hV⟩))
        refine z_iconst (v := 0) hC dX1_baker_25 rfl ?_
        refine z_istore_n hC dX1_baker_26 rfl (Nat.le_of_ble_eq_true rfl) rfl rfl ?_
        refine zz_sub (L' := [some (.ref (E.1.heap.size + 0)), some (.int a1), some (.int a2), some (.int 0), none, none, none, none]) ⟨rfl, rfl, rfl, rfl, trivial⟩ ?_
        exact j_27 σ32 a1 a2 0 hV
      · replace hV := hV.1 hc
        refine z_iconst (v := 1) hC dX1_baker_17 rfl ?_
        refine z_goto (tgt := 22) hC dX1_baker_18 (by decide) ?_
        refine c_X1_164 hC (by decide) dX1_baker_22 (Nat.le_of_ble_eq_true rfl) hV (fun σ34 hV => ?_) (fun x σ hV => zth_out hC (by rw [hQo]; exact Or.inr ⟨_, rfl, hV⟩))
        refine z_iconst (v := 0) hC dX1_baker_25 rfl ?_
        refine z_istore_n hC dX1_baker_26 rfl (Nat.le_of_ble_eq_true rfl) rfl rfl ?_
        refine zz_sub (L' := [some (.ref (E.1.heap.size + 0)), some (.int a1), some (.int a2), some (.int 0), none, none, none, none]) ⟨rfl, rfl, rfl, rfl, trivial⟩ ?_
        exact j_27 σ34 a1 a2 0 hV
theorem dv_14 : ∀ k, k < 6 → defaultValue (tyJ19 k) = (match fty 14 k with | 0 => Value.int 0 | 1 => .long 0 | _ => .null) := by decide +kernel
def wp_X1_needCorner (σ : ZS) (a1 : Int32) (Thr : Nat → ZS → Prop) (Ret : ZS → Prop) : Prop :=
    ((a1 < 0 → ((NS ≤ zt σ ∧ zt σ + 1 ≤ NB ∧ zn σ + 6 ≤ SB) ∧ (∀ σ2 : ZS, exc (sA σ (21, 0) 6) (zt σ) σ2 → (Thr (zt σ) σ2)))) ∧ (¬ a1 < 0 → (wp_X1_corners σ (fun r4 σ5 => ((a1 < r4 → (Ret σ5)) ∧ (¬ a1 < r4 → ((NS ≤ zt σ5 ∧ zt σ5 + 1 ≤ NB ∧ zn σ5 + 6 ≤ SB) ∧ (∀ σ7 : ZS, exc (sA σ5 (21, 0) 6) (zt σ5) σ7 → (Thr (zt σ5) σ7)))))))))
set_option maxHeartbeats 4000000 in
theorem mz_X1_needCorner {l : Launch} {E : ZE} (hE : EOK E) {σ : ZS} {a1 : Int32} {Thr : Nat → ZS → Prop} {Ret : ZS → Prop} (hV : wp_X1_needCorner σ a1 Thr Ret) : MZ l E NS yX1_needCorner (ws_ yX1_needCorner cX1_needCorner 2 none) 6 σ [.ref (E.1.heap.size + 0), .int a1] (rT E.1.heap.size (rV Ret) Thr) := by
  refine MZ.start (L := [some (.ref (E.1.heap.size + 0)), some (.int a1)]) hE (by decide) (Nat.le_of_ble_eq_true rfl) rfl fun C hCl hQo hC => ?_
  replace hC : Cx C E cX1_needCorner 2 "RightTurns" "needCorner" none [] 6 := hC
  unfold wp_X1_needCorner at hV
  refine z_iload_n hC dX1_needCorner_0 rfl rfl ?_
  refine z_if_lt (tgt := 12) hC dX1_needCorner_1 (by decide) (fun hc => ?_) (fun hc => ?_)
  · replace hV := hV.1 hc
    obtain ⟨h1, hV⟩ := hV
    refine z_excG cf14 hC dX1_needCorner_12 dX1_needCorner_15 dX1_needCorner_16 q1276 q1277 q146 dv_14 q1285 (by decide +kernel) (fun _ _ h => ch_at14 h) q1279 q213 q1280 q1281 q1282 q1284 rfl rfl rfl (by decide) h1.1 h1.2.1 h1.2.2 (by decide) (Nat.le_of_ble_eq_true rfl) (fun σ2 h3 => ?_)
    replace hV := hV σ2 h3
    exact z_athrow hC dX1_needCorner_19 (zth_out hC (by rw [hQo]; exact Or.inr ⟨_, rfl, hV⟩))
  · replace hV := hV.2 hc
    refine z_iload_n hC dX1_needCorner_4 rfl rfl ?_
    refine z_aload_n hC dX1_needCorner_5 rfl rfl ?_
    refine c_X1_133 hC (by decide) dX1_needCorner_6 (Nat.le_of_ble_eq_true rfl) hV (fun r4 σ5 hV => ?_)
    refine z_icmp_lt (tgt := 20) hC dX1_needCorner_9 (by decide) (fun hc => ?_) (fun hc => ?_)
    · replace hV := hV.1 hc
      exact z_vret hC dX1_needCorner_20 (by rw [hQo]; exact Or.inl ⟨rfl, hV⟩)
    · replace hV := hV.2 hc
      obtain ⟨h6, hV⟩ := hV
      refine z_excG cf14 hC dX1_needCorner_12 dX1_needCorner_15 dX1_needCorner_16 q1276 q1277 q146 dv_14 q1285 (by decide +kernel) (fun _ _ h => ch_at14 h) q1279 q213 q1280 q1281 q1282 q1284 rfl rfl rfl (by decide) h6.1 h6.2.1 h6.2.2 (by decide) (Nat.le_of_ble_eq_true rfl) (fun σ7 h8 => ?_)
      replace hV := hV σ7 h8
      exact z_athrow hC dX1_needCorner_19 (zth_out hC (by rw [hQo]; exact Or.inr ⟨_, rfl, hV⟩))
theorem g_X1_72_0 {C : ZC} {E : ZE} {cc : ByteArray} {nL pc d : Nat} {nm : String} {ret : Option FieldType} {hh : List (Nat × Nat × Nat × Nat)} {σ : ZS} {L : List (Option Value)} {st : List Value} (hC : Cx C E cc nL "RightTurns" nm ret hh d) (hd : decode cc pc = .ok (.getfield 72, 3)) (k : zz C E NS nL σ (pc + 3) L (.ref (E.1.heap.size + 29) :: st)) : zz C E NS nL σ pc L (.ref (E.1.heap.size + 0) :: st) :=
  z_get hC cf0 hd (k_0 σ) (k := 20) (by decide) (Or.inl q601) (Or.inl rfl) rfl k
theorem g_X1_75_0 {C : ZC} {E : ZE} {cc : ByteArray} {nL pc d : Nat} {nm : String} {ret : Option FieldType} {hh : List (Nat × Nat × Nat × Nat)} {σ : ZS} {L : List (Option Value)} {st : List Value} (hC : Cx C E cc nL "RightTurns" nm ret hh d) (hd : decode cc pc = .ok (.getfield 75, 3)) (k : zz C E NS nL σ (pc + 3) L (.ref (E.1.heap.size + 30) :: st)) : zz C E NS nL σ pc L (.ref (E.1.heap.size + 0) :: st) :=
  z_get hC cf0 hd (k_0 σ) (k := 21) (by decide) (Or.inl q602) (Or.inl rfl) rfl k
theorem g_X1_78_0 {C : ZC} {E : ZE} {cc : ByteArray} {nL pc d : Nat} {nm : String} {ret : Option FieldType} {hh : List (Nat × Nat × Nat × Nat)} {σ : ZS} {L : List (Option Value)} {st : List Value} (hC : Cx C E cc nL "RightTurns" nm ret hh d) (hd : decode cc pc = .ok (.getfield 78, 3)) (k : zz C E NS nL σ (pc + 3) L (.ref (E.1.heap.size + 31) :: st)) : zz C E NS nL σ pc L (.ref (E.1.heap.size + 0) :: st) :=
  z_get hC cf0 hd (k_0 σ) (k := 22) (by decide) (Or.inl q603) (Or.inl rfl) rfl k
theorem cw_X1_needCorner : CodeW yX1_needCorner (ws_ yX1_needCorner cX1_needCorner 2 none) 2 := ⟨fun w h => (List.mem_cons.mp h).elim (fun e => e ▸ q1275) id, Or.inl ⟨_, _, q1275⟩, q116, by decide, by decide⟩
theorem c_X1_294 {C : ZC} {E : ZE} {cc : ByteArray} {nL pc d : Nat} {nm : String} {ret : Option FieldType} {hh : List (Nat × Nat × Nat × Nat)} {σ : ZS} {L : List (Option Value)} {st : List Value} {a1 : Int32} {Ret : ZS → Prop} {Thr : Nat → ZS → Prop} (hC : Cx C E cc nL "RightTurns" nm ret hh d) (hdd : 6 + 1 ≤ d) (hd : decode cc pc = .ok (.invokevirtual 294, 3)) (hW : (st.map fun v => v.category).sum ≤ 8) (hV : wp_X1_needCorner σ a1 Thr Ret) (k : ∀ σ', Ret σ' → zz C E NS nL σ' (pc + 3) L st) (kt : ∀ a σ', Thr a σ' → zth C E NS nL σ' pc L st (E.1.heap.size + a)) : zz C E NS nL σ pc L (.int a1 :: .ref (E.1.heap.size + 0) :: st) :=
  z_callVG hC cf0 cw_X1_needCorner hdd (by decide) (mz_X1_needCorner (cxE hC) hV) hd (k_0 σ) q1272 q1274 qs20 (np := 1) rfl rfl hW rfl (kT (kV k) kt)
def V_X1_bound_255 (K166 : ZS → Int32 → Int32 → Prop) (K196 : ZS → Int32 → Int32 → Int32 → Int32 → Prop) (Thr : Nat → ZS → Prop) (Ret : Int32 → ZS → Prop) (σ : ZS) (x3 : Int32) (x4 : Int32) (x5 : Int32) (x6 : Int32) (s0 : Int32) (s1 : Int32) (s2 : Int32) (s3 : Nat) : Prop :=
    vp_in ((x3 * x5) + x6) 121 ∧ (∃ n23, kK NS σ s3 = (0, n23) ∧ (vp_in s2 n23 ∧ (∀ σ25 : ZS, σ25 = sI σ s3 (ix s2) (if (s0 + (zI σ 30 (ix ((x3 * x5) + x6)))) < s1 then (s0 + (zI σ 30 (ix ((x3 * x5) + x6)))) else s1) → (∀ y26 : Int32, y26 = x6 + 1 → (K196 σ25 x3 x4 x5 y26)))))
def VL_X1_bound_196 (K166 : ZS → Int32 → Int32 → Prop) (Thr : Nat → ZS → Prop) (Ret : Int32 → ZS → Prop) : Nat → ZS → Int32 → Int32 → Int32 → Int32 → Prop
  | 0 => fun _ _ _ _ _ => False
  | k + 1 => fun σ x3 x4 x5 x6 =>
    let K196 := VL_X1_bound_196 K166 Thr Ret k
    ((x6 < x3 → (((((x4 >>> (x6 &&& 31)) &&& 1) = 0 → (∀ y27 : Int32, y27 = x6 + 1 → (K196 σ x3 x4 x5 y27))) ∧ (¬ ((x4 >>> (x6 &&& 31)) &&& 1) = 0 → (∀ y17 : Int32, y17 = x4 &&& (((1 : Int32) <<< (x6 &&& 31)) ^^^ (-1)) → (vp_in x4 2048 ∧ (((y17 = 0 → (V_X1_bound_255 K166 K196 Thr Ret σ x3 x4 x5 x6 0 (zI σ 31 (ix x4)) x4 31)) ∧ (¬ y17 = 0 → (vp_in y17 2048 ∧ (V_X1_bound_255 K166 K196 Thr Ret σ x3 x4 x5 x6 (zI σ 31 (ix y17)) (zI σ 31 (ix x4)) x4 31))))))))))) ∧ (¬ x6 < x3 → (∀ y16 : Int32, y16 = x4 + 1 → (K166 σ x3 y16))))
def V_X1_bound_196 (K166 : ZS → Int32 → Int32 → Prop) (Thr : Nat → ZS → Prop) (Ret : Int32 → ZS → Prop) (σ : ZS) (x3 : Int32) (x4 : Int32) (x5 : Int32) (x6 : Int32) : Prop := ∃ k, VL_X1_bound_196 K166 Thr Ret k σ x3 x4 x5 x6
def VL_X1_bound_166 (Thr : Nat → ZS → Prop) (Ret : Int32 → ZS → Prop) : Nat → ZS → Int32 → Int32 → Prop
  | 0 => fun _ _ _ => False
  | k + 1 => fun σ x3 x4 =>
    let K166 := VL_X1_bound_166 Thr Ret k
    ((x4 < ((1 : Int32) <<< (x3 &&& 31)) → (wp_J16_bitCount σ x4 (fun r11 σ12 => ∀ y13 : Int32, y13 = r11 - 1 → (vp_in x4 2048 ∧ (∀ σ15 : ZS, σ15 = sI σ12 31 (ix x4) 1000000 → (V_X1_bound_196 K166 Thr Ret σ15 x3 x4 y13 0)))))) ∧ (¬ x4 < ((1 : Int32) <<< (x3 &&& 31)) → (vp_in (((1 : Int32) <<< (x3 &&& 31)) - 1) 2048 ∧ ((((zI σ 31 (ix (((1 : Int32) <<< (x3 &&& 31)) - 1))) < 1000000 → (vp_in (((1 : Int32) <<< (x3 &&& 31)) - 1) 2048 ∧ (Ret (zI σ 31 (ix (((1 : Int32) <<< (x3 &&& 31)) - 1))) σ))) ∧ (¬ (zI σ 31 (ix (((1 : Int32) <<< (x3 &&& 31)) - 1))) < 1000000 → (Ret (-1) σ)))))))
def V_X1_bound_166 (Thr : Nat → ZS → Prop) (Ret : Int32 → ZS → Prop) (σ : ZS) (x3 : Int32) (x4 : Int32) : Prop := ∃ k, VL_X1_bound_166 Thr Ret k σ x3 x4
def V_X1_bound_123 (K78 : ZS → Int32 → Int32 → Int32 → Prop) (K87 : ZS → Int32 → Int32 → Int32 → Int32 → Prop) (Thr : Nat → ZS → Prop) (Ret : Int32 → ZS → Prop) (σ : ZS) (x2 : Int32) (x3 : Int32) (x4 : Int32) (x5 : Int32) (s0 : Int32) : Prop :=
    ((s0 = (-1) → (vp_in ((x3 * x4) + x5) 121 ∧ (∀ σ37 : ZS, σ37 = sI σ 30 (ix ((x3 * x4) + x5)) 1000000 → (∀ y38 : Int32, y38 = x5 + 1 → (K87 σ37 x2 x3 x4 y38))))) ∧ (¬ s0 = (-1) → (vp_in ((x3 * x4) + x5) 121 ∧ (∀ σ34 : ZS, σ34 = sI σ 30 (ix ((x3 * x4) + x5)) s0 → (∀ y35 : Int32, y35 = x5 + 1 → (K87 σ34 x2 x3 x4 y35))))))
def VL_X1_bound_87 (K78 : ZS → Int32 → Int32 → Int32 → Prop) (Thr : Nat → ZS → Prop) (Ret : Int32 → ZS → Prop) : Nat → ZS → Int32 → Int32 → Int32 → Int32 → Prop
  | 0 => fun _ _ _ _ _ => False
  | k + 1 => fun σ x2 x3 x4 x5 =>
    let K87 := VL_X1_bound_87 K78 Thr Ret k
    ((x5 < x3 → (((x4 = x5 → (V_X1_bound_123 K78 K87 Thr Ret σ x2 x3 x4 x5 (-1))) ∧ (¬ x4 = x5 → (vp_in x4 11 ∧ (vp_in x5 11 ∧ (wp_X1_rideOf σ (zI σ 29 (ix x4)) (zI σ 29 (ix x5)) x2 (fun r31 σ32 => V_X1_bound_123 K78 K87 Thr Ret σ32 x2 x3 x4 x5 r31)))))))) ∧ (¬ x5 < x3 → (∀ y28 : Int32, y28 = x4 + 1 → (K78 σ x2 x3 y28))))
def V_X1_bound_87 (K78 : ZS → Int32 → Int32 → Int32 → Prop) (Thr : Nat → ZS → Prop) (Ret : Int32 → ZS → Prop) (σ : ZS) (x2 : Int32) (x3 : Int32) (x4 : Int32) (x5 : Int32) : Prop := ∃ k, VL_X1_bound_87 K78 Thr Ret k σ x2 x3 x4 x5
def VL_X1_bound_78 (Thr : Nat → ZS → Prop) (Ret : Int32 → ZS → Prop) : Nat → ZS → Int32 → Int32 → Int32 → Prop
  | 0 => fun _ _ _ _ => False
  | k + 1 => fun σ x2 x3 x4 =>
    let K78 := VL_X1_bound_78 Thr Ret k
    ((x4 < x3 → (V_X1_bound_87 K78 Thr Ret σ x2 x3 x4 0)) ∧ (¬ x4 < x3 → (V_X1_bound_166 Thr Ret σ x3 1)))
def V_X1_bound_78 (Thr : Nat → ZS → Prop) (Ret : Int32 → ZS → Prop) (σ : ZS) (x2 : Int32) (x3 : Int32) (x4 : Int32) : Prop := ∃ k, VL_X1_bound_78 Thr Ret k σ x2 x3 x4
def V_X1_bound_51 (K18 : ZS → Int32 → Int32 → Int32 → Int32 → Prop) (Thr : Nat → ZS → Prop) (Ret : Int32 → ZS → Prop) (σ : ZS) (x1 : Int32) (x2 : Int32) (x3 : Int32) (x4 : Int32) : Prop :=
    vp_in x3 11 ∧ (∀ σ40 : ZS, σ40 = sI σ 29 (ix x3) x4 → (∀ y41 : Int32, y41 = x3 + 1 → (∀ y42 : Int32, y42 = x4 + 1 → (K18 σ40 x1 x2 y41 y42))))
def VL_X1_bound_18 (Thr : Nat → ZS → Prop) (Ret : Int32 → ZS → Prop) : Nat → ZS → Int32 → Int32 → Int32 → Int32 → Prop
  | 0 => fun _ _ _ _ _ => False
  | k + 1 => fun σ x1 x2 x3 x4 =>
    let K18 := VL_X1_bound_18 Thr Ret k
    wp_X1_corners σ (fun r7 σ8 => ((x4 < r7 → (((x4 = x1 → (V_X1_bound_51 K18 Thr Ret σ8 x1 x2 x3 x4)) ∧ (¬ x4 = x1 → ((zP σ8 0 0) = some (.inl (zo (zP σ8 0 0))) ∧ ((∃ n45, kK NS σ8 (zo (zP σ8 0 0)) = (8, n45)) ∧ ((((((zI σ8 (zo (zP σ8 0 0)) 7) >>> (x4 &&& 31)) &&& 1) = 0 → (∀ y46 : Int32, y46 = x4 + 1 → (K18 σ8 x1 x2 x3 y46))) ∧ (¬ (((zI σ8 (zo (zP σ8 0 0)) 7) >>> (x4 &&& 31)) &&& 1) = 0 → (V_X1_bound_51 K18 Thr Ret σ8 x1 x2 x3 x4)))))))))) ∧ (¬ x4 < r7 → (((x3 = 1 → (Ret 0 σ8)) ∧ (¬ x3 = 1 → (V_X1_bound_78 Thr Ret σ8 x2 x3 0)))))))
def V_X1_bound_18 (Thr : Nat → ZS → Prop) (Ret : Int32 → ZS → Prop) (σ : ZS) (x1 : Int32) (x2 : Int32) (x3 : Int32) (x4 : Int32) : Prop := ∃ k, VL_X1_bound_18 Thr Ret k σ x1 x2 x3 x4
def wp_X1_bound (σ : ZS) (a1 : Int32) (a2 : Int32) (Thr : Nat → ZS → Prop) (Ret : Int32 → ZS → Prop) : Prop :=
    wp_X1_needCorner σ a1 (fun x σ => Thr x σ) (fun σ2 => wp_X1_isTime σ2 a2 (fun r3 σ4 => wp_X1_need σ4 r3 (fun x σ => Thr x σ) (fun σ6 => V_X1_bound_18 Thr Ret σ6 a1 a2 0 0)))
set_option maxHeartbeats 4000000 in
theorem mz_X1_bound {l : Launch} {E : ZE} (hE : EOK E) {σ : ZS} {a1 : Int32} {a2 : Int32} {Thr : Nat → ZS → Prop} {Ret : Int32 → ZS → Prop} (hV : wp_X1_bound σ a1 a2 Thr Ret) : MZ l E NS yX1_bound (ws_ yX1_bound cX1_bound 8 (some .int)) 10 σ [.ref (E.1.heap.size + 0), .int a1, .int a2] (rT E.1.heap.size (rI Ret) Thr) := by
  refine MZ.start (L := [some (.ref (E.1.heap.size + 0)), some (.int a1), some (.int a2), none, none, none, none, none]) hE (by decide) (Nat.le_of_ble_eq_true rfl) rfl fun C hCl hQo hC => ?_
  replace hC : Cx C E cX1_bound 8 "RightTurns" "bound" (some .int) [] 10 := hC
  unfold wp_X1_bound at hV
  have j_166 : ∀ (σ : ZS) (x3 : Int32) (x4 : Int32), V_X1_bound_166 Thr Ret σ x3 x4 → zz C E NS 8 σ 166 [some (.ref (E.1.heap.size + 0)), none, none, some (.int x3), some (.int x4), none, none, none] [] := by
    intro σ x3 x4 ⟨k, hV⟩
    revert σ x3 x4
    induction k with
    | zero => exact fun _ _ _ hV => hV.elim
    | succ k j_166 =>
      intro σ x3 x4 hV
      simp only [VL_X1_bound_166] at hV
      generalize hKe166 : VL_X1_bound_166 Thr Ret k = K166 at hV j_166
      clear hKe166
      have j_196 : ∀ (σ : ZS) (x3 : Int32) (x4 : Int32) (x5 : Int32) (x6 : Int32), V_X1_bound_196 K166 Thr Ret σ x3 x4 x5 x6 → zz C E NS 8 σ 196 [some (.ref (E.1.heap.size + 0)), none, none, some (.int x3), some (.int x4), some (.int x5), some (.int x6), none] [] := by
        intro σ x3 x4 x5 x6 ⟨k, hV⟩
        revert σ x3 x4 x5 x6
        induction k with
        | zero => exact fun _ _ _ _ _ hV => hV.elim
        | succ k j_196 =>
          intro σ x3 x4 x5 x6 hV
          simp only [VL_X1_bound_196] at hV
          generalize hKe196 : VL_X1_bound_196 K166 Thr Ret k = K196 at hV j_196
          clear hKe196
          have j_255 : ∀ (σ : ZS) (x3 : Int32) (x4 : Int32) (x5 : Int32) (x6 : Int32) (s0 : Int32) (s1 : Int32) (s2 : Int32) (s3 : Nat), V_X1_bound_255 K166 K196 Thr Ret σ x3 x4 x5 x6 s0 s1 s2 s3 → zz C E NS 8 σ 255 [some (.ref (E.1.heap.size + 0)), none, none, some (.int x3), some (.int x4), some (.int x5), some (.int x6), none] [.int s0, .int s1, .int s2, .ref (E.1.heap.size + s3)] := by
            intro σ x3 x4 x5 x6 s0 s1 s2 s3 hV
            unfold V_X1_bound_255 at hV
            refine z_aload_n hC dX1_bound_255 rfl rfl ?_
            refine g_X1_75_0 hC dX1_bound_256 ?_
            refine z_iload_n hC dX1_bound_259 rfl rfl ?_
            refine z_iload hC dX1_bound_260 rfl ?_
            refine z_imul hC dX1_bound_262 ?_
            refine z_iload hC dX1_bound_263 rfl ?_
            refine z_iadd hC dX1_bound_265 ?_
            obtain ⟨h20, hV⟩ := hV
            refine z_iald hC dX1_bound_266 (k_30 _) (h20) ?_
            refine z_iadd hC dX1_bound_267 ?_
            refine z_mmin hC dX1_bound_268 q1311 (by decide) (Nat.le_of_ble_eq_true rfl) ?_
            obtain ⟨n23, h22, hV⟩ := hV
            obtain ⟨h24, hV⟩ := hV
            refine z_iast hC dX1_bound_271 h22 (h24) ?_
            obtain ⟨σ25, e_σ25⟩ : ∃ z : ZS, z = sI σ s3 (ix s2) (if (s0 + (zI σ 30 (ix ((x3 * x5) + x6)))) < s1 then (s0 + (zI σ 30 (ix ((x3 * x5) + x6)))) else s1) := ⟨_, rfl⟩
            replace hV := hV _ e_σ25
            rw [← e_σ25]
            obtain ⟨y26, e_y26⟩ : ∃ z : Int32, z = x6 + 1 := ⟨_, rfl⟩
            replace hV := hV _ e_y26
            refine z_iinc (v := y26) hC dX1_bound_272 rfl (by rw [e_y26]; rfl) (Nat.le_of_ble_eq_true rfl) rfl rfl ?_
            refine z_goto (tgt := 196) hC dX1_bound_275 (by decide) ?_
            refine zz_sub (L' := [some (.ref (E.1.heap.size + 0)), none, none, some (.int x3), some (.int x4), some (.int x5), some (.int y26), none]) ⟨rfl, rfl, rfl, rfl, rfl, trivial⟩ ?_
            exact j_196 σ25 x3 x4 x5 y26 hV
          refine z_iload hC dX1_bound_196 rfl ?_
          refine z_iload_n hC dX1_bound_198 rfl rfl ?_
          refine z_icmp_ge (tgt := 278) hC dX1_bound_199 (by decide) (fun hc => ?_) (fun hc => ?_)
          · replace hV := hV.2 hc
            obtain ⟨y16, e_y16⟩ : ∃ z : Int32, z = x4 + 1 := ⟨_, rfl⟩
            replace hV := hV _ e_y16
            refine z_iinc (v := y16) hC dX1_bound_278 rfl (by rw [e_y16]; rfl) (Nat.le_of_ble_eq_true rfl) rfl rfl ?_
            refine z_goto (tgt := 166) hC dX1_bound_281 (by decide) ?_
            refine zz_sub (L' := [some (.ref (E.1.heap.size + 0)), none, none, some (.int x3), some (.int y16), none, none, none]) ⟨rfl, rfl, rfl, trivial⟩ ?_
            exact j_166 σ x3 y16 hV
          · replace hV := hV.1 hc
            refine z_iload hC dX1_bound_202 rfl ?_
            refine z_iload hC dX1_bound_204 rfl ?_
            refine z_ishr hC dX1_bound_206 ?_
            refine z_iconst (v := 1) hC dX1_bound_207 rfl ?_
            refine z_iand hC dX1_bound_208 ?_
            refine z_if_ne (tgt := 215) hC dX1_bound_209 (by decide) (fun hc => ?_) (fun hc => ?_)
            · replace hV := hV.2 hc
              refine z_iload hC dX1_bound_215 rfl ?_
              refine z_iconst (v := 1) hC dX1_bound_217 rfl ?_
              refine z_iload hC dX1_bound_218 rfl ?_
              refine z_ishl hC dX1_bound_220 ?_
              refine z_iconst (v := (-1)) hC dX1_bound_221 rfl ?_
              refine z_ixor hC dX1_bound_222 ?_
              refine z_iand hC dX1_bound_223 ?_
              obtain ⟨y17, e_y17⟩ : ∃ z, z = x4 &&& (((1 : Int32) <<< (x6 &&& 31)) ^^^ (-1)) := ⟨_, rfl⟩
              rw [← e_y17]
              replace hV := hV _ e_y17
              refine z_istore hC dX1_bound_224 (Nat.le_of_ble_eq_true rfl) rfl rfl ?_
              refine z_aload_n hC dX1_bound_226 rfl rfl ?_
              refine g_X1_78_0 hC dX1_bound_227 ?_
              refine z_iload hC dX1_bound_230 rfl ?_
              refine z_aload_n hC dX1_bound_232 rfl rfl ?_
              refine g_X1_78_0 hC dX1_bound_233 ?_
              refine z_iload hC dX1_bound_236 rfl ?_
              obtain ⟨h18, hV⟩ := hV
              refine z_iald hC dX1_bound_238 (k_31 _) (h18) ?_
              refine z_iload hC dX1_bound_239 rfl ?_
              refine z_if_ne (tgt := 248) hC dX1_bound_241 (by decide) (fun hc => ?_) (fun hc => ?_)
              · replace hV := hV.2 hc
                refine z_aload_n hC dX1_bound_248 rfl rfl ?_
                refine g_X1_78_0 hC dX1_bound_249 ?_
                refine z_iload hC dX1_bound_252 rfl ?_
                obtain ⟨h19, hV⟩ := hV
                refine z_iald hC dX1_bound_254 (k_31 _) (h19) ?_
                refine zz_sub (L' := [some (.ref (E.1.heap.size + 0)), none, none, some (.int x3), some (.int x4), some (.int x5), some (.int x6), none]) ⟨rfl, rfl, rfl, rfl, rfl, trivial⟩ ?_
                exact j_255 σ x3 x4 x5 x6 (zI σ 31 (ix y17)) (zI σ 31 (ix x4)) x4 31 hV
              · replace hV := hV.1 hc
                refine z_iconst (v := 0) hC dX1_bound_244 rfl ?_
                refine z_goto (tgt := 255) hC dX1_bound_245 (by decide) ?_
                refine zz_sub (L' := [some (.ref (E.1.heap.size + 0)), none, none, some (.int x3), some (.int x4), some (.int x5), some (.int x6), none]) ⟨rfl, rfl, rfl, rfl, rfl, trivial⟩ ?_
                exact j_255 σ x3 x4 x5 x6 0 (zI σ 31 (ix x4)) x4 31 hV
            · replace hV := hV.1 hc
              refine z_goto (tgt := 272) hC dX1_bound_212 (by decide) ?_
              obtain ⟨y27, e_y27⟩ : ∃ z : Int32, z = x6 + 1 := ⟨_, rfl⟩
              replace hV := hV _ e_y27
              refine z_iinc (v := y27) hC dX1_bound_272 rfl (by rw [e_y27]; rfl) (Nat.le_of_ble_eq_true rfl) rfl rfl ?_
              refine z_goto (tgt := 196) hC dX1_bound_275 (by decide) ?_
              refine zz_sub (L' := [some (.ref (E.1.heap.size + 0)), none, none, some (.int x3), some (.int x4), some (.int x5), some (.int y27), none]) ⟨rfl, rfl, rfl, rfl, rfl, trivial⟩ ?_
              exact j_196 σ x3 x4 x5 y27 hV
      refine z_iload hC dX1_bound_166 rfl ?_
      refine z_iconst (v := 1) hC dX1_bound_168 rfl ?_
      refine z_iload_n hC dX1_bound_169 rfl rfl ?_
      refine z_ishl hC dX1_bound_170 ?_
      refine z_icmp_ge (tgt := 284) hC dX1_bound_171 (by decide) (fun hc => ?_) (fun hc => ?_)
      · replace hV := hV.2 hc
        refine z_aload_n hC dX1_bound_284 rfl rfl ?_
        refine g_X1_78_0 hC dX1_bound_285 ?_
        refine z_iconst (v := 1) hC dX1_bound_288 rfl ?_
        refine z_iload_n hC dX1_bound_289 rfl rfl ?_
        refine z_ishl hC dX1_bound_290 ?_
        refine z_iconst (v := 1) hC dX1_bound_291 rfl ?_
        refine z_isub hC dX1_bound_292 ?_
        obtain ⟨h9, hV⟩ := hV
        refine z_iald hC dX1_bound_293 (k_31 _) (h9) ?_
        refine z_ldcw hC dX1_bound_294 q1301 ?_
        refine z_icmp_ge (tgt := 313) hC dX1_bound_297 (by decide) (fun hc => ?_) (fun hc => ?_)
        · replace hV := hV.2 hc
          refine z_iconst (v := (-1)) hC dX1_bound_313 rfl ?_
          exact z_iret hC dX1_bound_314 rfl (by rw [hQo]; exact Or.inl ⟨_, rfl, hV⟩)
        · replace hV := hV.1 hc
          refine z_aload_n hC dX1_bound_300 rfl rfl ?_
          refine g_X1_78_0 hC dX1_bound_301 ?_
          refine z_iconst (v := 1) hC dX1_bound_304 rfl ?_
          refine z_iload_n hC dX1_bound_305 rfl rfl ?_
          refine z_ishl hC dX1_bound_306 ?_
          refine z_iconst (v := 1) hC dX1_bound_307 rfl ?_
          refine z_isub hC dX1_bound_308 ?_
          obtain ⟨h10, hV⟩ := hV
          refine z_iald hC dX1_bound_309 (k_31 _) (h10) ?_
          refine z_goto (tgt := 314) hC dX1_bound_310 (by decide) ?_
          exact z_iret hC dX1_bound_314 rfl (by rw [hQo]; exact Or.inl ⟨_, rfl, hV⟩)
      · replace hV := hV.1 hc
        refine z_iload hC dX1_bound_174 rfl ?_
        refine c_X1_208 hC (by decide) dX1_bound_176 (Nat.le_of_ble_eq_true rfl) hV (fun r11 σ12 hV => ?_)
        refine z_iconst (v := 1) hC dX1_bound_179 rfl ?_
        refine z_isub hC dX1_bound_180 ?_
        obtain ⟨y13, e_y13⟩ : ∃ z, z = r11 - 1 := ⟨_, rfl⟩
        rw [← e_y13]
        replace hV := hV _ e_y13
        refine z_istore hC dX1_bound_181 (Nat.le_of_ble_eq_true rfl) rfl rfl ?_
        refine z_aload_n hC dX1_bound_183 rfl rfl ?_
        refine g_X1_78_0 hC dX1_bound_184 ?_
        refine z_iload hC dX1_bound_187 rfl ?_
        refine z_ldcw hC dX1_bound_189 q1301 ?_
        obtain ⟨h14, hV⟩ := hV
        refine z_iast hC dX1_bound_192 (k_31 _) (h14) ?_
        obtain ⟨σ15, e_σ15⟩ : ∃ z : ZS, z = sI σ12 31 (ix x4) 1000000 := ⟨_, rfl⟩
        replace hV := hV _ e_σ15
        rw [← e_σ15]
        refine z_iconst (v := 0) hC dX1_bound_193 rfl ?_
        refine z_istore hC dX1_bound_194 (Nat.le_of_ble_eq_true rfl) rfl rfl ?_
        refine zz_sub (L' := [some (.ref (E.1.heap.size + 0)), none, none, some (.int x3), some (.int x4), some (.int y13), some (.int 0), none]) ⟨rfl, rfl, rfl, rfl, rfl, trivial⟩ ?_
        exact j_196 σ15 x3 x4 y13 0 hV
  have j_78 : ∀ (σ : ZS) (x2 : Int32) (x3 : Int32) (x4 : Int32), V_X1_bound_78 Thr Ret σ x2 x3 x4 → zz C E NS 8 σ 78 [some (.ref (E.1.heap.size + 0)), none, some (.int x2), some (.int x3), some (.int x4), none, none, none] [] := by
    intro σ x2 x3 x4 ⟨k, hV⟩
    revert σ x2 x3 x4
    induction k with
    | zero => exact fun _ _ _ _ hV => hV.elim
    | succ k j_78 =>
      intro σ x2 x3 x4 hV
      simp only [VL_X1_bound_78] at hV
      generalize hKe78 : VL_X1_bound_78 Thr Ret k = K78 at hV j_78
      clear hKe78
      have j_87 : ∀ (σ : ZS) (x2 : Int32) (x3 : Int32) (x4 : Int32) (x5 : Int32), V_X1_bound_87 K78 Thr Ret σ x2 x3 x4 x5 → zz C E NS 8 σ 87 [some (.ref (E.1.heap.size + 0)), none, some (.int x2), some (.int x3), some (.int x4), some (.int x5), none, none] [] := by
        intro σ x2 x3 x4 x5 ⟨k, hV⟩
        revert σ x2 x3 x4 x5
        induction k with
        | zero => exact fun _ _ _ _ _ hV => hV.elim
        | succ k j_87 =>
          intro σ x2 x3 x4 x5 hV
          simp only [VL_X1_bound_87] at hV
          generalize hKe87 : VL_X1_bound_87 K78 Thr Ret k = K87 at hV j_87
          clear hKe87
          have j_123 : ∀ (σ : ZS) (x2 : Int32) (x3 : Int32) (x4 : Int32) (x5 : Int32) (s0 : Int32), V_X1_bound_123 K78 K87 Thr Ret σ x2 x3 x4 x5 s0 → zz C E NS 8 σ 123 [some (.ref (E.1.heap.size + 0)), none, some (.int x2), some (.int x3), some (.int x4), some (.int x5), none, none] [.int s0] := by
            intro σ x2 x3 x4 x5 s0 hV
            unfold V_X1_bound_123 at hV
            refine z_istore hC dX1_bound_123 (Nat.le_of_ble_eq_true rfl) rfl rfl ?_
            refine z_aload_n hC dX1_bound_125 rfl rfl ?_
            refine g_X1_75_0 hC dX1_bound_126 ?_
            refine z_iload_n hC dX1_bound_129 rfl rfl ?_
            refine z_iload hC dX1_bound_130 rfl ?_
            refine z_imul hC dX1_bound_132 ?_
            refine z_iload hC dX1_bound_133 rfl ?_
            refine z_iadd hC dX1_bound_135 ?_
            refine z_iload hC dX1_bound_136 rfl ?_
            refine z_iconst (v := (-1)) hC dX1_bound_138 rfl ?_
            refine z_icmp_ne (tgt := 148) hC dX1_bound_139 (by decide) (fun hc => ?_) (fun hc => ?_)
            · replace hV := hV.2 hc
              refine z_iload hC dX1_bound_148 rfl ?_
              obtain ⟨h33, hV⟩ := hV
              refine z_iast hC dX1_bound_150 (k_30 _) (h33) ?_
              obtain ⟨σ34, e_σ34⟩ : ∃ z : ZS, z = sI σ 30 (ix ((x3 * x4) + x5)) s0 := ⟨_, rfl⟩
              replace hV := hV _ e_σ34
              rw [← e_σ34]
              obtain ⟨y35, e_y35⟩ : ∃ z : Int32, z = x5 + 1 := ⟨_, rfl⟩
              replace hV := hV _ e_y35
              refine z_iinc (v := y35) hC dX1_bound_151 rfl (by rw [e_y35]; rfl) (Nat.le_of_ble_eq_true rfl) rfl rfl ?_
              refine z_goto (tgt := 87) hC dX1_bound_154 (by decide) ?_
              refine zz_sub (L' := [some (.ref (E.1.heap.size + 0)), none, some (.int x2), some (.int x3), some (.int x4), some (.int y35), none, none]) ⟨rfl, rfl, rfl, rfl, rfl, trivial⟩ ?_
              exact j_87 σ34 x2 x3 x4 y35 hV
            · replace hV := hV.1 hc
              refine z_ldcw hC dX1_bound_142 q1301 ?_
              refine z_goto (tgt := 150) hC dX1_bound_145 (by decide) ?_
              obtain ⟨h36, hV⟩ := hV
              refine z_iast hC dX1_bound_150 (k_30 _) (h36) ?_
              obtain ⟨σ37, e_σ37⟩ : ∃ z : ZS, z = sI σ 30 (ix ((x3 * x4) + x5)) 1000000 := ⟨_, rfl⟩
              replace hV := hV _ e_σ37
              rw [← e_σ37]
              obtain ⟨y38, e_y38⟩ : ∃ z : Int32, z = x5 + 1 := ⟨_, rfl⟩
              replace hV := hV _ e_y38
              refine z_iinc (v := y38) hC dX1_bound_151 rfl (by rw [e_y38]; rfl) (Nat.le_of_ble_eq_true rfl) rfl rfl ?_
              refine z_goto (tgt := 87) hC dX1_bound_154 (by decide) ?_
              refine zz_sub (L' := [some (.ref (E.1.heap.size + 0)), none, some (.int x2), some (.int x3), some (.int x4), some (.int y38), none, none]) ⟨rfl, rfl, rfl, rfl, rfl, trivial⟩ ?_
              exact j_87 σ37 x2 x3 x4 y38 hV
          refine z_iload hC dX1_bound_87 rfl ?_
          refine z_iload_n hC dX1_bound_89 rfl rfl ?_
          refine z_icmp_ge (tgt := 157) hC dX1_bound_90 (by decide) (fun hc => ?_) (fun hc => ?_)
          · replace hV := hV.2 hc
            obtain ⟨y28, e_y28⟩ : ∃ z : Int32, z = x4 + 1 := ⟨_, rfl⟩
            replace hV := hV _ e_y28
            refine z_iinc (v := y28) hC dX1_bound_157 rfl (by rw [e_y28]; rfl) (Nat.le_of_ble_eq_true rfl) rfl rfl ?_
            refine z_goto (tgt := 78) hC dX1_bound_160 (by decide) ?_
            refine zz_sub (L' := [some (.ref (E.1.heap.size + 0)), none, some (.int x2), some (.int x3), some (.int y28), none, none, none]) ⟨rfl, rfl, rfl, rfl, trivial⟩ ?_
            exact j_78 σ x2 x3 y28 hV
          · replace hV := hV.1 hc
            refine z_iload hC dX1_bound_93 rfl ?_
            refine z_iload hC dX1_bound_95 rfl ?_
            refine z_icmp_ne (tgt := 104) hC dX1_bound_97 (by decide) (fun hc => ?_) (fun hc => ?_)
            · replace hV := hV.2 hc
              refine z_aload_n hC dX1_bound_104 rfl rfl ?_
              refine z_aload_n hC dX1_bound_105 rfl rfl ?_
              refine g_X1_72_0 hC dX1_bound_106 ?_
              refine z_iload hC dX1_bound_109 rfl ?_
              obtain ⟨h29, hV⟩ := hV
              refine z_iald hC dX1_bound_111 (k_29 _) (h29) ?_
              refine z_aload_n hC dX1_bound_112 rfl rfl ?_
              refine g_X1_72_0 hC dX1_bound_113 ?_
              refine z_iload hC dX1_bound_116 rfl ?_
              obtain ⟨h30, hV⟩ := hV
              refine z_iald hC dX1_bound_118 (k_29 _) (h30) ?_
              refine z_iload_n hC dX1_bound_119 rfl rfl ?_
              refine c_X1_297 hC (by decide) dX1_bound_120 (Nat.le_of_ble_eq_true rfl) hV (fun r31 σ32 hV => ?_)
              refine zz_sub (L' := [some (.ref (E.1.heap.size + 0)), none, some (.int x2), some (.int x3), some (.int x4), some (.int x5), none, none]) ⟨rfl, rfl, rfl, rfl, rfl, trivial⟩ ?_
              exact j_123 σ32 x2 x3 x4 x5 r31 hV
            · replace hV := hV.1 hc
              refine z_iconst (v := (-1)) hC dX1_bound_100 rfl ?_
              refine z_goto (tgt := 123) hC dX1_bound_101 (by decide) ?_
              refine zz_sub (L' := [some (.ref (E.1.heap.size + 0)), none, some (.int x2), some (.int x3), some (.int x4), some (.int x5), none, none]) ⟨rfl, rfl, rfl, rfl, rfl, trivial⟩ ?_
              exact j_123 σ x2 x3 x4 x5 (-1) hV
      refine z_iload hC dX1_bound_78 rfl ?_
      refine z_iload_n hC dX1_bound_80 rfl rfl ?_
      refine z_icmp_ge (tgt := 163) hC dX1_bound_81 (by decide) (fun hc => ?_) (fun hc => ?_)
      · replace hV := hV.2 hc
        refine z_iconst (v := 1) hC dX1_bound_163 rfl ?_
        refine z_istore hC dX1_bound_164 (Nat.le_of_ble_eq_true rfl) rfl rfl ?_
        refine zz_sub (L' := [some (.ref (E.1.heap.size + 0)), none, none, some (.int x3), some (.int 1), none, none, none]) ⟨rfl, rfl, rfl, trivial⟩ ?_
        exact j_166 σ x3 1 hV
      · replace hV := hV.1 hc
        refine z_iconst (v := 0) hC dX1_bound_84 rfl ?_
        refine z_istore hC dX1_bound_85 (Nat.le_of_ble_eq_true rfl) rfl rfl ?_
        refine zz_sub (L' := [some (.ref (E.1.heap.size + 0)), none, some (.int x2), some (.int x3), some (.int x4), some (.int 0), none, none]) ⟨rfl, rfl, rfl, rfl, rfl, trivial⟩ ?_
        exact j_87 σ x2 x3 x4 0 hV
  have j_18 : ∀ (σ : ZS) (x1 : Int32) (x2 : Int32) (x3 : Int32) (x4 : Int32), V_X1_bound_18 Thr Ret σ x1 x2 x3 x4 → zz C E NS 8 σ 18 [some (.ref (E.1.heap.size + 0)), some (.int x1), some (.int x2), some (.int x3), some (.int x4), none, none, none] [] := by
    intro σ x1 x2 x3 x4 ⟨k, hV⟩
    revert σ x1 x2 x3 x4
    induction k with
    | zero => exact fun _ _ _ _ _ hV => hV.elim
    | succ k j_18 =>
      intro σ x1 x2 x3 x4 hV
      simp only [VL_X1_bound_18] at hV
      generalize hKe18 : VL_X1_bound_18 Thr Ret k = K18 at hV j_18
      clear hKe18
      have j_51 : ∀ (σ : ZS) (x1 : Int32) (x2 : Int32) (x3 : Int32) (x4 : Int32), V_X1_bound_51 K18 Thr Ret σ x1 x2 x3 x4 → zz C E NS 8 σ 51 [some (.ref (E.1.heap.size + 0)), some (.int x1), some (.int x2), some (.int x3), some (.int x4), none, none, none] [] := by
        intro σ x1 x2 x3 x4 hV
        unfold V_X1_bound_51 at hV
        refine z_aload_n hC dX1_bound_51 rfl rfl ?_
        refine g_X1_72_0 hC dX1_bound_52 ?_
        refine z_iload_n hC dX1_bound_55 rfl rfl ?_
        refine z_iload hC dX1_bound_56 rfl ?_
        obtain ⟨h39, hV⟩ := hV
        refine z_iast hC dX1_bound_58 (k_29 _) (h39) ?_
        obtain ⟨σ40, e_σ40⟩ : ∃ z : ZS, z = sI σ 29 (ix x3) x4 := ⟨_, rfl⟩
        replace hV := hV _ e_σ40
        rw [← e_σ40]
        obtain ⟨y41, e_y41⟩ : ∃ z : Int32, z = x3 + 1 := ⟨_, rfl⟩
        replace hV := hV _ e_y41
        refine z_iinc (v := y41) hC dX1_bound_59 rfl (by rw [e_y41]; rfl) (Nat.le_of_ble_eq_true rfl) rfl rfl ?_
        obtain ⟨y42, e_y42⟩ : ∃ z : Int32, z = x4 + 1 := ⟨_, rfl⟩
        replace hV := hV _ e_y42
        refine z_iinc (v := y42) hC dX1_bound_62 rfl (by rw [e_y42]; rfl) (Nat.le_of_ble_eq_true rfl) rfl rfl ?_
        refine z_goto (tgt := 18) hC dX1_bound_65 (by decide) ?_
        refine zz_sub (L' := [some (.ref (E.1.heap.size + 0)), some (.int x1), some (.int x2), some (.int y41), some (.int y42), none, none, none]) ⟨rfl, rfl, rfl, rfl, rfl, trivial⟩ ?_
        exact j_18 σ40 x1 x2 y41 y42 hV
      refine z_iload hC dX1_bound_18 rfl ?_
      refine z_aload_n hC dX1_bound_20 rfl rfl ?_
      refine c_X1_133 hC (by decide) dX1_bound_21 (Nat.le_of_ble_eq_true rfl) hV (fun r7 σ8 hV => ?_)
      refine z_icmp_ge (tgt := 68) hC dX1_bound_24 (by decide) (fun hc => ?_) (fun hc => ?_)
      · replace hV := hV.2 hc
        refine z_iload_n hC dX1_bound_68 rfl rfl ?_
        refine z_iconst (v := 1) hC dX1_bound_69 rfl ?_
        refine z_icmp_ne (tgt := 75) hC dX1_bound_70 (by decide) (fun hc => ?_) (fun hc => ?_)
        · replace hV := hV.2 hc
          refine z_iconst (v := 0) hC dX1_bound_75 rfl ?_
          refine z_istore hC dX1_bound_76 (Nat.le_of_ble_eq_true rfl) rfl rfl ?_
          refine zz_sub (L' := [some (.ref (E.1.heap.size + 0)), none, some (.int x2), some (.int x3), some (.int 0), none, none, none]) ⟨rfl, rfl, rfl, rfl, trivial⟩ ?_
          exact j_78 σ8 x2 x3 0 hV
        · replace hV := hV.1 hc
          refine z_iconst (v := 0) hC dX1_bound_73 rfl ?_
          exact z_iret hC dX1_bound_74 rfl (by rw [hQo]; exact Or.inl ⟨_, rfl, hV⟩)
      · replace hV := hV.1 hc
        refine z_iload hC dX1_bound_27 rfl ?_
        refine z_iload_n hC dX1_bound_29 rfl rfl ?_
        refine z_icmp_eq (tgt := 51) hC dX1_bound_30 (by decide) (fun hc => ?_) (fun hc => ?_)
        · replace hV := hV.1 hc
          refine zz_sub (L' := [some (.ref (E.1.heap.size + 0)), some (.int x1), some (.int x2), some (.int x3), some (.int x4), none, none, none]) ⟨rfl, rfl, rfl, rfl, rfl, trivial⟩ ?_
          exact j_51 σ8 x1 x2 x3 x4 hV
        · replace hV := hV.2 hc
          refine z_aload_n hC dX1_bound_33 rfl rfl ?_
          refine g_X1_12_0 hC dX1_bound_34 ?_
          obtain ⟨h43, hV⟩ := hV
          refine zz_at rfl (by rw [pvo h43]) ?_
          obtain ⟨⟨n45, h44⟩, hV⟩ := hV
          refine g_X1_205_c1 hC dX1_bound_37 h44 ?_
          refine z_iload hC dX1_bound_40 rfl ?_
          refine z_ishr hC dX1_bound_42 ?_
          refine z_iconst (v := 1) hC dX1_bound_43 rfl ?_
          refine z_iand hC dX1_bound_44 ?_
          refine z_if_ne (tgt := 51) hC dX1_bound_45 (by decide) (fun hc => ?_) (fun hc => ?_)
          · replace hV := hV.2 hc
            refine zz_sub (L' := [some (.ref (E.1.heap.size + 0)), some (.int x1), some (.int x2), some (.int x3), some (.int x4), none, none, none]) ⟨rfl, rfl, rfl, rfl, rfl, trivial⟩ ?_
            exact j_51 σ8 x1 x2 x3 x4 hV
          · replace hV := hV.1 hc
            refine z_goto (tgt := 62) hC dX1_bound_48 (by decide) ?_
            obtain ⟨y46, e_y46⟩ : ∃ z : Int32, z = x4 + 1 := ⟨_, rfl⟩
            replace hV := hV _ e_y46
            refine z_iinc (v := y46) hC dX1_bound_62 rfl (by rw [e_y46]; rfl) (Nat.le_of_ble_eq_true rfl) rfl rfl ?_
            refine z_goto (tgt := 18) hC dX1_bound_65 (by decide) ?_
            refine zz_sub (L' := [some (.ref (E.1.heap.size + 0)), some (.int x1), some (.int x2), some (.int x3), some (.int y46), none, none, none]) ⟨rfl, rfl, rfl, rfl, rfl, trivial⟩ ?_
            exact j_18 σ8 x1 x2 x3 y46 hV
  refine z_aload_n hC dX1_bound_0 rfl rfl ?_
  refine z_iload_n hC dX1_bound_1 rfl rfl ?_
  refine c_X1_294 hC (by decide) dX1_bound_2 (Nat.le_of_ble_eq_true rfl) hV (fun σ2 hV => ?_) (fun x σ hV => zth_out hC (by rw [hQo]; exact Or.inr ⟨_, rfl, hV⟩))
  refine z_aload_n hC dX1_bound_5 rfl rfl ?_
  refine z_iload_n hC dX1_bound_6 rfl rfl ?_
  refine c_X1_254 hC (by decide) dX1_bound_7 (Nat.le_of_ble_eq_true rfl) hV (fun r3 σ4 hV => ?_)
  refine c_X1_164 hC (by decide) dX1_bound_10 (Nat.le_of_ble_eq_true rfl) hV (fun σ6 hV => ?_) (fun x σ hV => zth_out hC (by rw [hQo]; exact Or.inr ⟨_, rfl, hV⟩))
  refine z_iconst (v := 0) hC dX1_bound_13 rfl ?_
  refine z_istore_n hC dX1_bound_14 rfl (Nat.le_of_ble_eq_true rfl) rfl rfl ?_
  refine z_iconst (v := 0) hC dX1_bound_15 rfl ?_
  refine z_istore hC dX1_bound_16 (Nat.le_of_ble_eq_true rfl) rfl rfl ?_
  refine zz_sub (L' := [some (.ref (E.1.heap.size + 0)), some (.int a1), some (.int a2), some (.int 0), some (.int 0), none, none, none]) ⟨rfl, rfl, rfl, rfl, rfl, trivial⟩ ?_
  exact j_18 σ6 a1 a2 0 0 hV
theorem cw_X1_breaksOf : CodeW yX1_breaksOf (ws_ yX1_breaksOf cX1_breaksOf 7 (some .long)) 7 := ⟨fun w h => (List.mem_cons.mp h).elim (fun e => e ▸ q1524) id, Or.inl ⟨_, _, q1524⟩, q116, by decide, by decide⟩
theorem c_X1_397 {C : ZC} {E : ZE} {cc : ByteArray} {nL pc d : Nat} {nm : String} {ret : Option FieldType} {hh : List (Nat × Nat × Nat × Nat)} {σ : ZS} {L : List (Option Value)} {st : List Value} {a1 : Int32} {a2 : Int32} {Ret : Int64 → ZS → Prop} (hC : Cx C E cc nL "RightTurns" nm ret hh d) (hdd : 9 + 1 ≤ d) (hd : decode cc pc = .ok (.invokevirtual 397, 3)) (hW : (st.map fun v => v.category).sum ≤ 8) (hV : wp_X1_breaksOf σ a1 a2 Ret) (k : ∀ r σ', Ret r σ' → zz C E NS nL σ' (pc + 3) L (.long r :: st)) : zz C E NS nL σ pc L (.int a2 :: .int a1 :: .ref (E.1.heap.size + 0) :: st) :=
  z_callVG hC cf0 cw_X1_breaksOf hdd (by decide) (mz_X1_breaksOf (cxE hC) hV) hd (k_0 σ) q1521 q1523 qs46 (np := 2) rfl rfl hW rfl (kJ k)
def V_X1_breaks_17 (Thr : Nat → ZS → Prop) (Ret : Int64 → ZS → Prop) (σ : ZS) (x1 : Int32) (x2 : Int32) : Prop :=
    wp_X1_need σ 1 (fun x σ => Thr x σ) (fun σ8 => wp_X1_breaksOf σ8 x1 x2 (fun r9 σ10 => Ret r9 σ10))
def wp_X1_breaks (σ : ZS) (a1 : Int32) (a2 : Int32) (Thr : Nat → ZS → Prop) (Ret : Int64 → ZS → Prop) : Prop :=
    wp_X1_isTime σ a1 (fun r1 σ2 => ((r1 = 0 → (wp_X1_need σ2 0 (fun x σ => Thr x σ) (fun σ4 => wp_X1_breaksOf σ4 a1 a2 (fun r5 σ6 => Ret r5 σ6)))) ∧ (¬ r1 = 0 → (((a2 = 0 → (V_X1_breaks_17 Thr Ret σ2 a1 a2)) ∧ (¬ a2 = 0 → (((a2 = 1 → (V_X1_breaks_17 Thr Ret σ2 a1 a2)) ∧ (¬ a2 = 1 → (wp_X1_need σ2 0 (fun x σ => Thr x σ) (fun σ12 => wp_X1_breaksOf σ12 a1 a2 (fun r13 σ14 => Ret r13 σ14))))))))))))
set_option maxHeartbeats 4000000 in
theorem mz_X1_breaks {l : Launch} {E : ZE} (hE : EOK E) {σ : ZS} {a1 : Int32} {a2 : Int32} {Thr : Nat → ZS → Prop} {Ret : Int64 → ZS → Prop} (hV : wp_X1_breaks σ a1 a2 Thr Ret) : MZ l E NS yX1_breaks (ws_ yX1_breaks cX1_breaks 3 (some .long)) 10 σ [.ref (E.1.heap.size + 0), .int a1, .int a2] (rT E.1.heap.size (rJ Ret) Thr) := by
  refine MZ.start (L := [some (.ref (E.1.heap.size + 0)), some (.int a1), some (.int a2)]) hE (by decide) (Nat.le_of_ble_eq_true rfl) rfl fun C hCl hQo hC => ?_
  replace hC : Cx C E cX1_breaks 3 "RightTurns" "breaks" (some .long) [] 10 := hC
  unfold wp_X1_breaks at hV
  have j_17 : ∀ (σ : ZS) (x1 : Int32) (x2 : Int32), V_X1_breaks_17 Thr Ret σ x1 x2 → zz C E NS 3 σ 17 [some (.ref (E.1.heap.size + 0)), some (.int x1), some (.int x2)] [] := by
    intro σ x1 x2 hV
    unfold V_X1_breaks_17 at hV
    refine z_iconst (v := 1) hC dX1_breaks_17 rfl ?_
    refine z_goto (tgt := 22) hC dX1_breaks_18 (by decide) ?_
    refine c_X1_164 hC (by decide) dX1_breaks_22 (Nat.le_of_ble_eq_true rfl) hV (fun σ8 hV => ?_) (fun x σ hV => zth_out hC (by rw [hQo]; exact Or.inr ⟨_, rfl, hV⟩))
    refine z_aload_n hC dX1_breaks_25 rfl rfl ?_
    refine z_iload_n hC dX1_breaks_26 rfl rfl ?_
    refine z_iload_n hC dX1_breaks_27 rfl rfl ?_
    refine c_X1_397 hC (by decide) dX1_breaks_28 (Nat.le_of_ble_eq_true rfl) hV (fun r9 σ10 hV => ?_)
    exact z_lret hC dX1_breaks_31 (by rw [hQo]; exact Or.inl ⟨_, rfl, hV⟩)
  refine z_aload_n hC dX1_breaks_0 rfl rfl ?_
  refine z_iload_n hC dX1_breaks_1 rfl rfl ?_
  refine c_X1_254 hC (by decide) dX1_breaks_2 (Nat.le_of_ble_eq_true rfl) hV (fun r1 σ2 hV => ?_)
  refine z_if_eq (tgt := 21) hC dX1_breaks_5 (by decide) (fun hc => ?_) (fun hc => ?_)
  · replace hV := hV.1 hc
    refine z_iconst (v := 0) hC dX1_breaks_21 rfl ?_
    refine c_X1_164 hC (by decide) dX1_breaks_22 (Nat.le_of_ble_eq_true rfl) hV (fun σ4 hV => ?_) (fun x σ hV => zth_out hC (by rw [hQo]; exact Or.inr ⟨_, rfl, hV⟩))
    refine z_aload_n hC dX1_breaks_25 rfl rfl ?_
    refine z_iload_n hC dX1_breaks_26 rfl rfl ?_
    refine z_iload_n hC dX1_breaks_27 rfl rfl ?_
    refine c_X1_397 hC (by decide) dX1_breaks_28 (Nat.le_of_ble_eq_true rfl) hV (fun r5 σ6 hV => ?_)
    exact z_lret hC dX1_breaks_31 (by rw [hQo]; exact Or.inl ⟨_, rfl, hV⟩)
  · replace hV := hV.2 hc
    refine z_iload_n hC dX1_breaks_8 rfl rfl ?_
    refine z_if_eq (tgt := 17) hC dX1_breaks_9 (by decide) (fun hc => ?_) (fun hc => ?_)
    · replace hV := hV.1 hc
      refine zz_sub (L' := [some (.ref (E.1.heap.size + 0)), some (.int a1), some (.int a2)]) ⟨rfl, rfl, rfl, trivial⟩ ?_
      exact j_17 σ2 a1 a2 hV
    · replace hV := hV.2 hc
      refine z_iload_n hC dX1_breaks_12 rfl rfl ?_
      refine z_iconst (v := 1) hC dX1_breaks_13 rfl ?_
      refine z_icmp_ne (tgt := 21) hC dX1_breaks_14 (by decide) (fun hc => ?_) (fun hc => ?_)
      · replace hV := hV.2 hc
        refine z_iconst (v := 0) hC dX1_breaks_21 rfl ?_
        refine c_X1_164 hC (by decide) dX1_breaks_22 (Nat.le_of_ble_eq_true rfl) hV (fun σ12 hV => ?_) (fun x σ hV => zth_out hC (by rw [hQo]; exact Or.inr ⟨_, rfl, hV⟩))
        refine z_aload_n hC dX1_breaks_25 rfl rfl ?_
        refine z_iload_n hC dX1_breaks_26 rfl rfl ?_
        refine z_iload_n hC dX1_breaks_27 rfl rfl ?_
        refine c_X1_397 hC (by decide) dX1_breaks_28 (Nat.le_of_ble_eq_true rfl) hV (fun r13 σ14 hV => ?_)
        exact z_lret hC dX1_breaks_31 (by rw [hQo]; exact Or.inl ⟨_, rfl, hV⟩)
      · replace hV := hV.1 hc
        refine zz_sub (L' := [some (.ref (E.1.heap.size + 0)), some (.int a1), some (.int a2)]) ⟨rfl, rfl, rfl, trivial⟩ ?_
        exact j_17 σ2 a1 a2 hV
def wp_X1_candidates (σ : ZS) (a1 : Int32) (Thr : Nat → ZS → Prop) (Ret : Int32 → ZS → Prop) : Prop :=
    wp_X1_isTime σ a1 (fun r1 σ2 => wp_X1_need σ2 r1 (fun x σ => Thr x σ) (fun σ4 => wp_X1_findCandidates σ4 a1 (fun r5 σ6 => Ret r5 σ6)))
set_option maxHeartbeats 4000000 in
theorem mz_X1_candidates {l : Launch} {E : ZE} (hE : EOK E) {σ : ZS} {a1 : Int32} {Thr : Nat → ZS → Prop} {Ret : Int32 → ZS → Prop} (hV : wp_X1_candidates σ a1 Thr Ret) : MZ l E NS yX1_candidates (ws_ yX1_candidates cX1_candidates 2 (some .int)) 7 σ [.ref (E.1.heap.size + 0), .int a1] (rT E.1.heap.size (rI Ret) Thr) := by
  refine MZ.start (L := [some (.ref (E.1.heap.size + 0)), some (.int a1)]) hE (by decide) (Nat.le_of_ble_eq_true rfl) rfl fun C hCl hQo hC => ?_
  replace hC : Cx C E cX1_candidates 2 "RightTurns" "candidates" (some .int) [] 7 := hC
  unfold wp_X1_candidates at hV
  refine z_aload_n hC dX1_candidates_0 rfl rfl ?_
  refine z_iload_n hC dX1_candidates_1 rfl rfl ?_
  refine c_X1_254 hC (by decide) dX1_candidates_2 (Nat.le_of_ble_eq_true rfl) hV (fun r1 σ2 hV => ?_)
  refine c_X1_164 hC (by decide) dX1_candidates_5 (Nat.le_of_ble_eq_true rfl) hV (fun σ4 hV => ?_) (fun x σ hV => zth_out hC (by rw [hQo]; exact Or.inr ⟨_, rfl, hV⟩))
  refine z_aload_n hC dX1_candidates_8 rfl rfl ?_
  refine z_iload_n hC dX1_candidates_9 rfl rfl ?_
  refine c_X1_338 hC (by decide) dX1_candidates_10 (Nat.le_of_ble_eq_true rfl) hV (fun r5 σ6 hV => ?_)
  exact z_iret hC dX1_candidates_13 rfl (by rw [hQo]; exact Or.inl ⟨_, rfl, hV⟩)
theorem cw_X1_leastSet : CodeW yX1_leastSet (ws_ yX1_leastSet cX1_leastSet 8 (some .int)) 8 := ⟨fun w h => (List.mem_cons.mp h).elim (fun e => e ▸ q1412) id, Or.inl ⟨_, _, q1412⟩, q116, by decide, by decide⟩
theorem c_X1_350 {C : ZC} {E : ZE} {cc : ByteArray} {nL pc d : Nat} {nm : String} {ret : Option FieldType} {hh : List (Nat × Nat × Nat × Nat)} {σ : ZS} {L : List (Option Value)} {st : List Value} {a1 : Int32} {a2 : Int32} {Ret : Int32 → ZS → Prop} (hC : Cx C E cc nL "RightTurns" nm ret hh d) (hdd : 11 + 1 ≤ d) (hd : decode cc pc = .ok (.invokevirtual 350, 3)) (hW : (st.map fun v => v.category).sum ≤ 8) (hV : wp_X1_leastSet σ a1 a2 Ret) (k : ∀ r σ', Ret r σ' → zz C E NS nL σ' (pc + 3) L (.int r :: st)) : zz C E NS nL σ pc L (.int a2 :: .int a1 :: .ref (E.1.heap.size + 0) :: st) :=
  z_callVG hC cf0 cw_X1_leastSet hdd (by decide) (mz_X1_leastSet (cxE hC) hV) hd (k_0 σ) q1409 q1411 qs34 (np := 2) rfl rfl hW rfl (kI k)
def V_X1_cheapest_22 (Thr : Nat → ZS → Prop) (Ret : Int32 → ZS → Prop) (σ : ZS) (x1 : Int32) (x2 : Int32) (s0 : Int32) : Prop :=
    wp_X1_need σ s0 (fun x σ => Thr x σ) (fun σ4 => wp_X1_leastSet σ4 x1 1 (fun r5 σ6 => ((r5 = (-1) → (Ret (-1) σ6)) ∧ (¬ r5 = (-1) → (((x2 = 1 → (Ret r5 σ6)) ∧ (¬ x2 = 1 → (Ret (zI σ6 0 17) σ6))))))))
def V_X1_cheapest_21 (Thr : Nat → ZS → Prop) (Ret : Int32 → ZS → Prop) (σ : ZS) (x1 : Int32) (x2 : Int32) : Prop :=
    V_X1_cheapest_22 Thr Ret σ x1 x2 0
def V_X1_cheapest_17 (Thr : Nat → ZS → Prop) (Ret : Int32 → ZS → Prop) (σ : ZS) (x1 : Int32) (x2 : Int32) : Prop :=
    V_X1_cheapest_22 Thr Ret σ x1 x2 1
def wp_X1_cheapest (σ : ZS) (a1 : Int32) (a2 : Int32) (Thr : Nat → ZS → Prop) (Ret : Int32 → ZS → Prop) : Prop :=
    wp_X1_isTime σ a1 (fun r1 σ2 => ((r1 = 0 → (V_X1_cheapest_21 Thr Ret σ2 a1 a2)) ∧ (¬ r1 = 0 → (((a2 = 0 → (V_X1_cheapest_17 Thr Ret σ2 a1 a2)) ∧ (¬ a2 = 0 → (((a2 = 1 → (V_X1_cheapest_17 Thr Ret σ2 a1 a2)) ∧ (¬ a2 = 1 → (V_X1_cheapest_21 Thr Ret σ2 a1 a2))))))))))
set_option maxHeartbeats 4000000 in
theorem mz_X1_cheapest {l : Launch} {E : ZE} (hE : EOK E) {σ : ZS} {a1 : Int32} {a2 : Int32} {Thr : Nat → ZS → Prop} {Ret : Int32 → ZS → Prop} (hV : wp_X1_cheapest σ a1 a2 Thr Ret) : MZ l E NS yX1_cheapest (ws_ yX1_cheapest cX1_cheapest 4 (some .int)) 12 σ [.ref (E.1.heap.size + 0), .int a1, .int a2] (rT E.1.heap.size (rI Ret) Thr) := by
  refine MZ.start (L := [some (.ref (E.1.heap.size + 0)), some (.int a1), some (.int a2), none]) hE (by decide) (Nat.le_of_ble_eq_true rfl) rfl fun C hCl hQo hC => ?_
  replace hC : Cx C E cX1_cheapest 4 "RightTurns" "cheapest" (some .int) [] 12 := hC
  unfold wp_X1_cheapest at hV
  have j_22 : ∀ (σ : ZS) (x1 : Int32) (x2 : Int32) (s0 : Int32), V_X1_cheapest_22 Thr Ret σ x1 x2 s0 → zz C E NS 4 σ 22 [some (.ref (E.1.heap.size + 0)), some (.int x1), some (.int x2), none] [.int s0] := by
    intro σ x1 x2 s0 hV
    unfold V_X1_cheapest_22 at hV
    refine c_X1_164 hC (by decide) dX1_cheapest_22 (Nat.le_of_ble_eq_true rfl) hV (fun σ4 hV => ?_) (fun x σ hV => zth_out hC (by rw [hQo]; exact Or.inr ⟨_, rfl, hV⟩))
    refine z_aload_n hC dX1_cheapest_25 rfl rfl ?_
    refine z_iload_n hC dX1_cheapest_26 rfl rfl ?_
    refine z_iconst (v := 1) hC dX1_cheapest_27 rfl ?_
    refine c_X1_350 hC (by decide) dX1_cheapest_28 (Nat.le_of_ble_eq_true rfl) hV (fun r5 σ6 hV => ?_)
    refine z_istore_n hC dX1_cheapest_31 rfl (Nat.le_of_ble_eq_true rfl) rfl rfl ?_
    refine z_iload_n hC dX1_cheapest_32 rfl rfl ?_
    refine z_iconst (v := (-1)) hC dX1_cheapest_33 rfl ?_
    refine z_icmp_ne (tgt := 41) hC dX1_cheapest_34 (by decide) (fun hc => ?_) (fun hc => ?_)
    · replace hV := hV.2 hc
      refine z_iload_n hC dX1_cheapest_41 rfl rfl ?_
      refine z_iconst (v := 1) hC dX1_cheapest_42 rfl ?_
      refine z_icmp_ne (tgt := 50) hC dX1_cheapest_43 (by decide) (fun hc => ?_) (fun hc => ?_)
      · replace hV := hV.2 hc
        refine z_aload_n hC dX1_cheapest_50 rfl rfl ?_
        refine g_X1_341_0 hC dX1_cheapest_51 ?_
        exact z_iret hC dX1_cheapest_54 rfl (by rw [hQo]; exact Or.inl ⟨_, rfl, hV⟩)
      · replace hV := hV.1 hc
        refine z_iload_n hC dX1_cheapest_46 rfl rfl ?_
        refine z_goto (tgt := 54) hC dX1_cheapest_47 (by decide) ?_
        exact z_iret hC dX1_cheapest_54 rfl (by rw [hQo]; exact Or.inl ⟨_, rfl, hV⟩)
    · replace hV := hV.1 hc
      refine z_iconst (v := (-1)) hC dX1_cheapest_37 rfl ?_
      refine z_goto (tgt := 54) hC dX1_cheapest_38 (by decide) ?_
      exact z_iret hC dX1_cheapest_54 rfl (by rw [hQo]; exact Or.inl ⟨_, rfl, hV⟩)
  have j_21 : ∀ (σ : ZS) (x1 : Int32) (x2 : Int32), V_X1_cheapest_21 Thr Ret σ x1 x2 → zz C E NS 4 σ 21 [some (.ref (E.1.heap.size + 0)), some (.int x1), some (.int x2), none] [] := by
    intro σ x1 x2 hV
    unfold V_X1_cheapest_21 at hV
    refine z_iconst (v := 0) hC dX1_cheapest_21 rfl ?_
    refine zz_sub (L' := [some (.ref (E.1.heap.size + 0)), some (.int x1), some (.int x2), none]) ⟨rfl, rfl, rfl, trivial⟩ ?_
    exact j_22 σ x1 x2 0 hV
  have j_17 : ∀ (σ : ZS) (x1 : Int32) (x2 : Int32), V_X1_cheapest_17 Thr Ret σ x1 x2 → zz C E NS 4 σ 17 [some (.ref (E.1.heap.size + 0)), some (.int x1), some (.int x2), none] [] := by
    intro σ x1 x2 hV
    unfold V_X1_cheapest_17 at hV
    refine z_iconst (v := 1) hC dX1_cheapest_17 rfl ?_
    refine z_goto (tgt := 22) hC dX1_cheapest_18 (by decide) ?_
    refine zz_sub (L' := [some (.ref (E.1.heap.size + 0)), some (.int x1), some (.int x2), none]) ⟨rfl, rfl, rfl, trivial⟩ ?_
    exact j_22 σ x1 x2 1 hV
  refine z_aload_n hC dX1_cheapest_0 rfl rfl ?_
  refine z_iload_n hC dX1_cheapest_1 rfl rfl ?_
  refine c_X1_254 hC (by decide) dX1_cheapest_2 (Nat.le_of_ble_eq_true rfl) hV (fun r1 σ2 hV => ?_)
  refine z_if_eq (tgt := 21) hC dX1_cheapest_5 (by decide) (fun hc => ?_) (fun hc => ?_)
  · replace hV := hV.1 hc
    refine zz_sub (L' := [some (.ref (E.1.heap.size + 0)), some (.int a1), some (.int a2), none]) ⟨rfl, rfl, rfl, trivial⟩ ?_
    exact j_21 σ2 a1 a2 hV
  · replace hV := hV.2 hc
    refine z_iload_n hC dX1_cheapest_8 rfl rfl ?_
    refine z_if_eq (tgt := 17) hC dX1_cheapest_9 (by decide) (fun hc => ?_) (fun hc => ?_)
    · replace hV := hV.1 hc
      refine zz_sub (L' := [some (.ref (E.1.heap.size + 0)), some (.int a1), some (.int a2), none]) ⟨rfl, rfl, rfl, trivial⟩ ?_
      exact j_17 σ2 a1 a2 hV
    · replace hV := hV.2 hc
      refine z_iload_n hC dX1_cheapest_12 rfl rfl ?_
      refine z_iconst (v := 1) hC dX1_cheapest_13 rfl ?_
      refine z_icmp_ne (tgt := 21) hC dX1_cheapest_14 (by decide) (fun hc => ?_) (fun hc => ?_)
      · replace hV := hV.2 hc
        refine zz_sub (L' := [some (.ref (E.1.heap.size + 0)), some (.int a1), some (.int a2), none]) ⟨rfl, rfl, rfl, trivial⟩ ?_
        exact j_21 σ2 a1 a2 hV
      · replace hV := hV.1 hc
        refine zz_sub (L' := [some (.ref (E.1.heap.size + 0)), some (.int a1), some (.int a2), none]) ⟨rfl, rfl, rfl, trivial⟩ ?_
        exact j_17 σ2 a1 a2 hV
def VL_X1_counts_35 (K15 : ZS → Int32 → Int32 → Int32 → Prop) (Thr : Nat → ZS → Prop) (Ret : Int32 → ZS → Prop) : Nat → ZS → Int32 → Int32 → Int32 → Int32 → Int32 → Prop
  | 0 => fun _ _ _ _ _ _ => False
  | k + 1 => fun σ x1 x2 x3 x4 x5 =>
    let K35 := VL_X1_counts_35 K15 Thr Ret k
    vp_in x3 12 ∧ (((x5 < (zI σ 33 (ix x3)) → (((x4 = 0 → (vp_in ((48 * x3) + x5) 576 ∧ (((((zI σ 32 (ix ((48 * x3) + x5))) / 2) = x1 → (∀ y21 : Int32, y21 = x5 + 1 → (K35 σ x1 x2 x3 1 y21))) ∧ (¬ ((zI σ 32 (ix ((48 * x3) + x5))) / 2) = x1 → (∀ y20 : Int32, y20 = x5 + 1 → (K35 σ x1 x2 x3 0 y20))))))) ∧ (¬ x4 = 0 → (∀ y18 : Int32, y18 = x5 + 1 → (K35 σ x1 x2 x3 1 y18)))))) ∧ (¬ x5 < (zI σ 33 (ix x3)) → (((x4 = 0 → (∀ y14 : Int32, y14 = x2 + 0 → (∀ y15 : Int32, y15 = x3 + 1 → (K15 σ x1 y14 y15)))) ∧ (¬ x4 = 0 → (∀ y16 : Int32, y16 = x2 + 1 → (∀ y17 : Int32, y17 = x3 + 1 → (K15 σ x1 y16 y17)))))))))
def V_X1_counts_35 (K15 : ZS → Int32 → Int32 → Int32 → Prop) (Thr : Nat → ZS → Prop) (Ret : Int32 → ZS → Prop) (σ : ZS) (x1 : Int32) (x2 : Int32) (x3 : Int32) (x4 : Int32) (x5 : Int32) : Prop := ∃ k, VL_X1_counts_35 K15 Thr Ret k σ x1 x2 x3 x4 x5
def VL_X1_counts_15 (Thr : Nat → ZS → Prop) (Ret : Int32 → ZS → Prop) : Nat → ZS → Int32 → Int32 → Int32 → Prop
  | 0 => fun _ _ _ _ => False
  | k + 1 => fun σ x1 x2 x3 =>
    let K15 := VL_X1_counts_15 Thr Ret k
    (zP σ 0 0) = some (.inl (zo (zP σ 0 0))) ∧ ((∃ n7, kK NS σ (zo (zP σ 0 0)) = (8, n7)) ∧ ((kP NS σ (zo (zP σ 0 0)) 2) = some (.inl (zo (kP NS σ (zo (zP σ 0 0)) 2))) ∧ ((∃ n12, kK NS σ (zo (kP NS σ (zo (zP σ 0 0)) 2)) = (16, n12)) ∧ (wp_J2_size σ (zo (kP NS σ (zo (zP σ 0 0)) 2)) (fun r9 σ10 => ((x3 < r9 → (V_X1_counts_35 K15 Thr Ret σ10 x1 x2 x3 0 0)) ∧ (¬ x3 < r9 → (Ret x2 σ10))))))))
def V_X1_counts_15 (Thr : Nat → ZS → Prop) (Ret : Int32 → ZS → Prop) (σ : ZS) (x1 : Int32) (x2 : Int32) (x3 : Int32) : Prop := ∃ k, VL_X1_counts_15 Thr Ret k σ x1 x2 x3
def wp_X1_counts (σ : ZS) (a1 : Int32) (Thr : Nat → ZS → Prop) (Ret : Int32 → ZS → Prop) : Prop :=
    wp_X1_streetOf σ a1 (fun x σ => Thr x σ) (fun r1 σ2 => wp_X1_findWays σ2 (fun r3 σ4 => V_X1_counts_15 Thr Ret σ4 a1 0 0))
set_option maxHeartbeats 4000000 in
theorem mz_X1_counts {l : Launch} {E : ZE} (hE : EOK E) {σ : ZS} {a1 : Int32} {Thr : Nat → ZS → Prop} {Ret : Int32 → ZS → Prop} (hV : wp_X1_counts σ a1 Thr Ret) : MZ l E NS yX1_counts (ws_ yX1_counts cX1_counts 6 (some .int)) 12 σ [.ref (E.1.heap.size + 0), .int a1] (rT E.1.heap.size (rI Ret) Thr) := by
  refine MZ.start (L := [some (.ref (E.1.heap.size + 0)), some (.int a1), none, none, none, none]) hE (by decide) (Nat.le_of_ble_eq_true rfl) rfl fun C hCl hQo hC => ?_
  replace hC : Cx C E cX1_counts 6 "RightTurns" "counts" (some .int) [] 12 := hC
  unfold wp_X1_counts at hV
  have j_15 : ∀ (σ : ZS) (x1 : Int32) (x2 : Int32) (x3 : Int32), V_X1_counts_15 Thr Ret σ x1 x2 x3 → zz C E NS 6 σ 15 [some (.ref (E.1.heap.size + 0)), some (.int x1), some (.int x2), some (.int x3), none, none] [] := by
    intro σ x1 x2 x3 ⟨k, hV⟩
    revert σ x1 x2 x3
    induction k with
    | zero => exact fun _ _ _ _ hV => hV.elim
    | succ k j_15 =>
      intro σ x1 x2 x3 hV
      simp only [VL_X1_counts_15] at hV
      generalize hKe15 : VL_X1_counts_15 Thr Ret k = K15 at hV j_15
      clear hKe15
      have j_35 : ∀ (σ : ZS) (x1 : Int32) (x2 : Int32) (x3 : Int32) (x4 : Int32) (x5 : Int32), V_X1_counts_35 K15 Thr Ret σ x1 x2 x3 x4 x5 → zz C E NS 6 σ 35 [some (.ref (E.1.heap.size + 0)), some (.int x1), some (.int x2), some (.int x3), some (.int x4), some (.int x5)] [] := by
        intro σ x1 x2 x3 x4 x5 ⟨k, hV⟩
        revert σ x1 x2 x3 x4 x5
        induction k with
        | zero => exact fun _ _ _ _ _ _ hV => hV.elim
        | succ k j_35 =>
          intro σ x1 x2 x3 x4 x5 hV
          simp only [VL_X1_counts_35] at hV
          generalize hKe35 : VL_X1_counts_35 K15 Thr Ret k = K35 at hV j_35
          clear hKe35
          refine z_iload hC dX1_counts_35 rfl ?_
          refine z_aload_n hC dX1_counts_37 rfl rfl ?_
          refine g_X1_84_0 hC dX1_counts_38 ?_
          refine z_iload_n hC dX1_counts_41 rfl rfl ?_
          obtain ⟨h13, hV⟩ := hV
          refine z_iald hC dX1_counts_42 (k_33 _) (h13) ?_
          refine z_icmp_ge (tgt := 82) hC dX1_counts_43 (by decide) (fun hc => ?_) (fun hc => ?_)
          · replace hV := hV.2 hc
            refine z_iload_n hC dX1_counts_82 rfl rfl ?_
            refine z_iload hC dX1_counts_83 rfl ?_
            refine z_if_eq (tgt := 92) hC dX1_counts_85 (by decide) (fun hc => ?_) (fun hc => ?_)
            · replace hV := hV.1 hc
              refine z_iconst (v := 0) hC dX1_counts_92 rfl ?_
              refine z_iadd hC dX1_counts_93 ?_
              obtain ⟨y14, e_y14⟩ : ∃ z, z = x2 + 0 := ⟨_, rfl⟩
              rw [← e_y14]
              replace hV := hV _ e_y14
              refine z_istore_n hC dX1_counts_94 rfl (Nat.le_of_ble_eq_true rfl) rfl rfl ?_
              obtain ⟨y15, e_y15⟩ : ∃ z : Int32, z = x3 + 1 := ⟨_, rfl⟩
              replace hV := hV _ e_y15
              refine z_iinc (v := y15) hC dX1_counts_95 rfl (by rw [e_y15]; rfl) (Nat.le_of_ble_eq_true rfl) rfl rfl ?_
              refine z_goto (tgt := 15) hC dX1_counts_98 (by decide) ?_
              refine zz_sub (L' := [some (.ref (E.1.heap.size + 0)), some (.int x1), some (.int y14), some (.int y15), none, none]) ⟨rfl, rfl, rfl, rfl, trivial⟩ ?_
              exact j_15 σ x1 y14 y15 hV
            · replace hV := hV.2 hc
              refine z_iconst (v := 1) hC dX1_counts_88 rfl ?_
              refine z_goto (tgt := 93) hC dX1_counts_89 (by decide) ?_
              refine z_iadd hC dX1_counts_93 ?_
              obtain ⟨y16, e_y16⟩ : ∃ z, z = x2 + 1 := ⟨_, rfl⟩
              rw [← e_y16]
              replace hV := hV _ e_y16
              refine z_istore_n hC dX1_counts_94 rfl (Nat.le_of_ble_eq_true rfl) rfl rfl ?_
              obtain ⟨y17, e_y17⟩ : ∃ z : Int32, z = x3 + 1 := ⟨_, rfl⟩
              replace hV := hV _ e_y17
              refine z_iinc (v := y17) hC dX1_counts_95 rfl (by rw [e_y17]; rfl) (Nat.le_of_ble_eq_true rfl) rfl rfl ?_
              refine z_goto (tgt := 15) hC dX1_counts_98 (by decide) ?_
              refine zz_sub (L' := [some (.ref (E.1.heap.size + 0)), some (.int x1), some (.int y16), some (.int y17), none, none]) ⟨rfl, rfl, rfl, rfl, trivial⟩ ?_
              exact j_15 σ x1 y16 y17 hV
          · replace hV := hV.1 hc
            refine z_iload hC dX1_counts_46 rfl ?_
            refine z_if_ne (tgt := 69) hC dX1_counts_48 (by decide) (fun hc => ?_) (fun hc => ?_)
            · replace hV := hV.2 hc
              refine z_iconst (v := 1) hC dX1_counts_69 rfl ?_
              refine z_goto (tgt := 74) hC dX1_counts_70 (by decide) ?_
              refine z_istore hC dX1_counts_74 (Nat.le_of_ble_eq_true rfl) rfl rfl ?_
              obtain ⟨y18, e_y18⟩ : ∃ z : Int32, z = x5 + 1 := ⟨_, rfl⟩
              replace hV := hV _ e_y18
              refine z_iinc (v := y18) hC dX1_counts_76 rfl (by rw [e_y18]; rfl) (Nat.le_of_ble_eq_true rfl) rfl rfl ?_
              refine z_goto (tgt := 35) hC dX1_counts_79 (by decide) ?_
              refine zz_sub (L' := [some (.ref (E.1.heap.size + 0)), some (.int x1), some (.int x2), some (.int x3), some (.int 1), some (.int y18)]) ⟨rfl, rfl, rfl, rfl, rfl, rfl, trivial⟩ ?_
              exact j_35 σ x1 x2 x3 1 y18 hV
            · replace hV := hV.1 hc
              refine z_aload_n hC dX1_counts_51 rfl rfl ?_
              refine g_X1_81_0 hC dX1_counts_52 ?_
              refine z_bipush (v := 48) hC dX1_counts_55 rfl ?_
              refine z_iload_n hC dX1_counts_57 rfl rfl ?_
              refine z_imul hC dX1_counts_58 ?_
              refine z_iload hC dX1_counts_59 rfl ?_
              refine z_iadd hC dX1_counts_61 ?_
              obtain ⟨h19, hV⟩ := hV
              refine z_iald hC dX1_counts_62 (k_32 _) (h19) ?_
              refine z_iconst (v := 2) hC dX1_counts_63 rfl ?_
              refine z_idiv hC dX1_counts_64 (by decide) ?_
              refine z_iload_n hC dX1_counts_65 rfl rfl ?_
              refine z_icmp_ne (tgt := 73) hC dX1_counts_66 (by decide) (fun hc => ?_) (fun hc => ?_)
              · replace hV := hV.2 hc
                refine z_iconst (v := 0) hC dX1_counts_73 rfl ?_
                refine z_istore hC dX1_counts_74 (Nat.le_of_ble_eq_true rfl) rfl rfl ?_
                obtain ⟨y20, e_y20⟩ : ∃ z : Int32, z = x5 + 1 := ⟨_, rfl⟩
                replace hV := hV _ e_y20
                refine z_iinc (v := y20) hC dX1_counts_76 rfl (by rw [e_y20]; rfl) (Nat.le_of_ble_eq_true rfl) rfl rfl ?_
                refine z_goto (tgt := 35) hC dX1_counts_79 (by decide) ?_
                refine zz_sub (L' := [some (.ref (E.1.heap.size + 0)), some (.int x1), some (.int x2), some (.int x3), some (.int 0), some (.int y20)]) ⟨rfl, rfl, rfl, rfl, rfl, rfl, trivial⟩ ?_
                exact j_35 σ x1 x2 x3 0 y20 hV
              · replace hV := hV.1 hc
                refine z_iconst (v := 1) hC dX1_counts_69 rfl ?_
                refine z_goto (tgt := 74) hC dX1_counts_70 (by decide) ?_
                refine z_istore hC dX1_counts_74 (Nat.le_of_ble_eq_true rfl) rfl rfl ?_
                obtain ⟨y21, e_y21⟩ : ∃ z : Int32, z = x5 + 1 := ⟨_, rfl⟩
                replace hV := hV _ e_y21
                refine z_iinc (v := y21) hC dX1_counts_76 rfl (by rw [e_y21]; rfl) (Nat.le_of_ble_eq_true rfl) rfl rfl ?_
                refine z_goto (tgt := 35) hC dX1_counts_79 (by decide) ?_
                refine zz_sub (L' := [some (.ref (E.1.heap.size + 0)), some (.int x1), some (.int x2), some (.int x3), some (.int 1), some (.int y21)]) ⟨rfl, rfl, rfl, rfl, rfl, rfl, trivial⟩ ?_
                exact j_35 σ x1 x2 x3 1 y21 hV
      refine z_iload_n hC dX1_counts_15 rfl rfl ?_
      refine z_aload_n hC dX1_counts_16 rfl rfl ?_
      refine g_X1_12_0 hC dX1_counts_17 ?_
      obtain ⟨h5, hV⟩ := hV
      refine zz_at rfl (by rw [pvo h5]) ?_
      obtain ⟨⟨n7, h6⟩, hV⟩ := hV
      refine g_X1_214_c1 hC dX1_counts_20 h6 ?_
      obtain ⟨h8, hV⟩ := hV
      refine zz_at rfl (by rw [pvo h8]) ?_
      obtain ⟨⟨n12, h11⟩, hV⟩ := hV
      refine c_X1_127 hC (by decide) dX1_counts_23 (Nat.le_of_ble_eq_true rfl) h11 hV (fun r9 σ10 hV => ?_)
      refine z_icmp_ge (tgt := 101) hC dX1_counts_26 (by decide) (fun hc => ?_) (fun hc => ?_)
      · replace hV := hV.2 hc
        refine z_iload_n hC dX1_counts_101 rfl rfl ?_
        exact z_iret hC dX1_counts_102 rfl (by rw [hQo]; exact Or.inl ⟨_, rfl, hV⟩)
      · replace hV := hV.1 hc
        refine z_iconst (v := 0) hC dX1_counts_29 rfl ?_
        refine z_istore hC dX1_counts_30 (Nat.le_of_ble_eq_true rfl) rfl rfl ?_
        refine z_iconst (v := 0) hC dX1_counts_32 rfl ?_
        refine z_istore hC dX1_counts_33 (Nat.le_of_ble_eq_true rfl) rfl rfl ?_
        refine zz_sub (L' := [some (.ref (E.1.heap.size + 0)), some (.int x1), some (.int x2), some (.int x3), some (.int 0), some (.int 0)]) ⟨rfl, rfl, rfl, rfl, rfl, rfl, trivial⟩ ?_
        exact j_35 σ10 x1 x2 x3 0 0 hV
  refine z_aload_n hC dX1_counts_0 rfl rfl ?_
  refine z_iload_n hC dX1_counts_1 rfl rfl ?_
  refine c_X1_220 hC (by decide) dX1_counts_2 (Nat.le_of_ble_eq_true rfl) hV (fun r1 σ2 hV => ?_) (fun x σ hV => zth_out hC (by rw [hQo]; exact Or.inr ⟨_, rfl, hV⟩))
  refine z_pop hC dX1_counts_5 (pv_cat _ _) ?_
  refine z_aload_n hC dX1_counts_6 rfl rfl ?_
  refine c_X1_367 hC (by decide) dX1_counts_7 (Nat.le_of_ble_eq_true rfl) hV (fun r3 σ4 hV => ?_)
  refine z_pop hC dX1_counts_10 rfl ?_
  refine z_iconst (v := 0) hC dX1_counts_11 rfl ?_
  refine z_istore_n hC dX1_counts_12 rfl (Nat.le_of_ble_eq_true rfl) rfl rfl ?_
  refine z_iconst (v := 0) hC dX1_counts_13 rfl ?_
  refine z_istore_n hC dX1_counts_14 rfl (Nat.le_of_ble_eq_true rfl) rfl rfl ?_
  refine zz_sub (L' := [some (.ref (E.1.heap.size + 0)), some (.int a1), some (.int 0), some (.int 0), none, none]) ⟨rfl, rfl, rfl, rfl, trivial⟩ ?_
  exact j_15 σ4 a1 0 0 hV
theorem cw_X1_comesOf : CodeW yX1_comesOf (ws_ yX1_comesOf cX1_comesOf 6 (some .int)) 6 := ⟨fun w h => (List.mem_cons.mp h).elim (fun e => e ▸ q1544) id, Or.inl ⟨_, _, q1544⟩, q116, by decide, by decide⟩
theorem c_X1_412 {C : ZC} {E : ZE} {cc : ByteArray} {nL pc d : Nat} {nm : String} {ret : Option FieldType} {hh : List (Nat × Nat × Nat × Nat)} {σ : ZS} {L : List (Option Value)} {st : List Value} {a1 : Int32} {a2 : Int32} {Ret : Int32 → ZS → Prop} (hC : Cx C E cc nL "RightTurns" nm ret hh d) (hdd : 10 + 1 ≤ d) (hd : decode cc pc = .ok (.invokevirtual 412, 3)) (hW : (st.map fun v => v.category).sum ≤ 8) (hV : wp_X1_comesOf σ a1 a2 Ret) (k : ∀ r σ', Ret r σ' → zz C E NS nL σ' (pc + 3) L (.int r :: st)) : zz C E NS nL σ pc L (.int a2 :: .int a1 :: .ref (E.1.heap.size + 0) :: st) :=
  z_callVG hC cf0 cw_X1_comesOf hdd (by decide) (mz_X1_comesOf (cxE hC) hV) hd (k_0 σ) q1541 q1543 qs49 (np := 2) rfl rfl hW rfl (kI k)
def VL_X1_cut_12 (Thr : Nat → ZS → Prop) (Ret : Int32 → ZS → Prop) : Nat → ZS → Int32 → Int32 → Int32 → Prop
  | 0 => fun _ _ _ _ => False
  | k + 1 => fun σ x1 x2 x3 =>
    let K12 := VL_X1_cut_12 Thr Ret k
    wp_X1_corners σ (fun r5 σ6 => ((x3 < r5 → (wp_X1_comesOf σ6 x3 x1 (fun r7 σ8 => wp_X1_corners σ8 (fun r9 σ10 => ((r7 = (((1 : Int32) <<< (r9 &&& 31)) - 1) → (∀ y20 : Int32, y20 = x3 + 1 → (K12 σ10 x1 x2 y20))) ∧ (¬ r7 = (((1 : Int32) <<< (r9 &&& 31)) - 1) → (wp_J16_bitCount σ10 r7 (fun r11 σ12 => wp_J16_bitCount σ12 x2 (fun r13 σ14 => ((x2 = 0 → (∀ y15 : Int32, y15 = x3 + 1 → (K12 σ14 x1 r7 y15))) ∧ (¬ x2 = 0 → (((r11 < r13 → (∀ y16 : Int32, y16 = x3 + 1 → (K12 σ14 x1 r7 y16))) ∧ (¬ r11 < r13 → (((r11 = r13 → (((r7 < x2 → (∀ y19 : Int32, y19 = x3 + 1 → (K12 σ14 x1 r7 y19))) ∧ (¬ r7 < x2 → (∀ y18 : Int32, y18 = x3 + 1 → (K12 σ14 x1 x2 y18)))))) ∧ (¬ r11 = r13 → (∀ y17 : Int32, y17 = x3 + 1 → (K12 σ14 x1 x2 y17))))))))))))))))))) ∧ (¬ x3 < r5 → (Ret x2 σ6))))
def V_X1_cut_12 (Thr : Nat → ZS → Prop) (Ret : Int32 → ZS → Prop) (σ : ZS) (x1 : Int32) (x2 : Int32) (x3 : Int32) : Prop := ∃ k, VL_X1_cut_12 Thr Ret k σ x1 x2 x3
def wp_X1_cut (σ : ZS) (a1 : Int32) (Thr : Nat → ZS → Prop) (Ret : Int32 → ZS → Prop) : Prop :=
    wp_X1_isTime σ a1 (fun r1 σ2 => wp_X1_need σ2 r1 (fun x σ => Thr x σ) (fun σ4 => V_X1_cut_12 Thr Ret σ4 a1 0 0))
set_option maxHeartbeats 4000000 in
theorem mz_X1_cut {l : Launch} {E : ZE} (hE : EOK E) {σ : ZS} {a1 : Int32} {Thr : Nat → ZS → Prop} {Ret : Int32 → ZS → Prop} (hV : wp_X1_cut σ a1 Thr Ret) : MZ l E NS yX1_cut (ws_ yX1_cut cX1_cut 7 (some .int)) 11 σ [.ref (E.1.heap.size + 0), .int a1] (rT E.1.heap.size (rI Ret) Thr) := by
  refine MZ.start (L := [some (.ref (E.1.heap.size + 0)), some (.int a1), none, none, none, none, none]) hE (by decide) (Nat.le_of_ble_eq_true rfl) rfl fun C hCl hQo hC => ?_
  replace hC : Cx C E cX1_cut 7 "RightTurns" "cut" (some .int) [] 11 := hC
  unfold wp_X1_cut at hV
  have j_12 : ∀ (σ : ZS) (x1 : Int32) (x2 : Int32) (x3 : Int32), V_X1_cut_12 Thr Ret σ x1 x2 x3 → zz C E NS 7 σ 12 [some (.ref (E.1.heap.size + 0)), some (.int x1), some (.int x2), some (.int x3), none, none, none] [] := by
    intro σ x1 x2 x3 ⟨k, hV⟩
    revert σ x1 x2 x3
    induction k with
    | zero => exact fun _ _ _ _ hV => hV.elim
    | succ k j_12 =>
      intro σ x1 x2 x3 hV
      simp only [VL_X1_cut_12] at hV
      generalize hKe12 : VL_X1_cut_12 Thr Ret k = K12 at hV j_12
      clear hKe12
      refine z_iload_n hC dX1_cut_12 rfl rfl ?_
      refine z_aload_n hC dX1_cut_13 rfl rfl ?_
      refine c_X1_133 hC (by decide) dX1_cut_14 (Nat.le_of_ble_eq_true rfl) hV (fun r5 σ6 hV => ?_)
      refine z_icmp_ge (tgt := 90) hC dX1_cut_17 (by decide) (fun hc => ?_) (fun hc => ?_)
      · replace hV := hV.2 hc
        refine z_iload_n hC dX1_cut_90 rfl rfl ?_
        exact z_iret hC dX1_cut_91 rfl (by rw [hQo]; exact Or.inl ⟨_, rfl, hV⟩)
      · replace hV := hV.1 hc
        refine z_aload_n hC dX1_cut_20 rfl rfl ?_
        refine z_iload_n hC dX1_cut_21 rfl rfl ?_
        refine z_iload_n hC dX1_cut_22 rfl rfl ?_
        refine c_X1_412 hC (by decide) dX1_cut_23 (Nat.le_of_ble_eq_true rfl) hV (fun r7 σ8 hV => ?_)
        refine z_istore hC dX1_cut_26 (Nat.le_of_ble_eq_true rfl) rfl rfl ?_
        refine z_iload hC dX1_cut_28 rfl ?_
        refine z_iconst (v := 1) hC dX1_cut_30 rfl ?_
        refine z_aload_n hC dX1_cut_31 rfl rfl ?_
        refine c_X1_133 hC (by decide) dX1_cut_32 (Nat.le_of_ble_eq_true rfl) hV (fun r9 σ10 hV => ?_)
        refine z_ishl hC dX1_cut_35 ?_
        refine z_iconst (v := 1) hC dX1_cut_36 rfl ?_
        refine z_isub hC dX1_cut_37 ?_
        refine z_icmp_ne (tgt := 44) hC dX1_cut_38 (by decide) (fun hc => ?_) (fun hc => ?_)
        · replace hV := hV.2 hc
          refine z_iload hC dX1_cut_44 rfl ?_
          refine c_X1_208 hC (by decide) dX1_cut_46 (Nat.le_of_ble_eq_true rfl) hV (fun r11 σ12 hV => ?_)
          refine z_istore hC dX1_cut_49 (Nat.le_of_ble_eq_true rfl) rfl rfl ?_
          refine z_iload_n hC dX1_cut_51 rfl rfl ?_
          refine c_X1_208 hC (by decide) dX1_cut_52 (Nat.le_of_ble_eq_true rfl) hV (fun r13 σ14 hV => ?_)
          refine z_istore hC dX1_cut_55 (Nat.le_of_ble_eq_true rfl) rfl rfl ?_
          refine z_iload_n hC dX1_cut_57 rfl rfl ?_
          refine z_if_eq (tgt := 81) hC dX1_cut_58 (by decide) (fun hc => ?_) (fun hc => ?_)
          · replace hV := hV.1 hc
            refine z_iload hC dX1_cut_81 rfl ?_
            refine z_istore_n hC dX1_cut_83 rfl (Nat.le_of_ble_eq_true rfl) rfl rfl ?_
            obtain ⟨y15, e_y15⟩ : ∃ z : Int32, z = x3 + 1 := ⟨_, rfl⟩
            replace hV := hV _ e_y15
            refine z_iinc (v := y15) hC dX1_cut_84 rfl (by rw [e_y15]; rfl) (Nat.le_of_ble_eq_true rfl) rfl rfl ?_
            refine z_goto (tgt := 12) hC dX1_cut_87 (by decide) ?_
            refine zz_sub (L' := [some (.ref (E.1.heap.size + 0)), some (.int x1), some (.int r7), some (.int y15), none, none, none]) ⟨rfl, rfl, rfl, rfl, trivial⟩ ?_
            exact j_12 σ14 x1 r7 y15 hV
          · replace hV := hV.2 hc
            refine z_iload hC dX1_cut_61 rfl ?_
            refine z_iload hC dX1_cut_63 rfl ?_
            refine z_icmp_lt (tgt := 81) hC dX1_cut_65 (by decide) (fun hc => ?_) (fun hc => ?_)
            · replace hV := hV.1 hc
              refine z_iload hC dX1_cut_81 rfl ?_
              refine z_istore_n hC dX1_cut_83 rfl (Nat.le_of_ble_eq_true rfl) rfl rfl ?_
              obtain ⟨y16, e_y16⟩ : ∃ z : Int32, z = x3 + 1 := ⟨_, rfl⟩
              replace hV := hV _ e_y16
              refine z_iinc (v := y16) hC dX1_cut_84 rfl (by rw [e_y16]; rfl) (Nat.le_of_ble_eq_true rfl) rfl rfl ?_
              refine z_goto (tgt := 12) hC dX1_cut_87 (by decide) ?_
              refine zz_sub (L' := [some (.ref (E.1.heap.size + 0)), some (.int x1), some (.int r7), some (.int y16), none, none, none]) ⟨rfl, rfl, rfl, rfl, trivial⟩ ?_
              exact j_12 σ14 x1 r7 y16 hV
            · replace hV := hV.2 hc
              refine z_iload hC dX1_cut_68 rfl ?_
              refine z_iload hC dX1_cut_70 rfl ?_
              refine z_icmp_ne (tgt := 84) hC dX1_cut_72 (by decide) (fun hc => ?_) (fun hc => ?_)
              · replace hV := hV.2 hc
                obtain ⟨y17, e_y17⟩ : ∃ z : Int32, z = x3 + 1 := ⟨_, rfl⟩
                replace hV := hV _ e_y17
                refine z_iinc (v := y17) hC dX1_cut_84 rfl (by rw [e_y17]; rfl) (Nat.le_of_ble_eq_true rfl) rfl rfl ?_
                refine z_goto (tgt := 12) hC dX1_cut_87 (by decide) ?_
                refine zz_sub (L' := [some (.ref (E.1.heap.size + 0)), some (.int x1), some (.int x2), some (.int y17), none, none, none]) ⟨rfl, rfl, rfl, rfl, trivial⟩ ?_
                exact j_12 σ14 x1 x2 y17 hV
              · replace hV := hV.1 hc
                refine z_iload hC dX1_cut_75 rfl ?_
                refine z_iload_n hC dX1_cut_77 rfl rfl ?_
                refine z_icmp_ge (tgt := 84) hC dX1_cut_78 (by decide) (fun hc => ?_) (fun hc => ?_)
                · replace hV := hV.2 hc
                  obtain ⟨y18, e_y18⟩ : ∃ z : Int32, z = x3 + 1 := ⟨_, rfl⟩
                  replace hV := hV _ e_y18
                  refine z_iinc (v := y18) hC dX1_cut_84 rfl (by rw [e_y18]; rfl) (Nat.le_of_ble_eq_true rfl) rfl rfl ?_
                  refine z_goto (tgt := 12) hC dX1_cut_87 (by decide) ?_
                  refine zz_sub (L' := [some (.ref (E.1.heap.size + 0)), some (.int x1), some (.int x2), some (.int y18), none, none, none]) ⟨rfl, rfl, rfl, rfl, trivial⟩ ?_
                  exact j_12 σ14 x1 x2 y18 hV
                · replace hV := hV.1 hc
                  refine z_iload hC dX1_cut_81 rfl ?_
                  refine z_istore_n hC dX1_cut_83 rfl (Nat.le_of_ble_eq_true rfl) rfl rfl ?_
                  obtain ⟨y19, e_y19⟩ : ∃ z : Int32, z = x3 + 1 := ⟨_, rfl⟩
                  replace hV := hV _ e_y19
                  refine z_iinc (v := y19) hC dX1_cut_84 rfl (by rw [e_y19]; rfl) (Nat.le_of_ble_eq_true rfl) rfl rfl ?_
                  refine z_goto (tgt := 12) hC dX1_cut_87 (by decide) ?_
                  refine zz_sub (L' := [some (.ref (E.1.heap.size + 0)), some (.int x1), some (.int r7), some (.int y19), none, none, none]) ⟨rfl, rfl, rfl, rfl, trivial⟩ ?_
                  exact j_12 σ14 x1 r7 y19 hV
        · replace hV := hV.1 hc
          refine z_goto (tgt := 84) hC dX1_cut_41 (by decide) ?_
          obtain ⟨y20, e_y20⟩ : ∃ z : Int32, z = x3 + 1 := ⟨_, rfl⟩
          replace hV := hV _ e_y20
          refine z_iinc (v := y20) hC dX1_cut_84 rfl (by rw [e_y20]; rfl) (Nat.le_of_ble_eq_true rfl) rfl rfl ?_
          refine z_goto (tgt := 12) hC dX1_cut_87 (by decide) ?_
          refine zz_sub (L' := [some (.ref (E.1.heap.size + 0)), some (.int x1), some (.int x2), some (.int y20), none, none, none]) ⟨rfl, rfl, rfl, rfl, trivial⟩ ?_
          exact j_12 σ10 x1 x2 y20 hV
  refine z_aload_n hC dX1_cut_0 rfl rfl ?_
  refine z_iload_n hC dX1_cut_1 rfl rfl ?_
  refine c_X1_254 hC (by decide) dX1_cut_2 (Nat.le_of_ble_eq_true rfl) hV (fun r1 σ2 hV => ?_)
  refine c_X1_164 hC (by decide) dX1_cut_5 (Nat.le_of_ble_eq_true rfl) hV (fun σ4 hV => ?_) (fun x σ hV => zth_out hC (by rw [hQo]; exact Or.inr ⟨_, rfl, hV⟩))
  refine z_iconst (v := 0) hC dX1_cut_8 rfl ?_
  refine z_istore_n hC dX1_cut_9 rfl (Nat.le_of_ble_eq_true rfl) rfl rfl ?_
  refine z_iconst (v := 0) hC dX1_cut_10 rfl ?_
  refine z_istore_n hC dX1_cut_11 rfl (Nat.le_of_ble_eq_true rfl) rfl rfl ?_
  refine zz_sub (L' := [some (.ref (E.1.heap.size + 0)), some (.int a1), some (.int 0), some (.int 0), none, none, none]) ⟨rfl, rfl, rfl, rfl, trivial⟩ ?_
  exact j_12 σ4 a1 0 0 hV
