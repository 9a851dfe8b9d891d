set_option maxRecDepth 100000
theorem c_X1_274 {C : ZC} {E : ZE} {cc : ByteArray} {nL pc d : Nat} {nm : String} {ret : Option FieldType} {hh : List (Nat × Nat × Nat × Nat)} {σ : ZS} {L : List (Option Value)} {st : List Value} {a0 : Nat} {a1 : Int32} {Ret : Int32 → ZS → Prop} (hC : Cx C E cc nL "RightTurns" nm ret hh d) (hdd : 5 + 1 ≤ d) (hd : decode cc pc = .ok (.invokevirtual 274, 3)) (hW : (st.map fun v => v.category).sum ≤ 8) {x : Nat} (hk : kK NS σ a0 = (1 + 7, x)) (hV : wp_X2_end σ a0 a1 Ret) (k : ∀ r σ', Ret r σ' → zz C E NS nL σ' (pc + 3) L (.int r :: st)) : zz C E NS nL σ pc L (.int a1 :: .ref (E.1.heap.size + a0) :: st) :=
  z_callVG hC cf1 cw_X2_end hdd (by decide) (mz_X2_end (cxE hC) hV) hd hk q1300 q1122 q1123 (np := 1) rfl rfl hW rfl (kI k)
def VL_X1_findRest_96 (K57 : ZS → Int32 → Int32 → Prop) (K66 : ZS → Int32 → Int32 → Int32 → Prop) (Ret : ZS → Prop) : Nat → ZS → Int32 → Int32 → Int32 → Int32 → Prop
  | 0 => fun _ _ _ _ _ => False
  | k + 1 => fun σ x2 x3 x4 x5 =>
    let K96 := VL_X1_findRest_96 K57 K66 Ret k
    (zP σ 0 0) = some (.inl (zo (zP σ 0 0))) ∧ ((∃ n20, kK NS σ (zo (zP σ 0 0)) = (8, n20)) ∧ (wp_X2_arcs σ (zo (zP σ 0 0)) (fun r17 σ18 => ((x5 < r17 → ((zP σ18 0 0) = some (.inl (zo (zP σ18 0 0))) ∧ ((∃ n26, kK NS σ18 (zo (zP σ18 0 0)) = (8, n26)) ∧ (wp_X2_isArc σ18 (zo (zP σ18 0 0)) x5 (fun r23 σ24 => ((r23 = 0 → (∀ y27 : Int32, y27 = x5 + 1 → (K96 σ24 x2 x3 x4 y27))) ∧ (¬ r23 = 0 → (vp_in x5 48 ∧ ((zP σ24 0 0) = some (.inl (zo (zP σ24 0 0))) ∧ ((∃ n33, kK NS σ24 (zo (zP σ24 0 0)) = (8, n33)) ∧ (wp_X2_length σ24 (zo (zP σ24 0 0)) x5 (fun r30 σ31 => vp_in x4 48 ∧ (((((zI σ24 20 (ix x5)) + r30) < (zI σ31 20 (ix x4)) → (wp_X1_mayRide σ31 x4 x5 x2 (fun r36 σ37 => ((r36 = 0 → (∀ y47 : Int32, y47 = x5 + 1 → (K96 σ37 x2 x3 x4 y47))) ∧ (¬ r36 = 0 → (vp_in x5 48 ∧ ((zP σ37 0 0) = some (.inl (zo (zP σ37 0 0))) ∧ ((∃ n43, kK NS σ37 (zo (zP σ37 0 0)) = (8, n43)) ∧ (wp_X2_length σ37 (zo (zP σ37 0 0)) x5 (fun r40 σ41 => vp_in x4 48 ∧ (∀ σ45 : ZS, σ45 = sI σ41 20 (ix x4) ((zI σ37 20 (ix x5)) + r40) → (∀ y46 : Int32, y46 = x5 + 1 → (K96 σ45 x2 1 x4 y46))))))))))))) ∧ (¬ ((zI σ24 20 (ix x5)) + r30) < (zI σ31 20 (ix x4)) → (∀ y35 : Int32, y35 = x5 + 1 → (K96 σ31 x2 x3 x4 y35))))))))))))))))) ∧ (¬ x5 < r17 → (∀ y21 : Int32, y21 = x4 + 1 → (K66 σ18 x2 x3 y21)))))))
def V_X1_findRest_96 (K57 : ZS → Int32 → Int32 → Prop) (K66 : ZS → Int32 → Int32 → Int32 → Prop) (Ret : ZS → Prop) (σ : ZS) (x2 : Int32) (x3 : Int32) (x4 : Int32) (x5 : Int32) : Prop := ∃ k, VL_X1_findRest_96 K57 K66 Ret k σ x2 x3 x4 x5
def VL_X1_findRest_66 (K57 : ZS → Int32 → Int32 → Prop) (Ret : ZS → Prop) : Nat → ZS → Int32 → Int32 → Int32 → Prop
  | 0 => fun _ _ _ _ => False
  | k + 1 => fun σ x2 x3 x4 =>
    let K66 := VL_X1_findRest_66 K57 Ret k
    (zP σ 0 0) = some (.inl (zo (zP σ 0 0))) ∧ ((∃ n10, kK NS σ (zo (zP σ 0 0)) = (8, n10)) ∧ (wp_X2_arcs σ (zo (zP σ 0 0)) (fun r7 σ8 => ((x4 < r7 → ((zP σ8 0 0) = some (.inl (zo (zP σ8 0 0))) ∧ ((∃ n15, kK NS σ8 (zo (zP σ8 0 0)) = (8, n15)) ∧ (wp_X2_isArc σ8 (zo (zP σ8 0 0)) x4 (fun r12 σ13 => ((r12 = 0 → (∀ y48 : Int32, y48 = x4 + 1 → (K66 σ13 x2 x3 y48))) ∧ (¬ r12 = 0 → (V_X1_findRest_96 K57 K66 Ret σ13 x2 x3 x4 0)))))))) ∧ (¬ x4 < r7 → (K57 σ8 x2 x3))))))
def V_X1_findRest_66 (K57 : ZS → Int32 → Int32 → Prop) (Ret : ZS → Prop) (σ : ZS) (x2 : Int32) (x3 : Int32) (x4 : Int32) : Prop := ∃ k, VL_X1_findRest_66 K57 Ret k σ x2 x3 x4
def VL_X1_findRest_57 (Ret : ZS → Prop) : Nat → ZS → Int32 → Int32 → Prop
  | 0 => fun _ _ _ => False
  | k + 1 => fun σ x2 x3 =>
    let K57 := VL_X1_findRest_57 Ret k
    ((x3 = 0 → (Ret σ)) ∧ (¬ x3 = 0 → (V_X1_findRest_66 K57 Ret σ x2 0 0)))
def V_X1_findRest_57 (Ret : ZS → Prop) (σ : ZS) (x2 : Int32) (x3 : Int32) : Prop := ∃ k, VL_X1_findRest_57 Ret k σ x2 x3
def VL_X1_findRest_2 (Ret : ZS → Prop) : Nat → ZS → Int32 → Int32 → Int32 → Prop
  | 0 => fun _ _ _ _ => False
  | k + 1 => fun σ x1 x2 x3 =>
    let K2 := VL_X1_findRest_2 Ret k
    (zP σ 0 0) = some (.inl (zo (zP σ 0 0))) ∧ ((∃ n5, kK NS σ (zo (zP σ 0 0)) = (8, n5)) ∧ (wp_X2_arcs σ (zo (zP σ 0 0)) (fun r2 σ3 => ((x3 < r2 → ((zP σ3 0 0) = some (.inl (zo (zP σ3 0 0))) ∧ ((∃ n53, kK NS σ3 (zo (zP σ3 0 0)) = (8, n53)) ∧ (wp_X2_isArc σ3 (zo (zP σ3 0 0)) x3 (fun r50 σ51 => ((r50 = 0 → (vp_in x3 48 ∧ (∀ σ55 : ZS, σ55 = sI σ51 20 (ix x3) 1000000 → (∀ y56 : Int32, y56 = x3 + 1 → (K2 σ55 x1 x2 y56))))) ∧ (¬ r50 = 0 → ((zP σ51 0 0) = some (.inl (zo (zP σ51 0 0))) ∧ ((∃ n61, kK NS σ51 (zo (zP σ51 0 0)) = (8, n61)) ∧ (wp_X2_end σ51 (zo (zP σ51 0 0)) x3 (fun r58 σ59 => ((r58 = x1 → (vp_in x3 48 ∧ (∀ σ66 : ZS, σ66 = sI σ59 20 (ix x3) 0 → (∀ y67 : Int32, y67 = x3 + 1 → (K2 σ66 x1 x2 y67))))) ∧ (¬ r58 = x1 → (vp_in x3 48 ∧ (∀ σ63 : ZS, σ63 = sI σ59 20 (ix x3) 1000000 → (∀ y64 : Int32, y64 = x3 + 1 → (K2 σ63 x1 x2 y64))))))))))))))))) ∧ (¬ x3 < r2 → (V_X1_findRest_57 Ret σ3 x2 1))))))
def V_X1_findRest_2 (Ret : ZS → Prop) (σ : ZS) (x1 : Int32) (x2 : Int32) (x3 : Int32) : Prop := ∃ k, VL_X1_findRest_2 Ret k σ x1 x2 x3
def wp_X1_findRest (σ : ZS) (a1 : Int32) (a2 : Int32) (Ret : ZS → Prop) : Prop :=
    V_X1_findRest_2 Ret σ a1 a2 0
set_option maxHeartbeats 4000000 in
theorem mz_X1_findRest {l : Launch} {E : ZE} (hE : EOK E) {σ : ZS} {a1 : Int32} {a2 : Int32} {Ret : ZS → Prop} (hV : wp_X1_findRest σ a1 a2 Ret) : MZ l E NS yX1_findRest (ws_ yX1_findRest cX1_findRest 6 none) 8 σ [.ref (E.1.heap.size + 0), .int a1, .int a2] (rV Ret) := by
  refine MZ.start (L := [some (.ref (E.1.heap.size + 0)), some (.int a1), some (.int a2), none, none, none]) hE (by decide) (Nat.le_of_ble_eq_true rfl) rfl fun C hCl hQo hC => ?_
  replace hC : Cx C E cX1_findRest 6 "RightTurns" "findRest" none [] 8 := hC
  unfold wp_X1_findRest at hV
  have j_57 : ∀ (σ : ZS) (x2 : Int32) (x3 : Int32), V_X1_findRest_57 Ret σ x2 x3 → zz C E NS 6 σ 57 [some (.ref (E.1.heap.size + 0)), none, some (.int x2), some (.int x3), none, none] [] := by
    intro σ x2 x3 ⟨k, hV⟩
    revert σ x2 x3
    induction k with
    | zero => exact fun _ _ _ hV => hV.elim
    | succ k j_57 =>
      intro σ x2 x3 hV
      simp only [VL_X1_findRest_57] at hV
      generalize hKe57 : VL_X1_findRest_57 Ret k = K57 at hV j_57
      clear hKe57
      have j_66 : ∀ (σ : ZS) (x2 : Int32) (x3 : Int32) (x4 : Int32), V_X1_findRest_66 K57 Ret σ x2 x3 x4 → zz C E NS 6 σ 66 [some (.ref (E.1.heap.size + 0)), none, some (.int x2), some (.int x3), some (.int x4), none] [] := by
        intro σ x2 x3 x4 ⟨k, hV⟩
        revert σ x2 x3 x4
        induction k with
        | zero => exact fun _ _ _ _ hV => hV.elim
        | succ k j_66 =>
          intro σ x2 x3 x4 hV
          simp only [VL_X1_findRest_66] at hV
          generalize hKe66 : VL_X1_findRest_66 K57 Ret k = K66 at hV j_66
          clear hKe66
          have j_96 : ∀ (σ : ZS) (x2 : Int32) (x3 : Int32) (x4 : Int32) (x5 : Int32), V_X1_findRest_96 K57 K66 Ret σ x2 x3 x4 x5 → zz C E NS 6 σ 96 [some (.ref (E.1.heap.size + 0)), none, some (.int x2), some (.int x3), some (.int x4), some (.int x5)] [] := by
            intro σ x2 x3 x4 x5 ⟨k, hV⟩
            revert σ x2 x3 x4 x5
            induction k with
            | zero => exact fun _ _ _ _ _ hV => hV.elim
            | succ k j_96 =>
              intro σ x2 x3 x4 x5 hV
              simp only [VL_X1_findRest_96] at hV
              generalize hKe96 : VL_X1_findRest_96 K57 K66 Ret k = K96 at hV j_96
              clear hKe96
              refine z_iload hC dX1_findRest_96 rfl ?_
              refine z_aload_n hC dX1_findRest_98 rfl rfl ?_
              refine g_X1_12_0 hC dX1_findRest_99 ?_
              obtain ⟨h16, hV⟩ := hV
              refine zz_at rfl (by rw [pvo h16]) ?_
              obtain ⟨⟨n20, h19⟩, hV⟩ := hV
              refine c_X1_271 hC (by decide) dX1_findRest_102 (Nat.le_of_ble_eq_true rfl) h19 hV (fun r17 σ18 hV => ?_)
              refine z_icmp_ge (tgt := 194) hC dX1_findRest_105 (by decide) (fun hc => ?_) (fun hc => ?_)
              · replace hV := hV.2 hc
                obtain ⟨y21, e_y21⟩ : ∃ z : Int32, z = x4 + 1 := ⟨_, rfl⟩
                replace hV := hV _ e_y21
                refine z_iinc (v := y21) hC dX1_findRest_194 rfl (by rw [e_y21]; rfl) (Nat.le_of_ble_eq_true rfl) rfl rfl ?_
                refine z_goto (tgt := 66) hC dX1_findRest_197 (by decide) ?_
                refine zz_sub (L' := [some (.ref (E.1.heap.size + 0)), none, some (.int x2), some (.int x3), some (.int y21), none]) ⟨rfl, rfl, rfl, rfl, trivial⟩ ?_
                exact j_66 σ18 x2 x3 y21 hV
              · replace hV := hV.1 hc
                refine z_aload_n hC dX1_findRest_108 rfl rfl ?_
                refine g_X1_12_0 hC dX1_findRest_109 ?_
                obtain ⟨h22, hV⟩ := hV
                refine zz_at rfl (by rw [pvo h22]) ?_
                refine z_iload hC dX1_findRest_112 rfl ?_
                obtain ⟨⟨n26, h25⟩, hV⟩ := hV
                refine c_X1_150 hC (by decide) dX1_findRest_114 (Nat.le_of_ble_eq_true rfl) h25 hV (fun r23 σ24 hV => ?_)
                refine z_if_eq (tgt := 188) hC dX1_findRest_117 (by decide) (fun hc => ?_) (fun hc => ?_)
                · replace hV := hV.1 hc
                  obtain ⟨y27, e_y27⟩ : ∃ z : Int32, z = x5 + 1 := ⟨_, rfl⟩
                  replace hV := hV _ e_y27
                  refine z_iinc (v := y27) hC dX1_findRest_188 rfl (by rw [e_y27]; rfl) (Nat.le_of_ble_eq_true rfl) rfl rfl ?_
                  refine z_goto (tgt := 96) hC dX1_findRest_191 (by decide) ?_
                  refine zz_sub (L' := [some (.ref (E.1.heap.size + 0)), none, some (.int x2), some (.int x3), some (.int x4), some (.int y27)]) ⟨rfl, rfl, rfl, rfl, rfl, trivial⟩ ?_
                  exact j_96 σ24 x2 x3 x4 y27 hV
                · replace hV := hV.2 hc
                  refine z_aload_n hC dX1_findRest_120 rfl rfl ?_
                  refine g_X1_42_0 hC dX1_findRest_121 ?_
                  refine z_iload hC dX1_findRest_124 rfl ?_
                  obtain ⟨h28, hV⟩ := hV
                  refine z_iald hC dX1_findRest_126 (k_20 _) (h28) ?_
                  refine z_aload_n hC dX1_findRest_127 rfl rfl ?_
                  refine g_X1_12_0 hC dX1_findRest_128 ?_
                  obtain ⟨h29, hV⟩ := hV
                  refine zz_at rfl (by rw [pvo h29]) ?_
                  refine z_iload hC dX1_findRest_131 rfl ?_
                  obtain ⟨⟨n33, h32⟩, hV⟩ := hV
                  refine c_X1_278 hC (by decide) dX1_findRest_133 (Nat.le_of_ble_eq_true rfl) h32 hV (fun r30 σ31 hV => ?_)
                  refine z_iadd hC dX1_findRest_136 ?_
                  refine z_aload_n hC dX1_findRest_137 rfl rfl ?_
                  refine g_X1_42_0 hC dX1_findRest_138 ?_
                  refine z_iload hC dX1_findRest_141 rfl ?_
                  obtain ⟨h34, hV⟩ := hV
                  refine z_iald hC dX1_findRest_143 (k_20 _) (h34) ?_
                  refine z_icmp_ge (tgt := 188) hC dX1_findRest_144 (by decide) (fun hc => ?_) (fun hc => ?_)
                  · replace hV := hV.2 hc
                    obtain ⟨y35, e_y35⟩ : ∃ z : Int32, z = x5 + 1 := ⟨_, rfl⟩
                    replace hV := hV _ e_y35
                    refine z_iinc (v := y35) hC dX1_findRest_188 rfl (by rw [e_y35]; rfl) (Nat.le_of_ble_eq_true rfl) rfl rfl ?_
                    refine z_goto (tgt := 96) hC dX1_findRest_191 (by decide) ?_
                    refine zz_sub (L' := [some (.ref (E.1.heap.size + 0)), none, some (.int x2), some (.int x3), some (.int x4), some (.int y35)]) ⟨rfl, rfl, rfl, rfl, rfl, trivial⟩ ?_
                    exact j_96 σ31 x2 x3 x4 y35 hV
                  · replace hV := hV.1 hc
                    refine z_aload_n hC dX1_findRest_147 rfl rfl ?_
                    refine z_iload hC dX1_findRest_148 rfl ?_
                    refine z_iload hC dX1_findRest_150 rfl ?_
                    refine z_iload_n hC dX1_findRest_152 rfl rfl ?_
                    refine c_X1_257 hC (by decide) dX1_findRest_153 (Nat.le_of_ble_eq_true rfl) hV (fun r36 σ37 hV => ?_)
                    refine z_if_ne (tgt := 162) hC dX1_findRest_156 (by decide) (fun hc => ?_) (fun hc => ?_)
                    · replace hV := hV.2 hc
                      refine z_aload_n hC dX1_findRest_162 rfl rfl ?_
                      refine g_X1_42_0 hC dX1_findRest_163 ?_
                      refine z_iload hC dX1_findRest_166 rfl ?_
                      refine z_aload_n hC dX1_findRest_168 rfl rfl ?_
                      refine g_X1_42_0 hC dX1_findRest_169 ?_
                      refine z_iload hC dX1_findRest_172 rfl ?_
                      obtain ⟨h38, hV⟩ := hV
                      refine z_iald hC dX1_findRest_174 (k_20 _) (h38) ?_
                      refine z_aload_n hC dX1_findRest_175 rfl rfl ?_
                      refine g_X1_12_0 hC dX1_findRest_176 ?_
                      obtain ⟨h39, hV⟩ := hV
                      refine zz_at rfl (by rw [pvo h39]) ?_
                      refine z_iload hC dX1_findRest_179 rfl ?_
                      obtain ⟨⟨n43, h42⟩, hV⟩ := hV
                      refine c_X1_278 hC (by decide) dX1_findRest_181 (Nat.le_of_ble_eq_true rfl) h42 hV (fun r40 σ41 hV => ?_)
                      refine z_iadd hC dX1_findRest_184 ?_
                      obtain ⟨h44, hV⟩ := hV
                      refine z_iast hC dX1_findRest_185 (k_20 _) (h44) ?_
                      obtain ⟨σ45, e_σ45⟩ : ∃ z : ZS, z = sI σ41 20 (ix x4) ((zI σ37 20 (ix x5)) + r40) := ⟨_, rfl⟩
                      replace hV := hV _ e_σ45
                      rw [← e_σ45]
                      refine z_iconst (v := 1) hC dX1_findRest_186 rfl ?_
                      refine z_istore_n hC dX1_findRest_187 rfl (Nat.le_of_ble_eq_true rfl) rfl rfl ?_
                      obtain ⟨y46, e_y46⟩ : ∃ z : Int32, z = x5 + 1 := ⟨_, rfl⟩
                      replace hV := hV _ e_y46
                      refine z_iinc (v := y46) hC dX1_findRest_188 rfl (by rw [e_y46]; rfl) (Nat.le_of_ble_eq_true rfl) rfl rfl ?_
                      refine z_goto (tgt := 96) hC dX1_findRest_191 (by decide) ?_
                      refine zz_sub (L' := [some (.ref (E.1.heap.size + 0)), none, some (.int x2), some (.int 1), some (.int x4), some (.int y46)]) ⟨rfl, rfl, rfl, rfl, rfl, trivial⟩ ?_
                      exact j_96 σ45 x2 1 x4 y46 hV
                    · replace hV := hV.1 hc
                      refine z_goto (tgt := 188) hC dX1_findRest_159 (by decide) ?_
                      obtain ⟨y47, e_y47⟩ : ∃ z : Int32, z = x5 + 1 := ⟨_, rfl⟩
                      replace hV := hV _ e_y47
                      refine z_iinc (v := y47) hC dX1_findRest_188 rfl (by rw [e_y47]; rfl) (Nat.le_of_ble_eq_true rfl) rfl rfl ?_
                      refine z_goto (tgt := 96) hC dX1_findRest_191 (by decide) ?_
                      refine zz_sub (L' := [some (.ref (E.1.heap.size + 0)), none, some (.int x2), some (.int x3), some (.int x4), some (.int y47)]) ⟨rfl, rfl, rfl, rfl, rfl, trivial⟩ ?_
                      exact j_96 σ37 x2 x3 x4 y47 hV
          refine z_iload hC dX1_findRest_66 rfl ?_
          refine z_aload_n hC dX1_findRest_68 rfl rfl ?_
          refine g_X1_12_0 hC dX1_findRest_69 ?_
          obtain ⟨h6, hV⟩ := hV
          refine zz_at rfl (by rw [pvo h6]) ?_
          obtain ⟨⟨n10, h9⟩, hV⟩ := hV
          refine c_X1_271 hC (by decide) dX1_findRest_72 (Nat.le_of_ble_eq_true rfl) h9 hV (fun r7 σ8 hV => ?_)
          refine z_icmp_ge (tgt := 200) hC dX1_findRest_75 (by decide) (fun hc => ?_) (fun hc => ?_)
          · replace hV := hV.2 hc
            refine z_goto (tgt := 57) hC dX1_findRest_200 (by decide) ?_
            refine zz_sub (L' := [some (.ref (E.1.heap.size + 0)), none, some (.int x2), some (.int x3), none, none]) ⟨rfl, rfl, rfl, trivial⟩ ?_
            exact j_57 σ8 x2 x3 hV
          · replace hV := hV.1 hc
            refine z_aload_n hC dX1_findRest_78 rfl rfl ?_
            refine g_X1_12_0 hC dX1_findRest_79 ?_
            obtain ⟨h11, hV⟩ := hV
            refine zz_at rfl (by rw [pvo h11]) ?_
            refine z_iload hC dX1_findRest_82 rfl ?_
            obtain ⟨⟨n15, h14⟩, hV⟩ := hV
            refine c_X1_150 hC (by decide) dX1_findRest_84 (Nat.le_of_ble_eq_true rfl) h14 hV (fun r12 σ13 hV => ?_)
            refine z_if_ne (tgt := 93) hC dX1_findRest_87 (by decide) (fun hc => ?_) (fun hc => ?_)
            · replace hV := hV.2 hc
              refine z_iconst (v := 0) hC dX1_findRest_93 rfl ?_
              refine z_istore hC dX1_findRest_94 (Nat.le_of_ble_eq_true rfl) rfl rfl ?_
              refine zz_sub (L' := [some (.ref (E.1.heap.size + 0)), none, some (.int x2), some (.int x3), some (.int x4), some (.int 0)]) ⟨rfl, rfl, rfl, rfl, rfl, trivial⟩ ?_
              exact j_96 σ13 x2 x3 x4 0 hV
            · replace hV := hV.1 hc
              refine z_goto (tgt := 194) hC dX1_findRest_90 (by decide) ?_
              obtain ⟨y48, e_y48⟩ : ∃ z : Int32, z = x4 + 1 := ⟨_, rfl⟩
              replace hV := hV _ e_y48
              refine z_iinc (v := y48) hC dX1_findRest_194 rfl (by rw [e_y48]; rfl) (Nat.le_of_ble_eq_true rfl) rfl rfl ?_
              refine z_goto (tgt := 66) hC dX1_findRest_197 (by decide) ?_
              refine zz_sub (L' := [some (.ref (E.1.heap.size + 0)), none, some (.int x2), some (.int x3), some (.int y48), none]) ⟨rfl, rfl, rfl, rfl, trivial⟩ ?_
              exact j_66 σ13 x2 x3 y48 hV
      refine z_iload_n hC dX1_findRest_57 rfl rfl ?_
      refine z_if_eq (tgt := 203) hC dX1_findRest_58 (by decide) (fun hc => ?_) (fun hc => ?_)
      · replace hV := hV.1 hc
        exact z_vret hC dX1_findRest_203 (by rw [hQo]; exact ⟨rfl, hV⟩)
      · replace hV := hV.2 hc
        refine z_iconst (v := 0) hC dX1_findRest_61 rfl ?_
        refine z_istore_n hC dX1_findRest_62 rfl (Nat.le_of_ble_eq_true rfl) rfl rfl ?_
        refine z_iconst (v := 0) hC dX1_findRest_63 rfl ?_
        refine z_istore hC dX1_findRest_64 (Nat.le_of_ble_eq_true rfl) rfl rfl ?_
        refine zz_sub (L' := [some (.ref (E.1.heap.size + 0)), none, some (.int x2), some (.int 0), some (.int 0), none]) ⟨rfl, rfl, rfl, rfl, trivial⟩ ?_
        exact j_66 σ x2 0 0 hV
  have j_2 : ∀ (σ : ZS) (x1 : Int32) (x2 : Int32) (x3 : Int32), V_X1_findRest_2 Ret σ x1 x2 x3 → zz C E NS 6 σ 2 [some (.ref (E.1.heap.size + 0)), some (.int x1), some (.int x2), some (.int x3), none, none] [] := by
    intro σ x1 x2 x3 ⟨k, hV⟩
    revert σ x1 x2 x3
    induction k with
    | zero => exact fun _ _ _ _ hV => hV.elim
    | succ k j_2 =>
      intro σ x1 x2 x3 hV
      simp only [VL_X1_findRest_2] at hV
      generalize hKe2 : VL_X1_findRest_2 Ret k = K2 at hV j_2
      clear hKe2
      refine z_iload_n hC dX1_findRest_2 rfl rfl ?_
      refine z_aload_n hC dX1_findRest_3 rfl rfl ?_
      refine g_X1_12_0 hC dX1_findRest_4 ?_
      obtain ⟨h1, hV⟩ := hV
      refine zz_at rfl (by rw [pvo h1]) ?_
      obtain ⟨⟨n5, h4⟩, hV⟩ := hV
      refine c_X1_271 hC (by decide) dX1_findRest_7 (Nat.le_of_ble_eq_true rfl) h4 hV (fun r2 σ3 hV => ?_)
      refine z_icmp_ge (tgt := 55) hC dX1_findRest_10 (by decide) (fun hc => ?_) (fun hc => ?_)
      · replace hV := hV.2 hc
        refine z_iconst (v := 1) hC dX1_findRest_55 rfl ?_
        refine z_istore_n hC dX1_findRest_56 rfl (Nat.le_of_ble_eq_true rfl) rfl rfl ?_
        refine zz_sub (L' := [some (.ref (E.1.heap.size + 0)), none, some (.int x2), some (.int 1), none, none]) ⟨rfl, rfl, rfl, trivial⟩ ?_
        exact j_57 σ3 x2 1 hV
      · replace hV := hV.1 hc
        refine z_aload_n hC dX1_findRest_13 rfl rfl ?_
        refine g_X1_42_0 hC dX1_findRest_14 ?_
        refine z_iload_n hC dX1_findRest_17 rfl rfl ?_
        refine z_aload_n hC dX1_findRest_18 rfl rfl ?_
        refine g_X1_12_0 hC dX1_findRest_19 ?_
        obtain ⟨h49, hV⟩ := hV
        refine zz_at rfl (by rw [pvo h49]) ?_
        refine z_iload_n hC dX1_findRest_22 rfl rfl ?_
        obtain ⟨⟨n53, h52⟩, hV⟩ := hV
        refine c_X1_150 hC (by decide) dX1_findRest_23 (Nat.le_of_ble_eq_true rfl) h52 hV (fun r50 σ51 hV => ?_)
        refine z_if_eq (tgt := 45) hC dX1_findRest_26 (by decide) (fun hc => ?_) (fun hc => ?_)
        · replace hV := hV.1 hc
          refine z_ldcw hC dX1_findRest_45 q1301 ?_
          obtain ⟨h54, hV⟩ := hV
          refine z_iast hC dX1_findRest_48 (k_20 _) (h54) ?_
          obtain ⟨σ55, e_σ55⟩ : ∃ z : ZS, z = sI σ51 20 (ix x3) 1000000 := ⟨_, rfl⟩
          replace hV := hV _ e_σ55
          rw [← e_σ55]
          obtain ⟨y56, e_y56⟩ : ∃ z : Int32, z = x3 + 1 := ⟨_, rfl⟩
          replace hV := hV _ e_y56
          refine z_iinc (v := y56) hC dX1_findRest_49 rfl (by rw [e_y56]; rfl) (Nat.le_of_ble_eq_true rfl) rfl rfl ?_
          refine z_goto (tgt := 2) hC dX1_findRest_52 (by decide) ?_
          refine zz_sub (L' := [some (.ref (E.1.heap.size + 0)), some (.int x1), some (.int x2), some (.int y56), none, none]) ⟨rfl, rfl, rfl, rfl, trivial⟩ ?_
          exact j_2 σ55 x1 x2 y56 hV
        · replace hV := hV.2 hc
          refine z_aload_n hC dX1_findRest_29 rfl rfl ?_
          refine g_X1_12_0 hC dX1_findRest_30 ?_
          obtain ⟨h57, hV⟩ := hV
          refine zz_at rfl (by rw [pvo h57]) ?_
          refine z_iload_n hC dX1_findRest_33 rfl rfl ?_
          obtain ⟨⟨n61, h60⟩, hV⟩ := hV
          refine c_X1_274 hC (by decide) dX1_findRest_34 (Nat.le_of_ble_eq_true rfl) h60 hV (fun r58 σ59 hV => ?_)
          refine z_iload_n hC dX1_findRest_37 rfl rfl ?_
          refine z_icmp_ne (tgt := 45) hC dX1_findRest_38 (by decide) (fun hc => ?_) (fun hc => ?_)
          · replace hV := hV.2 hc
            refine z_ldcw hC dX1_findRest_45 q1301 ?_
            obtain ⟨h62, hV⟩ := hV
            refine z_iast hC dX1_findRest_48 (k_20 _) (h62) ?_
            obtain ⟨σ63, e_σ63⟩ : ∃ z : ZS, z = sI σ59 20 (ix x3) 1000000 := ⟨_, rfl⟩
            replace hV := hV _ e_σ63
            rw [← e_σ63]
            obtain ⟨y64, e_y64⟩ : ∃ z : Int32, z = x3 + 1 := ⟨_, rfl⟩
            replace hV := hV _ e_y64
            refine z_iinc (v := y64) hC dX1_findRest_49 rfl (by rw [e_y64]; rfl) (Nat.le_of_ble_eq_true rfl) rfl rfl ?_
            refine z_goto (tgt := 2) hC dX1_findRest_52 (by decide) ?_
            refine zz_sub (L' := [some (.ref (E.1.heap.size + 0)), some (.int x1), some (.int x2), some (.int y64), none, none]) ⟨rfl, rfl, rfl, rfl, trivial⟩ ?_
            exact j_2 σ63 x1 x2 y64 hV
          · replace hV := hV.1 hc
            refine z_iconst (v := 0) hC dX1_findRest_41 rfl ?_
            refine z_goto (tgt := 48) hC dX1_findRest_42 (by decide) ?_
            obtain ⟨h65, hV⟩ := hV
            refine z_iast hC dX1_findRest_48 (k_20 _) (h65) ?_
            obtain ⟨σ66, e_σ66⟩ : ∃ z : ZS, z = sI σ59 20 (ix x3) 0 := ⟨_, rfl⟩
            replace hV := hV _ e_σ66
            rw [← e_σ66]
            obtain ⟨y67, e_y67⟩ : ∃ z : Int32, z = x3 + 1 := ⟨_, rfl⟩
            replace hV := hV _ e_y67
            refine z_iinc (v := y67) hC dX1_findRest_49 rfl (by rw [e_y67]; rfl) (Nat.le_of_ble_eq_true rfl) rfl rfl ?_
            refine z_goto (tgt := 2) hC dX1_findRest_52 (by decide) ?_
            refine zz_sub (L' := [some (.ref (E.1.heap.size + 0)), some (.int x1), some (.int x2), some (.int y67), none, none]) ⟨rfl, rfl, rfl, rfl, trivial⟩ ?_
            exact j_2 σ66 x1 x2 y67 hV
  refine z_iconst (v := 0) hC dX1_findRest_0 rfl ?_
  refine z_istore_n hC dX1_findRest_1 rfl (Nat.le_of_ble_eq_true rfl) rfl rfl ?_
  refine zz_sub (L' := [some (.ref (E.1.heap.size + 0)), some (.int a1), some (.int a2), some (.int 0), none, none]) ⟨rfl, rfl, rfl, rfl, trivial⟩ ?_
  exact j_2 σ a1 a2 0 hV
def VL_X1_lengthFrom_6 (Ret : Int32 → ZS → Prop) : Nat → ZS → Int32 → Int32 → Int32 → Prop
  | 0 => fun _ _ _ _ => False
  | k + 1 => fun σ x1 x2 x3 =>
    let K6 := VL_X1_lengthFrom_6 Ret k
    (zP σ 0 0) = some (.inl (zo (zP σ 0 0))) ∧ ((∃ n5, kK NS σ (zo (zP σ 0 0)) = (8, n5)) ∧ (wp_X2_arcs σ (zo (zP σ 0 0)) (fun r2 σ3 => ((x3 < r2 → ((zP σ3 0 0) = some (.inl (zo (zP σ3 0 0))) ∧ ((∃ n10, kK NS σ3 (zo (zP σ3 0 0)) = (8, n10)) ∧ (wp_X2_isArc σ3 (zo (zP σ3 0 0)) x3 (fun r7 σ8 => ((r7 = 0 → (∀ y11 : Int32, y11 = x3 + 1 → (K6 σ8 x1 x2 y11))) ∧ (¬ r7 = 0 → ((zP σ8 0 0) = some (.inl (zo (zP σ8 0 0))) ∧ ((∃ n16, kK NS σ8 (zo (zP σ8 0 0)) = (8, n16)) ∧ (wp_X2_begin σ8 (zo (zP σ8 0 0)) x3 (fun r13 σ14 => ((r13 = x1 → (vp_in x3 48 ∧ ((zP σ14 0 0) = some (.inl (zo (zP σ14 0 0))) ∧ ((∃ n23, kK NS σ14 (zo (zP σ14 0 0)) = (8, n23)) ∧ (wp_X2_length σ14 (zo (zP σ14 0 0)) x3 (fun r20 σ21 => ∀ y25 : Int32, y25 = (if ((zI σ14 20 (ix x3)) + r20) < x2 then ((zI σ14 20 (ix x3)) + r20) else x2) → (∀ y26 : Int32, y26 = x3 + 1 → (K6 σ21 x1 y25 y26)))))))) ∧ (¬ r13 = x1 → (∀ y17 : Int32, y17 = x3 + 1 → (K6 σ14 x1 x2 y17))))))))))))))) ∧ (¬ x3 < r2 → (Ret x2 σ3))))))
def V_X1_lengthFrom_6 (Ret : Int32 → ZS → Prop) (σ : ZS) (x1 : Int32) (x2 : Int32) (x3 : Int32) : Prop := ∃ k, VL_X1_lengthFrom_6 Ret k σ x1 x2 x3
def wp_X1_lengthFrom (σ : ZS) (a1 : Int32) (Ret : Int32 → ZS → Prop) : Prop :=
    V_X1_lengthFrom_6 Ret σ a1 1000000 0
set_option maxHeartbeats 4000000 in
theorem mz_X1_lengthFrom {l : Launch} {E : ZE} (hE : EOK E) {σ : ZS} {a1 : Int32} {Ret : Int32 → ZS → Prop} (hV : wp_X1_lengthFrom σ a1 Ret) : MZ l E NS yX1_lengthFrom (ws_ yX1_lengthFrom cX1_lengthFrom 4 (some .int)) 6 σ [.ref (E.1.heap.size + 0), .int a1] (rI Ret) := by
  refine MZ.start (L := [some (.ref (E.1.heap.size + 0)), some (.int a1), none, none]) hE (by decide) (Nat.le_of_ble_eq_true rfl) rfl fun C hCl hQo hC => ?_
  replace hC : Cx C E cX1_lengthFrom 4 "RightTurns" "lengthFrom" (some .int) [] 6 := hC
  unfold wp_X1_lengthFrom at hV
  have j_6 : ∀ (σ : ZS) (x1 : Int32) (x2 : Int32) (x3 : Int32), V_X1_lengthFrom_6 Ret σ x1 x2 x3 → zz C E NS 4 σ 6 [some (.ref (E.1.heap.size + 0)), some (.int x1), some (.int x2), some (.int x3)] [] := by
    intro σ x1 x2 x3 ⟨k, hV⟩
    revert σ x1 x2 x3
    induction k with
    | zero => exact fun _ _ _ _ hV => hV.elim
    | succ k j_6 =>
      intro σ x1 x2 x3 hV
      simp only [VL_X1_lengthFrom_6] at hV
      generalize hKe6 : VL_X1_lengthFrom_6 Ret k = K6 at hV j_6
      clear hKe6
      refine z_iload_n hC dX1_lengthFrom_6 rfl rfl ?_
      refine z_aload_n hC dX1_lengthFrom_7 rfl rfl ?_
      refine g_X1_12_0 hC dX1_lengthFrom_8 ?_
      obtain ⟨h1, hV⟩ := hV
      refine zz_at rfl (by rw [pvo h1]) ?_
      obtain ⟨⟨n5, h4⟩, hV⟩ := hV
      refine c_X1_271 hC (by decide) dX1_lengthFrom_11 (Nat.le_of_ble_eq_true rfl) h4 hV (fun r2 σ3 hV => ?_)
      refine z_icmp_ge (tgt := 66) hC dX1_lengthFrom_14 (by decide) (fun hc => ?_) (fun hc => ?_)
      · replace hV := hV.2 hc
        refine z_iload_n hC dX1_lengthFrom_66 rfl rfl ?_
        exact z_iret hC dX1_lengthFrom_67 rfl (by rw [hQo]; exact ⟨_, rfl, hV⟩)
      · replace hV := hV.1 hc
        refine z_aload_n hC dX1_lengthFrom_17 rfl rfl ?_
        refine g_X1_12_0 hC dX1_lengthFrom_18 ?_
        obtain ⟨h6, hV⟩ := hV
        refine zz_at rfl (by rw [pvo h6]) ?_
        refine z_iload_n hC dX1_lengthFrom_21 rfl rfl ?_
        obtain ⟨⟨n10, h9⟩, hV⟩ := hV
        refine c_X1_150 hC (by decide) dX1_lengthFrom_22 (Nat.le_of_ble_eq_true rfl) h9 hV (fun r7 σ8 hV => ?_)
        refine z_if_eq (tgt := 60) hC dX1_lengthFrom_25 (by decide) (fun hc => ?_) (fun hc => ?_)
        · replace hV := hV.1 hc
          obtain ⟨y11, e_y11⟩ : ∃ z : Int32, z = x3 + 1 := ⟨_, rfl⟩
          replace hV := hV _ e_y11
          refine z_iinc (v := y11) hC dX1_lengthFrom_60 rfl (by rw [e_y11]; rfl) (Nat.le_of_ble_eq_true rfl) rfl rfl ?_
          refine z_goto (tgt := 6) hC dX1_lengthFrom_63 (by decide) ?_
          refine zz_sub (L' := [some (.ref (E.1.heap.size + 0)), some (.int x1), some (.int x2), some (.int y11)]) ⟨rfl, rfl, rfl, rfl, trivial⟩ ?_
          exact j_6 σ8 x1 x2 y11 hV
        · replace hV := hV.2 hc
          refine z_aload_n hC dX1_lengthFrom_28 rfl rfl ?_
          refine g_X1_12_0 hC dX1_lengthFrom_29 ?_
          obtain ⟨h12, hV⟩ := hV
          refine zz_at rfl (by rw [pvo h12]) ?_
          refine z_iload_n hC dX1_lengthFrom_32 rfl rfl ?_
          obtain ⟨⟨n16, h15⟩, hV⟩ := hV
          refine c_X1_280 hC (by decide) dX1_lengthFrom_33 (Nat.le_of_ble_eq_true rfl) h15 hV (fun r13 σ14 hV => ?_)
          refine z_iload_n hC dX1_lengthFrom_36 rfl rfl ?_
          refine z_icmp_ne (tgt := 60) hC dX1_lengthFrom_37 (by decide) (fun hc => ?_) (fun hc => ?_)
          · replace hV := hV.2 hc
            obtain ⟨y17, e_y17⟩ : ∃ z : Int32, z = x3 + 1 := ⟨_, rfl⟩
            replace hV := hV _ e_y17
            refine z_iinc (v := y17) hC dX1_lengthFrom_60 rfl (by rw [e_y17]; rfl) (Nat.le_of_ble_eq_true rfl) rfl rfl ?_
            refine z_goto (tgt := 6) hC dX1_lengthFrom_63 (by decide) ?_
            refine zz_sub (L' := [some (.ref (E.1.heap.size + 0)), some (.int x1), some (.int x2), some (.int y17)]) ⟨rfl, rfl, rfl, rfl, trivial⟩ ?_
            exact j_6 σ14 x1 x2 y17 hV
          · replace hV := hV.1 hc
            refine z_iload_n hC dX1_lengthFrom_40 rfl rfl ?_
            refine z_aload_n hC dX1_lengthFrom_41 rfl rfl ?_
            refine g_X1_42_0 hC dX1_lengthFrom_42 ?_
            refine z_iload_n hC dX1_lengthFrom_45 rfl rfl ?_
            obtain ⟨h18, hV⟩ := hV
            refine z_iald hC dX1_lengthFrom_46 (k_20 _) (h18) ?_
            refine z_aload_n hC dX1_lengthFrom_47 rfl rfl ?_
            refine g_X1_12_0 hC dX1_lengthFrom_48 ?_
            obtain ⟨h19, hV⟩ := hV
            refine zz_at rfl (by rw [pvo h19]) ?_
            refine z_iload_n hC dX1_lengthFrom_51 rfl rfl ?_
            obtain ⟨⟨n23, h22⟩, hV⟩ := hV
            refine c_X1_278 hC (by decide) dX1_lengthFrom_52 (Nat.le_of_ble_eq_true rfl) h22 hV (fun r20 σ21 hV => ?_)
            refine z_iadd hC dX1_lengthFrom_55 ?_
            refine z_mmin hC dX1_lengthFrom_56 q1311 (by decide) (Nat.le_of_ble_eq_true rfl) ?_
            obtain ⟨y25, e_y25⟩ : ∃ z, z = (if ((zI σ14 20 (ix x3)) + r20) < x2 then ((zI σ14 20 (ix x3)) + r20) else x2) := ⟨_, rfl⟩
            rw [← e_y25]
            replace hV := hV _ e_y25
            refine z_istore_n hC dX1_lengthFrom_59 rfl (Nat.le_of_ble_eq_true rfl) rfl rfl ?_
            obtain ⟨y26, e_y26⟩ : ∃ z : Int32, z = x3 + 1 := ⟨_, rfl⟩
            replace hV := hV _ e_y26
            refine z_iinc (v := y26) hC dX1_lengthFrom_60 rfl (by rw [e_y26]; rfl) (Nat.le_of_ble_eq_true rfl) rfl rfl ?_
            refine z_goto (tgt := 6) hC dX1_lengthFrom_63 (by decide) ?_
            refine zz_sub (L' := [some (.ref (E.1.heap.size + 0)), some (.int x1), some (.int y25), some (.int y26)]) ⟨rfl, rfl, rfl, rfl, trivial⟩ ?_
            exact j_6 σ21 x1 y25 y26 hV
  refine z_ldcw hC dX1_lengthFrom_0 q1301 ?_
  refine z_istore_n hC dX1_lengthFrom_3 rfl (Nat.le_of_ble_eq_true rfl) rfl rfl ?_
  refine z_iconst (v := 0) hC dX1_lengthFrom_4 rfl ?_
  refine z_istore_n hC dX1_lengthFrom_5 rfl (Nat.le_of_ble_eq_true rfl) rfl rfl ?_
  refine zz_sub (L' := [some (.ref (E.1.heap.size + 0)), some (.int a1), some (.int 1000000), some (.int 0)]) ⟨rfl, rfl, rfl, rfl, trivial⟩ ?_
  exact j_6 σ a1 1000000 0 hV
theorem cw_X1_findRest : CodeW yX1_findRest (ws_ yX1_findRest cX1_findRest 6 none) 6 := ⟨fun w h => (List.mem_cons.mp h).elim (fun e => e ▸ q1298) id, Or.inl ⟨_, _, q1298⟩, q116, by decide, by decide⟩
theorem c_X1_288 {C : ZC} {E : ZE} {cc : ByteArray} {nL pc d : Nat} {nm : String} {ret : Option FieldType} {hh : List (Nat × Nat × Nat × Nat)} {σ : ZS} {L : List (Option Value)} {st : List Value} {a1 : Int32} {a2 : Int32} {Ret : ZS → Prop} (hC : Cx C E cc nL "RightTurns" nm ret hh d) (hdd : 8 + 1 ≤ d) (hd : decode cc pc = .ok (.invokevirtual 288, 3)) (hW : (st.map fun v => v.category).sum ≤ 8) (hV : wp_X1_findRest σ a1 a2 Ret) (k : ∀ σ', Ret σ' → zz C E NS nL σ' (pc + 3) L st) : zz C E NS nL σ pc L (.int a2 :: .int a1 :: .ref (E.1.heap.size + 0) :: st) :=
  z_callVG hC cf0 cw_X1_findRest hdd (by decide) (mz_X1_findRest (cxE hC) hV) hd (k_0 σ) q1295 q1297 qs22 (np := 2) rfl rfl hW rfl (kV k)
theorem cw_X1_lengthFrom : CodeW yX1_lengthFrom (ws_ yX1_lengthFrom cX1_lengthFrom 4 (some .int)) 4 := ⟨fun w h => (List.mem_cons.mp h).elim (fun e => e ▸ q1309) id, Or.inl ⟨_, _, q1309⟩, q116, by decide, by decide⟩
theorem c_X1_291 {C : ZC} {E : ZE} {cc : ByteArray} {nL pc d : Nat} {nm : String} {ret : Option FieldType} {hh : List (Nat × Nat × Nat × Nat)} {σ : ZS} {L : List (Option Value)} {st : List Value} {a1 : Int32} {Ret : Int32 → ZS → Prop} (hC : Cx C E cc nL "RightTurns" nm ret hh d) (hdd : 6 + 1 ≤ d) (hd : decode cc pc = .ok (.invokevirtual 291, 3)) (hW : (st.map fun v => v.category).sum ≤ 8) (hV : wp_X1_lengthFrom σ a1 Ret) (k : ∀ r σ', Ret r σ' → zz C E NS nL σ' (pc + 3) L (.int r :: st)) : zz C E NS nL σ pc L (.int a1 :: .ref (E.1.heap.size + 0) :: st) :=
  z_callVG hC cf0 cw_X1_lengthFrom hdd (by decide) (mz_X1_lengthFrom (cxE hC) hV) hd (k_0 σ) q1306 q1308 qs23 (np := 1) rfl rfl hW rfl (kI k)
def wp_X1_rideOf (σ : ZS) (a1 : Int32) (a2 : Int32) (a3 : Int32) (Ret : Int32 → ZS → Prop) : Prop :=
    ((a1 = a2 → (Ret 0 σ)) ∧ (¬ a1 = a2 → (wp_X1_findRest σ a2 a3 (fun σ2 => wp_X1_lengthFrom σ2 a1 (fun r3 σ4 => ((r3 < 1000000 → (Ret r3 σ4)) ∧ (¬ r3 < 1000000 → (Ret (-1) σ4))))))))
set_option maxHeartbeats 4000000 in
theorem mz_X1_rideOf {l : Launch} {E : ZE} (hE : EOK E) {σ : ZS} {a1 : Int32} {a2 : Int32} {a3 : Int32} {Ret : Int32 → ZS → Prop} (hV : wp_X1_rideOf σ a1 a2 a3 Ret) : MZ l E NS yX1_rideOf (ws_ yX1_rideOf cX1_rideOf 5 (some .int)) 9 σ [.ref (E.1.heap.size + 0), .int a1, .int a2, .int a3] (rI Ret) := by
  refine MZ.start (L := [some (.ref (E.1.heap.size + 0)), some (.int a1), some (.int a2), some (.int a3), none]) hE (by decide) (Nat.le_of_ble_eq_true rfl) rfl fun C hCl hQo hC => ?_
  replace hC : Cx C E cX1_rideOf 5 "RightTurns" "rideOf" (some .int) [] 9 := hC
  unfold wp_X1_rideOf at hV
  refine z_iload_n hC dX1_rideOf_0 rfl rfl ?_
  refine z_iload_n hC dX1_rideOf_1 rfl rfl ?_
  refine z_icmp_ne (tgt := 7) hC dX1_rideOf_2 (by decide) (fun hc => ?_) (fun hc => ?_)
  · replace hV := hV.2 hc
    refine z_aload_n hC dX1_rideOf_7 rfl rfl ?_
    refine z_iload_n hC dX1_rideOf_8 rfl rfl ?_
    refine z_iload_n hC dX1_rideOf_9 rfl rfl ?_
    refine c_X1_288 hC (by decide) dX1_rideOf_10 (Nat.le_of_ble_eq_true rfl) hV (fun σ2 hV => ?_)
    refine z_aload_n hC dX1_rideOf_13 rfl rfl ?_
    refine z_iload_n hC dX1_rideOf_14 rfl rfl ?_
    refine c_X1_291 hC (by decide) dX1_rideOf_15 (Nat.le_of_ble_eq_true rfl) hV (fun r3 σ4 hV => ?_)
    refine z_istore hC dX1_rideOf_18 (Nat.le_of_ble_eq_true rfl) rfl rfl ?_
    refine z_iload hC dX1_rideOf_20 rfl ?_
    refine z_ldcw hC dX1_rideOf_22 q1301 ?_
    refine z_icmp_ge (tgt := 33) hC dX1_rideOf_25 (by decide) (fun hc => ?_) (fun hc => ?_)
    · replace hV := hV.2 hc
      refine z_iconst (v := (-1)) hC dX1_rideOf_33 rfl ?_
      exact z_iret hC dX1_rideOf_34 rfl (by rw [hQo]; exact ⟨_, rfl, hV⟩)
    · replace hV := hV.1 hc
      refine z_iload hC dX1_rideOf_28 rfl ?_
      refine z_goto (tgt := 34) hC dX1_rideOf_30 (by decide) ?_
      exact z_iret hC dX1_rideOf_34 rfl (by rw [hQo]; exact ⟨_, rfl, hV⟩)
  · replace hV := hV.1 hc
    refine z_iconst (v := 0) hC dX1_rideOf_5 rfl ?_
    exact z_iret hC dX1_rideOf_6 rfl (by rw [hQo]; exact ⟨_, rfl, hV⟩)
theorem g_X1_45_0 {C : ZC} {E : ZE} {cc : ByteArray} {nL pc d : Nat} {nm : String} {ret : Option FieldType} {hh : List (Nat × Nat × Nat × Nat)} {σ : ZS} {L : List (Option Value)} {st : List Value} (hC : Cx C E cc nL "RightTurns" nm ret hh d) (hd : decode cc pc = .ok (.getfield 45, 3)) (k : zz C E NS nL σ (pc + 3) L (.ref (E.1.heap.size + 21) :: st)) : zz C E NS nL σ pc L (.ref (E.1.heap.size + 0) :: st) :=
  z_get hC cf0 hd (k_0 σ) (k := 11) (by decide) (Or.inl q592) (Or.inl rfl) rfl k
theorem cw_X1_rideOf : CodeW yX1_rideOf (ws_ yX1_rideOf cX1_rideOf 5 (some .int)) 5 := ⟨fun w h => (List.mem_cons.mp h).elim (fun e => e ▸ q1294) id, Or.inl ⟨_, _, q1294⟩, q116, by decide, by decide⟩
theorem c_X1_297 {C : ZC} {E : ZE} {cc : ByteArray} {nL pc d : Nat} {nm : String} {ret : Option FieldType} {hh : List (Nat × Nat × Nat × Nat)} {σ : ZS} {L : List (Option Value)} {st : List Value} {a1 : Int32} {a2 : Int32} {a3 : Int32} {Ret : Int32 → ZS → Prop} (hC : Cx C E cc nL "RightTurns" nm ret hh d) (hdd : 9 + 1 ≤ d) (hd : decode cc pc = .ok (.invokevirtual 297, 3)) (hW : (st.map fun v => v.category).sum ≤ 8) (hV : wp_X1_rideOf σ a1 a2 a3 Ret) (k : ∀ r σ', Ret r σ' → zz C E NS nL σ' (pc + 3) L (.int r :: st)) : zz C E NS nL σ pc L (.int a3 :: .int a2 :: .int a1 :: .ref (E.1.heap.size + 0) :: st) :=
  z_callVG hC cf0 cw_X1_rideOf hdd (by decide) (mz_X1_rideOf (cxE hC) hV) hd (k_0 σ) q1291 q1293 qs21 (np := 3) rfl rfl hW rfl (kI k)
theorem cw_X1_nextArc : CodeW yX1_nextArc (ws_ yX1_nextArc cX1_nextArc 6 (some .int)) 6 := ⟨fun w h => (List.mem_cons.mp h).elim (fun e => e ▸ q1326) id, Or.inl ⟨_, _, q1326⟩, q116, by decide, by decide⟩
theorem c_X1_301 {C : ZC} {E : ZE} {cc : ByteArray} {nL pc d : Nat} {nm : String} {ret : Option FieldType} {hh : List (Nat × Nat × Nat × Nat)} {σ : ZS} {L : List (Option Value)} {st : List Value} {a1 : Int32} {a2 : Int32} {a3 : Int32} {a4 : Int32} {Ret : Int32 → ZS → Prop} (hC : Cx C E cc nL "RightTurns" nm ret hh d) (hdd : 8 + 1 ≤ d) (hd : decode cc pc = .ok (.invokevirtual 301, 3)) (hW : (st.map fun v => v.category).sum ≤ 8) (hV : wp_X1_nextArc σ a1 a2 a3 a4 Ret) (k : ∀ r σ', Ret r σ' → zz C E NS nL σ' (pc + 3) L (.int r :: st)) : zz C E NS nL σ pc L (.int a4 :: .int a3 :: .int a2 :: .int a1 :: .ref (E.1.heap.size + 0) :: st) :=
  z_callVG hC cf0 cw_X1_nextArc hdd (by decide) (mz_X1_nextArc (cxE hC) hV) hd (k_0 σ) q1323 q1325 qs25 (np := 4) rfl rfl hW rfl (kI k)
def VL_X1_pathOf_23 (Ret : Int32 → ZS → Prop) : Nat → ZS → Int32 → Int32 → Int32 → Int32 → Int32 → Prop
  | 0 => fun _ _ _ _ _ _ => False
  | k + 1 => fun σ x1 x3 x4 x5 x6 =>
    let K23 := VL_X1_pathOf_23 Ret k
    ((0 < x4 → (wp_X1_nextArc σ x1 x6 x4 x3 (fun r3 σ4 => vp_in x5 48 ∧ (∀ σ6 : ZS, σ6 = sI σ4 21 (ix x5) r3 → (∀ y7 : Int32, y7 = x5 + 1 → ((zP σ6 0 0) = some (.inl (zo (zP σ6 0 0))) ∧ ((∃ n12, kK NS σ6 (zo (zP σ6 0 0)) = (8, n12)) ∧ (wp_X2_length σ6 (zo (zP σ6 0 0)) r3 (fun r9 σ10 => ∀ y13 : Int32, y13 = x4 - r9 → (K23 σ10 x1 x3 y13 y7 r3)))))))))) ∧ (¬ 0 < x4 → (Ret x5 σ)))
def V_X1_pathOf_23 (Ret : Int32 → ZS → Prop) (σ : ZS) (x1 : Int32) (x3 : Int32) (x4 : Int32) (x5 : Int32) (x6 : Int32) : Prop := ∃ k, VL_X1_pathOf_23 Ret k σ x1 x3 x4 x5 x6
def wp_X1_pathOf (σ : ZS) (a1 : Int32) (a2 : Int32) (a3 : Int32) (Ret : Int32 → ZS → Prop) : Prop :=
    wp_X1_rideOf σ a1 a2 a3 (fun r1 σ2 => ((r1 = (-1) → (Ret (-1) σ2)) ∧ (¬ r1 = (-1) → (V_X1_pathOf_23 Ret σ2 a1 a3 r1 0 (-1)))))
set_option maxHeartbeats 4000000 in
theorem mz_X1_pathOf {l : Launch} {E : ZE} (hE : EOK E) {σ : ZS} {a1 : Int32} {a2 : Int32} {a3 : Int32} {Ret : Int32 → ZS → Prop} (hV : wp_X1_pathOf σ a1 a2 a3 Ret) : MZ l E NS yX1_pathOf (ws_ yX1_pathOf cX1_pathOf 7 (some .int)) 10 σ [.ref (E.1.heap.size + 0), .int a1, .int a2, .int a3] (rI Ret) := by
  refine MZ.start (L := [some (.ref (E.1.heap.size + 0)), some (.int a1), some (.int a2), some (.int a3), none, none, none]) hE (by decide) (Nat.le_of_ble_eq_true rfl) rfl fun C hCl hQo hC => ?_
  replace hC : Cx C E cX1_pathOf 7 "RightTurns" "pathOf" (some .int) [] 10 := hC
  unfold wp_X1_pathOf at hV
  have j_23 : ∀ (σ : ZS) (x1 : Int32) (x3 : Int32) (x4 : Int32) (x5 : Int32) (x6 : Int32), V_X1_pathOf_23 Ret σ x1 x3 x4 x5 x6 → zz C E NS 7 σ 23 [some (.ref (E.1.heap.size + 0)), some (.int x1), none, some (.int x3), some (.int x4), some (.int x5), some (.int x6)] [] := by
    intro σ x1 x3 x4 x5 x6 ⟨k, hV⟩
    revert σ x1 x3 x4 x5 x6
    induction k with
    | zero => exact fun _ _ _ _ _ _ hV => hV.elim
    | succ k j_23 =>
      intro σ x1 x3 x4 x5 x6 hV
      simp only [VL_X1_pathOf_23] at hV
      generalize hKe23 : VL_X1_pathOf_23 Ret k = K23 at hV j_23
      clear hKe23
      refine z_iload hC dX1_pathOf_23 rfl ?_
      refine z_if_le (tgt := 69) hC dX1_pathOf_25 (by decide) (fun hc => ?_) (fun hc => ?_)
      · replace hV := hV.2 hc
        refine z_iload hC dX1_pathOf_69 rfl ?_
        exact z_iret hC dX1_pathOf_71 rfl (by rw [hQo]; exact ⟨_, rfl, hV⟩)
      · replace hV := hV.1 hc
        refine z_aload_n hC dX1_pathOf_28 rfl rfl ?_
        refine z_iload_n hC dX1_pathOf_29 rfl rfl ?_
        refine z_iload hC dX1_pathOf_30 rfl ?_
        refine z_iload hC dX1_pathOf_32 rfl ?_
        refine z_iload_n hC dX1_pathOf_34 rfl rfl ?_
        refine c_X1_301 hC (by decide) dX1_pathOf_35 (Nat.le_of_ble_eq_true rfl) hV (fun r3 σ4 hV => ?_)
        refine z_istore hC dX1_pathOf_38 (Nat.le_of_ble_eq_true rfl) rfl rfl ?_
        refine z_aload_n hC dX1_pathOf_40 rfl rfl ?_
        refine g_X1_45_0 hC dX1_pathOf_41 ?_
        refine z_iload hC dX1_pathOf_44 rfl ?_
        refine z_iload hC dX1_pathOf_46 rfl ?_
        obtain ⟨h5, hV⟩ := hV
        refine z_iast hC dX1_pathOf_48 (k_21 _) (h5) ?_
        obtain ⟨σ6, e_σ6⟩ : ∃ z : ZS, z = sI σ4 21 (ix x5) r3 := ⟨_, rfl⟩
        replace hV := hV _ e_σ6
        rw [← e_σ6]
        obtain ⟨y7, e_y7⟩ : ∃ z : Int32, z = x5 + 1 := ⟨_, rfl⟩
        replace hV := hV _ e_y7
        refine z_iinc (v := y7) hC dX1_pathOf_49 rfl (by rw [e_y7]; rfl) (Nat.le_of_ble_eq_true rfl) rfl rfl ?_
        refine z_iload hC dX1_pathOf_52 rfl ?_
        refine z_aload_n hC dX1_pathOf_54 rfl rfl ?_
        refine g_X1_12_0 hC dX1_pathOf_55 ?_
        obtain ⟨h8, hV⟩ := hV
        refine zz_at rfl (by rw [pvo h8]) ?_
        refine z_iload hC dX1_pathOf_58 rfl ?_
        obtain ⟨⟨n12, h11⟩, hV⟩ := hV
        refine c_X1_278 hC (by decide) dX1_pathOf_60 (Nat.le_of_ble_eq_true rfl) h11 hV (fun r9 σ10 hV => ?_)
        refine z_isub hC dX1_pathOf_63 ?_
        obtain ⟨y13, e_y13⟩ : ∃ z, z = x4 - r9 := ⟨_, rfl⟩
        rw [← e_y13]
        replace hV := hV _ e_y13
        refine z_istore hC dX1_pathOf_64 (Nat.le_of_ble_eq_true rfl) rfl rfl ?_
        refine z_goto (tgt := 23) hC dX1_pathOf_66 (by decide) ?_
        refine zz_sub (L' := [some (.ref (E.1.heap.size + 0)), some (.int x1), none, some (.int x3), some (.int y13), some (.int y7), some (.int r3)]) ⟨rfl, rfl, rfl, rfl, rfl, rfl, trivial⟩ ?_
        exact j_23 σ10 x1 x3 y13 y7 r3 hV
  refine z_aload_n hC dX1_pathOf_0 rfl rfl ?_
  refine z_iload_n hC dX1_pathOf_1 rfl rfl ?_
  refine z_iload_n hC dX1_pathOf_2 rfl rfl ?_
  refine z_iload_n hC dX1_pathOf_3 rfl rfl ?_
  refine c_X1_297 hC (by decide) dX1_pathOf_4 (Nat.le_of_ble_eq_true rfl) hV (fun r1 σ2 hV => ?_)
  refine z_istore hC dX1_pathOf_7 (Nat.le_of_ble_eq_true rfl) rfl rfl ?_
  refine z_iload hC dX1_pathOf_9 rfl ?_
  refine z_iconst (v := (-1)) hC dX1_pathOf_11 rfl ?_
  refine z_icmp_ne (tgt := 17) hC dX1_pathOf_12 (by decide) (fun hc => ?_) (fun hc => ?_)
  · replace hV := hV.2 hc
    refine z_iconst (v := 0) hC dX1_pathOf_17 rfl ?_
    refine z_istore hC dX1_pathOf_18 (Nat.le_of_ble_eq_true rfl) rfl rfl ?_
    refine z_iconst (v := (-1)) hC dX1_pathOf_20 rfl ?_
    refine z_istore hC dX1_pathOf_21 (Nat.le_of_ble_eq_true rfl) rfl rfl ?_
    refine zz_sub (L' := [some (.ref (E.1.heap.size + 0)), some (.int a1), none, some (.int a3), some (.int r1), some (.int 0), some (.int (-1))]) ⟨rfl, rfl, rfl, rfl, rfl, rfl, trivial⟩ ?_
    exact j_23 σ2 a1 a3 r1 0 (-1) hV
  · replace hV := hV.1 hc
    refine z_iconst (v := (-1)) hC dX1_pathOf_15 rfl ?_
    exact z_iret hC dX1_pathOf_16 rfl (by rw [hQo]; exact ⟨_, rfl, hV⟩)
theorem g_X1_394_12 {C : ZC} {E : ZE} {cc : ByteArray} {nL pc d : Nat} {nm : String} {ret : Option FieldType} {hh : List (Nat × Nat × Nat × Nat)} {σ : ZS} {L : List (Option Value)} {st : List Value} (hC : Cx C E cc nL "RightTurns" nm ret hh d) (hd : decode cc pc = .ok (.getfield 394, 3)) (k : zz C E NS nL σ (pc + 3) L (.ref (E.1.heap.size + 15) :: st)) : zz C E NS nL σ pc L (.ref (E.1.heap.size + 12) :: st) :=
  z_get hC cf2 hd (k_12 σ) (k := 2) (by decide) (Or.inr ⟨_, q563⟩) (Or.inl rfl) rfl k
def wp_X1_isLeg (σ : ZS) (a1 : Int32) (a2 : Int32) (Ret : Int32 → ZS → Prop) : Prop :=
    (zP σ 0 0) = some (.inl (zo (zP σ 0 0))) ∧ ((∃ n5, kK NS σ (zo (zP σ 0 0)) = (8, n5)) ∧ (wp_X2_isArc σ (zo (zP σ 0 0)) a1 (fun r2 σ3 => ((r2 = 0 → (Ret 0 σ3)) ∧ (¬ r2 = 0 → ((zP σ3 0 0) = some (.inl (zo (zP σ3 0 0))) ∧ ((∃ n10, kK NS σ3 (zo (zP σ3 0 0)) = (8, n10)) ∧ (wp_X2_begin σ3 (zo (zP σ3 0 0)) a1 (fun r7 σ8 => vp_in a2 12 ∧ (((r7 = (zI σ8 15 (ix a2)) → ((zP σ8 0 0) = some (.inl (zo (zP σ8 0 0))) ∧ ((∃ n16, kK NS σ8 (zo (zP σ8 0 0)) = (8, n16)) ∧ (wp_X2_end σ8 (zo (zP σ8 0 0)) a1 (fun r13 σ14 => vp_in (a2 + 1) 12 ∧ (((r13 = (zI σ14 15 (ix (a2 + 1))) → (Ret 1 σ14)) ∧ (¬ r13 = (zI σ14 15 (ix (a2 + 1))) → (Ret 0 σ14))))))))) ∧ (¬ r7 = (zI σ8 15 (ix a2)) → (Ret 0 σ8)))))))))))))
set_option maxHeartbeats 4000000 in
theorem mz_X1_isLeg {l : Launch} {E : ZE} (hE : EOK E) {σ : ZS} {a1 : Int32} {a2 : Int32} {Ret : Int32 → ZS → Prop} (hV : wp_X1_isLeg σ a1 a2 Ret) : MZ l E NS yX1_isLeg (ws_ yX1_isLeg cX1_isLeg 3 (some .boolean)) 6 σ [.ref (E.1.heap.size + 0), .int a1, .int a2] (rI Ret) := by
  refine MZ.start (L := [some (.ref (E.1.heap.size + 0)), some (.int a1), some (.int a2)]) hE (by decide) (Nat.le_of_ble_eq_true rfl) rfl fun C hCl hQo hC => ?_
  replace hC : Cx C E cX1_isLeg 3 "RightTurns" "isLeg" (some .boolean) [] 6 := hC
  unfold wp_X1_isLeg at hV
  refine z_aload_n hC dX1_isLeg_0 rfl rfl ?_
  refine g_X1_12_0 hC dX1_isLeg_1 ?_
  obtain ⟨h1, hV⟩ := hV
  refine zz_at rfl (by rw [pvo h1]) ?_
  refine z_iload_n hC dX1_isLeg_4 rfl rfl ?_
  obtain ⟨⟨n5, h4⟩, hV⟩ := hV
  refine c_X1_150 hC (by decide) dX1_isLeg_5 (Nat.le_of_ble_eq_true rfl) h4 hV (fun r2 σ3 hV => ?_)
  refine z_if_eq (tgt := 57) hC dX1_isLeg_8 (by decide) (fun hc => ?_) (fun hc => ?_)
  · replace hV := hV.1 hc
    refine z_iconst (v := 0) hC dX1_isLeg_57 rfl ?_
    exact z_iret hC dX1_isLeg_58 rfl (by rw [hQo]; exact ⟨_, rfl, hV⟩)
  · replace hV := hV.2 hc
    refine z_aload_n hC dX1_isLeg_11 rfl rfl ?_
    refine g_X1_12_0 hC dX1_isLeg_12 ?_
    obtain ⟨h6, hV⟩ := hV
    refine zz_at rfl (by rw [pvo h6]) ?_
    refine z_iload_n hC dX1_isLeg_15 rfl rfl ?_
    obtain ⟨⟨n10, h9⟩, hV⟩ := hV
    refine c_X1_280 hC (by decide) dX1_isLeg_16 (Nat.le_of_ble_eq_true rfl) h9 hV (fun r7 σ8 hV => ?_)
    refine z_aload_n hC dX1_isLeg_19 rfl rfl ?_
    refine g_X1_19_0 hC dX1_isLeg_20 ?_
    refine g_X1_394_12 hC dX1_isLeg_23 ?_
    refine z_iload_n hC dX1_isLeg_26 rfl rfl ?_
    obtain ⟨h11, hV⟩ := hV
    refine z_iald hC dX1_isLeg_27 (k_15 _) (h11) ?_
    refine z_icmp_ne (tgt := 57) hC dX1_isLeg_28 (by decide) (fun hc => ?_) (fun hc => ?_)
    · replace hV := hV.2 hc
      refine z_iconst (v := 0) hC dX1_isLeg_57 rfl ?_
      exact z_iret hC dX1_isLeg_58 rfl (by rw [hQo]; exact ⟨_, rfl, hV⟩)
    · replace hV := hV.1 hc
      refine z_aload_n hC dX1_isLeg_31 rfl rfl ?_
      refine g_X1_12_0 hC dX1_isLeg_32 ?_
      obtain ⟨h12, hV⟩ := hV
      refine zz_at rfl (by rw [pvo h12]) ?_
      refine z_iload_n hC dX1_isLeg_35 rfl rfl ?_
      obtain ⟨⟨n16, h15⟩, hV⟩ := hV
      refine c_X1_274 hC (by decide) dX1_isLeg_36 (Nat.le_of_ble_eq_true rfl) h15 hV (fun r13 σ14 hV => ?_)
      refine z_aload_n hC dX1_isLeg_39 rfl rfl ?_
      refine g_X1_19_0 hC dX1_isLeg_40 ?_
      refine g_X1_394_12 hC dX1_isLeg_43 ?_
      refine z_iload_n hC dX1_isLeg_46 rfl rfl ?_
      refine z_iconst (v := 1) hC dX1_isLeg_47 rfl ?_
      refine z_iadd hC dX1_isLeg_48 ?_
      obtain ⟨h17, hV⟩ := hV
      refine z_iald hC dX1_isLeg_49 (k_15 _) (h17) ?_
      refine z_icmp_ne (tgt := 57) hC dX1_isLeg_50 (by decide) (fun hc => ?_) (fun hc => ?_)
      · replace hV := hV.2 hc
        refine z_iconst (v := 0) hC dX1_isLeg_57 rfl ?_
        exact z_iret hC dX1_isLeg_58 rfl (by rw [hQo]; exact ⟨_, rfl, hV⟩)
      · replace hV := hV.1 hc
        refine z_iconst (v := 1) hC dX1_isLeg_53 rfl ?_
        refine z_goto (tgt := 58) hC dX1_isLeg_54 (by decide) ?_
        exact z_iret hC dX1_isLeg_58 rfl (by rw [hQo]; exact ⟨_, rfl, hV⟩)
theorem g_X1_102_0 {C : ZC} {E : ZE} {cc : ByteArray} {nL pc d : Nat} {nm : String} {ret : Option FieldType} {hh : List (Nat × Nat × Nat × Nat)} {σ : ZS} {L : List (Option Value)} {st : List Value} (hC : Cx C E cc nL "RightTurns" nm ret hh d) (hd : decode cc pc = .ok (.getfield 102, 3)) (k : zz C E NS nL σ (pc + 3) L (.ref (E.1.heap.size + 39) :: st)) : zz C E NS nL σ pc L (.ref (E.1.heap.size + 0) :: st) :=
  z_get hC cf0 hd (k_0 σ) (k := 32) (by decide) (Or.inl q613) (Or.inl rfl) rfl k
theorem g_X1_105_0 {C : ZC} {E : ZE} {cc : ByteArray} {nL pc d : Nat} {nm : String} {ret : Option FieldType} {hh : List (Nat × Nat × Nat × Nat)} {σ : ZS} {L : List (Option Value)} {st : List Value} (hC : Cx C E cc nL "RightTurns" nm ret hh d) (hd : decode cc pc = .ok (.getfield 105, 3)) (k : zz C E NS nL σ (pc + 3) L (.ref (E.1.heap.size + 40) :: st)) : zz C E NS nL σ pc L (.ref (E.1.heap.size + 0) :: st) :=
  z_get hC cf0 hd (k_0 σ) (k := 33) (by decide) (Or.inl q614) (Or.inl rfl) rfl k
theorem g_X1_108_0 {C : ZC} {E : ZE} {cc : ByteArray} {nL pc d : Nat} {nm : String} {ret : Option FieldType} {hh : List (Nat × Nat × Nat × Nat)} {σ : ZS} {L : List (Option Value)} {st : List Value} (hC : Cx C E cc nL "RightTurns" nm ret hh d) (hd : decode cc pc = .ok (.getfield 108, 3)) (k : zz C E NS nL σ (pc + 3) L (.ref (E.1.heap.size + 41) :: st)) : zz C E NS nL σ pc L (.ref (E.1.heap.size + 0) :: st) :=
  z_get hC cf0 hd (k_0 σ) (k := 34) (by decide) (Or.inl q615) (Or.inl rfl) rfl k
theorem g_X1_111_0 {C : ZC} {E : ZE} {cc : ByteArray} {nL pc d : Nat} {nm : String} {ret : Option FieldType} {hh : List (Nat × Nat × Nat × Nat)} {σ : ZS} {L : List (Option Value)} {st : List Value} (hC : Cx C E cc nL "RightTurns" nm ret hh d) (hd : decode cc pc = .ok (.getfield 111, 3)) (k : zz C E NS nL σ (pc + 3) L (.ref (E.1.heap.size + 42) :: st)) : zz C E NS nL σ pc L (.ref (E.1.heap.size + 0) :: st) :=
  z_get hC cf0 hd (k_0 σ) (k := 35) (by decide) (Or.inl q616) (Or.inl rfl) rfl k
theorem g_X1_114_0 {C : ZC} {E : ZE} {cc : ByteArray} {nL pc d : Nat} {nm : String} {ret : Option FieldType} {hh : List (Nat × Nat × Nat × Nat)} {σ : ZS} {L : List (Option Value)} {st : List Value} (hC : Cx C E cc nL "RightTurns" nm ret hh d) (hd : decode cc pc = .ok (.getfield 114, 3)) (k : zz C E NS nL σ (pc + 3) L (.int (zI σ 0 36) :: st)) : zz C E NS nL σ pc L (.ref (E.1.heap.size + 0) :: st) :=
  z_get hC cf0 hd (k_0 σ) (k := 36) (by decide) (Or.inl q617) (Or.inl rfl) rfl k
theorem g_X1_409_0 {C : ZC} {E : ZE} {cc : ByteArray} {nL pc d : Nat} {nm : String} {ret : Option FieldType} {hh : List (Nat × Nat × Nat × Nat)} {σ : ZS} {L : List (Option Value)} {st : List Value} (hC : Cx C E cc nL "RightTurns" nm ret hh d) (hd : decode cc pc = .ok (.getfield 409, 3)) (k : zz C E NS nL σ (pc + 3) L (.int (zI σ 0 37) :: st)) : zz C E NS nL σ pc L (.ref (E.1.heap.size + 0) :: st) :=
  z_get hC cf0 hd (k_0 σ) (k := 37) (by decide) (Or.inl q618) (Or.inl rfl) rfl k
theorem cw_X1_isLeg : CodeW yX1_isLeg (ws_ yX1_isLeg cX1_isLeg 3 (some .boolean)) 3 := ⟨fun w h => (List.mem_cons.mp h).elim (fun e => e ▸ q1528) id, Or.inl ⟨_, _, q1528⟩, q116, by decide, by decide⟩
theorem c_X1_401 {C : ZC} {E : ZE} {cc : ByteArray} {nL pc d : Nat} {nm : String} {ret : Option FieldType} {hh : List (Nat × Nat × Nat × Nat)} {σ : ZS} {L : List (Option Value)} {st : List Value} {a1 : Int32} {a2 : Int32} {Ret : Int32 → ZS → Prop} (hC : Cx C E cc nL "RightTurns" nm ret hh d) (hdd : 6 + 1 ≤ d) (hd : decode cc pc = .ok (.invokevirtual 401, 3)) (hW : (st.map fun v => v.category).sum ≤ 8) (hV : wp_X1_isLeg σ a1 a2 Ret) (k : ∀ r σ', Ret r σ' → zz C E NS nL σ' (pc + 3) L (.int r :: st)) : zz C E NS nL σ pc L (.int a2 :: .int a1 :: .ref (E.1.heap.size + 0) :: st) :=
  z_callVG hC cf0 cw_X1_isLeg hdd (by decide) (mz_X1_isLeg (cxE hC) hV) hd (k_0 σ) q1525 q1527 qs47 (np := 2) rfl rfl hW rfl (kI k)
def V_X1_leg_154 (K2 : ZS → Int32 → Int32 → Int32 → Prop) (K44 : ZS → Int32 → Int32 → Int32 → Int32 → Prop) (Ret : ZS → Prop) (σ : ZS) (x1 : Int32) (x2 : Int32) (x3 : Int32) (x4 : Int32) (x6 : Int32) : Prop :=
    vp_in x3 48 ∧ (vp_in x3 48 ∧ (((x6 = (zI σ 40 (ix x3)) → (vp_in x4 48 ∧ (vp_in x3 48 ∧ (∀ σ36 : ZS, σ36 = sJ σ 42 (ix x3) ((zJ σ 42 (ix x3)) + (zJ σ 41 (ix x4))) → (∀ y37 : Int32, y37 = x4 + 1 → (K44 σ36 x1 x2 x3 y37)))))) ∧ (¬ x6 = (zI σ 40 (ix x3)) → (vp_in x3 48 ∧ (∀ σ32 : ZS, σ32 = sJ σ 42 (ix x3) ((zJ σ 42 (ix x3)) + 0) → (∀ y33 : Int32, y33 = x4 + 1 → (K44 σ32 x1 x2 x3 y33))))))))
def V_X1_leg_125 (K2 : ZS → Int32 → Int32 → Int32 → Prop) (K44 : ZS → Int32 → Int32 → Int32 → Int32 → Prop) (Ret : ZS → Prop) (σ : ZS) (x1 : Int32) (x2 : Int32) (x3 : Int32) (x4 : Int32) (s0 : Int32) (s1 : Int32) : Prop :=
    ∀ y27 : Int32, y27 = s1 + s0 → (vp_in x3 48 ∧ (((y27 < (zI σ 40 (ix x3)) → (vp_in x3 48 ∧ (∀ σ39 : ZS, σ39 = sI σ 40 (ix x3) y27 → (vp_in x3 48 ∧ (∀ σ41 : ZS, σ41 = sJ σ39 42 (ix x3) 0 → (V_X1_leg_154 K2 K44 Ret σ41 x1 x2 x3 x4 y27)))))) ∧ (¬ y27 < (zI σ 40 (ix x3)) → (V_X1_leg_154 K2 K44 Ret σ x1 x2 x3 x4 y27)))))
def V_X1_leg_108 (K2 : ZS → Int32 → Int32 → Int32 → Prop) (K44 : ZS → Int32 → Int32 → Int32 → Int32 → Prop) (Ret : ZS → Prop) (σ : ZS) (x1 : Int32) (x2 : Int32) (x3 : Int32) (x4 : Int32) (x5 : Int32) : Prop :=
    vp_in x4 48 ∧ (((x5 = 0 → (V_X1_leg_125 K2 K44 Ret σ x1 x2 x3 x4 1 (zI σ 39 (ix x4)))) ∧ (¬ x5 = 0 → (V_X1_leg_125 K2 K44 Ret σ x1 x2 x3 x4 0 (zI σ 39 (ix x4))))))
def VL_X1_leg_44 (K2 : ZS → Int32 → Int32 → Int32 → Prop) (Ret : ZS → Prop) : Nat → ZS → Int32 → Int32 → Int32 → Int32 → Prop
  | 0 => fun _ _ _ _ _ => False
  | k + 1 => fun σ x1 x2 x3 x4 =>
    let K44 := VL_X1_leg_44 K2 Ret k
    (zP σ 0 0) = some (.inl (zo (zP σ 0 0))) ∧ ((∃ n20, kK NS σ (zo (zP σ 0 0)) = (8, n20)) ∧ (wp_X2_arcs σ (zo (zP σ 0 0)) (fun r17 σ18 => ((x4 < r17 → (wp_X1_mayRide σ18 x4 x3 x2 (fun r22 σ23 => vp_in x4 48 ∧ ((((zI σ23 39 (ix x4)) = 1000000 → (∀ y25 : Int32, y25 = x4 + 1 → (K44 σ23 x1 x2 x3 y25))) ∧ (¬ (zI σ23 39 (ix x4)) = 1000000 → (((r22 = 0 → ((((zI σ23 0 36) = (x4 / 2) → ((((zI σ23 0 37) = (x3 / 2) → (∀ y42 : Int32, y42 = x4 + 1 → (K44 σ23 x1 x2 x3 y42))) ∧ (¬ (zI σ23 0 37) = (x3 / 2) → (V_X1_leg_108 K2 K44 Ret σ23 x1 x2 x3 x4 r22))))) ∧ (¬ (zI σ23 0 36) = (x4 / 2) → (V_X1_leg_108 K2 K44 Ret σ23 x1 x2 x3 x4 r22))))) ∧ (¬ r22 = 0 → (V_X1_leg_108 K2 K44 Ret σ23 x1 x2 x3 x4 r22)))))))))) ∧ (¬ x4 < r17 → (∀ y21 : Int32, y21 = x3 + 1 → (K2 σ18 x1 x2 y21)))))))
def V_X1_leg_44 (K2 : ZS → Int32 → Int32 → Int32 → Prop) (Ret : ZS → Prop) (σ : ZS) (x1 : Int32) (x2 : Int32) (x3 : Int32) (x4 : Int32) : Prop := ∃ k, VL_X1_leg_44 K2 Ret k σ x1 x2 x3 x4
def VL_X1_leg_2 (Ret : ZS → Prop) : Nat → ZS → Int32 → Int32 → Int32 → Prop
  | 0 => fun _ _ _ _ => False
  | k + 1 => fun σ x1 x2 x3 =>
    let K2 := VL_X1_leg_2 Ret k
    (zP σ 0 0) = some (.inl (zo (zP σ 0 0))) ∧ ((∃ n5, kK NS σ (zo (zP σ 0 0)) = (8, n5)) ∧ (wp_X2_arcs σ (zo (zP σ 0 0)) (fun r2 σ3 => ((x3 < r2 → (vp_in x3 48 ∧ (∀ σ11 : ZS, σ11 = sI σ3 40 (ix x3) 1000000 → (vp_in x3 48 ∧ (∀ σ13 : ZS, σ13 = sJ σ11 42 (ix x3) 0 → (wp_X1_isLeg σ13 x3 x1 (fun r14 σ15 => ((r14 = 0 → (∀ y43 : Int32, y43 = x3 + 1 → (K2 σ15 x1 x2 y43))) ∧ (¬ r14 = 0 → (V_X1_leg_44 K2 Ret σ15 x1 x2 x3 0)))))))))) ∧ (¬ x3 < r2 → ((¬ (0 : Int32) < 0 ∧ ¬ (0 : Int32) < 0 ∧ ¬ (48 : Int32) < 0 ∧ ix 0 + ix 48 ≤ 48 ∧ ix 0 + ix 48 ≤ 48) ∧ (∀ σ7 : ZS, σ7 = cI σ3 40 39 (ix 0) (ix 0) (ix 48) → ((¬ (0 : Int32) < 0 ∧ ¬ (0 : Int32) < 0 ∧ ¬ (48 : Int32) < 0 ∧ ix 0 + ix 48 ≤ 48 ∧ ix 0 + ix 48 ≤ 48) ∧ (∀ σ9 : ZS, σ9 = cJ σ7 42 41 (ix 0) (ix 0) (ix 48) → (Ret σ9))))))))))
def V_X1_leg_2 (Ret : ZS → Prop) (σ : ZS) (x1 : Int32) (x2 : Int32) (x3 : Int32) : Prop := ∃ k, VL_X1_leg_2 Ret k σ x1 x2 x3
def wp_X1_leg (σ : ZS) (a1 : Int32) (a2 : Int32) (Ret : ZS → Prop) : Prop :=
    V_X1_leg_2 Ret σ a1 a2 0
set_option maxHeartbeats 4000000 in
theorem mz_X1_leg {l : Launch} {E : ZE} (hE : EOK E) {σ : ZS} {a1 : Int32} {a2 : Int32} {Ret : ZS → Prop} (hV : wp_X1_leg σ a1 a2 Ret) : MZ l E NS yX1_leg (ws_ yX1_leg cX1_leg 7 none) 8 σ [.ref (E.1.heap.size + 0), .int a1, .int a2] (rV Ret) := by
  refine MZ.start (L := [some (.ref (E.1.heap.size + 0)), some (.int a1), some (.int a2), none, none, none, none]) hE (by decide) (Nat.le_of_ble_eq_true rfl) rfl fun C hCl hQo hC => ?_
  replace hC : Cx C E cX1_leg 7 "RightTurns" "leg" none [] 8 := hC
  unfold wp_X1_leg at hV
  have j_2 : ∀ (σ : ZS) (x1 : Int32) (x2 : Int32) (x3 : Int32), V_X1_leg_2 Ret σ x1 x2 x3 → zz C E NS 7 σ 2 [some (.ref (E.1.heap.size + 0)), some (.int x1), some (.int x2), some (.int x3), none, none, none] [] := by
    intro σ x1 x2 x3 ⟨k, hV⟩
    revert σ x1 x2 x3
    induction k with
    | zero => exact fun _ _ _ _ hV => hV.elim
    | succ k j_2 =>
      intro σ x1 x2 x3 hV
      simp only [VL_X1_leg_2] at hV
      generalize hKe2 : VL_X1_leg_2 Ret k = K2 at hV j_2
      clear hKe2
      have j_44 : ∀ (σ : ZS) (x1 : Int32) (x2 : Int32) (x3 : Int32) (x4 : Int32), V_X1_leg_44 K2 Ret σ x1 x2 x3 x4 → zz C E NS 7 σ 44 [some (.ref (E.1.heap.size + 0)), some (.int x1), some (.int x2), some (.int x3), some (.int x4), none, none] [] := by
        intro σ x1 x2 x3 x4 ⟨k, hV⟩
        revert σ x1 x2 x3 x4
        induction k with
        | zero => exact fun _ _ _ _ _ hV => hV.elim
        | succ k j_44 =>
          intro σ x1 x2 x3 x4 hV
          simp only [VL_X1_leg_44] at hV
          generalize hKe44 : VL_X1_leg_44 K2 Ret k = K44 at hV j_44
          clear hKe44
          have j_154 : ∀ (σ : ZS) (x1 : Int32) (x2 : Int32) (x3 : Int32) (x4 : Int32) (x6 : Int32), V_X1_leg_154 K2 K44 Ret σ x1 x2 x3 x4 x6 → zz C E NS 7 σ 154 [some (.ref (E.1.heap.size + 0)), some (.int x1), some (.int x2), some (.int x3), some (.int x4), none, some (.int x6)] [] := by
            intro σ x1 x2 x3 x4 x6 hV
            unfold V_X1_leg_154 at hV
            refine z_aload_n hC dX1_leg_154 rfl rfl ?_
            refine g_X1_111_0 hC dX1_leg_155 ?_
            refine z_iload_n hC dX1_leg_158 rfl rfl ?_
            refine z_dup2 hC dX1_leg_159 rfl rfl ?_
            obtain ⟨h29, hV⟩ := hV
            refine z_lald hC dX1_leg_160 (k_42 _) (h29) ?_
            refine z_iload hC dX1_leg_161 rfl ?_
            refine z_aload_n hC dX1_leg_163 rfl rfl ?_
            refine g_X1_105_0 hC dX1_leg_164 ?_
            refine z_iload_n hC dX1_leg_167 rfl rfl ?_
            obtain ⟨h30, hV⟩ := hV
            refine z_iald hC dX1_leg_168 (k_40 _) (h30) ?_
            refine z_icmp_ne (tgt := 182) hC dX1_leg_169 (by decide) (fun hc => ?_) (fun hc => ?_)
            · replace hV := hV.2 hc
              refine z_lconst (v := 0) hC dX1_leg_182 rfl ?_
              refine z_ladd hC dX1_leg_183 ?_
              obtain ⟨h31, hV⟩ := hV
              refine z_last hC dX1_leg_184 (k_42 _) (h31) ?_
              obtain ⟨σ32, e_σ32⟩ : ∃ z : ZS, z = sJ σ 42 (ix x3) ((zJ σ 42 (ix x3)) + 0) := ⟨_, rfl⟩
              replace hV := hV _ e_σ32
              rw [← e_σ32]
              obtain ⟨y33, e_y33⟩ : ∃ z : Int32, z = x4 + 1 := ⟨_, rfl⟩
              replace hV := hV _ e_y33
              refine z_iinc (v := y33) hC dX1_leg_185 rfl (by rw [e_y33]; rfl) (Nat.le_of_ble_eq_true rfl) rfl rfl ?_
              refine z_goto (tgt := 44) hC dX1_leg_188 (by decide) ?_
              refine zz_sub (L' := [some (.ref (E.1.heap.size + 0)), some (.int x1), some (.int x2), some (.int x3), some (.int y33), none, none]) ⟨rfl, rfl, rfl, rfl, rfl, trivial⟩ ?_
              exact j_44 σ32 x1 x2 x3 y33 hV
            · replace hV := hV.1 hc
              refine z_aload_n hC dX1_leg_172 rfl rfl ?_
              refine g_X1_108_0 hC dX1_leg_173 ?_
              refine z_iload hC dX1_leg_176 rfl ?_
              obtain ⟨h34, hV⟩ := hV
              refine z_lald hC dX1_leg_178 (k_41 _) (h34) ?_
              refine z_goto (tgt := 183) hC dX1_leg_179 (by decide) ?_
              refine z_ladd hC dX1_leg_183 ?_
              obtain ⟨h35, hV⟩ := hV
              refine z_last hC dX1_leg_184 (k_42 _) (h35) ?_
              obtain ⟨σ36, e_σ36⟩ : ∃ z : ZS, z = sJ σ 42 (ix x3) ((zJ σ 42 (ix x3)) + (zJ σ 41 (ix x4))) := ⟨_, rfl⟩
              replace hV := hV _ e_σ36
              rw [← e_σ36]
              obtain ⟨y37, e_y37⟩ : ∃ z : Int32, z = x4 + 1 := ⟨_, rfl⟩
              replace hV := hV _ e_y37
              refine z_iinc (v := y37) hC dX1_leg_185 rfl (by rw [e_y37]; rfl) (Nat.le_of_ble_eq_true rfl) rfl rfl ?_
              refine z_goto (tgt := 44) hC dX1_leg_188 (by decide) ?_
              refine zz_sub (L' := [some (.ref (E.1.heap.size + 0)), some (.int x1), some (.int x2), some (.int x3), some (.int y37), none, none]) ⟨rfl, rfl, rfl, rfl, rfl, trivial⟩ ?_
              exact j_44 σ36 x1 x2 x3 y37 hV
          have j_125 : ∀ (σ : ZS) (x1 : Int32) (x2 : Int32) (x3 : Int32) (x4 : Int32) (s0 : Int32) (s1 : Int32), V_X1_leg_125 K2 K44 Ret σ x1 x2 x3 x4 s0 s1 → zz C E NS 7 σ 125 [some (.ref (E.1.heap.size + 0)), some (.int x1), some (.int x2), some (.int x3), some (.int x4), none, none] [.int s0, .int s1] := by
            intro σ x1 x2 x3 x4 s0 s1 hV
            unfold V_X1_leg_125 at hV
            refine z_iadd hC dX1_leg_125 ?_
            obtain ⟨y27, e_y27⟩ : ∃ z, z = s1 + s0 := ⟨_, rfl⟩
            rw [← e_y27]
            replace hV := hV _ e_y27
            refine z_istore hC dX1_leg_126 (Nat.le_of_ble_eq_true rfl) rfl rfl ?_
            refine z_iload hC dX1_leg_128 rfl ?_
            refine z_aload_n hC dX1_leg_130 rfl rfl ?_
            refine g_X1_105_0 hC dX1_leg_131 ?_
            refine z_iload_n hC dX1_leg_134 rfl rfl ?_
            obtain ⟨h28, hV⟩ := hV
            refine z_iald hC dX1_leg_135 (k_40 _) (h28) ?_
            refine z_icmp_ge (tgt := 154) hC dX1_leg_136 (by decide) (fun hc => ?_) (fun hc => ?_)
            · replace hV := hV.2 hc
              refine zz_sub (L' := [some (.ref (E.1.heap.size + 0)), some (.int x1), some (.int x2), some (.int x3), some (.int x4), none, some (.int y27)]) ⟨rfl, rfl, rfl, rfl, rfl, rfl, trivial⟩ ?_
              exact j_154 σ x1 x2 x3 x4 y27 hV
            · replace hV := hV.1 hc
              refine z_aload_n hC dX1_leg_139 rfl rfl ?_
              refine g_X1_105_0 hC dX1_leg_140 ?_
              refine z_iload_n hC dX1_leg_143 rfl rfl ?_
              refine z_iload hC dX1_leg_144 rfl ?_
              obtain ⟨h38, hV⟩ := hV
              refine z_iast hC dX1_leg_146 (k_40 _) (h38) ?_
              obtain ⟨σ39, e_σ39⟩ : ∃ z : ZS, z = sI σ 40 (ix x3) y27 := ⟨_, rfl⟩
              replace hV := hV _ e_σ39
              rw [← e_σ39]
              refine z_aload_n hC dX1_leg_147 rfl rfl ?_
              refine g_X1_111_0 hC dX1_leg_148 ?_
              refine z_iload_n hC dX1_leg_151 rfl rfl ?_
              refine z_lconst (v := 0) hC dX1_leg_152 rfl ?_
              obtain ⟨h40, hV⟩ := hV
              refine z_last hC dX1_leg_153 (k_42 _) (h40) ?_
              obtain ⟨σ41, e_σ41⟩ : ∃ z : ZS, z = sJ σ39 42 (ix x3) 0 := ⟨_, rfl⟩
              replace hV := hV _ e_σ41
              rw [← e_σ41]
              refine zz_sub (L' := [some (.ref (E.1.heap.size + 0)), some (.int x1), some (.int x2), some (.int x3), some (.int x4), none, some (.int y27)]) ⟨rfl, rfl, rfl, rfl, rfl, rfl, trivial⟩ ?_
              exact j_154 σ41 x1 x2 x3 x4 y27 hV
          have j_108 : ∀ (σ : ZS) (x1 : Int32) (x2 : Int32) (x3 : Int32) (x4 : Int32) (x5 : Int32), V_X1_leg_108 K2 K44 Ret σ x1 x2 x3 x4 x5 → zz C E NS 7 σ 108 [some (.ref (E.1.heap.size + 0)), some (.int x1), some (.int x2), some (.int x3), some (.int x4), some (.int x5), none] [] := by
            intro σ x1 x2 x3 x4 x5 hV
            unfold V_X1_leg_108 at hV
            refine z_aload_n hC dX1_leg_108 rfl rfl ?_
            refine g_X1_102_0 hC dX1_leg_109 ?_
            refine z_iload hC dX1_leg_112 rfl ?_
            obtain ⟨h26, hV⟩ := hV
            refine z_iald hC dX1_leg_114 (k_39 _) (h26) ?_
            refine z_iload hC dX1_leg_115 rfl ?_
            refine z_if_eq (tgt := 124) hC dX1_leg_117 (by decide) (fun hc => ?_) (fun hc => ?_)
            · replace hV := hV.1 hc
              refine z_iconst (v := 1) hC dX1_leg_124 rfl ?_
              refine zz_sub (L' := [some (.ref (E.1.heap.size + 0)), some (.int x1), some (.int x2), some (.int x3), some (.int x4), none, none]) ⟨rfl, rfl, rfl, rfl, rfl, trivial⟩ ?_
              exact j_125 σ x1 x2 x3 x4 1 (zI σ 39 (ix x4)) hV
            · replace hV := hV.2 hc
              refine z_iconst (v := 0) hC dX1_leg_120 rfl ?_
              refine z_goto (tgt := 125) hC dX1_leg_121 (by decide) ?_
              refine zz_sub (L' := [some (.ref (E.1.heap.size + 0)), some (.int x1), some (.int x2), some (.int x3), some (.int x4), none, none]) ⟨rfl, rfl, rfl, rfl, rfl, trivial⟩ ?_
              exact j_125 σ x1 x2 x3 x4 0 (zI σ 39 (ix x4)) hV
          refine z_iload hC dX1_leg_44 rfl ?_
          refine z_aload_n hC dX1_leg_46 rfl rfl ?_
          refine g_X1_12_0 hC dX1_leg_47 ?_
          obtain ⟨h16, hV⟩ := hV
          refine zz_at rfl (by rw [pvo h16]) ?_
          obtain ⟨⟨n20, h19⟩, hV⟩ := hV
          refine c_X1_271 hC (by decide) dX1_leg_50 (Nat.le_of_ble_eq_true rfl) h19 hV (fun r17 σ18 hV => ?_)
          refine z_icmp_ge (tgt := 191) hC dX1_leg_53 (by decide) (fun hc => ?_) (fun hc => ?_)
          · replace hV := hV.2 hc
            obtain ⟨y21, e_y21⟩ : ∃ z : Int32, z = x3 + 1 := ⟨_, rfl⟩
            replace hV := hV _ e_y21
            refine z_iinc (v := y21) hC dX1_leg_191 rfl (by rw [e_y21]; rfl) (Nat.le_of_ble_eq_true rfl) rfl rfl ?_
            refine z_goto (tgt := 2) hC dX1_leg_194 (by decide) ?_
            refine zz_sub (L' := [some (.ref (E.1.heap.size + 0)), some (.int x1), some (.int x2), some (.int y21), none, none, none]) ⟨rfl, rfl, rfl, rfl, trivial⟩ ?_
            exact j_2 σ18 x1 x2 y21 hV
          · replace hV := hV.1 hc
            refine z_aload_n hC dX1_leg_56 rfl rfl ?_
            refine z_iload hC dX1_leg_57 rfl ?_
            refine z_iload_n hC dX1_leg_59 rfl rfl ?_
            refine z_iload_n hC dX1_leg_60 rfl rfl ?_
            refine c_X1_257 hC (by decide) dX1_leg_61 (Nat.le_of_ble_eq_true rfl) hV (fun r22 σ23 hV => ?_)
            refine z_istore hC dX1_leg_64 (Nat.le_of_ble_eq_true rfl) rfl rfl ?_
            refine z_aload_n hC dX1_leg_66 rfl rfl ?_
            refine g_X1_102_0 hC dX1_leg_67 ?_
            refine z_iload hC dX1_leg_70 rfl ?_
            obtain ⟨h24, hV⟩ := hV
            refine z_iald hC dX1_leg_72 (k_39 _) (h24) ?_
            refine z_ldcw hC dX1_leg_73 q1301 ?_
            refine z_icmp_eq (tgt := 185) hC dX1_leg_76 (by decide) (fun hc => ?_) (fun hc => ?_)
            · replace hV := hV.1 hc
              obtain ⟨y25, e_y25⟩ : ∃ z : Int32, z = x4 + 1 := ⟨_, rfl⟩
              replace hV := hV _ e_y25
              refine z_iinc (v := y25) hC dX1_leg_185 rfl (by rw [e_y25]; rfl) (Nat.le_of_ble_eq_true rfl) rfl rfl ?_
              refine z_goto (tgt := 44) hC dX1_leg_188 (by decide) ?_
              refine zz_sub (L' := [some (.ref (E.1.heap.size + 0)), some (.int x1), some (.int x2), some (.int x3), some (.int y25), none, none]) ⟨rfl, rfl, rfl, rfl, rfl, trivial⟩ ?_
              exact j_44 σ23 x1 x2 x3 y25 hV
            · replace hV := hV.2 hc
              refine z_iload hC dX1_leg_79 rfl ?_
              refine z_if_ne (tgt := 108) hC dX1_leg_81 (by decide) (fun hc => ?_) (fun hc => ?_)
              · replace hV := hV.2 hc
                refine zz_sub (L' := [some (.ref (E.1.heap.size + 0)), some (.int x1), some (.int x2), some (.int x3), some (.int x4), some (.int r22), none]) ⟨rfl, rfl, rfl, rfl, rfl, rfl, trivial⟩ ?_
                exact j_108 σ23 x1 x2 x3 x4 r22 hV
              · replace hV := hV.1 hc
                refine z_aload_n hC dX1_leg_84 rfl rfl ?_
                refine g_X1_114_0 hC dX1_leg_85 ?_
                refine z_iload hC dX1_leg_88 rfl ?_
                refine z_iconst (v := 2) hC dX1_leg_90 rfl ?_
                refine z_idiv hC dX1_leg_91 (by decide) ?_
                refine z_icmp_ne (tgt := 108) hC dX1_leg_92 (by decide) (fun hc => ?_) (fun hc => ?_)
                · replace hV := hV.2 hc
                  refine zz_sub (L' := [some (.ref (E.1.heap.size + 0)), some (.int x1), some (.int x2), some (.int x3), some (.int x4), some (.int r22), none]) ⟨rfl, rfl, rfl, rfl, rfl, rfl, trivial⟩ ?_
                  exact j_108 σ23 x1 x2 x3 x4 r22 hV
                · replace hV := hV.1 hc
                  refine z_aload_n hC dX1_leg_95 rfl rfl ?_
                  refine g_X1_409_0 hC dX1_leg_96 ?_
                  refine z_iload_n hC dX1_leg_99 rfl rfl ?_
                  refine z_iconst (v := 2) hC dX1_leg_100 rfl ?_
                  refine z_idiv hC dX1_leg_101 (by decide) ?_
                  refine z_icmp_ne (tgt := 108) hC dX1_leg_102 (by decide) (fun hc => ?_) (fun hc => ?_)
                  · replace hV := hV.2 hc
                    refine zz_sub (L' := [some (.ref (E.1.heap.size + 0)), some (.int x1), some (.int x2), some (.int x3), some (.int x4), some (.int r22), none]) ⟨rfl, rfl, rfl, rfl, rfl, rfl, trivial⟩ ?_
                    exact j_108 σ23 x1 x2 x3 x4 r22 hV
                  · replace hV := hV.1 hc
                    refine z_goto (tgt := 185) hC dX1_leg_105 (by decide) ?_
                    obtain ⟨y42, e_y42⟩ : ∃ z : Int32, z = x4 + 1 := ⟨_, rfl⟩
                    replace hV := hV _ e_y42
                    refine z_iinc (v := y42) hC dX1_leg_185 rfl (by rw [e_y42]; rfl) (Nat.le_of_ble_eq_true rfl) rfl rfl ?_
                    refine z_goto (tgt := 44) hC dX1_leg_188 (by decide) ?_
                    refine zz_sub (L' := [some (.ref (E.1.heap.size + 0)), some (.int x1), some (.int x2), some (.int x3), some (.int y42), none, none]) ⟨rfl, rfl, rfl, rfl, rfl, trivial⟩ ?_
                    exact j_44 σ23 x1 x2 x3 y42 hV
      refine z_iload_n hC dX1_leg_2 rfl rfl ?_
      refine z_aload_n hC dX1_leg_3 rfl rfl ?_
      refine g_X1_12_0 hC dX1_leg_4 ?_
      obtain ⟨h1, hV⟩ := hV
      refine zz_at rfl (by rw [pvo h1]) ?_
      obtain ⟨⟨n5, h4⟩, hV⟩ := hV
      refine c_X1_271 hC (by decide) dX1_leg_7 (Nat.le_of_ble_eq_true rfl) h4 hV (fun r2 σ3 hV => ?_)
      refine z_icmp_ge (tgt := 197) hC dX1_leg_10 (by decide) (fun hc => ?_) (fun hc => ?_)
      · replace hV := hV.2 hc
        refine z_aload_n hC dX1_leg_197 rfl rfl ?_
        refine g_X1_105_0 hC dX1_leg_198 ?_
        refine z_iconst (v := 0) hC dX1_leg_201 rfl ?_
        refine z_aload_n hC dX1_leg_202 rfl rfl ?_
        refine g_X1_102_0 hC dX1_leg_203 ?_
        refine z_iconst (v := 0) hC dX1_leg_206 rfl ?_
        refine z_bipush (v := 48) hC dX1_leg_207 rfl ?_
        obtain ⟨h6, hV⟩ := hV
        refine z_copy0 hC dX1_leg_209 q1130 (by decide) (k_40 _) (k_39 _) h6.1 h6.2.1 h6.2.2.1 h6.2.2.2.1 h6.2.2.2.2 (Nat.le_of_ble_eq_true rfl) ?_
        obtain ⟨σ7, e_σ7⟩ : ∃ z : ZS, z = cI σ3 40 39 (ix 0) (ix 0) (ix 48) := ⟨_, rfl⟩
        replace hV := hV _ e_σ7
        rw [← e_σ7]
        refine z_aload_n hC dX1_leg_212 rfl rfl ?_
        refine g_X1_111_0 hC dX1_leg_213 ?_
        refine z_iconst (v := 0) hC dX1_leg_216 rfl ?_
        refine z_aload_n hC dX1_leg_217 rfl rfl ?_
        refine g_X1_108_0 hC dX1_leg_218 ?_
        refine z_iconst (v := 0) hC dX1_leg_221 rfl ?_
        refine z_bipush (v := 48) hC dX1_leg_222 rfl ?_
        obtain ⟨h8, hV⟩ := hV
        refine z_copy1 hC dX1_leg_224 q1130 (by decide) (k_42 _) (k_41 _) h8.1 h8.2.1 h8.2.2.1 h8.2.2.2.1 h8.2.2.2.2 (Nat.le_of_ble_eq_true rfl) ?_
        obtain ⟨σ9, e_σ9⟩ : ∃ z : ZS, z = cJ σ7 42 41 (ix 0) (ix 0) (ix 48) := ⟨_, rfl⟩
        replace hV := hV _ e_σ9
        rw [← e_σ9]
        exact z_vret hC dX1_leg_227 (by rw [hQo]; exact ⟨rfl, hV⟩)
      · replace hV := hV.1 hc
        refine z_aload_n hC dX1_leg_13 rfl rfl ?_
        refine g_X1_105_0 hC dX1_leg_14 ?_
        refine z_iload_n hC dX1_leg_17 rfl rfl ?_
        refine z_ldcw hC dX1_leg_18 q1301 ?_
        obtain ⟨h10, hV⟩ := hV
        refine z_iast hC dX1_leg_21 (k_40 _) (h10) ?_
        obtain ⟨σ11, e_σ11⟩ : ∃ z : ZS, z = sI σ3 40 (ix x3) 1000000 := ⟨_, rfl⟩
        replace hV := hV _ e_σ11
        rw [← e_σ11]
        refine z_aload_n hC dX1_leg_22 rfl rfl ?_
        refine g_X1_111_0 hC dX1_leg_23 ?_
        refine z_iload_n hC dX1_leg_26 rfl rfl ?_
        refine z_lconst (v := 0) hC dX1_leg_27 rfl ?_
        obtain ⟨h12, hV⟩ := hV
        refine z_last hC dX1_leg_28 (k_42 _) (h12) ?_
        obtain ⟨σ13, e_σ13⟩ : ∃ z : ZS, z = sJ σ11 42 (ix x3) 0 := ⟨_, rfl⟩
        replace hV := hV _ e_σ13
        rw [← e_σ13]
        refine z_aload_n hC dX1_leg_29 rfl rfl ?_
        refine z_iload_n hC dX1_leg_30 rfl rfl ?_
        refine z_iload_n hC dX1_leg_31 rfl rfl ?_
        refine c_X1_401 hC (by decide) dX1_leg_32 (Nat.le_of_ble_eq_true rfl) hV (fun r14 σ15 hV => ?_)
        refine z_if_ne (tgt := 41) hC dX1_leg_35 (by decide) (fun hc => ?_) (fun hc => ?_)
        · replace hV := hV.2 hc
          refine z_iconst (v := 0) hC dX1_leg_41 rfl ?_
          refine z_istore hC dX1_leg_42 (Nat.le_of_ble_eq_true rfl) rfl rfl ?_
          refine zz_sub (L' := [some (.ref (E.1.heap.size + 0)), some (.int x1), some (.int x2), some (.int x3), some (.int 0), none, none]) ⟨rfl, rfl, rfl, rfl, rfl, trivial⟩ ?_
          exact j_44 σ15 x1 x2 x3 0 hV
        · replace hV := hV.1 hc
          refine z_goto (tgt := 191) hC dX1_leg_38 (by decide) ?_
          obtain ⟨y43, e_y43⟩ : ∃ z : Int32, z = x3 + 1 := ⟨_, rfl⟩
          replace hV := hV _ e_y43
          refine z_iinc (v := y43) hC dX1_leg_191 rfl (by rw [e_y43]; rfl) (Nat.le_of_ble_eq_true rfl) rfl rfl ?_
          refine z_goto (tgt := 2) hC dX1_leg_194 (by decide) ?_
          refine zz_sub (L' := [some (.ref (E.1.heap.size + 0)), some (.int x1), some (.int x2), some (.int y43), none, none, none]) ⟨rfl, rfl, rfl, rfl, trivial⟩ ?_
          exact j_2 σ15 x1 x2 y43 hV
  refine z_iconst (v := 0) hC dX1_leg_0 rfl ?_
  refine z_istore_n hC dX1_leg_1 rfl (Nat.le_of_ble_eq_true rfl) rfl rfl ?_
  refine zz_sub (L' := [some (.ref (E.1.heap.size + 0)), some (.int a1), some (.int a2), some (.int 0), none, none, none]) ⟨rfl, rfl, rfl, rfl, trivial⟩ ?_
  exact j_2 σ a1 a2 0 hV
theorem g_X1_177_12 {C : ZC} {E : ZE} {cc : ByteArray} {nL pc d : Nat} {nm : String} {ret : Option FieldType} {hh : List (Nat × Nat × Nat × Nat)} {σ : ZS} {L : List (Option Value)} {st : List Value} (hC : Cx C E cc nL "RightTurns" nm ret hh d) (hd : decode cc pc = .ok (.getfield 177, 3)) (k : zz C E NS nL σ (pc + 3) L (.int (zI σ 12 4) :: st)) : zz C E NS nL σ pc L (.ref (E.1.heap.size + 12) :: st) :=
  z_get hC cf2 hd (k_12 σ) (k := 4) (by decide) (Or.inr ⟨_, q567⟩) (Or.inl rfl) rfl k
theorem cw_X1_leg : CodeW yX1_leg (ws_ yX1_leg cX1_leg 7 none) 7 := ⟨fun w h => (List.mem_cons.mp h).elim (fun e => e ▸ q1532) id, Or.inl ⟨_, _, q1532⟩, q116, by decide, by decide⟩
theorem c_X1_404 {C : ZC} {E : ZE} {cc : ByteArray} {nL pc d : Nat} {nm : String} {ret : Option FieldType} {hh : List (Nat × Nat × Nat × Nat)} {σ : ZS} {L : List (Option Value)} {st : List Value} {a1 : Int32} {a2 : Int32} {Ret : ZS → Prop} (hC : Cx C E cc nL "RightTurns" nm ret hh d) (hdd : 8 + 1 ≤ d) (hd : decode cc pc = .ok (.invokevirtual 404, 3)) (hW : (st.map fun v => v.category).sum ≤ 8) (hV : wp_X1_leg σ a1 a2 Ret) (k : ∀ σ', Ret σ' → zz C E NS nL σ' (pc + 3) L st) : zz C E NS nL σ pc L (.int a2 :: .int a1 :: .ref (E.1.heap.size + 0) :: st) :=
  z_callVG hC cf0 cw_X1_leg hdd (by decide) (mz_X1_leg (cxE hC) hV) hd (k_0 σ) q1529 q1531 qs48 (np := 2) rfl rfl hW rfl (kV k)
def V_X1_breaksOf_145 (K111 : ZS → Int32 → Int32 → Int64 → Int32 → Prop) (Ret : Int64 → ZS → Prop) (σ : ZS) (x2 : Int32) (x3 : Int32) (x4 : Int64) (x6 : Int32) : Prop :=
    vp_in x6 48 ∧ ((((zI σ 39 (ix x6)) = x3 → (vp_in x6 48 ∧ (∀ y16 : Int64, y16 = x4 + (zJ σ 41 (ix x6)) → (∀ y17 : Int32, y17 = x6 + 1 → (K111 σ x2 x3 y16 y17))))) ∧ (¬ (zI σ 39 (ix x6)) = x3 → (∀ y13 : Int64, y13 = x4 + 0 → (∀ y14 : Int32, y14 = x6 + 1 → (K111 σ x2 x3 y13 y14))))))
def VL_X1_breaksOf_111 (Ret : Int64 → ZS → Prop) : Nat → ZS → Int32 → Int32 → Int64 → Int32 → Prop
  | 0 => fun _ _ _ _ _ => False
  | k + 1 => fun σ x2 x3 x4 x6 =>
    let K111 := VL_X1_breaksOf_111 Ret k
    (zP σ 0 0) = some (.inl (zo (zP σ 0 0))) ∧ ((∃ n10, kK NS σ (zo (zP σ 0 0)) = (8, n10)) ∧ (wp_X2_arcs σ (zo (zP σ 0 0)) (fun r7 σ8 => ((x6 < r7 → (vp_in x6 48 ∧ ((((zI σ8 39 (ix x6)) < x3 → (vp_in x6 48 ∧ (∀ y19 : Int32, y19 = zI σ8 39 (ix x6) → (V_X1_breaksOf_145 K111 Ret σ8 x2 y19 0 x6)))) ∧ (¬ (zI σ8 39 (ix x6)) < x3 → (V_X1_breaksOf_145 K111 Ret σ8 x2 x3 x4 x6)))))) ∧ (¬ x6 < r7 → (((x3 = 1000000 → (Ret (-1) σ8)) ∧ (¬ x3 = 1000000 → (((x2 = 0 → (Ret x3.toInt64 σ8)) ∧ (¬ x2 = 0 → (Ret x4 σ8))))))))))))
def V_X1_breaksOf_111 (Ret : Int64 → ZS → Prop) (σ : ZS) (x2 : Int32) (x3 : Int32) (x4 : Int64) (x6 : Int32) : Prop := ∃ k, VL_X1_breaksOf_111 Ret k σ x2 x3 x4 x6
def VL_X1_breaksOf_76 (Ret : Int64 → ZS → Prop) : Nat → ZS → Int32 → Int32 → Int32 → Prop
  | 0 => fun _ _ _ _ => False
  | k + 1 => fun σ x1 x2 x3 =>
    let K76 := VL_X1_breaksOf_76 Ret k
    (((x3 + 1) < (zI σ 12 4) → (wp_X1_leg σ x3 x1 (fun σ21 => ∀ y22 : Int32, y22 = x3 + 1 → (K76 σ21 x1 x2 y22)))) ∧ (¬ (x3 + 1) < (zI σ 12 4) → (V_X1_breaksOf_111 Ret σ x2 1000000 0 0)))
def V_X1_breaksOf_76 (Ret : Int64 → ZS → Prop) (σ : ZS) (x1 : Int32) (x2 : Int32) (x3 : Int32) : Prop := ∃ k, VL_X1_breaksOf_76 Ret k σ x1 x2 x3
def V_X1_breaksOf_47 (K15 : ZS → Int32 → Int32 → Int32 → Prop) (Ret : Int64 → ZS → Prop) (σ : ZS) (x1 : Int32) (x2 : Int32) (x3 : Int32) (s0 : Int32) (s1 : Int32) (s2 : Nat) : Prop :=
    ∃ n26, kK NS σ s2 = (0, n26) ∧ (vp_in s1 n26 ∧ (∀ σ28 : ZS, σ28 = sI σ s2 (ix s1) s0 → (wp_X1_isLeg σ28 x3 0 (fun r29 σ30 => ((r29 = 0 → (vp_in x3 48 ∧ (∀ σ32 : ZS, σ32 = sJ σ30 41 (ix x3) 0 → (∀ y33 : Int32, y33 = x3 + 1 → (K15 σ32 x1 x2 y33))))) ∧ (¬ r29 = 0 → (vp_in x3 48 ∧ (∀ σ35 : ZS, σ35 = sJ σ30 41 (ix x3) 1 → (∀ y36 : Int32, y36 = x3 + 1 → (K15 σ35 x1 x2 y36))))))))))
def VL_X1_breaksOf_15 (Ret : Int64 → ZS → Prop) : Nat → ZS → Int32 → Int32 → Int32 → Prop
  | 0 => fun _ _ _ _ => False
  | k + 1 => fun σ x1 x2 x3 =>
    let K15 := VL_X1_breaksOf_15 Ret k
    (zP σ 0 0) = some (.inl (zo (zP σ 0 0))) ∧ ((∃ n5, kK NS σ (zo (zP σ 0 0)) = (8, n5)) ∧ (wp_X2_arcs σ (zo (zP σ 0 0)) (fun r2 σ3 => ((x3 < r2 → (wp_X1_isLeg σ3 x3 0 (fun r23 σ24 => ((r23 = 0 → (V_X1_breaksOf_47 K15 Ret σ24 x1 x2 x3 1000000 x3 39)) ∧ (¬ r23 = 0 → (V_X1_breaksOf_47 K15 Ret σ24 x1 x2 x3 0 x3 39)))))) ∧ (¬ x3 < r2 → (V_X1_breaksOf_76 Ret σ3 x1 x2 1))))))
def V_X1_breaksOf_15 (Ret : Int64 → ZS → Prop) (σ : ZS) (x1 : Int32) (x2 : Int32) (x3 : Int32) : Prop := ∃ k, VL_X1_breaksOf_15 Ret k σ x1 x2 x3
def wp_X1_breaksOf (σ : ZS) (a1 : Int32) (a2 : Int32) (Ret : Int64 → ZS → Prop) : Prop :=
    (((zI σ 12 4) < 2 → (Ret 0 σ)) ∧ (¬ (zI σ 12 4) < 2 → (V_X1_breaksOf_15 Ret σ a1 a2 0)))
set_option maxHeartbeats 4000000 in
theorem mz_X1_breaksOf {l : Launch} {E : ZE} (hE : EOK E) {σ : ZS} {a1 : Int32} {a2 : Int32} {Ret : Int64 → ZS → Prop} (hV : wp_X1_breaksOf σ a1 a2 Ret) : MZ l E NS yX1_breaksOf (ws_ yX1_breaksOf cX1_breaksOf 7 (some .long)) 9 σ [.ref (E.1.heap.size + 0), .int a1, .int a2] (rJ Ret) := by
  refine MZ.start (L := [some (.ref (E.1.heap.size + 0)), some (.int a1), some (.int a2), none, none, none, none]) hE (by decide) (Nat.le_of_ble_eq_true rfl) rfl fun C hCl hQo hC => ?_
  replace hC : Cx C E cX1_breaksOf 7 "RightTurns" "breaksOf" (some .long) [] 9 := hC
  unfold wp_X1_breaksOf at hV
  have j_111 : ∀ (σ : ZS) (x2 : Int32) (x3 : Int32) (x4 : Int64) (x6 : Int32), V_X1_breaksOf_111 Ret σ x2 x3 x4 x6 → zz C E NS 7 σ 111 [some (.ref (E.1.heap.size + 0)), none, some (.int x2), some (.int x3), some (.long x4), none, some (.int x6)] [] := by
    intro σ x2 x3 x4 x6 ⟨k, hV⟩
    revert σ x2 x3 x4 x6
    induction k with
    | zero => exact fun _ _ _ _ _ hV => hV.elim
    | succ k j_111 =>
      intro σ x2 x3 x4 x6 hV
      simp only [VL_X1_breaksOf_111] at hV
      generalize hKe111 : VL_X1_breaksOf_111 Ret k = K111 at hV j_111
      clear hKe111
      have j_145 : ∀ (σ : ZS) (x2 : Int32) (x3 : Int32) (x4 : Int64) (x6 : Int32), V_X1_breaksOf_145 K111 Ret σ x2 x3 x4 x6 → zz C E NS 7 σ 145 [some (.ref (E.1.heap.size + 0)), none, some (.int x2), some (.int x3), some (.long x4), none, some (.int x6)] [] := by
        intro σ x2 x3 x4 x6 hV
        unfold V_X1_breaksOf_145 at hV
        refine z_lload hC dX1_breaksOf_145 rfl ?_
        refine z_aload_n hC dX1_breaksOf_147 rfl rfl ?_
        refine g_X1_102_0 hC dX1_breaksOf_148 ?_
        refine z_iload hC dX1_breaksOf_151 rfl ?_
        obtain ⟨h12, hV⟩ := hV
        refine z_iald hC dX1_breaksOf_153 (k_39 _) (h12) ?_
        refine z_iload_n hC dX1_breaksOf_154 rfl rfl ?_
        refine z_icmp_ne (tgt := 168) hC dX1_breaksOf_155 (by decide) (fun hc => ?_) (fun hc => ?_)
        · replace hV := hV.2 hc
          refine z_lconst (v := 0) hC dX1_breaksOf_168 rfl ?_
          refine z_ladd hC dX1_breaksOf_169 ?_
          obtain ⟨y13, e_y13⟩ : ∃ z, z = x4 + 0 := ⟨_, rfl⟩
          rw [← e_y13]
          replace hV := hV _ e_y13
          refine z_lstore hC dX1_breaksOf_170 (Nat.le_of_ble_eq_true rfl) rfl rfl ?_
          obtain ⟨y14, e_y14⟩ : ∃ z : Int32, z = x6 + 1 := ⟨_, rfl⟩
          replace hV := hV _ e_y14
          refine z_iinc (v := y14) hC dX1_breaksOf_172 rfl (by rw [e_y14]; rfl) (Nat.le_of_ble_eq_true rfl) rfl rfl ?_
          refine z_goto (tgt := 111) hC dX1_breaksOf_175 (by decide) ?_
          refine zz_sub (L' := [some (.ref (E.1.heap.size + 0)), none, some (.int x2), some (.int x3), some (.long y13), none, some (.int y14)]) ⟨rfl, rfl, rfl, rfl, rfl, trivial⟩ ?_
          exact j_111 σ x2 x3 y13 y14 hV
        · replace hV := hV.1 hc
          refine z_aload_n hC dX1_breaksOf_158 rfl rfl ?_
          refine g_X1_108_0 hC dX1_breaksOf_159 ?_
          refine z_iload hC dX1_breaksOf_162 rfl ?_
          obtain ⟨h15, hV⟩ := hV
          refine z_lald hC dX1_breaksOf_164 (k_41 _) (h15) ?_
          refine z_goto (tgt := 169) hC dX1_breaksOf_165 (by decide) ?_
          refine z_ladd hC dX1_breaksOf_169 ?_
          obtain ⟨y16, e_y16⟩ : ∃ z, z = x4 + (zJ σ 41 (ix x6)) := ⟨_, rfl⟩
          rw [← e_y16]
          replace hV := hV _ e_y16
          refine z_lstore hC dX1_breaksOf_170 (Nat.le_of_ble_eq_true rfl) rfl rfl ?_
          obtain ⟨y17, e_y17⟩ : ∃ z : Int32, z = x6 + 1 := ⟨_, rfl⟩
          replace hV := hV _ e_y17
          refine z_iinc (v := y17) hC dX1_breaksOf_172 rfl (by rw [e_y17]; rfl) (Nat.le_of_ble_eq_true rfl) rfl rfl ?_
          refine z_goto (tgt := 111) hC dX1_breaksOf_175 (by decide) ?_
          refine zz_sub (L' := [some (.ref (E.1.heap.size + 0)), none, some (.int x2), some (.int x3), some (.long y16), none, some (.int y17)]) ⟨rfl, rfl, rfl, rfl, rfl, trivial⟩ ?_
          exact j_111 σ x2 x3 y16 y17 hV
      refine z_iload hC dX1_breaksOf_111 rfl ?_
      refine z_aload_n hC dX1_breaksOf_113 rfl rfl ?_
      refine g_X1_12_0 hC dX1_breaksOf_114 ?_
      obtain ⟨h6, hV⟩ := hV
      refine zz_at rfl (by rw [pvo h6]) ?_
      obtain ⟨⟨n10, h9⟩, hV⟩ := hV
      refine c_X1_271 hC (by decide) dX1_breaksOf_117 (Nat.le_of_ble_eq_true rfl) h9 hV (fun r7 σ8 hV => ?_)
      refine z_icmp_ge (tgt := 178) hC dX1_breaksOf_120 (by decide) (fun hc => ?_) (fun hc => ?_)
      · replace hV := hV.2 hc
        refine z_iload_n hC dX1_breaksOf_178 rfl rfl ?_
        refine z_ldcw hC dX1_breaksOf_179 q1301 ?_
        refine z_icmp_ne (tgt := 191) hC dX1_breaksOf_182 (by decide) (fun hc => ?_) (fun hc => ?_)
        · replace hV := hV.2 hc
          refine z_iload_n hC dX1_breaksOf_191 rfl rfl ?_
          refine z_if_ne (tgt := 200) hC dX1_breaksOf_192 (by decide) (fun hc => ?_) (fun hc => ?_)
          · replace hV := hV.2 hc
            refine z_lload hC dX1_breaksOf_200 rfl ?_
            exact z_lret hC dX1_breaksOf_202 (by rw [hQo]; exact ⟨_, rfl, hV⟩)
          · replace hV := hV.1 hc
            refine z_iload_n hC dX1_breaksOf_195 rfl rfl ?_
            refine z_i2l hC dX1_breaksOf_196 ?_
            refine z_goto (tgt := 202) hC dX1_breaksOf_197 (by decide) ?_
            exact z_lret hC dX1_breaksOf_202 (by rw [hQo]; exact ⟨_, rfl, hV⟩)
        · replace hV := hV.1 hc
          refine z_ldc2 hC dX1_breaksOf_185 q1533 ?_
          refine z_goto (tgt := 202) hC dX1_breaksOf_188 (by decide) ?_
          exact z_lret hC dX1_breaksOf_202 (by rw [hQo]; exact ⟨_, rfl, hV⟩)
      · replace hV := hV.1 hc
        refine z_aload_n hC dX1_breaksOf_123 rfl rfl ?_
        refine g_X1_102_0 hC dX1_breaksOf_124 ?_
        refine z_iload hC dX1_breaksOf_127 rfl ?_
        obtain ⟨h11, hV⟩ := hV
        refine z_iald hC dX1_breaksOf_129 (k_39 _) (h11) ?_
        refine z_iload_n hC dX1_breaksOf_130 rfl rfl ?_
        refine z_icmp_ge (tgt := 145) hC dX1_breaksOf_131 (by decide) (fun hc => ?_) (fun hc => ?_)
        · replace hV := hV.2 hc
          refine zz_sub (L' := [some (.ref (E.1.heap.size + 0)), none, some (.int x2), some (.int x3), some (.long x4), none, some (.int x6)]) ⟨rfl, rfl, rfl, rfl, rfl, trivial⟩ ?_
          exact j_145 σ8 x2 x3 x4 x6 hV
        · replace hV := hV.1 hc
          refine z_aload_n hC dX1_breaksOf_134 rfl rfl ?_
          refine g_X1_102_0 hC dX1_breaksOf_135 ?_
          refine z_iload hC dX1_breaksOf_138 rfl ?_
          obtain ⟨h18, hV⟩ := hV
          refine z_iald hC dX1_breaksOf_140 (k_39 _) (h18) ?_
          obtain ⟨y19, e_y19⟩ : ∃ z, z = zI σ8 39 (ix x6) := ⟨_, rfl⟩
          rw [← e_y19]
          replace hV := hV _ e_y19
          refine z_istore_n hC dX1_breaksOf_141 rfl (Nat.le_of_ble_eq_true rfl) rfl rfl ?_
          refine z_lconst (v := 0) hC dX1_breaksOf_142 rfl ?_
          refine z_lstore hC dX1_breaksOf_143 (Nat.le_of_ble_eq_true rfl) rfl rfl ?_
          refine zz_sub (L' := [some (.ref (E.1.heap.size + 0)), none, some (.int x2), some (.int y19), some (.long 0), none, some (.int x6)]) ⟨rfl, rfl, rfl, rfl, rfl, trivial⟩ ?_
          exact j_145 σ8 x2 y19 0 x6 hV
  have j_76 : ∀ (σ : ZS) (x1 : Int32) (x2 : Int32) (x3 : Int32), V_X1_breaksOf_76 Ret σ x1 x2 x3 → zz C E NS 7 σ 76 [some (.ref (E.1.heap.size + 0)), some (.int x1), some (.int x2), some (.int x3), none, none, none] [] := by
    intro σ x1 x2 x3 ⟨k, hV⟩
    revert σ x1 x2 x3
    induction k with
    | zero => exact fun _ _ _ _ hV => hV.elim
    | succ k j_76 =>
      intro σ x1 x2 x3 hV
      simp only [VL_X1_breaksOf_76] at hV
      generalize hKe76 : VL_X1_breaksOf_76 Ret k = K76 at hV j_76
      clear hKe76
      refine z_iload_n hC dX1_breaksOf_76 rfl rfl ?_
      refine z_iconst (v := 1) hC dX1_breaksOf_77 rfl ?_
      refine z_iadd hC dX1_breaksOf_78 ?_
      refine z_aload_n hC dX1_breaksOf_79 rfl rfl ?_
      refine g_X1_19_0 hC dX1_breaksOf_80 ?_
      refine g_X1_177_12 hC dX1_breaksOf_83 ?_
      refine z_icmp_ge (tgt := 101) hC dX1_breaksOf_86 (by decide) (fun hc => ?_) (fun hc => ?_)
      · replace hV := hV.2 hc
        refine z_ldcw hC dX1_breaksOf_101 q1301 ?_
        refine z_istore_n hC dX1_breaksOf_104 rfl (Nat.le_of_ble_eq_true rfl) rfl rfl ?_
        refine z_lconst (v := 0) hC dX1_breaksOf_105 rfl ?_
        refine z_lstore hC dX1_breaksOf_106 (Nat.le_of_ble_eq_true rfl) rfl rfl ?_
        refine z_iconst (v := 0) hC dX1_breaksOf_108 rfl ?_
        refine z_istore hC dX1_breaksOf_109 (Nat.le_of_ble_eq_true rfl) rfl rfl ?_
        refine zz_sub (L' := [some (.ref (E.1.heap.size + 0)), none, some (.int x2), some (.int 1000000), some (.long 0), none, some (.int 0)]) ⟨rfl, rfl, rfl, rfl, rfl, trivial⟩ ?_
        exact j_111 σ x2 1000000 0 0 hV
      · replace hV := hV.1 hc
        refine z_aload_n hC dX1_breaksOf_89 rfl rfl ?_
        refine z_iload_n hC dX1_breaksOf_90 rfl rfl ?_
        refine z_iload_n hC dX1_breaksOf_91 rfl rfl ?_
        refine c_X1_404 hC (by decide) dX1_breaksOf_92 (Nat.le_of_ble_eq_true rfl) hV (fun σ21 hV => ?_)
        obtain ⟨y22, e_y22⟩ : ∃ z : Int32, z = x3 + 1 := ⟨_, rfl⟩
        replace hV := hV _ e_y22
        refine z_iinc (v := y22) hC dX1_breaksOf_95 rfl (by rw [e_y22]; rfl) (Nat.le_of_ble_eq_true rfl) rfl rfl ?_
        refine z_goto (tgt := 76) hC dX1_breaksOf_98 (by decide) ?_
        refine zz_sub (L' := [some (.ref (E.1.heap.size + 0)), some (.int x1), some (.int x2), some (.int y22), none, none, none]) ⟨rfl, rfl, rfl, rfl, trivial⟩ ?_
        exact j_76 σ21 x1 x2 y22 hV
  have j_15 : ∀ (σ : ZS) (x1 : Int32) (x2 : Int32) (x3 : Int32), V_X1_breaksOf_15 Ret σ x1 x2 x3 → zz C E NS 7 σ 15 [some (.ref (E.1.heap.size + 0)), some (.int x1), some (.int x2), some (.int x3), none, none, none] [] := by
    intro σ x1 x2 x3 ⟨k, hV⟩
    revert σ x1 x2 x3
    induction k with
    | zero => exact fun _ _ _ _ hV => hV.elim
    | succ k j_15 =>
      intro σ x1 x2 x3 hV
      simp only [VL_X1_breaksOf_15] at hV
      generalize hKe15 : VL_X1_breaksOf_15 Ret k = K15 at hV j_15
      clear hKe15
      have j_47 : ∀ (σ : ZS) (x1 : Int32) (x2 : Int32) (x3 : Int32) (s0 : Int32) (s1 : Int32) (s2 : Nat), V_X1_breaksOf_47 K15 Ret σ x1 x2 x3 s0 s1 s2 → zz C E NS 7 σ 47 [some (.ref (E.1.heap.size + 0)), some (.int x1), some (.int x2), some (.int x3), none, none, none] [.int s0, .int s1, .ref (E.1.heap.size + s2)] := by
        intro σ x1 x2 x3 s0 s1 s2 hV
        unfold V_X1_breaksOf_47 at hV
        obtain ⟨n26, h25, hV⟩ := hV
        obtain ⟨h27, hV⟩ := hV
        refine z_iast hC dX1_breaksOf_47 h25 (h27) ?_
        obtain ⟨σ28, e_σ28⟩ : ∃ z : ZS, z = sI σ s2 (ix s1) s0 := ⟨_, rfl⟩
        replace hV := hV _ e_σ28
        rw [← e_σ28]
        refine z_aload_n hC dX1_breaksOf_48 rfl rfl ?_
        refine g_X1_108_0 hC dX1_breaksOf_49 ?_
        refine z_iload_n hC dX1_breaksOf_52 rfl rfl ?_
        refine z_aload_n hC dX1_breaksOf_53 rfl rfl ?_
        refine z_iload_n hC dX1_breaksOf_54 rfl rfl ?_
        refine z_iconst (v := 0) hC dX1_breaksOf_55 rfl ?_
        refine c_X1_401 hC (by decide) dX1_breaksOf_56 (Nat.le_of_ble_eq_true rfl) hV (fun r29 σ30 hV => ?_)
        refine z_if_eq (tgt := 66) hC dX1_breaksOf_59 (by decide) (fun hc => ?_) (fun hc => ?_)
        · replace hV := hV.1 hc
          refine z_lconst (v := 0) hC dX1_breaksOf_66 rfl ?_
          obtain ⟨h31, hV⟩ := hV
          refine z_last hC dX1_breaksOf_67 (k_41 _) (h31) ?_
          obtain ⟨σ32, e_σ32⟩ : ∃ z : ZS, z = sJ σ30 41 (ix x3) 0 := ⟨_, rfl⟩
          replace hV := hV _ e_σ32
          rw [← e_σ32]
          obtain ⟨y33, e_y33⟩ : ∃ z : Int32, z = x3 + 1 := ⟨_, rfl⟩
          replace hV := hV _ e_y33
          refine z_iinc (v := y33) hC dX1_breaksOf_68 rfl (by rw [e_y33]; rfl) (Nat.le_of_ble_eq_true rfl) rfl rfl ?_
          refine z_goto (tgt := 15) hC dX1_breaksOf_71 (by decide) ?_
          refine zz_sub (L' := [some (.ref (E.1.heap.size + 0)), some (.int x1), some (.int x2), some (.int y33), none, none, none]) ⟨rfl, rfl, rfl, rfl, trivial⟩ ?_
          exact j_15 σ32 x1 x2 y33 hV
        · replace hV := hV.2 hc
          refine z_lconst (v := 1) hC dX1_breaksOf_62 rfl ?_
          refine z_goto (tgt := 67) hC dX1_breaksOf_63 (by decide) ?_
          obtain ⟨h34, hV⟩ := hV
          refine z_last hC dX1_breaksOf_67 (k_41 _) (h34) ?_
          obtain ⟨σ35, e_σ35⟩ : ∃ z : ZS, z = sJ σ30 41 (ix x3) 1 := ⟨_, rfl⟩
          replace hV := hV _ e_σ35
          rw [← e_σ35]
          obtain ⟨y36, e_y36⟩ : ∃ z : Int32, z = x3 + 1 := ⟨_, rfl⟩
          replace hV := hV _ e_y36
          refine z_iinc (v := y36) hC dX1_breaksOf_68 rfl (by rw [e_y36]; rfl) (Nat.le_of_ble_eq_true rfl) rfl rfl ?_
          refine z_goto (tgt := 15) hC dX1_breaksOf_71 (by decide) ?_
          refine zz_sub (L' := [some (.ref (E.1.heap.size + 0)), some (.int x1), some (.int x2), some (.int y36), none, none, none]) ⟨rfl, rfl, rfl, rfl, trivial⟩ ?_
          exact j_15 σ35 x1 x2 y36 hV
      refine z_iload_n hC dX1_breaksOf_15 rfl rfl ?_
      refine z_aload_n hC dX1_breaksOf_16 rfl rfl ?_
      refine g_X1_12_0 hC dX1_breaksOf_17 ?_
      obtain ⟨h1, hV⟩ := hV
      refine zz_at rfl (by rw [pvo h1]) ?_
      obtain ⟨⟨n5, h4⟩, hV⟩ := hV
      refine c_X1_271 hC (by decide) dX1_breaksOf_20 (Nat.le_of_ble_eq_true rfl) h4 hV (fun r2 σ3 hV => ?_)
      refine z_icmp_ge (tgt := 74) hC dX1_breaksOf_23 (by decide) (fun hc => ?_) (fun hc => ?_)
      · replace hV := hV.2 hc
        refine z_iconst (v := 1) hC dX1_breaksOf_74 rfl ?_
        refine z_istore_n hC dX1_breaksOf_75 rfl (Nat.le_of_ble_eq_true rfl) rfl rfl ?_
        refine zz_sub (L' := [some (.ref (E.1.heap.size + 0)), some (.int x1), some (.int x2), some (.int 1), none, none, none]) ⟨rfl, rfl, rfl, rfl, trivial⟩ ?_
        exact j_76 σ3 x1 x2 1 hV
      · replace hV := hV.1 hc
        refine z_aload_n hC dX1_breaksOf_26 rfl rfl ?_
        refine g_X1_102_0 hC dX1_breaksOf_27 ?_
        refine z_iload_n hC dX1_breaksOf_30 rfl rfl ?_
        refine z_aload_n hC dX1_breaksOf_31 rfl rfl ?_
        refine z_iload_n hC dX1_breaksOf_32 rfl rfl ?_
        refine z_iconst (v := 0) hC dX1_breaksOf_33 rfl ?_
        refine c_X1_401 hC (by decide) dX1_breaksOf_34 (Nat.le_of_ble_eq_true rfl) hV (fun r23 σ24 hV => ?_)
        refine z_if_eq (tgt := 44) hC dX1_breaksOf_37 (by decide) (fun hc => ?_) (fun hc => ?_)
        · replace hV := hV.1 hc
          refine z_ldcw hC dX1_breaksOf_44 q1301 ?_
          refine zz_sub (L' := [some (.ref (E.1.heap.size + 0)), some (.int x1), some (.int x2), some (.int x3), none, none, none]) ⟨rfl, rfl, rfl, rfl, trivial⟩ ?_
          exact j_47 σ24 x1 x2 x3 1000000 x3 39 hV
        · replace hV := hV.2 hc
          refine z_iconst (v := 0) hC dX1_breaksOf_40 rfl ?_
          refine z_goto (tgt := 47) hC dX1_breaksOf_41 (by decide) ?_
          refine zz_sub (L' := [some (.ref (E.1.heap.size + 0)), some (.int x1), some (.int x2), some (.int x3), none, none, none]) ⟨rfl, rfl, rfl, rfl, trivial⟩ ?_
          exact j_47 σ24 x1 x2 x3 0 x3 39 hV
  refine z_aload_n hC dX1_breaksOf_0 rfl rfl ?_
  refine g_X1_19_0 hC dX1_breaksOf_1 ?_
  refine g_X1_177_12 hC dX1_breaksOf_4 ?_
  refine z_iconst (v := 2) hC dX1_breaksOf_7 rfl ?_
  refine z_icmp_ge (tgt := 13) hC dX1_breaksOf_8 (by decide) (fun hc => ?_) (fun hc => ?_)
  · replace hV := hV.2 hc
    refine z_iconst (v := 0) hC dX1_breaksOf_13 rfl ?_
    refine z_istore_n hC dX1_breaksOf_14 rfl (Nat.le_of_ble_eq_true rfl) rfl rfl ?_
    refine zz_sub (L' := [some (.ref (E.1.heap.size + 0)), some (.int a1), some (.int a2), some (.int 0), none, none, none]) ⟨rfl, rfl, rfl, rfl, trivial⟩ ?_
    exact j_15 σ a1 a2 0 hV
  · replace hV := hV.1 hc
    refine z_lconst (v := 0) hC dX1_breaksOf_11 rfl ?_
    exact z_lret hC dX1_breaksOf_12 (by rw [hQo]; exact ⟨_, rfl, hV⟩)
theorem g_X1_62_0 {C : ZC} {E : ZE} {cc : ByteArray} {nL pc d : Nat} {nm : String} {ret : Option FieldType} {hh : List (Nat × Nat × Nat × Nat)} {σ : ZS} {L : List (Option Value)} {st : List Value} (hC : Cx C E cc nL "RightTurns" nm ret hh d) (hd : decode cc pc = .ok (.getfield 62, 3)) (k : zz C E NS nL σ (pc + 3) L (.ref (E.1.heap.size + 26) :: st)) : zz C E NS nL σ pc L (.ref (E.1.heap.size + 0) :: st) :=
  z_get hC cf0 hd (k_0 σ) (k := 16) (by decide) (Or.inl q597) (Or.inl rfl) rfl k
theorem g_X1_217_c1 {a x : Nat} {C : ZC} {E : ZE} {cc : ByteArray} {n nL pc d : Nat} {nm : String} {ret : Option FieldType} {hh : List (Nat × Nat × Nat × Nat)} {σ : ZS} {L : List (Option Value)} {st : List Value} (hC : Cx C E cc nL "RightTurns" nm ret hh d) (hd : decode cc pc = .ok (.getfield 217, 3)) (hk : kK n σ a = (1 + 7, x)) (k : zz C E n nL σ (pc + 3) L (.int (zI σ a 8) :: st)) : zz C E n nL σ pc L (.ref (E.1.heap.size + a) :: st) :=
  z_get hC cf1 hd hk (k := 8) (by decide) (Or.inr ⟨_, q528⟩) (Or.inl rfl) rfl k
theorem g_X1_332_c1 {a x : Nat} {C : ZC} {E : ZE} {cc : ByteArray} {n nL pc d : Nat} {nm : String} {ret : Option FieldType} {hh : List (Nat × Nat × Nat × Nat)} {σ : ZS} {L : List (Option Value)} {st : List Value} (hC : Cx C E cc nL "RightTurns" nm ret hh d) (hd : decode cc pc = .ok (.getfield 332, 3)) (hk : kK n σ a = (1 + 7, x)) (k : zz C E n nL σ (pc + 3) L (pv E.1.heap.size (kP n σ a 5) :: st)) : zz C E n nL σ pc L (.ref (E.1.heap.size + a) :: st) :=
  z_get hC cf1 hd hk (k := 5) (by decide) (Or.inr ⟨_, q522⟩) (Or.inl rfl) rfl k
theorem g_X1_335_c1 {a x : Nat} {C : ZC} {E : ZE} {cc : ByteArray} {n nL pc d : Nat} {nm : String} {ret : Option FieldType} {hh : List (Nat × Nat × Nat × Nat)} {σ : ZS} {L : List (Option Value)} {st : List Value} (hC : Cx C E cc nL "RightTurns" nm ret hh d) (hd : decode cc pc = .ok (.getfield 335, 3)) (hk : kK n σ a = (1 + 7, x)) (k : zz C E n nL σ (pc + 3) L (pv E.1.heap.size (kP n σ a 6) :: st)) : zz C E n nL σ pc L (.ref (E.1.heap.size + a) :: st) :=
  z_get hC cf1 hd hk (k := 6) (by decide) (Or.inr ⟨_, q524⟩) (Or.inl rfl) rfl k
def VL_X1_findCandidates_4 (Ret : Int32 → ZS → Prop) : Nat → ZS → Int32 → Int32 → Int32 → Prop
  | 0 => fun _ _ _ _ => False
  | k + 1 => fun σ x1 x2 x3 =>
    let K4 := VL_X1_findCandidates_4 Ret k
    (zP σ 0 0) = some (.inl (zo (zP σ 0 0))) ∧ ((∃ n3, kK NS σ (zo (zP σ 0 0)) = (8, n3)) ∧ (((x3 < (zI σ (zo (zP σ 0 0)) 8) → (((x2 < 14 → ((zP σ 0 0) = some (.inl (zo (zP σ 0 0))) ∧ ((∃ n6, kK NS σ (zo (zP σ 0 0)) = (8, n6)) ∧ ((kP NS σ (zo (zP σ 0 0)) 5) = some (.inl (zo (kP NS σ (zo (zP σ 0 0)) 5))) ∧ (∃ n9, kK NS σ (zo (kP NS σ (zo (zP σ 0 0)) 5)) = (0, n9) ∧ (vp_in x3 n9 ∧ ((zP σ 0 0) = some (.inl (zo (zP σ 0 0))) ∧ ((∃ n13, kK NS σ (zo (zP σ 0 0)) = (8, n13)) ∧ ((kP NS σ (zo (zP σ 0 0)) 6) = some (.inl (zo (kP NS σ (zo (zP σ 0 0)) 6))) ∧ (∃ n16, kK NS σ (zo (kP NS σ (zo (zP σ 0 0)) 6)) = (0, n16) ∧ (vp_in x3 n16 ∧ (wp_X3_isAllowed σ 12 x1 (zI σ (zo (kP NS σ (zo (zP σ 0 0)) 5)) (ix x3)) (zI σ (zo (kP NS σ (zo (zP σ 0 0)) 6)) (ix x3)) (fun r18 σ19 => ((r18 = 0 → ((zP σ19 0 0) = some (.inl (zo (zP σ19 0 0))) ∧ ((∃ n23, kK NS σ19 (zo (zP σ19 0 0)) = (8, n23)) ∧ ((kP NS σ19 (zo (zP σ19 0 0)) 5) = some (.inl (zo (kP NS σ19 (zo (zP σ19 0 0)) 5))) ∧ (∃ n26, kK NS σ19 (zo (kP NS σ19 (zo (zP σ19 0 0)) 5)) = (0, n26) ∧ (vp_in x3 n26 ∧ ((zP σ19 0 0) = some (.inl (zo (zP σ19 0 0))) ∧ ((∃ n30, kK NS σ19 (zo (zP σ19 0 0)) = (8, n30)) ∧ ((kP NS σ19 (zo (zP σ19 0 0)) 6) = some (.inl (zo (kP NS σ19 (zo (zP σ19 0 0)) 6))) ∧ (∃ n33, kK NS σ19 (zo (kP NS σ19 (zo (zP σ19 0 0)) 6)) = (0, n33) ∧ (vp_in x3 n33 ∧ (wp_X3_isSigned σ19 12 x1 (zI σ19 (zo (kP NS σ19 (zo (zP σ19 0 0)) 5)) (ix x3)) (zI σ19 (zo (kP NS σ19 (zo (zP σ19 0 0)) 6)) (ix x3)) (fun r35 σ36 => ((r35 = 0 → (vp_in x2 14 ∧ (∀ σ38 : ZS, σ38 = sI σ36 26 (ix x2) x3 → (∀ y39 : Int32, y39 = x2 + 1 → (∀ y40 : Int32, y40 = x3 + 1 → (K4 σ38 x1 y39 y40)))))) ∧ (¬ r35 = 0 → (∀ y41 : Int32, y41 = x3 + 1 → (K4 σ36 x1 x2 y41))))))))))))))))) ∧ (¬ r18 = 0 → (∀ y20 : Int32, y20 = x3 + 1 → (K4 σ19 x1 x2 y20))))))))))))))))) ∧ (¬ x2 < 14 → (Ret x2 σ))))) ∧ (¬ x3 < (zI σ (zo (zP σ 0 0)) 8) → (Ret x2 σ)))))
def V_X1_findCandidates_4 (Ret : Int32 → ZS → Prop) (σ : ZS) (x1 : Int32) (x2 : Int32) (x3 : Int32) : Prop := ∃ k, VL_X1_findCandidates_4 Ret k σ x1 x2 x3
def wp_X1_findCandidates (σ : ZS) (a1 : Int32) (Ret : Int32 → ZS → Prop) : Prop :=
    V_X1_findCandidates_4 Ret σ a1 0 0
set_option maxHeartbeats 4000000 in
theorem mz_X1_findCandidates {l : Launch} {E : ZE} (hE : EOK E) {σ : ZS} {a1 : Int32} {Ret : Int32 → ZS → Prop} (hV : wp_X1_findCandidates σ a1 Ret) : MZ l E NS yX1_findCandidates (ws_ yX1_findCandidates cX1_findCandidates 4 (some .int)) 2 σ [.ref (E.1.heap.size + 0), .int a1] (rI Ret) := by
  refine MZ.start (L := [some (.ref (E.1.heap.size + 0)), some (.int a1), none, none]) hE (by decide) (Nat.le_of_ble_eq_true rfl) rfl fun C hCl hQo hC => ?_
  replace hC : Cx C E cX1_findCandidates 4 "RightTurns" "findCandidates" (some .int) [] 2 := hC
  unfold wp_X1_findCandidates at hV
  have j_4 : ∀ (σ : ZS) (x1 : Int32) (x2 : Int32) (x3 : Int32), V_X1_findCandidates_4 Ret σ x1 x2 x3 → zz C E NS 4 σ 4 [some (.ref (E.1.heap.size + 0)), some (.int x1), some (.int x2), some (.int x3)] [] := by
    intro σ x1 x2 x3 ⟨k, hV⟩
    revert σ x1 x2 x3
    induction k with
    | zero => exact fun _ _ _ _ hV => hV.elim
    | succ k j_4 =>
      intro σ x1 x2 x3 hV
      simp only [VL_X1_findCandidates_4] at hV
      generalize hKe4 : VL_X1_findCandidates_4 Ret k = K4 at hV j_4
      clear hKe4
      refine z_iload_n hC dX1_findCandidates_4 rfl rfl ?_
      refine z_aload_n hC dX1_findCandidates_5 rfl rfl ?_
      refine g_X1_12_0 hC dX1_findCandidates_6 ?_
      obtain ⟨h1, hV⟩ := hV
      refine zz_at rfl (by rw [pvo h1]) ?_
      obtain ⟨⟨n3, h2⟩, hV⟩ := hV
      refine g_X1_217_c1 hC dX1_findCandidates_9 h2 ?_
      refine z_icmp_ge (tgt := 98) hC dX1_findCandidates_12 (by decide) (fun hc => ?_) (fun hc => ?_)
      · replace hV := hV.2 hc
        refine z_iload_n hC dX1_findCandidates_98 rfl rfl ?_
        exact z_iret hC dX1_findCandidates_99 rfl (by rw [hQo]; exact ⟨_, rfl, hV⟩)
      · replace hV := hV.1 hc
        refine z_iload_n hC dX1_findCandidates_15 rfl rfl ?_
        refine z_bipush (v := 14) hC dX1_findCandidates_16 rfl ?_
        refine z_icmp_ge (tgt := 98) hC dX1_findCandidates_18 (by decide) (fun hc => ?_) (fun hc => ?_)
        · replace hV := hV.2 hc
          refine z_iload_n hC dX1_findCandidates_98 rfl rfl ?_
          exact z_iret hC dX1_findCandidates_99 rfl (by rw [hQo]; exact ⟨_, rfl, hV⟩)
        · replace hV := hV.1 hc
          refine z_aload_n hC dX1_findCandidates_21 rfl rfl ?_
          refine g_X1_19_0 hC dX1_findCandidates_22 ?_
          refine z_iload_n hC dX1_findCandidates_25 rfl rfl ?_
          refine z_aload_n hC dX1_findCandidates_26 rfl rfl ?_
          refine g_X1_12_0 hC dX1_findCandidates_27 ?_
          obtain ⟨h4, hV⟩ := hV
          refine zz_at rfl (by rw [pvo h4]) ?_
          obtain ⟨⟨n6, h5⟩, hV⟩ := hV
          refine g_X1_332_c1 hC dX1_findCandidates_30 h5 ?_
          obtain ⟨h7, hV⟩ := hV
          refine zz_at rfl (by rw [pvo h7]) ?_
          refine z_iload_n hC dX1_findCandidates_33 rfl rfl ?_
          obtain ⟨n9, h8, hV⟩ := hV
          obtain ⟨h10, hV⟩ := hV
          refine z_iald hC dX1_findCandidates_34 h8 (h10) ?_
          refine z_aload_n hC dX1_findCandidates_35 rfl rfl ?_
          refine g_X1_12_0 hC dX1_findCandidates_36 ?_
          obtain ⟨h11, hV⟩ := hV
          refine zz_at rfl (by rw [pvo h11]) ?_
          obtain ⟨⟨n13, h12⟩, hV⟩ := hV
          refine g_X1_335_c1 hC dX1_findCandidates_39 h12 ?_
          obtain ⟨h14, hV⟩ := hV
          refine zz_at rfl (by rw [pvo h14]) ?_
          refine z_iload_n hC dX1_findCandidates_42 rfl rfl ?_
          obtain ⟨n16, h15, hV⟩ := hV
          obtain ⟨h17, hV⟩ := hV
          refine z_iald hC dX1_findCandidates_43 h15 (h17) ?_
          refine c_X1_251 hC (by decide) dX1_findCandidates_44 (Nat.le_of_ble_eq_true rfl) (k_12 _) hV (fun r18 σ19 hV => ?_)
          refine z_if_ne (tgt := 92) hC dX1_findCandidates_47 (by decide) (fun hc => ?_) (fun hc => ?_)
          · replace hV := hV.2 hc
            obtain ⟨y20, e_y20⟩ : ∃ z : Int32, z = x3 + 1 := ⟨_, rfl⟩
            replace hV := hV _ e_y20
            refine z_iinc (v := y20) hC dX1_findCandidates_92 rfl (by rw [e_y20]; rfl) (Nat.le_of_ble_eq_true rfl) rfl rfl ?_
            refine z_goto (tgt := 4) hC dX1_findCandidates_95 (by decide) ?_
            refine zz_sub (L' := [some (.ref (E.1.heap.size + 0)), some (.int x1), some (.int x2), some (.int y20)]) ⟨rfl, rfl, rfl, rfl, trivial⟩ ?_
            exact j_4 σ19 x1 x2 y20 hV
          · replace hV := hV.1 hc
            refine z_aload_n hC dX1_findCandidates_50 rfl rfl ?_
            refine g_X1_19_0 hC dX1_findCandidates_51 ?_
            refine z_iload_n hC dX1_findCandidates_54 rfl rfl ?_
            refine z_aload_n hC dX1_findCandidates_55 rfl rfl ?_
            refine g_X1_12_0 hC dX1_findCandidates_56 ?_
            obtain ⟨h21, hV⟩ := hV
            refine zz_at rfl (by rw [pvo h21]) ?_
            obtain ⟨⟨n23, h22⟩, hV⟩ := hV
            refine g_X1_332_c1 hC dX1_findCandidates_59 h22 ?_
            obtain ⟨h24, hV⟩ := hV
            refine zz_at rfl (by rw [pvo h24]) ?_
            refine z_iload_n hC dX1_findCandidates_62 rfl rfl ?_
            obtain ⟨n26, h25, hV⟩ := hV
            obtain ⟨h27, hV⟩ := hV
            refine z_iald hC dX1_findCandidates_63 h25 (h27) ?_
            refine z_aload_n hC dX1_findCandidates_64 rfl rfl ?_
            refine g_X1_12_0 hC dX1_findCandidates_65 ?_
            obtain ⟨h28, hV⟩ := hV
            refine zz_at rfl (by rw [pvo h28]) ?_
            obtain ⟨⟨n30, h29⟩, hV⟩ := hV
            refine g_X1_335_c1 hC dX1_findCandidates_68 h29 ?_
            obtain ⟨h31, hV⟩ := hV
            refine zz_at rfl (by rw [pvo h31]) ?_
            refine z_iload_n hC dX1_findCandidates_71 rfl rfl ?_
            obtain ⟨n33, h32, hV⟩ := hV
            obtain ⟨h34, hV⟩ := hV
            refine z_iald hC dX1_findCandidates_72 h32 (h34) ?_
            refine c_X1_247 hC (by decide) dX1_findCandidates_73 (Nat.le_of_ble_eq_true rfl) (k_12 _) hV (fun r35 σ36 hV => ?_)
            refine z_if_eq (tgt := 82) hC dX1_findCandidates_76 (by decide) (fun hc => ?_) (fun hc => ?_)
            · replace hV := hV.1 hc
              refine z_aload_n hC dX1_findCandidates_82 rfl rfl ?_
              refine g_X1_62_0 hC dX1_findCandidates_83 ?_
              refine z_iload_n hC dX1_findCandidates_86 rfl rfl ?_
              refine z_iload_n hC dX1_findCandidates_87 rfl rfl ?_
              obtain ⟨h37, hV⟩ := hV
              refine z_iast hC dX1_findCandidates_88 (k_26 _) (h37) ?_
              obtain ⟨σ38, e_σ38⟩ : ∃ z : ZS, z = sI σ36 26 (ix x2) x3 := ⟨_, rfl⟩
              replace hV := hV _ e_σ38
              rw [← e_σ38]
              obtain ⟨y39, e_y39⟩ : ∃ z : Int32, z = x2 + 1 := ⟨_, rfl⟩
              replace hV := hV _ e_y39
              refine z_iinc (v := y39) hC dX1_findCandidates_89 rfl (by rw [e_y39]; rfl) (Nat.le_of_ble_eq_true rfl) rfl rfl ?_
              obtain ⟨y40, e_y40⟩ : ∃ z : Int32, z = x3 + 1 := ⟨_, rfl⟩
              replace hV := hV _ e_y40
              refine z_iinc (v := y40) hC dX1_findCandidates_92 rfl (by rw [e_y40]; rfl) (Nat.le_of_ble_eq_true rfl) rfl rfl ?_
              refine z_goto (tgt := 4) hC dX1_findCandidates_95 (by decide) ?_
              refine zz_sub (L' := [some (.ref (E.1.heap.size + 0)), some (.int x1), some (.int y39), some (.int y40)]) ⟨rfl, rfl, rfl, rfl, trivial⟩ ?_
              exact j_4 σ38 x1 y39 y40 hV
            · replace hV := hV.2 hc
              refine z_goto (tgt := 92) hC dX1_findCandidates_79 (by decide) ?_
              obtain ⟨y41, e_y41⟩ : ∃ z : Int32, z = x3 + 1 := ⟨_, rfl⟩
              replace hV := hV _ e_y41
              refine z_iinc (v := y41) hC dX1_findCandidates_92 rfl (by rw [e_y41]; rfl) (Nat.le_of_ble_eq_true rfl) rfl rfl ?_
              refine z_goto (tgt := 4) hC dX1_findCandidates_95 (by decide) ?_
              refine zz_sub (L' := [some (.ref (E.1.heap.size + 0)), some (.int x1), some (.int x2), some (.int y41)]) ⟨rfl, rfl, rfl, rfl, trivial⟩ ?_
              exact j_4 σ36 x1 x2 y41 hV
  refine z_iconst (v := 0) hC dX1_findCandidates_0 rfl ?_
  refine z_istore_n hC dX1_findCandidates_1 rfl (Nat.le_of_ble_eq_true rfl) rfl rfl ?_
  refine z_iconst (v := 0) hC dX1_findCandidates_2 rfl ?_
  refine z_istore_n hC dX1_findCandidates_3 rfl (Nat.le_of_ble_eq_true rfl) rfl rfl ?_
  refine zz_sub (L' := [some (.ref (E.1.heap.size + 0)), some (.int a1), some (.int 0), some (.int 0)]) ⟨rfl, rfl, rfl, rfl, trivial⟩ ?_
  exact j_4 σ a1 0 0 hV
theorem g_X1_138_c1 {a x : Nat} {C : ZC} {E : ZE} {cc : ByteArray} {n nL pc d : Nat} {nm : String} {ret : Option FieldType} {hh : List (Nat × Nat × Nat × Nat)} {σ : ZS} {L : List (Option Value)} {st : List Value} (hC : Cx C E cc nL "RightTurns" nm ret hh d) (hd : decode cc pc = .ok (.getfield 138, 3)) (hk : kK n σ a = (1 + 7, x)) (k : zz C E n nL σ (pc + 3) L (pv E.1.heap.size (kP n σ a 1) :: st)) : zz C E n nL σ pc L (.ref (E.1.heap.size + a) :: st) :=
  z_get hC cf1 hd hk (k := 1) (by decide) (Or.inr ⟨_, q510⟩) (Or.inl rfl) rfl k
theorem g_X1_230_c7 {a x : Nat} {C : ZC} {E : ZE} {cc : ByteArray} {n nL pc d : Nat} {nm : String} {ret : Option FieldType} {hh : List (Nat × Nat × Nat × Nat)} {σ : ZS} {L : List (Option Value)} {st : List Value} (hC : Cx C E cc nL "RightTurns" nm ret hh d) (hd : decode cc pc = .ok (.getfield 230, 3)) (hk : kK n σ a = (7 + 7, x)) (k : zz C E n nL σ (pc + 3) L (.int (zI σ a 2) :: st)) : zz C E n nL σ pc L (.ref (E.1.heap.size + a) :: st) :=
  z_get hC cf7 hd hk (k := 2) (by decide) (Or.inr ⟨_, q1054⟩) (Or.inl rfl) rfl k
theorem c_X1_144 {C : ZC} {E : ZE} {cc : ByteArray} {nL pc d : Nat} {nm : String} {ret : Option FieldType} {hh : List (Nat × Nat × Nat × Nat)} {σ : ZS} {L : List (Option Value)} {st : List Value} {a0 : Nat} {a1 : Int32} {Ret : ZR → ZS → Prop} (hC : Cx C E cc nL "RightTurns" nm ret hh d) (hdd : 3 + 1 ≤ d) (hd : decode cc pc = .ok (.invokevirtual 144, 3)) (hW : (st.map fun v => v.category).sum ≤ 8) {x : Nat} (hk : kK NS σ a0 = (9 + 7, x)) (hV : wp_J2_get σ a0 a1 Ret) (k : ∀ r σ', Ret r σ' → zz C E NS nL σ' (pc + 3) L (pv E.1.heap.size r :: st)) : zz C E NS nL σ pc L (.int a1 :: .ref (E.1.heap.size + a0) :: st) :=
  z_callVG hC cf9 cw_J2_get hdd (by decide) (mz_J2_get (cxE hC) hV) hd hk q1171 q955 q956 (np := 1) rfl rfl hW rfl (kR k)
def wp_X1_costOf (σ : ZS) (a1 : Int32) (Ret : Int32 → ZS → Prop) : Prop :=
    (zP σ 0 0) = some (.inl (zo (zP σ 0 0))) ∧ ((∃ n3, kK NS σ (zo (zP σ 0 0)) = (8, n3)) ∧ ((kP NS σ (zo (zP σ 0 0)) 1) = some (.inl (zo (kP NS σ (zo (zP σ 0 0)) 1))) ∧ ((zP σ 0 0) = some (.inl (zo (zP σ 0 0))) ∧ ((∃ n7, kK NS σ (zo (zP σ 0 0)) = (8, n7)) ∧ ((kP NS σ (zo (zP σ 0 0)) 5) = some (.inl (zo (kP NS σ (zo (zP σ 0 0)) 5))) ∧ (∃ n10, kK NS σ (zo (kP NS σ (zo (zP σ 0 0)) 5)) = (0, n10) ∧ (vp_in a1 n10 ∧ ((∃ n15, kK NS σ (zo (kP NS σ (zo (zP σ 0 0)) 1)) = (16, n15)) ∧ (wp_J2_get σ (zo (kP NS σ (zo (zP σ 0 0)) 1)) (zI σ (zo (kP NS σ (zo (zP σ 0 0)) 5)) (ix a1)) (fun r12 σ13 => r12 = some (.inl (zo r12)) ∧ ((∃ n18, kK NS σ13 (zo r12) = (14, n18)) ∧ ((∃ n20, kK NS σ13 (zo r12) = (14, n20)) ∧ ((zP σ13 0 0) = some (.inl (zo (zP σ13 0 0))) ∧ ((∃ n23, kK NS σ13 (zo (zP σ13 0 0)) = (8, n23)) ∧ ((kP NS σ13 (zo (zP σ13 0 0)) 1) = some (.inl (zo (kP NS σ13 (zo (zP σ13 0 0)) 1))) ∧ ((zP σ13 0 0) = some (.inl (zo (zP σ13 0 0))) ∧ ((∃ n27, kK NS σ13 (zo (zP σ13 0 0)) = (8, n27)) ∧ ((kP NS σ13 (zo (zP σ13 0 0)) 6) = some (.inl (zo (kP NS σ13 (zo (zP σ13 0 0)) 6))) ∧ (∃ n30, kK NS σ13 (zo (kP NS σ13 (zo (zP σ13 0 0)) 6)) = (0, n30) ∧ (vp_in a1 n30 ∧ ((∃ n35, kK NS σ13 (zo (kP NS σ13 (zo (zP σ13 0 0)) 1)) = (16, n35)) ∧ (wp_J2_get σ13 (zo (kP NS σ13 (zo (zP σ13 0 0)) 1)) (zI σ13 (zo (kP NS σ13 (zo (zP σ13 0 0)) 6)) (ix a1)) (fun r32 σ33 => r32 = some (.inl (zo r32)) ∧ ((∃ n38, kK NS σ33 (zo r32) = (14, n38)) ∧ ((∃ n40, kK NS σ33 (zo r32) = (14, n40)) ∧ (Ret (1 + (((zI σ13 (zo r12) 2) + (zI σ33 (zo r32) 2)) / 10)) σ33))))))))))))))))))))))))))
set_option maxHeartbeats 4000000 in
theorem mz_X1_costOf {l : Launch} {E : ZE} (hE : EOK E) {σ : ZS} {a1 : Int32} {Ret : Int32 → ZS → Prop} (hV : wp_X1_costOf σ a1 Ret) : MZ l E NS yX1_costOf (ws_ yX1_costOf cX1_costOf 2 (some .int)) 4 σ [.ref (E.1.heap.size + 0), .int a1] (rI Ret) := by
  refine MZ.start (L := [some (.ref (E.1.heap.size + 0)), some (.int a1)]) hE (by decide) (Nat.le_of_ble_eq_true rfl) rfl fun C hCl hQo hC => ?_
  replace hC : Cx C E cX1_costOf 2 "RightTurns" "costOf" (some .int) [] 4 := hC
  unfold wp_X1_costOf at hV
  refine z_iconst (v := 1) hC dX1_costOf_0 rfl ?_
  refine z_aload_n hC dX1_costOf_1 rfl rfl ?_
  refine g_X1_12_0 hC dX1_costOf_2 ?_
  obtain ⟨h1, hV⟩ := hV
  refine zz_at rfl (by rw [pvo h1]) ?_
  obtain ⟨⟨n3, h2⟩, hV⟩ := hV
  refine g_X1_138_c1 hC dX1_costOf_5 h2 ?_
  obtain ⟨h4, hV⟩ := hV
  refine zz_at rfl (by rw [pvo h4]) ?_
  refine z_aload_n hC dX1_costOf_8 rfl rfl ?_
  refine g_X1_12_0 hC dX1_costOf_9 ?_
  obtain ⟨h5, hV⟩ := hV
  refine zz_at rfl (by rw [pvo h5]) ?_
  obtain ⟨⟨n7, h6⟩, hV⟩ := hV
  refine g_X1_332_c1 hC dX1_costOf_12 h6 ?_
  obtain ⟨h8, hV⟩ := hV
  refine zz_at rfl (by rw [pvo h8]) ?_
  refine z_iload_n hC dX1_costOf_15 rfl rfl ?_
  obtain ⟨n10, h9, hV⟩ := hV
  obtain ⟨h11, hV⟩ := hV
  refine z_iald hC dX1_costOf_16 h9 (h11) ?_
  obtain ⟨⟨n15, h14⟩, hV⟩ := hV
  refine c_X1_144 hC (by decide) dX1_costOf_17 (Nat.le_of_ble_eq_true rfl) h14 hV (fun r12 σ13 hV => ?_)
  obtain ⟨h16, hV⟩ := hV
  refine zz_at rfl (by rw [pvo h16]) ?_
  obtain ⟨⟨n18, h17⟩, hV⟩ := hV
  refine z_cast hC cf7 dX1_costOf_20 h17 q1172 ?_
  obtain ⟨⟨n20, h19⟩, hV⟩ := hV
  refine g_X1_230_c7 hC dX1_costOf_23 h19 ?_
  refine z_aload_n hC dX1_costOf_26 rfl rfl ?_
  refine g_X1_12_0 hC dX1_costOf_27 ?_
  obtain ⟨h21, hV⟩ := hV
  refine zz_at rfl (by rw [pvo h21]) ?_
  obtain ⟨⟨n23, h22⟩, hV⟩ := hV
  refine g_X1_138_c1 hC dX1_costOf_30 h22 ?_
  obtain ⟨h24, hV⟩ := hV
  refine zz_at rfl (by rw [pvo h24]) ?_
  refine z_aload_n hC dX1_costOf_33 rfl rfl ?_
  refine g_X1_12_0 hC dX1_costOf_34 ?_
  obtain ⟨h25, hV⟩ := hV
  refine zz_at rfl (by rw [pvo h25]) ?_
  obtain ⟨⟨n27, h26⟩, hV⟩ := hV
  refine g_X1_335_c1 hC dX1_costOf_37 h26 ?_
  obtain ⟨h28, hV⟩ := hV
  refine zz_at rfl (by rw [pvo h28]) ?_
  refine z_iload_n hC dX1_costOf_40 rfl rfl ?_
  obtain ⟨n30, h29, hV⟩ := hV
  obtain ⟨h31, hV⟩ := hV
  refine z_iald hC dX1_costOf_41 h29 (h31) ?_
  obtain ⟨⟨n35, h34⟩, hV⟩ := hV
  refine c_X1_144 hC (by decide) dX1_costOf_42 (Nat.le_of_ble_eq_true rfl) h34 hV (fun r32 σ33 hV => ?_)
  obtain ⟨h36, hV⟩ := hV
  refine zz_at rfl (by rw [pvo h36]) ?_
  obtain ⟨⟨n38, h37⟩, hV⟩ := hV
  refine z_cast hC cf7 dX1_costOf_45 h37 q1172 ?_
  obtain ⟨⟨n40, h39⟩, hV⟩ := hV
  refine g_X1_230_c7 hC dX1_costOf_48 h39 ?_
  refine z_iadd hC dX1_costOf_51 ?_
  refine z_bipush (v := 10) hC dX1_costOf_52 rfl ?_
  refine z_idiv hC dX1_costOf_54 (by decide) ?_
  refine z_iadd hC dX1_costOf_55 ?_
  exact z_iret hC dX1_costOf_56 rfl (by rw [hQo]; exact ⟨_, rfl, hV⟩)
theorem g_X1_48_0 {C : ZC} {E : ZE} {cc : ByteArray} {nL pc d : Nat} {nm : String} {ret : Option FieldType} {hh : List (Nat × Nat × Nat × Nat)} {σ : ZS} {L : List (Option Value)} {st : List Value} (hC : Cx C E cc nL "RightTurns" nm ret hh d) (hd : decode cc pc = .ok (.getfield 48, 3)) (k : zz C E NS nL σ (pc + 3) L (.ref (E.1.heap.size + 22) :: st)) : zz C E NS nL σ pc L (.ref (E.1.heap.size + 0) :: st) :=
  z_get hC cf0 hd (k_0 σ) (k := 12) (by decide) (Or.inl q593) (Or.inl rfl) rfl k
theorem g_X1_52_0 {C : ZC} {E : ZE} {cc : ByteArray} {nL pc d : Nat} {nm : String} {ret : Option FieldType} {hh : List (Nat × Nat × Nat × Nat)} {σ : ZS} {L : List (Option Value)} {st : List Value} (hC : Cx C E cc nL "RightTurns" nm ret hh d) (hd : decode cc pc = .ok (.getfield 52, 3)) (k : zz C E NS nL σ (pc + 3) L (.ref (E.1.heap.size + 23) :: st)) : zz C E NS nL σ pc L (.ref (E.1.heap.size + 0) :: st) :=
  z_get hC cf0 hd (k_0 σ) (k := 13) (by decide) (Or.inl q594) (Or.inl rfl) rfl k
def VL_X1_goesOn_14 (K5 : ZS → Int32 → Int32 → Int32 → Prop) (Ret : ZS → Prop) : Nat → ZS → Int32 → Int32 → Int32 → Int32 → Prop
  | 0 => fun _ _ _ _ _ => False
  | k + 1 => fun σ x2 x3 x4 x5 =>
    let K14 := VL_X1_goesOn_14 K5 Ret k
    (zP σ 0 0) = some (.inl (zo (zP σ 0 0))) ∧ ((∃ n5, kK NS σ (zo (zP σ 0 0)) = (8, n5)) ∧ (wp_X2_arcs σ (zo (zP σ 0 0)) (fun r2 σ3 => ((x5 < r2 → (vp_in x5 48 ∧ ((((zI σ3 22 (ix x5)) = 0 → ((zP σ3 0 0) = some (.inl (zo (zP σ3 0 0))) ∧ ((∃ n13, kK NS σ3 (zo (zP σ3 0 0)) = (8, n13)) ∧ (wp_X2_isArc σ3 (zo (zP σ3 0 0)) x5 (fun r10 σ11 => ((r10 = 0 → (∀ y14 : Int32, y14 = x5 + 1 → (K14 σ11 x2 x3 x4 y14))) ∧ (¬ r10 = 0 → (vp_in x4 48 ∧ (wp_X1_mayRide σ11 (zI σ11 23 (ix x4)) x5 x2 (fun r16 σ17 => ((r16 = 0 → (∀ y24 : Int32, y24 = x5 + 1 → (K14 σ17 x2 x3 x4 y24))) ∧ (¬ r16 = 0 → (vp_in x5 48 ∧ (∀ σ19 : ZS, σ19 = sI σ17 22 (ix x5) (vp_nar .boolean 1) → (vp_in x3 48 ∧ (∀ σ21 : ZS, σ21 = sI σ19 23 (ix x3) x5 → (∀ y22 : Int32, y22 = x3 + 1 → (∀ y23 : Int32, y23 = x5 + 1 → (K14 σ21 x2 y22 x4 y23))))))))))))))))))) ∧ (¬ (zI σ3 22 (ix x5)) = 0 → (∀ y8 : Int32, y8 = x5 + 1 → (K14 σ3 x2 x3 x4 y8))))))) ∧ (¬ x5 < r2 → (∀ y6 : Int32, y6 = x4 + 1 → (K5 σ3 x2 x3 y6)))))))
def V_X1_goesOn_14 (K5 : ZS → Int32 → Int32 → Int32 → Prop) (Ret : ZS → Prop) (σ : ZS) (x2 : Int32) (x3 : Int32) (x4 : Int32) (x5 : Int32) : Prop := ∃ k, VL_X1_goesOn_14 K5 Ret k σ x2 x3 x4 x5
def VL_X1_goesOn_5 (Ret : ZS → Prop) : Nat → ZS → Int32 → Int32 → Int32 → Prop
  | 0 => fun _ _ _ _ => False
  | k + 1 => fun σ x2 x3 x4 =>
    let K5 := VL_X1_goesOn_5 Ret k
    ((x4 < x3 → (V_X1_goesOn_14 K5 Ret σ x2 x3 x4 0)) ∧ (¬ x4 < x3 → (Ret σ)))
def V_X1_goesOn_5 (Ret : ZS → Prop) (σ : ZS) (x2 : Int32) (x3 : Int32) (x4 : Int32) : Prop := ∃ k, VL_X1_goesOn_5 Ret k σ x2 x3 x4
def wp_X1_goesOn (σ : ZS) (a1 : Int32) (a2 : Int32) (Ret : ZS → Prop) : Prop :=
    V_X1_goesOn_5 Ret σ a2 a1 0
set_option maxHeartbeats 4000000 in
theorem mz_X1_goesOn {l : Launch} {E : ZE} (hE : EOK E) {σ : ZS} {a1 : Int32} {a2 : Int32} {Ret : ZS → Prop} (hV : wp_X1_goesOn σ a1 a2 Ret) : MZ l E NS yX1_goesOn (ws_ yX1_goesOn cX1_goesOn 6 none) 8 σ [.ref (E.1.heap.size + 0), .int a1, .int a2] (rV Ret) := by
  refine MZ.start (L := [some (.ref (E.1.heap.size + 0)), some (.int a1), some (.int a2), none, none, none]) hE (by decide) (Nat.le_of_ble_eq_true rfl) rfl fun C hCl hQo hC => ?_
  replace hC : Cx C E cX1_goesOn 6 "RightTurns" "goesOn" none [] 8 := hC
  unfold wp_X1_goesOn at hV
  have j_5 : ∀ (σ : ZS) (x2 : Int32) (x3 : Int32) (x4 : Int32), V_X1_goesOn_5 Ret σ x2 x3 x4 → zz C E NS 6 σ 5 [some (.ref (E.1.heap.size + 0)), none, some (.int x2), some (.int x3), some (.int x4), none] [] := by
    intro σ x2 x3 x4 ⟨k, hV⟩
    revert σ x2 x3 x4
    induction k with
    | zero => exact fun _ _ _ _ hV => hV.elim
    | succ k j_5 =>
      intro σ x2 x3 x4 hV
      simp only [VL_X1_goesOn_5] at hV
      generalize hKe5 : VL_X1_goesOn_5 Ret k = K5 at hV j_5
      clear hKe5
      have j_14 : ∀ (σ : ZS) (x2 : Int32) (x3 : Int32) (x4 : Int32) (x5 : Int32), V_X1_goesOn_14 K5 Ret σ x2 x3 x4 x5 → zz C E NS 6 σ 14 [some (.ref (E.1.heap.size + 0)), none, some (.int x2), some (.int x3), some (.int x4), some (.int x5)] [] := by
        intro σ x2 x3 x4 x5 ⟨k, hV⟩
        revert σ x2 x3 x4 x5
        induction k with
        | zero => exact fun _ _ _ _ _ hV => hV.elim
        | succ k j_14 =>
          intro σ x2 x3 x4 x5 hV
          simp only [VL_X1_goesOn_14] at hV
          generalize hKe14 : VL_X1_goesOn_14 K5 Ret k = K14 at hV j_14
          clear hKe14
          refine z_iload hC dX1_goesOn_14 rfl ?_
          refine z_aload_n hC dX1_goesOn_16 rfl rfl ?_
          refine g_X1_12_0 hC dX1_goesOn_17 ?_
          obtain ⟨h1, hV⟩ := hV
          refine zz_at rfl (by rw [pvo h1]) ?_
          obtain ⟨⟨n5, h4⟩, hV⟩ := hV
          refine c_X1_271 hC (by decide) dX1_goesOn_20 (Nat.le_of_ble_eq_true rfl) h4 hV (fun r2 σ3 hV => ?_)
          refine z_icmp_ge (tgt := 93) hC dX1_goesOn_23 (by decide) (fun hc => ?_) (fun hc => ?_)
          · replace hV := hV.2 hc
            obtain ⟨y6, e_y6⟩ : ∃ z : Int32, z = x4 + 1 := ⟨_, rfl⟩
            replace hV := hV _ e_y6
            refine z_iinc (v := y6) hC dX1_goesOn_93 rfl (by rw [e_y6]; rfl) (Nat.le_of_ble_eq_true rfl) rfl rfl ?_
            refine z_goto (tgt := 5) hC dX1_goesOn_96 (by decide) ?_
            refine zz_sub (L' := [some (.ref (E.1.heap.size + 0)), none, some (.int x2), some (.int x3), some (.int y6), none]) ⟨rfl, rfl, rfl, rfl, trivial⟩ ?_
            exact j_5 σ3 x2 x3 y6 hV
          · replace hV := hV.1 hc
            refine z_aload_n hC dX1_goesOn_26 rfl rfl ?_
            refine g_X1_48_0 hC dX1_goesOn_27 ?_
            refine z_iload hC dX1_goesOn_30 rfl ?_
            obtain ⟨h7, hV⟩ := hV
            refine z_zald hC dX1_goesOn_32 (k_22 _) (h7) ?_
            refine z_if_ne (tgt := 87) hC dX1_goesOn_33 (by decide) (fun hc => ?_) (fun hc => ?_)
            · replace hV := hV.2 hc
              obtain ⟨y8, e_y8⟩ : ∃ z : Int32, z = x5 + 1 := ⟨_, rfl⟩
              replace hV := hV _ e_y8
              refine z_iinc (v := y8) hC dX1_goesOn_87 rfl (by rw [e_y8]; rfl) (Nat.le_of_ble_eq_true rfl) rfl rfl ?_
              refine z_goto (tgt := 14) hC dX1_goesOn_90 (by decide) ?_
              refine zz_sub (L' := [some (.ref (E.1.heap.size + 0)), none, some (.int x2), some (.int x3), some (.int x4), some (.int y8)]) ⟨rfl, rfl, rfl, rfl, rfl, trivial⟩ ?_
              exact j_14 σ3 x2 x3 x4 y8 hV
            · replace hV := hV.1 hc
              refine z_aload_n hC dX1_goesOn_36 rfl rfl ?_
              refine g_X1_12_0 hC dX1_goesOn_37 ?_
              obtain ⟨h9, hV⟩ := hV
              refine zz_at rfl (by rw [pvo h9]) ?_
              refine z_iload hC dX1_goesOn_40 rfl ?_
              obtain ⟨⟨n13, h12⟩, hV⟩ := hV
              refine c_X1_150 hC (by decide) dX1_goesOn_42 (Nat.le_of_ble_eq_true rfl) h12 hV (fun r10 σ11 hV => ?_)
              refine z_if_eq (tgt := 87) hC dX1_goesOn_45 (by decide) (fun hc => ?_) (fun hc => ?_)
              · replace hV := hV.1 hc
                obtain ⟨y14, e_y14⟩ : ∃ z : Int32, z = x5 + 1 := ⟨_, rfl⟩
                replace hV := hV _ e_y14
                refine z_iinc (v := y14) hC dX1_goesOn_87 rfl (by rw [e_y14]; rfl) (Nat.le_of_ble_eq_true rfl) rfl rfl ?_
                refine z_goto (tgt := 14) hC dX1_goesOn_90 (by decide) ?_
                refine zz_sub (L' := [some (.ref (E.1.heap.size + 0)), none, some (.int x2), some (.int x3), some (.int x4), some (.int y14)]) ⟨rfl, rfl, rfl, rfl, rfl, trivial⟩ ?_
                exact j_14 σ11 x2 x3 x4 y14 hV
              · replace hV := hV.2 hc
                refine z_aload_n hC dX1_goesOn_48 rfl rfl ?_
                refine z_aload_n hC dX1_goesOn_49 rfl rfl ?_
                refine g_X1_52_0 hC dX1_goesOn_50 ?_
                refine z_iload hC dX1_goesOn_53 rfl ?_
                obtain ⟨h15, hV⟩ := hV
                refine z_iald hC dX1_goesOn_55 (k_23 _) (h15) ?_
                refine z_iload hC dX1_goesOn_56 rfl ?_
                refine z_iload_n hC dX1_goesOn_58 rfl rfl ?_
                refine c_X1_257 hC (by decide) dX1_goesOn_59 (Nat.le_of_ble_eq_true rfl) hV (fun r16 σ17 hV => ?_)
                refine z_if_ne (tgt := 68) hC dX1_goesOn_62 (by decide) (fun hc => ?_) (fun hc => ?_)
                · replace hV := hV.2 hc
                  refine z_aload_n hC dX1_goesOn_68 rfl rfl ?_
                  refine g_X1_48_0 hC dX1_goesOn_69 ?_
                  refine z_iload hC dX1_goesOn_72 rfl ?_
                  refine z_iconst (v := 1) hC dX1_goesOn_74 rfl ?_
                  obtain ⟨h18, hV⟩ := hV
                  refine z_zast hC dX1_goesOn_75 (k_22 _) (h18) ?_
                  obtain ⟨σ19, e_σ19⟩ : ∃ z : ZS, z = sI σ17 22 (ix x5) (vp_nar .boolean 1) := ⟨_, rfl⟩
                  replace hV := hV _ e_σ19
                  rw [← e_σ19]
                  refine z_aload_n hC dX1_goesOn_76 rfl rfl ?_
                  refine g_X1_52_0 hC dX1_goesOn_77 ?_
                  refine z_iload_n hC dX1_goesOn_80 rfl rfl ?_
                  refine z_iload hC dX1_goesOn_81 rfl ?_
                  obtain ⟨h20, hV⟩ := hV
                  refine z_iast hC dX1_goesOn_83 (k_23 _) (h20) ?_
                  obtain ⟨σ21, e_σ21⟩ : ∃ z : ZS, z = sI σ19 23 (ix x3) x5 := ⟨_, rfl⟩
                  replace hV := hV _ e_σ21
                  rw [← e_σ21]
                  obtain ⟨y22, e_y22⟩ : ∃ z : Int32, z = x3 + 1 := ⟨_, rfl⟩
                  replace hV := hV _ e_y22
                  refine z_iinc (v := y22) hC dX1_goesOn_84 rfl (by rw [e_y22]; rfl) (Nat.le_of_ble_eq_true rfl) rfl rfl ?_
                  obtain ⟨y23, e_y23⟩ : ∃ z : Int32, z = x5 + 1 := ⟨_, rfl⟩
                  replace hV := hV _ e_y23
                  refine z_iinc (v := y23) hC dX1_goesOn_87 rfl (by rw [e_y23]; rfl) (Nat.le_of_ble_eq_true rfl) rfl rfl ?_
                  refine z_goto (tgt := 14) hC dX1_goesOn_90 (by decide) ?_
                  refine zz_sub (L' := [some (.ref (E.1.heap.size + 0)), none, some (.int x2), some (.int y22), some (.int x4), some (.int y23)]) ⟨rfl, rfl, rfl, rfl, rfl, trivial⟩ ?_
                  exact j_14 σ21 x2 y22 x4 y23 hV
                · replace hV := hV.1 hc
                  refine z_goto (tgt := 87) hC dX1_goesOn_65 (by decide) ?_
                  obtain ⟨y24, e_y24⟩ : ∃ z : Int32, z = x5 + 1 := ⟨_, rfl⟩
                  replace hV := hV _ e_y24
                  refine z_iinc (v := y24) hC dX1_goesOn_87 rfl (by rw [e_y24]; rfl) (Nat.le_of_ble_eq_true rfl) rfl rfl ?_
                  refine z_goto (tgt := 14) hC dX1_goesOn_90 (by decide) ?_
                  refine zz_sub (L' := [some (.ref (E.1.heap.size + 0)), none, some (.int x2), some (.int x3), some (.int x4), some (.int y24)]) ⟨rfl, rfl, rfl, rfl, rfl, trivial⟩ ?_
                  exact j_14 σ17 x2 x3 x4 y24 hV
      refine z_iload hC dX1_goesOn_5 rfl ?_
      refine z_iload_n hC dX1_goesOn_7 rfl rfl ?_
      refine z_icmp_ge (tgt := 99) hC dX1_goesOn_8 (by decide) (fun hc => ?_) (fun hc => ?_)
      · replace hV := hV.2 hc
        exact z_vret hC dX1_goesOn_99 (by rw [hQo]; exact ⟨rfl, hV⟩)
      · replace hV := hV.1 hc
        refine z_iconst (v := 0) hC dX1_goesOn_11 rfl ?_
        refine z_istore hC dX1_goesOn_12 (Nat.le_of_ble_eq_true rfl) rfl rfl ?_
        refine zz_sub (L' := [some (.ref (E.1.heap.size + 0)), none, some (.int x2), some (.int x3), some (.int x4), some (.int 0)]) ⟨rfl, rfl, rfl, rfl, rfl, trivial⟩ ?_
        exact j_14 σ x2 x3 x4 0 hV
  refine z_iload_n hC dX1_goesOn_0 rfl rfl ?_
  refine z_istore_n hC dX1_goesOn_1 rfl (Nat.le_of_ble_eq_true rfl) rfl rfl ?_
  refine z_iconst (v := 0) hC dX1_goesOn_2 rfl ?_
  refine z_istore hC dX1_goesOn_3 (Nat.le_of_ble_eq_true rfl) rfl rfl ?_
  refine zz_sub (L' := [some (.ref (E.1.heap.size + 0)), none, some (.int a2), some (.int a1), some (.int 0), none]) ⟨rfl, rfl, rfl, rfl, trivial⟩ ?_
  exact j_5 σ a2 a1 0 hV
theorem cw_X1_goesOn : CodeW yX1_goesOn (ws_ yX1_goesOn cX1_goesOn 6 none) 6 := ⟨fun w h => (List.mem_cons.mp h).elim (fun e => e ▸ q1341) id, Or.inl ⟨_, _, q1341⟩, q116, by decide, by decide⟩
theorem c_X1_308 {C : ZC} {E : ZE} {cc : ByteArray} {nL pc d : Nat} {nm : String} {ret : Option FieldType} {hh : List (Nat × Nat × Nat × Nat)} {σ : ZS} {L : List (Option Value)} {st : List Value} {a1 : Int32} {a2 : Int32} {Ret : ZS → Prop} (hC : Cx C E cc nL "RightTurns" nm ret hh d) (hdd : 8 + 1 ≤ d) (hd : decode cc pc = .ok (.invokevirtual 308, 3)) (hW : (st.map fun v => v.category).sum ≤ 8) (hV : wp_X1_goesOn σ a1 a2 Ret) (k : ∀ σ', Ret σ' → zz C E NS nL σ' (pc + 3) L st) : zz C E NS nL σ pc L (.int a2 :: .int a1 :: .ref (E.1.heap.size + 0) :: st) :=
  z_callVG hC cf0 cw_X1_goesOn hdd (by decide) (mz_X1_goesOn (cxE hC) hV) hd (k_0 σ) q1338 q1340 qs27 (np := 2) rfl rfl hW rfl (kV k)
def VL_X1_reached_98 (Ret : Int32 → ZS → Prop) : Nat → ZS → Int32 → Int32 → Prop
  | 0 => fun _ _ _ => False
  | k + 1 => fun σ x4 x5 =>
    let K98 := VL_X1_reached_98 Ret k
    (zP σ 0 0) = some (.inl (zo (zP σ 0 0))) ∧ ((∃ n13, kK NS σ (zo (zP σ 0 0)) = (8, n13)) ∧ (wp_X2_arcs σ (zo (zP σ 0 0)) (fun r10 σ11 => ((x5 < r10 → (vp_in x5 48 ∧ ((((zI σ11 22 (ix x5)) = 0 → (∀ y15 : Int32, y15 = x4 ||| 0 → (∀ y16 : Int32, y16 = x5 + 1 → (K98 σ11 y15 y16)))) ∧ (¬ (zI σ11 22 (ix x5)) = 0 → ((zP σ11 0 0) = some (.inl (zo (zP σ11 0 0))) ∧ ((∃ n21, kK NS σ11 (zo (zP σ11 0 0)) = (8, n21)) ∧ (wp_X2_end σ11 (zo (zP σ11 0 0)) x5 (fun r18 σ19 => ∀ y22 : Int32, y22 = x4 ||| ((1 : Int32) <<< (r18 &&& 31)) → (∀ y23 : Int32, y23 = x5 + 1 → (K98 σ19 y22 y23))))))))))) ∧ (¬ x5 < r10 → (Ret x4 σ11))))))
def V_X1_reached_98 (Ret : Int32 → ZS → Prop) (σ : ZS) (x4 : Int32) (x5 : Int32) : Prop := ∃ k, VL_X1_reached_98 Ret k σ x4 x5
def V_X1_reached_53 (K5 : ZS → Int32 → Int32 → Int32 → Int32 → Prop) (Ret : Int32 → ZS → Prop) (σ : ZS) (x1 : Int32) (x2 : Int32) (x3 : Int32) (x4 : Int32) (s0 : Int32) (s1 : Int32) (s2 : Nat) : Prop :=
    ∃ n30, kK NS σ s2 = (3, n30) ∧ (vp_in s1 n30 ∧ (∀ σ32 : ZS, σ32 = sI σ s2 (ix s1) (vp_nar .boolean s0) → (vp_in x4 48 ∧ ((((zI σ32 22 (ix x4)) = 0 → (∀ y38 : Int32, y38 = x4 + 1 → (K5 σ32 x1 x2 x3 y38))) ∧ (¬ (zI σ32 22 (ix x4)) = 0 → (vp_in x3 48 ∧ (∀ σ35 : ZS, σ35 = sI σ32 23 (ix x3) x4 → (∀ y36 : Int32, y36 = x3 + 1 → (∀ y37 : Int32, y37 = x4 + 1 → (K5 σ35 x1 x2 y36 y37)))))))))))
def V_X1_reached_52 (K5 : ZS → Int32 → Int32 → Int32 → Int32 → Prop) (Ret : Int32 → ZS → Prop) (σ : ZS) (x1 : Int32) (x2 : Int32) (x3 : Int32) (x4 : Int32) (s0 : Int32) (s1 : Nat) : Prop :=
    V_X1_reached_53 K5 Ret σ x1 x2 x3 x4 0 s0 s1
def VL_X1_reached_5 (Ret : Int32 → ZS → Prop) : Nat → ZS → Int32 → Int32 → Int32 → Int32 → Prop
  | 0 => fun _ _ _ _ _ => False
  | k + 1 => fun σ x1 x2 x3 x4 =>
    let K5 := VL_X1_reached_5 Ret k
    (zP σ 0 0) = some (.inl (zo (zP σ 0 0))) ∧ ((∃ n5, kK NS σ (zo (zP σ 0 0)) = (8, n5)) ∧ (wp_X2_arcs σ (zo (zP σ 0 0)) (fun r2 σ3 => ((x4 < r2 → ((zP σ3 0 0) = some (.inl (zo (zP σ3 0 0))) ∧ ((∃ n28, kK NS σ3 (zo (zP σ3 0 0)) = (8, n28)) ∧ (wp_X2_isArc σ3 (zo (zP σ3 0 0)) x4 (fun r25 σ26 => ((r25 = 0 → (V_X1_reached_52 K5 Ret σ26 x1 x2 x3 x4 x4 22)) ∧ (¬ r25 = 0 → ((zP σ26 0 0) = some (.inl (zo (zP σ26 0 0))) ∧ ((∃ n43, kK NS σ26 (zo (zP σ26 0 0)) = (8, n43)) ∧ (wp_X2_begin σ26 (zo (zP σ26 0 0)) x4 (fun r40 σ41 => ((r40 = x1 → (V_X1_reached_53 K5 Ret σ41 x1 x2 x3 x4 1 x4 22)) ∧ (¬ r40 = x1 → (V_X1_reached_52 K5 Ret σ41 x1 x2 x3 x4 x4 22)))))))))))))) ∧ (¬ x4 < r2 → (wp_X1_goesOn σ3 x3 x2 (fun σ7 => ∀ y8 : Int32, y8 = (1 : Int32) <<< (x1 &&& 31) → (V_X1_reached_98 Ret σ7 y8 0))))))))
def V_X1_reached_5 (Ret : Int32 → ZS → Prop) (σ : ZS) (x1 : Int32) (x2 : Int32) (x3 : Int32) (x4 : Int32) : Prop := ∃ k, VL_X1_reached_5 Ret k σ x1 x2 x3 x4
def wp_X1_reached (σ : ZS) (a1 : Int32) (a2 : Int32) (Ret : Int32 → ZS → Prop) : Prop :=
    V_X1_reached_5 Ret σ a1 a2 0 0
set_option maxHeartbeats 4000000 in
theorem mz_X1_reached {l : Launch} {E : ZE} (hE : EOK E) {σ : ZS} {a1 : Int32} {a2 : Int32} {Ret : Int32 → ZS → Prop} (hV : wp_X1_reached σ a1 a2 Ret) : MZ l E NS yX1_reached (ws_ yX1_reached cX1_reached 6 (some .int)) 9 σ [.ref (E.1.heap.size + 0), .int a1, .int a2] (rI Ret) := by
  refine MZ.start (L := [some (.ref (E.1.heap.size + 0)), some (.int a1), some (.int a2), none, none, none]) hE (by decide) (Nat.le_of_ble_eq_true rfl) rfl fun C hCl hQo hC => ?_
  replace hC : Cx C E cX1_reached 6 "RightTurns" "reached" (some .int) [] 9 := hC
  unfold wp_X1_reached at hV
  have j_98 : ∀ (σ : ZS) (x4 : Int32) (x5 : Int32), V_X1_reached_98 Ret σ x4 x5 → zz C E NS 6 σ 98 [some (.ref (E.1.heap.size + 0)), none, none, none, some (.int x4), some (.int x5)] [] := by
    intro σ x4 x5 ⟨k, hV⟩
    revert σ x4 x5
    induction k with
    | zero => exact fun _ _ _ hV => hV.elim
    | succ k j_98 =>
      intro σ x4 x5 hV
      simp only [VL_X1_reached_98] at hV
      generalize hKe98 : VL_X1_reached_98 Ret k = K98 at hV j_98
      clear hKe98
      refine z_iload hC dX1_reached_98 rfl ?_
      refine z_aload_n hC dX1_reached_100 rfl rfl ?_
      refine g_X1_12_0 hC dX1_reached_101 ?_
      obtain ⟨h9, hV⟩ := hV
      refine zz_at rfl (by rw [pvo h9]) ?_
      obtain ⟨⟨n13, h12⟩, hV⟩ := hV
      refine c_X1_271 hC (by decide) dX1_reached_104 (Nat.le_of_ble_eq_true rfl) h12 hV (fun r10 σ11 hV => ?_)
      refine z_icmp_ge (tgt := 146) hC dX1_reached_107 (by decide) (fun hc => ?_) (fun hc => ?_)
      · replace hV := hV.2 hc
        refine z_iload hC dX1_reached_146 rfl ?_
        exact z_iret hC dX1_reached_148 rfl (by rw [hQo]; exact ⟨_, rfl, hV⟩)
      · replace hV := hV.1 hc
        refine z_iload hC dX1_reached_110 rfl ?_
        refine z_aload_n hC dX1_reached_112 rfl rfl ?_
        refine g_X1_48_0 hC dX1_reached_113 ?_
        refine z_iload hC dX1_reached_116 rfl ?_
        obtain ⟨h14, hV⟩ := hV
        refine z_zald hC dX1_reached_118 (k_22 _) (h14) ?_
        refine z_if_eq (tgt := 136) hC dX1_reached_119 (by decide) (fun hc => ?_) (fun hc => ?_)
        · replace hV := hV.1 hc
          refine z_iconst (v := 0) hC dX1_reached_136 rfl ?_
          refine z_ior hC dX1_reached_137 ?_
          obtain ⟨y15, e_y15⟩ : ∃ z, z = x4 ||| 0 := ⟨_, rfl⟩
          rw [← e_y15]
          replace hV := hV _ e_y15
          refine z_istore hC dX1_reached_138 (Nat.le_of_ble_eq_true rfl) rfl rfl ?_
          obtain ⟨y16, e_y16⟩ : ∃ z : Int32, z = x5 + 1 := ⟨_, rfl⟩
          replace hV := hV _ e_y16
          refine z_iinc (v := y16) hC dX1_reached_140 rfl (by rw [e_y16]; rfl) (Nat.le_of_ble_eq_true rfl) rfl rfl ?_
          refine z_goto (tgt := 98) hC dX1_reached_143 (by decide) ?_
          refine zz_sub (L' := [some (.ref (E.1.heap.size + 0)), none, none, none, some (.int y15), some (.int y16)]) ⟨rfl, rfl, rfl, trivial⟩ ?_
          exact j_98 σ11 y15 y16 hV
        · replace hV := hV.2 hc
          refine z_iconst (v := 1) hC dX1_reached_122 rfl ?_
          refine z_aload_n hC dX1_reached_123 rfl rfl ?_
          refine g_X1_12_0 hC dX1_reached_124 ?_
          obtain ⟨h17, hV⟩ := hV
          refine zz_at rfl (by rw [pvo h17]) ?_
          refine z_iload hC dX1_reached_127 rfl ?_
          obtain ⟨⟨n21, h20⟩, hV⟩ := hV
          refine c_X1_274 hC (by decide) dX1_reached_129 (Nat.le_of_ble_eq_true rfl) h20 hV (fun r18 σ19 hV => ?_)
          refine z_ishl hC dX1_reached_132 ?_
          refine z_goto (tgt := 137) hC dX1_reached_133 (by decide) ?_
          refine z_ior hC dX1_reached_137 ?_
          obtain ⟨y22, e_y22⟩ : ∃ z, z = x4 ||| ((1 : Int32) <<< (r18 &&& 31)) := ⟨_, rfl⟩
          rw [← e_y22]
          replace hV := hV _ e_y22
          refine z_istore hC dX1_reached_138 (Nat.le_of_ble_eq_true rfl) rfl rfl ?_
          obtain ⟨y23, e_y23⟩ : ∃ z : Int32, z = x5 + 1 := ⟨_, rfl⟩
          replace hV := hV _ e_y23
          refine z_iinc (v := y23) hC dX1_reached_140 rfl (by rw [e_y23]; rfl) (Nat.le_of_ble_eq_true rfl) rfl rfl ?_
          refine z_goto (tgt := 98) hC dX1_reached_143 (by decide) ?_
          refine zz_sub (L' := [some (.ref (E.1.heap.size + 0)), none, none, none, some (.int y22), some (.int y23)]) ⟨rfl, rfl, rfl, trivial⟩ ?_
          exact j_98 σ19 y22 y23 hV
  have j_5 : ∀ (σ : ZS) (x1 : Int32) (x2 : Int32) (x3 : Int32) (x4 : Int32), V_X1_reached_5 Ret σ x1 x2 x3 x4 → zz C E NS 6 σ 5 [some (.ref (E.1.heap.size + 0)), some (.int x1), some (.int x2), some (.int x3), some (.int x4), none] [] := by
    intro σ x1 x2 x3 x4 ⟨k, hV⟩
    revert σ x1 x2 x3 x4
    induction k with
    | zero => exact fun _ _ _ _ _ hV => hV.elim
    | succ k j_5 =>
      intro σ x1 x2 x3 x4 hV
      simp only [VL_X1_reached_5] at hV
      generalize hKe5 : VL_X1_reached_5 Ret k = K5 at hV j_5
      clear hKe5
      have j_53 : ∀ (σ : ZS) (x1 : Int32) (x2 : Int32) (x3 : Int32) (x4 : Int32) (s0 : Int32) (s1 : Int32) (s2 : Nat), V_X1_reached_53 K5 Ret σ x1 x2 x3 x4 s0 s1 s2 → zz C E NS 6 σ 53 [some (.ref (E.1.heap.size + 0)), some (.int x1), some (.int x2), some (.int x3), some (.int x4), none] [.int s0, .int s1, .ref (E.1.heap.size + s2)] := by
        intro σ x1 x2 x3 x4 s0 s1 s2 hV
        unfold V_X1_reached_53 at hV
        obtain ⟨n30, h29, hV⟩ := hV
        obtain ⟨h31, hV⟩ := hV
        refine z_zast hC dX1_reached_53 h29 (h31) ?_
        obtain ⟨σ32, e_σ32⟩ : ∃ z : ZS, z = sI σ s2 (ix s1) (vp_nar .boolean s0) := ⟨_, rfl⟩
        replace hV := hV _ e_σ32
        rw [← e_σ32]
        refine z_aload_n hC dX1_reached_54 rfl rfl ?_
        refine g_X1_48_0 hC dX1_reached_55 ?_
        refine z_iload hC dX1_reached_58 rfl ?_
        obtain ⟨h33, hV⟩ := hV
        refine z_zald hC dX1_reached_60 (k_22 _) (h33) ?_
        refine z_if_ne (tgt := 67) hC dX1_reached_61 (by decide) (fun hc => ?_) (fun hc => ?_)
        · replace hV := hV.2 hc
          refine z_aload_n hC dX1_reached_67 rfl rfl ?_
          refine g_X1_52_0 hC dX1_reached_68 ?_
          refine z_iload_n hC dX1_reached_71 rfl rfl ?_
          refine z_iload hC dX1_reached_72 rfl ?_
          obtain ⟨h34, hV⟩ := hV
          refine z_iast hC dX1_reached_74 (k_23 _) (h34) ?_
          obtain ⟨σ35, e_σ35⟩ : ∃ z : ZS, z = sI σ32 23 (ix x3) x4 := ⟨_, rfl⟩
          replace hV := hV _ e_σ35
          rw [← e_σ35]
          obtain ⟨y36, e_y36⟩ : ∃ z : Int32, z = x3 + 1 := ⟨_, rfl⟩
          replace hV := hV _ e_y36
          refine z_iinc (v := y36) hC dX1_reached_75 rfl (by rw [e_y36]; rfl) (Nat.le_of_ble_eq_true rfl) rfl rfl ?_
          obtain ⟨y37, e_y37⟩ : ∃ z : Int32, z = x4 + 1 := ⟨_, rfl⟩
          replace hV := hV _ e_y37
          refine z_iinc (v := y37) hC dX1_reached_78 rfl (by rw [e_y37]; rfl) (Nat.le_of_ble_eq_true rfl) rfl rfl ?_
          refine z_goto (tgt := 5) hC dX1_reached_81 (by decide) ?_
          refine zz_sub (L' := [some (.ref (E.1.heap.size + 0)), some (.int x1), some (.int x2), some (.int y36), some (.int y37), none]) ⟨rfl, rfl, rfl, rfl, rfl, trivial⟩ ?_
          exact j_5 σ35 x1 x2 y36 y37 hV
        · replace hV := hV.1 hc
          refine z_goto (tgt := 78) hC dX1_reached_64 (by decide) ?_
          obtain ⟨y38, e_y38⟩ : ∃ z : Int32, z = x4 + 1 := ⟨_, rfl⟩
          replace hV := hV _ e_y38
          refine z_iinc (v := y38) hC dX1_reached_78 rfl (by rw [e_y38]; rfl) (Nat.le_of_ble_eq_true rfl) rfl rfl ?_
          refine z_goto (tgt := 5) hC dX1_reached_81 (by decide) ?_
          refine zz_sub (L' := [some (.ref (E.1.heap.size + 0)), some (.int x1), some (.int x2), some (.int x3), some (.int y38), none]) ⟨rfl, rfl, rfl, rfl, rfl, trivial⟩ ?_
          exact j_5 σ32 x1 x2 x3 y38 hV
      have j_52 : ∀ (σ : ZS) (x1 : Int32) (x2 : Int32) (x3 : Int32) (x4 : Int32) (s0 : Int32) (s1 : Nat), V_X1_reached_52 K5 Ret σ x1 x2 x3 x4 s0 s1 → zz C E NS 6 σ 52 [some (.ref (E.1.heap.size + 0)), some (.int x1), some (.int x2), some (.int x3), some (.int x4), none] [.int s0, .ref (E.1.heap.size + s1)] := by
        intro σ x1 x2 x3 x4 s0 s1 hV
        unfold V_X1_reached_52 at hV
        refine z_iconst (v := 0) hC dX1_reached_52 rfl ?_
        refine zz_sub (L' := [some (.ref (E.1.heap.size + 0)), some (.int x1), some (.int x2), some (.int x3), some (.int x4), none]) ⟨rfl, rfl, rfl, rfl, rfl, trivial⟩ ?_
        exact j_53 σ x1 x2 x3 x4 0 s0 s1 hV
      refine z_iload hC dX1_reached_5 rfl ?_
      refine z_aload_n hC dX1_reached_7 rfl rfl ?_
      refine g_X1_12_0 hC dX1_reached_8 ?_
      obtain ⟨h1, hV⟩ := hV
      refine zz_at rfl (by rw [pvo h1]) ?_
      obtain ⟨⟨n5, h4⟩, hV⟩ := hV
      refine c_X1_271 hC (by decide) dX1_reached_11 (Nat.le_of_ble_eq_true rfl) h4 hV (fun r2 σ3 hV => ?_)
      refine z_icmp_ge (tgt := 84) hC dX1_reached_14 (by decide) (fun hc => ?_) (fun hc => ?_)
      · replace hV := hV.2 hc
        refine z_aload_n hC dX1_reached_84 rfl rfl ?_
        refine z_iload_n hC dX1_reached_85 rfl rfl ?_
        refine z_iload_n hC dX1_reached_86 rfl rfl ?_
        refine c_X1_308 hC (by decide) dX1_reached_87 (Nat.le_of_ble_eq_true rfl) hV (fun σ7 hV => ?_)
        refine z_iconst (v := 1) hC dX1_reached_90 rfl ?_
        refine z_iload_n hC dX1_reached_91 rfl rfl ?_
        refine z_ishl hC dX1_reached_92 ?_
        obtain ⟨y8, e_y8⟩ : ∃ z, z = (1 : Int32) <<< (x1 &&& 31) := ⟨_, rfl⟩
        rw [← e_y8]
        replace hV := hV _ e_y8
        refine z_istore hC dX1_reached_93 (Nat.le_of_ble_eq_true rfl) rfl rfl ?_
        refine z_iconst (v := 0) hC dX1_reached_95 rfl ?_
        refine z_istore hC dX1_reached_96 (Nat.le_of_ble_eq_true rfl) rfl rfl ?_
        refine zz_sub (L' := [some (.ref (E.1.heap.size + 0)), none, none, none, some (.int y8), some (.int 0)]) ⟨rfl, rfl, rfl, trivial⟩ ?_
        exact j_98 σ7 y8 0 hV
      · replace hV := hV.1 hc
        refine z_aload_n hC dX1_reached_17 rfl rfl ?_
        refine g_X1_48_0 hC dX1_reached_18 ?_
        refine z_iload hC dX1_reached_21 rfl ?_
        refine z_aload_n hC dX1_reached_23 rfl rfl ?_
        refine g_X1_12_0 hC dX1_reached_24 ?_
        obtain ⟨h24, hV⟩ := hV
        refine zz_at rfl (by rw [pvo h24]) ?_
        refine z_iload hC dX1_reached_27 rfl ?_
        obtain ⟨⟨n28, h27⟩, hV⟩ := hV
        refine c_X1_150 hC (by decide) dX1_reached_29 (Nat.le_of_ble_eq_true rfl) h27 hV (fun r25 σ26 hV => ?_)
        refine z_if_eq (tgt := 52) hC dX1_reached_32 (by decide) (fun hc => ?_) (fun hc => ?_)
        · replace hV := hV.1 hc
          refine zz_sub (L' := [some (.ref (E.1.heap.size + 0)), some (.int x1), some (.int x2), some (.int x3), some (.int x4), none]) ⟨rfl, rfl, rfl, rfl, rfl, trivial⟩ ?_
          exact j_52 σ26 x1 x2 x3 x4 x4 22 hV
        · replace hV := hV.2 hc
          refine z_aload_n hC dX1_reached_35 rfl rfl ?_
          refine g_X1_12_0 hC dX1_reached_36 ?_
          obtain ⟨h39, hV⟩ := hV
          refine zz_at rfl (by rw [pvo h39]) ?_
          refine z_iload hC dX1_reached_39 rfl ?_
          obtain ⟨⟨n43, h42⟩, hV⟩ := hV
          refine c_X1_280 hC (by decide) dX1_reached_41 (Nat.le_of_ble_eq_true rfl) h42 hV (fun r40 σ41 hV => ?_)
          refine z_iload_n hC dX1_reached_44 rfl rfl ?_
          refine z_icmp_ne (tgt := 52) hC dX1_reached_45 (by decide) (fun hc => ?_) (fun hc => ?_)
          · replace hV := hV.2 hc
            refine zz_sub (L' := [some (.ref (E.1.heap.size + 0)), some (.int x1), some (.int x2), some (.int x3), some (.int x4), none]) ⟨rfl, rfl, rfl, rfl, rfl, trivial⟩ ?_
            exact j_52 σ41 x1 x2 x3 x4 x4 22 hV
          · replace hV := hV.1 hc
            refine z_iconst (v := 1) hC dX1_reached_48 rfl ?_
            refine z_goto (tgt := 53) hC dX1_reached_49 (by decide) ?_
            refine zz_sub (L' := [some (.ref (E.1.heap.size + 0)), some (.int x1), some (.int x2), some (.int x3), some (.int x4), none]) ⟨rfl, rfl, rfl, rfl, rfl, trivial⟩ ?_
            exact j_53 σ41 x1 x2 x3 x4 1 x4 22 hV
  refine z_iconst (v := 0) hC dX1_reached_0 rfl ?_
  refine z_istore_n hC dX1_reached_1 rfl (Nat.le_of_ble_eq_true rfl) rfl rfl ?_
  refine z_iconst (v := 0) hC dX1_reached_2 rfl ?_
  refine z_istore hC dX1_reached_3 (Nat.le_of_ble_eq_true rfl) rfl rfl ?_
  refine zz_sub (L' := [some (.ref (E.1.heap.size + 0)), some (.int a1), some (.int a2), some (.int 0), some (.int 0), none]) ⟨rfl, rfl, rfl, rfl, rfl, trivial⟩ ?_
  exact j_5 σ a1 a2 0 0 hV
theorem cw_X1_corners : CodeW yX1_corners (ws_ yX1_corners cX1_corners 1 (some .int)) 1 := ⟨fun w h => (List.mem_cons.mp h).elim (fun e => e ▸ q1134) id, Or.inl ⟨_, _, q1134⟩, q116, by decide, by decide⟩
theorem c_X1_133 {C : ZC} {E : ZE} {cc : ByteArray} {nL pc d : Nat} {nm : String} {ret : Option FieldType} {hh : List (Nat × Nat × Nat × Nat)} {σ : ZS} {L : List (Option Value)} {st : List Value} {Ret : Int32 → ZS → Prop} (hC : Cx C E cc nL "RightTurns" nm ret hh d) (hdd : 2 + 1 ≤ d) (hd : decode cc pc = .ok (.invokevirtual 133, 3)) (hW : (st.map fun v => v.category).sum ≤ 8) (hV : wp_X1_corners σ Ret) (k : ∀ r σ', Ret r σ' → zz C E NS nL σ' (pc + 3) L (.int r :: st)) : zz C E NS nL σ pc L (.ref (E.1.heap.size + 0) :: st) :=
  z_callVG hC cf0 cw_X1_corners hdd (by decide) (mz_X1_corners (cxE hC) hV) hd (k_0 σ) q1131 q1133 qs14 (np := 0) rfl rfl hW rfl (kI k)
theorem cw_X1_reached : CodeW yX1_reached (ws_ yX1_reached cX1_reached 6 (some .int)) 6 := ⟨fun w h => (List.mem_cons.mp h).elim (fun e => e ▸ q1337) id, Or.inl ⟨_, _, q1337⟩, q116, by decide, by decide⟩
theorem c_X1_310 {C : ZC} {E : ZE} {cc : ByteArray} {nL pc d : Nat} {nm : String} {ret : Option FieldType} {hh : List (Nat × Nat × Nat × Nat)} {σ : ZS} {L : List (Option Value)} {st : List Value} {a1 : Int32} {a2 : Int32} {Ret : Int32 → ZS → Prop} (hC : Cx C E cc nL "RightTurns" nm ret hh d) (hdd : 9 + 1 ≤ d) (hd : decode cc pc = .ok (.invokevirtual 310, 3)) (hW : (st.map fun v => v.category).sum ≤ 8) (hV : wp_X1_reached σ a1 a2 Ret) (k : ∀ r σ', Ret r σ' → zz C E NS nL σ' (pc + 3) L (.int r :: st)) : zz C E NS nL σ pc L (.int a2 :: .int a1 :: .ref (E.1.heap.size + 0) :: st) :=
  z_callVG hC cf0 cw_X1_reached hdd (by decide) (mz_X1_reached (cxE hC) hV) hd (k_0 σ) q1334 q1336 qs26 (np := 2) rfl rfl hW rfl (kI k)
def VL_X1_isOpen_2 (Ret : Int32 → ZS → Prop) : Nat → ZS → Int32 → Int32 → Prop
  | 0 => fun _ _ _ => False
  | k + 1 => fun σ x1 x2 =>
    let K2 := VL_X1_isOpen_2 Ret k
    wp_X1_corners σ (fun r1 σ2 => ((x2 < r1 → (wp_X1_reached σ2 x2 x1 (fun r3 σ4 => wp_X1_corners σ4 (fun r5 σ6 => ((r3 = (((1 : Int32) <<< (r5 &&& 31)) - 1) → (∀ y7 : Int32, y7 = x2 + 1 → (K2 σ6 x1 y7))) ∧ (¬ r3 = (((1 : Int32) <<< (r5 &&& 31)) - 1) → (Ret 0 σ6))))))) ∧ (¬ x2 < r1 → (Ret 1 σ2))))
def V_X1_isOpen_2 (Ret : Int32 → ZS → Prop) (σ : ZS) (x1 : Int32) (x2 : Int32) : Prop := ∃ k, VL_X1_isOpen_2 Ret k σ x1 x2
def wp_X1_isOpen (σ : ZS) (a1 : Int32) (Ret : Int32 → ZS → Prop) : Prop :=
    V_X1_isOpen_2 Ret σ a1 0
set_option maxHeartbeats 4000000 in
theorem mz_X1_isOpen {l : Launch} {E : ZE} (hE : EOK E) {σ : ZS} {a1 : Int32} {Ret : Int32 → ZS → Prop} (hV : wp_X1_isOpen σ a1 Ret) : MZ l E NS yX1_isOpen (ws_ yX1_isOpen cX1_isOpen 3 (some .boolean)) 10 σ [.ref (E.1.heap.size + 0), .int a1] (rI Ret) := by
  refine MZ.start (L := [some (.ref (E.1.heap.size + 0)), some (.int a1), none]) hE (by decide) (Nat.le_of_ble_eq_true rfl) rfl fun C hCl hQo hC => ?_
  replace hC : Cx C E cX1_isOpen 3 "RightTurns" "isOpen" (some .boolean) [] 10 := hC
  unfold wp_X1_isOpen at hV
  have j_2 : ∀ (σ : ZS) (x1 : Int32) (x2 : Int32), V_X1_isOpen_2 Ret σ x1 x2 → zz C E NS 3 σ 2 [some (.ref (E.1.heap.size + 0)), some (.int x1), some (.int x2)] [] := by
    intro σ x1 x2 ⟨k, hV⟩
    revert σ x1 x2
    induction k with
    | zero => exact fun _ _ _ hV => hV.elim
    | succ k j_2 =>
      intro σ x1 x2 hV
      simp only [VL_X1_isOpen_2] at hV
      generalize hKe2 : VL_X1_isOpen_2 Ret k = K2 at hV j_2
      clear hKe2
      refine z_iload_n hC dX1_isOpen_2 rfl rfl ?_
      refine z_aload_n hC dX1_isOpen_3 rfl rfl ?_
      refine c_X1_133 hC (by decide) dX1_isOpen_4 (Nat.le_of_ble_eq_true rfl) hV (fun r1 σ2 hV => ?_)
      refine z_icmp_ge (tgt := 35) hC dX1_isOpen_7 (by decide) (fun hc => ?_) (fun hc => ?_)
      · replace hV := hV.2 hc
        refine z_iconst (v := 1) hC dX1_isOpen_35 rfl ?_
        exact z_iret hC dX1_isOpen_36 rfl (by rw [hQo]; exact ⟨_, rfl, hV⟩)
      · replace hV := hV.1 hc
        refine z_aload_n hC dX1_isOpen_10 rfl rfl ?_
        refine z_iload_n hC dX1_isOpen_11 rfl rfl ?_
        refine z_iload_n hC dX1_isOpen_12 rfl rfl ?_
        refine c_X1_310 hC (by decide) dX1_isOpen_13 (Nat.le_of_ble_eq_true rfl) hV (fun r3 σ4 hV => ?_)
        refine z_iconst (v := 1) hC dX1_isOpen_16 rfl ?_
        refine z_aload_n hC dX1_isOpen_17 rfl rfl ?_
        refine c_X1_133 hC (by decide) dX1_isOpen_18 (Nat.le_of_ble_eq_true rfl) hV (fun r5 σ6 hV => ?_)
        refine z_ishl hC dX1_isOpen_21 ?_
        refine z_iconst (v := 1) hC dX1_isOpen_22 rfl ?_
        refine z_isub hC dX1_isOpen_23 ?_
        refine z_icmp_eq (tgt := 29) hC dX1_isOpen_24 (by decide) (fun hc => ?_) (fun hc => ?_)
        · replace hV := hV.1 hc
          obtain ⟨y7, e_y7⟩ : ∃ z : Int32, z = x2 + 1 := ⟨_, rfl⟩
          replace hV := hV _ e_y7
          refine z_iinc (v := y7) hC dX1_isOpen_29 rfl (by rw [e_y7]; rfl) (Nat.le_of_ble_eq_true rfl) rfl rfl ?_
          refine z_goto (tgt := 2) hC dX1_isOpen_32 (by decide) ?_
          refine zz_sub (L' := [some (.ref (E.1.heap.size + 0)), some (.int x1), some (.int y7)]) ⟨rfl, rfl, rfl, trivial⟩ ?_
          exact j_2 σ6 x1 y7 hV
        · replace hV := hV.2 hc
          refine z_iconst (v := 0) hC dX1_isOpen_27 rfl ?_
          exact z_iret hC dX1_isOpen_28 rfl (by rw [hQo]; exact ⟨_, rfl, hV⟩)
  refine z_iconst (v := 0) hC dX1_isOpen_0 rfl ?_
  refine z_istore_n hC dX1_isOpen_1 rfl (Nat.le_of_ble_eq_true rfl) rfl rfl ?_
  refine zz_sub (L' := [some (.ref (E.1.heap.size + 0)), some (.int a1), some (.int 0)]) ⟨rfl, rfl, rfl, trivial⟩ ?_
  exact j_2 σ a1 0 hV
def VL_X1_tries_23 (Ret : ZS → Prop) : Nat → ZS → Int32 → Int32 → Prop
  | 0 => fun _ _ _ => False
  | k + 1 => fun σ x1 x2 =>
    let K23 := VL_X1_tries_23 Ret k
    ((x2 < 14 → (((((x1 >>> (x2 &&& 31)) &&& 1) = 1 → ((zP σ 0 0) = some (.inl (zo (zP σ 0 0))) ∧ ((∃ n4, kK NS σ (zo (zP σ 0 0)) = (8, n4)) ∧ ((kP NS σ (zo (zP σ 0 0)) 5) = some (.inl (zo (kP NS σ (zo (zP σ 0 0)) 5))) ∧ (vp_in x2 14 ∧ (∃ n8, kK NS σ (zo (kP NS σ (zo (zP σ 0 0)) 5)) = (0, n8) ∧ (vp_in (zI σ 26 (ix x2)) n8 ∧ (∀ y10 : Int32, y10 = zI σ (zo (kP NS σ (zo (zP σ 0 0)) 5)) (ix (zI σ 26 (ix x2))) → (vp_in y10 24 ∧ ((zP σ 0 0) = some (.inl (zo (zP σ 0 0))) ∧ ((∃ n14, kK NS σ (zo (zP σ 0 0)) = (8, n14)) ∧ ((kP NS σ (zo (zP σ 0 0)) 6) = some (.inl (zo (kP NS σ (zo (zP σ 0 0)) 6))) ∧ (vp_in x2 14 ∧ (∃ n18, kK NS σ (zo (kP NS σ (zo (zP σ 0 0)) 6)) = (0, n18) ∧ (vp_in (zI σ 26 (ix x2)) n18 ∧ (vp_in y10 24 ∧ (∀ σ21 : ZS, σ21 = sI σ 18 (ix y10) ((zI σ 18 (ix y10)) ||| ((1 : Int32) <<< ((zI σ (zo (kP NS σ (zo (zP σ 0 0)) 6)) (ix (zI σ 26 (ix x2)))) &&& 31))) → (∀ y22 : Int32, y22 = x2 + 1 → (K23 σ21 x1 y22))))))))))))))))))) ∧ (¬ ((x1 >>> (x2 &&& 31)) &&& 1) = 1 → (∀ y1 : Int32, y1 = x2 + 1 → (K23 σ x1 y1)))))) ∧ (¬ x2 < 14 → (Ret σ)))
def V_X1_tries_23 (Ret : ZS → Prop) (σ : ZS) (x1 : Int32) (x2 : Int32) : Prop := ∃ k, VL_X1_tries_23 Ret k σ x1 x2
def VL_X1_tries_2 (Ret : ZS → Prop) : Nat → ZS → Int32 → Int32 → Prop
  | 0 => fun _ _ _ => False
  | k + 1 => fun σ x1 x2 =>
    let K2 := VL_X1_tries_2 Ret k
    ((x2 < 24 → (vp_in x2 24 ∧ (∀ σ24 : ZS, σ24 = sI σ 18 (ix x2) 0 → (∀ y25 : Int32, y25 = x2 + 1 → (K2 σ24 x1 y25))))) ∧ (¬ x2 < 24 → (V_X1_tries_23 Ret σ x1 0)))
def V_X1_tries_2 (Ret : ZS → Prop) (σ : ZS) (x1 : Int32) (x2 : Int32) : Prop := ∃ k, VL_X1_tries_2 Ret k σ x1 x2
def wp_X1_tries (σ : ZS) (a1 : Int32) (Ret : ZS → Prop) : Prop :=
    V_X1_tries_2 Ret σ a1 0
set_option maxHeartbeats 4000000 in
theorem mz_X1_tries {l : Launch} {E : ZE} (hE : EOK E) {σ : ZS} {a1 : Int32} {Ret : ZS → Prop} (hV : wp_X1_tries σ a1 Ret) : MZ l E NS yX1_tries (ws_ yX1_tries cX1_tries 3 none) 1 σ [.ref (E.1.heap.size + 0), .int a1] (rV Ret) := by
  refine MZ.start (L := [some (.ref (E.1.heap.size + 0)), some (.int a1), none]) hE (by decide) (Nat.le_of_ble_eq_true rfl) rfl fun C hCl hQo hC => ?_
  replace hC : Cx C E cX1_tries 3 "RightTurns" "tries" none [] 1 := hC
  unfold wp_X1_tries at hV
  have j_23 : ∀ (σ : ZS) (x1 : Int32) (x2 : Int32), V_X1_tries_23 Ret σ x1 x2 → zz C E NS 3 σ 23 [some (.ref (E.1.heap.size + 0)), some (.int x1), some (.int x2)] [] := by
    intro σ x1 x2 ⟨k, hV⟩
    revert σ x1 x2
    induction k with
    | zero => exact fun _ _ _ hV => hV.elim
    | succ k j_23 =>
      intro σ x1 x2 hV
      simp only [VL_X1_tries_23] at hV
      generalize hKe23 : VL_X1_tries_23 Ret k = K23 at hV j_23
      clear hKe23
      refine z_iload_n hC dX1_tries_23 rfl rfl ?_
      refine z_bipush (v := 14) hC dX1_tries_24 rfl ?_
      refine z_icmp_ge (tgt := 82) hC dX1_tries_26 (by decide) (fun hc => ?_) (fun hc => ?_)
      · replace hV := hV.2 hc
        exact z_vret hC dX1_tries_82 (by rw [hQo]; exact ⟨rfl, hV⟩)
      · replace hV := hV.1 hc
        refine z_iload_n hC dX1_tries_29 rfl rfl ?_
        refine z_iload_n hC dX1_tries_30 rfl rfl ?_
        refine z_ishr hC dX1_tries_31 ?_
        refine z_iconst (v := 1) hC dX1_tries_32 rfl ?_
        refine z_iand hC dX1_tries_33 ?_
        refine z_iconst (v := 1) hC dX1_tries_34 rfl ?_
        refine z_icmp_ne (tgt := 76) hC dX1_tries_35 (by decide) (fun hc => ?_) (fun hc => ?_)
        · replace hV := hV.2 hc
          obtain ⟨y1, e_y1⟩ : ∃ z : Int32, z = x2 + 1 := ⟨_, rfl⟩
          replace hV := hV _ e_y1
          refine z_iinc (v := y1) hC dX1_tries_76 rfl (by rw [e_y1]; rfl) (Nat.le_of_ble_eq_true rfl) rfl rfl ?_
          refine z_goto (tgt := 23) hC dX1_tries_79 (by decide) ?_
          refine zz_sub (L' := [some (.ref (E.1.heap.size + 0)), some (.int x1), some (.int y1)]) ⟨rfl, rfl, rfl, trivial⟩ ?_
          exact j_23 σ x1 y1 hV
        · replace hV := hV.1 hc
          refine z_aload_n hC dX1_tries_38 rfl rfl ?_
          refine g_X1_35_0 hC dX1_tries_39 ?_
          refine z_aload_n hC dX1_tries_42 rfl rfl ?_
          refine g_X1_12_0 hC dX1_tries_43 ?_
          obtain ⟨h2, hV⟩ := hV
          refine zz_at rfl (by rw [pvo h2]) ?_
          obtain ⟨⟨n4, h3⟩, hV⟩ := hV
          refine g_X1_332_c1 hC dX1_tries_46 h3 ?_
          obtain ⟨h5, hV⟩ := hV
          refine zz_at rfl (by rw [pvo h5]) ?_
          refine z_aload_n hC dX1_tries_49 rfl rfl ?_
          refine g_X1_62_0 hC dX1_tries_50 ?_
          refine z_iload_n hC dX1_tries_53 rfl rfl ?_
          obtain ⟨h6, hV⟩ := hV
          refine z_iald hC dX1_tries_54 (k_26 _) (h6) ?_
          obtain ⟨n8, h7, hV⟩ := hV
          obtain ⟨h9, hV⟩ := hV
          refine z_iald hC dX1_tries_55 h7 (h9) ?_
          obtain ⟨y10, e_y10⟩ : ∃ z, z = zI σ (zo (kP NS σ (zo (zP σ 0 0)) 5)) (ix (zI σ 26 (ix x2))) := ⟨_, rfl⟩
          rw [← e_y10]
          replace hV := hV _ e_y10
          refine z_dup2 hC dX1_tries_56 rfl rfl ?_
          obtain ⟨h11, hV⟩ := hV
          refine z_iald hC dX1_tries_57 (k_18 _) (h11) ?_
          refine z_iconst (v := 1) hC dX1_tries_58 rfl ?_
          refine z_aload_n hC dX1_tries_59 rfl rfl ?_
          refine g_X1_12_0 hC dX1_tries_60 ?_
          obtain ⟨h12, hV⟩ := hV
          refine zz_at rfl (by rw [pvo h12]) ?_
          obtain ⟨⟨n14, h13⟩, hV⟩ := hV
          refine g_X1_335_c1 hC dX1_tries_63 h13 ?_
          obtain ⟨h15, hV⟩ := hV
          refine zz_at rfl (by rw [pvo h15]) ?_
          refine z_aload_n hC dX1_tries_66 rfl rfl ?_
          refine g_X1_62_0 hC dX1_tries_67 ?_
          refine z_iload_n hC dX1_tries_70 rfl rfl ?_
          obtain ⟨h16, hV⟩ := hV
          refine z_iald hC dX1_tries_71 (k_26 _) (h16) ?_
          obtain ⟨n18, h17, hV⟩ := hV
          obtain ⟨h19, hV⟩ := hV
          refine z_iald hC dX1_tries_72 h17 (h19) ?_
          refine z_ishl hC dX1_tries_73 ?_
          refine z_ior hC dX1_tries_74 ?_
          obtain ⟨h20, hV⟩ := hV
          refine z_iast hC dX1_tries_75 (k_18 _) (h20) ?_
          obtain ⟨σ21, e_σ21⟩ : ∃ z : ZS, z = sI σ 18 (ix y10) ((zI σ 18 (ix y10)) ||| ((1 : Int32) <<< ((zI σ (zo (kP NS σ (zo (zP σ 0 0)) 6)) (ix (zI σ 26 (ix x2)))) &&& 31))) := ⟨_, rfl⟩
          replace hV := hV _ e_σ21
          rw [← e_σ21]
          obtain ⟨y22, e_y22⟩ : ∃ z : Int32, z = x2 + 1 := ⟨_, rfl⟩
          replace hV := hV _ e_y22
          refine z_iinc (v := y22) hC dX1_tries_76 rfl (by rw [e_y22]; rfl) (Nat.le_of_ble_eq_true rfl) rfl rfl ?_
          refine z_goto (tgt := 23) hC dX1_tries_79 (by decide) ?_
          refine zz_sub (L' := [some (.ref (E.1.heap.size + 0)), some (.int x1), some (.int y22)]) ⟨rfl, rfl, rfl, trivial⟩ ?_
          exact j_23 σ21 x1 y22 hV
  have j_2 : ∀ (σ : ZS) (x1 : Int32) (x2 : Int32), V_X1_tries_2 Ret σ x1 x2 → zz C E NS 3 σ 2 [some (.ref (E.1.heap.size + 0)), some (.int x1), some (.int x2)] [] := by
    intro σ x1 x2 ⟨k, hV⟩
    revert σ x1 x2
    induction k with
    | zero => exact fun _ _ _ hV => hV.elim
    | succ k j_2 =>
      intro σ x1 x2 hV
      simp only [VL_X1_tries_2] at hV
      generalize hKe2 : VL_X1_tries_2 Ret k = K2 at hV j_2
      clear hKe2
      refine z_iload_n hC dX1_tries_2 rfl rfl ?_
      refine z_bipush (v := 24) hC dX1_tries_3 rfl ?_
      refine z_icmp_ge (tgt := 21) hC dX1_tries_5 (by decide) (fun hc => ?_) (fun hc => ?_)
      · replace hV := hV.2 hc
        refine z_iconst (v := 0) hC dX1_tries_21 rfl ?_
        refine z_istore_n hC dX1_tries_22 rfl (Nat.le_of_ble_eq_true rfl) rfl rfl ?_
        refine zz_sub (L' := [some (.ref (E.1.heap.size + 0)), some (.int x1), some (.int 0)]) ⟨rfl, rfl, rfl, trivial⟩ ?_
        exact j_23 σ x1 0 hV
      · replace hV := hV.1 hc
        refine z_aload_n hC dX1_tries_8 rfl rfl ?_
        refine g_X1_35_0 hC dX1_tries_9 ?_
        refine z_iload_n hC dX1_tries_12 rfl rfl ?_
        refine z_iconst (v := 0) hC dX1_tries_13 rfl ?_
        obtain ⟨h23, hV⟩ := hV
        refine z_iast hC dX1_tries_14 (k_18 _) (h23) ?_
        obtain ⟨σ24, e_σ24⟩ : ∃ z : ZS, z = sI σ 18 (ix x2) 0 := ⟨_, rfl⟩
        replace hV := hV _ e_σ24
        rw [← e_σ24]
        obtain ⟨y25, e_y25⟩ : ∃ z : Int32, z = x2 + 1 := ⟨_, rfl⟩
        replace hV := hV _ e_y25
        refine z_iinc (v := y25) hC dX1_tries_15 rfl (by rw [e_y25]; rfl) (Nat.le_of_ble_eq_true rfl) rfl rfl ?_
        refine z_goto (tgt := 2) hC dX1_tries_18 (by decide) ?_
        refine zz_sub (L' := [some (.ref (E.1.heap.size + 0)), some (.int x1), some (.int y25)]) ⟨rfl, rfl, rfl, trivial⟩ ?_
        exact j_2 σ24 x1 y25 hV
  refine z_iconst (v := 0) hC dX1_tries_0 rfl ?_
  refine z_istore_n hC dX1_tries_1 rfl (Nat.le_of_ble_eq_true rfl) rfl rfl ?_
  refine zz_sub (L' := [some (.ref (E.1.heap.size + 0)), some (.int a1), some (.int 0)]) ⟨rfl, rfl, rfl, trivial⟩ ?_
  exact j_2 σ a1 0 hV
