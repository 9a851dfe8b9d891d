set_option maxRecDepth 100000
theorem p_X1_244_c0 {C : ZC} {E : ZE} {cc : ByteArray} {n nL pc d a x : Nat} {nm : String} {ret : Option FieldType} {hh : List (Nat × Nat × Nat × Nat)} {σ : ZS} {L : List (Option Value)} {st : List Value} {v : Int32} (hC : Cx C E cc nL "RightTurns" nm ret hh d) (hd : decode cc pc = .ok (.putfield 244, 3)) (hk : kK n σ a = (0 + 7, x)) (hb : isB v) (k : zz C E n nL (sI σ a 9 v) (pc + 3) L st) : zz C E n nL σ pc L (.int v :: .ref (E.1.heap.size + a) :: st) :=
  z_putI hC cf0 hd hk (k := 9) (by decide) (Or.inl q590) (Or.inl rfl) (Or.inl rfl) hb (isB_fits hb) rfl k
def wp_X1_detour (σ : ZS) (a1 : Int32) (a2 : Int32) (a3 : Int32) (Thr : Nat → ZS → Prop) (Ret : Int32 → ZS → Prop) : Prop :=
    wp_X1_needCorner σ a1 (fun x σ => Thr x σ) (fun σ2 => wp_X1_needCorner σ2 a2 (fun x σ => Thr x σ) (fun σ4 => wp_X1_isTime σ4 a3 (fun r5 σ6 => wp_X1_need σ6 r5 (fun x σ => Thr x σ) (fun σ8 => wp_X1_rideOf σ8 a1 a2 a3 (fun r9 σ10 => ((r9 = (-1) → (Ret (-1) σ10)) ∧ (¬ r9 = (-1) → (∀ σ11 : ZS, σ11 = sI σ10 0 9 1 → (wp_X1_rideOf σ11 a1 a2 a3 (fun r12 σ13 => ∀ σ14 : ZS, σ14 = sI σ13 0 9 0 → (Ret (r9 - r12) σ14)))))))))))
set_option maxHeartbeats 4000000 in
theorem mz_X1_detour {l : Launch} {E : ZE} (hE : EOK E) {σ : ZS} {a1 : Int32} {a2 : Int32} {a3 : Int32} {Thr : Nat → ZS → Prop} {Ret : Int32 → ZS → Prop} (hV : wp_X1_detour σ a1 a2 a3 Thr Ret) : MZ l E NS yX1_detour (ws_ yX1_detour cX1_detour 6 (some .int)) 10 σ [.ref (E.1.heap.size + 0), .int a1, .int a2, .int a3] (rT E.1.heap.size (rI Ret) Thr) := by
  refine MZ.start (L := [some (.ref (E.1.heap.size + 0)), some (.int a1), some (.int a2), some (.int a3), none, none]) hE (by decide) (Nat.le_of_ble_eq_true rfl) rfl fun C hCl hQo hC => ?_
  replace hC : Cx C E cX1_detour 6 "RightTurns" "detour" (some .int) [] 10 := hC
  unfold wp_X1_detour at hV
  refine z_aload_n hC dX1_detour_0 rfl rfl ?_
  refine z_iload_n hC dX1_detour_1 rfl rfl ?_
  refine c_X1_294 hC (by decide) dX1_detour_2 (Nat.le_of_ble_eq_true rfl) hV (fun σ2 hV => ?_) (fun x σ hV => zth_out hC (by rw [hQo]; exact Or.inr ⟨_, rfl, hV⟩))
  refine z_aload_n hC dX1_detour_5 rfl rfl ?_
  refine z_iload_n hC dX1_detour_6 rfl rfl ?_
  refine c_X1_294 hC (by decide) dX1_detour_7 (Nat.le_of_ble_eq_true rfl) hV (fun σ4 hV => ?_) (fun x σ hV => zth_out hC (by rw [hQo]; exact Or.inr ⟨_, rfl, hV⟩))
  refine z_aload_n hC dX1_detour_10 rfl rfl ?_
  refine z_iload_n hC dX1_detour_11 rfl rfl ?_
  refine c_X1_254 hC (by decide) dX1_detour_12 (Nat.le_of_ble_eq_true rfl) hV (fun r5 σ6 hV => ?_)
  refine c_X1_164 hC (by decide) dX1_detour_15 (Nat.le_of_ble_eq_true rfl) hV (fun σ8 hV => ?_) (fun x σ hV => zth_out hC (by rw [hQo]; exact Or.inr ⟨_, rfl, hV⟩))
  refine z_aload_n hC dX1_detour_18 rfl rfl ?_
  refine z_iload_n hC dX1_detour_19 rfl rfl ?_
  refine z_iload_n hC dX1_detour_20 rfl rfl ?_
  refine z_iload_n hC dX1_detour_21 rfl rfl ?_
  refine c_X1_297 hC (by decide) dX1_detour_22 (Nat.le_of_ble_eq_true rfl) hV (fun r9 σ10 hV => ?_)
  refine z_istore hC dX1_detour_25 (Nat.le_of_ble_eq_true rfl) rfl rfl ?_
  refine z_iload hC dX1_detour_27 rfl ?_
  refine z_iconst (v := (-1)) hC dX1_detour_29 rfl ?_
  refine z_icmp_ne (tgt := 35) hC dX1_detour_30 (by decide) (fun hc => ?_) (fun hc => ?_)
  · replace hV := hV.2 hc
    refine z_aload_n hC dX1_detour_35 rfl rfl ?_
    refine z_iconst (v := 1) hC dX1_detour_36 rfl ?_
    refine p_X1_244_c0 hC dX1_detour_37 (k_0 _) rfl ?_
    obtain ⟨σ11, e_σ11⟩ : ∃ z : ZS, z = sI σ10 0 9 1 := ⟨_, rfl⟩
    replace hV := hV _ e_σ11
    rw [← e_σ11]
    refine z_aload_n hC dX1_detour_40 rfl rfl ?_
    refine z_iload_n hC dX1_detour_41 rfl rfl ?_
    refine z_iload_n hC dX1_detour_42 rfl rfl ?_
    refine z_iload_n hC dX1_detour_43 rfl rfl ?_
    refine c_X1_297 hC (by decide) dX1_detour_44 (Nat.le_of_ble_eq_true rfl) hV (fun r12 σ13 hV => ?_)
    refine z_istore hC dX1_detour_47 (Nat.le_of_ble_eq_true rfl) rfl rfl ?_
    refine z_aload_n hC dX1_detour_49 rfl rfl ?_
    refine z_iconst (v := 0) hC dX1_detour_50 rfl ?_
    refine p_X1_244_c0 hC dX1_detour_51 (k_0 _) rfl ?_
    obtain ⟨σ14, e_σ14⟩ : ∃ z : ZS, z = sI σ13 0 9 0 := ⟨_, rfl⟩
    replace hV := hV _ e_σ14
    rw [← e_σ14]
    refine z_iload hC dX1_detour_54 rfl ?_
    refine z_iload hC dX1_detour_56 rfl ?_
    refine z_isub hC dX1_detour_58 ?_
    exact z_iret hC dX1_detour_59 rfl (by rw [hQo]; exact Or.inl ⟨_, rfl, hV⟩)
  · replace hV := hV.1 hc
    refine z_iconst (v := (-1)) hC dX1_detour_33 rfl ?_
    exact z_iret hC dX1_detour_34 rfl (by rw [hQo]; exact Or.inl ⟨_, rfl, hV⟩)
theorem cw_X1_pairs : CodeW yX1_pairs (ws_ yX1_pairs cX1_pairs 4 (some .int)) 4 := ⟨fun w h => (List.mem_cons.mp h).elim (fun e => e ▸ q1379) id, Or.inl ⟨_, _, q1379⟩, q116, by decide, by decide⟩
theorem c_X1_326 {C : ZC} {E : ZE} {cc : ByteArray} {nL pc d : Nat} {nm : String} {ret : Option FieldType} {hh : List (Nat × Nat × Nat × Nat)} {σ : ZS} {L : List (Option Value)} {st : List Value} {a1 : Int32} {Ret : Int32 → ZS → Prop} (hC : Cx C E cc nL "RightTurns" nm ret hh d) (hdd : 10 + 1 ≤ d) (hd : decode cc pc = .ok (.invokevirtual 326, 3)) (hW : (st.map fun v => v.category).sum ≤ 8) (hV : wp_X1_pairs σ a1 Ret) (k : ∀ r σ', Ret r σ' → zz C E NS nL σ' (pc + 3) L (.int r :: st)) : zz C E NS nL σ pc L (.int a1 :: .ref (E.1.heap.size + 0) :: st) :=
  z_callVG hC cf0 cw_X1_pairs hdd (by decide) (mz_X1_pairs (cxE hC) hV) hd (k_0 σ) q1376 q1378 qs31 (np := 1) rfl rfl hW rfl (kI k)
def VL_X1_exchange_127 (K44 : ZS → Int32 → Int32 → Int32 → Int32 → Int32 → Int32 → Prop) (Thr : Nat → ZS → Prop) (Ret : Int32 → ZS → Prop) : Nat → ZS → Int32 → Int32 → Int32 → Int32 → Int32 → Int32 → Int32 → Int32 → Prop
  | 0 => fun _ _ _ _ _ _ _ _ _ => False
  | k + 1 => fun σ x1 x2 x3 x4 x5 x6 x7 x9 =>
    let K127 := VL_X1_exchange_127 K44 Thr Ret k
    ((x9 < x3 → (wp_X1_tries σ ((1 : Int32) <<< (x9 &&& 31)) (fun σ41 => wp_X1_pairs σ41 x1 (fun r42 σ43 => ((x5 < r42 → (vp_in x9 14 ∧ (∀ y45 : Int32, y45 = (1000 * x6) + (zI σ43 26 (ix x9)) → (∀ y46 : Int32, y46 = x9 + 1 → (K127 σ43 x1 x2 x3 y45 r42 x6 x7 y46))))) ∧ (¬ x5 < r42 → (∀ y47 : Int32, y47 = x9 + 1 → (K127 σ43 x1 x2 x3 x4 x5 x6 x7 y47)))))))) ∧ (¬ x9 < x3 → (vp_in x7 24 ∧ (∀ σ38 : ZS, σ38 = sI σ 19 (ix x7) 0 → (∀ y39 : Int32, y39 = x6 + 1 → (K44 σ38 x1 x2 x3 x4 x5 y39))))))
def V_X1_exchange_127 (K44 : ZS → Int32 → Int32 → Int32 → Int32 → Int32 → Int32 → Prop) (Thr : Nat → ZS → Prop) (Ret : Int32 → ZS → Prop) (σ : ZS) (x1 : Int32) (x2 : Int32) (x3 : Int32) (x4 : Int32) (x5 : Int32) (x6 : Int32) (x7 : Int32) (x9 : Int32) : Prop := ∃ k, VL_X1_exchange_127 K44 Thr Ret k σ x1 x2 x3 x4 x5 x6 x7 x9
def VL_X1_exchange_44 (Thr : Nat → ZS → Prop) (Ret : Int32 → ZS → Prop) : Nat → ZS → Int32 → Int32 → Int32 → Int32 → Int32 → Int32 → Prop
  | 0 => fun _ _ _ _ _ _ _ => False
  | k + 1 => fun σ x1 x2 x3 x4 x5 x6 =>
    let K44 := VL_X1_exchange_44 Thr Ret k
    (zP σ 0 0) = some (.inl (zo (zP σ 0 0))) ∧ ((∃ n11, kK NS σ (zo (zP σ 0 0)) = (8, n11)) ∧ (((x6 < (zI σ (zo (zP σ 0 0)) 8) → ((zP σ 0 0) = some (.inl (zo (zP σ 0 0))) ∧ ((∃ n16, kK NS σ (zo (zP σ 0 0)) = (8, n16)) ∧ ((kP NS σ (zo (zP σ 0 0)) 5) = some (.inl (zo (kP NS σ (zo (zP σ 0 0)) 5))) ∧ (∃ n19, kK NS σ (zo (kP NS σ (zo (zP σ 0 0)) 5)) = (0, n19) ∧ (vp_in x6 n19 ∧ (∀ y21 : Int32, y21 = zI σ (zo (kP NS σ (zo (zP σ 0 0)) 5)) (ix x6) → ((zP σ 0 0) = some (.inl (zo (zP σ 0 0))) ∧ ((∃ n24, kK NS σ (zo (zP σ 0 0)) = (8, n24)) ∧ ((kP NS σ (zo (zP σ 0 0)) 6) = some (.inl (zo (kP NS σ (zo (zP σ 0 0)) 6))) ∧ (∃ n27, kK NS σ (zo (kP NS σ (zo (zP σ 0 0)) 6)) = (0, n27) ∧ (vp_in x6 n27 ∧ (∀ y29 : Int32, y29 = zI σ (zo (kP NS σ (zo (zP σ 0 0)) 6)) (ix x6) → (wp_X3_isAllowed σ 12 x1 y21 y29 (fun r30 σ31 => ((r30 = 0 → (∀ y32 : Int32, y32 = x6 + 1 → (K44 σ31 x1 x2 x3 x4 x5 y32))) ∧ (¬ r30 = 0 → (wp_X3_isSigned σ31 12 x1 y21 y29 (fun r33 σ34 => ((r33 = 0 → (vp_in y21 24 ∧ (∀ σ36 : ZS, σ36 = sI σ34 19 (ix y21) ((1 : Int32) <<< (y29 &&& 31)) → (V_X1_exchange_127 K44 Thr Ret σ36 x1 x2 x3 x4 x5 x6 y21 0)))) ∧ (¬ r33 = 0 → (∀ y48 : Int32, y48 = x6 + 1 → (K44 σ34 x1 x2 x3 x4 x5 y48))))))))))))))))))))))) ∧ (¬ x6 < (zI σ (zo (zP σ 0 0)) 8) → (wp_X1_tries σ 0 (fun σ13 => ((x2 = 0 → (Ret x4 σ13)) ∧ (¬ x2 = 0 → (Ret x5 σ13)))))))))
def V_X1_exchange_44 (Thr : Nat → ZS → Prop) (Ret : Int32 → ZS → Prop) (σ : ZS) (x1 : Int32) (x2 : Int32) (x3 : Int32) (x4 : Int32) (x5 : Int32) (x6 : Int32) : Prop := ∃ k, VL_X1_exchange_44 Thr Ret k σ x1 x2 x3 x4 x5 x6
def V_X1_exchange_22 (Thr : Nat → ZS → Prop) (Ret : Int32 → ZS → Prop) (σ : ZS) (x1 : Int32) (x2 : Int32) (s0 : Int32) : Prop :=
    wp_X1_need σ s0 (fun x σ => Thr x σ) (fun σ4 => wp_X1_findCandidates σ4 x1 (fun r5 σ6 => wp_X1_pairs σ6 x1 (fun r7 σ8 => V_X1_exchange_44 Thr Ret σ8 x1 x2 r5 (-1) r7 0)))
def V_X1_exchange_21 (Thr : Nat → ZS → Prop) (Ret : Int32 → ZS → Prop) (σ : ZS) (x1 : Int32) (x2 : Int32) : Prop :=
    V_X1_exchange_22 Thr Ret σ x1 x2 0
def V_X1_exchange_17 (Thr : Nat → ZS → Prop) (Ret : Int32 → ZS → Prop) (σ : ZS) (x1 : Int32) (x2 : Int32) : Prop :=
    V_X1_exchange_22 Thr Ret σ x1 x2 1
def wp_X1_exchange (σ : ZS) (a1 : Int32) (a2 : Int32) (Thr : Nat → ZS → Prop) (Ret : Int32 → ZS → Prop) : Prop :=
    wp_X1_isTime σ a1 (fun r1 σ2 => ((r1 = 0 → (V_X1_exchange_21 Thr Ret σ2 a1 a2)) ∧ (¬ r1 = 0 → (((a2 = 0 → (V_X1_exchange_17 Thr Ret σ2 a1 a2)) ∧ (¬ a2 = 0 → (((a2 = 1 → (V_X1_exchange_17 Thr Ret σ2 a1 a2)) ∧ (¬ a2 = 1 → (V_X1_exchange_21 Thr Ret σ2 a1 a2))))))))))
set_option maxHeartbeats 4000000 in
theorem mz_X1_exchange {l : Launch} {E : ZE} (hE : EOK E) {σ : ZS} {a1 : Int32} {a2 : Int32} {Thr : Nat → ZS → Prop} {Ret : Int32 → ZS → Prop} (hV : wp_X1_exchange σ a1 a2 Thr Ret) : MZ l E NS yX1_exchange (ws_ yX1_exchange cX1_exchange 11 (some .int)) 11 σ [.ref (E.1.heap.size + 0), .int a1, .int a2] (rT E.1.heap.size (rI Ret) Thr) := by
  refine MZ.start (L := [some (.ref (E.1.heap.size + 0)), some (.int a1), some (.int a2), none, none, none, none, none, none, none, none]) hE (by decide) (Nat.le_of_ble_eq_true rfl) rfl fun C hCl hQo hC => ?_
  replace hC : Cx C E cX1_exchange 11 "RightTurns" "exchange" (some .int) [] 11 := hC
  unfold wp_X1_exchange at hV
  have j_44 : ∀ (σ : ZS) (x1 : Int32) (x2 : Int32) (x3 : Int32) (x4 : Int32) (x5 : Int32) (x6 : Int32), V_X1_exchange_44 Thr Ret σ x1 x2 x3 x4 x5 x6 → zz C E NS 11 σ 44 [some (.ref (E.1.heap.size + 0)), some (.int x1), some (.int x2), some (.int x3), some (.int x4), some (.int x5), some (.int x6), none, none, none, none] [] := by
    intro σ x1 x2 x3 x4 x5 x6 ⟨k, hV⟩
    revert σ x1 x2 x3 x4 x5 x6
    induction k with
    | zero => exact fun _ _ _ _ _ _ _ hV => hV.elim
    | succ k j_44 =>
      intro σ x1 x2 x3 x4 x5 x6 hV
      simp only [VL_X1_exchange_44] at hV
      generalize hKe44 : VL_X1_exchange_44 Thr Ret k = K44 at hV j_44
      clear hKe44
      have j_127 : ∀ (σ : ZS) (x1 : Int32) (x2 : Int32) (x3 : Int32) (x4 : Int32) (x5 : Int32) (x6 : Int32) (x7 : Int32) (x9 : Int32), V_X1_exchange_127 K44 Thr Ret σ x1 x2 x3 x4 x5 x6 x7 x9 → zz C E NS 11 σ 127 [some (.ref (E.1.heap.size + 0)), some (.int x1), some (.int x2), some (.int x3), some (.int x4), some (.int x5), some (.int x6), some (.int x7), none, some (.int x9), none] [] := by
        intro σ x1 x2 x3 x4 x5 x6 x7 x9 ⟨k, hV⟩
        revert σ x1 x2 x3 x4 x5 x6 x7 x9
        induction k with
        | zero => exact fun _ _ _ _ _ _ _ _ _ hV => hV.elim
        | succ k j_127 =>
          intro σ x1 x2 x3 x4 x5 x6 x7 x9 hV
          simp only [VL_X1_exchange_127] at hV
          generalize hKe127 : VL_X1_exchange_127 K44 Thr Ret k = K127 at hV j_127
          clear hKe127
          refine z_iload hC dX1_exchange_127 rfl ?_
          refine z_iload_n hC dX1_exchange_129 rfl rfl ?_
          refine z_icmp_ge (tgt := 184) hC dX1_exchange_130 (by decide) (fun hc => ?_) (fun hc => ?_)
          · replace hV := hV.2 hc
            refine z_aload_n hC dX1_exchange_184 rfl rfl ?_
            refine g_X1_39_0 hC dX1_exchange_185 ?_
            refine z_iload hC dX1_exchange_188 rfl ?_
            refine z_iconst (v := 0) hC dX1_exchange_190 rfl ?_
            obtain ⟨h37, hV⟩ := hV
            refine z_iast hC dX1_exchange_191 (k_19 _) (h37) ?_
            obtain ⟨σ38, e_σ38⟩ : ∃ z : ZS, z = sI σ 19 (ix x7) 0 := ⟨_, rfl⟩
            replace hV := hV _ e_σ38
            rw [← e_σ38]
            obtain ⟨y39, e_y39⟩ : ∃ z : Int32, z = x6 + 1 := ⟨_, rfl⟩
            replace hV := hV _ e_y39
            refine z_iinc (v := y39) hC dX1_exchange_192 rfl (by rw [e_y39]; rfl) (Nat.le_of_ble_eq_true rfl) rfl rfl ?_
            refine z_goto (tgt := 44) hC dX1_exchange_195 (by decide) ?_
            refine zz_sub (L' := [some (.ref (E.1.heap.size + 0)), some (.int x1), some (.int x2), some (.int x3), some (.int x4), some (.int x5), some (.int y39), none, none, none, none]) ⟨rfl, rfl, rfl, rfl, rfl, rfl, rfl, trivial⟩ ?_
            exact j_44 σ38 x1 x2 x3 x4 x5 y39 hV
          · replace hV := hV.1 hc
            refine z_aload_n hC dX1_exchange_133 rfl rfl ?_
            refine z_iconst (v := 1) hC dX1_exchange_134 rfl ?_
            refine z_iload hC dX1_exchange_135 rfl ?_
            refine z_ishl hC dX1_exchange_137 ?_
            refine c_X1_347 hC (by decide) dX1_exchange_138 (Nat.le_of_ble_eq_true rfl) hV (fun σ41 hV => ?_)
            refine z_aload_n hC dX1_exchange_141 rfl rfl ?_
            refine z_iload_n hC dX1_exchange_142 rfl rfl ?_
            refine c_X1_326 hC (by decide) dX1_exchange_143 (Nat.le_of_ble_eq_true rfl) hV (fun r42 σ43 hV => ?_)
            refine z_istore hC dX1_exchange_146 (Nat.le_of_ble_eq_true rfl) rfl rfl ?_
            refine z_iload hC dX1_exchange_148 rfl ?_
            refine z_iload hC dX1_exchange_150 rfl ?_
            refine z_icmp_gt (tgt := 158) hC dX1_exchange_152 (by decide) (fun hc => ?_) (fun hc => ?_)
            · replace hV := hV.1 hc
              refine z_sipush (v := 1000) hC dX1_exchange_158 rfl ?_
              refine z_iload hC dX1_exchange_161 rfl ?_
              refine z_imul hC dX1_exchange_163 ?_
              refine z_aload_n hC dX1_exchange_164 rfl rfl ?_
              refine g_X1_62_0 hC dX1_exchange_165 ?_
              refine z_iload hC dX1_exchange_168 rfl ?_
              obtain ⟨h44, hV⟩ := hV
              refine z_iald hC dX1_exchange_170 (k_26 _) (h44) ?_
              refine z_iadd hC dX1_exchange_171 ?_
              obtain ⟨y45, e_y45⟩ : ∃ z, z = (1000 * x6) + (zI σ43 26 (ix x9)) := ⟨_, rfl⟩
              rw [← e_y45]
              replace hV := hV _ e_y45
              refine z_istore hC dX1_exchange_172 (Nat.le_of_ble_eq_true rfl) rfl rfl ?_
              refine z_iload hC dX1_exchange_174 rfl ?_
              refine z_istore hC dX1_exchange_176 (Nat.le_of_ble_eq_true rfl) rfl rfl ?_
              obtain ⟨y46, e_y46⟩ : ∃ z : Int32, z = x9 + 1 := ⟨_, rfl⟩
              replace hV := hV _ e_y46
              refine z_iinc (v := y46) hC dX1_exchange_178 rfl (by rw [e_y46]; rfl) (Nat.le_of_ble_eq_true rfl) rfl rfl ?_
              refine z_goto (tgt := 127) hC dX1_exchange_181 (by decide) ?_
              refine zz_sub (L' := [some (.ref (E.1.heap.size + 0)), some (.int x1), some (.int x2), some (.int x3), some (.int y45), some (.int r42), some (.int x6), some (.int x7), none, some (.int y46), none]) ⟨rfl, rfl, rfl, rfl, rfl, rfl, rfl, rfl, rfl, trivial⟩ ?_
              exact j_127 σ43 x1 x2 x3 y45 r42 x6 x7 y46 hV
            · replace hV := hV.2 hc
              refine z_goto (tgt := 178) hC dX1_exchange_155 (by decide) ?_
              obtain ⟨y47, e_y47⟩ : ∃ z : Int32, z = x9 + 1 := ⟨_, rfl⟩
              replace hV := hV _ e_y47
              refine z_iinc (v := y47) hC dX1_exchange_178 rfl (by rw [e_y47]; rfl) (Nat.le_of_ble_eq_true rfl) rfl rfl ?_
              refine z_goto (tgt := 127) hC dX1_exchange_181 (by decide) ?_
              refine zz_sub (L' := [some (.ref (E.1.heap.size + 0)), some (.int x1), some (.int x2), some (.int x3), some (.int x4), some (.int x5), some (.int x6), some (.int x7), none, some (.int y47), none]) ⟨rfl, rfl, rfl, rfl, rfl, rfl, rfl, rfl, rfl, trivial⟩ ?_
              exact j_127 σ43 x1 x2 x3 x4 x5 x6 x7 y47 hV
      refine z_iload hC dX1_exchange_44 rfl ?_
      refine z_aload_n hC dX1_exchange_46 rfl rfl ?_
      refine g_X1_12_0 hC dX1_exchange_47 ?_
      obtain ⟨h9, hV⟩ := hV
      refine zz_at rfl (by rw [pvo h9]) ?_
      obtain ⟨⟨n11, h10⟩, hV⟩ := hV
      refine g_X1_217_c1 hC dX1_exchange_50 h10 ?_
      refine z_icmp_ge (tgt := 198) hC dX1_exchange_53 (by decide) (fun hc => ?_) (fun hc => ?_)
      · replace hV := hV.2 hc
        refine z_aload_n hC dX1_exchange_198 rfl rfl ?_
        refine z_iconst (v := 0) hC dX1_exchange_199 rfl ?_
        refine c_X1_347 hC (by decide) dX1_exchange_200 (Nat.le_of_ble_eq_true rfl) hV (fun σ13 hV => ?_)
        refine z_iload_n hC dX1_exchange_203 rfl rfl ?_
        refine z_if_ne (tgt := 212) hC dX1_exchange_204 (by decide) (fun hc => ?_) (fun hc => ?_)
        · replace hV := hV.2 hc
          refine z_iload hC dX1_exchange_212 rfl ?_
          exact z_iret hC dX1_exchange_214 rfl (by rw [hQo]; exact Or.inl ⟨_, rfl, hV⟩)
        · replace hV := hV.1 hc
          refine z_iload hC dX1_exchange_207 rfl ?_
          refine z_goto (tgt := 214) hC dX1_exchange_209 (by decide) ?_
          exact z_iret hC dX1_exchange_214 rfl (by rw [hQo]; exact Or.inl ⟨_, rfl, hV⟩)
      · replace hV := hV.1 hc
        refine z_aload_n hC dX1_exchange_56 rfl rfl ?_
        refine g_X1_12_0 hC dX1_exchange_57 ?_
        obtain ⟨h14, hV⟩ := hV
        refine zz_at rfl (by rw [pvo h14]) ?_
        obtain ⟨⟨n16, h15⟩, hV⟩ := hV
        refine g_X1_332_c1 hC dX1_exchange_60 h15 ?_
        obtain ⟨h17, hV⟩ := hV
        refine zz_at rfl (by rw [pvo h17]) ?_
        refine z_iload hC dX1_exchange_63 rfl ?_
        obtain ⟨n19, h18, hV⟩ := hV
        obtain ⟨h20, hV⟩ := hV
        refine z_iald hC dX1_exchange_65 h18 (h20) ?_
        obtain ⟨y21, e_y21⟩ : ∃ z, z = zI σ (zo (kP NS σ (zo (zP σ 0 0)) 5)) (ix x6) := ⟨_, rfl⟩
        rw [← e_y21]
        replace hV := hV _ e_y21
        refine z_istore hC dX1_exchange_66 (Nat.le_of_ble_eq_true rfl) rfl rfl ?_
        refine z_aload_n hC dX1_exchange_68 rfl rfl ?_
        refine g_X1_12_0 hC dX1_exchange_69 ?_
        obtain ⟨h22, hV⟩ := hV
        refine zz_at rfl (by rw [pvo h22]) ?_
        obtain ⟨⟨n24, h23⟩, hV⟩ := hV
        refine g_X1_335_c1 hC dX1_exchange_72 h23 ?_
        obtain ⟨h25, hV⟩ := hV
        refine zz_at rfl (by rw [pvo h25]) ?_
        refine z_iload hC dX1_exchange_75 rfl ?_
        obtain ⟨n27, h26, hV⟩ := hV
        obtain ⟨h28, hV⟩ := hV
        refine z_iald hC dX1_exchange_77 h26 (h28) ?_
        obtain ⟨y29, e_y29⟩ : ∃ z, z = zI σ (zo (kP NS σ (zo (zP σ 0 0)) 6)) (ix x6) := ⟨_, rfl⟩
        rw [← e_y29]
        replace hV := hV _ e_y29
        refine z_istore hC dX1_exchange_78 (Nat.le_of_ble_eq_true rfl) rfl rfl ?_
        refine z_aload_n hC dX1_exchange_80 rfl rfl ?_
        refine g_X1_19_0 hC dX1_exchange_81 ?_
        refine z_iload_n hC dX1_exchange_84 rfl rfl ?_
        refine z_iload hC dX1_exchange_85 rfl ?_
        refine z_iload hC dX1_exchange_87 rfl ?_
        refine c_X1_251 hC (by decide) dX1_exchange_89 (Nat.le_of_ble_eq_true rfl) (k_12 _) hV (fun r30 σ31 hV => ?_)
        refine z_if_eq (tgt := 192) hC dX1_exchange_92 (by decide) (fun hc => ?_) (fun hc => ?_)
        · replace hV := hV.1 hc
          obtain ⟨y32, e_y32⟩ : ∃ z : Int32, z = x6 + 1 := ⟨_, rfl⟩
          replace hV := hV _ e_y32
          refine z_iinc (v := y32) hC dX1_exchange_192 rfl (by rw [e_y32]; rfl) (Nat.le_of_ble_eq_true rfl) rfl rfl ?_
          refine z_goto (tgt := 44) hC dX1_exchange_195 (by decide) ?_
          refine zz_sub (L' := [some (.ref (E.1.heap.size + 0)), some (.int x1), some (.int x2), some (.int x3), some (.int x4), some (.int x5), some (.int y32), none, none, none, none]) ⟨rfl, rfl, rfl, rfl, rfl, rfl, rfl, trivial⟩ ?_
          exact j_44 σ31 x1 x2 x3 x4 x5 y32 hV
        · replace hV := hV.2 hc
          refine z_aload_n hC dX1_exchange_95 rfl rfl ?_
          refine g_X1_19_0 hC dX1_exchange_96 ?_
          refine z_iload_n hC dX1_exchange_99 rfl rfl ?_
          refine z_iload hC dX1_exchange_100 rfl ?_
          refine z_iload hC dX1_exchange_102 rfl ?_
          refine c_X1_247 hC (by decide) dX1_exchange_104 (Nat.le_of_ble_eq_true rfl) (k_12 _) hV (fun r33 σ34 hV => ?_)
          refine z_if_eq (tgt := 113) hC dX1_exchange_107 (by decide) (fun hc => ?_) (fun hc => ?_)
          · replace hV := hV.1 hc
            refine z_aload_n hC dX1_exchange_113 rfl rfl ?_
            refine g_X1_39_0 hC dX1_exchange_114 ?_
            refine z_iload hC dX1_exchange_117 rfl ?_
            refine z_iconst (v := 1) hC dX1_exchange_119 rfl ?_
            refine z_iload hC dX1_exchange_120 rfl ?_
            refine z_ishl hC dX1_exchange_122 ?_
            obtain ⟨h35, hV⟩ := hV
            refine z_iast hC dX1_exchange_123 (k_19 _) (h35) ?_
            obtain ⟨σ36, e_σ36⟩ : ∃ z : ZS, z = sI σ34 19 (ix y21) ((1 : Int32) <<< (y29 &&& 31)) := ⟨_, rfl⟩
            replace hV := hV _ e_σ36
            rw [← e_σ36]
            refine z_iconst (v := 0) hC dX1_exchange_124 rfl ?_
            refine z_istore hC dX1_exchange_125 (Nat.le_of_ble_eq_true rfl) rfl rfl ?_
            refine zz_sub (L' := [some (.ref (E.1.heap.size + 0)), some (.int x1), some (.int x2), some (.int x3), some (.int x4), some (.int x5), some (.int x6), some (.int y21), none, some (.int 0), none]) ⟨rfl, rfl, rfl, rfl, rfl, rfl, rfl, rfl, rfl, trivial⟩ ?_
            exact j_127 σ36 x1 x2 x3 x4 x5 x6 y21 0 hV
          · replace hV := hV.2 hc
            refine z_goto (tgt := 192) hC dX1_exchange_110 (by decide) ?_
            obtain ⟨y48, e_y48⟩ : ∃ z : Int32, z = x6 + 1 := ⟨_, rfl⟩
            replace hV := hV _ e_y48
            refine z_iinc (v := y48) hC dX1_exchange_192 rfl (by rw [e_y48]; rfl) (Nat.le_of_ble_eq_true rfl) rfl rfl ?_
            refine z_goto (tgt := 44) hC dX1_exchange_195 (by decide) ?_
            refine zz_sub (L' := [some (.ref (E.1.heap.size + 0)), some (.int x1), some (.int x2), some (.int x3), some (.int x4), some (.int x5), some (.int y48), none, none, none, none]) ⟨rfl, rfl, rfl, rfl, rfl, rfl, rfl, trivial⟩ ?_
            exact j_44 σ34 x1 x2 x3 x4 x5 y48 hV
  have j_22 : ∀ (σ : ZS) (x1 : Int32) (x2 : Int32) (s0 : Int32), V_X1_exchange_22 Thr Ret σ x1 x2 s0 → zz C E NS 11 σ 22 [some (.ref (E.1.heap.size + 0)), some (.int x1), some (.int x2), none, none, none, none, none, none, none, none] [.int s0] := by
    intro σ x1 x2 s0 hV
    unfold V_X1_exchange_22 at hV
    refine c_X1_164 hC (by decide) dX1_exchange_22 (Nat.le_of_ble_eq_true rfl) hV (fun σ4 hV => ?_) (fun x σ hV => zth_out hC (by rw [hQo]; exact Or.inr ⟨_, rfl, hV⟩))
    refine z_aload_n hC dX1_exchange_25 rfl rfl ?_
    refine z_iload_n hC dX1_exchange_26 rfl rfl ?_
    refine c_X1_338 hC (by decide) dX1_exchange_27 (Nat.le_of_ble_eq_true rfl) hV (fun r5 σ6 hV => ?_)
    refine z_istore_n hC dX1_exchange_30 rfl (Nat.le_of_ble_eq_true rfl) rfl rfl ?_
    refine z_iconst (v := (-1)) hC dX1_exchange_31 rfl ?_
    refine z_istore hC dX1_exchange_32 (Nat.le_of_ble_eq_true rfl) rfl rfl ?_
    refine z_aload_n hC dX1_exchange_34 rfl rfl ?_
    refine z_iload_n hC dX1_exchange_35 rfl rfl ?_
    refine c_X1_326 hC (by decide) dX1_exchange_36 (Nat.le_of_ble_eq_true rfl) hV (fun r7 σ8 hV => ?_)
    refine z_istore hC dX1_exchange_39 (Nat.le_of_ble_eq_true rfl) rfl rfl ?_
    refine z_iconst (v := 0) hC dX1_exchange_41 rfl ?_
    refine z_istore hC dX1_exchange_42 (Nat.le_of_ble_eq_true rfl) rfl rfl ?_
    refine zz_sub (L' := [some (.ref (E.1.heap.size + 0)), some (.int x1), some (.int x2), some (.int r5), some (.int (-1)), some (.int r7), some (.int 0), none, none, none, none]) ⟨rfl, rfl, rfl, rfl, rfl, rfl, rfl, trivial⟩ ?_
    exact j_44 σ8 x1 x2 r5 (-1) r7 0 hV
  have j_21 : ∀ (σ : ZS) (x1 : Int32) (x2 : Int32), V_X1_exchange_21 Thr Ret σ x1 x2 → zz C E NS 11 σ 21 [some (.ref (E.1.heap.size + 0)), some (.int x1), some (.int x2), none, none, none, none, none, none, none, none] [] := by
    intro σ x1 x2 hV
    unfold V_X1_exchange_21 at hV
    refine z_iconst (v := 0) hC dX1_exchange_21 rfl ?_
    refine zz_sub (L' := [some (.ref (E.1.heap.size + 0)), some (.int x1), some (.int x2), none, none, none, none, none, none, none, none]) ⟨rfl, rfl, rfl, trivial⟩ ?_
    exact j_22 σ x1 x2 0 hV
  have j_17 : ∀ (σ : ZS) (x1 : Int32) (x2 : Int32), V_X1_exchange_17 Thr Ret σ x1 x2 → zz C E NS 11 σ 17 [some (.ref (E.1.heap.size + 0)), some (.int x1), some (.int x2), none, none, none, none, none, none, none, none] [] := by
    intro σ x1 x2 hV
    unfold V_X1_exchange_17 at hV
    refine z_iconst (v := 1) hC dX1_exchange_17 rfl ?_
    refine z_goto (tgt := 22) hC dX1_exchange_18 (by decide) ?_
    refine zz_sub (L' := [some (.ref (E.1.heap.size + 0)), some (.int x1), some (.int x2), none, none, none, none, none, none, none, none]) ⟨rfl, rfl, rfl, trivial⟩ ?_
    exact j_22 σ x1 x2 1 hV
  refine z_aload_n hC dX1_exchange_0 rfl rfl ?_
  refine z_iload_n hC dX1_exchange_1 rfl rfl ?_
  refine c_X1_254 hC (by decide) dX1_exchange_2 (Nat.le_of_ble_eq_true rfl) hV (fun r1 σ2 hV => ?_)
  refine z_if_eq (tgt := 21) hC dX1_exchange_5 (by decide) (fun hc => ?_) (fun hc => ?_)
  · replace hV := hV.1 hc
    refine zz_sub (L' := [some (.ref (E.1.heap.size + 0)), some (.int a1), some (.int a2), none, none, none, none, none, none, none, none]) ⟨rfl, rfl, rfl, trivial⟩ ?_
    exact j_21 σ2 a1 a2 hV
  · replace hV := hV.2 hc
    refine z_iload_n hC dX1_exchange_8 rfl rfl ?_
    refine z_if_eq (tgt := 17) hC dX1_exchange_9 (by decide) (fun hc => ?_) (fun hc => ?_)
    · replace hV := hV.1 hc
      refine zz_sub (L' := [some (.ref (E.1.heap.size + 0)), some (.int a1), some (.int a2), none, none, none, none, none, none, none, none]) ⟨rfl, rfl, rfl, trivial⟩ ?_
      exact j_17 σ2 a1 a2 hV
    · replace hV := hV.2 hc
      refine z_iload_n hC dX1_exchange_12 rfl rfl ?_
      refine z_iconst (v := 1) hC dX1_exchange_13 rfl ?_
      refine z_icmp_ne (tgt := 21) hC dX1_exchange_14 (by decide) (fun hc => ?_) (fun hc => ?_)
      · replace hV := hV.2 hc
        refine zz_sub (L' := [some (.ref (E.1.heap.size + 0)), some (.int a1), some (.int a2), none, none, none, none, none, none, none, none]) ⟨rfl, rfl, rfl, trivial⟩ ?_
        exact j_21 σ2 a1 a2 hV
      · replace hV := hV.1 hc
        refine zz_sub (L' := [some (.ref (E.1.heap.size + 0)), some (.int a1), some (.int a2), none, none, none, none, none, none, none, none]) ⟨rfl, rfl, rfl, trivial⟩ ?_
        exact j_17 σ2 a1 a2 hV
def V_X1_fewest_22 (Thr : Nat → ZS → Prop) (Ret : Int32 → ZS → Prop) (σ : ZS) (x1 : Int32) (x2 : Int32) (s0 : Int32) : Prop :=
    wp_X1_need σ s0 (fun x σ => Thr x σ) (fun σ4 => wp_X1_leastSet σ4 x1 0 (fun r5 σ6 => ((r5 = (-1) → (Ret (-1) σ6)) ∧ (¬ r5 = (-1) → (((x2 = 1 → (Ret r5 σ6)) ∧ (¬ x2 = 1 → (Ret (zI σ6 0 17) σ6))))))))
def V_X1_fewest_21 (Thr : Nat → ZS → Prop) (Ret : Int32 → ZS → Prop) (σ : ZS) (x1 : Int32) (x2 : Int32) : Prop :=
    V_X1_fewest_22 Thr Ret σ x1 x2 0
def V_X1_fewest_17 (Thr : Nat → ZS → Prop) (Ret : Int32 → ZS → Prop) (σ : ZS) (x1 : Int32) (x2 : Int32) : Prop :=
    V_X1_fewest_22 Thr Ret σ x1 x2 1
def wp_X1_fewest (σ : ZS) (a1 : Int32) (a2 : Int32) (Thr : Nat → ZS → Prop) (Ret : Int32 → ZS → Prop) : Prop :=
    wp_X1_isTime σ a1 (fun r1 σ2 => ((r1 = 0 → (V_X1_fewest_21 Thr Ret σ2 a1 a2)) ∧ (¬ r1 = 0 → (((a2 = 0 → (V_X1_fewest_17 Thr Ret σ2 a1 a2)) ∧ (¬ a2 = 0 → (((a2 = 1 → (V_X1_fewest_17 Thr Ret σ2 a1 a2)) ∧ (¬ a2 = 1 → (V_X1_fewest_21 Thr Ret σ2 a1 a2))))))))))
set_option maxHeartbeats 4000000 in
theorem mz_X1_fewest {l : Launch} {E : ZE} (hE : EOK E) {σ : ZS} {a1 : Int32} {a2 : Int32} {Thr : Nat → ZS → Prop} {Ret : Int32 → ZS → Prop} (hV : wp_X1_fewest σ a1 a2 Thr Ret) : MZ l E NS yX1_fewest (ws_ yX1_fewest cX1_fewest 4 (some .int)) 12 σ [.ref (E.1.heap.size + 0), .int a1, .int a2] (rT E.1.heap.size (rI Ret) Thr) := by
  refine MZ.start (L := [some (.ref (E.1.heap.size + 0)), some (.int a1), some (.int a2), none]) hE (by decide) (Nat.le_of_ble_eq_true rfl) rfl fun C hCl hQo hC => ?_
  replace hC : Cx C E cX1_fewest 4 "RightTurns" "fewest" (some .int) [] 12 := hC
  unfold wp_X1_fewest at hV
  have j_22 : ∀ (σ : ZS) (x1 : Int32) (x2 : Int32) (s0 : Int32), V_X1_fewest_22 Thr Ret σ x1 x2 s0 → zz C E NS 4 σ 22 [some (.ref (E.1.heap.size + 0)), some (.int x1), some (.int x2), none] [.int s0] := by
    intro σ x1 x2 s0 hV
    unfold V_X1_fewest_22 at hV
    refine c_X1_164 hC (by decide) dX1_fewest_22 (Nat.le_of_ble_eq_true rfl) hV (fun σ4 hV => ?_) (fun x σ hV => zth_out hC (by rw [hQo]; exact Or.inr ⟨_, rfl, hV⟩))
    refine z_aload_n hC dX1_fewest_25 rfl rfl ?_
    refine z_iload_n hC dX1_fewest_26 rfl rfl ?_
    refine z_iconst (v := 0) hC dX1_fewest_27 rfl ?_
    refine c_X1_350 hC (by decide) dX1_fewest_28 (Nat.le_of_ble_eq_true rfl) hV (fun r5 σ6 hV => ?_)
    refine z_istore_n hC dX1_fewest_31 rfl (Nat.le_of_ble_eq_true rfl) rfl rfl ?_
    refine z_iload_n hC dX1_fewest_32 rfl rfl ?_
    refine z_iconst (v := (-1)) hC dX1_fewest_33 rfl ?_
    refine z_icmp_ne (tgt := 41) hC dX1_fewest_34 (by decide) (fun hc => ?_) (fun hc => ?_)
    · replace hV := hV.2 hc
      refine z_iload_n hC dX1_fewest_41 rfl rfl ?_
      refine z_iconst (v := 1) hC dX1_fewest_42 rfl ?_
      refine z_icmp_ne (tgt := 50) hC dX1_fewest_43 (by decide) (fun hc => ?_) (fun hc => ?_)
      · replace hV := hV.2 hc
        refine z_aload_n hC dX1_fewest_50 rfl rfl ?_
        refine g_X1_341_0 hC dX1_fewest_51 ?_
        exact z_iret hC dX1_fewest_54 rfl (by rw [hQo]; exact Or.inl ⟨_, rfl, hV⟩)
      · replace hV := hV.1 hc
        refine z_iload_n hC dX1_fewest_46 rfl rfl ?_
        refine z_goto (tgt := 54) hC dX1_fewest_47 (by decide) ?_
        exact z_iret hC dX1_fewest_54 rfl (by rw [hQo]; exact Or.inl ⟨_, rfl, hV⟩)
    · replace hV := hV.1 hc
      refine z_iconst (v := (-1)) hC dX1_fewest_37 rfl ?_
      refine z_goto (tgt := 54) hC dX1_fewest_38 (by decide) ?_
      exact z_iret hC dX1_fewest_54 rfl (by rw [hQo]; exact Or.inl ⟨_, rfl, hV⟩)
  have j_21 : ∀ (σ : ZS) (x1 : Int32) (x2 : Int32), V_X1_fewest_21 Thr Ret σ x1 x2 → zz C E NS 4 σ 21 [some (.ref (E.1.heap.size + 0)), some (.int x1), some (.int x2), none] [] := by
    intro σ x1 x2 hV
    unfold V_X1_fewest_21 at hV
    refine z_iconst (v := 0) hC dX1_fewest_21 rfl ?_
    refine zz_sub (L' := [some (.ref (E.1.heap.size + 0)), some (.int x1), some (.int x2), none]) ⟨rfl, rfl, rfl, trivial⟩ ?_
    exact j_22 σ x1 x2 0 hV
  have j_17 : ∀ (σ : ZS) (x1 : Int32) (x2 : Int32), V_X1_fewest_17 Thr Ret σ x1 x2 → zz C E NS 4 σ 17 [some (.ref (E.1.heap.size + 0)), some (.int x1), some (.int x2), none] [] := by
    intro σ x1 x2 hV
    unfold V_X1_fewest_17 at hV
    refine z_iconst (v := 1) hC dX1_fewest_17 rfl ?_
    refine z_goto (tgt := 22) hC dX1_fewest_18 (by decide) ?_
    refine zz_sub (L' := [some (.ref (E.1.heap.size + 0)), some (.int x1), some (.int x2), none]) ⟨rfl, rfl, rfl, trivial⟩ ?_
    exact j_22 σ x1 x2 1 hV
  refine z_aload_n hC dX1_fewest_0 rfl rfl ?_
  refine z_iload_n hC dX1_fewest_1 rfl rfl ?_
  refine c_X1_254 hC (by decide) dX1_fewest_2 (Nat.le_of_ble_eq_true rfl) hV (fun r1 σ2 hV => ?_)
  refine z_if_eq (tgt := 21) hC dX1_fewest_5 (by decide) (fun hc => ?_) (fun hc => ?_)
  · replace hV := hV.1 hc
    refine zz_sub (L' := [some (.ref (E.1.heap.size + 0)), some (.int a1), some (.int a2), none]) ⟨rfl, rfl, rfl, trivial⟩ ?_
    exact j_21 σ2 a1 a2 hV
  · replace hV := hV.2 hc
    refine z_iload_n hC dX1_fewest_8 rfl rfl ?_
    refine z_if_eq (tgt := 17) hC dX1_fewest_9 (by decide) (fun hc => ?_) (fun hc => ?_)
    · replace hV := hV.1 hc
      refine zz_sub (L' := [some (.ref (E.1.heap.size + 0)), some (.int a1), some (.int a2), none]) ⟨rfl, rfl, rfl, trivial⟩ ?_
      exact j_17 σ2 a1 a2 hV
    · replace hV := hV.2 hc
      refine z_iload_n hC dX1_fewest_12 rfl rfl ?_
      refine z_iconst (v := 1) hC dX1_fewest_13 rfl ?_
      refine z_icmp_ne (tgt := 21) hC dX1_fewest_14 (by decide) (fun hc => ?_) (fun hc => ?_)
      · replace hV := hV.2 hc
        refine zz_sub (L' := [some (.ref (E.1.heap.size + 0)), some (.int a1), some (.int a2), none]) ⟨rfl, rfl, rfl, trivial⟩ ?_
        exact j_21 σ2 a1 a2 hV
      · replace hV := hV.1 hc
        refine zz_sub (L' := [some (.ref (E.1.heap.size + 0)), some (.int a1), some (.int a2), none]) ⟨rfl, rfl, rfl, trivial⟩ ?_
        exact j_17 σ2 a1 a2 hV
theorem cw_X1_staying : CodeW yX1_staying (ws_ yX1_staying cX1_staying 5 (some .int)) 5 := ⟨fun w h => (List.mem_cons.mp h).elim (fun e => e ▸ q1569) id, Or.inl ⟨_, _, q1569⟩, q116, by decide, by decide⟩
theorem c_X1_418 {C : ZC} {E : ZE} {cc : ByteArray} {nL pc d : Nat} {nm : String} {ret : Option FieldType} {hh : List (Nat × Nat × Nat × Nat)} {σ : ZS} {L : List (Option Value)} {st : List Value} {a1 : Int32} {Ret : Int32 → ZS → Prop} (hC : Cx C E cc nL "RightTurns" nm ret hh d) (hdd : 10 + 1 ≤ d) (hd : decode cc pc = .ok (.invokevirtual 418, 3)) (hW : (st.map fun v => v.category).sum ≤ 8) (hV : wp_X1_staying σ a1 Ret) (k : ∀ r σ', Ret r σ' → zz C E NS nL σ' (pc + 3) L (.int r :: st)) : zz C E NS nL σ pc L (.int a1 :: .ref (E.1.heap.size + 0) :: st) :=
  z_callVG hC cf0 cw_X1_staying hdd (by decide) (mz_X1_staying (cxE hC) hV) hd (k_0 σ) q1566 q1568 qs50 (np := 1) rfl rfl hW rfl (kI k)
def V_X1_gain_97 (K50 : ZS → Int32 → Int32 → Int32 → Int32 → Int32 → Int32 → Int32 → Prop) (Thr : Nat → ZS → Prop) (Ret : Int32 → ZS → Prop) (σ : ZS) (x1 : Int32) (x2 : Int32) (x3 : Int32) (x7 : Int32) (x8 : Int32) : Prop :=
    vp_in x7 14 ∧ (∀ y18 : Int32, y18 = zI σ 26 (ix x7) → (∀ y19 : Int32, y19 = zI σ 0 38 → (∀ y20 : Int32, y20 = x7 + 1 → (K50 σ x1 x2 x3 y18 x8 y19 y20))))
def VL_X1_gain_50 (Thr : Nat → ZS → Prop) (Ret : Int32 → ZS → Prop) : Nat → ZS → Int32 → Int32 → Int32 → Int32 → Int32 → Int32 → Int32 → Prop
  | 0 => fun _ _ _ _ _ _ _ _ => False
  | k + 1 => fun σ x1 x2 x3 x4 x5 x6 x7 =>
    let K50 := VL_X1_gain_50 Thr Ret k
    ((x7 < x3 → (wp_X1_tries σ ((1 : Int32) <<< (x7 &&& 31)) (fun σ13 => wp_X1_staying σ13 x1 (fun r14 σ15 => ((x5 < r14 → (∀ y16 : Int32, y16 = x7 + 1 → (K50 σ15 x1 x2 x3 x4 x5 x6 y16))) ∧ (¬ x5 < r14 → (((r14 = x5 → ((((zI σ15 0 38) < x6 → (V_X1_gain_97 K50 Thr Ret σ15 x1 x2 x3 x7 r14)) ∧ (¬ (zI σ15 0 38) < x6 → (∀ y21 : Int32, y21 = x7 + 1 → (K50 σ15 x1 x2 x3 x4 x5 x6 y21)))))) ∧ (¬ r14 = x5 → (V_X1_gain_97 K50 Thr Ret σ15 x1 x2 x3 x7 r14)))))))))) ∧ (¬ x7 < x3 → (wp_X1_tries σ 0 (fun σ11 => ((x2 = 0 → (Ret x4 σ11)) ∧ (¬ x2 = 0 → (Ret x6 σ11)))))))
def V_X1_gain_50 (Thr : Nat → ZS → Prop) (Ret : Int32 → ZS → Prop) (σ : ZS) (x1 : Int32) (x2 : Int32) (x3 : Int32) (x4 : Int32) (x5 : Int32) (x6 : Int32) (x7 : Int32) : Prop := ∃ k, VL_X1_gain_50 Thr Ret k σ x1 x2 x3 x4 x5 x6 x7
def V_X1_gain_22 (Thr : Nat → ZS → Prop) (Ret : Int32 → ZS → Prop) (σ : ZS) (x1 : Int32) (x2 : Int32) (s0 : Int32) : Prop :=
    wp_X1_need σ s0 (fun x σ => Thr x σ) (fun σ4 => wp_X1_findCandidates σ4 x1 (fun r5 σ6 => wp_X1_staying σ6 x1 (fun r7 σ8 => ∀ y9 : Int32, y9 = zI σ8 0 38 → (V_X1_gain_50 Thr Ret σ8 x1 x2 r5 (-1) r7 y9 0))))
def V_X1_gain_21 (Thr : Nat → ZS → Prop) (Ret : Int32 → ZS → Prop) (σ : ZS) (x1 : Int32) (x2 : Int32) : Prop :=
    V_X1_gain_22 Thr Ret σ x1 x2 0
def V_X1_gain_17 (Thr : Nat → ZS → Prop) (Ret : Int32 → ZS → Prop) (σ : ZS) (x1 : Int32) (x2 : Int32) : Prop :=
    V_X1_gain_22 Thr Ret σ x1 x2 1
def wp_X1_gain (σ : ZS) (a1 : Int32) (a2 : Int32) (Thr : Nat → ZS → Prop) (Ret : Int32 → ZS → Prop) : Prop :=
    wp_X1_isTime σ a1 (fun r1 σ2 => ((r1 = 0 → (V_X1_gain_21 Thr Ret σ2 a1 a2)) ∧ (¬ r1 = 0 → (((a2 = 0 → (V_X1_gain_17 Thr Ret σ2 a1 a2)) ∧ (¬ a2 = 0 → (((a2 = 1 → (V_X1_gain_17 Thr Ret σ2 a1 a2)) ∧ (¬ a2 = 1 → (V_X1_gain_21 Thr Ret σ2 a1 a2))))))))))
set_option maxHeartbeats 4000000 in
theorem mz_X1_gain {l : Launch} {E : ZE} (hE : EOK E) {σ : ZS} {a1 : Int32} {a2 : Int32} {Thr : Nat → ZS → Prop} {Ret : Int32 → ZS → Prop} (hV : wp_X1_gain σ a1 a2 Thr Ret) : MZ l E NS yX1_gain (ws_ yX1_gain cX1_gain 9 (some .int)) 11 σ [.ref (E.1.heap.size + 0), .int a1, .int a2] (rT E.1.heap.size (rI Ret) Thr) := by
  refine MZ.start (L := [some (.ref (E.1.heap.size + 0)), some (.int a1), some (.int a2), none, none, none, none, none, none]) hE (by decide) (Nat.le_of_ble_eq_true rfl) rfl fun C hCl hQo hC => ?_
  replace hC : Cx C E cX1_gain 9 "RightTurns" "gain" (some .int) [] 11 := hC
  unfold wp_X1_gain at hV
  have j_50 : ∀ (σ : ZS) (x1 : Int32) (x2 : Int32) (x3 : Int32) (x4 : Int32) (x5 : Int32) (x6 : Int32) (x7 : Int32), V_X1_gain_50 Thr Ret σ x1 x2 x3 x4 x5 x6 x7 → zz C E NS 9 σ 50 [some (.ref (E.1.heap.size + 0)), some (.int x1), some (.int x2), some (.int x3), some (.int x4), some (.int x5), some (.int x6), some (.int x7), none] [] := by
    intro σ x1 x2 x3 x4 x5 x6 x7 ⟨k, hV⟩
    revert σ x1 x2 x3 x4 x5 x6 x7
    induction k with
    | zero => exact fun _ _ _ _ _ _ _ _ hV => hV.elim
    | succ k j_50 =>
      intro σ x1 x2 x3 x4 x5 x6 x7 hV
      simp only [VL_X1_gain_50] at hV
      generalize hKe50 : VL_X1_gain_50 Thr Ret k = K50 at hV j_50
      clear hKe50
      have j_97 : ∀ (σ : ZS) (x1 : Int32) (x2 : Int32) (x3 : Int32) (x7 : Int32) (x8 : Int32), V_X1_gain_97 K50 Thr Ret σ x1 x2 x3 x7 x8 → zz C E NS 9 σ 97 [some (.ref (E.1.heap.size + 0)), some (.int x1), some (.int x2), some (.int x3), none, none, none, some (.int x7), some (.int x8)] [] := by
        intro σ x1 x2 x3 x7 x8 hV
        unfold V_X1_gain_97 at hV
        refine z_aload_n hC dX1_gain_97 rfl rfl ?_
        refine g_X1_62_0 hC dX1_gain_98 ?_
        refine z_iload hC dX1_gain_101 rfl ?_
        obtain ⟨h17, hV⟩ := hV
        refine z_iald hC dX1_gain_103 (k_26 _) (h17) ?_
        obtain ⟨y18, e_y18⟩ : ∃ z, z = zI σ 26 (ix x7) := ⟨_, rfl⟩
        rw [← e_y18]
        replace hV := hV _ e_y18
        refine z_istore hC dX1_gain_104 (Nat.le_of_ble_eq_true rfl) rfl rfl ?_
        refine z_iload hC dX1_gain_106 rfl ?_
        refine z_istore hC dX1_gain_108 (Nat.le_of_ble_eq_true rfl) rfl rfl ?_
        refine z_aload_n hC dX1_gain_110 rfl rfl ?_
        refine g_X1_415_0 hC dX1_gain_111 ?_
        obtain ⟨y19, e_y19⟩ : ∃ z, z = zI σ 0 38 := ⟨_, rfl⟩
        rw [← e_y19]
        replace hV := hV _ e_y19
        refine z_istore hC dX1_gain_114 (Nat.le_of_ble_eq_true rfl) rfl rfl ?_
        obtain ⟨y20, e_y20⟩ : ∃ z : Int32, z = x7 + 1 := ⟨_, rfl⟩
        replace hV := hV _ e_y20
        refine z_iinc (v := y20) hC dX1_gain_116 rfl (by rw [e_y20]; rfl) (Nat.le_of_ble_eq_true rfl) rfl rfl ?_
        refine z_goto (tgt := 50) hC dX1_gain_119 (by decide) ?_
        refine zz_sub (L' := [some (.ref (E.1.heap.size + 0)), some (.int x1), some (.int x2), some (.int x3), some (.int y18), some (.int x8), some (.int y19), some (.int y20), none]) ⟨rfl, rfl, rfl, rfl, rfl, rfl, rfl, rfl, trivial⟩ ?_
        exact j_50 σ x1 x2 x3 y18 x8 y19 y20 hV
      refine z_iload hC dX1_gain_50 rfl ?_
      refine z_iload_n hC dX1_gain_52 rfl rfl ?_
      refine z_icmp_ge (tgt := 122) hC dX1_gain_53 (by decide) (fun hc => ?_) (fun hc => ?_)
      · replace hV := hV.2 hc
        refine z_aload_n hC dX1_gain_122 rfl rfl ?_
        refine z_iconst (v := 0) hC dX1_gain_123 rfl ?_
        refine c_X1_347 hC (by decide) dX1_gain_124 (Nat.le_of_ble_eq_true rfl) hV (fun σ11 hV => ?_)
        refine z_iload_n hC dX1_gain_127 rfl rfl ?_
        refine z_if_ne (tgt := 136) hC dX1_gain_128 (by decide) (fun hc => ?_) (fun hc => ?_)
        · replace hV := hV.2 hc
          refine z_iload hC dX1_gain_136 rfl ?_
          exact z_iret hC dX1_gain_138 rfl (by rw [hQo]; exact Or.inl ⟨_, rfl, hV⟩)
        · replace hV := hV.1 hc
          refine z_iload hC dX1_gain_131 rfl ?_
          refine z_goto (tgt := 138) hC dX1_gain_133 (by decide) ?_
          exact z_iret hC dX1_gain_138 rfl (by rw [hQo]; exact Or.inl ⟨_, rfl, hV⟩)
      · replace hV := hV.1 hc
        refine z_aload_n hC dX1_gain_56 rfl rfl ?_
        refine z_iconst (v := 1) hC dX1_gain_57 rfl ?_
        refine z_iload hC dX1_gain_58 rfl ?_
        refine z_ishl hC dX1_gain_60 ?_
        refine c_X1_347 hC (by decide) dX1_gain_61 (Nat.le_of_ble_eq_true rfl) hV (fun σ13 hV => ?_)
        refine z_aload_n hC dX1_gain_64 rfl rfl ?_
        refine z_iload_n hC dX1_gain_65 rfl rfl ?_
        refine c_X1_418 hC (by decide) dX1_gain_66 (Nat.le_of_ble_eq_true rfl) hV (fun r14 σ15 hV => ?_)
        refine z_istore hC dX1_gain_69 (Nat.le_of_ble_eq_true rfl) rfl rfl ?_
        refine z_iload hC dX1_gain_71 rfl ?_
        refine z_iload hC dX1_gain_73 rfl ?_
        refine z_icmp_gt (tgt := 116) hC dX1_gain_75 (by decide) (fun hc => ?_) (fun hc => ?_)
        · replace hV := hV.1 hc
          obtain ⟨y16, e_y16⟩ : ∃ z : Int32, z = x7 + 1 := ⟨_, rfl⟩
          replace hV := hV _ e_y16
          refine z_iinc (v := y16) hC dX1_gain_116 rfl (by rw [e_y16]; rfl) (Nat.le_of_ble_eq_true rfl) rfl rfl ?_
          refine z_goto (tgt := 50) hC dX1_gain_119 (by decide) ?_
          refine zz_sub (L' := [some (.ref (E.1.heap.size + 0)), some (.int x1), some (.int x2), some (.int x3), some (.int x4), some (.int x5), some (.int x6), some (.int y16), none]) ⟨rfl, rfl, rfl, rfl, rfl, rfl, rfl, rfl, trivial⟩ ?_
          exact j_50 σ15 x1 x2 x3 x4 x5 x6 y16 hV
        · replace hV := hV.2 hc
          refine z_iload hC dX1_gain_78 rfl ?_
          refine z_iload hC dX1_gain_80 rfl ?_
          refine z_icmp_ne (tgt := 97) hC dX1_gain_82 (by decide) (fun hc => ?_) (fun hc => ?_)
          · replace hV := hV.2 hc
            refine zz_sub (L' := [some (.ref (E.1.heap.size + 0)), some (.int x1), some (.int x2), some (.int x3), none, none, none, some (.int x7), some (.int r14)]) ⟨rfl, rfl, rfl, rfl, rfl, rfl, trivial⟩ ?_
            exact j_97 σ15 x1 x2 x3 x7 r14 hV
          · replace hV := hV.1 hc
            refine z_aload_n hC dX1_gain_85 rfl rfl ?_
            refine g_X1_415_0 hC dX1_gain_86 ?_
            refine z_iload hC dX1_gain_89 rfl ?_
            refine z_icmp_lt (tgt := 97) hC dX1_gain_91 (by decide) (fun hc => ?_) (fun hc => ?_)
            · replace hV := hV.1 hc
              refine zz_sub (L' := [some (.ref (E.1.heap.size + 0)), some (.int x1), some (.int x2), some (.int x3), none, none, none, some (.int x7), some (.int r14)]) ⟨rfl, rfl, rfl, rfl, rfl, rfl, trivial⟩ ?_
              exact j_97 σ15 x1 x2 x3 x7 r14 hV
            · replace hV := hV.2 hc
              refine z_goto (tgt := 116) hC dX1_gain_94 (by decide) ?_
              obtain ⟨y21, e_y21⟩ : ∃ z : Int32, z = x7 + 1 := ⟨_, rfl⟩
              replace hV := hV _ e_y21
              refine z_iinc (v := y21) hC dX1_gain_116 rfl (by rw [e_y21]; rfl) (Nat.le_of_ble_eq_true rfl) rfl rfl ?_
              refine z_goto (tgt := 50) hC dX1_gain_119 (by decide) ?_
              refine zz_sub (L' := [some (.ref (E.1.heap.size + 0)), some (.int x1), some (.int x2), some (.int x3), some (.int x4), some (.int x5), some (.int x6), some (.int y21), none]) ⟨rfl, rfl, rfl, rfl, rfl, rfl, rfl, rfl, trivial⟩ ?_
              exact j_50 σ15 x1 x2 x3 x4 x5 x6 y21 hV
  have j_22 : ∀ (σ : ZS) (x1 : Int32) (x2 : Int32) (s0 : Int32), V_X1_gain_22 Thr Ret σ x1 x2 s0 → zz C E NS 9 σ 22 [some (.ref (E.1.heap.size + 0)), some (.int x1), some (.int x2), none, none, none, none, none, none] [.int s0] := by
    intro σ x1 x2 s0 hV
    unfold V_X1_gain_22 at hV
    refine c_X1_164 hC (by decide) dX1_gain_22 (Nat.le_of_ble_eq_true rfl) hV (fun σ4 hV => ?_) (fun x σ hV => zth_out hC (by rw [hQo]; exact Or.inr ⟨_, rfl, hV⟩))
    refine z_aload_n hC dX1_gain_25 rfl rfl ?_
    refine z_iload_n hC dX1_gain_26 rfl rfl ?_
    refine c_X1_338 hC (by decide) dX1_gain_27 (Nat.le_of_ble_eq_true rfl) hV (fun r5 σ6 hV => ?_)
    refine z_istore_n hC dX1_gain_30 rfl (Nat.le_of_ble_eq_true rfl) rfl rfl ?_
    refine z_iconst (v := (-1)) hC dX1_gain_31 rfl ?_
    refine z_istore hC dX1_gain_32 (Nat.le_of_ble_eq_true rfl) rfl rfl ?_
    refine z_aload_n hC dX1_gain_34 rfl rfl ?_
    refine z_iload_n hC dX1_gain_35 rfl rfl ?_
    refine c_X1_418 hC (by decide) dX1_gain_36 (Nat.le_of_ble_eq_true rfl) hV (fun r7 σ8 hV => ?_)
    refine z_istore hC dX1_gain_39 (Nat.le_of_ble_eq_true rfl) rfl rfl ?_
    refine z_aload_n hC dX1_gain_41 rfl rfl ?_
    refine g_X1_415_0 hC dX1_gain_42 ?_
    obtain ⟨y9, e_y9⟩ : ∃ z, z = zI σ8 0 38 := ⟨_, rfl⟩
    rw [← e_y9]
    replace hV := hV _ e_y9
    refine z_istore hC dX1_gain_45 (Nat.le_of_ble_eq_true rfl) rfl rfl ?_
    refine z_iconst (v := 0) hC dX1_gain_47 rfl ?_
    refine z_istore hC dX1_gain_48 (Nat.le_of_ble_eq_true rfl) rfl rfl ?_
    refine zz_sub (L' := [some (.ref (E.1.heap.size + 0)), some (.int x1), some (.int x2), some (.int r5), some (.int (-1)), some (.int r7), some (.int y9), some (.int 0), none]) ⟨rfl, rfl, rfl, rfl, rfl, rfl, rfl, rfl, trivial⟩ ?_
    exact j_50 σ8 x1 x2 r5 (-1) r7 y9 0 hV
  have j_21 : ∀ (σ : ZS) (x1 : Int32) (x2 : Int32), V_X1_gain_21 Thr Ret σ x1 x2 → zz C E NS 9 σ 21 [some (.ref (E.1.heap.size + 0)), some (.int x1), some (.int x2), none, none, none, none, none, none] [] := by
    intro σ x1 x2 hV
    unfold V_X1_gain_21 at hV
    refine z_iconst (v := 0) hC dX1_gain_21 rfl ?_
    refine zz_sub (L' := [some (.ref (E.1.heap.size + 0)), some (.int x1), some (.int x2), none, none, none, none, none, none]) ⟨rfl, rfl, rfl, trivial⟩ ?_
    exact j_22 σ x1 x2 0 hV
  have j_17 : ∀ (σ : ZS) (x1 : Int32) (x2 : Int32), V_X1_gain_17 Thr Ret σ x1 x2 → zz C E NS 9 σ 17 [some (.ref (E.1.heap.size + 0)), some (.int x1), some (.int x2), none, none, none, none, none, none] [] := by
    intro σ x1 x2 hV
    unfold V_X1_gain_17 at hV
    refine z_iconst (v := 1) hC dX1_gain_17 rfl ?_
    refine z_goto (tgt := 22) hC dX1_gain_18 (by decide) ?_
    refine zz_sub (L' := [some (.ref (E.1.heap.size + 0)), some (.int x1), some (.int x2), none, none, none, none, none, none]) ⟨rfl, rfl, rfl, trivial⟩ ?_
    exact j_22 σ x1 x2 1 hV
  refine z_aload_n hC dX1_gain_0 rfl rfl ?_
  refine z_iload_n hC dX1_gain_1 rfl rfl ?_
  refine c_X1_254 hC (by decide) dX1_gain_2 (Nat.le_of_ble_eq_true rfl) hV (fun r1 σ2 hV => ?_)
  refine z_if_eq (tgt := 21) hC dX1_gain_5 (by decide) (fun hc => ?_) (fun hc => ?_)
  · replace hV := hV.1 hc
    refine zz_sub (L' := [some (.ref (E.1.heap.size + 0)), some (.int a1), some (.int a2), none, none, none, none, none, none]) ⟨rfl, rfl, rfl, trivial⟩ ?_
    exact j_21 σ2 a1 a2 hV
  · replace hV := hV.2 hc
    refine z_iload_n hC dX1_gain_8 rfl rfl ?_
    refine z_if_eq (tgt := 17) hC dX1_gain_9 (by decide) (fun hc => ?_) (fun hc => ?_)
    · replace hV := hV.1 hc
      refine zz_sub (L' := [some (.ref (E.1.heap.size + 0)), some (.int a1), some (.int a2), none, none, none, none, none, none]) ⟨rfl, rfl, rfl, trivial⟩ ?_
      exact j_17 σ2 a1 a2 hV
    · replace hV := hV.2 hc
      refine z_iload_n hC dX1_gain_12 rfl rfl ?_
      refine z_iconst (v := 1) hC dX1_gain_13 rfl ?_
      refine z_icmp_ne (tgt := 21) hC dX1_gain_14 (by decide) (fun hc => ?_) (fun hc => ?_)
      · replace hV := hV.2 hc
        refine zz_sub (L' := [some (.ref (E.1.heap.size + 0)), some (.int a1), some (.int a2), none, none, none, none, none, none]) ⟨rfl, rfl, rfl, trivial⟩ ?_
        exact j_21 σ2 a1 a2 hV
      · replace hV := hV.1 hc
        refine zz_sub (L' := [some (.ref (E.1.heap.size + 0)), some (.int a1), some (.int a2), none, none, none, none, none, none]) ⟨rfl, rfl, rfl, trivial⟩ ?_
        exact j_17 σ2 a1 a2 hV
theorem cw_X1_goes : CodeW yX1_goes (ws_ yX1_goes cX1_goes 3 none) 3 := ⟨fun w h => (List.mem_cons.mp h).elim (fun e => e ▸ q1471) id, Or.inl ⟨_, _, q1471⟩, q116, by decide, by decide⟩
theorem c_X1_391 {C : ZC} {E : ZE} {cc : ByteArray} {nL pc d : Nat} {nm : String} {ret : Option FieldType} {hh : List (Nat × Nat × Nat × Nat)} {σ : ZS} {L : List (Option Value)} {st : List Value} {Ret : ZS → Prop} (hC : Cx C E cc nL "RightTurns" nm ret hh d) (hdd : 12 + 1 ≤ d) (hd : decode cc pc = .ok (.invokevirtual 391, 3)) (hW : (st.map fun v => v.category).sum ≤ 8) (hV : wp_X1_goes σ Ret) (k : ∀ σ', Ret σ' → zz C E NS nL σ' (pc + 3) L st) : zz C E NS nL σ pc L (.ref (E.1.heap.size + 0) :: st) :=
  z_callVG hC cf0 cw_X1_goes hdd (by decide) (mz_X1_goes (cxE hC) hV) hd (k_0 σ) q1468 q1470 qs40 (np := 0) rfl rfl hW rfl (kV k)
def V_X1_home_23 (Thr : Nat → ZS → Prop) (Ret : Int32 → ZS → Prop) (σ : ZS) (x1 : Int32) (s0 : Int32) : Prop :=
    wp_X1_need σ s0 (fun x σ => Thr x σ) (fun σ2 => wp_X1_goes σ2 (fun σ4 => vp_in x1 12 ∧ (Ret (zI σ4 37 (ix x1)) σ4)))
def V_X1_home_22 (Thr : Nat → ZS → Prop) (Ret : Int32 → ZS → Prop) (σ : ZS) (x1 : Int32) : Prop :=
    V_X1_home_23 Thr Ret σ x1 0
def wp_X1_home (σ : ZS) (a1 : Int32) (Thr : Nat → ZS → Prop) (Ret : Int32 → ZS → Prop) : Prop :=
    ((a1 < 0 → (V_X1_home_22 Thr Ret σ a1)) ∧ (¬ a1 < 0 → ((zP σ 0 0) = some (.inl (zo (zP σ 0 0))) ∧ ((∃ n8, kK NS σ (zo (zP σ 0 0)) = (8, n8)) ∧ ((kP NS σ (zo (zP σ 0 0)) 2) = some (.inl (zo (kP NS σ (zo (zP σ 0 0)) 2))) ∧ ((∃ n13, kK NS σ (zo (kP NS σ (zo (zP σ 0 0)) 2)) = (16, n13)) ∧ (wp_J2_size σ (zo (kP NS σ (zo (zP σ 0 0)) 2)) (fun r10 σ11 => ((a1 < r10 → (V_X1_home_23 Thr Ret σ11 a1 1)) ∧ (¬ a1 < r10 → (V_X1_home_22 Thr Ret σ11 a1)))))))))))
set_option maxHeartbeats 4000000 in
theorem mz_X1_home {l : Launch} {E : ZE} (hE : EOK E) {σ : ZS} {a1 : Int32} {Thr : Nat → ZS → Prop} {Ret : Int32 → ZS → Prop} (hV : wp_X1_home σ a1 Thr Ret) : MZ l E NS yX1_home (ws_ yX1_home cX1_home 2 (some .int)) 13 σ [.ref (E.1.heap.size + 0), .int a1] (rT E.1.heap.size (rI Ret) Thr) := by
  refine MZ.start (L := [some (.ref (E.1.heap.size + 0)), some (.int a1)]) hE (by decide) (Nat.le_of_ble_eq_true rfl) rfl fun C hCl hQo hC => ?_
  replace hC : Cx C E cX1_home 2 "RightTurns" "home" (some .int) [] 13 := hC
  unfold wp_X1_home at hV
  have j_23 : ∀ (σ : ZS) (x1 : Int32) (s0 : Int32), V_X1_home_23 Thr Ret σ x1 s0 → zz C E NS 2 σ 23 [some (.ref (E.1.heap.size + 0)), some (.int x1)] [.int s0] := by
    intro σ x1 s0 hV
    unfold V_X1_home_23 at hV
    refine c_X1_164 hC (by decide) dX1_home_23 (Nat.le_of_ble_eq_true rfl) hV (fun σ2 hV => ?_) (fun x σ hV => zth_out hC (by rw [hQo]; exact Or.inr ⟨_, rfl, hV⟩))
    refine z_aload_n hC dX1_home_26 rfl rfl ?_
    refine c_X1_391 hC (by decide) dX1_home_27 (Nat.le_of_ble_eq_true rfl) hV (fun σ4 hV => ?_)
    refine z_aload_n hC dX1_home_30 rfl rfl ?_
    refine g_X1_96_0 hC dX1_home_31 ?_
    refine z_iload_n hC dX1_home_34 rfl rfl ?_
    obtain ⟨h5, hV⟩ := hV
    refine z_iald hC dX1_home_35 (k_37 _) (h5) ?_
    exact z_iret hC dX1_home_36 rfl (by rw [hQo]; exact Or.inl ⟨_, rfl, hV⟩)
  have j_22 : ∀ (σ : ZS) (x1 : Int32), V_X1_home_22 Thr Ret σ x1 → zz C E NS 2 σ 22 [some (.ref (E.1.heap.size + 0)), some (.int x1)] [] := by
    intro σ x1 hV
    unfold V_X1_home_22 at hV
    refine z_iconst (v := 0) hC dX1_home_22 rfl ?_
    refine zz_sub (L' := [some (.ref (E.1.heap.size + 0)), some (.int x1)]) ⟨rfl, rfl, trivial⟩ ?_
    exact j_23 σ x1 0 hV
  refine z_iload_n hC dX1_home_0 rfl rfl ?_
  refine z_if_lt (tgt := 22) hC dX1_home_1 (by decide) (fun hc => ?_) (fun hc => ?_)
  · replace hV := hV.1 hc
    refine zz_sub (L' := [some (.ref (E.1.heap.size + 0)), some (.int a1)]) ⟨rfl, rfl, trivial⟩ ?_
    exact j_22 σ a1 hV
  · replace hV := hV.2 hc
    refine z_iload_n hC dX1_home_4 rfl rfl ?_
    refine z_aload_n hC dX1_home_5 rfl rfl ?_
    refine g_X1_12_0 hC dX1_home_6 ?_
    obtain ⟨h6, hV⟩ := hV
    refine zz_at rfl (by rw [pvo h6]) ?_
    obtain ⟨⟨n8, h7⟩, hV⟩ := hV
    refine g_X1_214_c1 hC dX1_home_9 h7 ?_
    obtain ⟨h9, hV⟩ := hV
    refine zz_at rfl (by rw [pvo h9]) ?_
    obtain ⟨⟨n13, h12⟩, hV⟩ := hV
    refine c_X1_127 hC (by decide) dX1_home_12 (Nat.le_of_ble_eq_true rfl) h12 hV (fun r10 σ11 hV => ?_)
    refine z_icmp_ge (tgt := 22) hC dX1_home_15 (by decide) (fun hc => ?_) (fun hc => ?_)
    · replace hV := hV.2 hc
      refine zz_sub (L' := [some (.ref (E.1.heap.size + 0)), some (.int a1)]) ⟨rfl, rfl, trivial⟩ ?_
      exact j_22 σ11 a1 hV
    · replace hV := hV.1 hc
      refine z_iconst (v := 1) hC dX1_home_18 rfl ?_
      refine z_goto (tgt := 23) hC dX1_home_19 (by decide) ?_
      refine zz_sub (L' := [some (.ref (E.1.heap.size + 0)), some (.int a1)]) ⟨rfl, rfl, trivial⟩ ?_
      exact j_23 σ11 a1 1 hV
def wp_X1_needArc (σ : ZS) (a1 : Int32) (Thr : Nat → ZS → Prop) (Ret : ZS → Prop) : Prop :=
    (zP σ 0 0) = some (.inl (zo (zP σ 0 0))) ∧ ((∃ n5, kK NS σ (zo (zP σ 0 0)) = (8, n5)) ∧ (wp_X2_isArc σ (zo (zP σ 0 0)) a1 (fun r2 σ3 => ((r2 = 0 → ((NS ≤ zt σ3 ∧ zt σ3 + 1 ≤ NB ∧ zn σ3 + 6 ≤ SB) ∧ (∀ σ7 : ZS, exc (sA σ3 (20, 0) 6) (zt σ3) σ7 → (Thr (zt σ3) σ7)))) ∧ (¬ r2 = 0 → (Ret σ3))))))
set_option maxHeartbeats 4000000 in
theorem mz_X1_needArc {l : Launch} {E : ZE} (hE : EOK E) {σ : ZS} {a1 : Int32} {Thr : Nat → ZS → Prop} {Ret : ZS → Prop} (hV : wp_X1_needArc σ a1 Thr Ret) : MZ l E NS yX1_needArc (ws_ yX1_needArc cX1_needArc 2 none) 6 σ [.ref (E.1.heap.size + 0), .int a1] (rT E.1.heap.size (rV Ret) Thr) := by
  refine MZ.start (L := [some (.ref (E.1.heap.size + 0)), some (.int a1)]) hE (by decide) (Nat.le_of_ble_eq_true rfl) rfl fun C hCl hQo hC => ?_
  replace hC : Cx C E cX1_needArc 2 "RightTurns" "needArc" none [] 6 := hC
  unfold wp_X1_needArc at hV
  refine z_aload_n hC dX1_needArc_0 rfl rfl ?_
  refine g_X1_12_0 hC dX1_needArc_1 ?_
  obtain ⟨h1, hV⟩ := hV
  refine zz_at rfl (by rw [pvo h1]) ?_
  refine z_iload_n hC dX1_needArc_4 rfl rfl ?_
  obtain ⟨⟨n5, h4⟩, hV⟩ := hV
  refine c_X1_150 hC (by decide) dX1_needArc_5 (Nat.le_of_ble_eq_true rfl) h4 hV (fun r2 σ3 hV => ?_)
  refine z_if_ne (tgt := 19) hC dX1_needArc_8 (by decide) (fun hc => ?_) (fun hc => ?_)
  · replace hV := hV.2 hc
    exact z_vret hC dX1_needArc_19 (by rw [hQo]; exact Or.inl ⟨rfl, hV⟩)
  · replace hV := hV.1 hc
    obtain ⟨h6, hV⟩ := hV
    refine z_excG cf13 hC dX1_needArc_11 dX1_needArc_14 dX1_needArc_15 q1156 q1157 q145 dv_13 q1165 (by decide +kernel) (fun _ _ h => ch_at13 h) q1159 q214 q1160 q1161 q1162 q1164 rfl rfl rfl (by decide) h6.1 h6.2.1 h6.2.2 (by decide) (Nat.le_of_ble_eq_true rfl) (fun σ7 h8 => ?_)
    replace hV := hV σ7 h8
    exact z_athrow hC dX1_needArc_18 (zth_out hC (by rw [hQo]; exact Or.inr ⟨_, rfl, hV⟩))
theorem cw_X1_needArc : CodeW yX1_needArc (ws_ yX1_needArc cX1_needArc 2 none) 2 := ⟨fun w h => (List.mem_cons.mp h).elim (fun e => e ▸ q1183) id, Or.inl ⟨_, _, q1183⟩, q116, by decide, by decide⟩
theorem c_X1_237 {C : ZC} {E : ZE} {cc : ByteArray} {nL pc d : Nat} {nm : String} {ret : Option FieldType} {hh : List (Nat × Nat × Nat × Nat)} {σ : ZS} {L : List (Option Value)} {st : List Value} {a1 : Int32} {Ret : ZS → Prop} {Thr : Nat → ZS → Prop} (hC : Cx C E cc nL "RightTurns" nm ret hh d) (hdd : 6 + 1 ≤ d) (hd : decode cc pc = .ok (.invokevirtual 237, 3)) (hW : (st.map fun v => v.category).sum ≤ 8) (hV : wp_X1_needArc σ a1 Thr Ret) (k : ∀ σ', Ret σ' → zz C E NS nL σ' (pc + 3) L st) (kt : ∀ a σ', Thr a σ' → zth C E NS nL σ' pc L st (E.1.heap.size + a)) : zz C E NS nL σ pc L (.int a1 :: .ref (E.1.heap.size + 0) :: st) :=
  z_callVG hC cf0 cw_X1_needArc hdd (by decide) (mz_X1_needArc (cxE hC) hV) hd (k_0 σ) q1180 q1182 qs16 (np := 1) rfl rfl hW rfl (kT (kV k) kt)
def wp_X1_may (σ : ZS) (a1 : Int32) (a2 : Int32) (a3 : Int32) (Thr : Nat → ZS → Prop) (Ret : Int32 → ZS → Prop) : Prop :=
    wp_X1_needArc σ a1 (fun x σ => Thr x σ) (fun σ2 => wp_X1_needArc σ2 a2 (fun x σ => Thr x σ) (fun σ4 => wp_X1_isTime σ4 a3 (fun r5 σ6 => wp_X1_need σ6 r5 (fun x σ => Thr x σ) (fun σ8 => wp_X1_mayRide σ8 a1 a2 a3 (fun r9 σ10 => isB r9 ∧ (Ret r9 σ10))))))
set_option maxHeartbeats 4000000 in
theorem mz_X1_may {l : Launch} {E : ZE} (hE : EOK E) {σ : ZS} {a1 : Int32} {a2 : Int32} {a3 : Int32} {Thr : Nat → ZS → Prop} {Ret : Int32 → ZS → Prop} (hV : wp_X1_may σ a1 a2 a3 Thr Ret) : MZ l E NS yX1_may (ws_ yX1_may cX1_may 4 (some .boolean)) 8 σ [.ref (E.1.heap.size + 0), .int a1, .int a2, .int a3] (rT E.1.heap.size (rI Ret) Thr) := by
  refine MZ.start (L := [some (.ref (E.1.heap.size + 0)), some (.int a1), some (.int a2), some (.int a3)]) hE (by decide) (Nat.le_of_ble_eq_true rfl) rfl fun C hCl hQo hC => ?_
  replace hC : Cx C E cX1_may 4 "RightTurns" "may" (some .boolean) [] 8 := hC
  unfold wp_X1_may at hV
  refine z_aload_n hC dX1_may_0 rfl rfl ?_
  refine z_iload_n hC dX1_may_1 rfl rfl ?_
  refine c_X1_237 hC (by decide) dX1_may_2 (Nat.le_of_ble_eq_true rfl) hV (fun σ2 hV => ?_) (fun x σ hV => zth_out hC (by rw [hQo]; exact Or.inr ⟨_, rfl, hV⟩))
  refine z_aload_n hC dX1_may_5 rfl rfl ?_
  refine z_iload_n hC dX1_may_6 rfl rfl ?_
  refine c_X1_237 hC (by decide) dX1_may_7 (Nat.le_of_ble_eq_true rfl) hV (fun σ4 hV => ?_) (fun x σ hV => zth_out hC (by rw [hQo]; exact Or.inr ⟨_, rfl, hV⟩))
  refine z_aload_n hC dX1_may_10 rfl rfl ?_
  refine z_iload_n hC dX1_may_11 rfl rfl ?_
  refine c_X1_254 hC (by decide) dX1_may_12 (Nat.le_of_ble_eq_true rfl) hV (fun r5 σ6 hV => ?_)
  refine c_X1_164 hC (by decide) dX1_may_15 (Nat.le_of_ble_eq_true rfl) hV (fun σ8 hV => ?_) (fun x σ hV => zth_out hC (by rw [hQo]; exact Or.inr ⟨_, rfl, hV⟩))
  refine z_aload_n hC dX1_may_18 rfl rfl ?_
  refine z_iload_n hC dX1_may_19 rfl rfl ?_
  refine z_iload_n hC dX1_may_20 rfl rfl ?_
  refine z_iload_n hC dX1_may_21 rfl rfl ?_
  refine c_X1_257 hC (by decide) dX1_may_22 (Nat.le_of_ble_eq_true rfl) hV (fun r9 σ10 hV => ?_)
  obtain ⟨h11, hV⟩ := hV
  exact z_iret hC dX1_may_25 h11 (by rw [hQo]; exact Or.inl ⟨_, rfl, hV⟩)
def V_X1_open_22 (Thr : Nat → ZS → Prop) (Ret : Int32 → ZS → Prop) (σ : ZS) (x1 : Int32) (x2 : Int32) (s0 : Int32) : Prop :=
    wp_X1_need σ s0 (fun x σ => Thr x σ) (fun σ4 => ((x2 = 1 → (wp_X1_pairs σ4 x1 (fun r7 σ8 => Ret r7 σ8))) ∧ (¬ x2 = 1 → (wp_X1_isOpen σ4 x1 (fun r5 σ6 => ((r5 = 0 → (Ret 0 σ6)) ∧ (¬ r5 = 0 → (Ret 1 σ6))))))))
def V_X1_open_21 (Thr : Nat → ZS → Prop) (Ret : Int32 → ZS → Prop) (σ : ZS) (x1 : Int32) (x2 : Int32) : Prop :=
    V_X1_open_22 Thr Ret σ x1 x2 0
def V_X1_open_17 (Thr : Nat → ZS → Prop) (Ret : Int32 → ZS → Prop) (σ : ZS) (x1 : Int32) (x2 : Int32) : Prop :=
    V_X1_open_22 Thr Ret σ x1 x2 1
def wp_X1_open (σ : ZS) (a1 : Int32) (a2 : Int32) (Thr : Nat → ZS → Prop) (Ret : Int32 → ZS → Prop) : Prop :=
    wp_X1_isTime σ a1 (fun r1 σ2 => ((r1 = 0 → (V_X1_open_21 Thr Ret σ2 a1 a2)) ∧ (¬ r1 = 0 → (((a2 = 0 → (V_X1_open_17 Thr Ret σ2 a1 a2)) ∧ (¬ a2 = 0 → (((a2 = 1 → (V_X1_open_17 Thr Ret σ2 a1 a2)) ∧ (¬ a2 = 1 → (V_X1_open_21 Thr Ret σ2 a1 a2))))))))))
set_option maxHeartbeats 4000000 in
theorem mz_X1_open {l : Launch} {E : ZE} (hE : EOK E) {σ : ZS} {a1 : Int32} {a2 : Int32} {Thr : Nat → ZS → Prop} {Ret : Int32 → ZS → Prop} (hV : wp_X1_open σ a1 a2 Thr Ret) : MZ l E NS yX1_open (ws_ yX1_open cX1_open 3 (some .int)) 11 σ [.ref (E.1.heap.size + 0), .int a1, .int a2] (rT E.1.heap.size (rI Ret) Thr) := by
  refine MZ.start (L := [some (.ref (E.1.heap.size + 0)), some (.int a1), some (.int a2)]) hE (by decide) (Nat.le_of_ble_eq_true rfl) rfl fun C hCl hQo hC => ?_
  replace hC : Cx C E cX1_open 3 "RightTurns" "open" (some .int) [] 11 := hC
  unfold wp_X1_open at hV
  have j_22 : ∀ (σ : ZS) (x1 : Int32) (x2 : Int32) (s0 : Int32), V_X1_open_22 Thr Ret σ x1 x2 s0 → zz C E NS 3 σ 22 [some (.ref (E.1.heap.size + 0)), some (.int x1), some (.int x2)] [.int s0] := by
    intro σ x1 x2 s0 hV
    unfold V_X1_open_22 at hV
    refine c_X1_164 hC (by decide) dX1_open_22 (Nat.le_of_ble_eq_true rfl) hV (fun σ4 hV => ?_) (fun x σ hV => zth_out hC (by rw [hQo]; exact Or.inr ⟨_, rfl, hV⟩))
    refine z_iload_n hC dX1_open_25 rfl rfl ?_
    refine z_iconst (v := 1) hC dX1_open_26 rfl ?_
    refine z_icmp_ne (tgt := 38) hC dX1_open_27 (by decide) (fun hc => ?_) (fun hc => ?_)
    · replace hV := hV.2 hc
      refine z_aload_n hC dX1_open_38 rfl rfl ?_
      refine z_iload_n hC dX1_open_39 rfl rfl ?_
      refine c_X1_329 hC (by decide) dX1_open_40 (Nat.le_of_ble_eq_true rfl) hV (fun r5 σ6 hV => ?_)
      refine z_if_eq (tgt := 50) hC dX1_open_43 (by decide) (fun hc => ?_) (fun hc => ?_)
      · replace hV := hV.1 hc
        refine z_iconst (v := 0) hC dX1_open_50 rfl ?_
        exact z_iret hC dX1_open_51 rfl (by rw [hQo]; exact Or.inl ⟨_, rfl, hV⟩)
      · replace hV := hV.2 hc
        refine z_iconst (v := 1) hC dX1_open_46 rfl ?_
        refine z_goto (tgt := 51) hC dX1_open_47 (by decide) ?_
        exact z_iret hC dX1_open_51 rfl (by rw [hQo]; exact Or.inl ⟨_, rfl, hV⟩)
    · replace hV := hV.1 hc
      refine z_aload_n hC dX1_open_30 rfl rfl ?_
      refine z_iload_n hC dX1_open_31 rfl rfl ?_
      refine c_X1_326 hC (by decide) dX1_open_32 (Nat.le_of_ble_eq_true rfl) hV (fun r7 σ8 hV => ?_)
      refine z_goto (tgt := 51) hC dX1_open_35 (by decide) ?_
      exact z_iret hC dX1_open_51 rfl (by rw [hQo]; exact Or.inl ⟨_, rfl, hV⟩)
  have j_21 : ∀ (σ : ZS) (x1 : Int32) (x2 : Int32), V_X1_open_21 Thr Ret σ x1 x2 → zz C E NS 3 σ 21 [some (.ref (E.1.heap.size + 0)), some (.int x1), some (.int x2)] [] := by
    intro σ x1 x2 hV
    unfold V_X1_open_21 at hV
    refine z_iconst (v := 0) hC dX1_open_21 rfl ?_
    refine zz_sub (L' := [some (.ref (E.1.heap.size + 0)), some (.int x1), some (.int x2)]) ⟨rfl, rfl, rfl, trivial⟩ ?_
    exact j_22 σ x1 x2 0 hV
  have j_17 : ∀ (σ : ZS) (x1 : Int32) (x2 : Int32), V_X1_open_17 Thr Ret σ x1 x2 → zz C E NS 3 σ 17 [some (.ref (E.1.heap.size + 0)), some (.int x1), some (.int x2)] [] := by
    intro σ x1 x2 hV
    unfold V_X1_open_17 at hV
    refine z_iconst (v := 1) hC dX1_open_17 rfl ?_
    refine z_goto (tgt := 22) hC dX1_open_18 (by decide) ?_
    refine zz_sub (L' := [some (.ref (E.1.heap.size + 0)), some (.int x1), some (.int x2)]) ⟨rfl, rfl, rfl, trivial⟩ ?_
    exact j_22 σ x1 x2 1 hV
  refine z_aload_n hC dX1_open_0 rfl rfl ?_
  refine z_iload_n hC dX1_open_1 rfl rfl ?_
  refine c_X1_254 hC (by decide) dX1_open_2 (Nat.le_of_ble_eq_true rfl) hV (fun r1 σ2 hV => ?_)
  refine z_if_eq (tgt := 21) hC dX1_open_5 (by decide) (fun hc => ?_) (fun hc => ?_)
  · replace hV := hV.1 hc
    refine zz_sub (L' := [some (.ref (E.1.heap.size + 0)), some (.int a1), some (.int a2)]) ⟨rfl, rfl, rfl, trivial⟩ ?_
    exact j_21 σ2 a1 a2 hV
  · replace hV := hV.2 hc
    refine z_iload_n hC dX1_open_8 rfl rfl ?_
    refine z_if_eq (tgt := 17) hC dX1_open_9 (by decide) (fun hc => ?_) (fun hc => ?_)
    · replace hV := hV.1 hc
      refine zz_sub (L' := [some (.ref (E.1.heap.size + 0)), some (.int a1), some (.int a2)]) ⟨rfl, rfl, rfl, trivial⟩ ?_
      exact j_17 σ2 a1 a2 hV
    · replace hV := hV.2 hc
      refine z_iload_n hC dX1_open_12 rfl rfl ?_
      refine z_iconst (v := 1) hC dX1_open_13 rfl ?_
      refine z_icmp_ne (tgt := 21) hC dX1_open_14 (by decide) (fun hc => ?_) (fun hc => ?_)
      · replace hV := hV.2 hc
        refine zz_sub (L' := [some (.ref (E.1.heap.size + 0)), some (.int a1), some (.int a2)]) ⟨rfl, rfl, rfl, trivial⟩ ?_
        exact j_21 σ2 a1 a2 hV
      · replace hV := hV.1 hc
        refine zz_sub (L' := [some (.ref (E.1.heap.size + 0)), some (.int a1), some (.int a2)]) ⟨rfl, rfl, rfl, trivial⟩ ?_
        exact j_17 σ2 a1 a2 hV
theorem cw_X1_findParts : CodeW yX1_findParts (ws_ yX1_findParts cX1_findParts 4 none) 4 := ⟨fun w h => (List.mem_cons.mp h).elim (fun e => e ▸ q1356) id, Or.inl ⟨_, _, q1356⟩, q116, by decide, by decide⟩
theorem c_X1_320 {C : ZC} {E : ZE} {cc : ByteArray} {nL pc d : Nat} {nm : String} {ret : Option FieldType} {hh : List (Nat × Nat × Nat × Nat)} {σ : ZS} {L : List (Option Value)} {st : List Value} {a1 : Int32} {Ret : ZS → Prop} (hC : Cx C E cc nL "RightTurns" nm ret hh d) (hdd : 9 + 1 ≤ d) (hd : decode cc pc = .ok (.invokevirtual 320, 3)) (hW : (st.map fun v => v.category).sum ≤ 8) (hV : wp_X1_findParts σ a1 Ret) (k : ∀ σ', Ret σ' → zz C E NS nL σ' (pc + 3) L st) : zz C E NS nL σ pc L (.int a1 :: .ref (E.1.heap.size + 0) :: st) :=
  z_callVG hC cf0 cw_X1_findParts hdd (by decide) (mz_X1_findParts (cxE hC) hV) hd (k_0 σ) q1353 q1355 qs29 (np := 1) rfl rfl hW rfl (kV k)
def VL_X1_parts_74 (K38 : ZS → Int32 → Int32 → Int32 → Int32 → Prop) (Thr : Nat → ZS → Prop) (Ret : Int32 → ZS → Prop) : Nat → ZS → Int32 → Int32 → Int32 → Int32 → Int32 → Int32 → Prop
  | 0 => fun _ _ _ _ _ _ _ => False
  | k + 1 => fun σ x2 x3 x4 x5 x6 x7 =>
    let K74 := VL_X1_parts_74 K38 Thr Ret k
    (zP σ 0 0) = some (.inl (zo (zP σ 0 0))) ∧ ((∃ n18, kK NS σ (zo (zP σ 0 0)) = (8, n18)) ∧ (wp_X2_arcs σ (zo (zP σ 0 0)) (fun r15 σ16 => ((x7 < r15 → (vp_in x7 48 ∧ ((((zI σ16 24 (ix x7)) = x5 → (∀ y25 : Int32, y25 = x6 + 1 → (∀ y26 : Int32, y26 = x7 + 1 → (K74 σ16 x2 x3 x4 x5 y25 y26)))) ∧ (¬ (zI σ16 24 (ix x7)) = x5 → (∀ y23 : Int32, y23 = x6 + 0 → (∀ y24 : Int32, y24 = x7 + 1 → (K74 σ16 x2 x3 x4 x5 y23 y24)))))))) ∧ (¬ x7 < r15 → (∀ y20 : Int32, y20 = (if x4 < x6 then x6 else x4) → (∀ y21 : Int32, y21 = x5 + 1 → (K38 σ16 x2 x3 y20 y21))))))))
def V_X1_parts_74 (K38 : ZS → Int32 → Int32 → Int32 → Int32 → Prop) (Thr : Nat → ZS → Prop) (Ret : Int32 → ZS → Prop) (σ : ZS) (x2 : Int32) (x3 : Int32) (x4 : Int32) (x5 : Int32) (x6 : Int32) (x7 : Int32) : Prop := ∃ k, VL_X1_parts_74 K38 Thr Ret k σ x2 x3 x4 x5 x6 x7
def VL_X1_parts_38 (Thr : Nat → ZS → Prop) (Ret : Int32 → ZS → Prop) : Nat → ZS → Int32 → Int32 → Int32 → Int32 → Prop
  | 0 => fun _ _ _ _ _ => False
  | k + 1 => fun σ x2 x3 x4 x5 =>
    let K38 := VL_X1_parts_38 Thr Ret k
    (zP σ 0 0) = some (.inl (zo (zP σ 0 0))) ∧ ((∃ n11, kK NS σ (zo (zP σ 0 0)) = (8, n11)) ∧ (wp_X2_arcs σ (zo (zP σ 0 0)) (fun r8 σ9 => ((x5 < r8 → (vp_in x5 48 ∧ ((((zI σ9 24 (ix x5)) = x5 → (∀ y13 : Int32, y13 = x3 + 1 → (V_X1_parts_74 K38 Thr Ret σ9 x2 y13 x4 x5 0 0))) ∧ (¬ (zI σ9 24 (ix x5)) = x5 → (∀ y27 : Int32, y27 = x5 + 1 → (K38 σ9 x2 x3 x4 y27))))))) ∧ (¬ x5 < r8 → (((x2 = 0 → (Ret x3 σ9)) ∧ (¬ x2 = 0 → (Ret x4 σ9)))))))))
def V_X1_parts_38 (Thr : Nat → ZS → Prop) (Ret : Int32 → ZS → Prop) (σ : ZS) (x2 : Int32) (x3 : Int32) (x4 : Int32) (x5 : Int32) : Prop := ∃ k, VL_X1_parts_38 Thr Ret k σ x2 x3 x4 x5
def V_X1_parts_22 (Thr : Nat → ZS → Prop) (Ret : Int32 → ZS → Prop) (σ : ZS) (x1 : Int32) (x2 : Int32) (s0 : Int32) : Prop :=
    wp_X1_need σ s0 (fun x σ => Thr x σ) (fun σ4 => wp_X1_findParts σ4 x1 (fun σ6 => V_X1_parts_38 Thr Ret σ6 x2 0 0 0))
def V_X1_parts_21 (Thr : Nat → ZS → Prop) (Ret : Int32 → ZS → Prop) (σ : ZS) (x1 : Int32) (x2 : Int32) : Prop :=
    V_X1_parts_22 Thr Ret σ x1 x2 0
def V_X1_parts_17 (Thr : Nat → ZS → Prop) (Ret : Int32 → ZS → Prop) (σ : ZS) (x1 : Int32) (x2 : Int32) : Prop :=
    V_X1_parts_22 Thr Ret σ x1 x2 1
def wp_X1_parts (σ : ZS) (a1 : Int32) (a2 : Int32) (Thr : Nat → ZS → Prop) (Ret : Int32 → ZS → Prop) : Prop :=
    wp_X1_isTime σ a1 (fun r1 σ2 => ((r1 = 0 → (V_X1_parts_21 Thr Ret σ2 a1 a2)) ∧ (¬ r1 = 0 → (((a2 = 0 → (V_X1_parts_17 Thr Ret σ2 a1 a2)) ∧ (¬ a2 = 0 → (((a2 = 1 → (V_X1_parts_17 Thr Ret σ2 a1 a2)) ∧ (¬ a2 = 1 → (V_X1_parts_21 Thr Ret σ2 a1 a2))))))))))
set_option maxHeartbeats 4000000 in
theorem mz_X1_parts {l : Launch} {E : ZE} (hE : EOK E) {σ : ZS} {a1 : Int32} {a2 : Int32} {Thr : Nat → ZS → Prop} {Ret : Int32 → ZS → Prop} (hV : wp_X1_parts σ a1 a2 Thr Ret) : MZ l E NS yX1_parts (ws_ yX1_parts cX1_parts 8 (some .int)) 10 σ [.ref (E.1.heap.size + 0), .int a1, .int a2] (rT E.1.heap.size (rI Ret) Thr) := by
  refine MZ.start (L := [some (.ref (E.1.heap.size + 0)), some (.int a1), some (.int a2), none, none, none, none, none]) hE (by decide) (Nat.le_of_ble_eq_true rfl) rfl fun C hCl hQo hC => ?_
  replace hC : Cx C E cX1_parts 8 "RightTurns" "parts" (some .int) [] 10 := hC
  unfold wp_X1_parts at hV
  have j_38 : ∀ (σ : ZS) (x2 : Int32) (x3 : Int32) (x4 : Int32) (x5 : Int32), V_X1_parts_38 Thr Ret σ x2 x3 x4 x5 → zz C E NS 8 σ 38 [some (.ref (E.1.heap.size + 0)), none, some (.int x2), some (.int x3), some (.int x4), some (.int x5), none, none] [] := by
    intro σ x2 x3 x4 x5 ⟨k, hV⟩
    revert σ x2 x3 x4 x5
    induction k with
    | zero => exact fun _ _ _ _ _ hV => hV.elim
    | succ k j_38 =>
      intro σ x2 x3 x4 x5 hV
      simp only [VL_X1_parts_38] at hV
      generalize hKe38 : VL_X1_parts_38 Thr Ret k = K38 at hV j_38
      clear hKe38
      have j_74 : ∀ (σ : ZS) (x2 : Int32) (x3 : Int32) (x4 : Int32) (x5 : Int32) (x6 : Int32) (x7 : Int32), V_X1_parts_74 K38 Thr Ret σ x2 x3 x4 x5 x6 x7 → zz C E NS 8 σ 74 [some (.ref (E.1.heap.size + 0)), none, some (.int x2), some (.int x3), some (.int x4), some (.int x5), some (.int x6), some (.int x7)] [] := by
        intro σ x2 x3 x4 x5 x6 x7 ⟨k, hV⟩
        revert σ x2 x3 x4 x5 x6 x7
        induction k with
        | zero => exact fun _ _ _ _ _ _ _ hV => hV.elim
        | succ k j_74 =>
          intro σ x2 x3 x4 x5 x6 x7 hV
          simp only [VL_X1_parts_74] at hV
          generalize hKe74 : VL_X1_parts_74 K38 Thr Ret k = K74 at hV j_74
          clear hKe74
          refine z_iload hC dX1_parts_74 rfl ?_
          refine z_aload_n hC dX1_parts_76 rfl rfl ?_
          refine g_X1_12_0 hC dX1_parts_77 ?_
          obtain ⟨h14, hV⟩ := hV
          refine zz_at rfl (by rw [pvo h14]) ?_
          obtain ⟨⟨n18, h17⟩, hV⟩ := hV
          refine c_X1_271 hC (by decide) dX1_parts_80 (Nat.le_of_ble_eq_true rfl) h17 hV (fun r15 σ16 hV => ?_)
          refine z_icmp_ge (tgt := 114) hC dX1_parts_83 (by decide) (fun hc => ?_) (fun hc => ?_)
          · replace hV := hV.2 hc
            refine z_iload hC dX1_parts_114 rfl ?_
            refine z_iload hC dX1_parts_116 rfl ?_
            refine z_mmax hC dX1_parts_118 q1361 (by decide) (Nat.le_of_ble_eq_true rfl) ?_
            obtain ⟨y20, e_y20⟩ : ∃ z, z = (if x4 < x6 then x6 else x4) := ⟨_, rfl⟩
            rw [← e_y20]
            replace hV := hV _ e_y20
            refine z_istore hC dX1_parts_121 (Nat.le_of_ble_eq_true rfl) rfl rfl ?_
            obtain ⟨y21, e_y21⟩ : ∃ z : Int32, z = x5 + 1 := ⟨_, rfl⟩
            replace hV := hV _ e_y21
            refine z_iinc (v := y21) hC dX1_parts_123 rfl (by rw [e_y21]; rfl) (Nat.le_of_ble_eq_true rfl) rfl rfl ?_
            refine z_goto (tgt := 38) hC dX1_parts_126 (by decide) ?_
            refine zz_sub (L' := [some (.ref (E.1.heap.size + 0)), none, some (.int x2), some (.int x3), some (.int y20), some (.int y21), none, none]) ⟨rfl, rfl, rfl, rfl, rfl, trivial⟩ ?_
            exact j_38 σ16 x2 x3 y20 y21 hV
          · replace hV := hV.1 hc
            refine z_iload hC dX1_parts_86 rfl ?_
            refine z_aload_n hC dX1_parts_88 rfl rfl ?_
            refine g_X1_55_0 hC dX1_parts_89 ?_
            refine z_iload hC dX1_parts_92 rfl ?_
            obtain ⟨h22, hV⟩ := hV
            refine z_iald hC dX1_parts_94 (k_24 _) (h22) ?_
            refine z_iload hC dX1_parts_95 rfl ?_
            refine z_icmp_ne (tgt := 104) hC dX1_parts_97 (by decide) (fun hc => ?_) (fun hc => ?_)
            · replace hV := hV.2 hc
              refine z_iconst (v := 0) hC dX1_parts_104 rfl ?_
              refine z_iadd hC dX1_parts_105 ?_
              obtain ⟨y23, e_y23⟩ : ∃ z, z = x6 + 0 := ⟨_, rfl⟩
              rw [← e_y23]
              replace hV := hV _ e_y23
              refine z_istore hC dX1_parts_106 (Nat.le_of_ble_eq_true rfl) rfl rfl ?_
              obtain ⟨y24, e_y24⟩ : ∃ z : Int32, z = x7 + 1 := ⟨_, rfl⟩
              replace hV := hV _ e_y24
              refine z_iinc (v := y24) hC dX1_parts_108 rfl (by rw [e_y24]; rfl) (Nat.le_of_ble_eq_true rfl) rfl rfl ?_
              refine z_goto (tgt := 74) hC dX1_parts_111 (by decide) ?_
              refine zz_sub (L' := [some (.ref (E.1.heap.size + 0)), none, some (.int x2), some (.int x3), some (.int x4), some (.int x5), some (.int y23), some (.int y24)]) ⟨rfl, rfl, rfl, rfl, rfl, rfl, rfl, trivial⟩ ?_
              exact j_74 σ16 x2 x3 x4 x5 y23 y24 hV
            · replace hV := hV.1 hc
              refine z_iconst (v := 1) hC dX1_parts_100 rfl ?_
              refine z_goto (tgt := 105) hC dX1_parts_101 (by decide) ?_
              refine z_iadd hC dX1_parts_105 ?_
              obtain ⟨y25, e_y25⟩ : ∃ z, z = x6 + 1 := ⟨_, rfl⟩
              rw [← e_y25]
              replace hV := hV _ e_y25
              refine z_istore hC dX1_parts_106 (Nat.le_of_ble_eq_true rfl) rfl rfl ?_
              obtain ⟨y26, e_y26⟩ : ∃ z : Int32, z = x7 + 1 := ⟨_, rfl⟩
              replace hV := hV _ e_y26
              refine z_iinc (v := y26) hC dX1_parts_108 rfl (by rw [e_y26]; rfl) (Nat.le_of_ble_eq_true rfl) rfl rfl ?_
              refine z_goto (tgt := 74) hC dX1_parts_111 (by decide) ?_
              refine zz_sub (L' := [some (.ref (E.1.heap.size + 0)), none, some (.int x2), some (.int x3), some (.int x4), some (.int x5), some (.int y25), some (.int y26)]) ⟨rfl, rfl, rfl, rfl, rfl, rfl, rfl, trivial⟩ ?_
              exact j_74 σ16 x2 x3 x4 x5 y25 y26 hV
      refine z_iload hC dX1_parts_38 rfl ?_
      refine z_aload_n hC dX1_parts_40 rfl rfl ?_
      refine g_X1_12_0 hC dX1_parts_41 ?_
      obtain ⟨h7, hV⟩ := hV
      refine zz_at rfl (by rw [pvo h7]) ?_
      obtain ⟨⟨n11, h10⟩, hV⟩ := hV
      refine c_X1_271 hC (by decide) dX1_parts_44 (Nat.le_of_ble_eq_true rfl) h10 hV (fun r8 σ9 hV => ?_)
      refine z_icmp_ge (tgt := 129) hC dX1_parts_47 (by decide) (fun hc => ?_) (fun hc => ?_)
      · replace hV := hV.2 hc
        refine z_iload_n hC dX1_parts_129 rfl rfl ?_
        refine z_if_ne (tgt := 137) hC dX1_parts_130 (by decide) (fun hc => ?_) (fun hc => ?_)
        · replace hV := hV.2 hc
          refine z_iload hC dX1_parts_137 rfl ?_
          exact z_iret hC dX1_parts_139 rfl (by rw [hQo]; exact Or.inl ⟨_, rfl, hV⟩)
        · replace hV := hV.1 hc
          refine z_iload_n hC dX1_parts_133 rfl rfl ?_
          refine z_goto (tgt := 139) hC dX1_parts_134 (by decide) ?_
          exact z_iret hC dX1_parts_139 rfl (by rw [hQo]; exact Or.inl ⟨_, rfl, hV⟩)
      · replace hV := hV.1 hc
        refine z_aload_n hC dX1_parts_50 rfl rfl ?_
        refine g_X1_55_0 hC dX1_parts_51 ?_
        refine z_iload hC dX1_parts_54 rfl ?_
        obtain ⟨h12, hV⟩ := hV
        refine z_iald hC dX1_parts_56 (k_24 _) (h12) ?_
        refine z_iload hC dX1_parts_57 rfl ?_
        refine z_icmp_eq (tgt := 65) hC dX1_parts_59 (by decide) (fun hc => ?_) (fun hc => ?_)
        · replace hV := hV.1 hc
          obtain ⟨y13, e_y13⟩ : ∃ z : Int32, z = x3 + 1 := ⟨_, rfl⟩
          replace hV := hV _ e_y13
          refine z_iinc (v := y13) hC dX1_parts_65 rfl (by rw [e_y13]; rfl) (Nat.le_of_ble_eq_true rfl) rfl rfl ?_
          refine z_iconst (v := 0) hC dX1_parts_68 rfl ?_
          refine z_istore hC dX1_parts_69 (Nat.le_of_ble_eq_true rfl) rfl rfl ?_
          refine z_iconst (v := 0) hC dX1_parts_71 rfl ?_
          refine z_istore hC dX1_parts_72 (Nat.le_of_ble_eq_true rfl) rfl rfl ?_
          refine zz_sub (L' := [some (.ref (E.1.heap.size + 0)), none, some (.int x2), some (.int y13), some (.int x4), some (.int x5), some (.int 0), some (.int 0)]) ⟨rfl, rfl, rfl, rfl, rfl, rfl, rfl, trivial⟩ ?_
          exact j_74 σ9 x2 y13 x4 x5 0 0 hV
        · replace hV := hV.2 hc
          refine z_goto (tgt := 123) hC dX1_parts_62 (by decide) ?_
          obtain ⟨y27, e_y27⟩ : ∃ z : Int32, z = x5 + 1 := ⟨_, rfl⟩
          replace hV := hV _ e_y27
          refine z_iinc (v := y27) hC dX1_parts_123 rfl (by rw [e_y27]; rfl) (Nat.le_of_ble_eq_true rfl) rfl rfl ?_
          refine z_goto (tgt := 38) hC dX1_parts_126 (by decide) ?_
          refine zz_sub (L' := [some (.ref (E.1.heap.size + 0)), none, some (.int x2), some (.int x3), some (.int x4), some (.int y27), none, none]) ⟨rfl, rfl, rfl, rfl, rfl, trivial⟩ ?_
          exact j_38 σ9 x2 x3 x4 y27 hV
  have j_22 : ∀ (σ : ZS) (x1 : Int32) (x2 : Int32) (s0 : Int32), V_X1_parts_22 Thr Ret σ x1 x2 s0 → zz C E NS 8 σ 22 [some (.ref (E.1.heap.size + 0)), some (.int x1), some (.int x2), none, none, none, none, none] [.int s0] := by
    intro σ x1 x2 s0 hV
    unfold V_X1_parts_22 at hV
    refine c_X1_164 hC (by decide) dX1_parts_22 (Nat.le_of_ble_eq_true rfl) hV (fun σ4 hV => ?_) (fun x σ hV => zth_out hC (by rw [hQo]; exact Or.inr ⟨_, rfl, hV⟩))
    refine z_aload_n hC dX1_parts_25 rfl rfl ?_
    refine z_iload_n hC dX1_parts_26 rfl rfl ?_
    refine c_X1_320 hC (by decide) dX1_parts_27 (Nat.le_of_ble_eq_true rfl) hV (fun σ6 hV => ?_)
    refine z_iconst (v := 0) hC dX1_parts_30 rfl ?_
    refine z_istore_n hC dX1_parts_31 rfl (Nat.le_of_ble_eq_true rfl) rfl rfl ?_
    refine z_iconst (v := 0) hC dX1_parts_32 rfl ?_
    refine z_istore hC dX1_parts_33 (Nat.le_of_ble_eq_true rfl) rfl rfl ?_
    refine z_iconst (v := 0) hC dX1_parts_35 rfl ?_
    refine z_istore hC dX1_parts_36 (Nat.le_of_ble_eq_true rfl) rfl rfl ?_
    refine zz_sub (L' := [some (.ref (E.1.heap.size + 0)), none, some (.int x2), some (.int 0), some (.int 0), some (.int 0), none, none]) ⟨rfl, rfl, rfl, rfl, rfl, trivial⟩ ?_
    exact j_38 σ6 x2 0 0 0 hV
  have j_21 : ∀ (σ : ZS) (x1 : Int32) (x2 : Int32), V_X1_parts_21 Thr Ret σ x1 x2 → zz C E NS 8 σ 21 [some (.ref (E.1.heap.size + 0)), some (.int x1), some (.int x2), none, none, none, none, none] [] := by
    intro σ x1 x2 hV
    unfold V_X1_parts_21 at hV
    refine z_iconst (v := 0) hC dX1_parts_21 rfl ?_
    refine zz_sub (L' := [some (.ref (E.1.heap.size + 0)), some (.int x1), some (.int x2), none, none, none, none, none]) ⟨rfl, rfl, rfl, trivial⟩ ?_
    exact j_22 σ x1 x2 0 hV
  have j_17 : ∀ (σ : ZS) (x1 : Int32) (x2 : Int32), V_X1_parts_17 Thr Ret σ x1 x2 → zz C E NS 8 σ 17 [some (.ref (E.1.heap.size + 0)), some (.int x1), some (.int x2), none, none, none, none, none] [] := by
    intro σ x1 x2 hV
    unfold V_X1_parts_17 at hV
    refine z_iconst (v := 1) hC dX1_parts_17 rfl ?_
    refine z_goto (tgt := 22) hC dX1_parts_18 (by decide) ?_
    refine zz_sub (L' := [some (.ref (E.1.heap.size + 0)), some (.int x1), some (.int x2), none, none, none, none, none]) ⟨rfl, rfl, rfl, trivial⟩ ?_
    exact j_22 σ x1 x2 1 hV
  refine z_aload_n hC dX1_parts_0 rfl rfl ?_
  refine z_iload_n hC dX1_parts_1 rfl rfl ?_
  refine c_X1_254 hC (by decide) dX1_parts_2 (Nat.le_of_ble_eq_true rfl) hV (fun r1 σ2 hV => ?_)
  refine z_if_eq (tgt := 21) hC dX1_parts_5 (by decide) (fun hc => ?_) (fun hc => ?_)
  · replace hV := hV.1 hc
    refine zz_sub (L' := [some (.ref (E.1.heap.size + 0)), some (.int a1), some (.int a2), none, none, none, none, none]) ⟨rfl, rfl, rfl, trivial⟩ ?_
    exact j_21 σ2 a1 a2 hV
  · replace hV := hV.2 hc
    refine z_iload_n hC dX1_parts_8 rfl rfl ?_
    refine z_if_eq (tgt := 17) hC dX1_parts_9 (by decide) (fun hc => ?_) (fun hc => ?_)
    · replace hV := hV.1 hc
      refine zz_sub (L' := [some (.ref (E.1.heap.size + 0)), some (.int a1), some (.int a2), none, none, none, none, none]) ⟨rfl, rfl, rfl, trivial⟩ ?_
      exact j_17 σ2 a1 a2 hV
    · replace hV := hV.2 hc
      refine z_iload_n hC dX1_parts_12 rfl rfl ?_
      refine z_iconst (v := 1) hC dX1_parts_13 rfl ?_
      refine z_icmp_ne (tgt := 21) hC dX1_parts_14 (by decide) (fun hc => ?_) (fun hc => ?_)
      · replace hV := hV.2 hc
        refine zz_sub (L' := [some (.ref (E.1.heap.size + 0)), some (.int a1), some (.int a2), none, none, none, none, none]) ⟨rfl, rfl, rfl, trivial⟩ ?_
        exact j_21 σ2 a1 a2 hV
      · replace hV := hV.1 hc
        refine zz_sub (L' := [some (.ref (E.1.heap.size + 0)), some (.int a1), some (.int a2), none, none, none, none, none]) ⟨rfl, rfl, rfl, trivial⟩ ?_
        exact j_17 σ2 a1 a2 hV
theorem cw_X1_homeOf : CodeW yX1_homeOf (ws_ yX1_homeOf cX1_homeOf 5 (some .int)) 5 := ⟨fun w h => (List.mem_cons.mp h).elim (fun e => e ▸ q1345) id, Or.inl ⟨_, _, q1345⟩, q116, by decide, by decide⟩
theorem c_X1_313 {C : ZC} {E : ZE} {cc : ByteArray} {nL pc d : Nat} {nm : String} {ret : Option FieldType} {hh : List (Nat × Nat × Nat × Nat)} {σ : ZS} {L : List (Option Value)} {st : List Value} {a1 : Int32} {a2 : Int32} {Ret : Int32 → ZS → Prop} (hC : Cx C E cc nL "RightTurns" nm ret hh d) (hdd : 10 + 1 ≤ d) (hd : decode cc pc = .ok (.invokevirtual 313, 3)) (hW : (st.map fun v => v.category).sum ≤ 8) (hV : wp_X1_homeOf σ a1 a2 Ret) (k : ∀ r σ', Ret r σ' → zz C E NS nL σ' (pc + 3) L (.int r :: st)) : zz C E NS nL σ pc L (.int a2 :: .int a1 :: .ref (E.1.heap.size + 0) :: st) :=
  z_callVG hC cf0 cw_X1_homeOf hdd (by decide) (mz_X1_homeOf (cxE hC) hV) hd (k_0 σ) q1342 q1344 qs28 (np := 2) rfl rfl hW rfl (kI k)
def V_X1_reach_27 (Thr : Nat → ZS → Prop) (Ret : Int32 → ZS → Prop) (σ : ZS) (x1 : Int32) (x2 : Int32) (x3 : Int32) (s0 : Int32) : Prop :=
    wp_X1_need σ s0 (fun x σ => Thr x σ) (fun σ6 => wp_X1_reached σ6 x1 x2 (fun r7 σ8 => ((x3 = 0 → (Ret r7 σ8)) ∧ (¬ x3 = 0 → (wp_X1_homeOf σ8 x1 x2 (fun r9 σ10 => ((x3 = 1 → (Ret r9 σ10)) ∧ (¬ x3 = 1 → (wp_J16_bitCount σ10 (r7 &&& (r9 ^^^ (-1))) (fun r11 σ12 => Ret r11 σ12))))))))))
def V_X1_reach_26 (Thr : Nat → ZS → Prop) (Ret : Int32 → ZS → Prop) (σ : ZS) (x1 : Int32) (x2 : Int32) (x3 : Int32) : Prop :=
    V_X1_reach_27 Thr Ret σ x1 x2 x3 0
def wp_X1_reach (σ : ZS) (a1 : Int32) (a2 : Int32) (a3 : Int32) (Thr : Nat → ZS → Prop) (Ret : Int32 → ZS → Prop) : Prop :=
    wp_X1_needCorner σ a1 (fun x σ => Thr x σ) (fun σ2 => wp_X1_isTime σ2 a2 (fun r3 σ4 => ((r3 = 0 → (V_X1_reach_26 Thr Ret σ4 a1 a2 a3)) ∧ (¬ r3 = 0 → (((a3 < 0 → (V_X1_reach_26 Thr Ret σ4 a1 a2 a3)) ∧ (¬ a3 < 0 → (((2 < a3 → (V_X1_reach_26 Thr Ret σ4 a1 a2 a3)) ∧ (¬ 2 < a3 → (V_X1_reach_27 Thr Ret σ4 a1 a2 a3 1)))))))))))
set_option maxHeartbeats 4000000 in
theorem mz_X1_reach {l : Launch} {E : ZE} (hE : EOK E) {σ : ZS} {a1 : Int32} {a2 : Int32} {a3 : Int32} {Thr : Nat → ZS → Prop} {Ret : Int32 → ZS → Prop} (hV : wp_X1_reach σ a1 a2 a3 Thr Ret) : MZ l E NS yX1_reach (ws_ yX1_reach cX1_reach 6 (some .int)) 11 σ [.ref (E.1.heap.size + 0), .int a1, .int a2, .int a3] (rT E.1.heap.size (rI Ret) Thr) := by
  refine MZ.start (L := [some (.ref (E.1.heap.size + 0)), some (.int a1), some (.int a2), some (.int a3), none, none]) hE (by decide) (Nat.le_of_ble_eq_true rfl) rfl fun C hCl hQo hC => ?_
  replace hC : Cx C E cX1_reach 6 "RightTurns" "reach" (some .int) [] 11 := hC
  unfold wp_X1_reach at hV
  have j_27 : ∀ (σ : ZS) (x1 : Int32) (x2 : Int32) (x3 : Int32) (s0 : Int32), V_X1_reach_27 Thr Ret σ x1 x2 x3 s0 → zz C E NS 6 σ 27 [some (.ref (E.1.heap.size + 0)), some (.int x1), some (.int x2), some (.int x3), none, none] [.int s0] := by
    intro σ x1 x2 x3 s0 hV
    unfold V_X1_reach_27 at hV
    refine c_X1_164 hC (by decide) dX1_reach_27 (Nat.le_of_ble_eq_true rfl) hV (fun σ6 hV => ?_) (fun x σ hV => zth_out hC (by rw [hQo]; exact Or.inr ⟨_, rfl, hV⟩))
    refine z_aload_n hC dX1_reach_30 rfl rfl ?_
    refine z_iload_n hC dX1_reach_31 rfl rfl ?_
    refine z_iload_n hC dX1_reach_32 rfl rfl ?_
    refine c_X1_310 hC (by decide) dX1_reach_33 (Nat.le_of_ble_eq_true rfl) hV (fun r7 σ8 hV => ?_)
    refine z_istore hC dX1_reach_36 (Nat.le_of_ble_eq_true rfl) rfl rfl ?_
    refine z_iload_n hC dX1_reach_38 rfl rfl ?_
    refine z_if_ne (tgt := 45) hC dX1_reach_39 (by decide) (fun hc => ?_) (fun hc => ?_)
    · replace hV := hV.2 hc
      refine z_aload_n hC dX1_reach_45 rfl rfl ?_
      refine z_iload_n hC dX1_reach_46 rfl rfl ?_
      refine z_iload_n hC dX1_reach_47 rfl rfl ?_
      refine c_X1_313 hC (by decide) dX1_reach_48 (Nat.le_of_ble_eq_true rfl) hV (fun r9 σ10 hV => ?_)
      refine z_istore hC dX1_reach_51 (Nat.le_of_ble_eq_true rfl) rfl rfl ?_
      refine z_iload_n hC dX1_reach_53 rfl rfl ?_
      refine z_iconst (v := 1) hC dX1_reach_54 rfl ?_
      refine z_icmp_ne (tgt := 63) hC dX1_reach_55 (by decide) (fun hc => ?_) (fun hc => ?_)
      · replace hV := hV.2 hc
        refine z_iload hC dX1_reach_63 rfl ?_
        refine z_iload hC dX1_reach_65 rfl ?_
        refine z_iconst (v := (-1)) hC dX1_reach_67 rfl ?_
        refine z_ixor hC dX1_reach_68 ?_
        refine z_iand hC dX1_reach_69 ?_
        refine c_X1_208 hC (by decide) dX1_reach_70 (Nat.le_of_ble_eq_true rfl) hV (fun r11 σ12 hV => ?_)
        exact z_iret hC dX1_reach_73 rfl (by rw [hQo]; exact Or.inl ⟨_, rfl, hV⟩)
      · replace hV := hV.1 hc
        refine z_iload hC dX1_reach_58 rfl ?_
        refine z_goto (tgt := 73) hC dX1_reach_60 (by decide) ?_
        exact z_iret hC dX1_reach_73 rfl (by rw [hQo]; exact Or.inl ⟨_, rfl, hV⟩)
    · replace hV := hV.1 hc
      refine z_iload hC dX1_reach_42 rfl ?_
      exact z_iret hC dX1_reach_44 rfl (by rw [hQo]; exact Or.inl ⟨_, rfl, hV⟩)
  have j_26 : ∀ (σ : ZS) (x1 : Int32) (x2 : Int32) (x3 : Int32), V_X1_reach_26 Thr Ret σ x1 x2 x3 → zz C E NS 6 σ 26 [some (.ref (E.1.heap.size + 0)), some (.int x1), some (.int x2), some (.int x3), none, none] [] := by
    intro σ x1 x2 x3 hV
    unfold V_X1_reach_26 at hV
    refine z_iconst (v := 0) hC dX1_reach_26 rfl ?_
    refine zz_sub (L' := [some (.ref (E.1.heap.size + 0)), some (.int x1), some (.int x2), some (.int x3), none, none]) ⟨rfl, rfl, rfl, rfl, trivial⟩ ?_
    exact j_27 σ x1 x2 x3 0 hV
  refine z_aload_n hC dX1_reach_0 rfl rfl ?_
  refine z_iload_n hC dX1_reach_1 rfl rfl ?_
  refine c_X1_294 hC (by decide) dX1_reach_2 (Nat.le_of_ble_eq_true rfl) hV (fun σ2 hV => ?_) (fun x σ hV => zth_out hC (by rw [hQo]; exact Or.inr ⟨_, rfl, hV⟩))
  refine z_aload_n hC dX1_reach_5 rfl rfl ?_
  refine z_iload_n hC dX1_reach_6 rfl rfl ?_
  refine c_X1_254 hC (by decide) dX1_reach_7 (Nat.le_of_ble_eq_true rfl) hV (fun r3 σ4 hV => ?_)
  refine z_if_eq (tgt := 26) hC dX1_reach_10 (by decide) (fun hc => ?_) (fun hc => ?_)
  · replace hV := hV.1 hc
    refine zz_sub (L' := [some (.ref (E.1.heap.size + 0)), some (.int a1), some (.int a2), some (.int a3), none, none]) ⟨rfl, rfl, rfl, rfl, trivial⟩ ?_
    exact j_26 σ4 a1 a2 a3 hV
  · replace hV := hV.2 hc
    refine z_iload_n hC dX1_reach_13 rfl rfl ?_
    refine z_if_lt (tgt := 26) hC dX1_reach_14 (by decide) (fun hc => ?_) (fun hc => ?_)
    · replace hV := hV.1 hc
      refine zz_sub (L' := [some (.ref (E.1.heap.size + 0)), some (.int a1), some (.int a2), some (.int a3), none, none]) ⟨rfl, rfl, rfl, rfl, trivial⟩ ?_
      exact j_26 σ4 a1 a2 a3 hV
    · replace hV := hV.2 hc
      refine z_iload_n hC dX1_reach_17 rfl rfl ?_
      refine z_iconst (v := 2) hC dX1_reach_18 rfl ?_
      refine z_icmp_gt (tgt := 26) hC dX1_reach_19 (by decide) (fun hc => ?_) (fun hc => ?_)
      · replace hV := hV.1 hc
        refine zz_sub (L' := [some (.ref (E.1.heap.size + 0)), some (.int a1), some (.int a2), some (.int a3), none, none]) ⟨rfl, rfl, rfl, rfl, trivial⟩ ?_
        exact j_26 σ4 a1 a2 a3 hV
      · replace hV := hV.2 hc
        refine z_iconst (v := 1) hC dX1_reach_22 rfl ?_
        refine z_goto (tgt := 27) hC dX1_reach_23 (by decide) ?_
        refine zz_sub (L' := [some (.ref (E.1.heap.size + 0)), some (.int a1), some (.int a2), some (.int a3), none, none]) ⟨rfl, rfl, rfl, rfl, trivial⟩ ?_
        exact j_27 σ4 a1 a2 a3 1 hV
def wp_X1_ride (σ : ZS) (a1 : Int32) (a2 : Int32) (a3 : Int32) (Thr : Nat → ZS → Prop) (Ret : Int32 → ZS → Prop) : Prop :=
    wp_X1_needCorner σ a1 (fun x σ => Thr x σ) (fun σ2 => wp_X1_needCorner σ2 a2 (fun x σ => Thr x σ) (fun σ4 => wp_X1_isTime σ4 a3 (fun r5 σ6 => wp_X1_need σ6 r5 (fun x σ => Thr x σ) (fun σ8 => wp_X1_rideOf σ8 a1 a2 a3 (fun r9 σ10 => Ret r9 σ10)))))
set_option maxHeartbeats 4000000 in
theorem mz_X1_ride {l : Launch} {E : ZE} (hE : EOK E) {σ : ZS} {a1 : Int32} {a2 : Int32} {a3 : Int32} {Thr : Nat → ZS → Prop} {Ret : Int32 → ZS → Prop} (hV : wp_X1_ride σ a1 a2 a3 Thr Ret) : MZ l E NS yX1_ride (ws_ yX1_ride cX1_ride 4 (some .int)) 10 σ [.ref (E.1.heap.size + 0), .int a1, .int a2, .int a3] (rT E.1.heap.size (rI Ret) Thr) := by
  refine MZ.start (L := [some (.ref (E.1.heap.size + 0)), some (.int a1), some (.int a2), some (.int a3)]) hE (by decide) (Nat.le_of_ble_eq_true rfl) rfl fun C hCl hQo hC => ?_
  replace hC : Cx C E cX1_ride 4 "RightTurns" "ride" (some .int) [] 10 := hC
  unfold wp_X1_ride at hV
  refine z_aload_n hC dX1_ride_0 rfl rfl ?_
  refine z_iload_n hC dX1_ride_1 rfl rfl ?_
  refine c_X1_294 hC (by decide) dX1_ride_2 (Nat.le_of_ble_eq_true rfl) hV (fun σ2 hV => ?_) (fun x σ hV => zth_out hC (by rw [hQo]; exact Or.inr ⟨_, rfl, hV⟩))
  refine z_aload_n hC dX1_ride_5 rfl rfl ?_
  refine z_iload_n hC dX1_ride_6 rfl rfl ?_
  refine c_X1_294 hC (by decide) dX1_ride_7 (Nat.le_of_ble_eq_true rfl) hV (fun σ4 hV => ?_) (fun x σ hV => zth_out hC (by rw [hQo]; exact Or.inr ⟨_, rfl, hV⟩))
  refine z_aload_n hC dX1_ride_10 rfl rfl ?_
  refine z_iload_n hC dX1_ride_11 rfl rfl ?_
  refine c_X1_254 hC (by decide) dX1_ride_12 (Nat.le_of_ble_eq_true rfl) hV (fun r5 σ6 hV => ?_)
  refine c_X1_164 hC (by decide) dX1_ride_15 (Nat.le_of_ble_eq_true rfl) hV (fun σ8 hV => ?_) (fun x σ hV => zth_out hC (by rw [hQo]; exact Or.inr ⟨_, rfl, hV⟩))
  refine z_aload_n hC dX1_ride_18 rfl rfl ?_
  refine z_iload_n hC dX1_ride_19 rfl rfl ?_
  refine z_iload_n hC dX1_ride_20 rfl rfl ?_
  refine z_iload_n hC dX1_ride_21 rfl rfl ?_
  refine c_X1_297 hC (by decide) dX1_ride_22 (Nat.le_of_ble_eq_true rfl) hV (fun r9 σ10 hV => ?_)
  exact z_iret hC dX1_ride_25 rfl (by rw [hQo]; exact Or.inl ⟨_, rfl, hV⟩)
theorem cw_X1_findBoxes : CodeW yX1_findBoxes (ws_ yX1_findBoxes cX1_findBoxes 4 (some .int)) 4 := ⟨fun w h => (List.mem_cons.mp h).elim (fun e => e ▸ q1445) id, Or.inl ⟨_, _, q1445⟩, q116, by decide, by decide⟩
theorem c_X1_354 {C : ZC} {E : ZE} {cc : ByteArray} {nL pc d : Nat} {nm : String} {ret : Option FieldType} {hh : List (Nat × Nat × Nat × Nat)} {σ : ZS} {L : List (Option Value)} {st : List Value} {a1 : Int32} {Ret : Int32 → ZS → Prop} (hC : Cx C E cc nL "RightTurns" nm ret hh d) (hdd : 1 + 1 ≤ d) (hd : decode cc pc = .ok (.invokevirtual 354, 3)) (hW : (st.map fun v => v.category).sum ≤ 8) (hV : wp_X1_findBoxes σ a1 Ret) (k : ∀ r σ', Ret r σ' → zz C E NS nL σ' (pc + 3) L (.int r :: st)) : zz C E NS nL σ pc L (.int a1 :: .ref (E.1.heap.size + 0) :: st) :=
  z_callVG hC cf0 cw_X1_findBoxes hdd (by decide) (mz_X1_findBoxes (cxE hC) hV) hd (k_0 σ) q1442 q1444 qs37 (np := 1) rfl rfl hW rfl (kI k)
theorem cw_X1_goesRound : CodeW yX1_goesRound (ws_ yX1_goesRound cX1_goesRound 8 none) 8 := ⟨fun w h => (List.mem_cons.mp h).elim (fun e => e ▸ q1453) id, Or.inl ⟨_, _, q1453⟩, q116, by decide, by decide⟩
theorem c_X1_360 {C : ZC} {E : ZE} {cc : ByteArray} {nL pc d : Nat} {nm : String} {ret : Option FieldType} {hh : List (Nat × Nat × Nat × Nat)} {σ : ZS} {L : List (Option Value)} {st : List Value} {a1 : Int32} {a2 : Int32} {Ret : ZS → Prop} (hC : Cx C E cc nL "RightTurns" nm ret hh d) (hdd : 8 + 1 ≤ d) (hd : decode cc pc = .ok (.invokevirtual 360, 3)) (hW : (st.map fun v => v.category).sum ≤ 8) (hV : wp_X1_goesRound σ a1 a2 Ret) (k : ∀ σ', Ret σ' → zz C E NS nL σ' (pc + 3) L st) : zz C E NS nL σ pc L (.int a2 :: .int a1 :: .ref (E.1.heap.size + 0) :: st) :=
  z_callVG hC cf0 cw_X1_goesRound hdd (by decide) (mz_X1_goesRound (cxE hC) hV) hd (k_0 σ) q1450 q1452 qs39 (np := 2) rfl rfl hW rfl (kV k)
def VL_X1_round_179 (Thr : Nat → ZS → Prop) (Ret : Int32 → ZS → Prop) : Nat → ZS → Int32 → Int32 → Int32 → Int32 → Prop
  | 0 => fun _ _ _ _ _ => False
  | k + 1 => fun σ x1 x3 x4 x5 =>
    let K179 := VL_X1_round_179 Thr Ret k
    (zP σ 0 0) = some (.inl (zo (zP σ 0 0))) ∧ ((∃ n18, kK NS σ (zo (zP σ 0 0)) = (8, n18)) ∧ (wp_X2_arcs σ (zo (zP σ 0 0)) (fun r15 σ16 => ((x5 < r15 → ((zP σ16 0 0) = some (.inl (zo (zP σ16 0 0))) ∧ ((∃ n23, kK NS σ16 (zo (zP σ16 0 0)) = (8, n23)) ∧ (wp_X2_isArc σ16 (zo (zP σ16 0 0)) x5 (fun r20 σ21 => ((r20 = 0 → (∀ y24 : Int32, y24 = x5 + 1 → (K179 σ21 x1 x3 x4 y24))) ∧ (¬ r20 = 0 → ((zP σ21 0 0) = some (.inl (zo (zP σ21 0 0))) ∧ ((∃ n29, kK NS σ21 (zo (zP σ21 0 0)) = (8, n29)) ∧ (wp_X2_end σ21 (zo (zP σ21 0 0)) x5 (fun r26 σ27 => ((r26 = x1 → (vp_in ((48 * (((1 : Int32) <<< (x3 &&& 31)) - 1)) + x5) 49152 ∧ (∀ y33 : Int32, y33 = (if (zI σ27 27 (ix ((48 * (((1 : Int32) <<< (x3 &&& 31)) - 1)) + x5))) < x4 then (zI σ27 27 (ix ((48 * (((1 : Int32) <<< (x3 &&& 31)) - 1)) + x5))) else x4) → (∀ y34 : Int32, y34 = x5 + 1 → (K179 σ27 x1 x3 y33 y34))))) ∧ (¬ r26 = x1 → (∀ y30 : Int32, y30 = x5 + 1 → (K179 σ27 x1 x3 x4 y30))))))))))))))) ∧ (¬ x5 < r15 → (((x4 < 1000000 → (Ret x4 σ16)) ∧ (¬ x4 < 1000000 → (Ret (-1) σ16)))))))))
def V_X1_round_179 (Thr : Nat → ZS → Prop) (Ret : Int32 → ZS → Prop) (σ : ZS) (x1 : Int32) (x3 : Int32) (x4 : Int32) (x5 : Int32) : Prop := ∃ k, VL_X1_round_179 Thr Ret k σ x1 x3 x4 x5
def VL_X1_round_150 (Thr : Nat → ZS → Prop) (Ret : Int32 → ZS → Prop) : Nat → ZS → Int32 → Int32 → Int32 → Int32 → Prop
  | 0 => fun _ _ _ _ _ => False
  | k + 1 => fun σ x1 x2 x3 x4 =>
    let K150 := VL_X1_round_150 Thr Ret k
    ((x4 < ((1 : Int32) <<< (x3 &&& 31)) → (wp_X1_goesRound σ x4 x2 (fun σ36 => ∀ y37 : Int32, y37 = x4 + 1 → (K150 σ36 x1 x2 x3 y37)))) ∧ (¬ x4 < ((1 : Int32) <<< (x3 &&& 31)) → (V_X1_round_179 Thr Ret σ x1 x3 1000000 0)))
def V_X1_round_150 (Thr : Nat → ZS → Prop) (Ret : Int32 → ZS → Prop) (σ : ZS) (x1 : Int32) (x2 : Int32) (x3 : Int32) (x4 : Int32) : Prop := ∃ k, VL_X1_round_150 Thr Ret k σ x1 x2 x3 x4
def VL_X1_round_56 (Thr : Nat → ZS → Prop) (Ret : Int32 → ZS → Prop) : Nat → ZS → Int32 → Int32 → Int32 → Int32 → Prop
  | 0 => fun _ _ _ _ _ => False
  | k + 1 => fun σ x1 x2 x3 x4 =>
    let K56 := VL_X1_round_56 Thr Ret k
    (zP σ 0 0) = some (.inl (zo (zP σ 0 0))) ∧ ((∃ n13, kK NS σ (zo (zP σ 0 0)) = (8, n13)) ∧ (wp_X2_arcs σ (zo (zP σ 0 0)) (fun r10 σ11 => ((x4 < r10 → ((zP σ11 0 0) = some (.inl (zo (zP σ11 0 0))) ∧ ((∃ n42, kK NS σ11 (zo (zP σ11 0 0)) = (8, n42)) ∧ (wp_X2_isArc σ11 (zo (zP σ11 0 0)) x4 (fun r39 σ40 => ((r39 = 0 → (∀ y43 : Int32, y43 = x4 + 1 → (K56 σ40 x1 x2 x3 y43))) ∧ (¬ r39 = 0 → ((zP σ40 0 0) = some (.inl (zo (zP σ40 0 0))) ∧ ((∃ n48, kK NS σ40 (zo (zP σ40 0 0)) = (8, n48)) ∧ (wp_X2_begin σ40 (zo (zP σ40 0 0)) x4 (fun r45 σ46 => ((r45 = x1 → (wp_X1_with σ46 0 x4 (fun r50 σ51 => wp_X1_with σ51 0 x4 (fun r52 σ53 => vp_in ((48 * r52) + x4) 49152 ∧ ((zP σ53 0 0) = some (.inl (zo (zP σ53 0 0))) ∧ ((∃ n59, kK NS σ53 (zo (zP σ53 0 0)) = (8, n59)) ∧ (wp_X2_length σ53 (zo (zP σ53 0 0)) x4 (fun r56 σ57 => vp_in ((48 * r50) + x4) 49152 ∧ (∀ σ62 : ZS, σ62 = sI σ57 27 (ix ((48 * r50) + x4)) (if r56 < (zI σ53 27 (ix ((48 * r52) + x4))) then r56 else (zI σ53 27 (ix ((48 * r52) + x4)))) → (∀ y63 : Int32, y63 = x4 + 1 → (K56 σ62 x1 x2 x3 y63))))))))))) ∧ (¬ r45 = x1 → (∀ y49 : Int32, y49 = x4 + 1 → (K56 σ46 x1 x2 x3 y49))))))))))))))) ∧ (¬ x4 < r10 → (V_X1_round_150 Thr Ret σ11 x1 x2 x3 0))))))
def V_X1_round_56 (Thr : Nat → ZS → Prop) (Ret : Int32 → ZS → Prop) (σ : ZS) (x1 : Int32) (x2 : Int32) (x3 : Int32) (x4 : Int32) : Prop := ∃ k, VL_X1_round_56 Thr Ret k σ x1 x2 x3 x4
def VL_X1_round_28 (Thr : Nat → ZS → Prop) (Ret : Int32 → ZS → Prop) : Nat → ZS → Int32 → Int32 → Int32 → Int32 → Prop
  | 0 => fun _ _ _ _ _ => False
  | k + 1 => fun σ x1 x2 x3 x4 =>
    let K28 := VL_X1_round_28 Thr Ret k
    ((x4 < ((48 : Int32) <<< (x3 &&& 31)) → (vp_in x4 49152 ∧ (∀ σ65 : ZS, σ65 = sI σ 27 (ix x4) 1000000 → (∀ y66 : Int32, y66 = x4 + 1 → (K28 σ65 x1 x2 x3 y66))))) ∧ (¬ x4 < ((48 : Int32) <<< (x3 &&& 31)) → (V_X1_round_56 Thr Ret σ x1 x2 x3 0)))
def V_X1_round_28 (Thr : Nat → ZS → Prop) (Ret : Int32 → ZS → Prop) (σ : ZS) (x1 : Int32) (x2 : Int32) (x3 : Int32) (x4 : Int32) : Prop := ∃ k, VL_X1_round_28 Thr Ret k σ x1 x2 x3 x4
def wp_X1_round (σ : ZS) (a1 : Int32) (a2 : Int32) (Thr : Nat → ZS → Prop) (Ret : Int32 → ZS → Prop) : Prop :=
    wp_X1_needCorner σ a1 (fun x σ => Thr x σ) (fun σ2 => wp_X1_isTime σ2 a2 (fun r3 σ4 => wp_X1_need σ4 r3 (fun x σ => Thr x σ) (fun σ6 => wp_X1_findBoxes σ6 a1 (fun r7 σ8 => ((r7 = 0 → (Ret 0 σ8)) ∧ (¬ r7 = 0 → (V_X1_round_28 Thr Ret σ8 a1 a2 r7 0)))))))
set_option maxHeartbeats 4000000 in
theorem mz_X1_round {l : Launch} {E : ZE} (hE : EOK E) {σ : ZS} {a1 : Int32} {a2 : Int32} {Thr : Nat → ZS → Prop} {Ret : Int32 → ZS → Prop} (hV : wp_X1_round σ a1 a2 Thr Ret) : MZ l E NS yX1_round (ws_ yX1_round cX1_round 6 (some .int)) 9 σ [.ref (E.1.heap.size + 0), .int a1, .int a2] (rT E.1.heap.size (rI Ret) Thr) := by
  refine MZ.start (L := [some (.ref (E.1.heap.size + 0)), some (.int a1), some (.int a2), none, none, none]) hE (by decide) (Nat.le_of_ble_eq_true rfl) rfl fun C hCl hQo hC => ?_
  replace hC : Cx C E cX1_round 6 "RightTurns" "round" (some .int) [] 9 := hC
  unfold wp_X1_round at hV
  have j_179 : ∀ (σ : ZS) (x1 : Int32) (x3 : Int32) (x4 : Int32) (x5 : Int32), V_X1_round_179 Thr Ret σ x1 x3 x4 x5 → zz C E NS 6 σ 179 [some (.ref (E.1.heap.size + 0)), some (.int x1), none, some (.int x3), some (.int x4), some (.int x5)] [] := by
    intro σ x1 x3 x4 x5 ⟨k, hV⟩
    revert σ x1 x3 x4 x5
    induction k with
    | zero => exact fun _ _ _ _ _ hV => hV.elim
    | succ k j_179 =>
      intro σ x1 x3 x4 x5 hV
      simp only [VL_X1_round_179] at hV
      generalize hKe179 : VL_X1_round_179 Thr Ret k = K179 at hV j_179
      clear hKe179
      refine z_iload hC dX1_round_179 rfl ?_
      refine z_aload_n hC dX1_round_181 rfl rfl ?_
      refine g_X1_12_0 hC dX1_round_182 ?_
      obtain ⟨h14, hV⟩ := hV
      refine zz_at rfl (by rw [pvo h14]) ?_
      obtain ⟨⟨n18, h17⟩, hV⟩ := hV
      refine c_X1_271 hC (by decide) dX1_round_185 (Nat.le_of_ble_eq_true rfl) h17 hV (fun r15 σ16 hV => ?_)
      refine z_icmp_ge (tgt := 245) hC dX1_round_188 (by decide) (fun hc => ?_) (fun hc => ?_)
      · replace hV := hV.2 hc
        refine z_iload hC dX1_round_245 rfl ?_
        refine z_ldcw hC dX1_round_247 q1301 ?_
        refine z_icmp_ge (tgt := 258) hC dX1_round_250 (by decide) (fun hc => ?_) (fun hc => ?_)
        · replace hV := hV.2 hc
          refine z_iconst (v := (-1)) hC dX1_round_258 rfl ?_
          exact z_iret hC dX1_round_259 rfl (by rw [hQo]; exact Or.inl ⟨_, rfl, hV⟩)
        · replace hV := hV.1 hc
          refine z_iload hC dX1_round_253 rfl ?_
          refine z_goto (tgt := 259) hC dX1_round_255 (by decide) ?_
          exact z_iret hC dX1_round_259 rfl (by rw [hQo]; exact Or.inl ⟨_, rfl, hV⟩)
      · replace hV := hV.1 hc
        refine z_aload_n hC dX1_round_191 rfl rfl ?_
        refine g_X1_12_0 hC dX1_round_192 ?_
        obtain ⟨h19, hV⟩ := hV
        refine zz_at rfl (by rw [pvo h19]) ?_
        refine z_iload hC dX1_round_195 rfl ?_
        obtain ⟨⟨n23, h22⟩, hV⟩ := hV
        refine c_X1_150 hC (by decide) dX1_round_197 (Nat.le_of_ble_eq_true rfl) h22 hV (fun r20 σ21 hV => ?_)
        refine z_if_eq (tgt := 239) hC dX1_round_200 (by decide) (fun hc => ?_) (fun hc => ?_)
        · replace hV := hV.1 hc
          obtain ⟨y24, e_y24⟩ : ∃ z : Int32, z = x5 + 1 := ⟨_, rfl⟩
          replace hV := hV _ e_y24
          refine z_iinc (v := y24) hC dX1_round_239 rfl (by rw [e_y24]; rfl) (Nat.le_of_ble_eq_true rfl) rfl rfl ?_
          refine z_goto (tgt := 179) hC dX1_round_242 (by decide) ?_
          refine zz_sub (L' := [some (.ref (E.1.heap.size + 0)), some (.int x1), none, some (.int x3), some (.int x4), some (.int y24)]) ⟨rfl, rfl, rfl, rfl, rfl, trivial⟩ ?_
          exact j_179 σ21 x1 x3 x4 y24 hV
        · replace hV := hV.2 hc
          refine z_aload_n hC dX1_round_203 rfl rfl ?_
          refine g_X1_12_0 hC dX1_round_204 ?_
          obtain ⟨h25, hV⟩ := hV
          refine zz_at rfl (by rw [pvo h25]) ?_
          refine z_iload hC dX1_round_207 rfl ?_
          obtain ⟨⟨n29, h28⟩, hV⟩ := hV
          refine c_X1_274 hC (by decide) dX1_round_209 (Nat.le_of_ble_eq_true rfl) h28 hV (fun r26 σ27 hV => ?_)
          refine z_iload_n hC dX1_round_212 rfl rfl ?_
          refine z_icmp_ne (tgt := 239) hC dX1_round_213 (by decide) (fun hc => ?_) (fun hc => ?_)
          · replace hV := hV.2 hc
            obtain ⟨y30, e_y30⟩ : ∃ z : Int32, z = x5 + 1 := ⟨_, rfl⟩
            replace hV := hV _ e_y30
            refine z_iinc (v := y30) hC dX1_round_239 rfl (by rw [e_y30]; rfl) (Nat.le_of_ble_eq_true rfl) rfl rfl ?_
            refine z_goto (tgt := 179) hC dX1_round_242 (by decide) ?_
            refine zz_sub (L' := [some (.ref (E.1.heap.size + 0)), some (.int x1), none, some (.int x3), some (.int x4), some (.int y30)]) ⟨rfl, rfl, rfl, rfl, rfl, trivial⟩ ?_
            exact j_179 σ27 x1 x3 x4 y30 hV
          · replace hV := hV.1 hc
            refine z_iload hC dX1_round_216 rfl ?_
            refine z_aload_n hC dX1_round_218 rfl rfl ?_
            refine g_X1_66_0 hC dX1_round_219 ?_
            refine z_bipush (v := 48) hC dX1_round_222 rfl ?_
            refine z_iconst (v := 1) hC dX1_round_224 rfl ?_
            refine z_iload_n hC dX1_round_225 rfl rfl ?_
            refine z_ishl hC dX1_round_226 ?_
            refine z_iconst (v := 1) hC dX1_round_227 rfl ?_
            refine z_isub hC dX1_round_228 ?_
            refine z_imul hC dX1_round_229 ?_
            refine z_iload hC dX1_round_230 rfl ?_
            refine z_iadd hC dX1_round_232 ?_
            obtain ⟨h31, hV⟩ := hV
            refine z_iald hC dX1_round_233 (k_27 _) (h31) ?_
            refine z_mmin hC dX1_round_234 q1311 (by decide) (Nat.le_of_ble_eq_true rfl) ?_
            obtain ⟨y33, e_y33⟩ : ∃ z, z = (if (zI σ27 27 (ix ((48 * (((1 : Int32) <<< (x3 &&& 31)) - 1)) + x5))) < x4 then (zI σ27 27 (ix ((48 * (((1 : Int32) <<< (x3 &&& 31)) - 1)) + x5))) else x4) := ⟨_, rfl⟩
            rw [← e_y33]
            replace hV := hV _ e_y33
            refine z_istore hC dX1_round_237 (Nat.le_of_ble_eq_true rfl) rfl rfl ?_
            obtain ⟨y34, e_y34⟩ : ∃ z : Int32, z = x5 + 1 := ⟨_, rfl⟩
            replace hV := hV _ e_y34
            refine z_iinc (v := y34) hC dX1_round_239 rfl (by rw [e_y34]; rfl) (Nat.le_of_ble_eq_true rfl) rfl rfl ?_
            refine z_goto (tgt := 179) hC dX1_round_242 (by decide) ?_
            refine zz_sub (L' := [some (.ref (E.1.heap.size + 0)), some (.int x1), none, some (.int x3), some (.int y33), some (.int y34)]) ⟨rfl, rfl, rfl, rfl, rfl, trivial⟩ ?_
            exact j_179 σ27 x1 x3 y33 y34 hV
  have j_150 : ∀ (σ : ZS) (x1 : Int32) (x2 : Int32) (x3 : Int32) (x4 : Int32), V_X1_round_150 Thr Ret σ x1 x2 x3 x4 → zz C E NS 6 σ 150 [some (.ref (E.1.heap.size + 0)), some (.int x1), some (.int x2), some (.int x3), some (.int x4), none] [] := by
    intro σ x1 x2 x3 x4 ⟨k, hV⟩
    revert σ x1 x2 x3 x4
    induction k with
    | zero => exact fun _ _ _ _ _ hV => hV.elim
    | succ k j_150 =>
      intro σ x1 x2 x3 x4 hV
      simp only [VL_X1_round_150] at hV
      generalize hKe150 : VL_X1_round_150 Thr Ret k = K150 at hV j_150
      clear hKe150
      refine z_iload hC dX1_round_150 rfl ?_
      refine z_iconst (v := 1) hC dX1_round_152 rfl ?_
      refine z_iload_n hC dX1_round_153 rfl rfl ?_
      refine z_ishl hC dX1_round_154 ?_
      refine z_icmp_ge (tgt := 171) hC dX1_round_155 (by decide) (fun hc => ?_) (fun hc => ?_)
      · replace hV := hV.2 hc
        refine z_ldcw hC dX1_round_171 q1301 ?_
        refine z_istore hC dX1_round_174 (Nat.le_of_ble_eq_true rfl) rfl rfl ?_
        refine z_iconst (v := 0) hC dX1_round_176 rfl ?_
        refine z_istore hC dX1_round_177 (Nat.le_of_ble_eq_true rfl) rfl rfl ?_
        refine zz_sub (L' := [some (.ref (E.1.heap.size + 0)), some (.int x1), none, some (.int x3), some (.int 1000000), some (.int 0)]) ⟨rfl, rfl, rfl, rfl, rfl, trivial⟩ ?_
        exact j_179 σ x1 x3 1000000 0 hV
      · replace hV := hV.1 hc
        refine z_aload_n hC dX1_round_158 rfl rfl ?_
        refine z_iload hC dX1_round_159 rfl ?_
        refine z_iload_n hC dX1_round_161 rfl rfl ?_
        refine c_X1_360 hC (by decide) dX1_round_162 (Nat.le_of_ble_eq_true rfl) hV (fun σ36 hV => ?_)
        obtain ⟨y37, e_y37⟩ : ∃ z : Int32, z = x4 + 1 := ⟨_, rfl⟩
        replace hV := hV _ e_y37
        refine z_iinc (v := y37) hC dX1_round_165 rfl (by rw [e_y37]; rfl) (Nat.le_of_ble_eq_true rfl) rfl rfl ?_
        refine z_goto (tgt := 150) hC dX1_round_168 (by decide) ?_
        refine zz_sub (L' := [some (.ref (E.1.heap.size + 0)), some (.int x1), some (.int x2), some (.int x3), some (.int y37), none]) ⟨rfl, rfl, rfl, rfl, rfl, trivial⟩ ?_
        exact j_150 σ36 x1 x2 x3 y37 hV
  have j_56 : ∀ (σ : ZS) (x1 : Int32) (x2 : Int32) (x3 : Int32) (x4 : Int32), V_X1_round_56 Thr Ret σ x1 x2 x3 x4 → zz C E NS 6 σ 56 [some (.ref (E.1.heap.size + 0)), some (.int x1), some (.int x2), some (.int x3), some (.int x4), none] [] := by
    intro σ x1 x2 x3 x4 ⟨k, hV⟩
    revert σ x1 x2 x3 x4
    induction k with
    | zero => exact fun _ _ _ _ _ hV => hV.elim
    | succ k j_56 =>
      intro σ x1 x2 x3 x4 hV
      simp only [VL_X1_round_56] at hV
      generalize hKe56 : VL_X1_round_56 Thr Ret k = K56 at hV j_56
      clear hKe56
      refine z_iload hC dX1_round_56 rfl ?_
      refine z_aload_n hC dX1_round_58 rfl rfl ?_
      refine g_X1_12_0 hC dX1_round_59 ?_
      obtain ⟨h9, hV⟩ := hV
      refine zz_at rfl (by rw [pvo h9]) ?_
      obtain ⟨⟨n13, h12⟩, hV⟩ := hV
      refine c_X1_271 hC (by decide) dX1_round_62 (Nat.le_of_ble_eq_true rfl) h12 hV (fun r10 σ11 hV => ?_)
      refine z_icmp_ge (tgt := 147) hC dX1_round_65 (by decide) (fun hc => ?_) (fun hc => ?_)
      · replace hV := hV.2 hc
        refine z_iconst (v := 0) hC dX1_round_147 rfl ?_
        refine z_istore hC dX1_round_148 (Nat.le_of_ble_eq_true rfl) rfl rfl ?_
        refine zz_sub (L' := [some (.ref (E.1.heap.size + 0)), some (.int x1), some (.int x2), some (.int x3), some (.int 0), none]) ⟨rfl, rfl, rfl, rfl, rfl, trivial⟩ ?_
        exact j_150 σ11 x1 x2 x3 0 hV
      · replace hV := hV.1 hc
        refine z_aload_n hC dX1_round_68 rfl rfl ?_
        refine g_X1_12_0 hC dX1_round_69 ?_
        obtain ⟨h38, hV⟩ := hV
        refine zz_at rfl (by rw [pvo h38]) ?_
        refine z_iload hC dX1_round_72 rfl ?_
        obtain ⟨⟨n42, h41⟩, hV⟩ := hV
        refine c_X1_150 hC (by decide) dX1_round_74 (Nat.le_of_ble_eq_true rfl) h41 hV (fun r39 σ40 hV => ?_)
        refine z_if_eq (tgt := 141) hC dX1_round_77 (by decide) (fun hc => ?_) (fun hc => ?_)
        · replace hV := hV.1 hc
          obtain ⟨y43, e_y43⟩ : ∃ z : Int32, z = x4 + 1 := ⟨_, rfl⟩
          replace hV := hV _ e_y43
          refine z_iinc (v := y43) hC dX1_round_141 rfl (by rw [e_y43]; rfl) (Nat.le_of_ble_eq_true rfl) rfl rfl ?_
          refine z_goto (tgt := 56) hC dX1_round_144 (by decide) ?_
          refine zz_sub (L' := [some (.ref (E.1.heap.size + 0)), some (.int x1), some (.int x2), some (.int x3), some (.int y43), none]) ⟨rfl, rfl, rfl, rfl, rfl, trivial⟩ ?_
          exact j_56 σ40 x1 x2 x3 y43 hV
        · replace hV := hV.2 hc
          refine z_aload_n hC dX1_round_80 rfl rfl ?_
          refine g_X1_12_0 hC dX1_round_81 ?_
          obtain ⟨h44, hV⟩ := hV
          refine zz_at rfl (by rw [pvo h44]) ?_
          refine z_iload hC dX1_round_84 rfl ?_
          obtain ⟨⟨n48, h47⟩, hV⟩ := hV
          refine c_X1_280 hC (by decide) dX1_round_86 (Nat.le_of_ble_eq_true rfl) h47 hV (fun r45 σ46 hV => ?_)
          refine z_iload_n hC dX1_round_89 rfl rfl ?_
          refine z_icmp_ne (tgt := 141) hC dX1_round_90 (by decide) (fun hc => ?_) (fun hc => ?_)
          · replace hV := hV.2 hc
            obtain ⟨y49, e_y49⟩ : ∃ z : Int32, z = x4 + 1 := ⟨_, rfl⟩
            replace hV := hV _ e_y49
            refine z_iinc (v := y49) hC dX1_round_141 rfl (by rw [e_y49]; rfl) (Nat.le_of_ble_eq_true rfl) rfl rfl ?_
            refine z_goto (tgt := 56) hC dX1_round_144 (by decide) ?_
            refine zz_sub (L' := [some (.ref (E.1.heap.size + 0)), some (.int x1), some (.int x2), some (.int x3), some (.int y49), none]) ⟨rfl, rfl, rfl, rfl, rfl, trivial⟩ ?_
            exact j_56 σ46 x1 x2 x3 y49 hV
          · replace hV := hV.1 hc
            refine z_aload_n hC dX1_round_93 rfl rfl ?_
            refine g_X1_66_0 hC dX1_round_94 ?_
            refine z_bipush (v := 48) hC dX1_round_97 rfl ?_
            refine z_aload_n hC dX1_round_99 rfl rfl ?_
            refine z_iconst (v := 0) hC dX1_round_100 rfl ?_
            refine z_iload hC dX1_round_101 rfl ?_
            refine c_X1_357 hC (by decide) dX1_round_103 (Nat.le_of_ble_eq_true rfl) hV (fun r50 σ51 hV => ?_)
            refine z_imul hC dX1_round_106 ?_
            refine z_iload hC dX1_round_107 rfl ?_
            refine z_iadd hC dX1_round_109 ?_
            refine z_aload_n hC dX1_round_110 rfl rfl ?_
            refine g_X1_66_0 hC dX1_round_111 ?_
            refine z_bipush (v := 48) hC dX1_round_114 rfl ?_
            refine z_aload_n hC dX1_round_116 rfl rfl ?_
            refine z_iconst (v := 0) hC dX1_round_117 rfl ?_
            refine z_iload hC dX1_round_118 rfl ?_
            refine c_X1_357 hC (by decide) dX1_round_120 (Nat.le_of_ble_eq_true rfl) hV (fun r52 σ53 hV => ?_)
            refine z_imul hC dX1_round_123 ?_
            refine z_iload hC dX1_round_124 rfl ?_
            refine z_iadd hC dX1_round_126 ?_
            obtain ⟨h54, hV⟩ := hV
            refine z_iald hC dX1_round_127 (k_27 _) (h54) ?_
            refine z_aload_n hC dX1_round_128 rfl rfl ?_
            refine g_X1_12_0 hC dX1_round_129 ?_
            obtain ⟨h55, hV⟩ := hV
            refine zz_at rfl (by rw [pvo h55]) ?_
            refine z_iload hC dX1_round_132 rfl ?_
            obtain ⟨⟨n59, h58⟩, hV⟩ := hV
            refine c_X1_278 hC (by decide) dX1_round_134 (Nat.le_of_ble_eq_true rfl) h58 hV (fun r56 σ57 hV => ?_)
            refine z_mmin hC dX1_round_137 q1311 (by decide) (Nat.le_of_ble_eq_true rfl) ?_
            obtain ⟨h61, hV⟩ := hV
            refine z_iast hC dX1_round_140 (k_27 _) (h61) ?_
            obtain ⟨σ62, e_σ62⟩ : ∃ z : ZS, z = sI σ57 27 (ix ((48 * r50) + x4)) (if r56 < (zI σ53 27 (ix ((48 * r52) + x4))) then r56 else (zI σ53 27 (ix ((48 * r52) + x4)))) := ⟨_, rfl⟩
            replace hV := hV _ e_σ62
            rw [← e_σ62]
            obtain ⟨y63, e_y63⟩ : ∃ z : Int32, z = x4 + 1 := ⟨_, rfl⟩
            replace hV := hV _ e_y63
            refine z_iinc (v := y63) hC dX1_round_141 rfl (by rw [e_y63]; rfl) (Nat.le_of_ble_eq_true rfl) rfl rfl ?_
            refine z_goto (tgt := 56) hC dX1_round_144 (by decide) ?_
            refine zz_sub (L' := [some (.ref (E.1.heap.size + 0)), some (.int x1), some (.int x2), some (.int x3), some (.int y63), none]) ⟨rfl, rfl, rfl, rfl, rfl, trivial⟩ ?_
            exact j_56 σ62 x1 x2 x3 y63 hV
  have j_28 : ∀ (σ : ZS) (x1 : Int32) (x2 : Int32) (x3 : Int32) (x4 : Int32), V_X1_round_28 Thr Ret σ x1 x2 x3 x4 → zz C E NS 6 σ 28 [some (.ref (E.1.heap.size + 0)), some (.int x1), some (.int x2), some (.int x3), some (.int x4), none] [] := by
    intro σ x1 x2 x3 x4 ⟨k, hV⟩
    revert σ x1 x2 x3 x4
    induction k with
    | zero => exact fun _ _ _ _ _ hV => hV.elim
    | succ k j_28 =>
      intro σ x1 x2 x3 x4 hV
      simp only [VL_X1_round_28] at hV
      generalize hKe28 : VL_X1_round_28 Thr Ret k = K28 at hV j_28
      clear hKe28
      refine z_iload hC dX1_round_28 rfl ?_
      refine z_bipush (v := 48) hC dX1_round_30 rfl ?_
      refine z_iload_n hC dX1_round_32 rfl rfl ?_
      refine z_ishl hC dX1_round_33 ?_
      refine z_icmp_ge (tgt := 53) hC dX1_round_34 (by decide) (fun hc => ?_) (fun hc => ?_)
      · replace hV := hV.2 hc
        refine z_iconst (v := 0) hC dX1_round_53 rfl ?_
        refine z_istore hC dX1_round_54 (Nat.le_of_ble_eq_true rfl) rfl rfl ?_
        refine zz_sub (L' := [some (.ref (E.1.heap.size + 0)), some (.int x1), some (.int x2), some (.int x3), some (.int 0), none]) ⟨rfl, rfl, rfl, rfl, rfl, trivial⟩ ?_
        exact j_56 σ x1 x2 x3 0 hV
      · replace hV := hV.1 hc
        refine z_aload_n hC dX1_round_37 rfl rfl ?_
        refine g_X1_66_0 hC dX1_round_38 ?_
        refine z_iload hC dX1_round_41 rfl ?_
        refine z_ldcw hC dX1_round_43 q1301 ?_
        obtain ⟨h64, hV⟩ := hV
        refine z_iast hC dX1_round_46 (k_27 _) (h64) ?_
        obtain ⟨σ65, e_σ65⟩ : ∃ z : ZS, z = sI σ 27 (ix x4) 1000000 := ⟨_, rfl⟩
        replace hV := hV _ e_σ65
        rw [← e_σ65]
        obtain ⟨y66, e_y66⟩ : ∃ z : Int32, z = x4 + 1 := ⟨_, rfl⟩
        replace hV := hV _ e_y66
        refine z_iinc (v := y66) hC dX1_round_47 rfl (by rw [e_y66]; rfl) (Nat.le_of_ble_eq_true rfl) rfl rfl ?_
        refine z_goto (tgt := 28) hC dX1_round_50 (by decide) ?_
        refine zz_sub (L' := [some (.ref (E.1.heap.size + 0)), some (.int x1), some (.int x2), some (.int x3), some (.int y66), none]) ⟨rfl, rfl, rfl, rfl, rfl, trivial⟩ ?_
        exact j_28 σ65 x1 x2 x3 y66 hV
  refine z_aload_n hC dX1_round_0 rfl rfl ?_
  refine z_iload_n hC dX1_round_1 rfl rfl ?_
  refine c_X1_294 hC (by decide) dX1_round_2 (Nat.le_of_ble_eq_true rfl) hV (fun σ2 hV => ?_) (fun x σ hV => zth_out hC (by rw [hQo]; exact Or.inr ⟨_, rfl, hV⟩))
  refine z_aload_n hC dX1_round_5 rfl rfl ?_
  refine z_iload_n hC dX1_round_6 rfl rfl ?_
  refine c_X1_254 hC (by decide) dX1_round_7 (Nat.le_of_ble_eq_true rfl) hV (fun r3 σ4 hV => ?_)
  refine c_X1_164 hC (by decide) dX1_round_10 (Nat.le_of_ble_eq_true rfl) hV (fun σ6 hV => ?_) (fun x σ hV => zth_out hC (by rw [hQo]; exact Or.inr ⟨_, rfl, hV⟩))
  refine z_aload_n hC dX1_round_13 rfl rfl ?_
  refine z_iload_n hC dX1_round_14 rfl rfl ?_
  refine c_X1_354 hC (by decide) dX1_round_15 (Nat.le_of_ble_eq_true rfl) hV (fun r7 σ8 hV => ?_)
  refine z_istore_n hC dX1_round_18 rfl (Nat.le_of_ble_eq_true rfl) rfl rfl ?_
  refine z_iload_n hC dX1_round_19 rfl rfl ?_
  refine z_if_ne (tgt := 25) hC dX1_round_20 (by decide) (fun hc => ?_) (fun hc => ?_)
  · replace hV := hV.2 hc
    refine z_iconst (v := 0) hC dX1_round_25 rfl ?_
    refine z_istore hC dX1_round_26 (Nat.le_of_ble_eq_true rfl) rfl rfl ?_
    refine zz_sub (L' := [some (.ref (E.1.heap.size + 0)), some (.int a1), some (.int a2), some (.int r7), some (.int 0), none]) ⟨rfl, rfl, rfl, rfl, rfl, trivial⟩ ?_
    exact j_28 σ8 a1 a2 r7 0 hV
  · replace hV := hV.1 hc
    refine z_iconst (v := 0) hC dX1_round_23 rfl ?_
    exact z_iret hC dX1_round_24 rfl (by rw [hQo]; exact Or.inl ⟨_, rfl, hV⟩)
theorem g_X1_183_12 {C : ZC} {E : ZE} {cc : ByteArray} {nL pc d : Nat} {nm : String} {ret : Option FieldType} {hh : List (Nat × Nat × Nat × Nat)} {σ : ZS} {L : List (Option Value)} {st : List Value} (hC : Cx C E cc nL "RightTurns" nm ret hh d) (hd : decode cc pc = .ok (.getfield 183, 3)) (k : zz C E NS nL σ (pc + 3) L (.ref (E.1.heap.size + 13) :: st)) : zz C E NS nL σ pc L (.ref (E.1.heap.size + 12) :: st) :=
  z_get hC cf2 hd (k_12 σ) (k := 0) (by decide) (Or.inr ⟨_, q559⟩) (Or.inl rfl) rfl k
def wp_X1_sign (σ : ZS) (a1 : Int32) (a2 : Int32) (a3 : Int32) (Thr : Nat → ZS → Prop) (Ret : Int32 → ZS → Prop) : Prop :=
    wp_X1_needMeeting σ a1 a2 (fun x σ => Thr x σ) (fun σ2 => (((zI σ2 12 3) = 200 → (Ret (-1) σ2)) ∧ (¬ (zI σ2 12 3) = 200 → (wp_X3_isSigned σ2 12 (zI σ2 12 3) a1 a2 (fun r3 σ4 => ((r3 = a3 → (Ret (-2) σ4)) ∧ (¬ r3 = a3 → (wp_X3_goesOn σ4 12 (zI σ4 12 3) (fun σ6 => ∀ y7 : Int32, y7 = (24 * (zI σ6 12 3)) + a1 → (vp_in y7 4824 ∧ (vp_in y7 4824 ∧ (∀ σ10 : ZS, σ10 = sI σ6 13 (ix y7) ((zI σ6 13 (ix y7)) ^^^ ((1 : Int32) <<< (a2 &&& 31))) → (Ret (zI σ10 12 3) σ10)))))))))))))
set_option maxHeartbeats 4000000 in
theorem mz_X1_sign {l : Launch} {E : ZE} (hE : EOK E) {σ : ZS} {a1 : Int32} {a2 : Int32} {a3 : Int32} {Thr : Nat → ZS → Prop} {Ret : Int32 → ZS → Prop} (hV : wp_X1_sign σ a1 a2 a3 Thr Ret) : MZ l E NS yX1_sign (ws_ yX1_sign cX1_sign 4 (some .int)) 8 σ [.ref (E.1.heap.size + 0), .int a1, .int a2, .int a3] (rT E.1.heap.size (rI Ret) Thr) := by
  refine MZ.start (L := [some (.ref (E.1.heap.size + 0)), some (.int a1), some (.int a2), some (.int a3)]) hE (by decide) (Nat.le_of_ble_eq_true rfl) rfl fun C hCl hQo hC => ?_
  replace hC : Cx C E cX1_sign 4 "RightTurns" "sign" (some .int) [] 8 := hC
  unfold wp_X1_sign at hV
  refine z_aload_n hC dX1_sign_0 rfl rfl ?_
  refine z_iload_n hC dX1_sign_1 rfl rfl ?_
  refine z_iload_n hC dX1_sign_2 rfl rfl ?_
  refine c_X1_264 hC (by decide) dX1_sign_3 (Nat.le_of_ble_eq_true rfl) hV (fun σ2 hV => ?_) (fun x σ hV => zth_out hC (by rw [hQo]; exact Or.inr ⟨_, rfl, hV⟩))
  refine z_aload_n hC dX1_sign_6 rfl rfl ?_
  refine g_X1_19_0 hC dX1_sign_7 ?_
  refine g_X1_154_12 hC dX1_sign_10 ?_
  refine z_sipush (v := 200) hC dX1_sign_13 rfl ?_
  refine z_icmp_ne (tgt := 21) hC dX1_sign_16 (by decide) (fun hc => ?_) (fun hc => ?_)
  · replace hV := hV.2 hc
    refine z_aload_n hC dX1_sign_21 rfl rfl ?_
    refine g_X1_19_0 hC dX1_sign_22 ?_
    refine z_aload_n hC dX1_sign_25 rfl rfl ?_
    refine g_X1_19_0 hC dX1_sign_26 ?_
    refine g_X1_154_12 hC dX1_sign_29 ?_
    refine z_iload_n hC dX1_sign_32 rfl rfl ?_
    refine z_iload_n hC dX1_sign_33 rfl rfl ?_
    refine c_X1_247 hC (by decide) dX1_sign_34 (Nat.le_of_ble_eq_true rfl) (k_12 _) hV (fun r3 σ4 hV => ?_)
    refine z_iload_n hC dX1_sign_37 rfl rfl ?_
    refine z_icmp_ne (tgt := 44) hC dX1_sign_38 (by decide) (fun hc => ?_) (fun hc => ?_)
    · replace hV := hV.2 hc
      refine z_aload_n hC dX1_sign_44 rfl rfl ?_
      refine g_X1_19_0 hC dX1_sign_45 ?_
      refine z_aload_n hC dX1_sign_48 rfl rfl ?_
      refine g_X1_19_0 hC dX1_sign_49 ?_
      refine g_X1_154_12 hC dX1_sign_52 ?_
      refine c_X1_268 hC (by decide) dX1_sign_55 (Nat.le_of_ble_eq_true rfl) (k_12 _) hV (fun σ6 hV => ?_)
      refine z_aload_n hC dX1_sign_58 rfl rfl ?_
      refine g_X1_19_0 hC dX1_sign_59 ?_
      refine g_X1_183_12 hC dX1_sign_62 ?_
      refine z_bipush (v := 24) hC dX1_sign_65 rfl ?_
      refine z_aload_n hC dX1_sign_67 rfl rfl ?_
      refine g_X1_19_0 hC dX1_sign_68 ?_
      refine g_X1_154_12 hC dX1_sign_71 ?_
      refine z_imul hC dX1_sign_74 ?_
      refine z_iload_n hC dX1_sign_75 rfl rfl ?_
      refine z_iadd hC dX1_sign_76 ?_
      obtain ⟨y7, e_y7⟩ : ∃ z, z = (24 * (zI σ6 12 3)) + a1 := ⟨_, rfl⟩
      rw [← e_y7]
      replace hV := hV _ e_y7
      refine z_dup2 hC dX1_sign_77 rfl rfl ?_
      obtain ⟨h8, hV⟩ := hV
      refine z_iald hC dX1_sign_78 (k_13 _) (h8) ?_
      refine z_iconst (v := 1) hC dX1_sign_79 rfl ?_
      refine z_iload_n hC dX1_sign_80 rfl rfl ?_
      refine z_ishl hC dX1_sign_81 ?_
      refine z_ixor hC dX1_sign_82 ?_
      obtain ⟨h9, hV⟩ := hV
      refine z_iast hC dX1_sign_83 (k_13 _) (h9) ?_
      obtain ⟨σ10, e_σ10⟩ : ∃ z : ZS, z = sI σ6 13 (ix y7) ((zI σ6 13 (ix y7)) ^^^ ((1 : Int32) <<< (a2 &&& 31))) := ⟨_, rfl⟩
      replace hV := hV _ e_σ10
      rw [← e_σ10]
      refine z_aload_n hC dX1_sign_84 rfl rfl ?_
      refine g_X1_19_0 hC dX1_sign_85 ?_
      refine g_X1_154_12 hC dX1_sign_88 ?_
      exact z_iret hC dX1_sign_91 rfl (by rw [hQo]; exact Or.inl ⟨_, rfl, hV⟩)
    · replace hV := hV.1 hc
      refine z_bipush (v := (-2)) hC dX1_sign_41 rfl ?_
      exact z_iret hC dX1_sign_43 rfl (by rw [hQo]; exact Or.inl ⟨_, rfl, hV⟩)
  · replace hV := hV.1 hc
    refine z_iconst (v := (-1)) hC dX1_sign_19 rfl ?_
    exact z_iret hC dX1_sign_20 rfl (by rw [hQo]; exact Or.inl ⟨_, rfl, hV⟩)
def V_X1_since_53 (K21 : ZS → Int32 → Int32 → Int32 → Int32 → Prop) (Thr : Nat → ZS → Prop) (Ret : Int32 → ZS → Prop) (σ : ZS) (x1 : Int32) (x2 : Int32) (x4 : Int32) (x5 : Int32) (s0 : Int32) : Prop :=
    ((s0 = x4 → (Ret x5 σ)) ∧ (¬ s0 = x4 → (∀ y11 : Int32, y11 = x5 + 1 → (K21 σ x1 x2 x4 y11))))
def VL_X1_since_21 (Thr : Nat → ZS → Prop) (Ret : Int32 → ZS → Prop) : Nat → ZS → Int32 → Int32 → Int32 → Int32 → Prop
  | 0 => fun _ _ _ _ _ => False
  | k + 1 => fun σ x1 x2 x4 x5 =>
    let K21 := VL_X1_since_21 Thr Ret k
    (((zI σ 12 3) < x5 → (Ret (-1) σ)) ∧ (¬ (zI σ 12 3) < x5 → (wp_X1_reached σ x1 x5 (fun r9 σ10 => ((((r9 >>> (x2 &&& 31)) &&& 1) = 1 → (V_X1_since_53 K21 Thr Ret σ10 x1 x2 x4 x5 1)) ∧ (¬ ((r9 >>> (x2 &&& 31)) &&& 1) = 1 → (V_X1_since_53 K21 Thr Ret σ10 x1 x2 x4 x5 0)))))))
def V_X1_since_21 (Thr : Nat → ZS → Prop) (Ret : Int32 → ZS → Prop) (σ : ZS) (x1 : Int32) (x2 : Int32) (x4 : Int32) (x5 : Int32) : Prop := ∃ k, VL_X1_since_21 Thr Ret k σ x1 x2 x4 x5
def wp_X1_since (σ : ZS) (a1 : Int32) (a2 : Int32) (a3 : Int32) (a4 : Int32) (Thr : Nat → ZS → Prop) (Ret : Int32 → ZS → Prop) : Prop :=
    wp_X1_needCorner σ a1 (fun x σ => Thr x σ) (fun σ2 => wp_X1_needCorner σ2 a2 (fun x σ => Thr x σ) (fun σ4 => wp_X1_isTime σ4 a3 (fun r5 σ6 => wp_X1_need σ6 r5 (fun x σ => Thr x σ) (fun σ8 => V_X1_since_21 Thr Ret σ8 a1 a2 a4 a3))))
set_option maxHeartbeats 4000000 in
theorem mz_X1_since {l : Launch} {E : ZE} (hE : EOK E) {σ : ZS} {a1 : Int32} {a2 : Int32} {a3 : Int32} {a4 : Int32} {Thr : Nat → ZS → Prop} {Ret : Int32 → ZS → Prop} (hV : wp_X1_since σ a1 a2 a3 a4 Thr Ret) : MZ l E NS yX1_since (ws_ yX1_since cX1_since 6 (some .int)) 10 σ [.ref (E.1.heap.size + 0), .int a1, .int a2, .int a3, .int a4] (rT E.1.heap.size (rI Ret) Thr) := by
  refine MZ.start (L := [some (.ref (E.1.heap.size + 0)), some (.int a1), some (.int a2), some (.int a3), some (.int a4), none]) hE (by decide) (Nat.le_of_ble_eq_true rfl) rfl fun C hCl hQo hC => ?_
  replace hC : Cx C E cX1_since 6 "RightTurns" "since" (some .int) [] 10 := hC
  unfold wp_X1_since at hV
  have j_21 : ∀ (σ : ZS) (x1 : Int32) (x2 : Int32) (x4 : Int32) (x5 : Int32), V_X1_since_21 Thr Ret σ x1 x2 x4 x5 → zz C E NS 6 σ 21 [some (.ref (E.1.heap.size + 0)), some (.int x1), some (.int x2), none, some (.int x4), some (.int x5)] [] := by
    intro σ x1 x2 x4 x5 ⟨k, hV⟩
    revert σ x1 x2 x4 x5
    induction k with
    | zero => exact fun _ _ _ _ _ hV => hV.elim
    | succ k j_21 =>
      intro σ x1 x2 x4 x5 hV
      simp only [VL_X1_since_21] at hV
      generalize hKe21 : VL_X1_since_21 Thr Ret k = K21 at hV j_21
      clear hKe21
      have j_53 : ∀ (σ : ZS) (x1 : Int32) (x2 : Int32) (x4 : Int32) (x5 : Int32) (s0 : Int32), V_X1_since_53 K21 Thr Ret σ x1 x2 x4 x5 s0 → zz C E NS 6 σ 53 [some (.ref (E.1.heap.size + 0)), some (.int x1), some (.int x2), none, some (.int x4), some (.int x5)] [.int s0] := by
        intro σ x1 x2 x4 x5 s0 hV
        unfold V_X1_since_53 at hV
        refine z_iload hC dX1_since_53 rfl ?_
        refine z_icmp_ne (tgt := 61) hC dX1_since_55 (by decide) (fun hc => ?_) (fun hc => ?_)
        · replace hV := hV.2 hc
          obtain ⟨y11, e_y11⟩ : ∃ z : Int32, z = x5 + 1 := ⟨_, rfl⟩
          replace hV := hV _ e_y11
          refine z_iinc (v := y11) hC dX1_since_61 rfl (by rw [e_y11]; rfl) (Nat.le_of_ble_eq_true rfl) rfl rfl ?_
          refine z_goto (tgt := 21) hC dX1_since_64 (by decide) ?_
          refine zz_sub (L' := [some (.ref (E.1.heap.size + 0)), some (.int x1), some (.int x2), none, some (.int x4), some (.int y11)]) ⟨rfl, rfl, rfl, rfl, rfl, trivial⟩ ?_
          exact j_21 σ x1 x2 x4 y11 hV
        · replace hV := hV.1 hc
          refine z_iload hC dX1_since_58 rfl ?_
          exact z_iret hC dX1_since_60 rfl (by rw [hQo]; exact Or.inl ⟨_, rfl, hV⟩)
      refine z_iload hC dX1_since_21 rfl ?_
      refine z_aload_n hC dX1_since_23 rfl rfl ?_
      refine g_X1_19_0 hC dX1_since_24 ?_
      refine g_X1_154_12 hC dX1_since_27 ?_
      refine z_icmp_gt (tgt := 67) hC dX1_since_30 (by decide) (fun hc => ?_) (fun hc => ?_)
      · replace hV := hV.1 hc
        refine z_iconst (v := (-1)) hC dX1_since_67 rfl ?_
        exact z_iret hC dX1_since_68 rfl (by rw [hQo]; exact Or.inl ⟨_, rfl, hV⟩)
      · replace hV := hV.2 hc
        refine z_aload_n hC dX1_since_33 rfl rfl ?_
        refine z_iload_n hC dX1_since_34 rfl rfl ?_
        refine z_iload hC dX1_since_35 rfl ?_
        refine c_X1_310 hC (by decide) dX1_since_37 (Nat.le_of_ble_eq_true rfl) hV (fun r9 σ10 hV => ?_)
        refine z_iload_n hC dX1_since_40 rfl rfl ?_
        refine z_ishr hC dX1_since_41 ?_
        refine z_iconst (v := 1) hC dX1_since_42 rfl ?_
        refine z_iand hC dX1_since_43 ?_
        refine z_iconst (v := 1) hC dX1_since_44 rfl ?_
        refine z_icmp_ne (tgt := 52) hC dX1_since_45 (by decide) (fun hc => ?_) (fun hc => ?_)
        · replace hV := hV.2 hc
          refine z_iconst (v := 0) hC dX1_since_52 rfl ?_
          refine zz_sub (L' := [some (.ref (E.1.heap.size + 0)), some (.int x1), some (.int x2), none, some (.int x4), some (.int x5)]) ⟨rfl, rfl, rfl, rfl, rfl, trivial⟩ ?_
          exact j_53 σ10 x1 x2 x4 x5 0 hV
        · replace hV := hV.1 hc
          refine z_iconst (v := 1) hC dX1_since_48 rfl ?_
          refine z_goto (tgt := 53) hC dX1_since_49 (by decide) ?_
          refine zz_sub (L' := [some (.ref (E.1.heap.size + 0)), some (.int x1), some (.int x2), none, some (.int x4), some (.int x5)]) ⟨rfl, rfl, rfl, rfl, rfl, trivial⟩ ?_
          exact j_53 σ10 x1 x2 x4 x5 1 hV
  refine z_aload_n hC dX1_since_0 rfl rfl ?_
  refine z_iload_n hC dX1_since_1 rfl rfl ?_
  refine c_X1_294 hC (by decide) dX1_since_2 (Nat.le_of_ble_eq_true rfl) hV (fun σ2 hV => ?_) (fun x σ hV => zth_out hC (by rw [hQo]; exact Or.inr ⟨_, rfl, hV⟩))
  refine z_aload_n hC dX1_since_5 rfl rfl ?_
  refine z_iload_n hC dX1_since_6 rfl rfl ?_
  refine c_X1_294 hC (by decide) dX1_since_7 (Nat.le_of_ble_eq_true rfl) hV (fun σ4 hV => ?_) (fun x σ hV => zth_out hC (by rw [hQo]; exact Or.inr ⟨_, rfl, hV⟩))
  refine z_aload_n hC dX1_since_10 rfl rfl ?_
  refine z_iload_n hC dX1_since_11 rfl rfl ?_
  refine c_X1_254 hC (by decide) dX1_since_12 (Nat.le_of_ble_eq_true rfl) hV (fun r5 σ6 hV => ?_)
  refine c_X1_164 hC (by decide) dX1_since_15 (Nat.le_of_ble_eq_true rfl) hV (fun σ8 hV => ?_) (fun x σ hV => zth_out hC (by rw [hQo]; exact Or.inr ⟨_, rfl, hV⟩))
  refine z_iload_n hC dX1_since_18 rfl rfl ?_
  refine z_istore hC dX1_since_19 (Nat.le_of_ble_eq_true rfl) rfl rfl ?_
  refine zz_sub (L' := [some (.ref (E.1.heap.size + 0)), some (.int a1), some (.int a2), none, some (.int a4), some (.int a3)]) ⟨rfl, rfl, rfl, rfl, rfl, trivial⟩ ?_
  exact j_21 σ8 a1 a2 a4 a3 hV
def V_X1_stands_36 (Thr : Nat → ZS → Prop) (Ret : Int32 → ZS → Prop) (σ : ZS) (x1 : Int32) (x2 : Int32) (x3 : Int32) (x4 : Int32) (s0 : Int32) : Prop :=
    wp_X1_need σ s0 (fun x σ => Thr x σ) (fun σ8 => ((x4 = 0 → (wp_X3_isSigned σ8 12 x3 x1 x2 (fun r12 σ13 => isB r12 ∧ (Ret r12 σ13)))) ∧ (¬ x4 = 0 → (wp_X3_isAllowed σ8 12 x3 x1 x2 (fun r9 σ10 => isB r9 ∧ (Ret r9 σ10))))))
def V_X1_stands_35 (Thr : Nat → ZS → Prop) (Ret : Int32 → ZS → Prop) (σ : ZS) (x1 : Int32) (x2 : Int32) (x3 : Int32) (x4 : Int32) : Prop :=
    V_X1_stands_36 Thr Ret σ x1 x2 x3 x4 0
def V_X1_stands_31 (Thr : Nat → ZS → Prop) (Ret : Int32 → ZS → Prop) (σ : ZS) (x1 : Int32) (x2 : Int32) (x3 : Int32) (x4 : Int32) : Prop :=
    V_X1_stands_36 Thr Ret σ x1 x2 x3 x4 1
def wp_X1_stands (σ : ZS) (a1 : Int32) (a2 : Int32) (a3 : Int32) (a4 : Int32) (Thr : Nat → ZS → Prop) (Ret : Int32 → ZS → Prop) : Prop :=
    wp_X1_streetOf σ a1 (fun x σ => Thr x σ) (fun r1 σ2 => wp_X1_streetOf σ2 a2 (fun x σ => Thr x σ) (fun r3 σ4 => wp_X1_isTime σ4 a3 (fun r5 σ6 => ((r5 = 0 → (V_X1_stands_35 Thr Ret σ6 a1 a2 a3 a4)) ∧ (¬ r5 = 0 → (((a4 = 0 → (V_X1_stands_31 Thr Ret σ6 a1 a2 a3 a4)) ∧ (¬ a4 = 0 → (((a4 = 1 → (V_X1_stands_31 Thr Ret σ6 a1 a2 a3 a4)) ∧ (¬ a4 = 1 → (V_X1_stands_35 Thr Ret σ6 a1 a2 a3 a4))))))))))))
set_option maxHeartbeats 4000000 in
theorem mz_X1_stands {l : Launch} {E : ZE} (hE : EOK E) {σ : ZS} {a1 : Int32} {a2 : Int32} {a3 : Int32} {a4 : Int32} {Thr : Nat → ZS → Prop} {Ret : Int32 → ZS → Prop} (hV : wp_X1_stands σ a1 a2 a3 a4 Thr Ret) : MZ l E NS yX1_stands (ws_ yX1_stands cX1_stands 5 (some .boolean)) 7 σ [.ref (E.1.heap.size + 0), .int a1, .int a2, .int a3, .int a4] (rT E.1.heap.size (rI Ret) Thr) := by
  refine MZ.start (L := [some (.ref (E.1.heap.size + 0)), some (.int a1), some (.int a2), some (.int a3), some (.int a4)]) hE (by decide) (Nat.le_of_ble_eq_true rfl) rfl fun C hCl hQo hC => ?_
  replace hC : Cx C E cX1_stands 5 "RightTurns" "stands" (some .boolean) [] 7 := hC
  unfold wp_X1_stands at hV
  have j_36 : ∀ (σ : ZS) (x1 : Int32) (x2 : Int32) (x3 : Int32) (x4 : Int32) (s0 : Int32), V_X1_stands_36 Thr Ret σ x1 x2 x3 x4 s0 → zz C E NS 5 σ 36 [some (.ref (E.1.heap.size + 0)), some (.int x1), some (.int x2), some (.int x3), some (.int x4)] [.int s0] := by
    intro σ x1 x2 x3 x4 s0 hV
    unfold V_X1_stands_36 at hV
    refine c_X1_164 hC (by decide) dX1_stands_36 (Nat.le_of_ble_eq_true rfl) hV (fun σ8 hV => ?_) (fun x σ hV => zth_out hC (by rw [hQo]; exact Or.inr ⟨_, rfl, hV⟩))
    refine z_iload hC dX1_stands_39 rfl ?_
    refine z_if_ne (tgt := 57) hC dX1_stands_41 (by decide) (fun hc => ?_) (fun hc => ?_)
    · replace hV := hV.2 hc
      refine z_aload_n hC dX1_stands_57 rfl rfl ?_
      refine g_X1_19_0 hC dX1_stands_58 ?_
      refine z_iload_n hC dX1_stands_61 rfl rfl ?_
      refine z_iload_n hC dX1_stands_62 rfl rfl ?_
      refine z_iload_n hC dX1_stands_63 rfl rfl ?_
      refine c_X1_251 hC (by decide) dX1_stands_64 (Nat.le_of_ble_eq_true rfl) (k_12 _) hV (fun r9 σ10 hV => ?_)
      obtain ⟨h11, hV⟩ := hV
      exact z_iret hC dX1_stands_67 h11 (by rw [hQo]; exact Or.inl ⟨_, rfl, hV⟩)
    · replace hV := hV.1 hc
      refine z_aload_n hC dX1_stands_44 rfl rfl ?_
      refine g_X1_19_0 hC dX1_stands_45 ?_
      refine z_iload_n hC dX1_stands_48 rfl rfl ?_
      refine z_iload_n hC dX1_stands_49 rfl rfl ?_
      refine z_iload_n hC dX1_stands_50 rfl rfl ?_
      refine c_X1_247 hC (by decide) dX1_stands_51 (Nat.le_of_ble_eq_true rfl) (k_12 _) hV (fun r12 σ13 hV => ?_)
      refine z_goto (tgt := 67) hC dX1_stands_54 (by decide) ?_
      obtain ⟨h14, hV⟩ := hV
      exact z_iret hC dX1_stands_67 h14 (by rw [hQo]; exact Or.inl ⟨_, rfl, hV⟩)
  have j_35 : ∀ (σ : ZS) (x1 : Int32) (x2 : Int32) (x3 : Int32) (x4 : Int32), V_X1_stands_35 Thr Ret σ x1 x2 x3 x4 → zz C E NS 5 σ 35 [some (.ref (E.1.heap.size + 0)), some (.int x1), some (.int x2), some (.int x3), some (.int x4)] [] := by
    intro σ x1 x2 x3 x4 hV
    unfold V_X1_stands_35 at hV
    refine z_iconst (v := 0) hC dX1_stands_35 rfl ?_
    refine zz_sub (L' := [some (.ref (E.1.heap.size + 0)), some (.int x1), some (.int x2), some (.int x3), some (.int x4)]) ⟨rfl, rfl, rfl, rfl, rfl, trivial⟩ ?_
    exact j_36 σ x1 x2 x3 x4 0 hV
  have j_31 : ∀ (σ : ZS) (x1 : Int32) (x2 : Int32) (x3 : Int32) (x4 : Int32), V_X1_stands_31 Thr Ret σ x1 x2 x3 x4 → zz C E NS 5 σ 31 [some (.ref (E.1.heap.size + 0)), some (.int x1), some (.int x2), some (.int x3), some (.int x4)] [] := by
    intro σ x1 x2 x3 x4 hV
    unfold V_X1_stands_31 at hV
    refine z_iconst (v := 1) hC dX1_stands_31 rfl ?_
    refine z_goto (tgt := 36) hC dX1_stands_32 (by decide) ?_
    refine zz_sub (L' := [some (.ref (E.1.heap.size + 0)), some (.int x1), some (.int x2), some (.int x3), some (.int x4)]) ⟨rfl, rfl, rfl, rfl, rfl, trivial⟩ ?_
    exact j_36 σ x1 x2 x3 x4 1 hV
  refine z_aload_n hC dX1_stands_0 rfl rfl ?_
  refine z_iload_n hC dX1_stands_1 rfl rfl ?_
  refine c_X1_220 hC (by decide) dX1_stands_2 (Nat.le_of_ble_eq_true rfl) hV (fun r1 σ2 hV => ?_) (fun x σ hV => zth_out hC (by rw [hQo]; exact Or.inr ⟨_, rfl, hV⟩))
  refine z_pop hC dX1_stands_5 (pv_cat _ _) ?_
  refine z_aload_n hC dX1_stands_6 rfl rfl ?_
  refine z_iload_n hC dX1_stands_7 rfl rfl ?_
  refine c_X1_220 hC (by decide) dX1_stands_8 (Nat.le_of_ble_eq_true rfl) hV (fun r3 σ4 hV => ?_) (fun x σ hV => zth_out hC (by rw [hQo]; exact Or.inr ⟨_, rfl, hV⟩))
  refine z_pop hC dX1_stands_11 (pv_cat _ _) ?_
  refine z_aload_n hC dX1_stands_12 rfl rfl ?_
  refine z_iload_n hC dX1_stands_13 rfl rfl ?_
  refine c_X1_254 hC (by decide) dX1_stands_14 (Nat.le_of_ble_eq_true rfl) hV (fun r5 σ6 hV => ?_)
  refine z_if_eq (tgt := 35) hC dX1_stands_17 (by decide) (fun hc => ?_) (fun hc => ?_)
  · replace hV := hV.1 hc
    refine zz_sub (L' := [some (.ref (E.1.heap.size + 0)), some (.int a1), some (.int a2), some (.int a3), some (.int a4)]) ⟨rfl, rfl, rfl, rfl, rfl, trivial⟩ ?_
    exact j_35 σ6 a1 a2 a3 a4 hV
  · replace hV := hV.2 hc
    refine z_iload hC dX1_stands_20 rfl ?_
    refine z_if_eq (tgt := 31) hC dX1_stands_22 (by decide) (fun hc => ?_) (fun hc => ?_)
    · replace hV := hV.1 hc
      refine zz_sub (L' := [some (.ref (E.1.heap.size + 0)), some (.int a1), some (.int a2), some (.int a3), some (.int a4)]) ⟨rfl, rfl, rfl, rfl, rfl, trivial⟩ ?_
      exact j_31 σ6 a1 a2 a3 a4 hV
    · replace hV := hV.2 hc
      refine z_iload hC dX1_stands_25 rfl ?_
      refine z_iconst (v := 1) hC dX1_stands_27 rfl ?_
      refine z_icmp_ne (tgt := 35) hC dX1_stands_28 (by decide) (fun hc => ?_) (fun hc => ?_)
      · replace hV := hV.2 hc
        refine zz_sub (L' := [some (.ref (E.1.heap.size + 0)), some (.int a1), some (.int a2), some (.int a3), some (.int a4)]) ⟨rfl, rfl, rfl, rfl, rfl, trivial⟩ ?_
        exact j_35 σ6 a1 a2 a3 a4 hV
      · replace hV := hV.1 hc
        refine zz_sub (L' := [some (.ref (E.1.heap.size + 0)), some (.int a1), some (.int a2), some (.int a3), some (.int a4)]) ⟨rfl, rfl, rfl, rfl, rfl, trivial⟩ ?_
        exact j_31 σ6 a1 a2 a3 a4 hV
def wp_X1_step (σ : ZS) (a1 : Int32) (a2 : Int32) (a3 : Int32) (a4 : Int32) (Thr : Nat → ZS → Prop) (Ret : Int32 → ZS → Prop) : Prop :=
    wp_X1_needCorner σ a1 (fun x σ => Thr x σ) (fun σ2 => wp_X1_needCorner σ2 a2 (fun x σ => Thr x σ) (fun σ4 => wp_X1_isTime σ4 a3 (fun r5 σ6 => wp_X1_need σ6 r5 (fun x σ => Thr x σ) (fun σ8 => wp_X1_pathOf σ8 a1 a2 a3 (fun r9 σ10 => ((a4 < 0 → (Ret (-1) σ10)) ∧ (¬ a4 < 0 → (((a4 < r9 → (vp_in a4 48 ∧ (Ret (zI σ10 21 (ix a4)) σ10))) ∧ (¬ a4 < r9 → (Ret (-1) σ10)))))))))))
set_option maxHeartbeats 4000000 in
theorem mz_X1_step {l : Launch} {E : ZE} (hE : EOK E) {σ : ZS} {a1 : Int32} {a2 : Int32} {a3 : Int32} {a4 : Int32} {Thr : Nat → ZS → Prop} {Ret : Int32 → ZS → Prop} (hV : wp_X1_step σ a1 a2 a3 a4 Thr Ret) : MZ l E NS yX1_step (ws_ yX1_step cX1_step 6 (some .int)) 11 σ [.ref (E.1.heap.size + 0), .int a1, .int a2, .int a3, .int a4] (rT E.1.heap.size (rI Ret) Thr) := by
  refine MZ.start (L := [some (.ref (E.1.heap.size + 0)), some (.int a1), some (.int a2), some (.int a3), some (.int a4), none]) hE (by decide) (Nat.le_of_ble_eq_true rfl) rfl fun C hCl hQo hC => ?_
  replace hC : Cx C E cX1_step 6 "RightTurns" "step" (some .int) [] 11 := hC
  unfold wp_X1_step at hV
  refine z_aload_n hC dX1_step_0 rfl rfl ?_
  refine z_iload_n hC dX1_step_1 rfl rfl ?_
  refine c_X1_294 hC (by decide) dX1_step_2 (Nat.le_of_ble_eq_true rfl) hV (fun σ2 hV => ?_) (fun x σ hV => zth_out hC (by rw [hQo]; exact Or.inr ⟨_, rfl, hV⟩))
  refine z_aload_n hC dX1_step_5 rfl rfl ?_
  refine z_iload_n hC dX1_step_6 rfl rfl ?_
  refine c_X1_294 hC (by decide) dX1_step_7 (Nat.le_of_ble_eq_true rfl) hV (fun σ4 hV => ?_) (fun x σ hV => zth_out hC (by rw [hQo]; exact Or.inr ⟨_, rfl, hV⟩))
  refine z_aload_n hC dX1_step_10 rfl rfl ?_
  refine z_iload_n hC dX1_step_11 rfl rfl ?_
  refine c_X1_254 hC (by decide) dX1_step_12 (Nat.le_of_ble_eq_true rfl) hV (fun r5 σ6 hV => ?_)
  refine c_X1_164 hC (by decide) dX1_step_15 (Nat.le_of_ble_eq_true rfl) hV (fun σ8 hV => ?_) (fun x σ hV => zth_out hC (by rw [hQo]; exact Or.inr ⟨_, rfl, hV⟩))
  refine z_aload_n hC dX1_step_18 rfl rfl ?_
  refine z_iload_n hC dX1_step_19 rfl rfl ?_
  refine z_iload_n hC dX1_step_20 rfl rfl ?_
  refine z_iload_n hC dX1_step_21 rfl rfl ?_
  refine c_X1_305 hC (by decide) dX1_step_22 (Nat.le_of_ble_eq_true rfl) hV (fun r9 σ10 hV => ?_)
  refine z_istore hC dX1_step_25 (Nat.le_of_ble_eq_true rfl) rfl rfl ?_
  refine z_iload hC dX1_step_27 rfl ?_
  refine z_if_lt (tgt := 39) hC dX1_step_29 (by decide) (fun hc => ?_) (fun hc => ?_)
  · replace hV := hV.1 hc
    refine z_iconst (v := (-1)) hC dX1_step_39 rfl ?_
    refine z_goto (tgt := 50) hC dX1_step_40 (by decide) ?_
    exact z_iret hC dX1_step_50 rfl (by rw [hQo]; exact Or.inl ⟨_, rfl, hV⟩)
  · replace hV := hV.2 hc
    refine z_iload hC dX1_step_32 rfl ?_
    refine z_iload hC dX1_step_34 rfl ?_
    refine z_icmp_lt (tgt := 43) hC dX1_step_36 (by decide) (fun hc => ?_) (fun hc => ?_)
    · replace hV := hV.1 hc
      refine z_aload_n hC dX1_step_43 rfl rfl ?_
      refine g_X1_45_0 hC dX1_step_44 ?_
      refine z_iload hC dX1_step_47 rfl ?_
      obtain ⟨h11, hV⟩ := hV
      refine z_iald hC dX1_step_49 (k_21 _) (h11) ?_
      exact z_iret hC dX1_step_50 rfl (by rw [hQo]; exact Or.inl ⟨_, rfl, hV⟩)
    · replace hV := hV.2 hc
      refine z_iconst (v := (-1)) hC dX1_step_39 rfl ?_
      refine z_goto (tgt := 50) hC dX1_step_40 (by decide) ?_
      exact z_iret hC dX1_step_50 rfl (by rw [hQo]; exact Or.inl ⟨_, rfl, hV⟩)
theorem g_X1_224_c7 {a x : Nat} {C : ZC} {E : ZE} {cc : ByteArray} {n nL pc d : Nat} {nm : String} {ret : Option FieldType} {hh : List (Nat × Nat × Nat × Nat)} {σ : ZS} {L : List (Option Value)} {st : List Value} (hC : Cx C E cc nL "RightTurns" nm ret hh d) (hd : decode cc pc = .ok (.getfield 224, 3)) (hk : kK n σ a = (7 + 7, x)) (k : zz C E n nL σ (pc + 3) L (.int (zI σ a 0) :: st)) : zz C E n nL σ pc L (.ref (E.1.heap.size + a) :: st) :=
  z_get hC cf7 hd hk (k := 0) (by decide) (Or.inr ⟨_, q1048⟩) (Or.inl rfl) rfl k
theorem g_X1_227_c7 {a x : Nat} {C : ZC} {E : ZE} {cc : ByteArray} {n nL pc d : Nat} {nm : String} {ret : Option FieldType} {hh : List (Nat × Nat × Nat × Nat)} {σ : ZS} {L : List (Option Value)} {st : List Value} (hC : Cx C E cc nL "RightTurns" nm ret hh d) (hd : decode cc pc = .ok (.getfield 227, 3)) (hk : kK n σ a = (7 + 7, x)) (k : zz C E n nL σ (pc + 3) L (.int (zI σ a 1) :: st)) : zz C E n nL σ pc L (.ref (E.1.heap.size + a) :: st) :=
  z_get hC cf7 hd hk (k := 1) (by decide) (Or.inr ⟨_, q1051⟩) (Or.inl rfl) rfl k
theorem g_X1_233_c7 {a x : Nat} {C : ZC} {E : ZE} {cc : ByteArray} {n nL pc d : Nat} {nm : String} {ret : Option FieldType} {hh : List (Nat × Nat × Nat × Nat)} {σ : ZS} {L : List (Option Value)} {st : List Value} (hC : Cx C E cc nL "RightTurns" nm ret hh d) (hd : decode cc pc = .ok (.getfield 233, 3)) (hk : kK n σ a = (7 + 7, x)) (k : zz C E n nL σ (pc + 3) L (.int (zI σ a 3) :: st)) : zz C E n nL σ pc L (.ref (E.1.heap.size + a) :: st) :=
  z_get hC cf7 hd hk (k := 3) (by decide) (Or.inr ⟨_, q1057⟩) (Or.inl rfl) rfl k
def V_X1_street_20 (Thr : Nat → ZS → Prop) (Ret : Int32 → ZS → Prop) (σ : ZS) (x2 : Int32) (x3 : Nat) (s0 : Int32) : Prop :=
    wp_X1_need σ s0 (fun x σ => Thr x σ) (fun σ5 => ((x2 = 0 → ((∃ n13, kK NS σ5 x3 = (14, n13)) ∧ (Ret (zI σ5 x3 0) σ5))) ∧ (¬ x2 = 0 → (((x2 = 1 → ((∃ n11, kK NS σ5 x3 = (14, n11)) ∧ (Ret (zI σ5 x3 1) σ5))) ∧ (¬ x2 = 1 → (((x2 = 2 → ((∃ n9, kK NS σ5 x3 = (14, n9)) ∧ (Ret (zI σ5 x3 2) σ5))) ∧ (¬ x2 = 2 → ((∃ n7, kK NS σ5 x3 = (14, n7)) ∧ ((((zI σ5 x3 3) = 0 → (Ret 0 σ5)) ∧ (¬ (zI σ5 x3 3) = 0 → (Ret 1 σ5))))))))))))))
def V_X1_street_19 (Thr : Nat → ZS → Prop) (Ret : Int32 → ZS → Prop) (σ : ZS) (x2 : Int32) (x3 : Nat) : Prop :=
    V_X1_street_20 Thr Ret σ x2 x3 0
def wp_X1_street (σ : ZS) (a1 : Int32) (a2 : Int32) (Thr : Nat → ZS → Prop) (Ret : Int32 → ZS → Prop) : Prop :=
    wp_X1_streetOf σ a1 (fun x σ => Thr x σ) (fun r1 σ2 => r1 = some (.inl (zo r1)) ∧ (((a2 < 0 → (V_X1_street_19 Thr Ret σ2 a2 (zo r1))) ∧ (¬ a2 < 0 → (((3 < a2 → (V_X1_street_19 Thr Ret σ2 a2 (zo r1))) ∧ (¬ 3 < a2 → (V_X1_street_20 Thr Ret σ2 a2 (zo r1) 1))))))))
set_option maxHeartbeats 4000000 in
theorem mz_X1_street {l : Launch} {E : ZE} (hE : EOK E) {σ : ZS} {a1 : Int32} {a2 : Int32} {Thr : Nat → ZS → Prop} {Ret : Int32 → ZS → Prop} (hV : wp_X1_street σ a1 a2 Thr Ret) : MZ l E NS yX1_street (ws_ yX1_street cX1_street 4 (some .int)) 7 σ [.ref (E.1.heap.size + 0), .int a1, .int a2] (rT E.1.heap.size (rI Ret) Thr) := by
  refine MZ.start (L := [some (.ref (E.1.heap.size + 0)), some (.int a1), some (.int a2), none]) hE (by decide) (Nat.le_of_ble_eq_true rfl) rfl fun C hCl hQo hC => ?_
  replace hC : Cx C E cX1_street 4 "RightTurns" "street" (some .int) [] 7 := hC
  unfold wp_X1_street at hV
  have j_20 : ∀ (σ : ZS) (x2 : Int32) (x3 : Nat) (s0 : Int32), V_X1_street_20 Thr Ret σ x2 x3 s0 → zz C E NS 4 σ 20 [none, none, some (.int x2), some (.ref (E.1.heap.size + x3))] [.int s0] := by
    intro σ x2 x3 s0 hV
    unfold V_X1_street_20 at hV
    refine c_X1_164 hC (by decide) dX1_street_20 (Nat.le_of_ble_eq_true rfl) hV (fun σ5 hV => ?_) (fun x σ hV => zth_out hC (by rw [hQo]; exact Or.inr ⟨_, rfl, hV⟩))
    refine z_iload_n hC dX1_street_23 rfl rfl ?_
    refine z_if_ne (tgt := 34) hC dX1_street_24 (by decide) (fun hc => ?_) (fun hc => ?_)
    · replace hV := hV.2 hc
      refine z_iload_n hC dX1_street_34 rfl rfl ?_
      refine z_iconst (v := 1) hC dX1_street_35 rfl ?_
      refine z_icmp_ne (tgt := 46) hC dX1_street_36 (by decide) (fun hc => ?_) (fun hc => ?_)
      · replace hV := hV.2 hc
        refine z_iload_n hC dX1_street_46 rfl rfl ?_
        refine z_iconst (v := 2) hC dX1_street_47 rfl ?_
        refine z_icmp_ne (tgt := 58) hC dX1_street_48 (by decide) (fun hc => ?_) (fun hc => ?_)
        · replace hV := hV.2 hc
          refine z_aload_n hC dX1_street_58 rfl rfl ?_
          obtain ⟨⟨n7, h6⟩, hV⟩ := hV
          refine g_X1_233_c7 hC dX1_street_59 h6 ?_
          refine z_if_eq (tgt := 69) hC dX1_street_62 (by decide) (fun hc => ?_) (fun hc => ?_)
          · replace hV := hV.1 hc
            refine z_iconst (v := 0) hC dX1_street_69 rfl ?_
            exact z_iret hC dX1_street_70 rfl (by rw [hQo]; exact Or.inl ⟨_, rfl, hV⟩)
          · replace hV := hV.2 hc
            refine z_iconst (v := 1) hC dX1_street_65 rfl ?_
            refine z_goto (tgt := 70) hC dX1_street_66 (by decide) ?_
            exact z_iret hC dX1_street_70 rfl (by rw [hQo]; exact Or.inl ⟨_, rfl, hV⟩)
        · replace hV := hV.1 hc
          refine z_aload_n hC dX1_street_51 rfl rfl ?_
          obtain ⟨⟨n9, h8⟩, hV⟩ := hV
          refine g_X1_230_c7 hC dX1_street_52 h8 ?_
          refine z_goto (tgt := 70) hC dX1_street_55 (by decide) ?_
          exact z_iret hC dX1_street_70 rfl (by rw [hQo]; exact Or.inl ⟨_, rfl, hV⟩)
      · replace hV := hV.1 hc
        refine z_aload_n hC dX1_street_39 rfl rfl ?_
        obtain ⟨⟨n11, h10⟩, hV⟩ := hV
        refine g_X1_227_c7 hC dX1_street_40 h10 ?_
        refine z_goto (tgt := 70) hC dX1_street_43 (by decide) ?_
        exact z_iret hC dX1_street_70 rfl (by rw [hQo]; exact Or.inl ⟨_, rfl, hV⟩)
    · replace hV := hV.1 hc
      refine z_aload_n hC dX1_street_27 rfl rfl ?_
      obtain ⟨⟨n13, h12⟩, hV⟩ := hV
      refine g_X1_224_c7 hC dX1_street_28 h12 ?_
      refine z_goto (tgt := 70) hC dX1_street_31 (by decide) ?_
      exact z_iret hC dX1_street_70 rfl (by rw [hQo]; exact Or.inl ⟨_, rfl, hV⟩)
  have j_19 : ∀ (σ : ZS) (x2 : Int32) (x3 : Nat), V_X1_street_19 Thr Ret σ x2 x3 → zz C E NS 4 σ 19 [none, none, some (.int x2), some (.ref (E.1.heap.size + x3))] [] := by
    intro σ x2 x3 hV
    unfold V_X1_street_19 at hV
    refine z_iconst (v := 0) hC dX1_street_19 rfl ?_
    refine zz_sub (L' := [none, none, some (.int x2), some (.ref (E.1.heap.size + x3))]) ⟨rfl, rfl, trivial⟩ ?_
    exact j_20 σ x2 x3 0 hV
  refine z_aload_n hC dX1_street_0 rfl rfl ?_
  refine z_iload_n hC dX1_street_1 rfl rfl ?_
  refine c_X1_220 hC (by decide) dX1_street_2 (Nat.le_of_ble_eq_true rfl) hV (fun r1 σ2 hV => ?_) (fun x σ hV => zth_out hC (by rw [hQo]; exact Or.inr ⟨_, rfl, hV⟩))
  obtain ⟨h3, hV⟩ := hV
  refine zz_at rfl (by rw [pvo h3]) ?_
  refine z_astore_n hC dX1_street_5 rfl (Nat.le_of_ble_eq_true rfl) rfl rfl ?_
  refine z_iload_n hC dX1_street_6 rfl rfl ?_
  refine z_if_lt (tgt := 19) hC dX1_street_7 (by decide) (fun hc => ?_) (fun hc => ?_)
  · replace hV := hV.1 hc
    refine zz_sub (L' := [none, none, some (.int a2), some (.ref (E.1.heap.size + (zo r1)))]) ⟨rfl, rfl, trivial⟩ ?_
    exact j_19 σ2 a2 (zo r1) hV
  · replace hV := hV.2 hc
    refine z_iload_n hC dX1_street_10 rfl rfl ?_
    refine z_iconst (v := 3) hC dX1_street_11 rfl ?_
    refine z_icmp_gt (tgt := 19) hC dX1_street_12 (by decide) (fun hc => ?_) (fun hc => ?_)
    · replace hV := hV.1 hc
      refine zz_sub (L' := [none, none, some (.int a2), some (.ref (E.1.heap.size + (zo r1)))]) ⟨rfl, rfl, trivial⟩ ?_
      exact j_19 σ2 a2 (zo r1) hV
    · replace hV := hV.2 hc
      refine z_iconst (v := 1) hC dX1_street_15 rfl ?_
      refine z_goto (tgt := 20) hC dX1_street_16 (by decide) ?_
      refine zz_sub (L' := [none, none, some (.int a2), some (.ref (E.1.heap.size + (zo r1)))]) ⟨rfl, rfl, trivial⟩ ?_
      exact j_20 σ2 a2 (zo r1) 1 hV
theorem p_X1_114_c0 {C : ZC} {E : ZE} {cc : ByteArray} {n nL pc d a x : Nat} {nm : String} {ret : Option FieldType} {hh : List (Nat × Nat × Nat × Nat)} {σ : ZS} {L : List (Option Value)} {st : List Value} {v : Int32} (hC : Cx C E cc nL "RightTurns" nm ret hh d) (hd : decode cc pc = .ok (.putfield 114, 3)) (hk : kK n σ a = (0 + 7, x)) (k : zz C E n nL (sI σ a 36 v) (pc + 3) L st) : zz C E n nL σ pc L (.int v :: .ref (E.1.heap.size + a) :: st) :=
  z_putI hC cf0 hd hk (k := 36) (by decide) (Or.inl q617) (Or.inl rfl) (Or.inl rfl) rfl rfl rfl k
theorem p_X1_409_c0 {C : ZC} {E : ZE} {cc : ByteArray} {n nL pc d a x : Nat} {nm : String} {ret : Option FieldType} {hh : List (Nat × Nat × Nat × Nat)} {σ : ZS} {L : List (Option Value)} {st : List Value} {v : Int32} (hC : Cx C E cc nL "RightTurns" nm ret hh d) (hd : decode cc pc = .ok (.putfield 409, 3)) (hk : kK n σ a = (0 + 7, x)) (k : zz C E n nL (sI σ a 37 v) (pc + 3) L st) : zz C E n nL σ pc L (.int v :: .ref (E.1.heap.size + a) :: st) :=
  z_putI hC cf0 hd hk (k := 37) (by decide) (Or.inl q618) (Or.inl rfl) (Or.inl rfl) rfl rfl rfl k
def VL_X1_sure_47 (K29 : ZS → Int32 → Int32 → Int64 → Int32 → Int32 → Prop) (Thr : Nat → ZS → Prop) (Ret : Int32 → ZS → Prop) : Nat → ZS → Int32 → Int32 → Int64 → Int32 → Int32 → Int32 → Prop
  | 0 => fun _ _ _ _ _ _ _ => False
  | k + 1 => fun σ x1 x2 x3 x5 x6 x7 =>
    let K47 := VL_X1_sure_47 K29 Thr Ret k
    (zP σ 0 0) = some (.inl (zo (zP σ 0 0))) ∧ ((∃ n17, kK NS σ (zo (zP σ 0 0)) = (8, n17)) ∧ ((kP NS σ (zo (zP σ 0 0)) 1) = some (.inl (zo (kP NS σ (zo (zP σ 0 0)) 1))) ∧ ((∃ n22, kK NS σ (zo (kP NS σ (zo (zP σ 0 0)) 1)) = (16, n22)) ∧ (wp_J2_size σ (zo (kP NS σ (zo (zP σ 0 0)) 1)) (fun r19 σ20 => ((x7 < r19 → (∀ σ24 : ZS, σ24 = sI σ20 0 36 x6 → (∀ σ25 : ZS, σ25 = sI σ24 0 37 x7 → (wp_X1_breaksOf σ25 x1 0 (fun r26 σ27 => ∀ σ28 : ZS, σ28 = sI σ27 0 36 (-1) → ((((lg_cmp r26 x3) = 0 → (∀ y31 : Int32, y31 = x7 + 1 → (K47 σ28 x1 x2 x3 x5 x6 y31))) ∧ (¬ (lg_cmp r26 x3) = 0 → (((x5 = x2 → (Ret ((100 * x6) + x7) σ28)) ∧ (¬ x5 = x2 → (∀ y29 : Int32, y29 = x5 + 1 → (∀ y30 : Int32, y30 = x7 + 1 → (K47 σ28 x1 x2 x3 y29 x6 y30)))))))))))))) ∧ (¬ x7 < r19 → (∀ y23 : Int32, y23 = x6 + 1 → (K29 σ20 x1 x2 x3 x5 y23)))))))))
def V_X1_sure_47 (K29 : ZS → Int32 → Int32 → Int64 → Int32 → Int32 → Prop) (Thr : Nat → ZS → Prop) (Ret : Int32 → ZS → Prop) (σ : ZS) (x1 : Int32) (x2 : Int32) (x3 : Int64) (x5 : Int32) (x6 : Int32) (x7 : Int32) : Prop := ∃ k, VL_X1_sure_47 K29 Thr Ret k σ x1 x2 x3 x5 x6 x7
def VL_X1_sure_29 (Thr : Nat → ZS → Prop) (Ret : Int32 → ZS → Prop) : Nat → ZS → Int32 → Int32 → Int64 → Int32 → Int32 → Prop
  | 0 => fun _ _ _ _ _ _ => False
  | k + 1 => fun σ x1 x2 x3 x5 x6 =>
    let K29 := VL_X1_sure_29 Thr Ret k
    (zP σ 0 0) = some (.inl (zo (zP σ 0 0))) ∧ ((∃ n9, kK NS σ (zo (zP σ 0 0)) = (8, n9)) ∧ ((kP NS σ (zo (zP σ 0 0)) 1) = some (.inl (zo (kP NS σ (zo (zP σ 0 0)) 1))) ∧ ((∃ n14, kK NS σ (zo (kP NS σ (zo (zP σ 0 0)) 1)) = (16, n14)) ∧ (wp_J2_size σ (zo (kP NS σ (zo (zP σ 0 0)) 1)) (fun r11 σ12 => ((x6 < r11 → (V_X1_sure_47 K29 Thr Ret σ12 x1 x2 x3 x5 x6 0)) ∧ (¬ x6 < r11 → (Ret (-1) σ12))))))))
def V_X1_sure_29 (Thr : Nat → ZS → Prop) (Ret : Int32 → ZS → Prop) (σ : ZS) (x1 : Int32) (x2 : Int32) (x3 : Int64) (x5 : Int32) (x6 : Int32) : Prop := ∃ k, VL_X1_sure_29 Thr Ret k σ x1 x2 x3 x5 x6
def wp_X1_sure (σ : ZS) (a1 : Int32) (a2 : Int32) (Thr : Nat → ZS → Prop) (Ret : Int32 → ZS → Prop) : Prop :=
    wp_X1_isTime σ a1 (fun r1 σ2 => wp_X1_need σ2 r1 (fun x σ => Thr x σ) (fun σ4 => wp_X1_breaksOf σ4 a1 0 (fun r5 σ6 => ((0 < (lg_cmp r5 0) → (V_X1_sure_29 Thr Ret σ6 a1 a2 r5 0 0)) ∧ (¬ 0 < (lg_cmp r5 0) → (Ret (-1) σ6))))))
set_option maxHeartbeats 4000000 in
theorem mz_X1_sure {l : Launch} {E : ZE} (hE : EOK E) {σ : ZS} {a1 : Int32} {a2 : Int32} {Thr : Nat → ZS → Prop} {Ret : Int32 → ZS → Prop} (hV : wp_X1_sure σ a1 a2 Thr Ret) : MZ l E NS yX1_sure (ws_ yX1_sure cX1_sure 10 (some .int)) 10 σ [.ref (E.1.heap.size + 0), .int a1, .int a2] (rT E.1.heap.size (rI Ret) Thr) := by
  refine MZ.start (L := [some (.ref (E.1.heap.size + 0)), some (.int a1), some (.int a2), none, none, none, none, none, none, none]) hE (by decide) (Nat.le_of_ble_eq_true rfl) rfl fun C hCl hQo hC => ?_
  replace hC : Cx C E cX1_sure 10 "RightTurns" "sure" (some .int) [] 10 := hC
  unfold wp_X1_sure at hV
  have j_29 : ∀ (σ : ZS) (x1 : Int32) (x2 : Int32) (x3 : Int64) (x5 : Int32) (x6 : Int32), V_X1_sure_29 Thr Ret σ x1 x2 x3 x5 x6 → zz C E NS 10 σ 29 [some (.ref (E.1.heap.size + 0)), some (.int x1), some (.int x2), some (.long x3), none, some (.int x5), some (.int x6), none, none, none] [] := by
    intro σ x1 x2 x3 x5 x6 ⟨k, hV⟩
    revert σ x1 x2 x3 x5 x6
    induction k with
    | zero => exact fun _ _ _ _ _ _ hV => hV.elim
    | succ k j_29 =>
      intro σ x1 x2 x3 x5 x6 hV
      simp only [VL_X1_sure_29] at hV
      generalize hKe29 : VL_X1_sure_29 Thr Ret k = K29 at hV j_29
      clear hKe29
      have j_47 : ∀ (σ : ZS) (x1 : Int32) (x2 : Int32) (x3 : Int64) (x5 : Int32) (x6 : Int32) (x7 : Int32), V_X1_sure_47 K29 Thr Ret σ x1 x2 x3 x5 x6 x7 → zz C E NS 10 σ 47 [some (.ref (E.1.heap.size + 0)), some (.int x1), some (.int x2), some (.long x3), none, some (.int x5), some (.int x6), some (.int x7), none, none] [] := by
        intro σ x1 x2 x3 x5 x6 x7 ⟨k, hV⟩
        revert σ x1 x2 x3 x5 x6 x7
        induction k with
        | zero => exact fun _ _ _ _ _ _ _ hV => hV.elim
        | succ k j_47 =>
          intro σ x1 x2 x3 x5 x6 x7 hV
          simp only [VL_X1_sure_47] at hV
          generalize hKe47 : VL_X1_sure_47 K29 Thr Ret k = K47 at hV j_47
          clear hKe47
          refine z_iload hC dX1_sure_47 rfl ?_
          refine z_aload_n hC dX1_sure_49 rfl rfl ?_
          refine g_X1_12_0 hC dX1_sure_50 ?_
          obtain ⟨h15, hV⟩ := hV
          refine zz_at rfl (by rw [pvo h15]) ?_
          obtain ⟨⟨n17, h16⟩, hV⟩ := hV
          refine g_X1_138_c1 hC dX1_sure_53 h16 ?_
          obtain ⟨h18, hV⟩ := hV
          refine zz_at rfl (by rw [pvo h18]) ?_
          obtain ⟨⟨n22, h21⟩, hV⟩ := hV
          refine c_X1_127 hC (by decide) dX1_sure_56 (Nat.le_of_ble_eq_true rfl) h21 hV (fun r19 σ20 hV => ?_)
          refine z_icmp_ge (tgt := 121) hC dX1_sure_59 (by decide) (fun hc => ?_) (fun hc => ?_)
          · replace hV := hV.2 hc
            obtain ⟨y23, e_y23⟩ : ∃ z : Int32, z = x6 + 1 := ⟨_, rfl⟩
            replace hV := hV _ e_y23
            refine z_iinc (v := y23) hC dX1_sure_121 rfl (by rw [e_y23]; rfl) (Nat.le_of_ble_eq_true rfl) rfl rfl ?_
            refine z_goto (tgt := 29) hC dX1_sure_124 (by decide) ?_
            refine zz_sub (L' := [some (.ref (E.1.heap.size + 0)), some (.int x1), some (.int x2), some (.long x3), none, some (.int x5), some (.int y23), none, none, none]) ⟨rfl, rfl, rfl, rfl, rfl, rfl, trivial⟩ ?_
            exact j_29 σ20 x1 x2 x3 x5 y23 hV
          · replace hV := hV.1 hc
            refine z_aload_n hC dX1_sure_62 rfl rfl ?_
            refine z_iload hC dX1_sure_63 rfl ?_
            refine p_X1_114_c0 hC dX1_sure_65 (k_0 _) ?_
            obtain ⟨σ24, e_σ24⟩ : ∃ z : ZS, z = sI σ20 0 36 x6 := ⟨_, rfl⟩
            replace hV := hV _ e_σ24
            rw [← e_σ24]
            refine z_aload_n hC dX1_sure_68 rfl rfl ?_
            refine z_iload hC dX1_sure_69 rfl ?_
            refine p_X1_409_c0 hC dX1_sure_71 (k_0 _) ?_
            obtain ⟨σ25, e_σ25⟩ : ∃ z : ZS, z = sI σ24 0 37 x7 := ⟨_, rfl⟩
            replace hV := hV _ e_σ25
            rw [← e_σ25]
            refine z_aload_n hC dX1_sure_74 rfl rfl ?_
            refine z_iload_n hC dX1_sure_75 rfl rfl ?_
            refine z_iconst (v := 0) hC dX1_sure_76 rfl ?_
            refine c_X1_397 hC (by decide) dX1_sure_77 (Nat.le_of_ble_eq_true rfl) hV (fun r26 σ27 hV => ?_)
            refine z_lstore hC dX1_sure_80 (Nat.le_of_ble_eq_true rfl) rfl rfl ?_
            refine z_aload_n hC dX1_sure_82 rfl rfl ?_
            refine z_iconst (v := (-1)) hC dX1_sure_83 rfl ?_
            refine p_X1_114_c0 hC dX1_sure_84 (k_0 _) ?_
            obtain ⟨σ28, e_σ28⟩ : ∃ z : ZS, z = sI σ27 0 36 (-1) := ⟨_, rfl⟩
            replace hV := hV _ e_σ28
            rw [← e_σ28]
            refine z_lload hC dX1_sure_87 rfl ?_
            refine z_lload_n hC dX1_sure_89 rfl rfl ?_
            refine z_lcmp hC dX1_sure_90 ?_
            refine z_if_ne (tgt := 97) hC dX1_sure_91 (by decide) (fun hc => ?_) (fun hc => ?_)
            · replace hV := hV.2 hc
              refine z_iload hC dX1_sure_97 rfl ?_
              refine z_iload_n hC dX1_sure_99 rfl rfl ?_
              refine z_icmp_ne (tgt := 112) hC dX1_sure_100 (by decide) (fun hc => ?_) (fun hc => ?_)
              · replace hV := hV.2 hc
                obtain ⟨y29, e_y29⟩ : ∃ z : Int32, z = x5 + 1 := ⟨_, rfl⟩
                replace hV := hV _ e_y29
                refine z_iinc (v := y29) hC dX1_sure_112 rfl (by rw [e_y29]; rfl) (Nat.le_of_ble_eq_true rfl) rfl rfl ?_
                obtain ⟨y30, e_y30⟩ : ∃ z : Int32, z = x7 + 1 := ⟨_, rfl⟩
                replace hV := hV _ e_y30
                refine z_iinc (v := y30) hC dX1_sure_115 rfl (by rw [e_y30]; rfl) (Nat.le_of_ble_eq_true rfl) rfl rfl ?_
                refine z_goto (tgt := 47) hC dX1_sure_118 (by decide) ?_
                refine zz_sub (L' := [some (.ref (E.1.heap.size + 0)), some (.int x1), some (.int x2), some (.long x3), none, some (.int y29), some (.int x6), some (.int y30), none, none]) ⟨rfl, rfl, rfl, rfl, rfl, rfl, rfl, trivial⟩ ?_
                exact j_47 σ28 x1 x2 x3 y29 x6 y30 hV
              · replace hV := hV.1 hc
                refine z_bipush (v := 100) hC dX1_sure_103 rfl ?_
                refine z_iload hC dX1_sure_105 rfl ?_
                refine z_imul hC dX1_sure_107 ?_
                refine z_iload hC dX1_sure_108 rfl ?_
                refine z_iadd hC dX1_sure_110 ?_
                exact z_iret hC dX1_sure_111 rfl (by rw [hQo]; exact Or.inl ⟨_, rfl, hV⟩)
            · replace hV := hV.1 hc
              refine z_goto (tgt := 115) hC dX1_sure_94 (by decide) ?_
              obtain ⟨y31, e_y31⟩ : ∃ z : Int32, z = x7 + 1 := ⟨_, rfl⟩
              replace hV := hV _ e_y31
              refine z_iinc (v := y31) hC dX1_sure_115 rfl (by rw [e_y31]; rfl) (Nat.le_of_ble_eq_true rfl) rfl rfl ?_
              refine z_goto (tgt := 47) hC dX1_sure_118 (by decide) ?_
              refine zz_sub (L' := [some (.ref (E.1.heap.size + 0)), some (.int x1), some (.int x2), some (.long x3), none, some (.int x5), some (.int x6), some (.int y31), none, none]) ⟨rfl, rfl, rfl, rfl, rfl, rfl, rfl, trivial⟩ ?_
              exact j_47 σ28 x1 x2 x3 x5 x6 y31 hV
      refine z_iload hC dX1_sure_29 rfl ?_
      refine z_aload_n hC dX1_sure_31 rfl rfl ?_
      refine g_X1_12_0 hC dX1_sure_32 ?_
      obtain ⟨h7, hV⟩ := hV
      refine zz_at rfl (by rw [pvo h7]) ?_
      obtain ⟨⟨n9, h8⟩, hV⟩ := hV
      refine g_X1_138_c1 hC dX1_sure_35 h8 ?_
      obtain ⟨h10, hV⟩ := hV
      refine zz_at rfl (by rw [pvo h10]) ?_
      obtain ⟨⟨n14, h13⟩, hV⟩ := hV
      refine c_X1_127 hC (by decide) dX1_sure_38 (Nat.le_of_ble_eq_true rfl) h13 hV (fun r11 σ12 hV => ?_)
      refine z_icmp_ge (tgt := 127) hC dX1_sure_41 (by decide) (fun hc => ?_) (fun hc => ?_)
      · replace hV := hV.2 hc
        refine z_iconst (v := (-1)) hC dX1_sure_127 rfl ?_
        exact z_iret hC dX1_sure_128 rfl (by rw [hQo]; exact Or.inl ⟨_, rfl, hV⟩)
      · replace hV := hV.1 hc
        refine z_iconst (v := 0) hC dX1_sure_44 rfl ?_
        refine z_istore hC dX1_sure_45 (Nat.le_of_ble_eq_true rfl) rfl rfl ?_
        refine zz_sub (L' := [some (.ref (E.1.heap.size + 0)), some (.int x1), some (.int x2), some (.long x3), none, some (.int x5), some (.int x6), some (.int 0), none, none]) ⟨rfl, rfl, rfl, rfl, rfl, rfl, rfl, trivial⟩ ?_
        exact j_47 σ12 x1 x2 x3 x5 x6 0 hV
  refine z_aload_n hC dX1_sure_0 rfl rfl ?_
  refine z_iload_n hC dX1_sure_1 rfl rfl ?_
  refine c_X1_254 hC (by decide) dX1_sure_2 (Nat.le_of_ble_eq_true rfl) hV (fun r1 σ2 hV => ?_)
  refine c_X1_164 hC (by decide) dX1_sure_5 (Nat.le_of_ble_eq_true rfl) hV (fun σ4 hV => ?_) (fun x σ hV => zth_out hC (by rw [hQo]; exact Or.inr ⟨_, rfl, hV⟩))
  refine z_aload_n hC dX1_sure_8 rfl rfl ?_
  refine z_iload_n hC dX1_sure_9 rfl rfl ?_
  refine z_iconst (v := 0) hC dX1_sure_10 rfl ?_
  refine c_X1_397 hC (by decide) dX1_sure_11 (Nat.le_of_ble_eq_true rfl) hV (fun r5 σ6 hV => ?_)
  refine z_lstore_n hC dX1_sure_14 rfl (Nat.le_of_ble_eq_true rfl) rfl rfl ?_
  refine z_lload_n hC dX1_sure_15 rfl rfl ?_
  refine z_lconst (v := 0) hC dX1_sure_16 rfl ?_
  refine z_lcmp hC dX1_sure_17 ?_
  refine z_if_gt (tgt := 23) hC dX1_sure_18 (by decide) (fun hc => ?_) (fun hc => ?_)
  · replace hV := hV.1 hc
    refine z_iconst (v := 0) hC dX1_sure_23 rfl ?_
    refine z_istore hC dX1_sure_24 (Nat.le_of_ble_eq_true rfl) rfl rfl ?_
    refine z_iconst (v := 0) hC dX1_sure_26 rfl ?_
    refine z_istore hC dX1_sure_27 (Nat.le_of_ble_eq_true rfl) rfl rfl ?_
    refine zz_sub (L' := [some (.ref (E.1.heap.size + 0)), some (.int a1), some (.int a2), some (.long r5), none, some (.int 0), some (.int 0), none, none, none]) ⟨rfl, rfl, rfl, rfl, rfl, rfl, trivial⟩ ?_
    exact j_29 σ6 a1 a2 r5 0 0 hV
  · replace hV := hV.2 hc
    refine z_iconst (v := (-1)) hC dX1_sure_21 rfl ?_
    exact z_iret hC dX1_sure_22 rfl (by rw [hQo]; exact Or.inl ⟨_, rfl, hV⟩)
