set_option maxRecDepth 100000
theorem g_X4_375_44 {C : ZC} {E : ZE} {cc : ByteArray} {nL pc d : Nat} {nm : String} {ret : Option FieldType} {hh : List (Nat × Nat × Nat × Nat)} {σ : ZS} {L : List (Option Value)} {st : List Value} (hC : Cx C E cc nL "RightTurnsModel" nm ret hh d) (hd : decode cc pc = .ok (.getfield 375, 3)) (k : zz C E NS nL σ (pc + 3) L (.int (zI σ 44 43) :: st)) : zz C E NS nL σ pc L (.ref (E.1.heap.size + 44) :: st) :=
  z_get hC cf3 hd (k_44 σ) (k := 43) (by decide) (Or.inl q1628) (Or.inl rfl) rfl k
theorem g_X4_86_44 {C : ZC} {E : ZE} {cc : ByteArray} {nL pc d : Nat} {nm : String} {ret : Option FieldType} {hh : List (Nat × Nat × Nat × Nat)} {σ : ZS} {L : List (Option Value)} {st : List Value} (hC : Cx C E cc nL "RightTurnsModel" nm ret hh d) (hd : decode cc pc = .ok (.getfield 86, 3)) (k : zz C E NS nL σ (pc + 3) L (.ref (E.1.heap.size + 1162) :: st)) : zz C E NS nL σ pc L (.ref (E.1.heap.size + 44) :: st) :=
  z_get hC cf3 hd (k_44 σ) (k := 38) (by decide) (Or.inl q1623) (Or.inl rfl) rfl k
theorem g_X4_89_44 {C : ZC} {E : ZE} {cc : ByteArray} {nL pc d : Nat} {nm : String} {ret : Option FieldType} {hh : List (Nat × Nat × Nat × Nat)} {σ : ZS} {L : List (Option Value)} {st : List Value} (hC : Cx C E cc nL "RightTurnsModel" nm ret hh d) (hd : decode cc pc = .ok (.getfield 89, 3)) (k : zz C E NS nL σ (pc + 3) L (.ref (E.1.heap.size + 1163) :: st)) : zz C E NS nL σ pc L (.ref (E.1.heap.size + 44) :: st) :=
  z_get hC cf3 hd (k_44 σ) (k := 39) (by decide) (Or.inl q1624) (Or.inl rfl) rfl k
theorem g_X4_92_44 {C : ZC} {E : ZE} {cc : ByteArray} {nL pc d : Nat} {nm : String} {ret : Option FieldType} {hh : List (Nat × Nat × Nat × Nat)} {σ : ZS} {L : List (Option Value)} {st : List Value} (hC : Cx C E cc nL "RightTurnsModel" nm ret hh d) (hd : decode cc pc = .ok (.getfield 92, 3)) (k : zz C E NS nL σ (pc + 3) L (.ref (E.1.heap.size + 1164) :: st)) : zz C E NS nL σ pc L (.ref (E.1.heap.size + 44) :: st) :=
  z_get hC cf3 hd (k_44 σ) (k := 40) (by decide) (Or.inl q1625) (Or.inl rfl) rfl k
theorem g_X4_95_44 {C : ZC} {E : ZE} {cc : ByteArray} {nL pc d : Nat} {nm : String} {ret : Option FieldType} {hh : List (Nat × Nat × Nat × Nat)} {σ : ZS} {L : List (Option Value)} {st : List Value} (hC : Cx C E cc nL "RightTurnsModel" nm ret hh d) (hd : decode cc pc = .ok (.getfield 95, 3)) (k : zz C E NS nL σ (pc + 3) L (.ref (E.1.heap.size + 1165) :: st)) : zz C E NS nL σ pc L (.ref (E.1.heap.size + 44) :: st) :=
  z_get hC cf3 hd (k_44 σ) (k := 41) (by decide) (Or.inl q1626) (Or.inl rfl) rfl k
def wp_X4_moves (σ : ZS) (a1 : Int32) (Ret : ZS → Prop) : Prop :=
    vp_in a1 12 ∧ ((((zI σ 1161 (ix a1)) = 0 → (Ret σ)) ∧ (¬ (zI σ 1161 (ix a1)) = 0 → (vp_in a1 12 ∧ ((((zI σ 1165 (ix a1)) = (-1) → (vp_in a1 12 ∧ ((((zI σ 1162 (ix a1)) = (-1) → (vp_in a1 12 ∧ ((((zI σ (145 + 1 + ix a1) (ix 2)) = (zI σ 44 43) → (vp_in a1 12 ∧ (∀ σ13 : ZS, σ13 = sI σ 1162 (ix a1) 0 → (vp_in a1 12 ∧ (wp_X4_longOf σ13 (zI σ13 (1148 + 1 + ix a1) (ix 0)) (fun r15 σ16 => vp_in a1 12 ∧ (∀ σ18 : ZS, σ18 = sI σ16 1163 (ix a1) r15 → (Ret σ18)))))))) ∧ (¬ (zI σ (145 + 1 + ix a1) (ix 2)) = (zI σ 44 43) → (Ret σ)))))) ∧ (¬ (zI σ 1162 (ix a1)) = (-1) → (vp_in a1 12 ∧ ((((zI σ 1163 (ix a1)) = 0 → (Ret σ)) ∧ (¬ (zI σ 1163 (ix a1)) = 0 → (vp_in a1 12 ∧ (vp_in a1 12 ∧ (∀ σ7 : ZS, σ7 = sI σ 1163 (ix a1) ((zI σ 1163 (ix a1)) - 1) → (vp_in a1 12 ∧ ((((zI σ7 1163 (ix a1)) = 0 → (vp_in a1 12 ∧ (∀ σ10 : ZS, σ10 = sI σ7 1164 (ix a1) (zI σ7 44 43) → (Ret σ10)))) ∧ (¬ (zI σ7 1163 (ix a1)) = 0 → (Ret σ7))))))))))))))))) ∧ (¬ (zI σ 1165 (ix a1)) = (-1) → (Ret σ))))))))
set_option maxHeartbeats 4000000 in
theorem mz_X4_moves {l : Launch} {E : ZE} (hE : EOK E) {σ : ZS} {a1 : Int32} {Ret : ZS → Prop} (hV : wp_X4_moves σ a1 Ret) : MZ l E NS yX4_moves (ws_ yX4_moves cX4_moves 2 none) 2 σ [.ref (E.1.heap.size + 44), .int a1] (rV Ret) := by
  refine MZ.start (L := [some (.ref (E.1.heap.size + 44)), some (.int a1)]) hE (by decide) (Nat.le_of_ble_eq_true rfl) rfl fun C hCl hQo hC => ?_
  replace hC : Cx C E cX4_moves 2 "RightTurnsModel" "moves" none [] 2 := hC
  unfold wp_X4_moves at hV
  refine z_aload_n hC dX4_moves_0 rfl rfl ?_
  refine g_X4_83_44 hC dX4_moves_1 ?_
  refine z_iload_n hC dX4_moves_4 rfl rfl ?_
  obtain ⟨h1, hV⟩ := hV
  refine z_iald hC dX4_moves_5 (k_1161 _) (h1) ?_
  refine z_if_eq (tgt := 19) hC dX4_moves_6 (by decide) (fun hc => ?_) (fun hc => ?_)
  · replace hV := hV.1 hc
    exact z_vret hC dX4_moves_19 (by rw [hQo]; exact ⟨rfl, hV⟩)
  · replace hV := hV.2 hc
    refine z_aload_n hC dX4_moves_9 rfl rfl ?_
    refine g_X4_95_44 hC dX4_moves_10 ?_
    refine z_iload_n hC dX4_moves_13 rfl rfl ?_
    obtain ⟨h2, hV⟩ := hV
    refine z_iald hC dX4_moves_14 (k_1165 _) (h2) ?_
    refine z_iconst (v := (-1)) hC dX4_moves_15 rfl ?_
    refine z_icmp_eq (tgt := 20) hC dX4_moves_16 (by decide) (fun hc => ?_) (fun hc => ?_)
    · replace hV := hV.1 hc
      refine z_aload_n hC dX4_moves_20 rfl rfl ?_
      refine g_X4_86_44 hC dX4_moves_21 ?_
      refine z_iload_n hC dX4_moves_24 rfl rfl ?_
      obtain ⟨h3, hV⟩ := hV
      refine z_iald hC dX4_moves_25 (k_1162 _) (h3) ?_
      refine z_iconst (v := (-1)) hC dX4_moves_26 rfl ?_
      refine z_icmp_ne (tgt := 72) hC dX4_moves_27 (by decide) (fun hc => ?_) (fun hc => ?_)
      · replace hV := hV.2 hc
        refine z_aload_n hC dX4_moves_72 rfl rfl ?_
        refine g_X4_89_44 hC dX4_moves_73 ?_
        refine z_iload_n hC dX4_moves_76 rfl rfl ?_
        obtain ⟨h4, hV⟩ := hV
        refine z_iald hC dX4_moves_77 (k_1163 _) (h4) ?_
        refine z_if_ne (tgt := 82) hC dX4_moves_78 (by decide) (fun hc => ?_) (fun hc => ?_)
        · replace hV := hV.2 hc
          refine z_aload_n hC dX4_moves_82 rfl rfl ?_
          refine g_X4_89_44 hC dX4_moves_83 ?_
          refine z_iload_n hC dX4_moves_86 rfl rfl ?_
          refine z_dup2 hC dX4_moves_87 rfl rfl ?_
          obtain ⟨h5, hV⟩ := hV
          refine z_iald hC dX4_moves_88 (k_1163 _) (h5) ?_
          refine z_iconst (v := 1) hC dX4_moves_89 rfl ?_
          refine z_isub hC dX4_moves_90 ?_
          obtain ⟨h6, hV⟩ := hV
          refine z_iast hC dX4_moves_91 (k_1163 _) (h6) ?_
          obtain ⟨σ7, e_σ7⟩ : ∃ z : ZS, z = sI σ 1163 (ix a1) ((zI σ 1163 (ix a1)) - 1) := ⟨_, rfl⟩
          replace hV := hV _ e_σ7
          rw [← e_σ7]
          refine z_aload_n hC dX4_moves_92 rfl rfl ?_
          refine g_X4_89_44 hC dX4_moves_93 ?_
          refine z_iload_n hC dX4_moves_96 rfl rfl ?_
          obtain ⟨h8, hV⟩ := hV
          refine z_iald hC dX4_moves_97 (k_1163 _) (h8) ?_
          refine z_if_ne (tgt := 111) hC dX4_moves_98 (by decide) (fun hc => ?_) (fun hc => ?_)
          · replace hV := hV.2 hc
            exact z_vret hC dX4_moves_111 (by rw [hQo]; exact ⟨rfl, hV⟩)
          · replace hV := hV.1 hc
            refine z_aload_n hC dX4_moves_101 rfl rfl ?_
            refine g_X4_92_44 hC dX4_moves_102 ?_
            refine z_iload_n hC dX4_moves_105 rfl rfl ?_
            refine z_aload_n hC dX4_moves_106 rfl rfl ?_
            refine g_X4_375_44 hC dX4_moves_107 ?_
            obtain ⟨h9, hV⟩ := hV
            refine z_iast hC dX4_moves_110 (k_1164 _) (h9) ?_
            obtain ⟨σ10, e_σ10⟩ : ∃ z : ZS, z = sI σ7 1164 (ix a1) (zI σ7 44 43) := ⟨_, rfl⟩
            replace hV := hV _ e_σ10
            rw [← e_σ10]
            exact z_vret hC dX4_moves_111 (by rw [hQo]; exact ⟨rfl, hV⟩)
        · replace hV := hV.1 hc
          exact z_vret hC dX4_moves_81 (by rw [hQo]; exact ⟨rfl, hV⟩)
      · replace hV := hV.1 hc
        refine z_aload_n hC dX4_moves_30 rfl rfl ?_
        refine g_X4_40_44 hC dX4_moves_31 ?_
        refine z_iload_n hC dX4_moves_34 rfl rfl ?_
        obtain ⟨h11, hV⟩ := hV
        refine z_aalS hC dX4_moves_35 (k_145 _) (by decide) ps_145 h11 ?_
        refine z_iconst (v := 2) hC dX4_moves_36 rfl ?_
        refine z_iald hC dX4_moves_37 (kr_145 _ (ix_lt h11)) (in_dec rfl) ?_
        refine z_aload_n hC dX4_moves_38 rfl rfl ?_
        refine g_X4_375_44 hC dX4_moves_39 ?_
        refine z_icmp_eq (tgt := 46) hC dX4_moves_42 (by decide) (fun hc => ?_) (fun hc => ?_)
        · replace hV := hV.1 hc
          refine z_aload_n hC dX4_moves_46 rfl rfl ?_
          refine g_X4_86_44 hC dX4_moves_47 ?_
          refine z_iload_n hC dX4_moves_50 rfl rfl ?_
          refine z_iconst (v := 0) hC dX4_moves_51 rfl ?_
          obtain ⟨h12, hV⟩ := hV
          refine z_iast hC dX4_moves_52 (k_1162 _) (h12) ?_
          obtain ⟨σ13, e_σ13⟩ : ∃ z : ZS, z = sI σ 1162 (ix a1) 0 := ⟨_, rfl⟩
          replace hV := hV _ e_σ13
          rw [← e_σ13]
          refine z_aload_n hC dX4_moves_53 rfl rfl ?_
          refine g_X4_89_44 hC dX4_moves_54 ?_
          refine z_iload_n hC dX4_moves_57 rfl rfl ?_
          refine z_aload_n hC dX4_moves_58 rfl rfl ?_
          refine z_aload_n hC dX4_moves_59 rfl rfl ?_
          refine g_X4_80_44 hC dX4_moves_60 ?_
          refine z_iload_n hC dX4_moves_63 rfl rfl ?_
          obtain ⟨h14, hV⟩ := hV
          refine z_aalS hC dX4_moves_64 (k_1148 _) (by decide) ps_1148 h14 ?_
          refine z_iconst (v := 0) hC dX4_moves_65 rfl ?_
          refine z_iald hC dX4_moves_66 (kr_1148 _ (ix_lt h14)) (in_dec rfl) ?_
          refine c_X4_295 hC (by decide) dX4_moves_67 (Nat.le_of_ble_eq_true rfl) hV (fun r15 σ16 hV => ?_)
          obtain ⟨h17, hV⟩ := hV
          refine z_iast hC dX4_moves_70 (k_1163 _) (h17) ?_
          obtain ⟨σ18, e_σ18⟩ : ∃ z : ZS, z = sI σ16 1163 (ix a1) r15 := ⟨_, rfl⟩
          replace hV := hV _ e_σ18
          rw [← e_σ18]
          exact z_vret hC dX4_moves_71 (by rw [hQo]; exact ⟨rfl, hV⟩)
        · replace hV := hV.2 hc
          exact z_vret hC dX4_moves_45 (by rw [hQo]; exact ⟨rfl, hV⟩)
    · replace hV := hV.2 hc
      exact z_vret hC dX4_moves_19 (by rw [hQo]; exact ⟨rfl, hV⟩)
def wp_X4_isThere (σ : ZS) (a1 : Int32) (a2 : Int32) (Ret : Int32 → ZS → Prop) : Prop :=
    vp_in a1 12 ∧ ((((zI σ 1162 (ix a1)) = (-1) → (Ret 0 σ)) ∧ (¬ (zI σ 1162 (ix a1)) = (-1) → (vp_in a1 12 ∧ ((((zI σ 1165 (ix a1)) = (-1) → (vp_in a1 12 ∧ ((((zI σ 1163 (ix a1)) = 0 → (vp_in a1 12 ∧ (vp_in a1 12 ∧ (vp_in (zI σ 1162 (ix a1)) 48 ∧ (wp_X4_endOf σ (zI σ (1148 + 1 + ix a1) (ix (zI σ 1162 (ix a1)))) (fun r7 σ8 => ((r7 = a2 → (Ret 1 σ8)) ∧ (¬ r7 = a2 → (Ret 0 σ8))))))))) ∧ (¬ (zI σ 1163 (ix a1)) = 0 → (Ret 0 σ)))))) ∧ (¬ (zI σ 1165 (ix a1)) = (-1) → (Ret 0 σ))))))))
set_option maxHeartbeats 4000000 in
theorem mz_X4_isThere {l : Launch} {E : ZE} (hE : EOK E) {σ : ZS} {a1 : Int32} {a2 : Int32} {Ret : Int32 → ZS → Prop} (hV : wp_X4_isThere σ a1 a2 Ret) : MZ l E NS yX4_isThere (ws_ yX4_isThere cX4_isThere 3 (some .boolean)) 2 σ [.ref (E.1.heap.size + 44), .int a1, .int a2] (rI Ret) := by
  refine MZ.start (L := [some (.ref (E.1.heap.size + 44)), some (.int a1), some (.int a2)]) hE (by decide) (Nat.le_of_ble_eq_true rfl) rfl fun C hCl hQo hC => ?_
  replace hC : Cx C E cX4_isThere 3 "RightTurnsModel" "isThere" (some .boolean) [] 2 := hC
  unfold wp_X4_isThere at hV
  refine z_aload_n hC dX4_isThere_0 rfl rfl ?_
  refine g_X4_86_44 hC dX4_isThere_1 ?_
  refine z_iload_n hC dX4_isThere_4 rfl rfl ?_
  obtain ⟨h1, hV⟩ := hV
  refine z_iald hC dX4_isThere_5 (k_1162 _) (h1) ?_
  refine z_iconst (v := (-1)) hC dX4_isThere_6 rfl ?_
  refine z_icmp_eq (tgt := 54) hC dX4_isThere_7 (by decide) (fun hc => ?_) (fun hc => ?_)
  · replace hV := hV.1 hc
    refine z_iconst (v := 0) hC dX4_isThere_54 rfl ?_
    exact z_iret hC dX4_isThere_55 rfl (by rw [hQo]; exact ⟨_, rfl, hV⟩)
  · replace hV := hV.2 hc
    refine z_aload_n hC dX4_isThere_10 rfl rfl ?_
    refine g_X4_95_44 hC dX4_isThere_11 ?_
    refine z_iload_n hC dX4_isThere_14 rfl rfl ?_
    obtain ⟨h2, hV⟩ := hV
    refine z_iald hC dX4_isThere_15 (k_1165 _) (h2) ?_
    refine z_iconst (v := (-1)) hC dX4_isThere_16 rfl ?_
    refine z_icmp_ne (tgt := 54) hC dX4_isThere_17 (by decide) (fun hc => ?_) (fun hc => ?_)
    · replace hV := hV.2 hc
      refine z_iconst (v := 0) hC dX4_isThere_54 rfl ?_
      exact z_iret hC dX4_isThere_55 rfl (by rw [hQo]; exact ⟨_, rfl, hV⟩)
    · replace hV := hV.1 hc
      refine z_aload_n hC dX4_isThere_20 rfl rfl ?_
      refine g_X4_89_44 hC dX4_isThere_21 ?_
      refine z_iload_n hC dX4_isThere_24 rfl rfl ?_
      obtain ⟨h3, hV⟩ := hV
      refine z_iald hC dX4_isThere_25 (k_1163 _) (h3) ?_
      refine z_if_ne (tgt := 54) hC dX4_isThere_26 (by decide) (fun hc => ?_) (fun hc => ?_)
      · replace hV := hV.2 hc
        refine z_iconst (v := 0) hC dX4_isThere_54 rfl ?_
        exact z_iret hC dX4_isThere_55 rfl (by rw [hQo]; exact ⟨_, rfl, hV⟩)
      · replace hV := hV.1 hc
        refine z_aload_n hC dX4_isThere_29 rfl rfl ?_
        refine z_aload_n hC dX4_isThere_30 rfl rfl ?_
        refine g_X4_80_44 hC dX4_isThere_31 ?_
        refine z_iload_n hC dX4_isThere_34 rfl rfl ?_
        obtain ⟨h4, hV⟩ := hV
        refine z_aalS hC dX4_isThere_35 (k_1148 _) (by decide) ps_1148 h4 ?_
        refine z_aload_n hC dX4_isThere_36 rfl rfl ?_
        refine g_X4_86_44 hC dX4_isThere_37 ?_
        refine z_iload_n hC dX4_isThere_40 rfl rfl ?_
        obtain ⟨h5, hV⟩ := hV
        refine z_iald hC dX4_isThere_41 (k_1162 _) (h5) ?_
        obtain ⟨h6, hV⟩ := hV
        refine z_iald hC dX4_isThere_42 (kr_1148 _ (ix_lt h4)) (h6) ?_
        refine c_X4_250 hC (by decide) dX4_isThere_43 (Nat.le_of_ble_eq_true rfl) hV (fun r7 σ8 hV => ?_)
        refine z_iload_n hC dX4_isThere_46 rfl rfl ?_
        refine z_icmp_ne (tgt := 54) hC dX4_isThere_47 (by decide) (fun hc => ?_) (fun hc => ?_)
        · replace hV := hV.2 hc
          refine z_iconst (v := 0) hC dX4_isThere_54 rfl ?_
          exact z_iret hC dX4_isThere_55 rfl (by rw [hQo]; exact ⟨_, rfl, hV⟩)
        · replace hV := hV.1 hc
          refine z_iconst (v := 1) hC dX4_isThere_50 rfl ?_
          refine z_goto (tgt := 55) hC dX4_isThere_51 (by decide) ?_
          exact z_iret hC dX4_isThere_55 rfl (by rw [hQo]; exact ⟨_, rfl, hV⟩)
theorem g_X4_98_44 {C : ZC} {E : ZE} {cc : ByteArray} {nL pc d : Nat} {nm : String} {ret : Option FieldType} {hh : List (Nat × Nat × Nat × Nat)} {σ : ZS} {L : List (Option Value)} {st : List Value} (hC : Cx C E cc nL "RightTurnsModel" nm ret hh d) (hd : decode cc pc = .ok (.getfield 98, 3)) (k : zz C E NS nL σ (pc + 3) L (.ref (E.1.heap.size + 1166) :: st)) : zz C E NS nL σ pc L (.ref (E.1.heap.size + 44) :: st) :=
  z_get hC cf3 hd (k_44 σ) (k := 42) (by decide) (Or.inl q1627) (Or.inl rfl) rfl k
theorem cw_X4_isThere : CodeW yX4_isThere (ws_ yX4_isThere cX4_isThere 3 (some .boolean)) 3 := ⟨fun w h => (List.mem_cons.mp h).elim (fun e => e ▸ q2129) id, Or.inl ⟨_, _, q2129⟩, q138, by decide, by decide⟩
theorem c_X4_384 {C : ZC} {E : ZE} {cc : ByteArray} {nL pc d : Nat} {nm : String} {ret : Option FieldType} {hh : List (Nat × Nat × Nat × Nat)} {σ : ZS} {L : List (Option Value)} {st : List Value} {a1 : Int32} {a2 : Int32} {Ret : Int32 → ZS → Prop} (hC : Cx C E cc nL "RightTurnsModel" nm ret hh d) (hdd : 2 + 1 ≤ d) (hd : decode cc pc = .ok (.invokevirtual 384, 3)) (hW : (st.map fun v => v.category).sum ≤ 8) (hV : wp_X4_isThere σ a1 a2 Ret) (k : ∀ r σ', Ret r σ' → zz C E NS nL σ' (pc + 3) L (.int r :: st)) : zz C E NS nL σ pc L (.int a2 :: .int a1 :: .ref (E.1.heap.size + 44) :: st) :=
  z_callVG hC cf3 cw_X4_isThere hdd (by decide) (mz_X4_isThere (cxE hC) hV) hd (k_44 σ) q2126 q2128 qs109 (np := 2) rfl rfl hW rfl (kI k)
def VL_X4_passes_53 (Ret : Int32 → ZS → Prop) : Nat → ZS → Int32 → Int32 → Int32 → Prop
  | 0 => fun _ _ _ _ => False
  | k + 1 => fun σ x1 x2 x3 =>
    let K53 := VL_X4_passes_53 Ret k
    ((x3 < (zI σ 47 (ix 3)) → (wp_X4_isThere σ x3 x1 (fun r15 σ16 => ((r15 = 0 → (∀ y17 : Int32, y17 = x3 + 1 → (K53 σ16 x1 x2 y17))) ∧ (¬ r15 = 0 → (((x3 = x2 → (∀ y18 : Int32, y18 = x3 + 1 → (K53 σ16 x1 x2 y18))) ∧ (¬ x3 = x2 → (vp_in x3 12 ∧ (vp_in x3 12 ∧ (∀ σ21 : ZS, σ21 = sI σ16 1166 (ix x3) ((zI σ16 1166 (ix x3)) + 1) → (∀ y22 : Int32, y22 = x3 + 1 → (K53 σ21 x1 x2 y22))))))))))))) ∧ (¬ x3 < (zI σ 47 (ix 3)) → (((x2 = (-1) → (Ret 0 σ)) ∧ (¬ x2 = (-1) → (vp_in x2 12 ∧ (vp_in x2 12 ∧ ((((zI σ 1162 (ix x2)) = ((zI σ 1161 (ix x2)) - 1) → (vp_in x2 12 ∧ (∀ σ14 : ZS, σ14 = sI σ 1165 (ix x2) (zI σ 44 43) → (Ret 1 σ14)))) ∧ (¬ (zI σ 1162 (ix x2)) = ((zI σ 1161 (ix x2)) - 1) → (vp_in x2 12 ∧ (vp_in x2 12 ∧ (∀ σ5 : ZS, σ5 = sI σ 1162 (ix x2) ((zI σ 1162 (ix x2)) + 1) → (vp_in x2 12 ∧ (vp_in x2 12 ∧ (vp_in (zI σ5 1162 (ix x2)) 48 ∧ (wp_X4_longOf σ5 (zI σ5 (1148 + 1 + ix x2) (ix (zI σ5 1162 (ix x2)))) (fun r9 σ10 => vp_in x2 12 ∧ (∀ σ12 : ZS, σ12 = sI σ10 1163 (ix x2) r9 → (Ret 0 σ12))))))))))))))))))))
def V_X4_passes_53 (Ret : Int32 → ZS → Prop) (σ : ZS) (x1 : Int32) (x2 : Int32) (x3 : Int32) : Prop := ∃ k, VL_X4_passes_53 Ret k σ x1 x2 x3
def VL_X4_passes_4 (Ret : Int32 → ZS → Prop) : Nat → ZS → Int32 → Int32 → Int32 → Prop
  | 0 => fun _ _ _ _ => False
  | k + 1 => fun σ x1 x2 x3 =>
    let K4 := VL_X4_passes_4 Ret k
    ((x3 < (zI σ 47 (ix 3)) → (wp_X4_isThere σ x3 x1 (fun r23 σ24 => ((r23 = 0 → (∀ y25 : Int32, y25 = x3 + 1 → (K4 σ24 x1 x2 y25))) ∧ (¬ r23 = 0 → (((x2 = (-1) → (∀ y26 : Int32, y26 = x3 + 1 → (K4 σ24 x1 x3 y26))) ∧ (¬ x2 = (-1) → (vp_in x3 12 ∧ (vp_in x2 12 ∧ ((((zI σ24 1164 (ix x3)) < (zI σ24 1164 (ix x2)) → (∀ y30 : Int32, y30 = x3 + 1 → (K4 σ24 x1 x3 y30))) ∧ (¬ (zI σ24 1164 (ix x3)) < (zI σ24 1164 (ix x2)) → (∀ y29 : Int32, y29 = x3 + 1 → (K4 σ24 x1 x2 y29))))))))))))))) ∧ (¬ x3 < (zI σ 47 (ix 3)) → (V_X4_passes_53 Ret σ x1 x2 0)))
def V_X4_passes_4 (Ret : Int32 → ZS → Prop) (σ : ZS) (x1 : Int32) (x2 : Int32) (x3 : Int32) : Prop := ∃ k, VL_X4_passes_4 Ret k σ x1 x2 x3
def wp_X4_passes (σ : ZS) (a1 : Int32) (Ret : Int32 → ZS → Prop) : Prop :=
    V_X4_passes_4 Ret σ a1 (-1) 0
set_option maxHeartbeats 4000000 in
theorem mz_X4_passes {l : Launch} {E : ZE} (hE : EOK E) {σ : ZS} {a1 : Int32} {Ret : Int32 → ZS → Prop} (hV : wp_X4_passes σ a1 Ret) : MZ l E NS yX4_passes (ws_ yX4_passes cX4_passes 4 (some .int)) 3 σ [.ref (E.1.heap.size + 44), .int a1] (rI Ret) := by
  refine MZ.start (L := [some (.ref (E.1.heap.size + 44)), some (.int a1), none, none]) hE (by decide) (Nat.le_of_ble_eq_true rfl) rfl fun C hCl hQo hC => ?_
  replace hC : Cx C E cX4_passes 4 "RightTurnsModel" "passes" (some .int) [] 3 := hC
  unfold wp_X4_passes at hV
  have j_53 : ∀ (σ : ZS) (x1 : Int32) (x2 : Int32) (x3 : Int32), V_X4_passes_53 Ret σ x1 x2 x3 → zz C E NS 4 σ 53 [some (.ref (E.1.heap.size + 44)), some (.int x1), some (.int x2), some (.int x3)] [] := by
    intro σ x1 x2 x3 ⟨k, hV⟩
    revert σ x1 x2 x3
    induction k with
    | zero => exact fun _ _ _ _ hV => hV.elim
    | succ k j_53 =>
      intro σ x1 x2 x3 hV
      simp only [VL_X4_passes_53] at hV
      generalize hKe53 : VL_X4_passes_53 Ret k = K53 at hV j_53
      clear hKe53
      refine z_iload_n hC dX4_passes_53 rfl rfl ?_
      refine z_aload_n hC dX4_passes_54 rfl rfl ?_
      refine g_X4_20_44 hC dX4_passes_55 ?_
      refine z_iconst (v := 3) hC dX4_passes_58 rfl ?_
      refine z_iald hC dX4_passes_59 (k_47 _) (in_dec rfl) ?_
      refine z_icmp_ge (tgt := 93) hC dX4_passes_60 (by decide) (fun hc => ?_) (fun hc => ?_)
      · replace hV := hV.2 hc
        refine z_iload_n hC dX4_passes_93 rfl rfl ?_
        refine z_iconst (v := (-1)) hC dX4_passes_94 rfl ?_
        refine z_icmp_ne (tgt := 100) hC dX4_passes_95 (by decide) (fun hc => ?_) (fun hc => ?_)
        · replace hV := hV.2 hc
          refine z_aload_n hC dX4_passes_100 rfl rfl ?_
          refine g_X4_86_44 hC dX4_passes_101 ?_
          refine z_iload_n hC dX4_passes_104 rfl rfl ?_
          obtain ⟨h1, hV⟩ := hV
          refine z_iald hC dX4_passes_105 (k_1162 _) (h1) ?_
          refine z_aload_n hC dX4_passes_106 rfl rfl ?_
          refine g_X4_83_44 hC dX4_passes_107 ?_
          refine z_iload_n hC dX4_passes_110 rfl rfl ?_
          obtain ⟨h2, hV⟩ := hV
          refine z_iald hC dX4_passes_111 (k_1161 _) (h2) ?_
          refine z_iconst (v := 1) hC dX4_passes_112 rfl ?_
          refine z_isub hC dX4_passes_113 ?_
          refine z_icmp_ne (tgt := 129) hC dX4_passes_114 (by decide) (fun hc => ?_) (fun hc => ?_)
          · replace hV := hV.2 hc
            refine z_aload_n hC dX4_passes_129 rfl rfl ?_
            refine g_X4_86_44 hC dX4_passes_130 ?_
            refine z_iload_n hC dX4_passes_133 rfl rfl ?_
            refine z_dup2 hC dX4_passes_134 rfl rfl ?_
            obtain ⟨h3, hV⟩ := hV
            refine z_iald hC dX4_passes_135 (k_1162 _) (h3) ?_
            refine z_iconst (v := 1) hC dX4_passes_136 rfl ?_
            refine z_iadd hC dX4_passes_137 ?_
            obtain ⟨h4, hV⟩ := hV
            refine z_iast hC dX4_passes_138 (k_1162 _) (h4) ?_
            obtain ⟨σ5, e_σ5⟩ : ∃ z : ZS, z = sI σ 1162 (ix x2) ((zI σ 1162 (ix x2)) + 1) := ⟨_, rfl⟩
            replace hV := hV _ e_σ5
            rw [← e_σ5]
            refine z_aload_n hC dX4_passes_139 rfl rfl ?_
            refine g_X4_89_44 hC dX4_passes_140 ?_
            refine z_iload_n hC dX4_passes_143 rfl rfl ?_
            refine z_aload_n hC dX4_passes_144 rfl rfl ?_
            refine z_aload_n hC dX4_passes_145 rfl rfl ?_
            refine g_X4_80_44 hC dX4_passes_146 ?_
            refine z_iload_n hC dX4_passes_149 rfl rfl ?_
            obtain ⟨h6, hV⟩ := hV
            refine z_aalS hC dX4_passes_150 (k_1148 _) (by decide) ps_1148 h6 ?_
            refine z_aload_n hC dX4_passes_151 rfl rfl ?_
            refine g_X4_86_44 hC dX4_passes_152 ?_
            refine z_iload_n hC dX4_passes_155 rfl rfl ?_
            obtain ⟨h7, hV⟩ := hV
            refine z_iald hC dX4_passes_156 (k_1162 _) (h7) ?_
            obtain ⟨h8, hV⟩ := hV
            refine z_iald hC dX4_passes_157 (kr_1148 _ (ix_lt h6)) (h8) ?_
            refine c_X4_295 hC (by decide) dX4_passes_158 (Nat.le_of_ble_eq_true rfl) hV (fun r9 σ10 hV => ?_)
            obtain ⟨h11, hV⟩ := hV
            refine z_iast hC dX4_passes_161 (k_1163 _) (h11) ?_
            obtain ⟨σ12, e_σ12⟩ : ∃ z : ZS, z = sI σ10 1163 (ix x2) r9 := ⟨_, rfl⟩
            replace hV := hV _ e_σ12
            rw [← e_σ12]
            refine z_iconst (v := 0) hC dX4_passes_162 rfl ?_
            exact z_iret hC dX4_passes_163 rfl (by rw [hQo]; exact ⟨_, rfl, hV⟩)
          · replace hV := hV.1 hc
            refine z_aload_n hC dX4_passes_117 rfl rfl ?_
            refine g_X4_95_44 hC dX4_passes_118 ?_
            refine z_iload_n hC dX4_passes_121 rfl rfl ?_
            refine z_aload_n hC dX4_passes_122 rfl rfl ?_
            refine g_X4_375_44 hC dX4_passes_123 ?_
            obtain ⟨h13, hV⟩ := hV
            refine z_iast hC dX4_passes_126 (k_1165 _) (h13) ?_
            obtain ⟨σ14, e_σ14⟩ : ∃ z : ZS, z = sI σ 1165 (ix x2) (zI σ 44 43) := ⟨_, rfl⟩
            replace hV := hV _ e_σ14
            rw [← e_σ14]
            refine z_iconst (v := 1) hC dX4_passes_127 rfl ?_
            exact z_iret hC dX4_passes_128 rfl (by rw [hQo]; exact ⟨_, rfl, hV⟩)
        · replace hV := hV.1 hc
          refine z_iconst (v := 0) hC dX4_passes_98 rfl ?_
          exact z_iret hC dX4_passes_99 rfl (by rw [hQo]; exact ⟨_, rfl, hV⟩)
      · replace hV := hV.1 hc
        refine z_aload_n hC dX4_passes_63 rfl rfl ?_
        refine z_iload_n hC dX4_passes_64 rfl rfl ?_
        refine z_iload_n hC dX4_passes_65 rfl rfl ?_
        refine c_X4_384 hC (by decide) dX4_passes_66 (Nat.le_of_ble_eq_true rfl) hV (fun r15 σ16 hV => ?_)
        refine z_if_eq (tgt := 87) hC dX4_passes_69 (by decide) (fun hc => ?_) (fun hc => ?_)
        · replace hV := hV.1 hc
          obtain ⟨y17, e_y17⟩ : ∃ z : Int32, z = x3 + 1 := ⟨_, rfl⟩
          replace hV := hV _ e_y17
          refine z_iinc (v := y17) hC dX4_passes_87 rfl (by rw [e_y17]; rfl) (Nat.le_of_ble_eq_true rfl) rfl rfl ?_
          refine z_goto (tgt := 53) hC dX4_passes_90 (by decide) ?_
          refine zz_sub (L' := [some (.ref (E.1.heap.size + 44)), some (.int x1), some (.int x2), some (.int y17)]) ⟨rfl, rfl, rfl, rfl, trivial⟩ ?_
          exact j_53 σ16 x1 x2 y17 hV
        · replace hV := hV.2 hc
          refine z_iload_n hC dX4_passes_72 rfl rfl ?_
          refine z_iload_n hC dX4_passes_73 rfl rfl ?_
          refine z_icmp_eq (tgt := 87) hC dX4_passes_74 (by decide) (fun hc => ?_) (fun hc => ?_)
          · replace hV := hV.1 hc
            obtain ⟨y18, e_y18⟩ : ∃ z : Int32, z = x3 + 1 := ⟨_, rfl⟩
            replace hV := hV _ e_y18
            refine z_iinc (v := y18) hC dX4_passes_87 rfl (by rw [e_y18]; rfl) (Nat.le_of_ble_eq_true rfl) rfl rfl ?_
            refine z_goto (tgt := 53) hC dX4_passes_90 (by decide) ?_
            refine zz_sub (L' := [some (.ref (E.1.heap.size + 44)), some (.int x1), some (.int x2), some (.int y18)]) ⟨rfl, rfl, rfl, rfl, trivial⟩ ?_
            exact j_53 σ16 x1 x2 y18 hV
          · replace hV := hV.2 hc
            refine z_aload_n hC dX4_passes_77 rfl rfl ?_
            refine g_X4_98_44 hC dX4_passes_78 ?_
            refine z_iload_n hC dX4_passes_81 rfl rfl ?_
            refine z_dup2 hC dX4_passes_82 rfl rfl ?_
            obtain ⟨h19, hV⟩ := hV
            refine z_iald hC dX4_passes_83 (k_1166 _) (h19) ?_
            refine z_iconst (v := 1) hC dX4_passes_84 rfl ?_
            refine z_iadd hC dX4_passes_85 ?_
            obtain ⟨h20, hV⟩ := hV
            refine z_iast hC dX4_passes_86 (k_1166 _) (h20) ?_
            obtain ⟨σ21, e_σ21⟩ : ∃ z : ZS, z = sI σ16 1166 (ix x3) ((zI σ16 1166 (ix x3)) + 1) := ⟨_, rfl⟩
            replace hV := hV _ e_σ21
            rw [← e_σ21]
            obtain ⟨y22, e_y22⟩ : ∃ z : Int32, z = x3 + 1 := ⟨_, rfl⟩
            replace hV := hV _ e_y22
            refine z_iinc (v := y22) hC dX4_passes_87 rfl (by rw [e_y22]; rfl) (Nat.le_of_ble_eq_true rfl) rfl rfl ?_
            refine z_goto (tgt := 53) hC dX4_passes_90 (by decide) ?_
            refine zz_sub (L' := [some (.ref (E.1.heap.size + 44)), some (.int x1), some (.int x2), some (.int y22)]) ⟨rfl, rfl, rfl, rfl, trivial⟩ ?_
            exact j_53 σ21 x1 x2 y22 hV
  have j_4 : ∀ (σ : ZS) (x1 : Int32) (x2 : Int32) (x3 : Int32), V_X4_passes_4 Ret σ x1 x2 x3 → zz C E NS 4 σ 4 [some (.ref (E.1.heap.size + 44)), some (.int x1), some (.int x2), some (.int x3)] [] := by
    intro σ x1 x2 x3 ⟨k, hV⟩
    revert σ x1 x2 x3
    induction k with
    | zero => exact fun _ _ _ _ hV => hV.elim
    | succ k j_4 =>
      intro σ x1 x2 x3 hV
      simp only [VL_X4_passes_4] at hV
      generalize hKe4 : VL_X4_passes_4 Ret k = K4 at hV j_4
      clear hKe4
      refine z_iload_n hC dX4_passes_4 rfl rfl ?_
      refine z_aload_n hC dX4_passes_5 rfl rfl ?_
      refine g_X4_20_44 hC dX4_passes_6 ?_
      refine z_iconst (v := 3) hC dX4_passes_9 rfl ?_
      refine z_iald hC dX4_passes_10 (k_47 _) (in_dec rfl) ?_
      refine z_icmp_ge (tgt := 51) hC dX4_passes_11 (by decide) (fun hc => ?_) (fun hc => ?_)
      · replace hV := hV.2 hc
        refine z_iconst (v := 0) hC dX4_passes_51 rfl ?_
        refine z_istore_n hC dX4_passes_52 rfl (Nat.le_of_ble_eq_true rfl) rfl rfl ?_
        refine zz_sub (L' := [some (.ref (E.1.heap.size + 44)), some (.int x1), some (.int x2), some (.int 0)]) ⟨rfl, rfl, rfl, rfl, trivial⟩ ?_
        exact j_53 σ x1 x2 0 hV
      · replace hV := hV.1 hc
        refine z_aload_n hC dX4_passes_14 rfl rfl ?_
        refine z_iload_n hC dX4_passes_15 rfl rfl ?_
        refine z_iload_n hC dX4_passes_16 rfl rfl ?_
        refine c_X4_384 hC (by decide) dX4_passes_17 (Nat.le_of_ble_eq_true rfl) hV (fun r23 σ24 hV => ?_)
        refine z_if_eq (tgt := 45) hC dX4_passes_20 (by decide) (fun hc => ?_) (fun hc => ?_)
        · replace hV := hV.1 hc
          obtain ⟨y25, e_y25⟩ : ∃ z : Int32, z = x3 + 1 := ⟨_, rfl⟩
          replace hV := hV _ e_y25
          refine z_iinc (v := y25) hC dX4_passes_45 rfl (by rw [e_y25]; rfl) (Nat.le_of_ble_eq_true rfl) rfl rfl ?_
          refine z_goto (tgt := 4) hC dX4_passes_48 (by decide) ?_
          refine zz_sub (L' := [some (.ref (E.1.heap.size + 44)), some (.int x1), some (.int x2), some (.int y25)]) ⟨rfl, rfl, rfl, rfl, trivial⟩ ?_
          exact j_4 σ24 x1 x2 y25 hV
        · replace hV := hV.2 hc
          refine z_iload_n hC dX4_passes_23 rfl rfl ?_
          refine z_iconst (v := (-1)) hC dX4_passes_24 rfl ?_
          refine z_icmp_eq (tgt := 43) hC dX4_passes_25 (by decide) (fun hc => ?_) (fun hc => ?_)
          · replace hV := hV.1 hc
            refine z_iload_n hC dX4_passes_43 rfl rfl ?_
            refine z_istore_n hC dX4_passes_44 rfl (Nat.le_of_ble_eq_true rfl) rfl rfl ?_
            obtain ⟨y26, e_y26⟩ : ∃ z : Int32, z = x3 + 1 := ⟨_, rfl⟩
            replace hV := hV _ e_y26
            refine z_iinc (v := y26) hC dX4_passes_45 rfl (by rw [e_y26]; rfl) (Nat.le_of_ble_eq_true rfl) rfl rfl ?_
            refine z_goto (tgt := 4) hC dX4_passes_48 (by decide) ?_
            refine zz_sub (L' := [some (.ref (E.1.heap.size + 44)), some (.int x1), some (.int x3), some (.int y26)]) ⟨rfl, rfl, rfl, rfl, trivial⟩ ?_
            exact j_4 σ24 x1 x3 y26 hV
          · replace hV := hV.2 hc
            refine z_aload_n hC dX4_passes_28 rfl rfl ?_
            refine g_X4_92_44 hC dX4_passes_29 ?_
            refine z_iload_n hC dX4_passes_32 rfl rfl ?_
            obtain ⟨h27, hV⟩ := hV
            refine z_iald hC dX4_passes_33 (k_1164 _) (h27) ?_
            refine z_aload_n hC dX4_passes_34 rfl rfl ?_
            refine g_X4_92_44 hC dX4_passes_35 ?_
            refine z_iload_n hC dX4_passes_38 rfl rfl ?_
            obtain ⟨h28, hV⟩ := hV
            refine z_iald hC dX4_passes_39 (k_1164 _) (h28) ?_
            refine z_icmp_ge (tgt := 45) hC dX4_passes_40 (by decide) (fun hc => ?_) (fun hc => ?_)
            · replace hV := hV.2 hc
              obtain ⟨y29, e_y29⟩ : ∃ z : Int32, z = x3 + 1 := ⟨_, rfl⟩
              replace hV := hV _ e_y29
              refine z_iinc (v := y29) hC dX4_passes_45 rfl (by rw [e_y29]; rfl) (Nat.le_of_ble_eq_true rfl) rfl rfl ?_
              refine z_goto (tgt := 4) hC dX4_passes_48 (by decide) ?_
              refine zz_sub (L' := [some (.ref (E.1.heap.size + 44)), some (.int x1), some (.int x2), some (.int y29)]) ⟨rfl, rfl, rfl, rfl, trivial⟩ ?_
              exact j_4 σ24 x1 x2 y29 hV
            · replace hV := hV.1 hc
              refine z_iload_n hC dX4_passes_43 rfl rfl ?_
              refine z_istore_n hC dX4_passes_44 rfl (Nat.le_of_ble_eq_true rfl) rfl rfl ?_
              obtain ⟨y30, e_y30⟩ : ∃ z : Int32, z = x3 + 1 := ⟨_, rfl⟩
              replace hV := hV _ e_y30
              refine z_iinc (v := y30) hC dX4_passes_45 rfl (by rw [e_y30]; rfl) (Nat.le_of_ble_eq_true rfl) rfl rfl ?_
              refine z_goto (tgt := 4) hC dX4_passes_48 (by decide) ?_
              refine zz_sub (L' := [some (.ref (E.1.heap.size + 44)), some (.int x1), some (.int x3), some (.int y30)]) ⟨rfl, rfl, rfl, rfl, trivial⟩ ?_
              exact j_4 σ24 x1 x3 y30 hV
  refine z_iconst (v := (-1)) hC dX4_passes_0 rfl ?_
  refine z_istore_n hC dX4_passes_1 rfl (Nat.le_of_ble_eq_true rfl) rfl rfl ?_
  refine z_iconst (v := 0) hC dX4_passes_2 rfl ?_
  refine z_istore_n hC dX4_passes_3 rfl (Nat.le_of_ble_eq_true rfl) rfl rfl ?_
  refine zz_sub (L' := [some (.ref (E.1.heap.size + 44)), some (.int a1), some (.int (-1)), some (.int 0)]) ⟨rfl, rfl, rfl, rfl, trivial⟩ ?_
  exact j_4 σ a1 (-1) 0 hV
theorem p_X4_375_c3 {C : ZC} {E : ZE} {cc : ByteArray} {n nL pc d a x : Nat} {nm : String} {ret : Option FieldType} {hh : List (Nat × Nat × Nat × Nat)} {σ : ZS} {L : List (Option Value)} {st : List Value} {v : Int32} (hC : Cx C E cc nL "RightTurnsModel" nm ret hh d) (hd : decode cc pc = .ok (.putfield 375, 3)) (hk : kK n σ a = (3 + 7, x)) (k : zz C E n nL (sI σ a 43 v) (pc + 3) L st) : zz C E n nL σ pc L (.int v :: .ref (E.1.heap.size + a) :: st) :=
  z_putI hC cf3 hd hk (k := 43) (by decide) (Or.inl q1628) (Or.inl rfl) (Or.inl rfl) rfl rfl rfl k
theorem cw_X4_moves : CodeW yX4_moves (ws_ yX4_moves cX4_moves 2 none) 2 := ⟨fun w h => (List.mem_cons.mp h).elim (fun e => e ▸ q2121) id, Or.inl ⟨_, _, q2121⟩, q138, by decide, by decide⟩
theorem c_X4_378 {C : ZC} {E : ZE} {cc : ByteArray} {nL pc d : Nat} {nm : String} {ret : Option FieldType} {hh : List (Nat × Nat × Nat × Nat)} {σ : ZS} {L : List (Option Value)} {st : List Value} {a1 : Int32} {Ret : ZS → Prop} (hC : Cx C E cc nL "RightTurnsModel" nm ret hh d) (hdd : 2 + 1 ≤ d) (hd : decode cc pc = .ok (.invokevirtual 378, 3)) (hW : (st.map fun v => v.category).sum ≤ 8) (hV : wp_X4_moves σ a1 Ret) (k : ∀ σ', Ret σ' → zz C E NS nL σ' (pc + 3) L st) : zz C E NS nL σ pc L (.int a1 :: .ref (E.1.heap.size + 44) :: st) :=
  z_callVG hC cf3 cw_X4_moves hdd (by decide) (mz_X4_moves (cxE hC) hV) hd (k_44 σ) q2118 q2120 qs107 (np := 1) rfl rfl hW rfl (kV k)
theorem cw_X4_passes : CodeW yX4_passes (ws_ yX4_passes cX4_passes 4 (some .int)) 4 := ⟨fun w h => (List.mem_cons.mp h).elim (fun e => e ▸ q2125) id, Or.inl ⟨_, _, q2125⟩, q138, by decide, by decide⟩
theorem c_X4_381 {C : ZC} {E : ZE} {cc : ByteArray} {nL pc d : Nat} {nm : String} {ret : Option FieldType} {hh : List (Nat × Nat × Nat × Nat)} {σ : ZS} {L : List (Option Value)} {st : List Value} {a1 : Int32} {Ret : Int32 → ZS → Prop} (hC : Cx C E cc nL "RightTurnsModel" nm ret hh d) (hdd : 3 + 1 ≤ d) (hd : decode cc pc = .ok (.invokevirtual 381, 3)) (hW : (st.map fun v => v.category).sum ≤ 8) (hV : wp_X4_passes σ a1 Ret) (k : ∀ r σ', Ret r σ' → zz C E NS nL σ' (pc + 3) L (.int r :: st)) : zz C E NS nL σ pc L (.int a1 :: .ref (E.1.heap.size + 44) :: st) :=
  z_callVG hC cf3 cw_X4_passes hdd (by decide) (mz_X4_passes (cxE hC) hV) hd (k_44 σ) q2122 q2124 qs108 (np := 1) rfl rfl hW rfl (kI k)
def VL_X4_runs_106 (K67 : ZS → Int32 → Prop) (Ret : ZS → Prop) : Nat → ZS → Int32 → Int32 → Prop
  | 0 => fun _ _ _ => False
  | k + 1 => fun σ x1 x2 =>
    let K106 := VL_X4_runs_106 K67 Ret k
    ((x2 < (zI σ 47 (ix 0)) → (wp_X4_passes σ x2 (fun r5 σ6 => ∀ y7 : Int32, y7 = x1 - r5 → (∀ y8 : Int32, y8 = x2 + 1 → (K106 σ6 y7 y8))))) ∧ (¬ x2 < (zI σ 47 (ix 0)) → (∀ σ4 : ZS, σ4 = sI σ 44 43 ((zI σ 44 43) + 1) → (K67 σ4 x1))))
def V_X4_runs_106 (K67 : ZS → Int32 → Prop) (Ret : ZS → Prop) (σ : ZS) (x1 : Int32) (x2 : Int32) : Prop := ∃ k, VL_X4_runs_106 K67 Ret k σ x1 x2
def VL_X4_runs_83 (K67 : ZS → Int32 → Prop) (Ret : ZS → Prop) : Nat → ZS → Int32 → Int32 → Prop
  | 0 => fun _ _ _ => False
  | k + 1 => fun σ x1 x2 =>
    let K83 := VL_X4_runs_83 K67 Ret k
    ((x2 < (zI σ 47 (ix 3)) → (wp_X4_moves σ x2 (fun σ10 => ∀ y11 : Int32, y11 = x2 + 1 → (K83 σ10 x1 y11)))) ∧ (¬ x2 < (zI σ 47 (ix 3)) → (V_X4_runs_106 K67 Ret σ x1 0)))
def V_X4_runs_83 (K67 : ZS → Int32 → Prop) (Ret : ZS → Prop) (σ : ZS) (x1 : Int32) (x2 : Int32) : Prop := ∃ k, VL_X4_runs_83 K67 Ret k σ x1 x2
def VL_X4_runs_67 (Ret : ZS → Prop) : Nat → ZS → Int32 → Prop
  | 0 => fun _ _ => False
  | k + 1 => fun σ x1 =>
    let K67 := VL_X4_runs_67 Ret k
    ((0 < x1 → ((((zI σ 44 43) < 999 → (V_X4_runs_83 K67 Ret σ x1 0)) ∧ (¬ (zI σ 44 43) < 999 → (Ret σ))))) ∧ (¬ 0 < x1 → (Ret σ)))
def V_X4_runs_67 (Ret : ZS → Prop) (σ : ZS) (x1 : Int32) : Prop := ∃ k, VL_X4_runs_67 Ret k σ x1
def VL_X4_runs_8 (Ret : ZS → Prop) : Nat → ZS → Int32 → Int32 → Prop
  | 0 => fun _ _ _ => False
  | k + 1 => fun σ x1 x2 =>
    let K8 := VL_X4_runs_8 Ret k
    ((x2 < (zI σ 47 (ix 3)) → (vp_in x2 12 ∧ (∀ σ13 : ZS, σ13 = sI σ 1162 (ix x2) (-1) → (vp_in x2 12 ∧ (∀ σ15 : ZS, σ15 = sI σ13 1165 (ix x2) (-1) → (vp_in x2 12 ∧ (∀ σ17 : ZS, σ17 = sI σ15 1166 (ix x2) 0 → (vp_in x2 12 ∧ (((0 < (zI σ17 1161 (ix x2)) → (∀ y21 : Int32, y21 = x1 + 1 → (∀ y22 : Int32, y22 = x2 + 1 → (K8 σ17 y21 y22)))) ∧ (¬ 0 < (zI σ17 1161 (ix x2)) → (∀ y19 : Int32, y19 = x1 + 0 → (∀ y20 : Int32, y20 = x2 + 1 → (K8 σ17 y19 y20)))))))))))))) ∧ (¬ x2 < (zI σ 47 (ix 3)) → (∀ σ3 : ZS, σ3 = sI σ 44 43 0 → (V_X4_runs_67 Ret σ3 x1))))
def V_X4_runs_8 (Ret : ZS → Prop) (σ : ZS) (x1 : Int32) (x2 : Int32) : Prop := ∃ k, VL_X4_runs_8 Ret k σ x1 x2
def wp_X4_runs (σ : ZS) (Ret : ZS → Prop) : Prop :=
    wp_X4_layRides σ (fun σ2 => V_X4_runs_8 Ret σ2 0 0)
set_option maxHeartbeats 4000000 in
theorem mz_X4_runs {l : Launch} {E : ZE} (hE : EOK E) {σ : ZS} {Ret : ZS → Prop} (hV : wp_X4_runs σ Ret) : MZ l E NS yX4_runs (ws_ yX4_runs cX4_runs 3 none) 8 σ [.ref (E.1.heap.size + 44)] (rV Ret) := by
  refine MZ.start (L := [some (.ref (E.1.heap.size + 44)), none, none]) hE (by decide) (Nat.le_of_ble_eq_true rfl) rfl fun C hCl hQo hC => ?_
  replace hC : Cx C E cX4_runs 3 "RightTurnsModel" "runs" none [] 8 := hC
  unfold wp_X4_runs at hV
  have j_67 : ∀ (σ : ZS) (x1 : Int32), V_X4_runs_67 Ret σ x1 → zz C E NS 3 σ 67 [some (.ref (E.1.heap.size + 44)), some (.int x1), none] [] := by
    intro σ x1 ⟨k, hV⟩
    revert σ x1
    induction k with
    | zero => exact fun _ _ hV => hV.elim
    | succ k j_67 =>
      intro σ x1 hV
      simp only [VL_X4_runs_67] at hV
      generalize hKe67 : VL_X4_runs_67 Ret k = K67 at hV j_67
      clear hKe67
      have j_106 : ∀ (σ : ZS) (x1 : Int32) (x2 : Int32), V_X4_runs_106 K67 Ret σ x1 x2 → zz C E NS 3 σ 106 [some (.ref (E.1.heap.size + 44)), some (.int x1), some (.int x2)] [] := by
        intro σ x1 x2 ⟨k, hV⟩
        revert σ x1 x2
        induction k with
        | zero => exact fun _ _ _ hV => hV.elim
        | succ k j_106 =>
          intro σ x1 x2 hV
          simp only [VL_X4_runs_106] at hV
          generalize hKe106 : VL_X4_runs_106 K67 Ret k = K106 at hV j_106
          clear hKe106
          refine z_iload_n hC dX4_runs_106 rfl rfl ?_
          refine z_aload_n hC dX4_runs_107 rfl rfl ?_
          refine g_X4_20_44 hC dX4_runs_108 ?_
          refine z_iconst (v := 0) hC dX4_runs_111 rfl ?_
          refine z_iald hC dX4_runs_112 (k_47 _) (in_dec rfl) ?_
          refine z_icmp_ge (tgt := 130) hC dX4_runs_113 (by decide) (fun hc => ?_) (fun hc => ?_)
          · replace hV := hV.2 hc
            refine z_aload_n hC dX4_runs_130 rfl rfl ?_
            refine z_dup hC dX4_runs_131 rfl ?_
            refine g_X4_375_44 hC dX4_runs_132 ?_
            refine z_iconst (v := 1) hC dX4_runs_135 rfl ?_
            refine z_iadd hC dX4_runs_136 ?_
            refine p_X4_375_c3 hC dX4_runs_137 (k_44 _) ?_
            obtain ⟨σ4, e_σ4⟩ : ∃ z : ZS, z = sI σ 44 43 ((zI σ 44 43) + 1) := ⟨_, rfl⟩
            replace hV := hV _ e_σ4
            rw [← e_σ4]
            refine z_goto (tgt := 67) hC dX4_runs_140 (by decide) ?_
            refine zz_sub (L' := [some (.ref (E.1.heap.size + 44)), some (.int x1), none]) ⟨rfl, rfl, trivial⟩ ?_
            exact j_67 σ4 x1 hV
          · replace hV := hV.1 hc
            refine z_iload_n hC dX4_runs_116 rfl rfl ?_
            refine z_aload_n hC dX4_runs_117 rfl rfl ?_
            refine z_iload_n hC dX4_runs_118 rfl rfl ?_
            refine c_X4_381 hC (by decide) dX4_runs_119 (Nat.le_of_ble_eq_true rfl) hV (fun r5 σ6 hV => ?_)
            refine z_isub hC dX4_runs_122 ?_
            obtain ⟨y7, e_y7⟩ : ∃ z, z = x1 - r5 := ⟨_, rfl⟩
            rw [← e_y7]
            replace hV := hV _ e_y7
            refine z_istore_n hC dX4_runs_123 rfl (Nat.le_of_ble_eq_true rfl) rfl rfl ?_
            obtain ⟨y8, e_y8⟩ : ∃ z : Int32, z = x2 + 1 := ⟨_, rfl⟩
            replace hV := hV _ e_y8
            refine z_iinc (v := y8) hC dX4_runs_124 rfl (by rw [e_y8]; rfl) (Nat.le_of_ble_eq_true rfl) rfl rfl ?_
            refine z_goto (tgt := 106) hC dX4_runs_127 (by decide) ?_
            refine zz_sub (L' := [some (.ref (E.1.heap.size + 44)), some (.int y7), some (.int y8)]) ⟨rfl, rfl, rfl, trivial⟩ ?_
            exact j_106 σ6 y7 y8 hV
      have j_83 : ∀ (σ : ZS) (x1 : Int32) (x2 : Int32), V_X4_runs_83 K67 Ret σ x1 x2 → zz C E NS 3 σ 83 [some (.ref (E.1.heap.size + 44)), some (.int x1), some (.int x2)] [] := by
        intro σ x1 x2 ⟨k, hV⟩
        revert σ x1 x2
        induction k with
        | zero => exact fun _ _ _ hV => hV.elim
        | succ k j_83 =>
          intro σ x1 x2 hV
          simp only [VL_X4_runs_83] at hV
          generalize hKe83 : VL_X4_runs_83 K67 Ret k = K83 at hV j_83
          clear hKe83
          refine z_iload_n hC dX4_runs_83 rfl rfl ?_
          refine z_aload_n hC dX4_runs_84 rfl rfl ?_
          refine g_X4_20_44 hC dX4_runs_85 ?_
          refine z_iconst (v := 3) hC dX4_runs_88 rfl ?_
          refine z_iald hC dX4_runs_89 (k_47 _) (in_dec rfl) ?_
          refine z_icmp_ge (tgt := 104) hC dX4_runs_90 (by decide) (fun hc => ?_) (fun hc => ?_)
          · replace hV := hV.2 hc
            refine z_iconst (v := 0) hC dX4_runs_104 rfl ?_
            refine z_istore_n hC dX4_runs_105 rfl (Nat.le_of_ble_eq_true rfl) rfl rfl ?_
            refine zz_sub (L' := [some (.ref (E.1.heap.size + 44)), some (.int x1), some (.int 0)]) ⟨rfl, rfl, rfl, trivial⟩ ?_
            exact j_106 σ x1 0 hV
          · replace hV := hV.1 hc
            refine z_aload_n hC dX4_runs_93 rfl rfl ?_
            refine z_iload_n hC dX4_runs_94 rfl rfl ?_
            refine c_X4_378 hC (by decide) dX4_runs_95 (Nat.le_of_ble_eq_true rfl) hV (fun σ10 hV => ?_)
            obtain ⟨y11, e_y11⟩ : ∃ z : Int32, z = x2 + 1 := ⟨_, rfl⟩
            replace hV := hV _ e_y11
            refine z_iinc (v := y11) hC dX4_runs_98 rfl (by rw [e_y11]; rfl) (Nat.le_of_ble_eq_true rfl) rfl rfl ?_
            refine z_goto (tgt := 83) hC dX4_runs_101 (by decide) ?_
            refine zz_sub (L' := [some (.ref (E.1.heap.size + 44)), some (.int x1), some (.int y11)]) ⟨rfl, rfl, rfl, trivial⟩ ?_
            exact j_83 σ10 x1 y11 hV
      refine z_iload_n hC dX4_runs_67 rfl rfl ?_
      refine z_if_le (tgt := 143) hC dX4_runs_68 (by decide) (fun hc => ?_) (fun hc => ?_)
      · replace hV := hV.2 hc
        exact z_vret hC dX4_runs_143 (by rw [hQo]; exact ⟨rfl, hV⟩)
      · replace hV := hV.1 hc
        refine z_aload_n hC dX4_runs_71 rfl rfl ?_
        refine g_X4_375_44 hC dX4_runs_72 ?_
        refine z_sipush (v := 999) hC dX4_runs_75 rfl ?_
        refine z_icmp_ge (tgt := 143) hC dX4_runs_78 (by decide) (fun hc => ?_) (fun hc => ?_)
        · replace hV := hV.2 hc
          exact z_vret hC dX4_runs_143 (by rw [hQo]; exact ⟨rfl, hV⟩)
        · replace hV := hV.1 hc
          refine z_iconst (v := 0) hC dX4_runs_81 rfl ?_
          refine z_istore_n hC dX4_runs_82 rfl (Nat.le_of_ble_eq_true rfl) rfl rfl ?_
          refine zz_sub (L' := [some (.ref (E.1.heap.size + 44)), some (.int x1), some (.int 0)]) ⟨rfl, rfl, rfl, trivial⟩ ?_
          exact j_83 σ x1 0 hV
  have j_8 : ∀ (σ : ZS) (x1 : Int32) (x2 : Int32), V_X4_runs_8 Ret σ x1 x2 → zz C E NS 3 σ 8 [some (.ref (E.1.heap.size + 44)), some (.int x1), some (.int x2)] [] := by
    intro σ x1 x2 ⟨k, hV⟩
    revert σ x1 x2
    induction k with
    | zero => exact fun _ _ _ hV => hV.elim
    | succ k j_8 =>
      intro σ x1 x2 hV
      simp only [VL_X4_runs_8] at hV
      generalize hKe8 : VL_X4_runs_8 Ret k = K8 at hV j_8
      clear hKe8
      refine z_iload_n hC dX4_runs_8 rfl rfl ?_
      refine z_aload_n hC dX4_runs_9 rfl rfl ?_
      refine g_X4_20_44 hC dX4_runs_10 ?_
      refine z_iconst (v := 3) hC dX4_runs_13 rfl ?_
      refine z_iald hC dX4_runs_14 (k_47 _) (in_dec rfl) ?_
      refine z_icmp_ge (tgt := 62) hC dX4_runs_15 (by decide) (fun hc => ?_) (fun hc => ?_)
      · replace hV := hV.2 hc
        refine z_aload_n hC dX4_runs_62 rfl rfl ?_
        refine z_iconst (v := 0) hC dX4_runs_63 rfl ?_
        refine p_X4_375_c3 hC dX4_runs_64 (k_44 _) ?_
        obtain ⟨σ3, e_σ3⟩ : ∃ z : ZS, z = sI σ 44 43 0 := ⟨_, rfl⟩
        replace hV := hV _ e_σ3
        rw [← e_σ3]
        refine zz_sub (L' := [some (.ref (E.1.heap.size + 44)), some (.int x1), none]) ⟨rfl, rfl, trivial⟩ ?_
        exact j_67 σ3 x1 hV
      · replace hV := hV.1 hc
        refine z_aload_n hC dX4_runs_18 rfl rfl ?_
        refine g_X4_86_44 hC dX4_runs_19 ?_
        refine z_iload_n hC dX4_runs_22 rfl rfl ?_
        refine z_iconst (v := (-1)) hC dX4_runs_23 rfl ?_
        obtain ⟨h12, hV⟩ := hV
        refine z_iast hC dX4_runs_24 (k_1162 _) (h12) ?_
        obtain ⟨σ13, e_σ13⟩ : ∃ z : ZS, z = sI σ 1162 (ix x2) (-1) := ⟨_, rfl⟩
        replace hV := hV _ e_σ13
        rw [← e_σ13]
        refine z_aload_n hC dX4_runs_25 rfl rfl ?_
        refine g_X4_95_44 hC dX4_runs_26 ?_
        refine z_iload_n hC dX4_runs_29 rfl rfl ?_
        refine z_iconst (v := (-1)) hC dX4_runs_30 rfl ?_
        obtain ⟨h14, hV⟩ := hV
        refine z_iast hC dX4_runs_31 (k_1165 _) (h14) ?_
        obtain ⟨σ15, e_σ15⟩ : ∃ z : ZS, z = sI σ13 1165 (ix x2) (-1) := ⟨_, rfl⟩
        replace hV := hV _ e_σ15
        rw [← e_σ15]
        refine z_aload_n hC dX4_runs_32 rfl rfl ?_
        refine g_X4_98_44 hC dX4_runs_33 ?_
        refine z_iload_n hC dX4_runs_36 rfl rfl ?_
        refine z_iconst (v := 0) hC dX4_runs_37 rfl ?_
        obtain ⟨h16, hV⟩ := hV
        refine z_iast hC dX4_runs_38 (k_1166 _) (h16) ?_
        obtain ⟨σ17, e_σ17⟩ : ∃ z : ZS, z = sI σ15 1166 (ix x2) 0 := ⟨_, rfl⟩
        replace hV := hV _ e_σ17
        rw [← e_σ17]
        refine z_iload_n hC dX4_runs_39 rfl rfl ?_
        refine z_aload_n hC dX4_runs_40 rfl rfl ?_
        refine g_X4_83_44 hC dX4_runs_41 ?_
        refine z_iload_n hC dX4_runs_44 rfl rfl ?_
        obtain ⟨h18, hV⟩ := hV
        refine z_iald hC dX4_runs_45 (k_1161 _) (h18) ?_
        refine z_if_le (tgt := 53) hC dX4_runs_46 (by decide) (fun hc => ?_) (fun hc => ?_)
        · replace hV := hV.2 hc
          refine z_iconst (v := 0) hC dX4_runs_53 rfl ?_
          refine z_iadd hC dX4_runs_54 ?_
          obtain ⟨y19, e_y19⟩ : ∃ z, z = x1 + 0 := ⟨_, rfl⟩
          rw [← e_y19]
          replace hV := hV _ e_y19
          refine z_istore_n hC dX4_runs_55 rfl (Nat.le_of_ble_eq_true rfl) rfl rfl ?_
          obtain ⟨y20, e_y20⟩ : ∃ z : Int32, z = x2 + 1 := ⟨_, rfl⟩
          replace hV := hV _ e_y20
          refine z_iinc (v := y20) hC dX4_runs_56 rfl (by rw [e_y20]; rfl) (Nat.le_of_ble_eq_true rfl) rfl rfl ?_
          refine z_goto (tgt := 8) hC dX4_runs_59 (by decide) ?_
          refine zz_sub (L' := [some (.ref (E.1.heap.size + 44)), some (.int y19), some (.int y20)]) ⟨rfl, rfl, rfl, trivial⟩ ?_
          exact j_8 σ17 y19 y20 hV
        · replace hV := hV.1 hc
          refine z_iconst (v := 1) hC dX4_runs_49 rfl ?_
          refine z_goto (tgt := 54) hC dX4_runs_50 (by decide) ?_
          refine z_iadd hC dX4_runs_54 ?_
          obtain ⟨y21, e_y21⟩ : ∃ z, z = x1 + 1 := ⟨_, rfl⟩
          rw [← e_y21]
          replace hV := hV _ e_y21
          refine z_istore_n hC dX4_runs_55 rfl (Nat.le_of_ble_eq_true rfl) rfl rfl ?_
          obtain ⟨y22, e_y22⟩ : ∃ z : Int32, z = x2 + 1 := ⟨_, rfl⟩
          replace hV := hV _ e_y22
          refine z_iinc (v := y22) hC dX4_runs_56 rfl (by rw [e_y22]; rfl) (Nat.le_of_ble_eq_true rfl) rfl rfl ?_
          refine z_goto (tgt := 8) hC dX4_runs_59 (by decide) ?_
          refine zz_sub (L' := [some (.ref (E.1.heap.size + 44)), some (.int y21), some (.int y22)]) ⟨rfl, rfl, rfl, trivial⟩ ?_
          exact j_8 σ17 y21 y22 hV
  refine z_aload_n hC dX4_runs_0 rfl rfl ?_
  refine c_X4_372 hC (by decide) dX4_runs_1 (Nat.le_of_ble_eq_true rfl) hV (fun σ2 hV => ?_)
  refine z_iconst (v := 0) hC dX4_runs_4 rfl ?_
  refine z_istore_n hC dX4_runs_5 rfl (Nat.le_of_ble_eq_true rfl) rfl rfl ?_
  refine z_iconst (v := 0) hC dX4_runs_6 rfl ?_
  refine z_istore_n hC dX4_runs_7 rfl (Nat.le_of_ble_eq_true rfl) rfl rfl ?_
  refine zz_sub (L' := [some (.ref (E.1.heap.size + 44)), some (.int 0), some (.int 0)]) ⟨rfl, rfl, rfl, trivial⟩ ?_
  exact j_8 σ2 0 0 hV
theorem cw_X4_runs : CodeW yX4_runs (ws_ yX4_runs cX4_runs 3 none) 3 := ⟨fun w h => (List.mem_cons.mp h).elim (fun e => e ▸ q2113) id, Or.inl ⟨_, _, q2113⟩, q138, by decide, by decide⟩
theorem c_X4_387 {C : ZC} {E : ZE} {cc : ByteArray} {nL pc d : Nat} {nm : String} {ret : Option FieldType} {hh : List (Nat × Nat × Nat × Nat)} {σ : ZS} {L : List (Option Value)} {st : List Value} {Ret : ZS → Prop} (hC : Cx C E cc nL "RightTurnsModel" nm ret hh d) (hdd : 8 + 1 ≤ d) (hd : decode cc pc = .ok (.invokevirtual 387, 3)) (hW : (st.map fun v => v.category).sum ≤ 8) (hV : wp_X4_runs σ Ret) (k : ∀ σ', Ret σ' → zz C E NS nL σ' (pc + 3) L st) : zz C E NS nL σ pc L (.ref (E.1.heap.size + 44) :: st) :=
  z_callVG hC cf3 cw_X4_runs hdd (by decide) (mz_X4_runs (cxE hC) hV) hd (k_44 σ) q2110 q2112 qs105 (np := 0) rfl rfl hW rfl (kV k)
def V_X4_home_27 (Ret : Int32 → ZS → Prop) (σ : ZS) (x1 : Int32) (s0 : Int32) : Prop :=
    wp_X4_bad σ s0 1 (fun r4 σ5 => ((r4 = 0 → (wp_X4_runs σ5 (fun σ7 => vp_in x1 12 ∧ (Ret (zI σ7 1165 (ix x1)) σ7)))) ∧ (¬ r4 = 0 → (Ret 0 σ5))))
def wp_X4_home (σ : ZS) (a1 : Int32) (Ret : Int32 → ZS → Prop) : Prop :=
    ∀ σ1 : ZS, σ1 = sI σ 44 0 0 → (wp_X4_in σ1 a1 0 ((zI σ1 47 (ix 3)) - 1) (fun r2 σ3 => ((r2 = 0 → (V_X4_home_27 Ret σ3 a1 1)) ∧ (¬ r2 = 0 → (V_X4_home_27 Ret σ3 a1 0)))))
set_option maxHeartbeats 4000000 in
theorem mz_X4_home {l : Launch} {E : ZE} (hE : EOK E) {σ : ZS} {a1 : Int32} {Ret : Int32 → ZS → Prop} (hV : wp_X4_home σ a1 Ret) : MZ l E NS yX4_home (ws_ yX4_home cX4_home 2 (some .int)) 9 σ [.ref (E.1.heap.size + 44), .int a1] (rI Ret) := by
  refine MZ.start (L := [some (.ref (E.1.heap.size + 44)), some (.int a1)]) hE (by decide) (Nat.le_of_ble_eq_true rfl) rfl fun C hCl hQo hC => ?_
  replace hC : Cx C E cX4_home 2 "RightTurnsModel" "home" (some .int) [] 9 := hC
  unfold wp_X4_home at hV
  have j_27 : ∀ (σ : ZS) (x1 : Int32) (s0 : Int32), V_X4_home_27 Ret σ x1 s0 → zz C E NS 2 σ 27 [some (.ref (E.1.heap.size + 44)), some (.int x1)] [.int s0, .ref (E.1.heap.size + 44)] := by
    intro σ x1 s0 hV
    unfold V_X4_home_27 at hV
    refine z_iconst (v := 1) hC dX4_home_27 rfl ?_
    refine c_X4_227 hC (by decide) dX4_home_28 (Nat.le_of_ble_eq_true rfl) hV (fun r4 σ5 hV => ?_)
    refine z_if_eq (tgt := 36) hC dX4_home_31 (by decide) (fun hc => ?_) (fun hc => ?_)
    · replace hV := hV.1 hc
      refine z_aload_n hC dX4_home_36 rfl rfl ?_
      refine c_X4_387 hC (by decide) dX4_home_37 (Nat.le_of_ble_eq_true rfl) hV (fun σ7 hV => ?_)
      refine z_aload_n hC dX4_home_40 rfl rfl ?_
      refine g_X4_95_44 hC dX4_home_41 ?_
      refine z_iload_n hC dX4_home_44 rfl rfl ?_
      obtain ⟨h8, hV⟩ := hV
      refine z_iald hC dX4_home_45 (k_1165 _) (h8) ?_
      exact z_iret hC dX4_home_46 rfl (by rw [hQo]; exact ⟨_, rfl, hV⟩)
    · replace hV := hV.2 hc
      refine z_iconst (v := 0) hC dX4_home_34 rfl ?_
      exact z_iret hC dX4_home_35 rfl (by rw [hQo]; exact ⟨_, rfl, hV⟩)
  refine z_aload_n hC dX4_home_0 rfl rfl ?_
  refine z_iconst (v := 0) hC dX4_home_1 rfl ?_
  refine p_X4_131_c3 hC dX4_home_2 (k_44 _) ?_
  obtain ⟨σ1, e_σ1⟩ : ∃ z : ZS, z = sI σ 44 0 0 := ⟨_, rfl⟩
  replace hV := hV _ e_σ1
  rw [← e_σ1]
  refine z_aload_n hC dX4_home_5 rfl rfl ?_
  refine z_iload_n hC dX4_home_6 rfl rfl ?_
  refine z_iconst (v := 0) hC dX4_home_7 rfl ?_
  refine z_aload_n hC dX4_home_8 rfl rfl ?_
  refine g_X4_20_44 hC dX4_home_9 ?_
  refine z_iconst (v := 3) hC dX4_home_12 rfl ?_
  refine z_iald hC dX4_home_13 (k_47 _) (in_dec rfl) ?_
  refine z_iconst (v := 1) hC dX4_home_14 rfl ?_
  refine z_isub hC dX4_home_15 ?_
  refine c_X4_165 hC (by decide) dX4_home_16 (Nat.le_of_ble_eq_true rfl) hV (fun r2 σ3 hV => ?_)
  refine z_if_ne (tgt := 26) hC dX4_home_19 (by decide) (fun hc => ?_) (fun hc => ?_)
  · replace hV := hV.2 hc
    refine z_iconst (v := 0) hC dX4_home_26 rfl ?_
    refine zz_sub (L' := [some (.ref (E.1.heap.size + 44)), some (.int a1)]) ⟨rfl, rfl, trivial⟩ ?_
    exact j_27 σ3 a1 0 hV
  · replace hV := hV.1 hc
    refine z_iconst (v := 1) hC dX4_home_22 rfl ?_
    refine z_goto (tgt := 27) hC dX4_home_23 (by decide) ?_
    refine zz_sub (L' := [some (.ref (E.1.heap.size + 44)), some (.int a1)]) ⟨rfl, rfl, trivial⟩ ?_
    exact j_27 σ3 a1 1 hV
def VL_X4_homeOf_4 (Ret : Int32 → ZS → Prop) : Nat → ZS → Int32 → Int32 → Int32 → Prop
  | 0 => fun _ _ _ _ => False
  | k + 1 => fun σ x1 x2 x3 =>
    let K4 := VL_X4_homeOf_4 Ret k
    ((x3 < (zI σ 47 (ix 0)) → (wp_X4_reachOf σ x3 (fun r1 σ2 => ((((r1 >>> (x1 &&& 31)) &&& 1) = 1 → (∀ y5 : Int32, y5 = x2 ||| ((1 : Int32) <<< (x3 &&& 31)) → (∀ y6 : Int32, y6 = x3 + 1 → (K4 σ2 x1 y5 y6)))) ∧ (¬ ((r1 >>> (x1 &&& 31)) &&& 1) = 1 → (∀ y3 : Int32, y3 = x2 ||| 0 → (∀ y4 : Int32, y4 = x3 + 1 → (K4 σ2 x1 y3 y4)))))))) ∧ (¬ x3 < (zI σ 47 (ix 0)) → (Ret x2 σ)))
def V_X4_homeOf_4 (Ret : Int32 → ZS → Prop) (σ : ZS) (x1 : Int32) (x2 : Int32) (x3 : Int32) : Prop := ∃ k, VL_X4_homeOf_4 Ret k σ x1 x2 x3
def wp_X4_homeOf (σ : ZS) (a1 : Int32) (Ret : Int32 → ZS → Prop) : Prop :=
    V_X4_homeOf_4 Ret σ a1 0 0
set_option maxHeartbeats 4000000 in
theorem mz_X4_homeOf {l : Launch} {E : ZE} (hE : EOK E) {σ : ZS} {a1 : Int32} {Ret : Int32 → ZS → Prop} (hV : wp_X4_homeOf σ a1 Ret) : MZ l E NS yX4_homeOf (ws_ yX4_homeOf cX4_homeOf 4 (some .int)) 4 σ [.ref (E.1.heap.size + 44), .int a1] (rI Ret) := by
  refine MZ.start (L := [some (.ref (E.1.heap.size + 44)), some (.int a1), none, none]) hE (by decide) (Nat.le_of_ble_eq_true rfl) rfl fun C hCl hQo hC => ?_
  replace hC : Cx C E cX4_homeOf 4 "RightTurnsModel" "homeOf" (some .int) [] 4 := hC
  unfold wp_X4_homeOf at hV
  have j_4 : ∀ (σ : ZS) (x1 : Int32) (x2 : Int32) (x3 : Int32), V_X4_homeOf_4 Ret σ x1 x2 x3 → zz C E NS 4 σ 4 [some (.ref (E.1.heap.size + 44)), some (.int x1), some (.int x2), some (.int x3)] [] := by
    intro σ x1 x2 x3 ⟨k, hV⟩
    revert σ x1 x2 x3
    induction k with
    | zero => exact fun _ _ _ _ hV => hV.elim
    | succ k j_4 =>
      intro σ x1 x2 x3 hV
      simp only [VL_X4_homeOf_4] at hV
      generalize hKe4 : VL_X4_homeOf_4 Ret k = K4 at hV j_4
      clear hKe4
      refine z_iload_n hC dX4_homeOf_4 rfl rfl ?_
      refine z_aload_n hC dX4_homeOf_5 rfl rfl ?_
      refine g_X4_20_44 hC dX4_homeOf_6 ?_
      refine z_iconst (v := 0) hC dX4_homeOf_9 rfl ?_
      refine z_iald hC dX4_homeOf_10 (k_47 _) (in_dec rfl) ?_
      refine z_icmp_ge (tgt := 43) hC dX4_homeOf_11 (by decide) (fun hc => ?_) (fun hc => ?_)
      · replace hV := hV.2 hc
        refine z_iload_n hC dX4_homeOf_43 rfl rfl ?_
        exact z_iret hC dX4_homeOf_44 rfl (by rw [hQo]; exact ⟨_, rfl, hV⟩)
      · replace hV := hV.1 hc
        refine z_iload_n hC dX4_homeOf_14 rfl rfl ?_
        refine z_aload_n hC dX4_homeOf_15 rfl rfl ?_
        refine z_iload_n hC dX4_homeOf_16 rfl rfl ?_
        refine c_X4_319 hC (by decide) dX4_homeOf_17 (Nat.le_of_ble_eq_true rfl) hV (fun r1 σ2 hV => ?_)
        refine z_iload_n hC dX4_homeOf_20 rfl rfl ?_
        refine z_ishr hC dX4_homeOf_21 ?_
        refine z_iconst (v := 1) hC dX4_homeOf_22 rfl ?_
        refine z_iand hC dX4_homeOf_23 ?_
        refine z_iconst (v := 1) hC dX4_homeOf_24 rfl ?_
        refine z_icmp_ne (tgt := 34) hC dX4_homeOf_25 (by decide) (fun hc => ?_) (fun hc => ?_)
        · replace hV := hV.2 hc
          refine z_iconst (v := 0) hC dX4_homeOf_34 rfl ?_
          refine z_ior hC dX4_homeOf_35 ?_
          obtain ⟨y3, e_y3⟩ : ∃ z, z = x2 ||| 0 := ⟨_, rfl⟩
          rw [← e_y3]
          replace hV := hV _ e_y3
          refine z_istore_n hC dX4_homeOf_36 rfl (Nat.le_of_ble_eq_true rfl) rfl rfl ?_
          obtain ⟨y4, e_y4⟩ : ∃ z : Int32, z = x3 + 1 := ⟨_, rfl⟩
          replace hV := hV _ e_y4
          refine z_iinc (v := y4) hC dX4_homeOf_37 rfl (by rw [e_y4]; rfl) (Nat.le_of_ble_eq_true rfl) rfl rfl ?_
          refine z_goto (tgt := 4) hC dX4_homeOf_40 (by decide) ?_
          refine zz_sub (L' := [some (.ref (E.1.heap.size + 44)), some (.int x1), some (.int y3), some (.int y4)]) ⟨rfl, rfl, rfl, rfl, trivial⟩ ?_
          exact j_4 σ2 x1 y3 y4 hV
        · replace hV := hV.1 hc
          refine z_iconst (v := 1) hC dX4_homeOf_28 rfl ?_
          refine z_iload_n hC dX4_homeOf_29 rfl rfl ?_
          refine z_ishl hC dX4_homeOf_30 ?_
          refine z_goto (tgt := 35) hC dX4_homeOf_31 (by decide) ?_
          refine z_ior hC dX4_homeOf_35 ?_
          obtain ⟨y5, e_y5⟩ : ∃ z, z = x2 ||| ((1 : Int32) <<< (x3 &&& 31)) := ⟨_, rfl⟩
          rw [← e_y5]
          replace hV := hV _ e_y5
          refine z_istore_n hC dX4_homeOf_36 rfl (Nat.le_of_ble_eq_true rfl) rfl rfl ?_
          obtain ⟨y6, e_y6⟩ : ∃ z : Int32, z = x3 + 1 := ⟨_, rfl⟩
          replace hV := hV _ e_y6
          refine z_iinc (v := y6) hC dX4_homeOf_37 rfl (by rw [e_y6]; rfl) (Nat.le_of_ble_eq_true rfl) rfl rfl ?_
          refine z_goto (tgt := 4) hC dX4_homeOf_40 (by decide) ?_
          refine zz_sub (L' := [some (.ref (E.1.heap.size + 44)), some (.int x1), some (.int y5), some (.int y6)]) ⟨rfl, rfl, rfl, rfl, trivial⟩ ?_
          exact j_4 σ2 x1 y5 y6 hV
  refine z_iconst (v := 0) hC dX4_homeOf_0 rfl ?_
  refine z_istore_n hC dX4_homeOf_1 rfl (Nat.le_of_ble_eq_true rfl) rfl rfl ?_
  refine z_iconst (v := 0) hC dX4_homeOf_2 rfl ?_
  refine z_istore_n hC dX4_homeOf_3 rfl (Nat.le_of_ble_eq_true rfl) rfl rfl ?_
  refine zz_sub (L' := [some (.ref (E.1.heap.size + 44)), some (.int a1), some (.int 0), some (.int 0)]) ⟨rfl, rfl, rfl, rfl, trivial⟩ ?_
  exact j_4 σ a1 0 0 hV
theorem g_X4_417_44 {C : ZC} {E : ZE} {cc : ByteArray} {nL pc d : Nat} {nm : String} {ret : Option FieldType} {hh : List (Nat × Nat × Nat × Nat)} {σ : ZS} {L : List (Option Value)} {st : List Value} (hC : Cx C E cc nL "RightTurnsModel" nm ret hh d) (hd : decode cc pc = .ok (.getfield 417, 3)) (k : zz C E NS nL σ (pc + 3) L (.int (zI σ 44 45) :: st)) : zz C E NS nL σ pc L (.ref (E.1.heap.size + 44) :: st) :=
  z_get hC cf3 hd (k_44 σ) (k := 45) (by decide) (Or.inl q1630) (Or.inl rfl) rfl k
theorem p_X4_417_c3 {C : ZC} {E : ZE} {cc : ByteArray} {n nL pc d a x : Nat} {nm : String} {ret : Option FieldType} {hh : List (Nat × Nat × Nat × Nat)} {σ : ZS} {L : List (Option Value)} {st : List Value} {v : Int32} (hC : Cx C E cc nL "RightTurnsModel" nm ret hh d) (hd : decode cc pc = .ok (.putfield 417, 3)) (hk : kK n σ a = (3 + 7, x)) (k : zz C E n nL (sI σ a 45 v) (pc + 3) L st) : zz C E n nL σ pc L (.int v :: .ref (E.1.heap.size + a) :: st) :=
  z_putI hC cf3 hd hk (k := 45) (by decide) (Or.inl q1630) (Or.inl rfl) (Or.inl rfl) rfl rfl rfl k
def V_X4_puts_11 (Ret : Int32 → ZS → Prop) (σ : ZS) (x1 : Nat) : Prop :=
    ∀ σ1 : ZS, σ1 = sI σ 44 45 ((zI σ 44 45) + 1) → (∃ n3, kK NS σ1 x1 = (0, n3) ∧ (vp_in ((zI σ1 44 45) - 1) n3 ∧ (Ret (zI σ1 x1 (ix ((zI σ1 44 45) - 1))) σ1)))
def wp_X4_puts (σ : ZS) (a1 : Nat) (a2 : Int32) (a3 : Int32) (Ret : Int32 → ZS → Prop) : Prop :=
    ((a3 = 0 → (∃ n6, kK NS σ a1 = (0, n6) ∧ (vp_in (zI σ 44 45) n6 ∧ (∀ σ8 : ZS, σ8 = sI σ a1 (ix (zI σ 44 45)) a2 → (V_X4_puts_11 Ret σ8 a1))))) ∧ (¬ a3 = 0 → (V_X4_puts_11 Ret σ a1)))
set_option maxHeartbeats 4000000 in
theorem mz_X4_puts {l : Launch} {E : ZE} (hE : EOK E) {σ : ZS} {a1 : Nat} {a2 : Int32} {a3 : Int32} {Ret : Int32 → ZS → Prop} (hV : wp_X4_puts σ a1 a2 a3 Ret) : MZ l E NS yX4_puts (ws_ yX4_puts cX4_puts 4 (some .int)) 1 σ [.ref (E.1.heap.size + 44), .ref (E.1.heap.size + a1), .int a2, .int a3] (rI Ret) := by
  refine MZ.start (L := [some (.ref (E.1.heap.size + 44)), some (.ref (E.1.heap.size + a1)), some (.int a2), some (.int a3)]) hE (by decide) (Nat.le_of_ble_eq_true rfl) rfl fun C hCl hQo hC => ?_
  replace hC : Cx C E cX4_puts 4 "RightTurnsModel" "puts" (some .int) [] 1 := hC
  unfold wp_X4_puts at hV
  have j_11 : ∀ (σ : ZS) (x1 : Nat), V_X4_puts_11 Ret σ x1 → zz C E NS 4 σ 11 [some (.ref (E.1.heap.size + 44)), some (.ref (E.1.heap.size + x1)), none, none] [] := by
    intro σ x1 hV
    unfold V_X4_puts_11 at hV
    refine z_aload_n hC dX4_puts_11 rfl rfl ?_
    refine z_dup hC dX4_puts_12 rfl ?_
    refine g_X4_417_44 hC dX4_puts_13 ?_
    refine z_iconst (v := 1) hC dX4_puts_16 rfl ?_
    refine z_iadd hC dX4_puts_17 ?_
    refine p_X4_417_c3 hC dX4_puts_18 (k_44 _) ?_
    obtain ⟨σ1, e_σ1⟩ : ∃ z : ZS, z = sI σ 44 45 ((zI σ 44 45) + 1) := ⟨_, rfl⟩
    replace hV := hV _ e_σ1
    rw [← e_σ1]
    refine z_aload_n hC dX4_puts_21 rfl rfl ?_
    refine z_aload_n hC dX4_puts_22 rfl rfl ?_
    refine g_X4_417_44 hC dX4_puts_23 ?_
    refine z_iconst (v := 1) hC dX4_puts_26 rfl ?_
    refine z_isub hC dX4_puts_27 ?_
    obtain ⟨n3, h2, hV⟩ := hV
    obtain ⟨h4, hV⟩ := hV
    refine z_iald hC dX4_puts_28 h2 (h4) ?_
    exact z_iret hC dX4_puts_29 rfl (by rw [hQo]; exact ⟨_, rfl, hV⟩)
  refine z_iload_n hC dX4_puts_0 rfl rfl ?_
  refine z_if_ne (tgt := 11) hC dX4_puts_1 (by decide) (fun hc => ?_) (fun hc => ?_)
  · replace hV := hV.2 hc
    refine zz_sub (L' := [some (.ref (E.1.heap.size + 44)), some (.ref (E.1.heap.size + a1)), none, none]) ⟨rfl, rfl, trivial⟩ ?_
    exact j_11 σ a1 hV
  · replace hV := hV.1 hc
    refine z_aload_n hC dX4_puts_4 rfl rfl ?_
    refine z_aload_n hC dX4_puts_5 rfl rfl ?_
    refine g_X4_417_44 hC dX4_puts_6 ?_
    refine z_iload_n hC dX4_puts_9 rfl rfl ?_
    obtain ⟨n6, h5, hV⟩ := hV
    obtain ⟨h7, hV⟩ := hV
    refine z_iast hC dX4_puts_10 h5 (h7) ?_
    obtain ⟨σ8, e_σ8⟩ : ∃ z : ZS, z = sI σ a1 (ix (zI σ 44 45)) a2 := ⟨_, rfl⟩
    replace hV := hV _ e_σ8
    rw [← e_σ8]
    refine zz_sub (L' := [some (.ref (E.1.heap.size + 44)), some (.ref (E.1.heap.size + a1)), none, none]) ⟨rfl, rfl, trivial⟩ ?_
    exact j_11 σ8 a1 hV
theorem cw_X4_puts : CodeW yX4_puts (ws_ yX4_puts cX4_puts 4 (some .int)) 4 := ⟨fun w h => (List.mem_cons.mp h).elim (fun e => e ▸ q2194) id, Or.inl ⟨_, _, q2194⟩, q138, by decide, by decide⟩
theorem c_X4_420 {C : ZC} {E : ZE} {cc : ByteArray} {nL pc d : Nat} {nm : String} {ret : Option FieldType} {hh : List (Nat × Nat × Nat × Nat)} {σ : ZS} {L : List (Option Value)} {st : List Value} {a1 : Nat} {a2 : Int32} {a3 : Int32} {Ret : Int32 → ZS → Prop} (hC : Cx C E cc nL "RightTurnsModel" nm ret hh d) (hdd : 1 + 1 ≤ d) (hd : decode cc pc = .ok (.invokevirtual 420, 3)) (hW : (st.map fun v => v.category).sum ≤ 8) (hV : wp_X4_puts σ a1 a2 a3 Ret) (k : ∀ r σ', Ret r σ' → zz C E NS nL σ' (pc + 3) L (.int r :: st)) : zz C E NS nL σ pc L (.int a3 :: .int a2 :: .ref (E.1.heap.size + a1) :: .ref (E.1.heap.size + 44) :: st) :=
  z_callVG hC cf3 cw_X4_puts hdd (by decide) (mz_X4_puts (cxE hC) hV) hd (k_44 σ) q2191 q2193 qs114 (np := 3) rfl rfl hW rfl (kI k)
def VL_X4_movesAll_78 (K67 : ZS → Nat → Int32 → Int32 → Prop) (Ret : ZS → Prop) : Nat → ZS → Nat → Int32 → Int32 → Int32 → Prop
  | 0 => fun _ _ _ _ _ => False
  | k + 1 => fun σ x1 x2 x3 x4 =>
    let K78 := VL_X4_movesAll_78 K67 Ret k
    ((x4 < 24 → (vp_in x3 201 ∧ (vp_in x3 201 ∧ (vp_in x4 24 ∧ (wp_X4_puts σ x1 (zI σ (160 + 1 + ix x3) (ix x4)) x2 (fun r12 σ13 => vp_in x4 24 ∧ (∀ σ15 : ZS, σ15 = sI σ13 (160 + 1 + ix x3) (ix x4) r12 → (vp_in x3 201 ∧ (vp_in x3 201 ∧ (vp_in x4 24 ∧ (wp_X4_puts σ15 x1 (zI σ15 (362 + 1 + ix x3) (ix x4)) x2 (fun r19 σ20 => vp_in x4 24 ∧ (∀ σ22 : ZS, σ22 = sI σ20 (362 + 1 + ix x3) (ix x4) r19 → (∀ y23 : Int32, y23 = x4 + 1 → (K78 σ22 x1 x2 x3 y23))))))))))))))) ∧ (¬ x4 < 24 → (∀ y8 : Int32, y8 = x3 + 1 → (K67 σ x1 x2 y8))))
def V_X4_movesAll_78 (K67 : ZS → Nat → Int32 → Int32 → Prop) (Ret : ZS → Prop) (σ : ZS) (x1 : Nat) (x2 : Int32) (x3 : Int32) (x4 : Int32) : Prop := ∃ k, VL_X4_movesAll_78 K67 Ret k σ x1 x2 x3 x4
def VL_X4_movesAll_67 (Ret : ZS → Prop) : Nat → ZS → Nat → Int32 → Int32 → Prop
  | 0 => fun _ _ _ _ => False
  | k + 1 => fun σ x1 x2 x3 =>
    let K67 := VL_X4_movesAll_67 Ret k
    (((zI σ 44 19) < x3 → (Ret σ)) ∧ (¬ (zI σ 44 19) < x3 → (V_X4_movesAll_78 K67 Ret σ x1 x2 x3 0)))
def V_X4_movesAll_67 (Ret : ZS → Prop) (σ : ZS) (x1 : Nat) (x2 : Int32) (x3 : Int32) : Prop := ∃ k, VL_X4_movesAll_67 Ret k σ x1 x2 x3
def VL_X4_movesAll_35 (Ret : ZS → Prop) : Nat → ZS → Nat → Int32 → Int32 → Prop
  | 0 => fun _ _ _ _ => False
  | k + 1 => fun σ x1 x2 x3 =>
    let K35 := VL_X4_movesAll_35 Ret k
    ((x3 < 12 → (vp_in x3 12 ∧ (wp_X4_puts σ x1 (zI σ 1146 (ix x3)) x2 (fun r25 σ26 => vp_in x3 12 ∧ (∀ σ28 : ZS, σ28 = sI σ26 1146 (ix x3) r25 → (∀ y29 : Int32, y29 = x3 + 1 → (K35 σ28 x1 x2 y29))))))) ∧ (¬ x3 < 12 → (V_X4_movesAll_67 Ret σ x1 x2 0)))
def V_X4_movesAll_35 (Ret : ZS → Prop) (σ : ZS) (x1 : Nat) (x2 : Int32) (x3 : Int32) : Prop := ∃ k, VL_X4_movesAll_35 Ret k σ x1 x2 x3
def wp_X4_movesAll (σ : ZS) (a1 : Nat) (a2 : Int32) (Ret : ZS → Prop) : Prop :=
    ∀ σ1 : ZS, σ1 = sI σ 44 45 0 → (wp_X4_puts σ1 a1 (zI σ1 44 19) a2 (fun r2 σ3 => ∀ σ4 : ZS, σ4 = sI σ3 44 19 r2 → (wp_X4_puts σ4 a1 (zI σ4 44 28) a2 (fun r5 σ6 => ∀ σ7 : ZS, σ7 = sI σ6 44 28 r5 → (V_X4_movesAll_35 Ret σ7 a1 a2 0)))))
set_option maxHeartbeats 4000000 in
theorem mz_X4_movesAll {l : Launch} {E : ZE} (hE : EOK E) {σ : ZS} {a1 : Nat} {a2 : Int32} {Ret : ZS → Prop} (hV : wp_X4_movesAll σ a1 a2 Ret) : MZ l E NS yX4_movesAll (ws_ yX4_movesAll cX4_movesAll 5 none) 2 σ [.ref (E.1.heap.size + 44), .ref (E.1.heap.size + a1), .int a2] (rV Ret) := by
  refine MZ.start (L := [some (.ref (E.1.heap.size + 44)), some (.ref (E.1.heap.size + a1)), some (.int a2), none, none]) hE (by decide) (Nat.le_of_ble_eq_true rfl) rfl fun C hCl hQo hC => ?_
  replace hC : Cx C E cX4_movesAll 5 "RightTurnsModel" "movesAll" none [] 2 := hC
  unfold wp_X4_movesAll at hV
  have j_67 : ∀ (σ : ZS) (x1 : Nat) (x2 : Int32) (x3 : Int32), V_X4_movesAll_67 Ret σ x1 x2 x3 → zz C E NS 5 σ 67 [some (.ref (E.1.heap.size + 44)), some (.ref (E.1.heap.size + x1)), some (.int x2), some (.int x3), none] [] := by
    intro σ x1 x2 x3 ⟨k, hV⟩
    revert σ x1 x2 x3
    induction k with
    | zero => exact fun _ _ _ _ hV => hV.elim
    | succ k j_67 =>
      intro σ x1 x2 x3 hV
      simp only [VL_X4_movesAll_67] at hV
      generalize hKe67 : VL_X4_movesAll_67 Ret k = K67 at hV j_67
      clear hKe67
      have j_78 : ∀ (σ : ZS) (x1 : Nat) (x2 : Int32) (x3 : Int32) (x4 : Int32), V_X4_movesAll_78 K67 Ret σ x1 x2 x3 x4 → zz C E NS 5 σ 78 [some (.ref (E.1.heap.size + 44)), some (.ref (E.1.heap.size + x1)), some (.int x2), some (.int x3), some (.int x4)] [] := by
        intro σ x1 x2 x3 x4 ⟨k, hV⟩
        revert σ x1 x2 x3 x4
        induction k with
        | zero => exact fun _ _ _ _ _ hV => hV.elim
        | succ k j_78 =>
          intro σ x1 x2 x3 x4 hV
          simp only [VL_X4_movesAll_78] at hV
          generalize hKe78 : VL_X4_movesAll_78 K67 Ret k = K78 at hV j_78
          clear hKe78
          refine z_iload hC dX4_movesAll_78 rfl ?_
          refine z_bipush (v := 24) hC dX4_movesAll_80 rfl ?_
          refine z_icmp_ge (tgt := 139) hC dX4_movesAll_82 (by decide) (fun hc => ?_) (fun hc => ?_)
          · replace hV := hV.2 hc
            obtain ⟨y8, e_y8⟩ : ∃ z : Int32, z = x3 + 1 := ⟨_, rfl⟩
            replace hV := hV _ e_y8
            refine z_iinc (v := y8) hC dX4_movesAll_139 rfl (by rw [e_y8]; rfl) (Nat.le_of_ble_eq_true rfl) rfl rfl ?_
            refine z_goto (tgt := 67) hC dX4_movesAll_142 (by decide) ?_
            refine zz_sub (L' := [some (.ref (E.1.heap.size + 44)), some (.ref (E.1.heap.size + x1)), some (.int x2), some (.int y8), none]) ⟨rfl, rfl, rfl, rfl, trivial⟩ ?_
            exact j_67 σ x1 x2 y8 hV
          · replace hV := hV.1 hc
            refine z_aload_n hC dX4_movesAll_85 rfl rfl ?_
            refine g_X4_49_44 hC dX4_movesAll_86 ?_
            refine z_iload_n hC dX4_movesAll_89 rfl rfl ?_
            obtain ⟨h9, hV⟩ := hV
            refine z_aalS hC dX4_movesAll_90 (k_160 _) (by decide) ps_160 h9 ?_
            refine z_iload hC dX4_movesAll_91 rfl ?_
            refine z_aload_n hC dX4_movesAll_93 rfl rfl ?_
            refine z_aload_n hC dX4_movesAll_94 rfl rfl ?_
            refine z_aload_n hC dX4_movesAll_95 rfl rfl ?_
            refine g_X4_49_44 hC dX4_movesAll_96 ?_
            refine z_iload_n hC dX4_movesAll_99 rfl rfl ?_
            obtain ⟨h10, hV⟩ := hV
            refine z_aalS hC dX4_movesAll_100 (k_160 _) (by decide) ps_160 h10 ?_
            refine z_iload hC dX4_movesAll_101 rfl ?_
            obtain ⟨h11, hV⟩ := hV
            refine z_iald hC dX4_movesAll_103 (kr_160 _ (ix_lt h10)) (h11) ?_
            refine z_iload_n hC dX4_movesAll_104 rfl rfl ?_
            refine c_X4_420 hC (by decide) dX4_movesAll_105 (Nat.le_of_ble_eq_true rfl) hV (fun r12 σ13 hV => ?_)
            obtain ⟨h14, hV⟩ := hV
            refine z_iast hC dX4_movesAll_108 (kr_160 _ (ix_lt h9)) (h14) ?_
            obtain ⟨σ15, e_σ15⟩ : ∃ z : ZS, z = sI σ13 (160 + 1 + ix x3) (ix x4) r12 := ⟨_, rfl⟩
            replace hV := hV _ e_σ15
            rw [← e_σ15]
            refine z_aload_n hC dX4_movesAll_109 rfl rfl ?_
            refine g_X4_52_44 hC dX4_movesAll_110 ?_
            refine z_iload_n hC dX4_movesAll_113 rfl rfl ?_
            obtain ⟨h16, hV⟩ := hV
            refine z_aalS hC dX4_movesAll_114 (k_362 _) (by decide) ps_362 h16 ?_
            refine z_iload hC dX4_movesAll_115 rfl ?_
            refine z_aload_n hC dX4_movesAll_117 rfl rfl ?_
            refine z_aload_n hC dX4_movesAll_118 rfl rfl ?_
            refine z_aload_n hC dX4_movesAll_119 rfl rfl ?_
            refine g_X4_52_44 hC dX4_movesAll_120 ?_
            refine z_iload_n hC dX4_movesAll_123 rfl rfl ?_
            obtain ⟨h17, hV⟩ := hV
            refine z_aalS hC dX4_movesAll_124 (k_362 _) (by decide) ps_362 h17 ?_
            refine z_iload hC dX4_movesAll_125 rfl ?_
            obtain ⟨h18, hV⟩ := hV
            refine z_iald hC dX4_movesAll_127 (kr_362 _ (ix_lt h17)) (h18) ?_
            refine z_iload_n hC dX4_movesAll_128 rfl rfl ?_
            refine c_X4_420 hC (by decide) dX4_movesAll_129 (Nat.le_of_ble_eq_true rfl) hV (fun r19 σ20 hV => ?_)
            obtain ⟨h21, hV⟩ := hV
            refine z_iast hC dX4_movesAll_132 (kr_362 _ (ix_lt h16)) (h21) ?_
            obtain ⟨σ22, e_σ22⟩ : ∃ z : ZS, z = sI σ20 (362 + 1 + ix x3) (ix x4) r19 := ⟨_, rfl⟩
            replace hV := hV _ e_σ22
            rw [← e_σ22]
            obtain ⟨y23, e_y23⟩ : ∃ z : Int32, z = x4 + 1 := ⟨_, rfl⟩
            replace hV := hV _ e_y23
            refine z_iinc (v := y23) hC dX4_movesAll_133 rfl (by rw [e_y23]; rfl) (Nat.le_of_ble_eq_true rfl) rfl rfl ?_
            refine z_goto (tgt := 78) hC dX4_movesAll_136 (by decide) ?_
            refine zz_sub (L' := [some (.ref (E.1.heap.size + 44)), some (.ref (E.1.heap.size + x1)), some (.int x2), some (.int x3), some (.int y23)]) ⟨rfl, rfl, rfl, rfl, rfl, trivial⟩ ?_
            exact j_78 σ22 x1 x2 x3 y23 hV
      refine z_iload_n hC dX4_movesAll_67 rfl rfl ?_
      refine z_aload_n hC dX4_movesAll_68 rfl rfl ?_
      refine g_X4_238_44 hC dX4_movesAll_69 ?_
      refine z_icmp_gt (tgt := 145) hC dX4_movesAll_72 (by decide) (fun hc => ?_) (fun hc => ?_)
      · replace hV := hV.1 hc
        exact z_vret hC dX4_movesAll_145 (by rw [hQo]; exact ⟨rfl, hV⟩)
      · replace hV := hV.2 hc
        refine z_iconst (v := 0) hC dX4_movesAll_75 rfl ?_
        refine z_istore hC dX4_movesAll_76 (Nat.le_of_ble_eq_true rfl) rfl rfl ?_
        refine zz_sub (L' := [some (.ref (E.1.heap.size + 44)), some (.ref (E.1.heap.size + x1)), some (.int x2), some (.int x3), some (.int 0)]) ⟨rfl, rfl, rfl, rfl, rfl, trivial⟩ ?_
        exact j_78 σ x1 x2 x3 0 hV
  have j_35 : ∀ (σ : ZS) (x1 : Nat) (x2 : Int32) (x3 : Int32), V_X4_movesAll_35 Ret σ x1 x2 x3 → zz C E NS 5 σ 35 [some (.ref (E.1.heap.size + 44)), some (.ref (E.1.heap.size + x1)), some (.int x2), some (.int x3), none] [] := by
    intro σ x1 x2 x3 ⟨k, hV⟩
    revert σ x1 x2 x3
    induction k with
    | zero => exact fun _ _ _ _ hV => hV.elim
    | succ k j_35 =>
      intro σ x1 x2 x3 hV
      simp only [VL_X4_movesAll_35] at hV
      generalize hKe35 : VL_X4_movesAll_35 Ret k = K35 at hV j_35
      clear hKe35
      refine z_iload_n hC dX4_movesAll_35 rfl rfl ?_
      refine z_bipush (v := 12) hC dX4_movesAll_36 rfl ?_
      refine z_icmp_ge (tgt := 65) hC dX4_movesAll_38 (by decide) (fun hc => ?_) (fun hc => ?_)
      · replace hV := hV.2 hc
        refine z_iconst (v := 0) hC dX4_movesAll_65 rfl ?_
        refine z_istore_n hC dX4_movesAll_66 rfl (Nat.le_of_ble_eq_true rfl) rfl rfl ?_
        refine zz_sub (L' := [some (.ref (E.1.heap.size + 44)), some (.ref (E.1.heap.size + x1)), some (.int x2), some (.int 0), none]) ⟨rfl, rfl, rfl, rfl, trivial⟩ ?_
        exact j_67 σ x1 x2 0 hV
      · replace hV := hV.1 hc
        refine z_aload_n hC dX4_movesAll_41 rfl rfl ?_
        refine g_X4_74_44 hC dX4_movesAll_42 ?_
        refine z_iload_n hC dX4_movesAll_45 rfl rfl ?_
        refine z_aload_n hC dX4_movesAll_46 rfl rfl ?_
        refine z_aload_n hC dX4_movesAll_47 rfl rfl ?_
        refine z_aload_n hC dX4_movesAll_48 rfl rfl ?_
        refine g_X4_74_44 hC dX4_movesAll_49 ?_
        refine z_iload_n hC dX4_movesAll_52 rfl rfl ?_
        obtain ⟨h24, hV⟩ := hV
        refine z_iald hC dX4_movesAll_53 (k_1146 _) (h24) ?_
        refine z_iload_n hC dX4_movesAll_54 rfl rfl ?_
        refine c_X4_420 hC (by decide) dX4_movesAll_55 (Nat.le_of_ble_eq_true rfl) hV (fun r25 σ26 hV => ?_)
        obtain ⟨h27, hV⟩ := hV
        refine z_iast hC dX4_movesAll_58 (k_1146 _) (h27) ?_
        obtain ⟨σ28, e_σ28⟩ : ∃ z : ZS, z = sI σ26 1146 (ix x3) r25 := ⟨_, rfl⟩
        replace hV := hV _ e_σ28
        rw [← e_σ28]
        obtain ⟨y29, e_y29⟩ : ∃ z : Int32, z = x3 + 1 := ⟨_, rfl⟩
        replace hV := hV _ e_y29
        refine z_iinc (v := y29) hC dX4_movesAll_59 rfl (by rw [e_y29]; rfl) (Nat.le_of_ble_eq_true rfl) rfl rfl ?_
        refine z_goto (tgt := 35) hC dX4_movesAll_62 (by decide) ?_
        refine zz_sub (L' := [some (.ref (E.1.heap.size + 44)), some (.ref (E.1.heap.size + x1)), some (.int x2), some (.int y29), none]) ⟨rfl, rfl, rfl, rfl, trivial⟩ ?_
        exact j_35 σ28 x1 x2 y29 hV
  refine z_aload_n hC dX4_movesAll_0 rfl rfl ?_
  refine z_iconst (v := 0) hC dX4_movesAll_1 rfl ?_
  refine p_X4_417_c3 hC dX4_movesAll_2 (k_44 _) ?_
  obtain ⟨σ1, e_σ1⟩ : ∃ z : ZS, z = sI σ 44 45 0 := ⟨_, rfl⟩
  replace hV := hV _ e_σ1
  rw [← e_σ1]
  refine z_aload_n hC dX4_movesAll_5 rfl rfl ?_
  refine z_aload_n hC dX4_movesAll_6 rfl rfl ?_
  refine z_aload_n hC dX4_movesAll_7 rfl rfl ?_
  refine z_aload_n hC dX4_movesAll_8 rfl rfl ?_
  refine g_X4_238_44 hC dX4_movesAll_9 ?_
  refine z_iload_n hC dX4_movesAll_12 rfl rfl ?_
  refine c_X4_420 hC (by decide) dX4_movesAll_13 (Nat.le_of_ble_eq_true rfl) hV (fun r2 σ3 hV => ?_)
  refine p_X4_238_c3 hC dX4_movesAll_16 (k_44 _) ?_
  obtain ⟨σ4, e_σ4⟩ : ∃ z : ZS, z = sI σ3 44 19 r2 := ⟨_, rfl⟩
  replace hV := hV _ e_σ4
  rw [← e_σ4]
  refine z_aload_n hC dX4_movesAll_19 rfl rfl ?_
  refine z_aload_n hC dX4_movesAll_20 rfl rfl ?_
  refine z_aload_n hC dX4_movesAll_21 rfl rfl ?_
  refine z_aload_n hC dX4_movesAll_22 rfl rfl ?_
  refine g_X4_241_44 hC dX4_movesAll_23 ?_
  refine z_iload_n hC dX4_movesAll_26 rfl rfl ?_
  refine c_X4_420 hC (by decide) dX4_movesAll_27 (Nat.le_of_ble_eq_true rfl) hV (fun r5 σ6 hV => ?_)
  refine p_X4_241_c3 hC dX4_movesAll_30 (k_44 _) ?_
  obtain ⟨σ7, e_σ7⟩ : ∃ z : ZS, z = sI σ6 44 28 r5 := ⟨_, rfl⟩
  replace hV := hV _ e_σ7
  rw [← e_σ7]
  refine z_iconst (v := 0) hC dX4_movesAll_33 rfl ?_
  refine z_istore_n hC dX4_movesAll_34 rfl (Nat.le_of_ble_eq_true rfl) rfl rfl ?_
  refine zz_sub (L' := [some (.ref (E.1.heap.size + 44)), some (.ref (E.1.heap.size + a1)), some (.int a2), some (.int 0), none]) ⟨rfl, rfl, rfl, rfl, trivial⟩ ?_
  exact j_35 σ7 a1 a2 0 hV
theorem g_X4_101_44 {C : ZC} {E : ZE} {cc : ByteArray} {nL pc d : Nat} {nm : String} {ret : Option FieldType} {hh : List (Nat × Nat × Nat × Nat)} {σ : ZS} {L : List (Option Value)} {st : List Value} (hC : Cx C E cc nL "RightTurnsModel" nm ret hh d) (hd : decode cc pc = .ok (.getfield 101, 3)) (k : zz C E NS nL σ (pc + 3) L (.ref (E.1.heap.size + 1167) :: st)) : zz C E NS nL σ pc L (.ref (E.1.heap.size + 44) :: st) :=
  z_get hC cf3 hd (k_44 σ) (k := 44) (by decide) (Or.inl q1629) (Or.inl rfl) rfl k
theorem p_X4_244_c3 {C : ZC} {E : ZE} {cc : ByteArray} {n nL pc d a x : Nat} {nm : String} {ret : Option FieldType} {hh : List (Nat × Nat × Nat × Nat)} {σ : ZS} {L : List (Option Value)} {st : List Value} {v : Int32} (hC : Cx C E cc nL "RightTurnsModel" nm ret hh d) (hd : decode cc pc = .ok (.putfield 244, 3)) (hk : kK n σ a = (3 + 7, x)) (k : zz C E n nL (sI σ a 29 v) (pc + 3) L st) : zz C E n nL σ pc L (.int v :: .ref (E.1.heap.size + a) :: st) :=
  z_putI hC cf3 hd hk (k := 29) (by decide) (Or.inl q1614) (Or.inl rfl) (Or.inl rfl) rfl rfl rfl k
theorem cw_X4_movesAll : CodeW yX4_movesAll (ws_ yX4_movesAll cX4_movesAll 5 none) 5 := ⟨fun w h => (List.mem_cons.mp h).elim (fun e => e ▸ q2190) id, Or.inl ⟨_, _, q2190⟩, q138, by decide, by decide⟩
theorem c_X4_424 {C : ZC} {E : ZE} {cc : ByteArray} {nL pc d : Nat} {nm : String} {ret : Option FieldType} {hh : List (Nat × Nat × Nat × Nat)} {σ : ZS} {L : List (Option Value)} {st : List Value} {a1 : Nat} {a2 : Int32} {Ret : ZS → Prop} (hC : Cx C E cc nL "RightTurnsModel" nm ret hh d) (hdd : 2 + 1 ≤ d) (hd : decode cc pc = .ok (.invokevirtual 424, 3)) (hW : (st.map fun v => v.category).sum ≤ 8) (hV : wp_X4_movesAll σ a1 a2 Ret) (k : ∀ σ', Ret σ' → zz C E NS nL σ' (pc + 3) L st) : zz C E NS nL σ pc L (.int a2 :: .ref (E.1.heap.size + a1) :: .ref (E.1.heap.size + 44) :: st) :=
  z_callVG hC cf3 cw_X4_movesAll hdd (by decide) (mz_X4_movesAll (cxE hC) hV) hd (k_44 σ) q2187 q2189 qs113 (np := 2) rfl rfl hW rfl (kV k)
def wp_X4_image (σ : ZS) (Ret : Int32 → ZS → Prop) : Prop :=
    ∀ σ1 : ZS, σ1 = sI σ 44 0 0 → ((((zI σ1 44 29) = 3 → (Ret (-1) σ1)) ∧ (¬ (zI σ1 44 29) = 3 → (vp_in (zI σ1 44 29) 3 ∧ (wp_X4_movesAll σ1 (1167 + 1 + ix (zI σ1 44 29)) 0 (fun σ4 => ∀ σ5 : ZS, σ5 = sI σ4 44 29 ((zI σ4 44 29) + 1) → (Ret (zI σ5 44 29) σ5)))))))
set_option maxHeartbeats 4000000 in
theorem mz_X4_image {l : Launch} {E : ZE} (hE : EOK E) {σ : ZS} {Ret : Int32 → ZS → Prop} (hV : wp_X4_image σ Ret) : MZ l E NS yX4_image (ws_ yX4_image cX4_image 1 (some .int)) 3 σ [.ref (E.1.heap.size + 44)] (rI Ret) := by
  refine MZ.start (L := [some (.ref (E.1.heap.size + 44))]) hE (by decide) (Nat.le_of_ble_eq_true rfl) rfl fun C hCl hQo hC => ?_
  replace hC : Cx C E cX4_image 1 "RightTurnsModel" "image" (some .int) [] 3 := hC
  unfold wp_X4_image at hV
  refine z_aload_n hC dX4_image_0 rfl rfl ?_
  refine z_iconst (v := 0) hC dX4_image_1 rfl ?_
  refine p_X4_131_c3 hC dX4_image_2 (k_44 _) ?_
  obtain ⟨σ1, e_σ1⟩ : ∃ z : ZS, z = sI σ 44 0 0 := ⟨_, rfl⟩
  replace hV := hV _ e_σ1
  rw [← e_σ1]
  refine z_aload_n hC dX4_image_5 rfl rfl ?_
  refine g_X4_244_44 hC dX4_image_6 ?_
  refine z_iconst (v := 3) hC dX4_image_9 rfl ?_
  refine z_icmp_ne (tgt := 15) hC dX4_image_10 (by decide) (fun hc => ?_) (fun hc => ?_)
  · replace hV := hV.2 hc
    refine z_aload_n hC dX4_image_15 rfl rfl ?_
    refine z_aload_n hC dX4_image_16 rfl rfl ?_
    refine g_X4_101_44 hC dX4_image_17 ?_
    refine z_aload_n hC dX4_image_20 rfl rfl ?_
    refine g_X4_244_44 hC dX4_image_21 ?_
    obtain ⟨h2, hV⟩ := hV
    refine z_aalS hC dX4_image_24 (k_1167 _) (by decide) ps_1167 h2 ?_
    refine z_iconst (v := 0) hC dX4_image_25 rfl ?_
    refine c_X4_424 hC (by decide) dX4_image_26 (Nat.le_of_ble_eq_true rfl) hV (fun σ4 hV => ?_)
    refine z_aload_n hC dX4_image_29 rfl rfl ?_
    refine z_dup hC dX4_image_30 rfl ?_
    refine g_X4_244_44 hC dX4_image_31 ?_
    refine z_iconst (v := 1) hC dX4_image_34 rfl ?_
    refine z_iadd hC dX4_image_35 ?_
    refine p_X4_244_c3 hC dX4_image_36 (k_44 _) ?_
    obtain ⟨σ5, e_σ5⟩ : ∃ z : ZS, z = sI σ4 44 29 ((zI σ4 44 29) + 1) := ⟨_, rfl⟩
    replace hV := hV _ e_σ5
    rw [← e_σ5]
    refine z_aload_n hC dX4_image_39 rfl rfl ?_
    refine g_X4_244_44 hC dX4_image_40 ?_
    exact z_iret hC dX4_image_43 rfl (by rw [hQo]; exact ⟨_, rfl, hV⟩)
  · replace hV := hV.1 hc
    refine z_iconst (v := (-1)) hC dX4_image_13 rfl ?_
    exact z_iret hC dX4_image_14 rfl (by rw [hQo]; exact ⟨_, rfl, hV⟩)
def wp_X4_left (σ : ZS) (a1 : Int32) (Ret : Int32 → ZS → Prop) : Prop :=
    ∀ σ1 : ZS, σ1 = sI σ 44 0 0 → (wp_X4_in σ1 a1 0 ((zI σ1 44 27) - 1) (fun r2 σ3 => ((r2 = 0 → (Ret (-1) σ3)) ∧ (¬ r2 = 0 → (vp_in a1 576 ∧ (vp_in a1 576 ∧ (Ret ((100 * (zI σ3 (569 + 1 + ix a1) (ix 0))) + (zI σ3 (569 + 1 + ix a1) (ix 1))) σ3)))))))
set_option maxHeartbeats 4000000 in
theorem mz_X4_left {l : Launch} {E : ZE} (hE : EOK E) {σ : ZS} {a1 : Int32} {Ret : Int32 → ZS → Prop} (hV : wp_X4_left σ a1 Ret) : MZ l E NS yX4_left (ws_ yX4_left cX4_left 2 (some .int)) 2 σ [.ref (E.1.heap.size + 44), .int a1] (rI Ret) := by
  refine MZ.start (L := [some (.ref (E.1.heap.size + 44)), some (.int a1)]) hE (by decide) (Nat.le_of_ble_eq_true rfl) rfl fun C hCl hQo hC => ?_
  replace hC : Cx C E cX4_left 2 "RightTurnsModel" "left" (some .int) [] 2 := hC
  unfold wp_X4_left at hV
  refine z_aload_n hC dX4_left_0 rfl rfl ?_
  refine z_iconst (v := 0) hC dX4_left_1 rfl ?_
  refine p_X4_131_c3 hC dX4_left_2 (k_44 _) ?_
  obtain ⟨σ1, e_σ1⟩ : ∃ z : ZS, z = sI σ 44 0 0 := ⟨_, rfl⟩
  replace hV := hV _ e_σ1
  rw [← e_σ1]
  refine z_iload_n hC dX4_left_5 rfl rfl ?_
  refine z_iconst (v := 0) hC dX4_left_6 rfl ?_
  refine z_aload_n hC dX4_left_7 rfl rfl ?_
  refine g_X4_259_44 hC dX4_left_8 ?_
  refine z_iconst (v := 1) hC dX4_left_11 rfl ?_
  refine z_isub hC dX4_left_12 ?_
  refine c_X4_165 hC (by decide) dX4_left_13 (Nat.le_of_ble_eq_true rfl) hV (fun r2 σ3 hV => ?_)
  refine z_if_eq (tgt := 42) hC dX4_left_16 (by decide) (fun hc => ?_) (fun hc => ?_)
  · replace hV := hV.1 hc
    refine z_iconst (v := (-1)) hC dX4_left_42 rfl ?_
    exact z_iret hC dX4_left_43 rfl (by rw [hQo]; exact ⟨_, rfl, hV⟩)
  · replace hV := hV.2 hc
    refine z_bipush (v := 100) hC dX4_left_19 rfl ?_
    refine z_aload_n hC dX4_left_21 rfl rfl ?_
    refine g_X4_71_44 hC dX4_left_22 ?_
    refine z_iload_n hC dX4_left_25 rfl rfl ?_
    obtain ⟨h4, hV⟩ := hV
    refine z_aalS hC dX4_left_26 (k_569 _) (by decide) ps_569 h4 ?_
    refine z_iconst (v := 0) hC dX4_left_27 rfl ?_
    refine z_iald hC dX4_left_28 (kr_569 _ (ix_lt h4)) (in_dec rfl) ?_
    refine z_imul hC dX4_left_29 ?_
    refine z_aload_n hC dX4_left_30 rfl rfl ?_
    refine g_X4_71_44 hC dX4_left_31 ?_
    refine z_iload_n hC dX4_left_34 rfl rfl ?_
    obtain ⟨h5, hV⟩ := hV
    refine z_aalS hC dX4_left_35 (k_569 _) (by decide) ps_569 h5 ?_
    refine z_iconst (v := 1) hC dX4_left_36 rfl ?_
    refine z_iald hC dX4_left_37 (kr_569 _ (ix_lt h5)) (in_dec rfl) ?_
    refine z_iadd hC dX4_left_38 ?_
    refine z_goto (tgt := 43) hC dX4_left_39 (by decide) ?_
    exact z_iret hC dX4_left_43 rfl (by rw [hQo]; exact ⟨_, rfl, hV⟩)
def V_X4_may_48 (Ret : Int32 → ZS → Prop) (σ : ZS) (x1 : Int32) (x2 : Int32) (x3 : Int32) (s0 : Int32) : Prop :=
    wp_X4_bad σ s0 2 (fun r8 σ9 => ((r8 = 0 → (wp_X4_laysTime σ9 x3 (fun σ11 => wp_X4_mayNow σ11 x1 x2 (fun r12 σ13 => isB r12 ∧ (Ret r12 σ13))))) ∧ (¬ r8 = 0 → (Ret 0 σ9))))
def V_X4_may_27 (Ret : Int32 → ZS → Prop) (σ : ZS) (x1 : Int32) (x2 : Int32) (x3 : Int32) (s0 : Int32) : Prop :=
    wp_X4_bad σ s0 1 (fun r4 σ5 => ((r4 = 0 → (wp_X4_isTime σ5 x3 (fun r6 σ7 => ((r6 = 0 → (V_X4_may_48 Ret σ7 x1 x2 x3 1)) ∧ (¬ r6 = 0 → (V_X4_may_48 Ret σ7 x1 x2 x3 0)))))) ∧ (¬ r4 = 0 → (Ret 0 σ5))))
def V_X4_may_22 (Ret : Int32 → ZS → Prop) (σ : ZS) (x1 : Int32) (x2 : Int32) (x3 : Int32) : Prop :=
    V_X4_may_27 Ret σ x1 x2 x3 1
def wp_X4_may (σ : ZS) (a1 : Int32) (a2 : Int32) (a3 : Int32) (Ret : Int32 → ZS → Prop) : Prop :=
    ∀ σ1 : ZS, σ1 = sI σ 44 0 0 → (wp_X4_isArc σ1 a1 (fun r2 σ3 => ((r2 = 0 → (V_X4_may_22 Ret σ3 a1 a2 a3)) ∧ (¬ r2 = 0 → (wp_X4_isArc σ3 a2 (fun r15 σ16 => ((r15 = 0 → (V_X4_may_22 Ret σ16 a1 a2 a3)) ∧ (¬ r15 = 0 → (V_X4_may_27 Ret σ16 a1 a2 a3 0)))))))))
set_option maxHeartbeats 4000000 in
theorem mz_X4_may {l : Launch} {E : ZE} (hE : EOK E) {σ : ZS} {a1 : Int32} {a2 : Int32} {a3 : Int32} {Ret : Int32 → ZS → Prop} (hV : wp_X4_may σ a1 a2 a3 Ret) : MZ l E NS yX4_may (ws_ yX4_may cX4_may 4 (some .boolean)) 5 σ [.ref (E.1.heap.size + 44), .int a1, .int a2, .int a3] (rI Ret) := by
  refine MZ.start (L := [some (.ref (E.1.heap.size + 44)), some (.int a1), some (.int a2), some (.int a3)]) hE (by decide) (Nat.le_of_ble_eq_true rfl) rfl fun C hCl hQo hC => ?_
  replace hC : Cx C E cX4_may 4 "RightTurnsModel" "may" (some .boolean) [] 5 := hC
  unfold wp_X4_may at hV
  have j_48 : ∀ (σ : ZS) (x1 : Int32) (x2 : Int32) (x3 : Int32) (s0 : Int32), V_X4_may_48 Ret σ x1 x2 x3 s0 → zz C E NS 4 σ 48 [some (.ref (E.1.heap.size + 44)), some (.int x1), some (.int x2), some (.int x3)] [.int s0, .ref (E.1.heap.size + 44)] := by
    intro σ x1 x2 x3 s0 hV
    unfold V_X4_may_48 at hV
    refine z_iconst (v := 2) hC dX4_may_48 rfl ?_
    refine c_X4_227 hC (by decide) dX4_may_49 (Nat.le_of_ble_eq_true rfl) hV (fun r8 σ9 hV => ?_)
    refine z_if_eq (tgt := 57) hC dX4_may_52 (by decide) (fun hc => ?_) (fun hc => ?_)
    · replace hV := hV.1 hc
      refine z_aload_n hC dX4_may_57 rfl rfl ?_
      refine z_iload_n hC dX4_may_58 rfl rfl ?_
      refine c_X4_275 hC (by decide) dX4_may_59 (Nat.le_of_ble_eq_true rfl) hV (fun σ11 hV => ?_)
      refine z_aload_n hC dX4_may_62 rfl rfl ?_
      refine z_iload_n hC dX4_may_63 rfl rfl ?_
      refine z_iload_n hC dX4_may_64 rfl rfl ?_
      refine c_X4_271 hC (by decide) dX4_may_65 (Nat.le_of_ble_eq_true rfl) hV (fun r12 σ13 hV => ?_)
      obtain ⟨h14, hV⟩ := hV
      exact z_iret hC dX4_may_68 h14 (by rw [hQo]; exact ⟨_, rfl, hV⟩)
    · replace hV := hV.2 hc
      refine z_iconst (v := 0) hC dX4_may_55 rfl ?_
      exact z_iret hC dX4_may_56 rfl (by rw [hQo]; exact ⟨_, rfl, hV⟩)
  have j_27 : ∀ (σ : ZS) (x1 : Int32) (x2 : Int32) (x3 : Int32) (s0 : Int32), V_X4_may_27 Ret σ x1 x2 x3 s0 → zz C E NS 4 σ 27 [some (.ref (E.1.heap.size + 44)), some (.int x1), some (.int x2), some (.int x3)] [.int s0, .ref (E.1.heap.size + 44)] := by
    intro σ x1 x2 x3 s0 hV
    unfold V_X4_may_27 at hV
    refine z_iconst (v := 1) hC dX4_may_27 rfl ?_
    refine c_X4_227 hC (by decide) dX4_may_28 (Nat.le_of_ble_eq_true rfl) hV (fun r4 σ5 hV => ?_)
    refine z_if_ne (tgt := 55) hC dX4_may_31 (by decide) (fun hc => ?_) (fun hc => ?_)
    · replace hV := hV.2 hc
      refine z_iconst (v := 0) hC dX4_may_55 rfl ?_
      exact z_iret hC dX4_may_56 rfl (by rw [hQo]; exact ⟨_, rfl, hV⟩)
    · replace hV := hV.1 hc
      refine z_aload_n hC dX4_may_34 rfl rfl ?_
      refine z_aload_n hC dX4_may_35 rfl rfl ?_
      refine z_iload_n hC dX4_may_36 rfl rfl ?_
      refine c_X4_281 hC (by decide) dX4_may_37 (Nat.le_of_ble_eq_true rfl) hV (fun r6 σ7 hV => ?_)
      refine z_if_ne (tgt := 47) hC dX4_may_40 (by decide) (fun hc => ?_) (fun hc => ?_)
      · replace hV := hV.2 hc
        refine z_iconst (v := 0) hC dX4_may_47 rfl ?_
        refine zz_sub (L' := [some (.ref (E.1.heap.size + 44)), some (.int x1), some (.int x2), some (.int x3)]) ⟨rfl, rfl, rfl, rfl, trivial⟩ ?_
        exact j_48 σ7 x1 x2 x3 0 hV
      · replace hV := hV.1 hc
        refine z_iconst (v := 1) hC dX4_may_43 rfl ?_
        refine z_goto (tgt := 48) hC dX4_may_44 (by decide) ?_
        refine zz_sub (L' := [some (.ref (E.1.heap.size + 44)), some (.int x1), some (.int x2), some (.int x3)]) ⟨rfl, rfl, rfl, rfl, trivial⟩ ?_
        exact j_48 σ7 x1 x2 x3 1 hV
  have j_22 : ∀ (σ : ZS) (x1 : Int32) (x2 : Int32) (x3 : Int32), V_X4_may_22 Ret σ x1 x2 x3 → zz C E NS 4 σ 22 [some (.ref (E.1.heap.size + 44)), some (.int x1), some (.int x2), some (.int x3)] [.ref (E.1.heap.size + 44)] := by
    intro σ x1 x2 x3 hV
    unfold V_X4_may_22 at hV
    refine z_iconst (v := 1) hC dX4_may_22 rfl ?_
    refine z_goto (tgt := 27) hC dX4_may_23 (by decide) ?_
    refine zz_sub (L' := [some (.ref (E.1.heap.size + 44)), some (.int x1), some (.int x2), some (.int x3)]) ⟨rfl, rfl, rfl, rfl, trivial⟩ ?_
    exact j_27 σ x1 x2 x3 1 hV
  refine z_aload_n hC dX4_may_0 rfl rfl ?_
  refine z_iconst (v := 0) hC dX4_may_1 rfl ?_
  refine p_X4_131_c3 hC dX4_may_2 (k_44 _) ?_
  obtain ⟨σ1, e_σ1⟩ : ∃ z : ZS, z = sI σ 44 0 0 := ⟨_, rfl⟩
  replace hV := hV _ e_σ1
  rw [← e_σ1]
  refine z_aload_n hC dX4_may_5 rfl rfl ?_
  refine z_aload_n hC dX4_may_6 rfl rfl ?_
  refine z_iload_n hC dX4_may_7 rfl rfl ?_
  refine c_X4_262 hC (by decide) dX4_may_8 (Nat.le_of_ble_eq_true rfl) hV (fun r2 σ3 hV => ?_)
  refine z_if_eq (tgt := 22) hC dX4_may_11 (by decide) (fun hc => ?_) (fun hc => ?_)
  · replace hV := hV.1 hc
    refine zz_sub (L' := [some (.ref (E.1.heap.size + 44)), some (.int a1), some (.int a2), some (.int a3)]) ⟨rfl, rfl, rfl, rfl, trivial⟩ ?_
    exact j_22 σ3 a1 a2 a3 hV
  · replace hV := hV.2 hc
    refine z_aload_n hC dX4_may_14 rfl rfl ?_
    refine z_iload_n hC dX4_may_15 rfl rfl ?_
    refine c_X4_262 hC (by decide) dX4_may_16 (Nat.le_of_ble_eq_true rfl) hV (fun r15 σ16 hV => ?_)
    refine z_if_ne (tgt := 26) hC dX4_may_19 (by decide) (fun hc => ?_) (fun hc => ?_)
    · replace hV := hV.2 hc
      refine z_iconst (v := 0) hC dX4_may_26 rfl ?_
      refine zz_sub (L' := [some (.ref (E.1.heap.size + 44)), some (.int a1), some (.int a2), some (.int a3)]) ⟨rfl, rfl, rfl, rfl, trivial⟩ ?_
      exact j_27 σ16 a1 a2 a3 0 hV
    · replace hV := hV.1 hc
      refine zz_sub (L' := [some (.ref (E.1.heap.size + 44)), some (.int a1), some (.int a2), some (.int a3)]) ⟨rfl, rfl, rfl, rfl, trivial⟩ ?_
      exact j_22 σ16 a1 a2 a3 hV
def V_X4_open_28 (Ret : Int32 → ZS → Prop) (σ : ZS) (x1 : Int32) (x2 : Int32) (s0 : Int32) : Prop :=
    wp_X4_bad σ s0 1 (fun r4 σ5 => ((r4 = 0 → (wp_X4_laysTime σ5 x1 (fun σ7 => wp_X4_pairs σ7 (fun r8 σ9 => ((x2 = 1 → (Ret r8 σ9)) ∧ (¬ x2 = 1 → (((r8 = ((zI σ9 47 (ix 0)) * ((zI σ9 47 (ix 0)) - 1)) → (Ret 1 σ9)) ∧ (¬ r8 = ((zI σ9 47 (ix 0)) * ((zI σ9 47 (ix 0)) - 1)) → (Ret 0 σ9)))))))))) ∧ (¬ r4 = 0 → (Ret 0 σ5))))
def V_X4_open_23 (Ret : Int32 → ZS → Prop) (σ : ZS) (x1 : Int32) (x2 : Int32) : Prop :=
    V_X4_open_28 Ret σ x1 x2 1
def wp_X4_open (σ : ZS) (a1 : Int32) (a2 : Int32) (Ret : Int32 → ZS → Prop) : Prop :=
    ∀ σ1 : ZS, σ1 = sI σ 44 0 0 → (wp_X4_isTime σ1 a1 (fun r2 σ3 => ((r2 = 0 → (V_X4_open_23 Ret σ3 a1 a2)) ∧ (¬ r2 = 0 → (wp_X4_in σ3 a2 0 1 (fun r10 σ11 => ((r10 = 0 → (V_X4_open_23 Ret σ11 a1 a2)) ∧ (¬ r10 = 0 → (V_X4_open_28 Ret σ11 a1 a2 0)))))))))
set_option maxHeartbeats 4000000 in
theorem mz_X4_open {l : Launch} {E : ZE} (hE : EOK E) {σ : ZS} {a1 : Int32} {a2 : Int32} {Ret : Int32 → ZS → Prop} (hV : wp_X4_open σ a1 a2 Ret) : MZ l E NS yX4_open (ws_ yX4_open cX4_open 4 (some .int)) 7 σ [.ref (E.1.heap.size + 44), .int a1, .int a2] (rI Ret) := by
  refine MZ.start (L := [some (.ref (E.1.heap.size + 44)), some (.int a1), some (.int a2), none]) hE (by decide) (Nat.le_of_ble_eq_true rfl) rfl fun C hCl hQo hC => ?_
  replace hC : Cx C E cX4_open 4 "RightTurnsModel" "open" (some .int) [] 7 := hC
  unfold wp_X4_open at hV
  have j_28 : ∀ (σ : ZS) (x1 : Int32) (x2 : Int32) (s0 : Int32), V_X4_open_28 Ret σ x1 x2 s0 → zz C E NS 4 σ 28 [some (.ref (E.1.heap.size + 44)), some (.int x1), some (.int x2), none] [.int s0, .ref (E.1.heap.size + 44)] := by
    intro σ x1 x2 s0 hV
    unfold V_X4_open_28 at hV
    refine z_iconst (v := 1) hC dX4_open_28 rfl ?_
    refine c_X4_227 hC (by decide) dX4_open_29 (Nat.le_of_ble_eq_true rfl) hV (fun r4 σ5 hV => ?_)
    refine z_if_eq (tgt := 37) hC dX4_open_32 (by decide) (fun hc => ?_) (fun hc => ?_)
    · replace hV := hV.1 hc
      refine z_aload_n hC dX4_open_37 rfl rfl ?_
      refine z_iload_n hC dX4_open_38 rfl rfl ?_
      refine c_X4_275 hC (by decide) dX4_open_39 (Nat.le_of_ble_eq_true rfl) hV (fun σ7 hV => ?_)
      refine z_aload_n hC dX4_open_42 rfl rfl ?_
      refine c_X4_331 hC (by decide) dX4_open_43 (Nat.le_of_ble_eq_true rfl) hV (fun r8 σ9 hV => ?_)
      refine z_istore_n hC dX4_open_46 rfl (Nat.le_of_ble_eq_true rfl) rfl rfl ?_
      refine z_iload_n hC dX4_open_47 rfl rfl ?_
      refine z_iconst (v := 1) hC dX4_open_48 rfl ?_
      refine z_icmp_ne (tgt := 56) hC dX4_open_49 (by decide) (fun hc => ?_) (fun hc => ?_)
      · replace hV := hV.2 hc
        refine z_iload_n hC dX4_open_56 rfl rfl ?_
        refine z_aload_n hC dX4_open_57 rfl rfl ?_
        refine g_X4_20_44 hC dX4_open_58 ?_
        refine z_iconst (v := 0) hC dX4_open_61 rfl ?_
        refine z_iald hC dX4_open_62 (k_47 _) (in_dec rfl) ?_
        refine z_aload_n hC dX4_open_63 rfl rfl ?_
        refine g_X4_20_44 hC dX4_open_64 ?_
        refine z_iconst (v := 0) hC dX4_open_67 rfl ?_
        refine z_iald hC dX4_open_68 (k_47 _) (in_dec rfl) ?_
        refine z_iconst (v := 1) hC dX4_open_69 rfl ?_
        refine z_isub hC dX4_open_70 ?_
        refine z_imul hC dX4_open_71 ?_
        refine z_icmp_ne (tgt := 79) hC dX4_open_72 (by decide) (fun hc => ?_) (fun hc => ?_)
        · replace hV := hV.2 hc
          refine z_iconst (v := 0) hC dX4_open_79 rfl ?_
          exact z_iret hC dX4_open_80 rfl (by rw [hQo]; exact ⟨_, rfl, hV⟩)
        · replace hV := hV.1 hc
          refine z_iconst (v := 1) hC dX4_open_75 rfl ?_
          refine z_goto (tgt := 80) hC dX4_open_76 (by decide) ?_
          exact z_iret hC dX4_open_80 rfl (by rw [hQo]; exact ⟨_, rfl, hV⟩)
      · replace hV := hV.1 hc
        refine z_iload_n hC dX4_open_52 rfl rfl ?_
        refine z_goto (tgt := 80) hC dX4_open_53 (by decide) ?_
        exact z_iret hC dX4_open_80 rfl (by rw [hQo]; exact ⟨_, rfl, hV⟩)
    · replace hV := hV.2 hc
      refine z_iconst (v := 0) hC dX4_open_35 rfl ?_
      exact z_iret hC dX4_open_36 rfl (by rw [hQo]; exact ⟨_, rfl, hV⟩)
  have j_23 : ∀ (σ : ZS) (x1 : Int32) (x2 : Int32), V_X4_open_23 Ret σ x1 x2 → zz C E NS 4 σ 23 [some (.ref (E.1.heap.size + 44)), some (.int x1), some (.int x2), none] [.ref (E.1.heap.size + 44)] := by
    intro σ x1 x2 hV
    unfold V_X4_open_23 at hV
    refine z_iconst (v := 1) hC dX4_open_23 rfl ?_
    refine z_goto (tgt := 28) hC dX4_open_24 (by decide) ?_
    refine zz_sub (L' := [some (.ref (E.1.heap.size + 44)), some (.int x1), some (.int x2), none]) ⟨rfl, rfl, rfl, trivial⟩ ?_
    exact j_28 σ x1 x2 1 hV
  refine z_aload_n hC dX4_open_0 rfl rfl ?_
  refine z_iconst (v := 0) hC dX4_open_1 rfl ?_
  refine p_X4_131_c3 hC dX4_open_2 (k_44 _) ?_
  obtain ⟨σ1, e_σ1⟩ : ∃ z : ZS, z = sI σ 44 0 0 := ⟨_, rfl⟩
  replace hV := hV _ e_σ1
  rw [← e_σ1]
  refine z_aload_n hC dX4_open_5 rfl rfl ?_
  refine z_aload_n hC dX4_open_6 rfl rfl ?_
  refine z_iload_n hC dX4_open_7 rfl rfl ?_
  refine c_X4_281 hC (by decide) dX4_open_8 (Nat.le_of_ble_eq_true rfl) hV (fun r2 σ3 hV => ?_)
  refine z_if_eq (tgt := 23) hC dX4_open_11 (by decide) (fun hc => ?_) (fun hc => ?_)
  · replace hV := hV.1 hc
    refine zz_sub (L' := [some (.ref (E.1.heap.size + 44)), some (.int a1), some (.int a2), none]) ⟨rfl, rfl, rfl, trivial⟩ ?_
    exact j_23 σ3 a1 a2 hV
  · replace hV := hV.2 hc
    refine z_iload_n hC dX4_open_14 rfl rfl ?_
    refine z_iconst (v := 0) hC dX4_open_15 rfl ?_
    refine z_iconst (v := 1) hC dX4_open_16 rfl ?_
    refine c_X4_165 hC (by decide) dX4_open_17 (Nat.le_of_ble_eq_true rfl) hV (fun r10 σ11 hV => ?_)
    refine z_if_ne (tgt := 27) hC dX4_open_20 (by decide) (fun hc => ?_) (fun hc => ?_)
    · replace hV := hV.2 hc
      refine z_iconst (v := 0) hC dX4_open_27 rfl ?_
      refine zz_sub (L' := [some (.ref (E.1.heap.size + 44)), some (.int a1), some (.int a2), none]) ⟨rfl, rfl, rfl, trivial⟩ ?_
      exact j_28 σ11 a1 a2 0 hV
    · replace hV := hV.1 hc
      refine zz_sub (L' := [some (.ref (E.1.heap.size + 44)), some (.int a1), some (.int a2), none]) ⟨rfl, rfl, rfl, trivial⟩ ?_
      exact j_23 σ11 a1 a2 hV
theorem cw_X4_areOne : CodeW yX4_areOne (ws_ yX4_areOne cX4_areOne 3 (some .boolean)) 3 := ⟨fun w h => (List.mem_cons.mp h).elim (fun e => e ▸ q2025) id, Or.inl ⟨_, _, q2025⟩, q138, by decide, by decide⟩
theorem c_X4_328 {C : ZC} {E : ZE} {cc : ByteArray} {nL pc d : Nat} {nm : String} {ret : Option FieldType} {hh : List (Nat × Nat × Nat × Nat)} {σ : ZS} {L : List (Option Value)} {st : List Value} {a1 : Int32} {a2 : Int32} {Ret : Int32 → ZS → Prop} (hC : Cx C E cc nL "RightTurnsModel" nm ret hh d) (hdd : 1 + 1 ≤ d) (hd : decode cc pc = .ok (.invokevirtual 328, 3)) (hW : (st.map fun v => v.category).sum ≤ 8) (hV : wp_X4_areOne σ a1 a2 Ret) (k : ∀ r σ', Ret r σ' → zz C E NS nL σ' (pc + 3) L (.int r :: st)) : zz C E NS nL σ pc L (.int a2 :: .int a1 :: .ref (E.1.heap.size + 44) :: st) :=
  z_callVG hC cf3 cw_X4_areOne hdd (by decide) (mz_X4_areOne (cxE hC) hV) hd (k_44 σ) q2022 q2024 qs94 (np := 2) rfl rfl hW rfl (kI k)
def V_X4_parts_152 (K54 : ZS → Int32 → Int32 → Int32 → Int32 → Prop) (Ret : Int32 → ZS → Prop) (σ : ZS) (x2 : Int32) (x4 : Int32) (x5 : Int32) (x7 : Int32) (s0 : Int32) (s1 : Int32) : Prop :=
    ∀ y13 : Int32, y13 = s1 + s0 → (((x4 < x7 → (∀ y15 : Int32, y15 = x5 + 1 → (K54 σ x2 y13 x7 y15))) ∧ (¬ x4 < x7 → (∀ y14 : Int32, y14 = x5 + 1 → (K54 σ x2 y13 x4 y14)))))
def VL_X4_parts_98 (K54 : ZS → Int32 → Int32 → Int32 → Int32 → Prop) (Ret : Int32 → ZS → Prop) : Nat → ZS → Int32 → Int32 → Int32 → Int32 → Int32 → Int32 → Int32 → Prop
  | 0 => fun _ _ _ _ _ _ _ _ => False
  | k + 1 => fun σ x2 x3 x4 x5 x6 x7 x8 =>
    let K98 := VL_X4_parts_98 K54 Ret k
    ((x8 < 0 → (((x6 = x5 → (V_X4_parts_152 K54 Ret σ x2 x4 x5 x7 1 x3)) ∧ (¬ x6 = x5 → (V_X4_parts_152 K54 Ret σ x2 x4 x5 x7 0 x3))))) ∧ (¬ x8 < 0 → (wp_X4_isArc σ x8 (fun r16 σ17 => ((r16 = 0 → (∀ y18 : Int32, y18 = x8 + (-1) → (K98 σ17 x2 x3 x4 x5 x6 x7 y18))) ∧ (¬ r16 = 0 → (wp_X4_areOne σ17 x5 x8 (fun r19 σ20 => ((r19 = 0 → (∀ y23 : Int32, y23 = x8 + (-1) → (K98 σ20 x2 x3 x4 x5 x6 x7 y23))) ∧ (¬ r19 = 0 → (∀ y21 : Int32, y21 = x7 + 1 → (∀ y22 : Int32, y22 = x8 + (-1) → (K98 σ20 x2 x3 x4 x5 x8 y21 y22)))))))))))))
def V_X4_parts_98 (K54 : ZS → Int32 → Int32 → Int32 → Int32 → Prop) (Ret : Int32 → ZS → Prop) (σ : ZS) (x2 : Int32) (x3 : Int32) (x4 : Int32) (x5 : Int32) (x6 : Int32) (x7 : Int32) (x8 : Int32) : Prop := ∃ k, VL_X4_parts_98 K54 Ret k σ x2 x3 x4 x5 x6 x7 x8
def VL_X4_parts_54 (Ret : Int32 → ZS → Prop) : Nat → ZS → Int32 → Int32 → Int32 → Int32 → Prop
  | 0 => fun _ _ _ _ _ => False
  | k + 1 => fun σ x2 x3 x4 x5 =>
    let K54 := VL_X4_parts_54 Ret k
    ((x5 < (2 * (zI σ 47 (ix 1))) → (wp_X4_isArc σ x5 (fun r10 σ11 => ((r10 = 0 → (∀ y24 : Int32, y24 = x5 + 1 → (K54 σ11 x2 x3 x4 y24))) ∧ (¬ r10 = 0 → (∀ y12 : Int32, y12 = (2 * (zI σ11 47 (ix 1))) - 1 → (V_X4_parts_98 K54 Ret σ11 x2 x3 x4 x5 x5 0 y12))))))) ∧ (¬ x5 < (2 * (zI σ 47 (ix 1))) → (((x2 = 0 → (Ret x3 σ)) ∧ (¬ x2 = 0 → (Ret x4 σ))))))
def V_X4_parts_54 (Ret : Int32 → ZS → Prop) (σ : ZS) (x2 : Int32) (x3 : Int32) (x4 : Int32) (x5 : Int32) : Prop := ∃ k, VL_X4_parts_54 Ret k σ x2 x3 x4 x5
def V_X4_parts_28 (Ret : Int32 → ZS → Prop) (σ : ZS) (x1 : Int32) (x2 : Int32) (s0 : Int32) : Prop :=
    wp_X4_bad σ s0 1 (fun r4 σ5 => ((r4 = 0 → (wp_X4_asks σ5 x1 (fun σ7 => wp_X4_layReaches σ7 (fun σ9 => V_X4_parts_54 Ret σ9 x2 0 0 0)))) ∧ (¬ r4 = 0 → (Ret 0 σ5))))
def V_X4_parts_23 (Ret : Int32 → ZS → Prop) (σ : ZS) (x1 : Int32) (x2 : Int32) : Prop :=
    V_X4_parts_28 Ret σ x1 x2 1
def wp_X4_parts (σ : ZS) (a1 : Int32) (a2 : Int32) (Ret : Int32 → ZS → Prop) : Prop :=
    ∀ σ1 : ZS, σ1 = sI σ 44 0 0 → (wp_X4_isTime σ1 a1 (fun r2 σ3 => ((r2 = 0 → (V_X4_parts_23 Ret σ3 a1 a2)) ∧ (¬ r2 = 0 → (wp_X4_in σ3 a2 0 1 (fun r25 σ26 => ((r25 = 0 → (V_X4_parts_23 Ret σ26 a1 a2)) ∧ (¬ r25 = 0 → (V_X4_parts_28 Ret σ26 a1 a2 0)))))))))
set_option maxHeartbeats 4000000 in
theorem mz_X4_parts {l : Launch} {E : ZE} (hE : EOK E) {σ : ZS} {a1 : Int32} {a2 : Int32} {Ret : Int32 → ZS → Prop} (hV : wp_X4_parts σ a1 a2 Ret) : MZ l E NS yX4_parts (ws_ yX4_parts cX4_parts 9 (some .int)) 7 σ [.ref (E.1.heap.size + 44), .int a1, .int a2] (rI Ret) := by
  refine MZ.start (L := [some (.ref (E.1.heap.size + 44)), some (.int a1), some (.int a2), none, none, none, none, none, none]) hE (by decide) (Nat.le_of_ble_eq_true rfl) rfl fun C hCl hQo hC => ?_
  replace hC : Cx C E cX4_parts 9 "RightTurnsModel" "parts" (some .int) [] 7 := hC
  unfold wp_X4_parts at hV
  have j_54 : ∀ (σ : ZS) (x2 : Int32) (x3 : Int32) (x4 : Int32) (x5 : Int32), V_X4_parts_54 Ret σ x2 x3 x4 x5 → zz C E NS 9 σ 54 [some (.ref (E.1.heap.size + 44)), none, some (.int x2), some (.int x3), some (.int x4), some (.int x5), none, none, none] [] := by
    intro σ x2 x3 x4 x5 ⟨k, hV⟩
    revert σ x2 x3 x4 x5
    induction k with
    | zero => exact fun _ _ _ _ _ hV => hV.elim
    | succ k j_54 =>
      intro σ x2 x3 x4 x5 hV
      simp only [VL_X4_parts_54] at hV
      generalize hKe54 : VL_X4_parts_54 Ret k = K54 at hV j_54
      clear hKe54
      have j_152 : ∀ (σ : ZS) (x2 : Int32) (x4 : Int32) (x5 : Int32) (x7 : Int32) (s0 : Int32) (s1 : Int32), V_X4_parts_152 K54 Ret σ x2 x4 x5 x7 s0 s1 → zz C E NS 9 σ 152 [some (.ref (E.1.heap.size + 44)), none, some (.int x2), none, some (.int x4), some (.int x5), none, some (.int x7), none] [.int s0, .int s1] := by
        intro σ x2 x4 x5 x7 s0 s1 hV
        unfold V_X4_parts_152 at hV
        refine z_iadd hC dX4_parts_152 ?_
        obtain ⟨y13, e_y13⟩ : ∃ z, z = s1 + s0 := ⟨_, rfl⟩
        rw [← e_y13]
        replace hV := hV _ e_y13
        refine z_istore_n hC dX4_parts_153 rfl (Nat.le_of_ble_eq_true rfl) rfl rfl ?_
        refine z_iload hC dX4_parts_154 rfl ?_
        refine z_iload hC dX4_parts_156 rfl ?_
        refine z_icmp_le (tgt := 166) hC dX4_parts_158 (by decide) (fun hc => ?_) (fun hc => ?_)
        · replace hV := hV.2 hc
          refine z_iload hC dX4_parts_166 rfl ?_
          refine z_istore hC dX4_parts_168 (Nat.le_of_ble_eq_true rfl) rfl rfl ?_
          obtain ⟨y14, e_y14⟩ : ∃ z : Int32, z = x5 + 1 := ⟨_, rfl⟩
          replace hV := hV _ e_y14
          refine z_iinc (v := y14) hC dX4_parts_170 rfl (by rw [e_y14]; rfl) (Nat.le_of_ble_eq_true rfl) rfl rfl ?_
          refine z_goto (tgt := 54) hC dX4_parts_173 (by decide) ?_
          refine zz_sub (L' := [some (.ref (E.1.heap.size + 44)), none, some (.int x2), some (.int y13), some (.int x4), some (.int y14), none, none, none]) ⟨rfl, rfl, rfl, rfl, rfl, trivial⟩ ?_
          exact j_54 σ x2 y13 x4 y14 hV
        · replace hV := hV.1 hc
          refine z_iload hC dX4_parts_161 rfl ?_
          refine z_goto (tgt := 168) hC dX4_parts_163 (by decide) ?_
          refine z_istore hC dX4_parts_168 (Nat.le_of_ble_eq_true rfl) rfl rfl ?_
          obtain ⟨y15, e_y15⟩ : ∃ z : Int32, z = x5 + 1 := ⟨_, rfl⟩
          replace hV := hV _ e_y15
          refine z_iinc (v := y15) hC dX4_parts_170 rfl (by rw [e_y15]; rfl) (Nat.le_of_ble_eq_true rfl) rfl rfl ?_
          refine z_goto (tgt := 54) hC dX4_parts_173 (by decide) ?_
          refine zz_sub (L' := [some (.ref (E.1.heap.size + 44)), none, some (.int x2), some (.int y13), some (.int x7), some (.int y15), none, none, none]) ⟨rfl, rfl, rfl, rfl, rfl, trivial⟩ ?_
          exact j_54 σ x2 y13 x7 y15 hV
      have j_98 : ∀ (σ : ZS) (x2 : Int32) (x3 : Int32) (x4 : Int32) (x5 : Int32) (x6 : Int32) (x7 : Int32) (x8 : Int32), V_X4_parts_98 K54 Ret σ x2 x3 x4 x5 x6 x7 x8 → zz C E NS 9 σ 98 [some (.ref (E.1.heap.size + 44)), none, some (.int x2), some (.int x3), some (.int x4), some (.int x5), some (.int x6), some (.int x7), some (.int x8)] [] := by
        intro σ x2 x3 x4 x5 x6 x7 x8 ⟨k, hV⟩
        revert σ x2 x3 x4 x5 x6 x7 x8
        induction k with
        | zero => exact fun _ _ _ _ _ _ _ _ hV => hV.elim
        | succ k j_98 =>
          intro σ x2 x3 x4 x5 x6 x7 x8 hV
          simp only [VL_X4_parts_98] at hV
          generalize hKe98 : VL_X4_parts_98 K54 Ret k = K98 at hV j_98
          clear hKe98
          refine z_iload hC dX4_parts_98 rfl ?_
          refine z_if_lt (tgt := 139) hC dX4_parts_100 (by decide) (fun hc => ?_) (fun hc => ?_)
          · replace hV := hV.1 hc
            refine z_iload_n hC dX4_parts_139 rfl rfl ?_
            refine z_iload hC dX4_parts_140 rfl ?_
            refine z_iload hC dX4_parts_142 rfl ?_
            refine z_icmp_ne (tgt := 151) hC dX4_parts_144 (by decide) (fun hc => ?_) (fun hc => ?_)
            · replace hV := hV.2 hc
              refine z_iconst (v := 0) hC dX4_parts_151 rfl ?_
              refine zz_sub (L' := [some (.ref (E.1.heap.size + 44)), none, some (.int x2), none, some (.int x4), some (.int x5), none, some (.int x7), none]) ⟨rfl, rfl, rfl, rfl, rfl, trivial⟩ ?_
              exact j_152 σ x2 x4 x5 x7 0 x3 hV
            · replace hV := hV.1 hc
              refine z_iconst (v := 1) hC dX4_parts_147 rfl ?_
              refine z_goto (tgt := 152) hC dX4_parts_148 (by decide) ?_
              refine zz_sub (L' := [some (.ref (E.1.heap.size + 44)), none, some (.int x2), none, some (.int x4), some (.int x5), none, some (.int x7), none]) ⟨rfl, rfl, rfl, rfl, rfl, trivial⟩ ?_
              exact j_152 σ x2 x4 x5 x7 1 x3 hV
          · replace hV := hV.2 hc
            refine z_aload_n hC dX4_parts_103 rfl rfl ?_
            refine z_iload hC dX4_parts_104 rfl ?_
            refine c_X4_262 hC (by decide) dX4_parts_106 (Nat.le_of_ble_eq_true rfl) hV (fun r16 σ17 hV => ?_)
            refine z_if_eq (tgt := 133) hC dX4_parts_109 (by decide) (fun hc => ?_) (fun hc => ?_)
            · replace hV := hV.1 hc
              obtain ⟨y18, e_y18⟩ : ∃ z : Int32, z = x8 + (-1) := ⟨_, rfl⟩
              replace hV := hV _ e_y18
              refine z_iinc (v := y18) hC dX4_parts_133 rfl (by rw [e_y18]; rfl) (Nat.le_of_ble_eq_true rfl) rfl rfl ?_
              refine z_goto (tgt := 98) hC dX4_parts_136 (by decide) ?_
              refine zz_sub (L' := [some (.ref (E.1.heap.size + 44)), none, some (.int x2), some (.int x3), some (.int x4), some (.int x5), some (.int x6), some (.int x7), some (.int y18)]) ⟨rfl, rfl, rfl, rfl, rfl, rfl, rfl, rfl, trivial⟩ ?_
              exact j_98 σ17 x2 x3 x4 x5 x6 x7 y18 hV
            · replace hV := hV.2 hc
              refine z_aload_n hC dX4_parts_112 rfl rfl ?_
              refine z_iload hC dX4_parts_113 rfl ?_
              refine z_iload hC dX4_parts_115 rfl ?_
              refine c_X4_328 hC (by decide) dX4_parts_117 (Nat.le_of_ble_eq_true rfl) hV (fun r19 σ20 hV => ?_)
              refine z_if_ne (tgt := 126) hC dX4_parts_120 (by decide) (fun hc => ?_) (fun hc => ?_)
              · replace hV := hV.2 hc
                refine z_iload hC dX4_parts_126 rfl ?_
                refine z_istore hC dX4_parts_128 (Nat.le_of_ble_eq_true rfl) rfl rfl ?_
                obtain ⟨y21, e_y21⟩ : ∃ z : Int32, z = x7 + 1 := ⟨_, rfl⟩
                replace hV := hV _ e_y21
                refine z_iinc (v := y21) hC dX4_parts_130 rfl (by rw [e_y21]; rfl) (Nat.le_of_ble_eq_true rfl) rfl rfl ?_
                obtain ⟨y22, e_y22⟩ : ∃ z : Int32, z = x8 + (-1) := ⟨_, rfl⟩
                replace hV := hV _ e_y22
                refine z_iinc (v := y22) hC dX4_parts_133 rfl (by rw [e_y22]; rfl) (Nat.le_of_ble_eq_true rfl) rfl rfl ?_
                refine z_goto (tgt := 98) hC dX4_parts_136 (by decide) ?_
                refine zz_sub (L' := [some (.ref (E.1.heap.size + 44)), none, some (.int x2), some (.int x3), some (.int x4), some (.int x5), some (.int x8), some (.int y21), some (.int y22)]) ⟨rfl, rfl, rfl, rfl, rfl, rfl, rfl, rfl, trivial⟩ ?_
                exact j_98 σ20 x2 x3 x4 x5 x8 y21 y22 hV
              · replace hV := hV.1 hc
                refine z_goto (tgt := 133) hC dX4_parts_123 (by decide) ?_
                obtain ⟨y23, e_y23⟩ : ∃ z : Int32, z = x8 + (-1) := ⟨_, rfl⟩
                replace hV := hV _ e_y23
                refine z_iinc (v := y23) hC dX4_parts_133 rfl (by rw [e_y23]; rfl) (Nat.le_of_ble_eq_true rfl) rfl rfl ?_
                refine z_goto (tgt := 98) hC dX4_parts_136 (by decide) ?_
                refine zz_sub (L' := [some (.ref (E.1.heap.size + 44)), none, some (.int x2), some (.int x3), some (.int x4), some (.int x5), some (.int x6), some (.int x7), some (.int y23)]) ⟨rfl, rfl, rfl, rfl, rfl, rfl, rfl, rfl, trivial⟩ ?_
                exact j_98 σ20 x2 x3 x4 x5 x6 x7 y23 hV
      refine z_iload hC dX4_parts_54 rfl ?_
      refine z_iconst (v := 2) hC dX4_parts_56 rfl ?_
      refine z_aload_n hC dX4_parts_57 rfl rfl ?_
      refine g_X4_20_44 hC dX4_parts_58 ?_
      refine z_iconst (v := 1) hC dX4_parts_61 rfl ?_
      refine z_iald hC dX4_parts_62 (k_47 _) (in_dec rfl) ?_
      refine z_imul hC dX4_parts_63 ?_
      refine z_icmp_ge (tgt := 176) hC dX4_parts_64 (by decide) (fun hc => ?_) (fun hc => ?_)
      · replace hV := hV.2 hc
        refine z_iload_n hC dX4_parts_176 rfl rfl ?_
        refine z_if_ne (tgt := 184) hC dX4_parts_177 (by decide) (fun hc => ?_) (fun hc => ?_)
        · replace hV := hV.2 hc
          refine z_iload hC dX4_parts_184 rfl ?_
          exact z_iret hC dX4_parts_186 rfl (by rw [hQo]; exact ⟨_, rfl, hV⟩)
        · replace hV := hV.1 hc
          refine z_iload_n hC dX4_parts_180 rfl rfl ?_
          refine z_goto (tgt := 186) hC dX4_parts_181 (by decide) ?_
          exact z_iret hC dX4_parts_186 rfl (by rw [hQo]; exact ⟨_, rfl, hV⟩)
      · replace hV := hV.1 hc
        refine z_aload_n hC dX4_parts_67 rfl rfl ?_
        refine z_iload hC dX4_parts_68 rfl ?_
        refine c_X4_262 hC (by decide) dX4_parts_70 (Nat.le_of_ble_eq_true rfl) hV (fun r10 σ11 hV => ?_)
        refine z_if_ne (tgt := 79) hC dX4_parts_73 (by decide) (fun hc => ?_) (fun hc => ?_)
        · replace hV := hV.2 hc
          refine z_iload hC dX4_parts_79 rfl ?_
          refine z_istore hC dX4_parts_81 (Nat.le_of_ble_eq_true rfl) rfl rfl ?_
          refine z_iconst (v := 0) hC dX4_parts_83 rfl ?_
          refine z_istore hC dX4_parts_84 (Nat.le_of_ble_eq_true rfl) rfl rfl ?_
          refine z_iconst (v := 2) hC dX4_parts_86 rfl ?_
          refine z_aload_n hC dX4_parts_87 rfl rfl ?_
          refine g_X4_20_44 hC dX4_parts_88 ?_
          refine z_iconst (v := 1) hC dX4_parts_91 rfl ?_
          refine z_iald hC dX4_parts_92 (k_47 _) (in_dec rfl) ?_
          refine z_imul hC dX4_parts_93 ?_
          refine z_iconst (v := 1) hC dX4_parts_94 rfl ?_
          refine z_isub hC dX4_parts_95 ?_
          obtain ⟨y12, e_y12⟩ : ∃ z, z = (2 * (zI σ11 47 (ix 1))) - 1 := ⟨_, rfl⟩
          rw [← e_y12]
          replace hV := hV _ e_y12
          refine z_istore hC dX4_parts_96 (Nat.le_of_ble_eq_true rfl) rfl rfl ?_
          refine zz_sub (L' := [some (.ref (E.1.heap.size + 44)), none, some (.int x2), some (.int x3), some (.int x4), some (.int x5), some (.int x5), some (.int 0), some (.int y12)]) ⟨rfl, rfl, rfl, rfl, rfl, rfl, rfl, rfl, trivial⟩ ?_
          exact j_98 σ11 x2 x3 x4 x5 x5 0 y12 hV
        · replace hV := hV.1 hc
          refine z_goto (tgt := 170) hC dX4_parts_76 (by decide) ?_
          obtain ⟨y24, e_y24⟩ : ∃ z : Int32, z = x5 + 1 := ⟨_, rfl⟩
          replace hV := hV _ e_y24
          refine z_iinc (v := y24) hC dX4_parts_170 rfl (by rw [e_y24]; rfl) (Nat.le_of_ble_eq_true rfl) rfl rfl ?_
          refine z_goto (tgt := 54) hC dX4_parts_173 (by decide) ?_
          refine zz_sub (L' := [some (.ref (E.1.heap.size + 44)), none, some (.int x2), some (.int x3), some (.int x4), some (.int y24), none, none, none]) ⟨rfl, rfl, rfl, rfl, rfl, trivial⟩ ?_
          exact j_54 σ11 x2 x3 x4 y24 hV
  have j_28 : ∀ (σ : ZS) (x1 : Int32) (x2 : Int32) (s0 : Int32), V_X4_parts_28 Ret σ x1 x2 s0 → zz C E NS 9 σ 28 [some (.ref (E.1.heap.size + 44)), some (.int x1), some (.int x2), none, none, none, none, none, none] [.int s0, .ref (E.1.heap.size + 44)] := by
    intro σ x1 x2 s0 hV
    unfold V_X4_parts_28 at hV
    refine z_iconst (v := 1) hC dX4_parts_28 rfl ?_
    refine c_X4_227 hC (by decide) dX4_parts_29 (Nat.le_of_ble_eq_true rfl) hV (fun r4 σ5 hV => ?_)
    refine z_if_eq (tgt := 37) hC dX4_parts_32 (by decide) (fun hc => ?_) (fun hc => ?_)
    · replace hV := hV.1 hc
      refine z_aload_n hC dX4_parts_37 rfl rfl ?_
      refine z_iload_n hC dX4_parts_38 rfl rfl ?_
      refine c_X4_310 hC (by decide) dX4_parts_39 (Nat.le_of_ble_eq_true rfl) hV (fun σ7 hV => ?_)
      refine z_aload_n hC dX4_parts_42 rfl rfl ?_
      refine c_X4_322 hC (by decide) dX4_parts_43 (Nat.le_of_ble_eq_true rfl) hV (fun σ9 hV => ?_)
      refine z_iconst (v := 0) hC dX4_parts_46 rfl ?_
      refine z_istore_n hC dX4_parts_47 rfl (Nat.le_of_ble_eq_true rfl) rfl rfl ?_
      refine z_iconst (v := 0) hC dX4_parts_48 rfl ?_
      refine z_istore hC dX4_parts_49 (Nat.le_of_ble_eq_true rfl) rfl rfl ?_
      refine z_iconst (v := 0) hC dX4_parts_51 rfl ?_
      refine z_istore hC dX4_parts_52 (Nat.le_of_ble_eq_true rfl) rfl rfl ?_
      refine zz_sub (L' := [some (.ref (E.1.heap.size + 44)), none, some (.int x2), some (.int 0), some (.int 0), some (.int 0), none, none, none]) ⟨rfl, rfl, rfl, rfl, rfl, trivial⟩ ?_
      exact j_54 σ9 x2 0 0 0 hV
    · replace hV := hV.2 hc
      refine z_iconst (v := 0) hC dX4_parts_35 rfl ?_
      exact z_iret hC dX4_parts_36 rfl (by rw [hQo]; exact ⟨_, rfl, hV⟩)
  have j_23 : ∀ (σ : ZS) (x1 : Int32) (x2 : Int32), V_X4_parts_23 Ret σ x1 x2 → zz C E NS 9 σ 23 [some (.ref (E.1.heap.size + 44)), some (.int x1), some (.int x2), none, none, none, none, none, none] [.ref (E.1.heap.size + 44)] := by
    intro σ x1 x2 hV
    unfold V_X4_parts_23 at hV
    refine z_iconst (v := 1) hC dX4_parts_23 rfl ?_
    refine z_goto (tgt := 28) hC dX4_parts_24 (by decide) ?_
    refine zz_sub (L' := [some (.ref (E.1.heap.size + 44)), some (.int x1), some (.int x2), none, none, none, none, none, none]) ⟨rfl, rfl, rfl, trivial⟩ ?_
    exact j_28 σ x1 x2 1 hV
  refine z_aload_n hC dX4_parts_0 rfl rfl ?_
  refine z_iconst (v := 0) hC dX4_parts_1 rfl ?_
  refine p_X4_131_c3 hC dX4_parts_2 (k_44 _) ?_
  obtain ⟨σ1, e_σ1⟩ : ∃ z : ZS, z = sI σ 44 0 0 := ⟨_, rfl⟩
  replace hV := hV _ e_σ1
  rw [← e_σ1]
  refine z_aload_n hC dX4_parts_5 rfl rfl ?_
  refine z_aload_n hC dX4_parts_6 rfl rfl ?_
  refine z_iload_n hC dX4_parts_7 rfl rfl ?_
  refine c_X4_281 hC (by decide) dX4_parts_8 (Nat.le_of_ble_eq_true rfl) hV (fun r2 σ3 hV => ?_)
  refine z_if_eq (tgt := 23) hC dX4_parts_11 (by decide) (fun hc => ?_) (fun hc => ?_)
  · replace hV := hV.1 hc
    refine zz_sub (L' := [some (.ref (E.1.heap.size + 44)), some (.int a1), some (.int a2), none, none, none, none, none, none]) ⟨rfl, rfl, rfl, trivial⟩ ?_
    exact j_23 σ3 a1 a2 hV
  · replace hV := hV.2 hc
    refine z_iload_n hC dX4_parts_14 rfl rfl ?_
    refine z_iconst (v := 0) hC dX4_parts_15 rfl ?_
    refine z_iconst (v := 1) hC dX4_parts_16 rfl ?_
    refine c_X4_165 hC (by decide) dX4_parts_17 (Nat.le_of_ble_eq_true rfl) hV (fun r25 σ26 hV => ?_)
    refine z_if_ne (tgt := 27) hC dX4_parts_20 (by decide) (fun hc => ?_) (fun hc => ?_)
    · replace hV := hV.2 hc
      refine z_iconst (v := 0) hC dX4_parts_27 rfl ?_
      refine zz_sub (L' := [some (.ref (E.1.heap.size + 44)), some (.int a1), some (.int a2), none, none, none, none, none, none]) ⟨rfl, rfl, rfl, trivial⟩ ?_
      exact j_28 σ26 a1 a2 0 hV
    · replace hV := hV.1 hc
      refine zz_sub (L' := [some (.ref (E.1.heap.size + 44)), some (.int a1), some (.int a2), none, none, none, none, none, none]) ⟨rfl, rfl, rfl, trivial⟩ ?_
      exact j_23 σ26 a1 a2 hV
theorem cw_X4_homeOf : CodeW yX4_homeOf (ws_ yX4_homeOf cX4_homeOf 4 (some .int)) 4 := ⟨fun w h => (List.mem_cons.mp h).elim (fun e => e ▸ q2017) id, Or.inl ⟨_, _, q2017⟩, q138, by decide, by decide⟩
theorem c_X4_325 {C : ZC} {E : ZE} {cc : ByteArray} {nL pc d : Nat} {nm : String} {ret : Option FieldType} {hh : List (Nat × Nat × Nat × Nat)} {σ : ZS} {L : List (Option Value)} {st : List Value} {a1 : Int32} {Ret : Int32 → ZS → Prop} (hC : Cx C E cc nL "RightTurnsModel" nm ret hh d) (hdd : 4 + 1 ≤ d) (hd : decode cc pc = .ok (.invokevirtual 325, 3)) (hW : (st.map fun v => v.category).sum ≤ 8) (hV : wp_X4_homeOf σ a1 Ret) (k : ∀ r σ', Ret r σ' → zz C E NS nL σ' (pc + 3) L (.int r :: st)) : zz C E NS nL σ pc L (.int a1 :: .ref (E.1.heap.size + 44) :: st) :=
  z_callVG hC cf3 cw_X4_homeOf hdd (by decide) (mz_X4_homeOf (cxE hC) hV) hd (k_44 σ) q2014 q2016 qs93 (np := 1) rfl rfl hW rfl (kI k)
def V_X4_reach_49 (Ret : Int32 → ZS → Prop) (σ : ZS) (x1 : Int32) (x2 : Int32) (x3 : Int32) (s0 : Int32) : Prop :=
    wp_X4_bad σ s0 2 (fun r8 σ9 => ((r8 = 0 → (wp_X4_asks σ9 x2 (fun σ11 => wp_X4_layReaches σ11 (fun σ13 => ((x3 = 0 → (wp_X4_reachOf σ13 x1 (fun r22 σ23 => Ret r22 σ23))) ∧ (¬ x3 = 0 → (((x3 = 1 → (wp_X4_homeOf σ13 x1 (fun r20 σ21 => Ret r20 σ21))) ∧ (¬ x3 = 1 → (wp_X4_reachOf σ13 x1 (fun r14 σ15 => wp_X4_homeOf σ15 x1 (fun r16 σ17 => wp_X4_ones σ17 (r14 &&& (r16 ^^^ (-1))) (fun r18 σ19 => Ret r18 σ19))))))))))))) ∧ (¬ r8 = 0 → (Ret 0 σ9))))
def V_X4_reach_44 (Ret : Int32 → ZS → Prop) (σ : ZS) (x1 : Int32) (x2 : Int32) (x3 : Int32) : Prop :=
    V_X4_reach_49 Ret σ x1 x2 x3 1
def V_X4_reach_19 (Ret : Int32 → ZS → Prop) (σ : ZS) (x1 : Int32) (x2 : Int32) (x3 : Int32) (s0 : Int32) : Prop :=
    wp_X4_bad σ s0 1 (fun r4 σ5 => ((r4 = 0 → (wp_X4_isTime σ5 x2 (fun r6 σ7 => ((r6 = 0 → (V_X4_reach_44 Ret σ7 x1 x2 x3)) ∧ (¬ r6 = 0 → (wp_X4_in σ7 x3 0 2 (fun r24 σ25 => ((r24 = 0 → (V_X4_reach_44 Ret σ25 x1 x2 x3)) ∧ (¬ r24 = 0 → (V_X4_reach_49 Ret σ25 x1 x2 x3 0)))))))))) ∧ (¬ r4 = 0 → (Ret 0 σ5))))
def wp_X4_reach (σ : ZS) (a1 : Int32) (a2 : Int32) (a3 : Int32) (Ret : Int32 → ZS → Prop) : Prop :=
    ∀ σ1 : ZS, σ1 = sI σ 44 0 0 → (wp_X4_isCorner σ1 a1 (fun r2 σ3 => ((r2 = 0 → (V_X4_reach_19 Ret σ3 a1 a2 a3 1)) ∧ (¬ r2 = 0 → (V_X4_reach_19 Ret σ3 a1 a2 a3 0)))))
set_option maxHeartbeats 4000000 in
theorem mz_X4_reach {l : Launch} {E : ZE} (hE : EOK E) {σ : ZS} {a1 : Int32} {a2 : Int32} {a3 : Int32} {Ret : Int32 → ZS → Prop} (hV : wp_X4_reach σ a1 a2 a3 Ret) : MZ l E NS yX4_reach (ws_ yX4_reach cX4_reach 4 (some .int)) 7 σ [.ref (E.1.heap.size + 44), .int a1, .int a2, .int a3] (rI Ret) := by
  refine MZ.start (L := [some (.ref (E.1.heap.size + 44)), some (.int a1), some (.int a2), some (.int a3)]) hE (by decide) (Nat.le_of_ble_eq_true rfl) rfl fun C hCl hQo hC => ?_
  replace hC : Cx C E cX4_reach 4 "RightTurnsModel" "reach" (some .int) [] 7 := hC
  unfold wp_X4_reach at hV
  have j_49 : ∀ (σ : ZS) (x1 : Int32) (x2 : Int32) (x3 : Int32) (s0 : Int32), V_X4_reach_49 Ret σ x1 x2 x3 s0 → zz C E NS 4 σ 49 [some (.ref (E.1.heap.size + 44)), some (.int x1), some (.int x2), some (.int x3)] [.int s0, .ref (E.1.heap.size + 44)] := by
    intro σ x1 x2 x3 s0 hV
    unfold V_X4_reach_49 at hV
    refine z_iconst (v := 2) hC dX4_reach_49 rfl ?_
    refine c_X4_227 hC (by decide) dX4_reach_50 (Nat.le_of_ble_eq_true rfl) hV (fun r8 σ9 hV => ?_)
    refine z_if_eq (tgt := 58) hC dX4_reach_53 (by decide) (fun hc => ?_) (fun hc => ?_)
    · replace hV := hV.1 hc
      refine z_aload_n hC dX4_reach_58 rfl rfl ?_
      refine z_iload_n hC dX4_reach_59 rfl rfl ?_
      refine c_X4_310 hC (by decide) dX4_reach_60 (Nat.le_of_ble_eq_true rfl) hV (fun σ11 hV => ?_)
      refine z_aload_n hC dX4_reach_63 rfl rfl ?_
      refine c_X4_322 hC (by decide) dX4_reach_64 (Nat.le_of_ble_eq_true rfl) hV (fun σ13 hV => ?_)
      refine z_iload_n hC dX4_reach_67 rfl rfl ?_
      refine z_if_ne (tgt := 79) hC dX4_reach_68 (by decide) (fun hc => ?_) (fun hc => ?_)
      · replace hV := hV.2 hc
        refine z_iload_n hC dX4_reach_79 rfl rfl ?_
        refine z_iconst (v := 1) hC dX4_reach_80 rfl ?_
        refine z_icmp_ne (tgt := 92) hC dX4_reach_81 (by decide) (fun hc => ?_) (fun hc => ?_)
        · replace hV := hV.2 hc
          refine z_aload_n hC dX4_reach_92 rfl rfl ?_
          refine z_iload_n hC dX4_reach_93 rfl rfl ?_
          refine c_X4_319 hC (by decide) dX4_reach_94 (Nat.le_of_ble_eq_true rfl) hV (fun r14 σ15 hV => ?_)
          refine z_aload_n hC dX4_reach_97 rfl rfl ?_
          refine z_iload_n hC dX4_reach_98 rfl rfl ?_
          refine c_X4_325 hC (by decide) dX4_reach_99 (Nat.le_of_ble_eq_true rfl) hV (fun r16 σ17 hV => ?_)
          refine z_iconst (v := (-1)) hC dX4_reach_102 rfl ?_
          refine z_ixor hC dX4_reach_103 ?_
          refine z_iand hC dX4_reach_104 ?_
          refine c_X4_187 hC (by decide) dX4_reach_105 (Nat.le_of_ble_eq_true rfl) hV (fun r18 σ19 hV => ?_)
          exact z_iret hC dX4_reach_108 rfl (by rw [hQo]; exact ⟨_, rfl, hV⟩)
        · replace hV := hV.1 hc
          refine z_aload_n hC dX4_reach_84 rfl rfl ?_
          refine z_iload_n hC dX4_reach_85 rfl rfl ?_
          refine c_X4_325 hC (by decide) dX4_reach_86 (Nat.le_of_ble_eq_true rfl) hV (fun r20 σ21 hV => ?_)
          refine z_goto (tgt := 108) hC dX4_reach_89 (by decide) ?_
          exact z_iret hC dX4_reach_108 rfl (by rw [hQo]; exact ⟨_, rfl, hV⟩)
      · replace hV := hV.1 hc
        refine z_aload_n hC dX4_reach_71 rfl rfl ?_
        refine z_iload_n hC dX4_reach_72 rfl rfl ?_
        refine c_X4_319 hC (by decide) dX4_reach_73 (Nat.le_of_ble_eq_true rfl) hV (fun r22 σ23 hV => ?_)
        refine z_goto (tgt := 108) hC dX4_reach_76 (by decide) ?_
        exact z_iret hC dX4_reach_108 rfl (by rw [hQo]; exact ⟨_, rfl, hV⟩)
    · replace hV := hV.2 hc
      refine z_iconst (v := 0) hC dX4_reach_56 rfl ?_
      exact z_iret hC dX4_reach_57 rfl (by rw [hQo]; exact ⟨_, rfl, hV⟩)
  have j_44 : ∀ (σ : ZS) (x1 : Int32) (x2 : Int32) (x3 : Int32), V_X4_reach_44 Ret σ x1 x2 x3 → zz C E NS 4 σ 44 [some (.ref (E.1.heap.size + 44)), some (.int x1), some (.int x2), some (.int x3)] [.ref (E.1.heap.size + 44)] := by
    intro σ x1 x2 x3 hV
    unfold V_X4_reach_44 at hV
    refine z_iconst (v := 1) hC dX4_reach_44 rfl ?_
    refine z_goto (tgt := 49) hC dX4_reach_45 (by decide) ?_
    refine zz_sub (L' := [some (.ref (E.1.heap.size + 44)), some (.int x1), some (.int x2), some (.int x3)]) ⟨rfl, rfl, rfl, rfl, trivial⟩ ?_
    exact j_49 σ x1 x2 x3 1 hV
  have j_19 : ∀ (σ : ZS) (x1 : Int32) (x2 : Int32) (x3 : Int32) (s0 : Int32), V_X4_reach_19 Ret σ x1 x2 x3 s0 → zz C E NS 4 σ 19 [some (.ref (E.1.heap.size + 44)), some (.int x1), some (.int x2), some (.int x3)] [.int s0, .ref (E.1.heap.size + 44)] := by
    intro σ x1 x2 x3 s0 hV
    unfold V_X4_reach_19 at hV
    refine z_iconst (v := 1) hC dX4_reach_19 rfl ?_
    refine c_X4_227 hC (by decide) dX4_reach_20 (Nat.le_of_ble_eq_true rfl) hV (fun r4 σ5 hV => ?_)
    refine z_if_ne (tgt := 56) hC dX4_reach_23 (by decide) (fun hc => ?_) (fun hc => ?_)
    · replace hV := hV.2 hc
      refine z_iconst (v := 0) hC dX4_reach_56 rfl ?_
      exact z_iret hC dX4_reach_57 rfl (by rw [hQo]; exact ⟨_, rfl, hV⟩)
    · replace hV := hV.1 hc
      refine z_aload_n hC dX4_reach_26 rfl rfl ?_
      refine z_aload_n hC dX4_reach_27 rfl rfl ?_
      refine z_iload_n hC dX4_reach_28 rfl rfl ?_
      refine c_X4_281 hC (by decide) dX4_reach_29 (Nat.le_of_ble_eq_true rfl) hV (fun r6 σ7 hV => ?_)
      refine z_if_eq (tgt := 44) hC dX4_reach_32 (by decide) (fun hc => ?_) (fun hc => ?_)
      · replace hV := hV.1 hc
        refine zz_sub (L' := [some (.ref (E.1.heap.size + 44)), some (.int x1), some (.int x2), some (.int x3)]) ⟨rfl, rfl, rfl, rfl, trivial⟩ ?_
        exact j_44 σ7 x1 x2 x3 hV
      · replace hV := hV.2 hc
        refine z_iload_n hC dX4_reach_35 rfl rfl ?_
        refine z_iconst (v := 0) hC dX4_reach_36 rfl ?_
        refine z_iconst (v := 2) hC dX4_reach_37 rfl ?_
        refine c_X4_165 hC (by decide) dX4_reach_38 (Nat.le_of_ble_eq_true rfl) hV (fun r24 σ25 hV => ?_)
        refine z_if_ne (tgt := 48) hC dX4_reach_41 (by decide) (fun hc => ?_) (fun hc => ?_)
        · replace hV := hV.2 hc
          refine z_iconst (v := 0) hC dX4_reach_48 rfl ?_
          refine zz_sub (L' := [some (.ref (E.1.heap.size + 44)), some (.int x1), some (.int x2), some (.int x3)]) ⟨rfl, rfl, rfl, rfl, trivial⟩ ?_
          exact j_49 σ25 x1 x2 x3 0 hV
        · replace hV := hV.1 hc
          refine zz_sub (L' := [some (.ref (E.1.heap.size + 44)), some (.int x1), some (.int x2), some (.int x3)]) ⟨rfl, rfl, rfl, rfl, trivial⟩ ?_
          exact j_44 σ25 x1 x2 x3 hV
  refine z_aload_n hC dX4_reach_0 rfl rfl ?_
  refine z_iconst (v := 0) hC dX4_reach_1 rfl ?_
  refine p_X4_131_c3 hC dX4_reach_2 (k_44 _) ?_
  obtain ⟨σ1, e_σ1⟩ : ∃ z : ZS, z = sI σ 44 0 0 := ⟨_, rfl⟩
  replace hV := hV _ e_σ1
  rw [← e_σ1]
  refine z_aload_n hC dX4_reach_5 rfl rfl ?_
  refine z_aload_n hC dX4_reach_6 rfl rfl ?_
  refine z_iload_n hC dX4_reach_7 rfl rfl ?_
  refine c_X4_307 hC (by decide) dX4_reach_8 (Nat.le_of_ble_eq_true rfl) hV (fun r2 σ3 hV => ?_)
  refine z_if_ne (tgt := 18) hC dX4_reach_11 (by decide) (fun hc => ?_) (fun hc => ?_)
  · replace hV := hV.2 hc
    refine z_iconst (v := 0) hC dX4_reach_18 rfl ?_
    refine zz_sub (L' := [some (.ref (E.1.heap.size + 44)), some (.int a1), some (.int a2), some (.int a3)]) ⟨rfl, rfl, rfl, rfl, trivial⟩ ?_
    exact j_19 σ3 a1 a2 a3 0 hV
  · replace hV := hV.1 hc
    refine z_iconst (v := 1) hC dX4_reach_14 rfl ?_
    refine z_goto (tgt := 19) hC dX4_reach_15 (by decide) ?_
    refine zz_sub (L' := [some (.ref (E.1.heap.size + 44)), some (.int a1), some (.int a2), some (.int a3)]) ⟨rfl, rfl, rfl, rfl, trivial⟩ ?_
    exact j_19 σ3 a1 a2 a3 1 hV
def wp_X4_restore (σ : ZS) (Ret : Int32 → ZS → Prop) : Prop :=
    ∀ σ1 : ZS, σ1 = sI σ 44 0 0 → ((((zI σ1 44 29) = 0 → (Ret (-1) σ1)) ∧ (¬ (zI σ1 44 29) = 0 → (∀ σ2 : ZS, σ2 = sI σ1 44 29 ((zI σ1 44 29) - 1) → (vp_in (zI σ2 44 29) 3 ∧ (wp_X4_movesAll σ2 (1167 + 1 + ix (zI σ2 44 29)) 1 (fun σ5 => Ret (zI σ5 44 29) σ5)))))))
set_option maxHeartbeats 4000000 in
theorem mz_X4_restore {l : Launch} {E : ZE} (hE : EOK E) {σ : ZS} {Ret : Int32 → ZS → Prop} (hV : wp_X4_restore σ Ret) : MZ l E NS yX4_restore (ws_ yX4_restore cX4_restore 1 (some .int)) 3 σ [.ref (E.1.heap.size + 44)] (rI Ret) := by
  refine MZ.start (L := [some (.ref (E.1.heap.size + 44))]) hE (by decide) (Nat.le_of_ble_eq_true rfl) rfl fun C hCl hQo hC => ?_
  replace hC : Cx C E cX4_restore 1 "RightTurnsModel" "restore" (some .int) [] 3 := hC
  unfold wp_X4_restore at hV
  refine z_aload_n hC dX4_restore_0 rfl rfl ?_
  refine z_iconst (v := 0) hC dX4_restore_1 rfl ?_
  refine p_X4_131_c3 hC dX4_restore_2 (k_44 _) ?_
  obtain ⟨σ1, e_σ1⟩ : ∃ z : ZS, z = sI σ 44 0 0 := ⟨_, rfl⟩
  replace hV := hV _ e_σ1
  rw [← e_σ1]
  refine z_aload_n hC dX4_restore_5 rfl rfl ?_
  refine g_X4_244_44 hC dX4_restore_6 ?_
  refine z_if_ne (tgt := 14) hC dX4_restore_9 (by decide) (fun hc => ?_) (fun hc => ?_)
  · replace hV := hV.2 hc
    refine z_aload_n hC dX4_restore_14 rfl rfl ?_
    refine z_dup hC dX4_restore_15 rfl ?_
    refine g_X4_244_44 hC dX4_restore_16 ?_
    refine z_iconst (v := 1) hC dX4_restore_19 rfl ?_
    refine z_isub hC dX4_restore_20 ?_
    refine p_X4_244_c3 hC dX4_restore_21 (k_44 _) ?_
    obtain ⟨σ2, e_σ2⟩ : ∃ z : ZS, z = sI σ1 44 29 ((zI σ1 44 29) - 1) := ⟨_, rfl⟩
    replace hV := hV _ e_σ2
    rw [← e_σ2]
    refine z_aload_n hC dX4_restore_24 rfl rfl ?_
    refine z_aload_n hC dX4_restore_25 rfl rfl ?_
    refine g_X4_101_44 hC dX4_restore_26 ?_
    refine z_aload_n hC dX4_restore_29 rfl rfl ?_
    refine g_X4_244_44 hC dX4_restore_30 ?_
    obtain ⟨h3, hV⟩ := hV
    refine z_aalS hC dX4_restore_33 (k_1167 _) (by decide) ps_1167 h3 ?_
    refine z_iconst (v := 1) hC dX4_restore_34 rfl ?_
    refine c_X4_424 hC (by decide) dX4_restore_35 (Nat.le_of_ble_eq_true rfl) hV (fun σ5 hV => ?_)
    refine z_aload_n hC dX4_restore_38 rfl rfl ?_
    refine g_X4_244_44 hC dX4_restore_39 ?_
    exact z_iret hC dX4_restore_42 rfl (by rw [hQo]; exact ⟨_, rfl, hV⟩)
  · replace hV := hV.1 hc
    refine z_iconst (v := (-1)) hC dX4_restore_12 rfl ?_
    exact z_iret hC dX4_restore_13 rfl (by rw [hQo]; exact ⟨_, rfl, hV⟩)
def V_X4_ride_48 (Ret : Int32 → ZS → Prop) (σ : ZS) (x1 : Int32) (x2 : Int32) (x3 : Int32) (s0 : Int32) : Prop :=
    wp_X4_bad σ s0 2 (fun r8 σ9 => ((r8 = 0 → (wp_X4_asks σ9 x3 (fun σ11 => wp_X4_rideOf σ11 x1 x2 (fun r12 σ13 => Ret r12 σ13)))) ∧ (¬ r8 = 0 → (Ret 0 σ9))))
def V_X4_ride_27 (Ret : Int32 → ZS → Prop) (σ : ZS) (x1 : Int32) (x2 : Int32) (x3 : Int32) (s0 : Int32) : Prop :=
    wp_X4_bad σ s0 1 (fun r4 σ5 => ((r4 = 0 → (wp_X4_isTime σ5 x3 (fun r6 σ7 => ((r6 = 0 → (V_X4_ride_48 Ret σ7 x1 x2 x3 1)) ∧ (¬ r6 = 0 → (V_X4_ride_48 Ret σ7 x1 x2 x3 0)))))) ∧ (¬ r4 = 0 → (Ret 0 σ5))))
def V_X4_ride_22 (Ret : Int32 → ZS → Prop) (σ : ZS) (x1 : Int32) (x2 : Int32) (x3 : Int32) : Prop :=
    V_X4_ride_27 Ret σ x1 x2 x3 1
def wp_X4_ride (σ : ZS) (a1 : Int32) (a2 : Int32) (a3 : Int32) (Ret : Int32 → ZS → Prop) : Prop :=
    ∀ σ1 : ZS, σ1 = sI σ 44 0 0 → (wp_X4_isCorner σ1 a1 (fun r2 σ3 => ((r2 = 0 → (V_X4_ride_22 Ret σ3 a1 a2 a3)) ∧ (¬ r2 = 0 → (wp_X4_isCorner σ3 a2 (fun r14 σ15 => ((r14 = 0 → (V_X4_ride_22 Ret σ15 a1 a2 a3)) ∧ (¬ r14 = 0 → (V_X4_ride_27 Ret σ15 a1 a2 a3 0)))))))))
set_option maxHeartbeats 4000000 in
theorem mz_X4_ride {l : Launch} {E : ZE} (hE : EOK E) {σ : ZS} {a1 : Int32} {a2 : Int32} {a3 : Int32} {Ret : Int32 → ZS → Prop} (hV : wp_X4_ride σ a1 a2 a3 Ret) : MZ l E NS yX4_ride (ws_ yX4_ride cX4_ride 4 (some .int)) 7 σ [.ref (E.1.heap.size + 44), .int a1, .int a2, .int a3] (rI Ret) := by
  refine MZ.start (L := [some (.ref (E.1.heap.size + 44)), some (.int a1), some (.int a2), some (.int a3)]) hE (by decide) (Nat.le_of_ble_eq_true rfl) rfl fun C hCl hQo hC => ?_
  replace hC : Cx C E cX4_ride 4 "RightTurnsModel" "ride" (some .int) [] 7 := hC
  unfold wp_X4_ride at hV
  have j_48 : ∀ (σ : ZS) (x1 : Int32) (x2 : Int32) (x3 : Int32) (s0 : Int32), V_X4_ride_48 Ret σ x1 x2 x3 s0 → zz C E NS 4 σ 48 [some (.ref (E.1.heap.size + 44)), some (.int x1), some (.int x2), some (.int x3)] [.int s0, .ref (E.1.heap.size + 44)] := by
    intro σ x1 x2 x3 s0 hV
    unfold V_X4_ride_48 at hV
    refine z_iconst (v := 2) hC dX4_ride_48 rfl ?_
    refine c_X4_227 hC (by decide) dX4_ride_49 (Nat.le_of_ble_eq_true rfl) hV (fun r8 σ9 hV => ?_)
    refine z_if_eq (tgt := 57) hC dX4_ride_52 (by decide) (fun hc => ?_) (fun hc => ?_)
    · replace hV := hV.1 hc
      refine z_aload_n hC dX4_ride_57 rfl rfl ?_
      refine z_iload_n hC dX4_ride_58 rfl rfl ?_
      refine c_X4_310 hC (by decide) dX4_ride_59 (Nat.le_of_ble_eq_true rfl) hV (fun σ11 hV => ?_)
      refine z_aload_n hC dX4_ride_62 rfl rfl ?_
      refine z_iload_n hC dX4_ride_63 rfl rfl ?_
      refine z_iload_n hC dX4_ride_64 rfl rfl ?_
      refine c_X4_313 hC (by decide) dX4_ride_65 (Nat.le_of_ble_eq_true rfl) hV (fun r12 σ13 hV => ?_)
      exact z_iret hC dX4_ride_68 rfl (by rw [hQo]; exact ⟨_, rfl, hV⟩)
    · replace hV := hV.2 hc
      refine z_iconst (v := 0) hC dX4_ride_55 rfl ?_
      exact z_iret hC dX4_ride_56 rfl (by rw [hQo]; exact ⟨_, rfl, hV⟩)
  have j_27 : ∀ (σ : ZS) (x1 : Int32) (x2 : Int32) (x3 : Int32) (s0 : Int32), V_X4_ride_27 Ret σ x1 x2 x3 s0 → zz C E NS 4 σ 27 [some (.ref (E.1.heap.size + 44)), some (.int x1), some (.int x2), some (.int x3)] [.int s0, .ref (E.1.heap.size + 44)] := by
    intro σ x1 x2 x3 s0 hV
    unfold V_X4_ride_27 at hV
    refine z_iconst (v := 1) hC dX4_ride_27 rfl ?_
    refine c_X4_227 hC (by decide) dX4_ride_28 (Nat.le_of_ble_eq_true rfl) hV (fun r4 σ5 hV => ?_)
    refine z_if_ne (tgt := 55) hC dX4_ride_31 (by decide) (fun hc => ?_) (fun hc => ?_)
    · replace hV := hV.2 hc
      refine z_iconst (v := 0) hC dX4_ride_55 rfl ?_
      exact z_iret hC dX4_ride_56 rfl (by rw [hQo]; exact ⟨_, rfl, hV⟩)
    · replace hV := hV.1 hc
      refine z_aload_n hC dX4_ride_34 rfl rfl ?_
      refine z_aload_n hC dX4_ride_35 rfl rfl ?_
      refine z_iload_n hC dX4_ride_36 rfl rfl ?_
      refine c_X4_281 hC (by decide) dX4_ride_37 (Nat.le_of_ble_eq_true rfl) hV (fun r6 σ7 hV => ?_)
      refine z_if_ne (tgt := 47) hC dX4_ride_40 (by decide) (fun hc => ?_) (fun hc => ?_)
      · replace hV := hV.2 hc
        refine z_iconst (v := 0) hC dX4_ride_47 rfl ?_
        refine zz_sub (L' := [some (.ref (E.1.heap.size + 44)), some (.int x1), some (.int x2), some (.int x3)]) ⟨rfl, rfl, rfl, rfl, trivial⟩ ?_
        exact j_48 σ7 x1 x2 x3 0 hV
      · replace hV := hV.1 hc
        refine z_iconst (v := 1) hC dX4_ride_43 rfl ?_
        refine z_goto (tgt := 48) hC dX4_ride_44 (by decide) ?_
        refine zz_sub (L' := [some (.ref (E.1.heap.size + 44)), some (.int x1), some (.int x2), some (.int x3)]) ⟨rfl, rfl, rfl, rfl, trivial⟩ ?_
        exact j_48 σ7 x1 x2 x3 1 hV
  have j_22 : ∀ (σ : ZS) (x1 : Int32) (x2 : Int32) (x3 : Int32), V_X4_ride_22 Ret σ x1 x2 x3 → zz C E NS 4 σ 22 [some (.ref (E.1.heap.size + 44)), some (.int x1), some (.int x2), some (.int x3)] [.ref (E.1.heap.size + 44)] := by
    intro σ x1 x2 x3 hV
    unfold V_X4_ride_22 at hV
    refine z_iconst (v := 1) hC dX4_ride_22 rfl ?_
    refine z_goto (tgt := 27) hC dX4_ride_23 (by decide) ?_
    refine zz_sub (L' := [some (.ref (E.1.heap.size + 44)), some (.int x1), some (.int x2), some (.int x3)]) ⟨rfl, rfl, rfl, rfl, trivial⟩ ?_
    exact j_27 σ x1 x2 x3 1 hV
  refine z_aload_n hC dX4_ride_0 rfl rfl ?_
  refine z_iconst (v := 0) hC dX4_ride_1 rfl ?_
  refine p_X4_131_c3 hC dX4_ride_2 (k_44 _) ?_
  obtain ⟨σ1, e_σ1⟩ : ∃ z : ZS, z = sI σ 44 0 0 := ⟨_, rfl⟩
  replace hV := hV _ e_σ1
  rw [← e_σ1]
  refine z_aload_n hC dX4_ride_5 rfl rfl ?_
  refine z_aload_n hC dX4_ride_6 rfl rfl ?_
  refine z_iload_n hC dX4_ride_7 rfl rfl ?_
  refine c_X4_307 hC (by decide) dX4_ride_8 (Nat.le_of_ble_eq_true rfl) hV (fun r2 σ3 hV => ?_)
  refine z_if_eq (tgt := 22) hC dX4_ride_11 (by decide) (fun hc => ?_) (fun hc => ?_)
  · replace hV := hV.1 hc
    refine zz_sub (L' := [some (.ref (E.1.heap.size + 44)), some (.int a1), some (.int a2), some (.int a3)]) ⟨rfl, rfl, rfl, rfl, trivial⟩ ?_
    exact j_22 σ3 a1 a2 a3 hV
  · replace hV := hV.2 hc
    refine z_aload_n hC dX4_ride_14 rfl rfl ?_
    refine z_iload_n hC dX4_ride_15 rfl rfl ?_
    refine c_X4_307 hC (by decide) dX4_ride_16 (Nat.le_of_ble_eq_true rfl) hV (fun r14 σ15 hV => ?_)
    refine z_if_ne (tgt := 26) hC dX4_ride_19 (by decide) (fun hc => ?_) (fun hc => ?_)
    · replace hV := hV.2 hc
      refine z_iconst (v := 0) hC dX4_ride_26 rfl ?_
      refine zz_sub (L' := [some (.ref (E.1.heap.size + 44)), some (.int a1), some (.int a2), some (.int a3)]) ⟨rfl, rfl, rfl, rfl, trivial⟩ ?_
      exact j_27 σ15 a1 a2 a3 0 hV
    · replace hV := hV.1 hc
      refine zz_sub (L' := [some (.ref (E.1.heap.size + 44)), some (.int a1), some (.int a2), some (.int a3)]) ⟨rfl, rfl, rfl, rfl, trivial⟩ ?_
      exact j_22 σ15 a1 a2 a3 hV
theorem g_X4_104_44 {C : ZC} {E : ZE} {cc : ByteArray} {nL pc d : Nat} {nm : String} {ret : Option FieldType} {hh : List (Nat × Nat × Nat × Nat)} {σ : ZS} {L : List (Option Value)} {st : List Value} (hC : Cx C E cc nL "RightTurnsModel" nm ret hh d) (hd : decode cc pc = .ok (.getfield 104, 3)) (k : zz C E NS nL σ (pc + 3) L (.ref (E.1.heap.size + 1171) :: st)) : zz C E NS nL σ pc L (.ref (E.1.heap.size + 44) :: st) :=
  z_get hC cf3 hd (k_44 σ) (k := 46) (by decide) (Or.inl q1631) (Or.inl rfl) rfl k
theorem cw_X4_boxAt : CodeW yX4_boxAt (ws_ yX4_boxAt cX4_boxAt 5 (some .int)) 5 := ⟨fun w h => (List.mem_cons.mp h).elim (fun e => e ▸ q2097) id, Or.inl ⟨_, _, q2097⟩, q138, by decide, by decide⟩
theorem c_X4_366 {C : ZC} {E : ZE} {cc : ByteArray} {nL pc d : Nat} {nm : String} {ret : Option FieldType} {hh : List (Nat × Nat × Nat × Nat)} {σ : ZS} {L : List (Option Value)} {st : List Value} {a1 : Int32} {a2 : Int32} {Ret : Int32 → ZS → Prop} (hC : Cx C E cc nL "RightTurnsModel" nm ret hh d) (hdd : 1 + 1 ≤ d) (hd : decode cc pc = .ok (.invokevirtual 366, 3)) (hW : (st.map fun v => v.category).sum ≤ 8) (hV : wp_X4_boxAt σ a1 a2 Ret) (k : ∀ r σ', Ret r σ' → zz C E NS nL σ' (pc + 3) L (.int r :: st)) : zz C E NS nL σ pc L (.int a2 :: .int a1 :: .ref (E.1.heap.size + 44) :: st) :=
  z_callVG hC cf3 cw_X4_boxAt hdd (by decide) (mz_X4_boxAt (cxE hC) hV) hd (k_44 σ) q2094 q2096 qs103 (np := 2) rfl rfl hW rfl (kI k)
def VL_X4_spreads_30 (Ret : Int32 → ZS → Prop) : Nat → ZS → Int32 → Int32 → Int32 → Int32 → Int32 → Prop
  | 0 => fun _ _ _ _ _ _ => False
  | k + 1 => fun σ x1 x2 x3 x4 x5 =>
    let K30 := VL_X4_spreads_30 Ret k
    ((x5 < (2 * (zI σ 47 (ix 1))) → (wp_X4_isAfter σ x1 x5 (fun r6 σ7 => ((r6 = 0 → (∀ y27 : Int32, y27 = x5 + 1 → (K30 σ7 x1 x2 x3 x4 y27))) ∧ (¬ r6 = 0 → (wp_X4_endOf σ7 x5 (fun r8 σ9 => wp_X4_boxAt σ9 r8 x3 (fun r10 σ11 => ∀ y12 : Int32, y12 = x2 ||| r10 → (vp_in x1 48 ∧ (vp_in x2 1024 ∧ (wp_X4_longOf σ11 x5 (fun r15 σ16 => ∀ y17 : Int32, y17 = (zI σ11 (1171 + 1 + ix x1) (ix x2)) + r15 → (vp_in x5 48 ∧ (vp_in y12 1024 ∧ (((y17 < (zI σ16 (1171 + 1 + ix x5) (ix y12)) → (vp_in x5 48 ∧ (vp_in y12 1024 ∧ (∀ σ22 : ZS, σ22 = sI σ16 (1171 + 1 + ix x5) (ix y12) y17 → (((x4 = 0 → (((y12 = x2 → (∀ y25 : Int32, y25 = x5 + 1 → (K30 σ22 x1 x2 x3 1 y25))) ∧ (¬ y12 = x2 → (∀ y24 : Int32, y24 = x5 + 1 → (K30 σ22 x1 x2 x3 0 y24)))))) ∧ (¬ x4 = 0 → (∀ y23 : Int32, y23 = x5 + 1 → (K30 σ22 x1 x2 x3 1 y23))))))))) ∧ (¬ y17 < (zI σ16 (1171 + 1 + ix x5) (ix y12)) → (∀ y26 : Int32, y26 = x5 + 1 → (K30 σ16 x1 x2 x3 x4 y26))))))))))))))))))) ∧ (¬ x5 < (2 * (zI σ 47 (ix 1))) → (isB x4 ∧ (Ret x4 σ))))
def V_X4_spreads_30 (Ret : Int32 → ZS → Prop) (σ : ZS) (x1 : Int32) (x2 : Int32) (x3 : Int32) (x4 : Int32) (x5 : Int32) : Prop := ∃ k, VL_X4_spreads_30 Ret k σ x1 x2 x3 x4 x5
def wp_X4_spreads (σ : ZS) (a1 : Int32) (a2 : Int32) (a3 : Int32) (Ret : Int32 → ZS → Prop) : Prop :=
    wp_X4_isArc σ a1 (fun r1 σ2 => ((r1 = 0 → (Ret 0 σ2)) ∧ (¬ r1 = 0 → (vp_in a1 48 ∧ (vp_in a2 1024 ∧ ((((zI σ2 (1171 + 1 + ix a1) (ix a2)) = 1000000000 → (Ret 0 σ2)) ∧ (¬ (zI σ2 (1171 + 1 + ix a1) (ix a2)) = 1000000000 → (V_X4_spreads_30 Ret σ2 a1 a2 a3 0 0)))))))))
set_option maxHeartbeats 4000000 in
theorem mz_X4_spreads {l : Launch} {E : ZE} (hE : EOK E) {σ : ZS} {a1 : Int32} {a2 : Int32} {a3 : Int32} {Ret : Int32 → ZS → Prop} (hV : wp_X4_spreads σ a1 a2 a3 Ret) : MZ l E NS yX4_spreads (ws_ yX4_spreads cX4_spreads 8 (some .boolean)) 3 σ [.ref (E.1.heap.size + 44), .int a1, .int a2, .int a3] (rI Ret) := by
  refine MZ.start (L := [some (.ref (E.1.heap.size + 44)), some (.int a1), some (.int a2), some (.int a3), none, none, none, none]) hE (by decide) (Nat.le_of_ble_eq_true rfl) rfl fun C hCl hQo hC => ?_
  replace hC : Cx C E cX4_spreads 8 "RightTurnsModel" "spreads" (some .boolean) [] 3 := hC
  unfold wp_X4_spreads at hV
  have j_30 : ∀ (σ : ZS) (x1 : Int32) (x2 : Int32) (x3 : Int32) (x4 : Int32) (x5 : Int32), V_X4_spreads_30 Ret σ x1 x2 x3 x4 x5 → zz C E NS 8 σ 30 [some (.ref (E.1.heap.size + 44)), some (.int x1), some (.int x2), some (.int x3), some (.int x4), some (.int x5), none, none] [] := by
    intro σ x1 x2 x3 x4 x5 ⟨k, hV⟩
    revert σ x1 x2 x3 x4 x5
    induction k with
    | zero => exact fun _ _ _ _ _ _ hV => hV.elim
    | succ k j_30 =>
      intro σ x1 x2 x3 x4 x5 hV
      simp only [VL_X4_spreads_30] at hV
      generalize hKe30 : VL_X4_spreads_30 Ret k = K30 at hV j_30
      clear hKe30
      refine z_iload hC dX4_spreads_30 rfl ?_
      refine z_iconst (v := 2) hC dX4_spreads_32 rfl ?_
      refine z_aload_n hC dX4_spreads_33 rfl rfl ?_
      refine g_X4_20_44 hC dX4_spreads_34 ?_
      refine z_iconst (v := 1) hC dX4_spreads_37 rfl ?_
      refine z_iald hC dX4_spreads_38 (k_47 _) (in_dec rfl) ?_
      refine z_imul hC dX4_spreads_39 ?_
      refine z_icmp_ge (tgt := 142) hC dX4_spreads_40 (by decide) (fun hc => ?_) (fun hc => ?_)
      · replace hV := hV.2 hc
        refine z_iload hC dX4_spreads_142 rfl ?_
        obtain ⟨h5, hV⟩ := hV
        exact z_iret hC dX4_spreads_144 h5 (by rw [hQo]; exact ⟨_, rfl, hV⟩)
      · replace hV := hV.1 hc
        refine z_aload_n hC dX4_spreads_43 rfl rfl ?_
        refine z_iload_n hC dX4_spreads_44 rfl rfl ?_
        refine z_iload hC dX4_spreads_45 rfl ?_
        refine c_X4_298 hC (by decide) dX4_spreads_47 (Nat.le_of_ble_eq_true rfl) hV (fun r6 σ7 hV => ?_)
        refine z_if_ne (tgt := 56) hC dX4_spreads_50 (by decide) (fun hc => ?_) (fun hc => ?_)
        · replace hV := hV.2 hc
          refine z_iload_n hC dX4_spreads_56 rfl rfl ?_
          refine z_aload_n hC dX4_spreads_57 rfl rfl ?_
          refine z_aload_n hC dX4_spreads_58 rfl rfl ?_
          refine z_iload hC dX4_spreads_59 rfl ?_
          refine c_X4_250 hC (by decide) dX4_spreads_61 (Nat.le_of_ble_eq_true rfl) hV (fun r8 σ9 hV => ?_)
          refine z_iload_n hC dX4_spreads_64 rfl rfl ?_
          refine c_X4_366 hC (by decide) dX4_spreads_65 (Nat.le_of_ble_eq_true rfl) hV (fun r10 σ11 hV => ?_)
          refine z_ior hC dX4_spreads_68 ?_
          obtain ⟨y12, e_y12⟩ : ∃ z, z = x2 ||| r10 := ⟨_, rfl⟩
          rw [← e_y12]
          replace hV := hV _ e_y12
          refine z_istore hC dX4_spreads_69 (Nat.le_of_ble_eq_true rfl) rfl rfl ?_
          refine z_aload_n hC dX4_spreads_71 rfl rfl ?_
          refine g_X4_104_44 hC dX4_spreads_72 ?_
          refine z_iload_n hC dX4_spreads_75 rfl rfl ?_
          obtain ⟨h13, hV⟩ := hV
          refine z_aalS hC dX4_spreads_76 (k_1171 _) (by decide) ps_1171 h13 ?_
          refine z_iload_n hC dX4_spreads_77 rfl rfl ?_
          obtain ⟨h14, hV⟩ := hV
          refine z_iald hC dX4_spreads_78 (kr_1171 _ (ix_lt h13)) (h14) ?_
          refine z_aload_n hC dX4_spreads_79 rfl rfl ?_
          refine z_iload hC dX4_spreads_80 rfl ?_
          refine c_X4_295 hC (by decide) dX4_spreads_82 (Nat.le_of_ble_eq_true rfl) hV (fun r15 σ16 hV => ?_)
          refine z_iadd hC dX4_spreads_85 ?_
          obtain ⟨y17, e_y17⟩ : ∃ z, z = (zI σ11 (1171 + 1 + ix x1) (ix x2)) + r15 := ⟨_, rfl⟩
          rw [← e_y17]
          replace hV := hV _ e_y17
          refine z_istore hC dX4_spreads_86 (Nat.le_of_ble_eq_true rfl) rfl rfl ?_
          refine z_iload hC dX4_spreads_88 rfl ?_
          refine z_aload_n hC dX4_spreads_90 rfl rfl ?_
          refine g_X4_104_44 hC dX4_spreads_91 ?_
          refine z_iload hC dX4_spreads_94 rfl ?_
          obtain ⟨h18, hV⟩ := hV
          refine z_aalS hC dX4_spreads_96 (k_1171 _) (by decide) ps_1171 h18 ?_
          refine z_iload hC dX4_spreads_97 rfl ?_
          obtain ⟨h19, hV⟩ := hV
          refine z_iald hC dX4_spreads_99 (kr_1171 _ (ix_lt h18)) (h19) ?_
          refine z_icmp_lt (tgt := 106) hC dX4_spreads_100 (by decide) (fun hc => ?_) (fun hc => ?_)
          · replace hV := hV.1 hc
            refine z_aload_n hC dX4_spreads_106 rfl rfl ?_
            refine g_X4_104_44 hC dX4_spreads_107 ?_
            refine z_iload hC dX4_spreads_110 rfl ?_
            obtain ⟨h20, hV⟩ := hV
            refine z_aalS hC dX4_spreads_112 (k_1171 _) (by decide) ps_1171 h20 ?_
            refine z_iload hC dX4_spreads_113 rfl ?_
            refine z_iload hC dX4_spreads_115 rfl ?_
            obtain ⟨h21, hV⟩ := hV
            refine z_iast hC dX4_spreads_117 (kr_1171 _ (ix_lt h20)) (h21) ?_
            obtain ⟨σ22, e_σ22⟩ : ∃ z : ZS, z = sI σ16 (1171 + 1 + ix x5) (ix y12) y17 := ⟨_, rfl⟩
            replace hV := hV _ e_σ22
            rw [← e_σ22]
            refine z_iload hC dX4_spreads_118 rfl ?_
            refine z_if_ne (tgt := 129) hC dX4_spreads_120 (by decide) (fun hc => ?_) (fun hc => ?_)
            · replace hV := hV.2 hc
              refine z_iconst (v := 1) hC dX4_spreads_129 rfl ?_
              refine z_goto (tgt := 134) hC dX4_spreads_130 (by decide) ?_
              refine z_istore hC dX4_spreads_134 (Nat.le_of_ble_eq_true rfl) rfl rfl ?_
              obtain ⟨y23, e_y23⟩ : ∃ z : Int32, z = x5 + 1 := ⟨_, rfl⟩
              replace hV := hV _ e_y23
              refine z_iinc (v := y23) hC dX4_spreads_136 rfl (by rw [e_y23]; rfl) (Nat.le_of_ble_eq_true rfl) rfl rfl ?_
              refine z_goto (tgt := 30) hC dX4_spreads_139 (by decide) ?_
              refine zz_sub (L' := [some (.ref (E.1.heap.size + 44)), some (.int x1), some (.int x2), some (.int x3), some (.int 1), some (.int y23), none, none]) ⟨rfl, rfl, rfl, rfl, rfl, rfl, trivial⟩ ?_
              exact j_30 σ22 x1 x2 x3 1 y23 hV
            · replace hV := hV.1 hc
              refine z_iload hC dX4_spreads_123 rfl ?_
              refine z_iload_n hC dX4_spreads_125 rfl rfl ?_
              refine z_icmp_ne (tgt := 133) hC dX4_spreads_126 (by decide) (fun hc => ?_) (fun hc => ?_)
              · replace hV := hV.2 hc
                refine z_iconst (v := 0) hC dX4_spreads_133 rfl ?_
                refine z_istore hC dX4_spreads_134 (Nat.le_of_ble_eq_true rfl) rfl rfl ?_
                obtain ⟨y24, e_y24⟩ : ∃ z : Int32, z = x5 + 1 := ⟨_, rfl⟩
                replace hV := hV _ e_y24
                refine z_iinc (v := y24) hC dX4_spreads_136 rfl (by rw [e_y24]; rfl) (Nat.le_of_ble_eq_true rfl) rfl rfl ?_
                refine z_goto (tgt := 30) hC dX4_spreads_139 (by decide) ?_
                refine zz_sub (L' := [some (.ref (E.1.heap.size + 44)), some (.int x1), some (.int x2), some (.int x3), some (.int 0), some (.int y24), none, none]) ⟨rfl, rfl, rfl, rfl, rfl, rfl, trivial⟩ ?_
                exact j_30 σ22 x1 x2 x3 0 y24 hV
              · replace hV := hV.1 hc
                refine z_iconst (v := 1) hC dX4_spreads_129 rfl ?_
                refine z_goto (tgt := 134) hC dX4_spreads_130 (by decide) ?_
                refine z_istore hC dX4_spreads_134 (Nat.le_of_ble_eq_true rfl) rfl rfl ?_
                obtain ⟨y25, e_y25⟩ : ∃ z : Int32, z = x5 + 1 := ⟨_, rfl⟩
                replace hV := hV _ e_y25
                refine z_iinc (v := y25) hC dX4_spreads_136 rfl (by rw [e_y25]; rfl) (Nat.le_of_ble_eq_true rfl) rfl rfl ?_
                refine z_goto (tgt := 30) hC dX4_spreads_139 (by decide) ?_
                refine zz_sub (L' := [some (.ref (E.1.heap.size + 44)), some (.int x1), some (.int x2), some (.int x3), some (.int 1), some (.int y25), none, none]) ⟨rfl, rfl, rfl, rfl, rfl, rfl, trivial⟩ ?_
                exact j_30 σ22 x1 x2 x3 1 y25 hV
          · replace hV := hV.2 hc
            refine z_goto (tgt := 136) hC dX4_spreads_103 (by decide) ?_
            obtain ⟨y26, e_y26⟩ : ∃ z : Int32, z = x5 + 1 := ⟨_, rfl⟩
            replace hV := hV _ e_y26
            refine z_iinc (v := y26) hC dX4_spreads_136 rfl (by rw [e_y26]; rfl) (Nat.le_of_ble_eq_true rfl) rfl rfl ?_
            refine z_goto (tgt := 30) hC dX4_spreads_139 (by decide) ?_
            refine zz_sub (L' := [some (.ref (E.1.heap.size + 44)), some (.int x1), some (.int x2), some (.int x3), some (.int x4), some (.int y26), none, none]) ⟨rfl, rfl, rfl, rfl, rfl, rfl, trivial⟩ ?_
            exact j_30 σ16 x1 x2 x3 x4 y26 hV
        · replace hV := hV.1 hc
          refine z_goto (tgt := 136) hC dX4_spreads_53 (by decide) ?_
          obtain ⟨y27, e_y27⟩ : ∃ z : Int32, z = x5 + 1 := ⟨_, rfl⟩
          replace hV := hV _ e_y27
          refine z_iinc (v := y27) hC dX4_spreads_136 rfl (by rw [e_y27]; rfl) (Nat.le_of_ble_eq_true rfl) rfl rfl ?_
          refine z_goto (tgt := 30) hC dX4_spreads_139 (by decide) ?_
          refine zz_sub (L' := [some (.ref (E.1.heap.size + 44)), some (.int x1), some (.int x2), some (.int x3), some (.int x4), some (.int y27), none, none]) ⟨rfl, rfl, rfl, rfl, rfl, rfl, trivial⟩ ?_
          exact j_30 σ7 x1 x2 x3 x4 y27 hV
  refine z_aload_n hC dX4_spreads_0 rfl rfl ?_
  refine z_iload_n hC dX4_spreads_1 rfl rfl ?_
  refine c_X4_262 hC (by decide) dX4_spreads_2 (Nat.le_of_ble_eq_true rfl) hV (fun r1 σ2 hV => ?_)
  refine z_if_eq (tgt := 22) hC dX4_spreads_5 (by decide) (fun hc => ?_) (fun hc => ?_)
  · replace hV := hV.1 hc
    refine z_iconst (v := 0) hC dX4_spreads_22 rfl ?_
    exact z_iret hC dX4_spreads_23 rfl (by rw [hQo]; exact ⟨_, rfl, hV⟩)
  · replace hV := hV.2 hc
    refine z_aload_n hC dX4_spreads_8 rfl rfl ?_
    refine g_X4_104_44 hC dX4_spreads_9 ?_
    refine z_iload_n hC dX4_spreads_12 rfl rfl ?_
    obtain ⟨h3, hV⟩ := hV
    refine z_aalS hC dX4_spreads_13 (k_1171 _) (by decide) ps_1171 h3 ?_
    refine z_iload_n hC dX4_spreads_14 rfl rfl ?_
    obtain ⟨h4, hV⟩ := hV
    refine z_iald hC dX4_spreads_15 (kr_1171 _ (ix_lt h3)) (h4) ?_
    refine z_ldcw hC dX4_spreads_16 q1981 ?_
    refine z_icmp_ne (tgt := 24) hC dX4_spreads_19 (by decide) (fun hc => ?_) (fun hc => ?_)
    · replace hV := hV.2 hc
      refine z_iconst (v := 0) hC dX4_spreads_24 rfl ?_
      refine z_istore hC dX4_spreads_25 (Nat.le_of_ble_eq_true rfl) rfl rfl ?_
      refine z_iconst (v := 0) hC dX4_spreads_27 rfl ?_
      refine z_istore hC dX4_spreads_28 (Nat.le_of_ble_eq_true rfl) rfl rfl ?_
      refine zz_sub (L' := [some (.ref (E.1.heap.size + 44)), some (.int a1), some (.int a2), some (.int a3), some (.int 0), some (.int 0), none, none]) ⟨rfl, rfl, rfl, rfl, rfl, rfl, trivial⟩ ?_
      exact j_30 σ2 a1 a2 a3 0 0 hV
    · replace hV := hV.1 hc
      refine z_iconst (v := 0) hC dX4_spreads_22 rfl ?_
      exact z_iret hC dX4_spreads_23 rfl (by rw [hQo]; exact ⟨_, rfl, hV⟩)
theorem cw_X4_spreads : CodeW yX4_spreads (ws_ yX4_spreads cX4_spreads 8 (some .boolean)) 8 := ⟨fun w h => (List.mem_cons.mp h).elim (fun e => e ▸ q2101) id, Or.inl ⟨_, _, q2101⟩, q138, by decide, by decide⟩
theorem c_X4_369 {C : ZC} {E : ZE} {cc : ByteArray} {nL pc d : Nat} {nm : String} {ret : Option FieldType} {hh : List (Nat × Nat × Nat × Nat)} {σ : ZS} {L : List (Option Value)} {st : List Value} {a1 : Int32} {a2 : Int32} {a3 : Int32} {Ret : Int32 → ZS → Prop} (hC : Cx C E cc nL "RightTurnsModel" nm ret hh d) (hdd : 3 + 1 ≤ d) (hd : decode cc pc = .ok (.invokevirtual 369, 3)) (hW : (st.map fun v => v.category).sum ≤ 8) (hV : wp_X4_spreads σ a1 a2 a3 Ret) (k : ∀ r σ', Ret r σ' → zz C E NS nL σ' (pc + 3) L (.int r :: st)) : zz C E NS nL σ pc L (.int a3 :: .int a2 :: .int a1 :: .ref (E.1.heap.size + 44) :: st) :=
  z_callVG hC cf3 cw_X4_spreads hdd (by decide) (mz_X4_spreads (cxE hC) hV) hd (k_44 σ) q2098 q2100 qs104 (np := 3) rfl rfl hW rfl (kI k)
def VL_X4_round_263 (Ret : Int32 → ZS → Prop) : Nat → ZS → Int32 → Int32 → Int32 → Int32 → Prop
  | 0 => fun _ _ _ _ _ => False
  | k + 1 => fun σ x1 x4 x5 x6 =>
    let K263 := VL_X4_round_263 Ret k
    ((x6 < (2 * (zI σ 47 (ix 1))) → (wp_X4_isArc σ x6 (fun r16 σ17 => ((r16 = 0 → (∀ y18 : Int32, y18 = x6 + 1 → (K263 σ17 x1 x4 x5 y18))) ∧ (¬ r16 = 0 → (wp_X4_endOf σ17 x6 (fun r19 σ20 => ((r19 = x1 → (vp_in x6 48 ∧ (vp_in x4 1024 ∧ ((((zI σ20 (1171 + 1 + ix x6) (ix x4)) < x5 → (vp_in x6 48 ∧ (vp_in x4 1024 ∧ (∀ y27 : Int32, y27 = zI σ20 (1171 + 1 + ix x6) (ix x4) → (∀ y28 : Int32, y28 = x6 + 1 → (K263 σ20 x1 x4 y27 y28)))))) ∧ (¬ (zI σ20 (1171 + 1 + ix x6) (ix x4)) < x5 → (∀ y24 : Int32, y24 = x6 + 1 → (K263 σ20 x1 x4 x5 y24)))))))) ∧ (¬ r19 = x1 → (∀ y21 : Int32, y21 = x6 + 1 → (K263 σ20 x1 x4 x5 y21))))))))))) ∧ (¬ x6 < (2 * (zI σ 47 (ix 1))) → (((x5 = 1000000000 → (Ret (-1) σ)) ∧ (¬ x5 = 1000000000 → (Ret x5 σ))))))
def V_X4_round_263 (Ret : Int32 → ZS → Prop) (σ : ZS) (x1 : Int32) (x4 : Int32) (x5 : Int32) (x6 : Int32) : Prop := ∃ k, VL_X4_round_263 Ret k σ x1 x4 x5 x6
def VL_X4_round_208 (K187 : ZS → Int32 → Int32 → Int32 → Int32 → Int32 → Prop) (K197 : ZS → Int32 → Int32 → Int32 → Int32 → Int32 → Int32 → Prop) (Ret : Int32 → ZS → Prop) : Nat → ZS → Int32 → Int32 → Int32 → Int32 → Int32 → Int32 → Int32 → Prop
  | 0 => fun _ _ _ _ _ _ _ _ => False
  | k + 1 => fun σ x1 x3 x4 x5 x6 x7 x8 =>
    let K208 := VL_X4_round_208 K187 K197 Ret k
    ((x8 < (2 * (zI σ 47 (ix 1))) → (wp_X4_spreads σ x8 x6 x3 (fun r30 σ31 => ((r30 = 0 → (((x7 = 0 → (∀ y33 : Int32, y33 = x8 + 1 → (K208 σ31 x1 x3 x4 x5 x6 0 y33))) ∧ (¬ x7 = 0 → (∀ y34 : Int32, y34 = x8 + 1 → (K208 σ31 x1 x3 x4 x5 x6 1 y34)))))) ∧ (¬ r30 = 0 → (∀ y32 : Int32, y32 = x8 + 1 → (K208 σ31 x1 x3 x4 x5 x6 1 y32))))))) ∧ (¬ x8 < (2 * (zI σ 47 (ix 1))) → (K197 σ x1 x3 x4 x5 x6 x7)))
def V_X4_round_208 (K187 : ZS → Int32 → Int32 → Int32 → Int32 → Int32 → Prop) (K197 : ZS → Int32 → Int32 → Int32 → Int32 → Int32 → Int32 → Prop) (Ret : Int32 → ZS → Prop) (σ : ZS) (x1 : Int32) (x3 : Int32) (x4 : Int32) (x5 : Int32) (x6 : Int32) (x7 : Int32) (x8 : Int32) : Prop := ∃ k, VL_X4_round_208 K187 K197 Ret k σ x1 x3 x4 x5 x6 x7 x8
def VL_X4_round_197 (K187 : ZS → Int32 → Int32 → Int32 → Int32 → Int32 → Prop) (Ret : Int32 → ZS → Prop) : Nat → ZS → Int32 → Int32 → Int32 → Int32 → Int32 → Int32 → Prop
  | 0 => fun _ _ _ _ _ _ _ => False
  | k + 1 => fun σ x1 x3 x4 x5 x6 x7 =>
    let K197 := VL_X4_round_197 K187 Ret k
    ((x7 = 0 → (∀ y29 : Int32, y29 = x6 + 1 → (K187 σ x1 x3 x4 x5 y29))) ∧ (¬ x7 = 0 → (V_X4_round_208 K187 K197 Ret σ x1 x3 x4 x5 x6 0 0)))
def V_X4_round_197 (K187 : ZS → Int32 → Int32 → Int32 → Int32 → Int32 → Prop) (Ret : Int32 → ZS → Prop) (σ : ZS) (x1 : Int32) (x3 : Int32) (x4 : Int32) (x5 : Int32) (x6 : Int32) (x7 : Int32) : Prop := ∃ k, VL_X4_round_197 K187 Ret k σ x1 x3 x4 x5 x6 x7
def VL_X4_round_187 (Ret : Int32 → ZS → Prop) : Nat → ZS → Int32 → Int32 → Int32 → Int32 → Int32 → Prop
  | 0 => fun _ _ _ _ _ _ => False
  | k + 1 => fun σ x1 x3 x4 x5 x6 =>
    let K187 := VL_X4_round_187 Ret k
    ((x4 < x6 → (V_X4_round_263 Ret σ x1 x4 x5 0)) ∧ (¬ x4 < x6 → (V_X4_round_197 K187 Ret σ x1 x3 x4 x5 x6 1)))
def V_X4_round_187 (Ret : Int32 → ZS → Prop) (σ : ZS) (x1 : Int32) (x3 : Int32) (x4 : Int32) (x5 : Int32) (x6 : Int32) : Prop := ∃ k, VL_X4_round_187 Ret k σ x1 x3 x4 x5 x6
def VL_X4_round_103 (K87 : ZS → Int32 → Int32 → Int32 → Int32 → Prop) (Ret : Int32 → ZS → Prop) : Nat → ZS → Int32 → Int32 → Int32 → Int32 → Int32 → Prop
  | 0 => fun _ _ _ _ _ _ => False
  | k + 1 => fun σ x1 x3 x4 x5 x6 =>
    let K103 := VL_X4_round_103 K87 Ret k
    ((x4 < x6 → (wp_X4_isArc σ x5 (fun r35 σ36 => ((r35 = 0 → (∀ y37 : Int32, y37 = x5 + 1 → (K87 σ36 x1 x3 x4 y37))) ∧ (¬ r35 = 0 → (wp_X4_beginOf σ36 x5 (fun r38 σ39 => ((r38 = x1 → (vp_in x5 48 ∧ (wp_X4_endOf σ39 x5 (fun r42 σ43 => wp_X4_boxAt σ43 r42 x3 (fun r44 σ45 => wp_X4_longOf σ45 x5 (fun r46 σ47 => vp_in r44 1024 ∧ (∀ σ49 : ZS, σ49 = sI σ47 (1171 + 1 + ix x5) (ix r44) r46 → (∀ y50 : Int32, y50 = x5 + 1 → (K87 σ49 x1 x3 x4 y50))))))))) ∧ (¬ r38 = x1 → (∀ y40 : Int32, y40 = x5 + 1 → (K87 σ39 x1 x3 x4 y40))))))))))) ∧ (¬ x4 < x6 → (vp_in x5 48 ∧ (vp_in x6 1024 ∧ (∀ σ53 : ZS, σ53 = sI σ (1171 + 1 + ix x5) (ix x6) 1000000000 → (∀ y54 : Int32, y54 = x6 + 1 → (K103 σ53 x1 x3 x4 x5 y54)))))))
def V_X4_round_103 (K87 : ZS → Int32 → Int32 → Int32 → Int32 → Prop) (Ret : Int32 → ZS → Prop) (σ : ZS) (x1 : Int32) (x3 : Int32) (x4 : Int32) (x5 : Int32) (x6 : Int32) : Prop := ∃ k, VL_X4_round_103 K87 Ret k σ x1 x3 x4 x5 x6
def VL_X4_round_87 (Ret : Int32 → ZS → Prop) : Nat → ZS → Int32 → Int32 → Int32 → Int32 → Prop
  | 0 => fun _ _ _ _ _ => False
  | k + 1 => fun σ x1 x3 x4 x5 =>
    let K87 := VL_X4_round_87 Ret k
    ((x5 < (2 * (zI σ 47 (ix 1))) → (V_X4_round_103 K87 Ret σ x1 x3 x4 x5 0)) ∧ (¬ x5 < (2 * (zI σ 47 (ix 1))) → (V_X4_round_187 Ret σ x1 x3 x4 1000000000 0)))
def V_X4_round_87 (Ret : Int32 → ZS → Prop) (σ : ZS) (x1 : Int32) (x3 : Int32) (x4 : Int32) (x5 : Int32) : Prop := ∃ k, VL_X4_round_87 Ret k σ x1 x3 x4 x5
def V_X4_round_40 (Ret : Int32 → ZS → Prop) (σ : ZS) (x1 : Int32) (x2 : Int32) (s0 : Int32) : Prop :=
    wp_X4_bad σ s0 2 (fun r8 σ9 => ((r8 = 0 → (wp_X4_asks σ9 x2 (fun σ11 => ∀ y12 : Int32, y12 = (zI σ11 47 (ix 2)) &&& (((1 : Int32) <<< (x1 &&& 31)) ^^^ (-1)) → (wp_X4_ones σ11 y12 (fun r13 σ14 => ∀ y15 : Int32, y15 = ((1 : Int32) <<< (r13 &&& 31)) - 1 → (((y15 = 0 → (Ret 0 σ14)) ∧ (¬ y15 = 0 → (V_X4_round_87 Ret σ14 x1 y12 y15 0))))))))) ∧ (¬ r8 = 0 → (Ret 0 σ9))))
def V_X4_round_19 (Ret : Int32 → ZS → Prop) (σ : ZS) (x1 : Int32) (x2 : Int32) (s0 : Int32) : Prop :=
    wp_X4_bad σ s0 1 (fun r4 σ5 => ((r4 = 0 → (wp_X4_isTime σ5 x2 (fun r6 σ7 => ((r6 = 0 → (V_X4_round_40 Ret σ7 x1 x2 1)) ∧ (¬ r6 = 0 → (V_X4_round_40 Ret σ7 x1 x2 0)))))) ∧ (¬ r4 = 0 → (Ret 0 σ5))))
def wp_X4_round (σ : ZS) (a1 : Int32) (a2 : Int32) (Ret : Int32 → ZS → Prop) : Prop :=
    ∀ σ1 : ZS, σ1 = sI σ 44 0 0 → (wp_X4_isCorner σ1 a1 (fun r2 σ3 => ((r2 = 0 → (V_X4_round_19 Ret σ3 a1 a2 1)) ∧ (¬ r2 = 0 → (V_X4_round_19 Ret σ3 a1 a2 0)))))
set_option maxHeartbeats 4000000 in
theorem mz_X4_round {l : Launch} {E : ZE} (hE : EOK E) {σ : ZS} {a1 : Int32} {a2 : Int32} {Ret : Int32 → ZS → Prop} (hV : wp_X4_round σ a1 a2 Ret) : MZ l E NS yX4_round (ws_ yX4_round cX4_round 9 (some .int)) 7 σ [.ref (E.1.heap.size + 44), .int a1, .int a2] (rI Ret) := by
  refine MZ.start (L := [some (.ref (E.1.heap.size + 44)), some (.int a1), some (.int a2), none, none, none, none, none, none]) hE (by decide) (Nat.le_of_ble_eq_true rfl) rfl fun C hCl hQo hC => ?_
  replace hC : Cx C E cX4_round 9 "RightTurnsModel" "round" (some .int) [] 7 := hC
  unfold wp_X4_round at hV
  have j_263 : ∀ (σ : ZS) (x1 : Int32) (x4 : Int32) (x5 : Int32) (x6 : Int32), V_X4_round_263 Ret σ x1 x4 x5 x6 → zz C E NS 9 σ 263 [some (.ref (E.1.heap.size + 44)), some (.int x1), none, none, some (.int x4), some (.int x5), some (.int x6), none, none] [] := by
    intro σ x1 x4 x5 x6 ⟨k, hV⟩
    revert σ x1 x4 x5 x6
    induction k with
    | zero => exact fun _ _ _ _ _ hV => hV.elim
    | succ k j_263 =>
      intro σ x1 x4 x5 x6 hV
      simp only [VL_X4_round_263] at hV
      generalize hKe263 : VL_X4_round_263 Ret k = K263 at hV j_263
      clear hKe263
      refine z_iload hC dX4_round_263 rfl ?_
      refine z_iconst (v := 2) hC dX4_round_265 rfl ?_
      refine z_aload_n hC dX4_round_266 rfl rfl ?_
      refine g_X4_20_44 hC dX4_round_267 ?_
      refine z_iconst (v := 1) hC dX4_round_270 rfl ?_
      refine z_iald hC dX4_round_271 (k_47 _) (in_dec rfl) ?_
      refine z_imul hC dX4_round_272 ?_
      refine z_icmp_ge (tgt := 328) hC dX4_round_273 (by decide) (fun hc => ?_) (fun hc => ?_)
      · replace hV := hV.2 hc
        refine z_iload hC dX4_round_328 rfl ?_
        refine z_ldcw hC dX4_round_330 q1981 ?_
        refine z_icmp_ne (tgt := 340) hC dX4_round_333 (by decide) (fun hc => ?_) (fun hc => ?_)
        · replace hV := hV.2 hc
          refine z_iload hC dX4_round_340 rfl ?_
          exact z_iret hC dX4_round_342 rfl (by rw [hQo]; exact ⟨_, rfl, hV⟩)
        · replace hV := hV.1 hc
          refine z_iconst (v := (-1)) hC dX4_round_336 rfl ?_
          refine z_goto (tgt := 342) hC dX4_round_337 (by decide) ?_
          exact z_iret hC dX4_round_342 rfl (by rw [hQo]; exact ⟨_, rfl, hV⟩)
      · replace hV := hV.1 hc
        refine z_aload_n hC dX4_round_276 rfl rfl ?_
        refine z_iload hC dX4_round_277 rfl ?_
        refine c_X4_262 hC (by decide) dX4_round_279 (Nat.le_of_ble_eq_true rfl) hV (fun r16 σ17 hV => ?_)
        refine z_if_eq (tgt := 322) hC dX4_round_282 (by decide) (fun hc => ?_) (fun hc => ?_)
        · replace hV := hV.1 hc
          obtain ⟨y18, e_y18⟩ : ∃ z : Int32, z = x6 + 1 := ⟨_, rfl⟩
          replace hV := hV _ e_y18
          refine z_iinc (v := y18) hC dX4_round_322 rfl (by rw [e_y18]; rfl) (Nat.le_of_ble_eq_true rfl) rfl rfl ?_
          refine z_goto (tgt := 263) hC dX4_round_325 (by decide) ?_
          refine zz_sub (L' := [some (.ref (E.1.heap.size + 44)), some (.int x1), none, none, some (.int x4), some (.int x5), some (.int y18), none, none]) ⟨rfl, rfl, rfl, rfl, rfl, trivial⟩ ?_
          exact j_263 σ17 x1 x4 x5 y18 hV
        · replace hV := hV.2 hc
          refine z_aload_n hC dX4_round_285 rfl rfl ?_
          refine z_iload hC dX4_round_286 rfl ?_
          refine c_X4_250 hC (by decide) dX4_round_288 (Nat.le_of_ble_eq_true rfl) hV (fun r19 σ20 hV => ?_)
          refine z_iload_n hC dX4_round_291 rfl rfl ?_
          refine z_icmp_ne (tgt := 322) hC dX4_round_292 (by decide) (fun hc => ?_) (fun hc => ?_)
          · replace hV := hV.2 hc
            obtain ⟨y21, e_y21⟩ : ∃ z : Int32, z = x6 + 1 := ⟨_, rfl⟩
            replace hV := hV _ e_y21
            refine z_iinc (v := y21) hC dX4_round_322 rfl (by rw [e_y21]; rfl) (Nat.le_of_ble_eq_true rfl) rfl rfl ?_
            refine z_goto (tgt := 263) hC dX4_round_325 (by decide) ?_
            refine zz_sub (L' := [some (.ref (E.1.heap.size + 44)), some (.int x1), none, none, some (.int x4), some (.int x5), some (.int y21), none, none]) ⟨rfl, rfl, rfl, rfl, rfl, trivial⟩ ?_
            exact j_263 σ20 x1 x4 x5 y21 hV
          · replace hV := hV.1 hc
            refine z_aload_n hC dX4_round_295 rfl rfl ?_
            refine g_X4_104_44 hC dX4_round_296 ?_
            refine z_iload hC dX4_round_299 rfl ?_
            obtain ⟨h22, hV⟩ := hV
            refine z_aalS hC dX4_round_301 (k_1171 _) (by decide) ps_1171 h22 ?_
            refine z_iload hC dX4_round_302 rfl ?_
            obtain ⟨h23, hV⟩ := hV
            refine z_iald hC dX4_round_304 (kr_1171 _ (ix_lt h22)) (h23) ?_
            refine z_iload hC dX4_round_305 rfl ?_
            refine z_icmp_ge (tgt := 322) hC dX4_round_307 (by decide) (fun hc => ?_) (fun hc => ?_)
            · replace hV := hV.2 hc
              obtain ⟨y24, e_y24⟩ : ∃ z : Int32, z = x6 + 1 := ⟨_, rfl⟩
              replace hV := hV _ e_y24
              refine z_iinc (v := y24) hC dX4_round_322 rfl (by rw [e_y24]; rfl) (Nat.le_of_ble_eq_true rfl) rfl rfl ?_
              refine z_goto (tgt := 263) hC dX4_round_325 (by decide) ?_
              refine zz_sub (L' := [some (.ref (E.1.heap.size + 44)), some (.int x1), none, none, some (.int x4), some (.int x5), some (.int y24), none, none]) ⟨rfl, rfl, rfl, rfl, rfl, trivial⟩ ?_
              exact j_263 σ20 x1 x4 x5 y24 hV
            · replace hV := hV.1 hc
              refine z_aload_n hC dX4_round_310 rfl rfl ?_
              refine g_X4_104_44 hC dX4_round_311 ?_
              refine z_iload hC dX4_round_314 rfl ?_
              obtain ⟨h25, hV⟩ := hV
              refine z_aalS hC dX4_round_316 (k_1171 _) (by decide) ps_1171 h25 ?_
              refine z_iload hC dX4_round_317 rfl ?_
              obtain ⟨h26, hV⟩ := hV
              refine z_iald hC dX4_round_319 (kr_1171 _ (ix_lt h25)) (h26) ?_
              obtain ⟨y27, e_y27⟩ : ∃ z, z = zI σ20 (1171 + 1 + ix x6) (ix x4) := ⟨_, rfl⟩
              rw [← e_y27]
              replace hV := hV _ e_y27
              refine z_istore hC dX4_round_320 (Nat.le_of_ble_eq_true rfl) rfl rfl ?_
              obtain ⟨y28, e_y28⟩ : ∃ z : Int32, z = x6 + 1 := ⟨_, rfl⟩
              replace hV := hV _ e_y28
              refine z_iinc (v := y28) hC dX4_round_322 rfl (by rw [e_y28]; rfl) (Nat.le_of_ble_eq_true rfl) rfl rfl ?_
              refine z_goto (tgt := 263) hC dX4_round_325 (by decide) ?_
              refine zz_sub (L' := [some (.ref (E.1.heap.size + 44)), some (.int x1), none, none, some (.int x4), some (.int y27), some (.int y28), none, none]) ⟨rfl, rfl, rfl, rfl, rfl, trivial⟩ ?_
              exact j_263 σ20 x1 x4 y27 y28 hV
  have j_187 : ∀ (σ : ZS) (x1 : Int32) (x3 : Int32) (x4 : Int32) (x5 : Int32) (x6 : Int32), V_X4_round_187 Ret σ x1 x3 x4 x5 x6 → zz C E NS 9 σ 187 [some (.ref (E.1.heap.size + 44)), some (.int x1), none, some (.int x3), some (.int x4), some (.int x5), some (.int x6), none, none] [] := by
    intro σ x1 x3 x4 x5 x6 ⟨k, hV⟩
    revert σ x1 x3 x4 x5 x6
    induction k with
    | zero => exact fun _ _ _ _ _ _ hV => hV.elim
    | succ k j_187 =>
      intro σ x1 x3 x4 x5 x6 hV
      simp only [VL_X4_round_187] at hV
      generalize hKe187 : VL_X4_round_187 Ret k = K187 at hV j_187
      clear hKe187
      have j_197 : ∀ (σ : ZS) (x1 : Int32) (x3 : Int32) (x4 : Int32) (x5 : Int32) (x6 : Int32) (x7 : Int32), V_X4_round_197 K187 Ret σ x1 x3 x4 x5 x6 x7 → zz C E NS 9 σ 197 [some (.ref (E.1.heap.size + 44)), some (.int x1), none, some (.int x3), some (.int x4), some (.int x5), some (.int x6), some (.int x7), none] [] := by
        intro σ x1 x3 x4 x5 x6 x7 ⟨k, hV⟩
        revert σ x1 x3 x4 x5 x6 x7
        induction k with
        | zero => exact fun _ _ _ _ _ _ _ hV => hV.elim
        | succ k j_197 =>
          intro σ x1 x3 x4 x5 x6 x7 hV
          simp only [VL_X4_round_197] at hV
          generalize hKe197 : VL_X4_round_197 K187 Ret k = K197 at hV j_197
          clear hKe197
          have j_208 : ∀ (σ : ZS) (x1 : Int32) (x3 : Int32) (x4 : Int32) (x5 : Int32) (x6 : Int32) (x7 : Int32) (x8 : Int32), V_X4_round_208 K187 K197 Ret σ x1 x3 x4 x5 x6 x7 x8 → zz C E NS 9 σ 208 [some (.ref (E.1.heap.size + 44)), some (.int x1), none, some (.int x3), some (.int x4), some (.int x5), some (.int x6), some (.int x7), some (.int x8)] [] := by
            intro σ x1 x3 x4 x5 x6 x7 x8 ⟨k, hV⟩
            revert σ x1 x3 x4 x5 x6 x7 x8
            induction k with
            | zero => exact fun _ _ _ _ _ _ _ _ hV => hV.elim
            | succ k j_208 =>
              intro σ x1 x3 x4 x5 x6 x7 x8 hV
              simp only [VL_X4_round_208] at hV
              generalize hKe208 : VL_X4_round_208 K187 K197 Ret k = K208 at hV j_208
              clear hKe208
              refine z_iload hC dX4_round_208 rfl ?_
              refine z_iconst (v := 2) hC dX4_round_210 rfl ?_
              refine z_aload_n hC dX4_round_211 rfl rfl ?_
              refine g_X4_20_44 hC dX4_round_212 ?_
              refine z_iconst (v := 1) hC dX4_round_215 rfl ?_
              refine z_iald hC dX4_round_216 (k_47 _) (in_dec rfl) ?_
              refine z_imul hC dX4_round_217 ?_
              refine z_icmp_ge (tgt := 251) hC dX4_round_218 (by decide) (fun hc => ?_) (fun hc => ?_)
              · replace hV := hV.2 hc
                refine z_goto (tgt := 197) hC dX4_round_251 (by decide) ?_
                refine zz_sub (L' := [some (.ref (E.1.heap.size + 44)), some (.int x1), none, some (.int x3), some (.int x4), some (.int x5), some (.int x6), some (.int x7), none]) ⟨rfl, rfl, rfl, rfl, rfl, rfl, rfl, trivial⟩ ?_
                exact j_197 σ x1 x3 x4 x5 x6 x7 hV
              · replace hV := hV.1 hc
                refine z_aload_n hC dX4_round_221 rfl rfl ?_
                refine z_iload hC dX4_round_222 rfl ?_
                refine z_iload hC dX4_round_224 rfl ?_
                refine z_iload_n hC dX4_round_226 rfl rfl ?_
                refine c_X4_369 hC (by decide) dX4_round_227 (Nat.le_of_ble_eq_true rfl) hV (fun r30 σ31 hV => ?_)
                refine z_if_ne (tgt := 238) hC dX4_round_230 (by decide) (fun hc => ?_) (fun hc => ?_)
                · replace hV := hV.2 hc
                  refine z_iconst (v := 1) hC dX4_round_238 rfl ?_
                  refine z_goto (tgt := 243) hC dX4_round_239 (by decide) ?_
                  refine z_istore hC dX4_round_243 (Nat.le_of_ble_eq_true rfl) rfl rfl ?_
                  obtain ⟨y32, e_y32⟩ : ∃ z : Int32, z = x8 + 1 := ⟨_, rfl⟩
                  replace hV := hV _ e_y32
                  refine z_iinc (v := y32) hC dX4_round_245 rfl (by rw [e_y32]; rfl) (Nat.le_of_ble_eq_true rfl) rfl rfl ?_
                  refine z_goto (tgt := 208) hC dX4_round_248 (by decide) ?_
                  refine zz_sub (L' := [some (.ref (E.1.heap.size + 44)), some (.int x1), none, some (.int x3), some (.int x4), some (.int x5), some (.int x6), some (.int 1), some (.int y32)]) ⟨rfl, rfl, rfl, rfl, rfl, rfl, rfl, rfl, trivial⟩ ?_
                  exact j_208 σ31 x1 x3 x4 x5 x6 1 y32 hV
                · replace hV := hV.1 hc
                  refine z_iload hC dX4_round_233 rfl ?_
                  refine z_if_eq (tgt := 242) hC dX4_round_235 (by decide) (fun hc => ?_) (fun hc => ?_)
                  · replace hV := hV.1 hc
                    refine z_iconst (v := 0) hC dX4_round_242 rfl ?_
                    refine z_istore hC dX4_round_243 (Nat.le_of_ble_eq_true rfl) rfl rfl ?_
                    obtain ⟨y33, e_y33⟩ : ∃ z : Int32, z = x8 + 1 := ⟨_, rfl⟩
                    replace hV := hV _ e_y33
                    refine z_iinc (v := y33) hC dX4_round_245 rfl (by rw [e_y33]; rfl) (Nat.le_of_ble_eq_true rfl) rfl rfl ?_
                    refine z_goto (tgt := 208) hC dX4_round_248 (by decide) ?_
                    refine zz_sub (L' := [some (.ref (E.1.heap.size + 44)), some (.int x1), none, some (.int x3), some (.int x4), some (.int x5), some (.int x6), some (.int 0), some (.int y33)]) ⟨rfl, rfl, rfl, rfl, rfl, rfl, rfl, rfl, trivial⟩ ?_
                    exact j_208 σ31 x1 x3 x4 x5 x6 0 y33 hV
                  · replace hV := hV.2 hc
                    refine z_iconst (v := 1) hC dX4_round_238 rfl ?_
                    refine z_goto (tgt := 243) hC dX4_round_239 (by decide) ?_
                    refine z_istore hC dX4_round_243 (Nat.le_of_ble_eq_true rfl) rfl rfl ?_
                    obtain ⟨y34, e_y34⟩ : ∃ z : Int32, z = x8 + 1 := ⟨_, rfl⟩
                    replace hV := hV _ e_y34
                    refine z_iinc (v := y34) hC dX4_round_245 rfl (by rw [e_y34]; rfl) (Nat.le_of_ble_eq_true rfl) rfl rfl ?_
                    refine z_goto (tgt := 208) hC dX4_round_248 (by decide) ?_
                    refine zz_sub (L' := [some (.ref (E.1.heap.size + 44)), some (.int x1), none, some (.int x3), some (.int x4), some (.int x5), some (.int x6), some (.int 1), some (.int y34)]) ⟨rfl, rfl, rfl, rfl, rfl, rfl, rfl, rfl, trivial⟩ ?_
                    exact j_208 σ31 x1 x3 x4 x5 x6 1 y34 hV
          refine z_iload hC dX4_round_197 rfl ?_
          refine z_if_eq (tgt := 254) hC dX4_round_199 (by decide) (fun hc => ?_) (fun hc => ?_)
          · replace hV := hV.1 hc
            obtain ⟨y29, e_y29⟩ : ∃ z : Int32, z = x6 + 1 := ⟨_, rfl⟩
            replace hV := hV _ e_y29
            refine z_iinc (v := y29) hC dX4_round_254 rfl (by rw [e_y29]; rfl) (Nat.le_of_ble_eq_true rfl) rfl rfl ?_
            refine z_goto (tgt := 187) hC dX4_round_257 (by decide) ?_
            refine zz_sub (L' := [some (.ref (E.1.heap.size + 44)), some (.int x1), none, some (.int x3), some (.int x4), some (.int x5), some (.int y29), none, none]) ⟨rfl, rfl, rfl, rfl, rfl, rfl, trivial⟩ ?_
            exact j_187 σ x1 x3 x4 x5 y29 hV
          · replace hV := hV.2 hc
            refine z_iconst (v := 0) hC dX4_round_202 rfl ?_
            refine z_istore hC dX4_round_203 (Nat.le_of_ble_eq_true rfl) rfl rfl ?_
            refine z_iconst (v := 0) hC dX4_round_205 rfl ?_
            refine z_istore hC dX4_round_206 (Nat.le_of_ble_eq_true rfl) rfl rfl ?_
            refine zz_sub (L' := [some (.ref (E.1.heap.size + 44)), some (.int x1), none, some (.int x3), some (.int x4), some (.int x5), some (.int x6), some (.int 0), some (.int 0)]) ⟨rfl, rfl, rfl, rfl, rfl, rfl, rfl, rfl, trivial⟩ ?_
            exact j_208 σ x1 x3 x4 x5 x6 0 0 hV
      refine z_iload hC dX4_round_187 rfl ?_
      refine z_iload hC dX4_round_189 rfl ?_
      refine z_icmp_gt (tgt := 260) hC dX4_round_191 (by decide) (fun hc => ?_) (fun hc => ?_)
      · replace hV := hV.1 hc
        refine z_iconst (v := 0) hC dX4_round_260 rfl ?_
        refine z_istore hC dX4_round_261 (Nat.le_of_ble_eq_true rfl) rfl rfl ?_
        refine zz_sub (L' := [some (.ref (E.1.heap.size + 44)), some (.int x1), none, none, some (.int x4), some (.int x5), some (.int 0), none, none]) ⟨rfl, rfl, rfl, rfl, rfl, trivial⟩ ?_
        exact j_263 σ x1 x4 x5 0 hV
      · replace hV := hV.2 hc
        refine z_iconst (v := 1) hC dX4_round_194 rfl ?_
        refine z_istore hC dX4_round_195 (Nat.le_of_ble_eq_true rfl) rfl rfl ?_
        refine zz_sub (L' := [some (.ref (E.1.heap.size + 44)), some (.int x1), none, some (.int x3), some (.int x4), some (.int x5), some (.int x6), some (.int 1), none]) ⟨rfl, rfl, rfl, rfl, rfl, rfl, rfl, trivial⟩ ?_
        exact j_197 σ x1 x3 x4 x5 x6 1 hV
  have j_87 : ∀ (σ : ZS) (x1 : Int32) (x3 : Int32) (x4 : Int32) (x5 : Int32), V_X4_round_87 Ret σ x1 x3 x4 x5 → zz C E NS 9 σ 87 [some (.ref (E.1.heap.size + 44)), some (.int x1), none, some (.int x3), some (.int x4), some (.int x5), none, none, none] [] := by
    intro σ x1 x3 x4 x5 ⟨k, hV⟩
    revert σ x1 x3 x4 x5
    induction k with
    | zero => exact fun _ _ _ _ _ hV => hV.elim
    | succ k j_87 =>
      intro σ x1 x3 x4 x5 hV
      simp only [VL_X4_round_87] at hV
      generalize hKe87 : VL_X4_round_87 Ret k = K87 at hV j_87
      clear hKe87
      have j_103 : ∀ (σ : ZS) (x1 : Int32) (x3 : Int32) (x4 : Int32) (x5 : Int32) (x6 : Int32), V_X4_round_103 K87 Ret σ x1 x3 x4 x5 x6 → zz C E NS 9 σ 103 [some (.ref (E.1.heap.size + 44)), some (.int x1), none, some (.int x3), some (.int x4), some (.int x5), some (.int x6), none, none] [] := by
        intro σ x1 x3 x4 x5 x6 ⟨k, hV⟩
        revert σ x1 x3 x4 x5 x6
        induction k with
        | zero => exact fun _ _ _ _ _ _ hV => hV.elim
        | succ k j_103 =>
          intro σ x1 x3 x4 x5 x6 hV
          simp only [VL_X4_round_103] at hV
          generalize hKe103 : VL_X4_round_103 K87 Ret k = K103 at hV j_103
          clear hKe103
          refine z_iload hC dX4_round_103 rfl ?_
          refine z_iload hC dX4_round_105 rfl ?_
          refine z_icmp_gt (tgt := 129) hC dX4_round_107 (by decide) (fun hc => ?_) (fun hc => ?_)
          · replace hV := hV.1 hc
            refine z_aload_n hC dX4_round_129 rfl rfl ?_
            refine z_iload hC dX4_round_130 rfl ?_
            refine c_X4_262 hC (by decide) dX4_round_132 (Nat.le_of_ble_eq_true rfl) hV (fun r35 σ36 hV => ?_)
            refine z_if_eq (tgt := 173) hC dX4_round_135 (by decide) (fun hc => ?_) (fun hc => ?_)
            · replace hV := hV.1 hc
              obtain ⟨y37, e_y37⟩ : ∃ z : Int32, z = x5 + 1 := ⟨_, rfl⟩
              replace hV := hV _ e_y37
              refine z_iinc (v := y37) hC dX4_round_173 rfl (by rw [e_y37]; rfl) (Nat.le_of_ble_eq_true rfl) rfl rfl ?_
              refine z_goto (tgt := 87) hC dX4_round_176 (by decide) ?_
              refine zz_sub (L' := [some (.ref (E.1.heap.size + 44)), some (.int x1), none, some (.int x3), some (.int x4), some (.int y37), none, none, none]) ⟨rfl, rfl, rfl, rfl, rfl, trivial⟩ ?_
              exact j_87 σ36 x1 x3 x4 y37 hV
            · replace hV := hV.2 hc
              refine z_aload_n hC dX4_round_138 rfl rfl ?_
              refine z_iload hC dX4_round_139 rfl ?_
              refine c_X4_253 hC (by decide) dX4_round_141 (Nat.le_of_ble_eq_true rfl) hV (fun r38 σ39 hV => ?_)
              refine z_iload_n hC dX4_round_144 rfl rfl ?_
              refine z_icmp_ne (tgt := 173) hC dX4_round_145 (by decide) (fun hc => ?_) (fun hc => ?_)
              · replace hV := hV.2 hc
                obtain ⟨y40, e_y40⟩ : ∃ z : Int32, z = x5 + 1 := ⟨_, rfl⟩
                replace hV := hV _ e_y40
                refine z_iinc (v := y40) hC dX4_round_173 rfl (by rw [e_y40]; rfl) (Nat.le_of_ble_eq_true rfl) rfl rfl ?_
                refine z_goto (tgt := 87) hC dX4_round_176 (by decide) ?_
                refine zz_sub (L' := [some (.ref (E.1.heap.size + 44)), some (.int x1), none, some (.int x3), some (.int x4), some (.int y40), none, none, none]) ⟨rfl, rfl, rfl, rfl, rfl, trivial⟩ ?_
                exact j_87 σ39 x1 x3 x4 y40 hV
              · replace hV := hV.1 hc
                refine z_aload_n hC dX4_round_148 rfl rfl ?_
                refine g_X4_104_44 hC dX4_round_149 ?_
                refine z_iload hC dX4_round_152 rfl ?_
                obtain ⟨h41, hV⟩ := hV
                refine z_aalS hC dX4_round_154 (k_1171 _) (by decide) ps_1171 h41 ?_
                refine z_aload_n hC dX4_round_155 rfl rfl ?_
                refine z_aload_n hC dX4_round_156 rfl rfl ?_
                refine z_iload hC dX4_round_157 rfl ?_
                refine c_X4_250 hC (by decide) dX4_round_159 (Nat.le_of_ble_eq_true rfl) hV (fun r42 σ43 hV => ?_)
                refine z_iload_n hC dX4_round_162 rfl rfl ?_
                refine c_X4_366 hC (by decide) dX4_round_163 (Nat.le_of_ble_eq_true rfl) hV (fun r44 σ45 hV => ?_)
                refine z_aload_n hC dX4_round_166 rfl rfl ?_
                refine z_iload hC dX4_round_167 rfl ?_
                refine c_X4_295 hC (by decide) dX4_round_169 (Nat.le_of_ble_eq_true rfl) hV (fun r46 σ47 hV => ?_)
                obtain ⟨h48, hV⟩ := hV
                refine z_iast hC dX4_round_172 (kr_1171 _ (ix_lt h41)) (h48) ?_
                obtain ⟨σ49, e_σ49⟩ : ∃ z : ZS, z = sI σ47 (1171 + 1 + ix x5) (ix r44) r46 := ⟨_, rfl⟩
                replace hV := hV _ e_σ49
                rw [← e_σ49]
                obtain ⟨y50, e_y50⟩ : ∃ z : Int32, z = x5 + 1 := ⟨_, rfl⟩
                replace hV := hV _ e_y50
                refine z_iinc (v := y50) hC dX4_round_173 rfl (by rw [e_y50]; rfl) (Nat.le_of_ble_eq_true rfl) rfl rfl ?_
                refine z_goto (tgt := 87) hC dX4_round_176 (by decide) ?_
                refine zz_sub (L' := [some (.ref (E.1.heap.size + 44)), some (.int x1), none, some (.int x3), some (.int x4), some (.int y50), none, none, none]) ⟨rfl, rfl, rfl, rfl, rfl, trivial⟩ ?_
                exact j_87 σ49 x1 x3 x4 y50 hV
          · replace hV := hV.2 hc
            refine z_aload_n hC dX4_round_110 rfl rfl ?_
            refine g_X4_104_44 hC dX4_round_111 ?_
            refine z_iload hC dX4_round_114 rfl ?_
            obtain ⟨h51, hV⟩ := hV
            refine z_aalS hC dX4_round_116 (k_1171 _) (by decide) ps_1171 h51 ?_
            refine z_iload hC dX4_round_117 rfl ?_
            refine z_ldcw hC dX4_round_119 q1981 ?_
            obtain ⟨h52, hV⟩ := hV
            refine z_iast hC dX4_round_122 (kr_1171 _ (ix_lt h51)) (h52) ?_
            obtain ⟨σ53, e_σ53⟩ : ∃ z : ZS, z = sI σ (1171 + 1 + ix x5) (ix x6) 1000000000 := ⟨_, rfl⟩
            replace hV := hV _ e_σ53
            rw [← e_σ53]
            obtain ⟨y54, e_y54⟩ : ∃ z : Int32, z = x6 + 1 := ⟨_, rfl⟩
            replace hV := hV _ e_y54
            refine z_iinc (v := y54) hC dX4_round_123 rfl (by rw [e_y54]; rfl) (Nat.le_of_ble_eq_true rfl) rfl rfl ?_
            refine z_goto (tgt := 103) hC dX4_round_126 (by decide) ?_
            refine zz_sub (L' := [some (.ref (E.1.heap.size + 44)), some (.int x1), none, some (.int x3), some (.int x4), some (.int x5), some (.int y54), none, none]) ⟨rfl, rfl, rfl, rfl, rfl, rfl, trivial⟩ ?_
            exact j_103 σ53 x1 x3 x4 x5 y54 hV
      refine z_iload hC dX4_round_87 rfl ?_
      refine z_iconst (v := 2) hC dX4_round_89 rfl ?_
      refine z_aload_n hC dX4_round_90 rfl rfl ?_
      refine g_X4_20_44 hC dX4_round_91 ?_
      refine z_iconst (v := 1) hC dX4_round_94 rfl ?_
      refine z_iald hC dX4_round_95 (k_47 _) (in_dec rfl) ?_
      refine z_imul hC dX4_round_96 ?_
      refine z_icmp_ge (tgt := 179) hC dX4_round_97 (by decide) (fun hc => ?_) (fun hc => ?_)
      · replace hV := hV.2 hc
        refine z_ldcw hC dX4_round_179 q1981 ?_
        refine z_istore hC dX4_round_182 (Nat.le_of_ble_eq_true rfl) rfl rfl ?_
        refine z_iconst (v := 0) hC dX4_round_184 rfl ?_
        refine z_istore hC dX4_round_185 (Nat.le_of_ble_eq_true rfl) rfl rfl ?_
        refine zz_sub (L' := [some (.ref (E.1.heap.size + 44)), some (.int x1), none, some (.int x3), some (.int x4), some (.int 1000000000), some (.int 0), none, none]) ⟨rfl, rfl, rfl, rfl, rfl, rfl, trivial⟩ ?_
        exact j_187 σ x1 x3 x4 1000000000 0 hV
      · replace hV := hV.1 hc
        refine z_iconst (v := 0) hC dX4_round_100 rfl ?_
        refine z_istore hC dX4_round_101 (Nat.le_of_ble_eq_true rfl) rfl rfl ?_
        refine zz_sub (L' := [some (.ref (E.1.heap.size + 44)), some (.int x1), none, some (.int x3), some (.int x4), some (.int x5), some (.int 0), none, none]) ⟨rfl, rfl, rfl, rfl, rfl, rfl, trivial⟩ ?_
        exact j_103 σ x1 x3 x4 x5 0 hV
  have j_40 : ∀ (σ : ZS) (x1 : Int32) (x2 : Int32) (s0 : Int32), V_X4_round_40 Ret σ x1 x2 s0 → zz C E NS 9 σ 40 [some (.ref (E.1.heap.size + 44)), some (.int x1), some (.int x2), none, none, none, none, none, none] [.int s0, .ref (E.1.heap.size + 44)] := by
    intro σ x1 x2 s0 hV
    unfold V_X4_round_40 at hV
    refine z_iconst (v := 2) hC dX4_round_40 rfl ?_
    refine c_X4_227 hC (by decide) dX4_round_41 (Nat.le_of_ble_eq_true rfl) hV (fun r8 σ9 hV => ?_)
    refine z_if_eq (tgt := 49) hC dX4_round_44 (by decide) (fun hc => ?_) (fun hc => ?_)
    · replace hV := hV.1 hc
      refine z_aload_n hC dX4_round_49 rfl rfl ?_
      refine z_iload_n hC dX4_round_50 rfl rfl ?_
      refine c_X4_310 hC (by decide) dX4_round_51 (Nat.le_of_ble_eq_true rfl) hV (fun σ11 hV => ?_)
      refine z_aload_n hC dX4_round_54 rfl rfl ?_
      refine g_X4_20_44 hC dX4_round_55 ?_
      refine z_iconst (v := 2) hC dX4_round_58 rfl ?_
      refine z_iald hC dX4_round_59 (k_47 _) (in_dec rfl) ?_
      refine z_iconst (v := 1) hC dX4_round_60 rfl ?_
      refine z_iload_n hC dX4_round_61 rfl rfl ?_
      refine z_ishl hC dX4_round_62 ?_
      refine z_iconst (v := (-1)) hC dX4_round_63 rfl ?_
      refine z_ixor hC dX4_round_64 ?_
      refine z_iand hC dX4_round_65 ?_
      obtain ⟨y12, e_y12⟩ : ∃ z, z = (zI σ11 47 (ix 2)) &&& (((1 : Int32) <<< (x1 &&& 31)) ^^^ (-1)) := ⟨_, rfl⟩
      rw [← e_y12]
      replace hV := hV _ e_y12
      refine z_istore_n hC dX4_round_66 rfl (Nat.le_of_ble_eq_true rfl) rfl rfl ?_
      refine z_iconst (v := 1) hC dX4_round_67 rfl ?_
      refine z_iload_n hC dX4_round_68 rfl rfl ?_
      refine c_X4_187 hC (by decide) dX4_round_69 (Nat.le_of_ble_eq_true rfl) hV (fun r13 σ14 hV => ?_)
      refine z_ishl hC dX4_round_72 ?_
      refine z_iconst (v := 1) hC dX4_round_73 rfl ?_
      refine z_isub hC dX4_round_74 ?_
      obtain ⟨y15, e_y15⟩ : ∃ z, z = ((1 : Int32) <<< (r13 &&& 31)) - 1 := ⟨_, rfl⟩
      rw [← e_y15]
      replace hV := hV _ e_y15
      refine z_istore hC dX4_round_75 (Nat.le_of_ble_eq_true rfl) rfl rfl ?_
      refine z_iload hC dX4_round_77 rfl ?_
      refine z_if_ne (tgt := 84) hC dX4_round_79 (by decide) (fun hc => ?_) (fun hc => ?_)
      · replace hV := hV.2 hc
        refine z_iconst (v := 0) hC dX4_round_84 rfl ?_
        refine z_istore hC dX4_round_85 (Nat.le_of_ble_eq_true rfl) rfl rfl ?_
        refine zz_sub (L' := [some (.ref (E.1.heap.size + 44)), some (.int x1), none, some (.int y12), some (.int y15), some (.int 0), none, none, none]) ⟨rfl, rfl, rfl, rfl, rfl, trivial⟩ ?_
        exact j_87 σ14 x1 y12 y15 0 hV
      · replace hV := hV.1 hc
        refine z_iconst (v := 0) hC dX4_round_82 rfl ?_
        exact z_iret hC dX4_round_83 rfl (by rw [hQo]; exact ⟨_, rfl, hV⟩)
    · replace hV := hV.2 hc
      refine z_iconst (v := 0) hC dX4_round_47 rfl ?_
      exact z_iret hC dX4_round_48 rfl (by rw [hQo]; exact ⟨_, rfl, hV⟩)
  have j_19 : ∀ (σ : ZS) (x1 : Int32) (x2 : Int32) (s0 : Int32), V_X4_round_19 Ret σ x1 x2 s0 → zz C E NS 9 σ 19 [some (.ref (E.1.heap.size + 44)), some (.int x1), some (.int x2), none, none, none, none, none, none] [.int s0, .ref (E.1.heap.size + 44)] := by
    intro σ x1 x2 s0 hV
    unfold V_X4_round_19 at hV
    refine z_iconst (v := 1) hC dX4_round_19 rfl ?_
    refine c_X4_227 hC (by decide) dX4_round_20 (Nat.le_of_ble_eq_true rfl) hV (fun r4 σ5 hV => ?_)
    refine z_if_ne (tgt := 47) hC dX4_round_23 (by decide) (fun hc => ?_) (fun hc => ?_)
    · replace hV := hV.2 hc
      refine z_iconst (v := 0) hC dX4_round_47 rfl ?_
      exact z_iret hC dX4_round_48 rfl (by rw [hQo]; exact ⟨_, rfl, hV⟩)
    · replace hV := hV.1 hc
      refine z_aload_n hC dX4_round_26 rfl rfl ?_
      refine z_aload_n hC dX4_round_27 rfl rfl ?_
      refine z_iload_n hC dX4_round_28 rfl rfl ?_
      refine c_X4_281 hC (by decide) dX4_round_29 (Nat.le_of_ble_eq_true rfl) hV (fun r6 σ7 hV => ?_)
      refine z_if_ne (tgt := 39) hC dX4_round_32 (by decide) (fun hc => ?_) (fun hc => ?_)
      · replace hV := hV.2 hc
        refine z_iconst (v := 0) hC dX4_round_39 rfl ?_
        refine zz_sub (L' := [some (.ref (E.1.heap.size + 44)), some (.int x1), some (.int x2), none, none, none, none, none, none]) ⟨rfl, rfl, rfl, trivial⟩ ?_
        exact j_40 σ7 x1 x2 0 hV
      · replace hV := hV.1 hc
        refine z_iconst (v := 1) hC dX4_round_35 rfl ?_
        refine z_goto (tgt := 40) hC dX4_round_36 (by decide) ?_
        refine zz_sub (L' := [some (.ref (E.1.heap.size + 44)), some (.int x1), some (.int x2), none, none, none, none, none, none]) ⟨rfl, rfl, rfl, trivial⟩ ?_
        exact j_40 σ7 x1 x2 1 hV
  refine z_aload_n hC dX4_round_0 rfl rfl ?_
  refine z_iconst (v := 0) hC dX4_round_1 rfl ?_
  refine p_X4_131_c3 hC dX4_round_2 (k_44 _) ?_
  obtain ⟨σ1, e_σ1⟩ : ∃ z : ZS, z = sI σ 44 0 0 := ⟨_, rfl⟩
  replace hV := hV _ e_σ1
  rw [← e_σ1]
  refine z_aload_n hC dX4_round_5 rfl rfl ?_
  refine z_aload_n hC dX4_round_6 rfl rfl ?_
  refine z_iload_n hC dX4_round_7 rfl rfl ?_
  refine c_X4_307 hC (by decide) dX4_round_8 (Nat.le_of_ble_eq_true rfl) hV (fun r2 σ3 hV => ?_)
  refine z_if_ne (tgt := 18) hC dX4_round_11 (by decide) (fun hc => ?_) (fun hc => ?_)
  · replace hV := hV.2 hc
    refine z_iconst (v := 0) hC dX4_round_18 rfl ?_
    refine zz_sub (L' := [some (.ref (E.1.heap.size + 44)), some (.int a1), some (.int a2), none, none, none, none, none, none]) ⟨rfl, rfl, rfl, trivial⟩ ?_
    exact j_19 σ3 a1 a2 0 hV
  · replace hV := hV.1 hc
    refine z_iconst (v := 1) hC dX4_round_14 rfl ?_
    refine z_goto (tgt := 19) hC dX4_round_15 (by decide) ?_
    refine zz_sub (L' := [some (.ref (E.1.heap.size + 44)), some (.int a1), some (.int a2), none, none, none, none, none, none]) ⟨rfl, rfl, rfl, trivial⟩ ?_
    exact j_19 σ3 a1 a2 1 hV
