set_option maxRecDepth 100000
theorem g_X1_341_0 {C : ZC} {E : ZE} {cc : ByteArray} {nL pc d : Nat} {nm : String} {ret : Option FieldType} {hh : List (Nat × Nat × Nat × Nat)} {σ : ZS} {L : List (Option Value)} {st : List Value} (hC : Cx C E cc nL "RightTurns" nm ret hh d) (hd : decode cc pc = .ok (.getfield 341, 3)) (k : zz C E NS nL σ (pc + 3) L (.int (zI σ 0 17) :: st)) : zz C E NS nL σ pc L (.ref (E.1.heap.size + 0) :: st) :=
  z_get hC cf0 hd (k_0 σ) (k := 17) (by decide) (Or.inl q598) (Or.inl rfl) rfl k
theorem p_X1_341_c0 {C : ZC} {E : ZE} {cc : ByteArray} {n nL pc d a x : Nat} {nm : String} {ret : Option FieldType} {hh : List (Nat × Nat × Nat × Nat)} {σ : ZS} {L : List (Option Value)} {st : List Value} {v : Int32} (hC : Cx C E cc nL "RightTurns" nm ret hh d) (hd : decode cc pc = .ok (.putfield 341, 3)) (hk : kK n σ a = (0 + 7, x)) (k : zz C E n nL (sI σ a 17 v) (pc + 3) L st) : zz C E n nL σ pc L (.int v :: .ref (E.1.heap.size + a) :: st) :=
  z_putI hC cf0 hd hk (k := 17) (by decide) (Or.inl q598) (Or.inl rfl) (Or.inl rfl) rfl rfl rfl k
theorem cw_X1_isOpen : CodeW yX1_isOpen (ws_ yX1_isOpen cX1_isOpen 3 (some .boolean)) 3 := ⟨fun w h => (List.mem_cons.mp h).elim (fun e => e ▸ q1383) id, Or.inl ⟨_, _, q1383⟩, q116, by decide, by decide⟩
theorem c_X1_329 {C : ZC} {E : ZE} {cc : ByteArray} {nL pc d : Nat} {nm : String} {ret : Option FieldType} {hh : List (Nat × Nat × Nat × Nat)} {σ : ZS} {L : List (Option Value)} {st : List Value} {a1 : Int32} {Ret : Int32 → ZS → Prop} (hC : Cx C E cc nL "RightTurns" nm ret hh d) (hdd : 10 + 1 ≤ d) (hd : decode cc pc = .ok (.invokevirtual 329, 3)) (hW : (st.map fun v => v.category).sum ≤ 8) (hV : wp_X1_isOpen σ a1 Ret) (k : ∀ r σ', Ret r σ' → zz C E NS nL σ' (pc + 3) L (.int r :: st)) : zz C E NS nL σ pc L (.int a1 :: .ref (E.1.heap.size + 0) :: st) :=
  z_callVG hC cf0 cw_X1_isOpen hdd (by decide) (mz_X1_isOpen (cxE hC) hV) hd (k_0 σ) q1380 q1382 qs32 (np := 1) rfl rfl hW rfl (kI k)
theorem cw_X1_findCandidates : CodeW yX1_findCandidates (ws_ yX1_findCandidates cX1_findCandidates 4 (some .int)) 4 := ⟨fun w h => (List.mem_cons.mp h).elim (fun e => e ▸ q1401) id, Or.inl ⟨_, _, q1401⟩, q116, by decide, by decide⟩
theorem c_X1_338 {C : ZC} {E : ZE} {cc : ByteArray} {nL pc d : Nat} {nm : String} {ret : Option FieldType} {hh : List (Nat × Nat × Nat × Nat)} {σ : ZS} {L : List (Option Value)} {st : List Value} {a1 : Int32} {Ret : Int32 → ZS → Prop} (hC : Cx C E cc nL "RightTurns" nm ret hh d) (hdd : 2 + 1 ≤ d) (hd : decode cc pc = .ok (.invokevirtual 338, 3)) (hW : (st.map fun v => v.category).sum ≤ 8) (hV : wp_X1_findCandidates σ a1 Ret) (k : ∀ r σ', Ret r σ' → zz C E NS nL σ' (pc + 3) L (.int r :: st)) : zz C E NS nL σ pc L (.int a1 :: .ref (E.1.heap.size + 0) :: st) :=
  z_callVG hC cf0 cw_X1_findCandidates hdd (by decide) (mz_X1_findCandidates (cxE hC) hV) hd (k_0 σ) q1398 q1400 qs33 (np := 1) rfl rfl hW rfl (kI k)
theorem cw_X1_costOf : CodeW yX1_costOf (ws_ yX1_costOf cX1_costOf 2 (some .int)) 2 := ⟨fun w h => (List.mem_cons.mp h).elim (fun e => e ▸ q1416) id, Or.inl ⟨_, _, q1416⟩, q116, by decide, by decide⟩
theorem c_X1_344 {C : ZC} {E : ZE} {cc : ByteArray} {nL pc d : Nat} {nm : String} {ret : Option FieldType} {hh : List (Nat × Nat × Nat × Nat)} {σ : ZS} {L : List (Option Value)} {st : List Value} {a1 : Int32} {Ret : Int32 → ZS → Prop} (hC : Cx C E cc nL "RightTurns" nm ret hh d) (hdd : 4 + 1 ≤ d) (hd : decode cc pc = .ok (.invokevirtual 344, 3)) (hW : (st.map fun v => v.category).sum ≤ 8) (hV : wp_X1_costOf σ a1 Ret) (k : ∀ r σ', Ret r σ' → zz C E NS nL σ' (pc + 3) L (.int r :: st)) : zz C E NS nL σ pc L (.int a1 :: .ref (E.1.heap.size + 0) :: st) :=
  z_callVG hC cf0 cw_X1_costOf hdd (by decide) (mz_X1_costOf (cxE hC) hV) hd (k_0 σ) q1413 q1415 qs35 (np := 1) rfl rfl hW rfl (kI k)
theorem cw_X1_tries : CodeW yX1_tries (ws_ yX1_tries cX1_tries 3 none) 3 := ⟨fun w h => (List.mem_cons.mp h).elim (fun e => e ▸ q1420) id, Or.inl ⟨_, _, q1420⟩, q116, by decide, by decide⟩
theorem c_X1_347 {C : ZC} {E : ZE} {cc : ByteArray} {nL pc d : Nat} {nm : String} {ret : Option FieldType} {hh : List (Nat × Nat × Nat × Nat)} {σ : ZS} {L : List (Option Value)} {st : List Value} {a1 : Int32} {Ret : ZS → Prop} (hC : Cx C E cc nL "RightTurns" nm ret hh d) (hdd : 1 + 1 ≤ d) (hd : decode cc pc = .ok (.invokevirtual 347, 3)) (hW : (st.map fun v => v.category).sum ≤ 8) (hV : wp_X1_tries σ a1 Ret) (k : ∀ σ', Ret σ' → zz C E NS nL σ' (pc + 3) L st) : zz C E NS nL σ pc L (.int a1 :: .ref (E.1.heap.size + 0) :: st) :=
  z_callVG hC cf0 cw_X1_tries hdd (by decide) (mz_X1_tries (cxE hC) hV) hd (k_0 σ) q1417 q1419 qs36 (np := 1) rfl rfl hW rfl (kV k)
def V_X1_leastSet_96 (K17 : ZS → Int32 → Int32 → Int32 → Int32 → Int32 → Prop) (Ret : Int32 → ZS → Prop) (σ : ZS) (x1 : Int32) (x2 : Int32) (x3 : Int32) (x4 : Int32) (x5 : Int32) (x6 : Int32) : Prop :=
    wp_X1_tries σ x5 (fun σ7 => wp_X1_isOpen σ7 x1 (fun r8 σ9 => ((r8 = 0 → (∀ y12 : Int32, y12 = x5 + 1 → (K17 σ9 x1 x2 x3 x4 y12))) ∧ (¬ r8 = 0 → (∀ σ10 : ZS, σ10 = sI σ9 0 17 x6 → (∀ y11 : Int32, y11 = x5 + 1 → (K17 σ10 x1 x2 x3 x5 y11)))))))
def VL_X1_leastSet_31 (K17 : ZS → Int32 → Int32 → Int32 → Int32 → Int32 → Prop) (Ret : Int32 → ZS → Prop) : Nat → ZS → Int32 → Int32 → Int32 → Int32 → Int32 → Int32 → Int32 → Prop
  | 0 => fun _ _ _ _ _ _ _ _ => False
  | k + 1 => fun σ x1 x2 x3 x4 x5 x6 x7 =>
    let K31 := VL_X1_leastSet_31 K17 Ret k
    ((x7 < x3 → (((((x5 >>> (x7 &&& 31)) &&& 1) = 1 → (((x2 = 0 → (∀ y15 : Int32, y15 = x6 + 1 → (∀ y16 : Int32, y16 = x7 + 1 → (K31 σ x1 x2 x3 x4 x5 y15 y16)))) ∧ (¬ x2 = 0 → (vp_in x7 14 ∧ (wp_X1_costOf σ (zI σ 26 (ix x7)) (fun r18 σ19 => ∀ y20 : Int32, y20 = x6 + r18 → (∀ y21 : Int32, y21 = x7 + 1 → (K31 σ19 x1 x2 x3 x4 x5 y20 y21))))))))) ∧ (¬ ((x5 >>> (x7 &&& 31)) &&& 1) = 1 → (∀ y14 : Int32, y14 = x7 + 1 → (K31 σ x1 x2 x3 x4 x5 x6 y14)))))) ∧ (¬ x7 < x3 → (((x4 = (-1) → (V_X1_leastSet_96 K17 Ret σ x1 x2 x3 x4 x5 x6)) ∧ (¬ x4 = (-1) → (((x6 < (zI σ 0 17) → (V_X1_leastSet_96 K17 Ret σ x1 x2 x3 x4 x5 x6)) ∧ (¬ x6 < (zI σ 0 17) → (∀ y13 : Int32, y13 = x5 + 1 → (K17 σ x1 x2 x3 x4 y13))))))))))
def V_X1_leastSet_31 (K17 : ZS → Int32 → Int32 → Int32 → Int32 → Int32 → Prop) (Ret : Int32 → ZS → Prop) (σ : ZS) (x1 : Int32) (x2 : Int32) (x3 : Int32) (x4 : Int32) (x5 : Int32) (x6 : Int32) (x7 : Int32) : Prop := ∃ k, VL_X1_leastSet_31 K17 Ret k σ x1 x2 x3 x4 x5 x6 x7
def VL_X1_leastSet_17 (Ret : Int32 → ZS → Prop) : Nat → ZS → Int32 → Int32 → Int32 → Int32 → Int32 → Prop
  | 0 => fun _ _ _ _ _ _ => False
  | k + 1 => fun σ x1 x2 x3 x4 x5 =>
    let K17 := VL_X1_leastSet_17 Ret k
    ((x5 < ((1 : Int32) <<< (x3 &&& 31)) → (V_X1_leastSet_31 K17 Ret σ x1 x2 x3 x4 x5 0 0)) ∧ (¬ x5 < ((1 : Int32) <<< (x3 &&& 31)) → (wp_X1_tries σ 0 (fun σ5 => Ret x4 σ5))))
def V_X1_leastSet_17 (Ret : Int32 → ZS → Prop) (σ : ZS) (x1 : Int32) (x2 : Int32) (x3 : Int32) (x4 : Int32) (x5 : Int32) : Prop := ∃ k, VL_X1_leastSet_17 Ret k σ x1 x2 x3 x4 x5
def wp_X1_leastSet (σ : ZS) (a1 : Int32) (a2 : Int32) (Ret : Int32 → ZS → Prop) : Prop :=
    wp_X1_findCandidates σ a1 (fun r1 σ2 => ∀ σ3 : ZS, σ3 = sI σ2 0 17 0 → (V_X1_leastSet_17 Ret σ3 a1 a2 r1 (-1) 0))
set_option maxHeartbeats 4000000 in
theorem mz_X1_leastSet {l : Launch} {E : ZE} (hE : EOK E) {σ : ZS} {a1 : Int32} {a2 : Int32} {Ret : Int32 → ZS → Prop} (hV : wp_X1_leastSet σ a1 a2 Ret) : MZ l E NS yX1_leastSet (ws_ yX1_leastSet cX1_leastSet 8 (some .int)) 11 σ [.ref (E.1.heap.size + 0), .int a1, .int a2] (rI Ret) := by
  refine MZ.start (L := [some (.ref (E.1.heap.size + 0)), some (.int a1), some (.int a2), none, none, none, none, none]) hE (by decide) (Nat.le_of_ble_eq_true rfl) rfl fun C hCl hQo hC => ?_
  replace hC : Cx C E cX1_leastSet 8 "RightTurns" "leastSet" (some .int) [] 11 := hC
  unfold wp_X1_leastSet at hV
  have j_17 : ∀ (σ : ZS) (x1 : Int32) (x2 : Int32) (x3 : Int32) (x4 : Int32) (x5 : Int32), V_X1_leastSet_17 Ret σ x1 x2 x3 x4 x5 → zz C E NS 8 σ 17 [some (.ref (E.1.heap.size + 0)), some (.int x1), some (.int x2), some (.int x3), some (.int x4), some (.int x5), none, none] [] := by
    intro σ x1 x2 x3 x4 x5 ⟨k, hV⟩
    revert σ x1 x2 x3 x4 x5
    induction k with
    | zero => exact fun _ _ _ _ _ _ hV => hV.elim
    | succ k j_17 =>
      intro σ x1 x2 x3 x4 x5 hV
      simp only [VL_X1_leastSet_17] at hV
      generalize hKe17 : VL_X1_leastSet_17 Ret k = K17 at hV j_17
      clear hKe17
      have j_96 : ∀ (σ : ZS) (x1 : Int32) (x2 : Int32) (x3 : Int32) (x4 : Int32) (x5 : Int32) (x6 : Int32), V_X1_leastSet_96 K17 Ret σ x1 x2 x3 x4 x5 x6 → zz C E NS 8 σ 96 [some (.ref (E.1.heap.size + 0)), some (.int x1), some (.int x2), some (.int x3), some (.int x4), some (.int x5), some (.int x6), none] [] := by
        intro σ x1 x2 x3 x4 x5 x6 hV
        unfold V_X1_leastSet_96 at hV
        refine z_aload_n hC dX1_leastSet_96 rfl rfl ?_
        refine z_iload hC dX1_leastSet_97 rfl ?_
        refine c_X1_347 hC (by decide) dX1_leastSet_99 (Nat.le_of_ble_eq_true rfl) hV (fun σ7 hV => ?_)
        refine z_aload_n hC dX1_leastSet_102 rfl rfl ?_
        refine z_iload_n hC dX1_leastSet_103 rfl rfl ?_
        refine c_X1_329 hC (by decide) dX1_leastSet_104 (Nat.le_of_ble_eq_true rfl) hV (fun r8 σ9 hV => ?_)
        refine z_if_ne (tgt := 113) hC dX1_leastSet_107 (by decide) (fun hc => ?_) (fun hc => ?_)
        · replace hV := hV.2 hc
          refine z_iload hC dX1_leastSet_113 rfl ?_
          refine z_istore hC dX1_leastSet_115 (Nat.le_of_ble_eq_true rfl) rfl rfl ?_
          refine z_aload_n hC dX1_leastSet_117 rfl rfl ?_
          refine z_iload hC dX1_leastSet_118 rfl ?_
          refine p_X1_341_c0 hC dX1_leastSet_120 (k_0 _) ?_
          obtain ⟨σ10, e_σ10⟩ : ∃ z : ZS, z = sI σ9 0 17 x6 := ⟨_, rfl⟩
          replace hV := hV _ e_σ10
          rw [← e_σ10]
          obtain ⟨y11, e_y11⟩ : ∃ z : Int32, z = x5 + 1 := ⟨_, rfl⟩
          replace hV := hV _ e_y11
          refine z_iinc (v := y11) hC dX1_leastSet_123 rfl (by rw [e_y11]; rfl) (Nat.le_of_ble_eq_true rfl) rfl rfl ?_
          refine z_goto (tgt := 17) hC dX1_leastSet_126 (by decide) ?_
          refine zz_sub (L' := [some (.ref (E.1.heap.size + 0)), some (.int x1), some (.int x2), some (.int x3), some (.int x5), some (.int y11), none, none]) ⟨rfl, rfl, rfl, rfl, rfl, rfl, trivial⟩ ?_
          exact j_17 σ10 x1 x2 x3 x5 y11 hV
        · replace hV := hV.1 hc
          refine z_goto (tgt := 123) hC dX1_leastSet_110 (by decide) ?_
          obtain ⟨y12, e_y12⟩ : ∃ z : Int32, z = x5 + 1 := ⟨_, rfl⟩
          replace hV := hV _ e_y12
          refine z_iinc (v := y12) hC dX1_leastSet_123 rfl (by rw [e_y12]; rfl) (Nat.le_of_ble_eq_true rfl) rfl rfl ?_
          refine z_goto (tgt := 17) hC dX1_leastSet_126 (by decide) ?_
          refine zz_sub (L' := [some (.ref (E.1.heap.size + 0)), some (.int x1), some (.int x2), some (.int x3), some (.int x4), some (.int y12), none, none]) ⟨rfl, rfl, rfl, rfl, rfl, rfl, trivial⟩ ?_
          exact j_17 σ9 x1 x2 x3 x4 y12 hV
      have j_31 : ∀ (σ : ZS) (x1 : Int32) (x2 : Int32) (x3 : Int32) (x4 : Int32) (x5 : Int32) (x6 : Int32) (x7 : Int32), V_X1_leastSet_31 K17 Ret σ x1 x2 x3 x4 x5 x6 x7 → zz C E NS 8 σ 31 [some (.ref (E.1.heap.size + 0)), some (.int x1), some (.int x2), some (.int x3), some (.int x4), some (.int x5), some (.int x6), some (.int x7)] [] := by
        intro σ x1 x2 x3 x4 x5 x6 x7 ⟨k, hV⟩
        revert σ x1 x2 x3 x4 x5 x6 x7
        induction k with
        | zero => exact fun _ _ _ _ _ _ _ _ hV => hV.elim
        | succ k j_31 =>
          intro σ x1 x2 x3 x4 x5 x6 x7 hV
          simp only [VL_X1_leastSet_31] at hV
          generalize hKe31 : VL_X1_leastSet_31 K17 Ret k = K31 at hV j_31
          clear hKe31
          refine z_iload hC dX1_leastSet_31 rfl ?_
          refine z_iload_n hC dX1_leastSet_33 rfl rfl ?_
          refine z_icmp_ge (tgt := 78) hC dX1_leastSet_34 (by decide) (fun hc => ?_) (fun hc => ?_)
          · replace hV := hV.2 hc
            refine z_iload hC dX1_leastSet_78 rfl ?_
            refine z_iconst (v := (-1)) hC dX1_leastSet_80 rfl ?_
            refine z_icmp_eq (tgt := 96) hC dX1_leastSet_81 (by decide) (fun hc => ?_) (fun hc => ?_)
            · replace hV := hV.1 hc
              refine zz_sub (L' := [some (.ref (E.1.heap.size + 0)), some (.int x1), some (.int x2), some (.int x3), some (.int x4), some (.int x5), some (.int x6), none]) ⟨rfl, rfl, rfl, rfl, rfl, rfl, rfl, trivial⟩ ?_
              exact j_96 σ x1 x2 x3 x4 x5 x6 hV
            · replace hV := hV.2 hc
              refine z_iload hC dX1_leastSet_84 rfl ?_
              refine z_aload_n hC dX1_leastSet_86 rfl rfl ?_
              refine g_X1_341_0 hC dX1_leastSet_87 ?_
              refine z_icmp_lt (tgt := 96) hC dX1_leastSet_90 (by decide) (fun hc => ?_) (fun hc => ?_)
              · replace hV := hV.1 hc
                refine zz_sub (L' := [some (.ref (E.1.heap.size + 0)), some (.int x1), some (.int x2), some (.int x3), some (.int x4), some (.int x5), some (.int x6), none]) ⟨rfl, rfl, rfl, rfl, rfl, rfl, rfl, trivial⟩ ?_
                exact j_96 σ x1 x2 x3 x4 x5 x6 hV
              · replace hV := hV.2 hc
                refine z_goto (tgt := 123) hC dX1_leastSet_93 (by decide) ?_
                obtain ⟨y13, e_y13⟩ : ∃ z : Int32, z = x5 + 1 := ⟨_, rfl⟩
                replace hV := hV _ e_y13
                refine z_iinc (v := y13) hC dX1_leastSet_123 rfl (by rw [e_y13]; rfl) (Nat.le_of_ble_eq_true rfl) rfl rfl ?_
                refine z_goto (tgt := 17) hC dX1_leastSet_126 (by decide) ?_
                refine zz_sub (L' := [some (.ref (E.1.heap.size + 0)), some (.int x1), some (.int x2), some (.int x3), some (.int x4), some (.int y13), none, none]) ⟨rfl, rfl, rfl, rfl, rfl, rfl, trivial⟩ ?_
                exact j_17 σ x1 x2 x3 x4 y13 hV
          · replace hV := hV.1 hc
            refine z_iload hC dX1_leastSet_37 rfl ?_
            refine z_iload hC dX1_leastSet_39 rfl ?_
            refine z_ishr hC dX1_leastSet_41 ?_
            refine z_iconst (v := 1) hC dX1_leastSet_42 rfl ?_
            refine z_iand hC dX1_leastSet_43 ?_
            refine z_iconst (v := 1) hC dX1_leastSet_44 rfl ?_
            refine z_icmp_ne (tgt := 72) hC dX1_leastSet_45 (by decide) (fun hc => ?_) (fun hc => ?_)
            · replace hV := hV.2 hc
              obtain ⟨y14, e_y14⟩ : ∃ z : Int32, z = x7 + 1 := ⟨_, rfl⟩
              replace hV := hV _ e_y14
              refine z_iinc (v := y14) hC dX1_leastSet_72 rfl (by rw [e_y14]; rfl) (Nat.le_of_ble_eq_true rfl) rfl rfl ?_
              refine z_goto (tgt := 31) hC dX1_leastSet_75 (by decide) ?_
              refine zz_sub (L' := [some (.ref (E.1.heap.size + 0)), some (.int x1), some (.int x2), some (.int x3), some (.int x4), some (.int x5), some (.int x6), some (.int y14)]) ⟨rfl, rfl, rfl, rfl, rfl, rfl, rfl, rfl, trivial⟩ ?_
              exact j_31 σ x1 x2 x3 x4 x5 x6 y14 hV
            · replace hV := hV.1 hc
              refine z_iload hC dX1_leastSet_48 rfl ?_
              refine z_iload_n hC dX1_leastSet_50 rfl rfl ?_
              refine z_if_eq (tgt := 68) hC dX1_leastSet_51 (by decide) (fun hc => ?_) (fun hc => ?_)
              · replace hV := hV.1 hc
                refine z_iconst (v := 1) hC dX1_leastSet_68 rfl ?_
                refine z_iadd hC dX1_leastSet_69 ?_
                obtain ⟨y15, e_y15⟩ : ∃ z, z = x6 + 1 := ⟨_, rfl⟩
                rw [← e_y15]
                replace hV := hV _ e_y15
                refine z_istore hC dX1_leastSet_70 (Nat.le_of_ble_eq_true rfl) rfl rfl ?_
                obtain ⟨y16, e_y16⟩ : ∃ z : Int32, z = x7 + 1 := ⟨_, rfl⟩
                replace hV := hV _ e_y16
                refine z_iinc (v := y16) hC dX1_leastSet_72 rfl (by rw [e_y16]; rfl) (Nat.le_of_ble_eq_true rfl) rfl rfl ?_
                refine z_goto (tgt := 31) hC dX1_leastSet_75 (by decide) ?_
                refine zz_sub (L' := [some (.ref (E.1.heap.size + 0)), some (.int x1), some (.int x2), some (.int x3), some (.int x4), some (.int x5), some (.int y15), some (.int y16)]) ⟨rfl, rfl, rfl, rfl, rfl, rfl, rfl, rfl, trivial⟩ ?_
                exact j_31 σ x1 x2 x3 x4 x5 y15 y16 hV
              · replace hV := hV.2 hc
                refine z_aload_n hC dX1_leastSet_54 rfl rfl ?_
                refine z_aload_n hC dX1_leastSet_55 rfl rfl ?_
                refine g_X1_62_0 hC dX1_leastSet_56 ?_
                refine z_iload hC dX1_leastSet_59 rfl ?_
                obtain ⟨h17, hV⟩ := hV
                refine z_iald hC dX1_leastSet_61 (k_26 _) (h17) ?_
                refine c_X1_344 hC (by decide) dX1_leastSet_62 (Nat.le_of_ble_eq_true rfl) hV (fun r18 σ19 hV => ?_)
                refine z_goto (tgt := 69) hC dX1_leastSet_65 (by decide) ?_
                refine z_iadd hC dX1_leastSet_69 ?_
                obtain ⟨y20, e_y20⟩ : ∃ z, z = x6 + r18 := ⟨_, rfl⟩
                rw [← e_y20]
                replace hV := hV _ e_y20
                refine z_istore hC dX1_leastSet_70 (Nat.le_of_ble_eq_true rfl) rfl rfl ?_
                obtain ⟨y21, e_y21⟩ : ∃ z : Int32, z = x7 + 1 := ⟨_, rfl⟩
                replace hV := hV _ e_y21
                refine z_iinc (v := y21) hC dX1_leastSet_72 rfl (by rw [e_y21]; rfl) (Nat.le_of_ble_eq_true rfl) rfl rfl ?_
                refine z_goto (tgt := 31) hC dX1_leastSet_75 (by decide) ?_
                refine zz_sub (L' := [some (.ref (E.1.heap.size + 0)), some (.int x1), some (.int x2), some (.int x3), some (.int x4), some (.int x5), some (.int y20), some (.int y21)]) ⟨rfl, rfl, rfl, rfl, rfl, rfl, rfl, rfl, trivial⟩ ?_
                exact j_31 σ19 x1 x2 x3 x4 x5 y20 y21 hV
      refine z_iload hC dX1_leastSet_17 rfl ?_
      refine z_iconst (v := 1) hC dX1_leastSet_19 rfl ?_
      refine z_iload_n hC dX1_leastSet_20 rfl rfl ?_
      refine z_ishl hC dX1_leastSet_21 ?_
      refine z_icmp_ge (tgt := 129) hC dX1_leastSet_22 (by decide) (fun hc => ?_) (fun hc => ?_)
      · replace hV := hV.2 hc
        refine z_aload_n hC dX1_leastSet_129 rfl rfl ?_
        refine z_iconst (v := 0) hC dX1_leastSet_130 rfl ?_
        refine c_X1_347 hC (by decide) dX1_leastSet_131 (Nat.le_of_ble_eq_true rfl) hV (fun σ5 hV => ?_)
        refine z_iload hC dX1_leastSet_134 rfl ?_
        exact z_iret hC dX1_leastSet_136 rfl (by rw [hQo]; exact ⟨_, rfl, hV⟩)
      · replace hV := hV.1 hc
        refine z_iconst (v := 0) hC dX1_leastSet_25 rfl ?_
        refine z_istore hC dX1_leastSet_26 (Nat.le_of_ble_eq_true rfl) rfl rfl ?_
        refine z_iconst (v := 0) hC dX1_leastSet_28 rfl ?_
        refine z_istore hC dX1_leastSet_29 (Nat.le_of_ble_eq_true rfl) rfl rfl ?_
        refine zz_sub (L' := [some (.ref (E.1.heap.size + 0)), some (.int x1), some (.int x2), some (.int x3), some (.int x4), some (.int x5), some (.int 0), some (.int 0)]) ⟨rfl, rfl, rfl, rfl, rfl, rfl, rfl, rfl, trivial⟩ ?_
        exact j_31 σ x1 x2 x3 x4 x5 0 0 hV
  refine z_aload_n hC dX1_leastSet_0 rfl rfl ?_
  refine z_iload_n hC dX1_leastSet_1 rfl rfl ?_
  refine c_X1_338 hC (by decide) dX1_leastSet_2 (Nat.le_of_ble_eq_true rfl) hV (fun r1 σ2 hV => ?_)
  refine z_istore_n hC dX1_leastSet_5 rfl (Nat.le_of_ble_eq_true rfl) rfl rfl ?_
  refine z_iconst (v := (-1)) hC dX1_leastSet_6 rfl ?_
  refine z_istore hC dX1_leastSet_7 (Nat.le_of_ble_eq_true rfl) rfl rfl ?_
  refine z_aload_n hC dX1_leastSet_9 rfl rfl ?_
  refine z_iconst (v := 0) hC dX1_leastSet_10 rfl ?_
  refine p_X1_341_c0 hC dX1_leastSet_11 (k_0 _) ?_
  obtain ⟨σ3, e_σ3⟩ : ∃ z : ZS, z = sI σ2 0 17 0 := ⟨_, rfl⟩
  replace hV := hV _ e_σ3
  rw [← e_σ3]
  refine z_iconst (v := 0) hC dX1_leastSet_14 rfl ?_
  refine z_istore hC dX1_leastSet_15 (Nat.le_of_ble_eq_true rfl) rfl rfl ?_
  refine zz_sub (L' := [some (.ref (E.1.heap.size + 0)), some (.int a1), some (.int a2), some (.int r1), some (.int (-1)), some (.int 0), none, none]) ⟨rfl, rfl, rfl, rfl, rfl, rfl, trivial⟩ ?_
  exact j_17 σ3 a1 a2 r1 (-1) 0 hV
def VL_X1_comesOf_19 (K7 : ZS → Int32 → Int32 → Int32 → Prop) (Ret : Int32 → ZS → Prop) : Nat → ZS → Int32 → Int32 → Int32 → Int32 → Prop
  | 0 => fun _ _ _ _ _ => False
  | k + 1 => fun σ x2 x3 x4 x5 =>
    let K19 := VL_X1_comesOf_19 K7 Ret k
    wp_X1_corners σ (fun r2 σ3 => ((x5 < r2 → (((((x3 >>> (x5 &&& 31)) &&& 1) = 1 → (wp_X1_reached σ3 x5 x2 (fun r5 σ6 => ∀ y7 : Int32, y7 = x4 ||| r5 → (∀ y8 : Int32, y8 = x5 + 1 → (K19 σ6 x2 x3 y7 y8))))) ∧ (¬ ((x3 >>> (x5 &&& 31)) &&& 1) = 1 → (∀ y4 : Int32, y4 = x5 + 1 → (K19 σ3 x2 x3 x4 y4)))))) ∧ (¬ x5 < r2 → (K7 σ3 x2 x3 x4))))
def V_X1_comesOf_19 (K7 : ZS → Int32 → Int32 → Int32 → Prop) (Ret : Int32 → ZS → Prop) (σ : ZS) (x2 : Int32) (x3 : Int32) (x4 : Int32) (x5 : Int32) : Prop := ∃ k, VL_X1_comesOf_19 K7 Ret k σ x2 x3 x4 x5
def VL_X1_comesOf_7 (Ret : Int32 → ZS → Prop) : Nat → ZS → Int32 → Int32 → Int32 → Prop
  | 0 => fun _ _ _ _ => False
  | k + 1 => fun σ x2 x3 x4 =>
    let K7 := VL_X1_comesOf_7 Ret k
    ((x4 = x3 → (Ret x3 σ)) ∧ (¬ x4 = x3 → (V_X1_comesOf_19 K7 Ret σ x2 x4 x4 0)))
def V_X1_comesOf_7 (Ret : Int32 → ZS → Prop) (σ : ZS) (x2 : Int32) (x3 : Int32) (x4 : Int32) : Prop := ∃ k, VL_X1_comesOf_7 Ret k σ x2 x3 x4
def wp_X1_comesOf (σ : ZS) (a1 : Int32) (a2 : Int32) (Ret : Int32 → ZS → Prop) : Prop :=
    ∀ y1 : Int32, y1 = (1 : Int32) <<< (a1 &&& 31) → (V_X1_comesOf_7 Ret σ a2 0 y1)
set_option maxHeartbeats 4000000 in
theorem mz_X1_comesOf {l : Launch} {E : ZE} (hE : EOK E) {σ : ZS} {a1 : Int32} {a2 : Int32} {Ret : Int32 → ZS → Prop} (hV : wp_X1_comesOf σ a1 a2 Ret) : MZ l E NS yX1_comesOf (ws_ yX1_comesOf cX1_comesOf 6 (some .int)) 10 σ [.ref (E.1.heap.size + 0), .int a1, .int a2] (rI Ret) := by
  refine MZ.start (L := [some (.ref (E.1.heap.size + 0)), some (.int a1), some (.int a2), none, none, none]) hE (by decide) (Nat.le_of_ble_eq_true rfl) rfl fun C hCl hQo hC => ?_
  replace hC : Cx C E cX1_comesOf 6 "RightTurns" "comesOf" (some .int) [] 10 := hC
  unfold wp_X1_comesOf at hV
  have j_7 : ∀ (σ : ZS) (x2 : Int32) (x3 : Int32) (x4 : Int32), V_X1_comesOf_7 Ret σ x2 x3 x4 → zz C E NS 6 σ 7 [some (.ref (E.1.heap.size + 0)), none, some (.int x2), some (.int x3), some (.int x4), none] [] := by
    intro σ x2 x3 x4 ⟨k, hV⟩
    revert σ x2 x3 x4
    induction k with
    | zero => exact fun _ _ _ _ hV => hV.elim
    | succ k j_7 =>
      intro σ x2 x3 x4 hV
      simp only [VL_X1_comesOf_7] at hV
      generalize hKe7 : VL_X1_comesOf_7 Ret k = K7 at hV j_7
      clear hKe7
      have j_19 : ∀ (σ : ZS) (x2 : Int32) (x3 : Int32) (x4 : Int32) (x5 : Int32), V_X1_comesOf_19 K7 Ret σ x2 x3 x4 x5 → zz C E NS 6 σ 19 [some (.ref (E.1.heap.size + 0)), none, some (.int x2), some (.int x3), some (.int x4), some (.int x5)] [] := by
        intro σ x2 x3 x4 x5 ⟨k, hV⟩
        revert σ x2 x3 x4 x5
        induction k with
        | zero => exact fun _ _ _ _ _ hV => hV.elim
        | succ k j_19 =>
          intro σ x2 x3 x4 x5 hV
          simp only [VL_X1_comesOf_19] at hV
          generalize hKe19 : VL_X1_comesOf_19 K7 Ret k = K19 at hV j_19
          clear hKe19
          refine z_iload hC dX1_comesOf_19 rfl ?_
          refine z_aload_n hC dX1_comesOf_21 rfl rfl ?_
          refine c_X1_133 hC (by decide) dX1_comesOf_22 (Nat.le_of_ble_eq_true rfl) hV (fun r2 σ3 hV => ?_)
          refine z_icmp_ge (tgt := 56) hC dX1_comesOf_25 (by decide) (fun hc => ?_) (fun hc => ?_)
          · replace hV := hV.2 hc
            refine z_goto (tgt := 7) hC dX1_comesOf_56 (by decide) ?_
            refine zz_sub (L' := [some (.ref (E.1.heap.size + 0)), none, some (.int x2), some (.int x3), some (.int x4), none]) ⟨rfl, rfl, rfl, rfl, trivial⟩ ?_
            exact j_7 σ3 x2 x3 x4 hV
          · replace hV := hV.1 hc
            refine z_iload_n hC dX1_comesOf_28 rfl rfl ?_
            refine z_iload hC dX1_comesOf_29 rfl ?_
            refine z_ishr hC dX1_comesOf_31 ?_
            refine z_iconst (v := 1) hC dX1_comesOf_32 rfl ?_
            refine z_iand hC dX1_comesOf_33 ?_
            refine z_iconst (v := 1) hC dX1_comesOf_34 rfl ?_
            refine z_icmp_ne (tgt := 50) hC dX1_comesOf_35 (by decide) (fun hc => ?_) (fun hc => ?_)
            · replace hV := hV.2 hc
              obtain ⟨y4, e_y4⟩ : ∃ z : Int32, z = x5 + 1 := ⟨_, rfl⟩
              replace hV := hV _ e_y4
              refine z_iinc (v := y4) hC dX1_comesOf_50 rfl (by rw [e_y4]; rfl) (Nat.le_of_ble_eq_true rfl) rfl rfl ?_
              refine z_goto (tgt := 19) hC dX1_comesOf_53 (by decide) ?_
              refine zz_sub (L' := [some (.ref (E.1.heap.size + 0)), none, some (.int x2), some (.int x3), some (.int x4), some (.int y4)]) ⟨rfl, rfl, rfl, rfl, rfl, trivial⟩ ?_
              exact j_19 σ3 x2 x3 x4 y4 hV
            · replace hV := hV.1 hc
              refine z_iload hC dX1_comesOf_38 rfl ?_
              refine z_aload_n hC dX1_comesOf_40 rfl rfl ?_
              refine z_iload hC dX1_comesOf_41 rfl ?_
              refine z_iload_n hC dX1_comesOf_43 rfl rfl ?_
              refine c_X1_310 hC (by decide) dX1_comesOf_44 (Nat.le_of_ble_eq_true rfl) hV (fun r5 σ6 hV => ?_)
              refine z_ior hC dX1_comesOf_47 ?_
              obtain ⟨y7, e_y7⟩ : ∃ z, z = x4 ||| r5 := ⟨_, rfl⟩
              rw [← e_y7]
              replace hV := hV _ e_y7
              refine z_istore hC dX1_comesOf_48 (Nat.le_of_ble_eq_true rfl) rfl rfl ?_
              obtain ⟨y8, e_y8⟩ : ∃ z : Int32, z = x5 + 1 := ⟨_, rfl⟩
              replace hV := hV _ e_y8
              refine z_iinc (v := y8) hC dX1_comesOf_50 rfl (by rw [e_y8]; rfl) (Nat.le_of_ble_eq_true rfl) rfl rfl ?_
              refine z_goto (tgt := 19) hC dX1_comesOf_53 (by decide) ?_
              refine zz_sub (L' := [some (.ref (E.1.heap.size + 0)), none, some (.int x2), some (.int x3), some (.int y7), some (.int y8)]) ⟨rfl, rfl, rfl, rfl, rfl, trivial⟩ ?_
              exact j_19 σ6 x2 x3 y7 y8 hV
      refine z_iload hC dX1_comesOf_7 rfl ?_
      refine z_iload_n hC dX1_comesOf_9 rfl rfl ?_
      refine z_icmp_eq (tgt := 59) hC dX1_comesOf_10 (by decide) (fun hc => ?_) (fun hc => ?_)
      · replace hV := hV.1 hc
        refine z_iload_n hC dX1_comesOf_59 rfl rfl ?_
        exact z_iret hC dX1_comesOf_60 rfl (by rw [hQo]; exact ⟨_, rfl, hV⟩)
      · replace hV := hV.2 hc
        refine z_iload hC dX1_comesOf_13 rfl ?_
        refine z_istore_n hC dX1_comesOf_15 rfl (Nat.le_of_ble_eq_true rfl) rfl rfl ?_
        refine z_iconst (v := 0) hC dX1_comesOf_16 rfl ?_
        refine z_istore hC dX1_comesOf_17 (Nat.le_of_ble_eq_true rfl) rfl rfl ?_
        refine zz_sub (L' := [some (.ref (E.1.heap.size + 0)), none, some (.int x2), some (.int x4), some (.int x4), some (.int 0)]) ⟨rfl, rfl, rfl, rfl, rfl, trivial⟩ ?_
        exact j_19 σ x2 x4 x4 0 hV
  refine z_iconst (v := 0) hC dX1_comesOf_0 rfl ?_
  refine z_istore_n hC dX1_comesOf_1 rfl (Nat.le_of_ble_eq_true rfl) rfl rfl ?_
  refine z_iconst (v := 1) hC dX1_comesOf_2 rfl ?_
  refine z_iload_n hC dX1_comesOf_3 rfl rfl ?_
  refine z_ishl hC dX1_comesOf_4 ?_
  obtain ⟨y1, e_y1⟩ : ∃ z, z = (1 : Int32) <<< (a1 &&& 31) := ⟨_, rfl⟩
  rw [← e_y1]
  replace hV := hV _ e_y1
  refine z_istore hC dX1_comesOf_5 (Nat.le_of_ble_eq_true rfl) rfl rfl ?_
  refine zz_sub (L' := [some (.ref (E.1.heap.size + 0)), none, some (.int a2), some (.int 0), some (.int y1), none]) ⟨rfl, rfl, rfl, rfl, trivial⟩ ?_
  exact j_7 σ a2 0 y1 hV
theorem g_X1_157_0 {C : ZC} {E : ZE} {cc : ByteArray} {nL pc d : Nat} {nm : String} {ret : Option FieldType} {hh : List (Nat × Nat × Nat × Nat)} {σ : ZS} {L : List (Option Value)} {st : List Value} (hC : Cx C E cc nL "RightTurns" nm ret hh d) (hd : decode cc pc = .ok (.getfield 157, 3)) (k : zz C E NS nL σ (pc + 3) L (.int (zI σ 0 2) :: st)) : zz C E NS nL σ pc L (.ref (E.1.heap.size + 0) :: st) :=
  z_get hC cf0 hd (k_0 σ) (k := 2) (by decide) (Or.inl q583) (Or.inl rfl) rfl k
theorem g_X1_194_0 {C : ZC} {E : ZE} {cc : ByteArray} {nL pc d : Nat} {nm : String} {ret : Option FieldType} {hh : List (Nat × Nat × Nat × Nat)} {σ : ZS} {L : List (Option Value)} {st : List Value} (hC : Cx C E cc nL "RightTurns" nm ret hh d) (hd : decode cc pc = .ok (.getfield 194, 3)) (k : zz C E NS nL σ (pc + 3) L (.int (zI σ 0 4) :: st)) : zz C E NS nL σ pc L (.ref (E.1.heap.size + 0) :: st) :=
  z_get hC cf0 hd (k_0 σ) (k := 4) (by decide) (Or.inl q585) (Or.inl rfl) rfl k
def wp_X1_count (σ : ZS) (a1 : Int32) (Ret : Int32 → ZS → Prop) : Prop :=
    ((a1 = 0 → (Ret (zI σ 12 4) σ)) ∧ (¬ a1 = 0 → (((a1 = 1 → (Ret (zI σ 0 4) σ)) ∧ (¬ a1 = 1 → (((a1 = 2 → (Ret (zI σ 0 2) σ)) ∧ (¬ a1 = 2 → (Ret (-1) σ)))))))))
set_option maxHeartbeats 4000000 in
theorem mz_X1_count {l : Launch} {E : ZE} (hE : EOK E) {σ : ZS} {a1 : Int32} {Ret : Int32 → ZS → Prop} (hV : wp_X1_count σ a1 Ret) : MZ l E NS yX1_count (ws_ yX1_count cX1_count 2 (some .int)) 1 σ [.ref (E.1.heap.size + 0), .int a1] (rI Ret) := by
  refine MZ.start (L := [some (.ref (E.1.heap.size + 0)), some (.int a1)]) hE (by decide) (Nat.le_of_ble_eq_true rfl) rfl fun C hCl hQo hC => ?_
  replace hC : Cx C E cX1_count 2 "RightTurns" "count" (some .int) [] 1 := hC
  unfold wp_X1_count at hV
  refine z_iload_n hC dX1_count_0 rfl rfl ?_
  by_cases hc0 : a1 = 0
  · replace hV := hV.1 hc0
    refine z_tableIn (tgt := 28) (off := 27) hC dX1_count_1 (by rw [hc0]; decide) (by rw [hc0]; decide) (by rw [hc0]; rfl) (by decide) ?_
    refine z_aload_n hC dX1_count_28 rfl rfl ?_
    refine g_X1_19_0 hC dX1_count_29 ?_
    refine g_X1_177_12 hC dX1_count_32 ?_
    exact z_iret hC dX1_count_35 rfl (by rw [hQo]; exact ⟨_, rfl, hV⟩)
  replace hV := hV.2 hc0
  by_cases hc1 : a1 = 1
  · replace hV := hV.1 hc1
    refine z_tableIn (tgt := 36) (off := 35) hC dX1_count_1 (by rw [hc1]; decide) (by rw [hc1]; decide) (by rw [hc1]; rfl) (by decide) ?_
    refine z_aload_n hC dX1_count_36 rfl rfl ?_
    refine g_X1_194_0 hC dX1_count_37 ?_
    exact z_iret hC dX1_count_40 rfl (by rw [hQo]; exact ⟨_, rfl, hV⟩)
  replace hV := hV.2 hc1
  by_cases hc2 : a1 = 2
  · replace hV := hV.1 hc2
    refine z_tableIn (tgt := 41) (off := 40) hC dX1_count_1 (by rw [hc2]; decide) (by rw [hc2]; decide) (by rw [hc2]; rfl) (by decide) ?_
    refine z_aload_n hC dX1_count_41 rfl rfl ?_
    refine g_X1_157_0 hC dX1_count_42 ?_
    exact z_iret hC dX1_count_45 rfl (by rw [hQo]; exact ⟨_, rfl, hV⟩)
  replace hV := hV.2 hc2
  refine z_tableOut (tgt := 46) hC dX1_count_1 (tb_out (lo := 0) (hi := 2) (x := a1) (fun i h1 h2 => ?_)) (by decide) ?_
  · rcases (show i = 0 ∨ i = 1 ∨ i = 2 by omega) with rfl | rfl | rfl
    · exact fun q => hc0 (Int32.toInt_inj.mp (q.trans (by decide)))
    · exact fun q => hc1 (Int32.toInt_inj.mp (q.trans (by decide)))
    · exact fun q => hc2 (Int32.toInt_inj.mp (q.trans (by decide)))
  · refine z_iconst (v := (-1)) hC dX1_count_46 rfl ?_
    exact z_iret hC dX1_count_47 rfl (by rw [hQo]; exact ⟨_, rfl, hV⟩)
theorem g_X1_84_0 {C : ZC} {E : ZE} {cc : ByteArray} {nL pc d : Nat} {nm : String} {ret : Option FieldType} {hh : List (Nat × Nat × Nat × Nat)} {σ : ZS} {L : List (Option Value)} {st : List Value} (hC : Cx C E cc nL "RightTurns" nm ret hh d) (hd : decode cc pc = .ok (.getfield 84, 3)) (k : zz C E NS nL σ (pc + 3) L (.ref (E.1.heap.size + 33) :: st)) : zz C E NS nL σ pc L (.ref (E.1.heap.size + 0) :: st) :=
  z_get hC cf0 hd (k_0 σ) (k := 24) (by decide) (Or.inl q605) (Or.inl rfl) rfl k
theorem g_X1_96_0 {C : ZC} {E : ZE} {cc : ByteArray} {nL pc d : Nat} {nm : String} {ret : Option FieldType} {hh : List (Nat × Nat × Nat × Nat)} {σ : ZS} {L : List (Option Value)} {st : List Value} (hC : Cx C E cc nL "RightTurns" nm ret hh d) (hd : decode cc pc = .ok (.getfield 96, 3)) (k : zz C E NS nL σ (pc + 3) L (.ref (E.1.heap.size + 37) :: st)) : zz C E NS nL σ pc L (.ref (E.1.heap.size + 0) :: st) :=
  z_get hC cf0 hd (k_0 σ) (k := 28) (by decide) (Or.inl q609) (Or.inl rfl) rfl k
theorem g_X1_99_0 {C : ZC} {E : ZE} {cc : ByteArray} {nL pc d : Nat} {nm : String} {ret : Option FieldType} {hh : List (Nat × Nat × Nat × Nat)} {σ : ZS} {L : List (Option Value)} {st : List Value} (hC : Cx C E cc nL "RightTurns" nm ret hh d) (hd : decode cc pc = .ok (.getfield 99, 3)) (k : zz C E NS nL σ (pc + 3) L (.ref (E.1.heap.size + 38) :: st)) : zz C E NS nL σ pc L (.ref (E.1.heap.size + 0) :: st) :=
  z_get hC cf0 hd (k_0 σ) (k := 29) (by decide) (Or.inl q610) (Or.inl rfl) rfl k
theorem g_X1_214_c1 {a x : Nat} {C : ZC} {E : ZE} {cc : ByteArray} {n nL pc d : Nat} {nm : String} {ret : Option FieldType} {hh : List (Nat × Nat × Nat × Nat)} {σ : ZS} {L : List (Option Value)} {st : List Value} (hC : Cx C E cc nL "RightTurns" nm ret hh d) (hd : decode cc pc = .ok (.getfield 214, 3)) (hk : kK n σ a = (1 + 7, x)) (k : zz C E n nL σ (pc + 3) L (pv E.1.heap.size (kP n σ a 2) :: st)) : zz C E n nL σ pc L (.ref (E.1.heap.size + a) :: st) :=
  z_get hC cf1 hd hk (k := 2) (by decide) (Or.inr ⟨_, q514⟩) (Or.inl rfl) rfl k
theorem g_X1_365_c8 {a x : Nat} {C : ZC} {E : ZE} {cc : ByteArray} {n nL pc d : Nat} {nm : String} {ret : Option FieldType} {hh : List (Nat × Nat × Nat × Nat)} {σ : ZS} {L : List (Option Value)} {st : List Value} (hC : Cx C E cc nL "RightTurns" nm ret hh d) (hd : decode cc pc = .ok (.getfield 365, 3)) (hk : kK n σ a = (8 + 7, x)) (k : zz C E n nL σ (pc + 3) L (.int (zI σ a 0) :: st)) : zz C E n nL σ pc L (.ref (E.1.heap.size + a) :: st) :=
  z_get hC cf8 hd hk (k := 0) (by decide) (Or.inr ⟨_, q1082⟩) (Or.inl rfl) rfl k
theorem g_X1_366_c8 {a x : Nat} {C : ZC} {E : ZE} {cc : ByteArray} {n nL pc d : Nat} {nm : String} {ret : Option FieldType} {hh : List (Nat × Nat × Nat × Nat)} {σ : ZS} {L : List (Option Value)} {st : List Value} (hC : Cx C E cc nL "RightTurns" nm ret hh d) (hd : decode cc pc = .ok (.getfield 366, 3)) (hk : kK n σ a = (8 + 7, x)) (k : zz C E n nL σ (pc + 3) L (.int (zI σ a 1) :: st)) : zz C E n nL σ pc L (.ref (E.1.heap.size + a) :: st) :=
  z_get hC cf8 hd hk (k := 1) (by decide) (Or.inr ⟨_, q1084⟩) (Or.inl rfl) rfl k
theorem cw_X1_pathOf : CodeW yX1_pathOf (ws_ yX1_pathOf cX1_pathOf 7 (some .int)) 7 := ⟨fun w h => (List.mem_cons.mp h).elim (fun e => e ▸ q1322) id, Or.inl ⟨_, _, q1322⟩, q116, by decide, by decide⟩
theorem c_X1_305 {C : ZC} {E : ZE} {cc : ByteArray} {nL pc d : Nat} {nm : String} {ret : Option FieldType} {hh : List (Nat × Nat × Nat × Nat)} {σ : ZS} {L : List (Option Value)} {st : List Value} {a1 : Int32} {a2 : Int32} {a3 : Int32} {Ret : Int32 → ZS → Prop} (hC : Cx C E cc nL "RightTurns" nm ret hh d) (hdd : 10 + 1 ≤ d) (hd : decode cc pc = .ok (.invokevirtual 305, 3)) (hW : (st.map fun v => v.category).sum ≤ 8) (hV : wp_X1_pathOf σ a1 a2 a3 Ret) (k : ∀ r σ', Ret r σ' → zz C E NS nL σ' (pc + 3) L (.int r :: st)) : zz C E NS nL σ pc L (.int a3 :: .int a2 :: .int a1 :: .ref (E.1.heap.size + 0) :: st) :=
  z_callVG hC cf0 cw_X1_pathOf hdd (by decide) (mz_X1_pathOf (cxE hC) hV) hd (k_0 σ) q1319 q1321 qs24 (np := 3) rfl rfl hW rfl (kI k)
def VL_X1_findWays_61 (K4 : ZS → Int32 → Int32 → Prop) (Ret : Int32 → ZS → Prop) : Nat → ZS → Int32 → Int32 → Int32 → Prop
  | 0 => fun _ _ _ _ => False
  | k + 1 => fun σ x1 x2 x4 =>
    let K61 := VL_X1_findWays_61 K4 Ret k
    vp_in x2 12 ∧ (((x4 < (zI σ 33 (ix x2)) → (vp_in x4 48 ∧ (vp_in ((48 * x2) + x4) 576 ∧ (∀ σ42 : ZS, σ42 = sI σ 32 (ix ((48 * x2) + x4)) (zI σ 21 (ix x4)) → (∀ y43 : Int32, y43 = x4 + 1 → (K61 σ42 x1 x2 y43)))))) ∧ (¬ x4 < (zI σ 33 (ix x2)) → (vp_in x2 12 ∧ (∀ σ30 : ZS, σ30 = sI σ 34 (ix x2) (-1) → (vp_in x2 12 ∧ (∀ σ32 : ZS, σ32 = sI σ30 37 (ix x2) (-1) → (vp_in x2 12 ∧ (∀ σ34 : ZS, σ34 = sI σ32 38 (ix x2) 0 → (vp_in x2 12 ∧ ((((zI σ34 33 (ix x2)) = (-1) → (∀ y38 : Int32, y38 = x1 + 0 → (∀ y39 : Int32, y39 = x2 + 1 → (K4 σ34 y38 y39)))) ∧ (¬ (zI σ34 33 (ix x2)) = (-1) → (∀ y36 : Int32, y36 = x1 + 1 → (∀ y37 : Int32, y37 = x2 + 1 → (K4 σ34 y36 y37))))))))))))))))
def V_X1_findWays_61 (K4 : ZS → Int32 → Int32 → Prop) (Ret : Int32 → ZS → Prop) (σ : ZS) (x1 : Int32) (x2 : Int32) (x4 : Int32) : Prop := ∃ k, VL_X1_findWays_61 K4 Ret k σ x1 x2 x4
def VL_X1_findWays_4 (Ret : Int32 → ZS → Prop) : Nat → ZS → Int32 → Int32 → Prop
  | 0 => fun _ _ _ => False
  | k + 1 => fun σ x1 x2 =>
    let K4 := VL_X1_findWays_4 Ret k
    (zP σ 0 0) = some (.inl (zo (zP σ 0 0))) ∧ ((∃ n3, kK NS σ (zo (zP σ 0 0)) = (8, n3)) ∧ ((kP NS σ (zo (zP σ 0 0)) 2) = some (.inl (zo (kP NS σ (zo (zP σ 0 0)) 2))) ∧ ((∃ n8, kK NS σ (zo (kP NS σ (zo (zP σ 0 0)) 2)) = (16, n8)) ∧ (wp_J2_size σ (zo (kP NS σ (zo (zP σ 0 0)) 2)) (fun r5 σ6 => ((x2 < r5 → ((zP σ6 0 0) = some (.inl (zo (zP σ6 0 0))) ∧ ((∃ n11, kK NS σ6 (zo (zP σ6 0 0)) = (8, n11)) ∧ ((kP NS σ6 (zo (zP σ6 0 0)) 2) = some (.inl (zo (kP NS σ6 (zo (zP σ6 0 0)) 2))) ∧ ((∃ n16, kK NS σ6 (zo (kP NS σ6 (zo (zP σ6 0 0)) 2)) = (16, n16)) ∧ (wp_J2_get σ6 (zo (kP NS σ6 (zo (zP σ6 0 0)) 2)) x2 (fun r13 σ14 => r13 = some (.inl (zo r13)) ∧ ((∃ n19, kK NS σ14 (zo r13) = (15, n19)) ∧ ((∃ n21, kK NS σ14 (zo r13) = (15, n21)) ∧ ((∃ n23, kK NS σ14 (zo r13) = (15, n23)) ∧ (wp_X1_pathOf σ14 (zI σ14 (zo r13) 0) (zI σ14 (zo r13) 1) (zI σ14 12 3) (fun r24 σ25 => vp_in x2 12 ∧ (∀ σ27 : ZS, σ27 = sI σ25 33 (ix x2) r24 → (V_X1_findWays_61 K4 Ret σ27 x1 x2 0)))))))))))))) ∧ (¬ x2 < r5 → (Ret x1 σ6))))))))
def V_X1_findWays_4 (Ret : Int32 → ZS → Prop) (σ : ZS) (x1 : Int32) (x2 : Int32) : Prop := ∃ k, VL_X1_findWays_4 Ret k σ x1 x2
def wp_X1_findWays (σ : ZS) (Ret : Int32 → ZS → Prop) : Prop :=
    V_X1_findWays_4 Ret σ 0 0
set_option maxHeartbeats 4000000 in
theorem mz_X1_findWays {l : Launch} {E : ZE} (hE : EOK E) {σ : ZS} {Ret : Int32 → ZS → Prop} (hV : wp_X1_findWays σ Ret) : MZ l E NS yX1_findWays (ws_ yX1_findWays cX1_findWays 5 (some .int)) 11 σ [.ref (E.1.heap.size + 0)] (rI Ret) := by
  refine MZ.start (L := [some (.ref (E.1.heap.size + 0)), none, none, none, none]) hE (by decide) (Nat.le_of_ble_eq_true rfl) rfl fun C hCl hQo hC => ?_
  replace hC : Cx C E cX1_findWays 5 "RightTurns" "findWays" (some .int) [] 11 := hC
  unfold wp_X1_findWays at hV
  have j_4 : ∀ (σ : ZS) (x1 : Int32) (x2 : Int32), V_X1_findWays_4 Ret σ x1 x2 → zz C E NS 5 σ 4 [some (.ref (E.1.heap.size + 0)), some (.int x1), some (.int x2), none, none] [] := by
    intro σ x1 x2 ⟨k, hV⟩
    revert σ x1 x2
    induction k with
    | zero => exact fun _ _ _ hV => hV.elim
    | succ k j_4 =>
      intro σ x1 x2 hV
      simp only [VL_X1_findWays_4] at hV
      generalize hKe4 : VL_X1_findWays_4 Ret k = K4 at hV j_4
      clear hKe4
      have j_61 : ∀ (σ : ZS) (x1 : Int32) (x2 : Int32) (x4 : Int32), V_X1_findWays_61 K4 Ret σ x1 x2 x4 → zz C E NS 5 σ 61 [some (.ref (E.1.heap.size + 0)), some (.int x1), some (.int x2), none, some (.int x4)] [] := by
        intro σ x1 x2 x4 ⟨k, hV⟩
        revert σ x1 x2 x4
        induction k with
        | zero => exact fun _ _ _ _ hV => hV.elim
        | succ k j_61 =>
          intro σ x1 x2 x4 hV
          simp only [VL_X1_findWays_61] at hV
          generalize hKe61 : VL_X1_findWays_61 K4 Ret k = K61 at hV j_61
          clear hKe61
          refine z_iload hC dX1_findWays_61 rfl ?_
          refine z_aload_n hC dX1_findWays_63 rfl rfl ?_
          refine g_X1_84_0 hC dX1_findWays_64 ?_
          refine z_iload_n hC dX1_findWays_67 rfl rfl ?_
          obtain ⟨h28, hV⟩ := hV
          refine z_iald hC dX1_findWays_68 (k_33 _) (h28) ?_
          refine z_icmp_ge (tgt := 97) hC dX1_findWays_69 (by decide) (fun hc => ?_) (fun hc => ?_)
          · replace hV := hV.2 hc
            refine z_aload_n hC dX1_findWays_97 rfl rfl ?_
            refine g_X1_87_0 hC dX1_findWays_98 ?_
            refine z_iload_n hC dX1_findWays_101 rfl rfl ?_
            refine z_iconst (v := (-1)) hC dX1_findWays_102 rfl ?_
            obtain ⟨h29, hV⟩ := hV
            refine z_iast hC dX1_findWays_103 (k_34 _) (h29) ?_
            obtain ⟨σ30, e_σ30⟩ : ∃ z : ZS, z = sI σ 34 (ix x2) (-1) := ⟨_, rfl⟩
            replace hV := hV _ e_σ30
            rw [← e_σ30]
            refine z_aload_n hC dX1_findWays_104 rfl rfl ?_
            refine g_X1_96_0 hC dX1_findWays_105 ?_
            refine z_iload_n hC dX1_findWays_108 rfl rfl ?_
            refine z_iconst (v := (-1)) hC dX1_findWays_109 rfl ?_
            obtain ⟨h31, hV⟩ := hV
            refine z_iast hC dX1_findWays_110 (k_37 _) (h31) ?_
            obtain ⟨σ32, e_σ32⟩ : ∃ z : ZS, z = sI σ30 37 (ix x2) (-1) := ⟨_, rfl⟩
            replace hV := hV _ e_σ32
            rw [← e_σ32]
            refine z_aload_n hC dX1_findWays_111 rfl rfl ?_
            refine g_X1_99_0 hC dX1_findWays_112 ?_
            refine z_iload_n hC dX1_findWays_115 rfl rfl ?_
            refine z_iconst (v := 0) hC dX1_findWays_116 rfl ?_
            obtain ⟨h33, hV⟩ := hV
            refine z_iast hC dX1_findWays_117 (k_38 _) (h33) ?_
            obtain ⟨σ34, e_σ34⟩ : ∃ z : ZS, z = sI σ32 38 (ix x2) 0 := ⟨_, rfl⟩
            replace hV := hV _ e_σ34
            rw [← e_σ34]
            refine z_iload_n hC dX1_findWays_118 rfl rfl ?_
            refine z_aload_n hC dX1_findWays_119 rfl rfl ?_
            refine g_X1_84_0 hC dX1_findWays_120 ?_
            refine z_iload_n hC dX1_findWays_123 rfl rfl ?_
            obtain ⟨h35, hV⟩ := hV
            refine z_iald hC dX1_findWays_124 (k_33 _) (h35) ?_
            refine z_iconst (v := (-1)) hC dX1_findWays_125 rfl ?_
            refine z_icmp_ne (tgt := 133) hC dX1_findWays_126 (by decide) (fun hc => ?_) (fun hc => ?_)
            · replace hV := hV.2 hc
              refine z_iconst (v := 1) hC dX1_findWays_133 rfl ?_
              refine z_iadd hC dX1_findWays_134 ?_
              obtain ⟨y36, e_y36⟩ : ∃ z, z = x1 + 1 := ⟨_, rfl⟩
              rw [← e_y36]
              replace hV := hV _ e_y36
              refine z_istore_n hC dX1_findWays_135 rfl (Nat.le_of_ble_eq_true rfl) rfl rfl ?_
              obtain ⟨y37, e_y37⟩ : ∃ z : Int32, z = x2 + 1 := ⟨_, rfl⟩
              replace hV := hV _ e_y37
              refine z_iinc (v := y37) hC dX1_findWays_136 rfl (by rw [e_y37]; rfl) (Nat.le_of_ble_eq_true rfl) rfl rfl ?_
              refine z_goto (tgt := 4) hC dX1_findWays_139 (by decide) ?_
              refine zz_sub (L' := [some (.ref (E.1.heap.size + 0)), some (.int y36), some (.int y37), none, none]) ⟨rfl, rfl, rfl, trivial⟩ ?_
              exact j_4 σ34 y36 y37 hV
            · replace hV := hV.1 hc
              refine z_iconst (v := 0) hC dX1_findWays_129 rfl ?_
              refine z_goto (tgt := 134) hC dX1_findWays_130 (by decide) ?_
              refine z_iadd hC dX1_findWays_134 ?_
              obtain ⟨y38, e_y38⟩ : ∃ z, z = x1 + 0 := ⟨_, rfl⟩
              rw [← e_y38]
              replace hV := hV _ e_y38
              refine z_istore_n hC dX1_findWays_135 rfl (Nat.le_of_ble_eq_true rfl) rfl rfl ?_
              obtain ⟨y39, e_y39⟩ : ∃ z : Int32, z = x2 + 1 := ⟨_, rfl⟩
              replace hV := hV _ e_y39
              refine z_iinc (v := y39) hC dX1_findWays_136 rfl (by rw [e_y39]; rfl) (Nat.le_of_ble_eq_true rfl) rfl rfl ?_
              refine z_goto (tgt := 4) hC dX1_findWays_139 (by decide) ?_
              refine zz_sub (L' := [some (.ref (E.1.heap.size + 0)), some (.int y38), some (.int y39), none, none]) ⟨rfl, rfl, rfl, trivial⟩ ?_
              exact j_4 σ34 y38 y39 hV
          · replace hV := hV.1 hc
            refine z_aload_n hC dX1_findWays_72 rfl rfl ?_
            refine g_X1_81_0 hC dX1_findWays_73 ?_
            refine z_bipush (v := 48) hC dX1_findWays_76 rfl ?_
            refine z_iload_n hC dX1_findWays_78 rfl rfl ?_
            refine z_imul hC dX1_findWays_79 ?_
            refine z_iload hC dX1_findWays_80 rfl ?_
            refine z_iadd hC dX1_findWays_82 ?_
            refine z_aload_n hC dX1_findWays_83 rfl rfl ?_
            refine g_X1_45_0 hC dX1_findWays_84 ?_
            refine z_iload hC dX1_findWays_87 rfl ?_
            obtain ⟨h40, hV⟩ := hV
            refine z_iald hC dX1_findWays_89 (k_21 _) (h40) ?_
            obtain ⟨h41, hV⟩ := hV
            refine z_iast hC dX1_findWays_90 (k_32 _) (h41) ?_
            obtain ⟨σ42, e_σ42⟩ : ∃ z : ZS, z = sI σ 32 (ix ((48 * x2) + x4)) (zI σ 21 (ix x4)) := ⟨_, rfl⟩
            replace hV := hV _ e_σ42
            rw [← e_σ42]
            obtain ⟨y43, e_y43⟩ : ∃ z : Int32, z = x4 + 1 := ⟨_, rfl⟩
            replace hV := hV _ e_y43
            refine z_iinc (v := y43) hC dX1_findWays_91 rfl (by rw [e_y43]; rfl) (Nat.le_of_ble_eq_true rfl) rfl rfl ?_
            refine z_goto (tgt := 61) hC dX1_findWays_94 (by decide) ?_
            refine zz_sub (L' := [some (.ref (E.1.heap.size + 0)), some (.int x1), some (.int x2), none, some (.int y43)]) ⟨rfl, rfl, rfl, rfl, trivial⟩ ?_
            exact j_61 σ42 x1 x2 y43 hV
      refine z_iload_n hC dX1_findWays_4 rfl rfl ?_
      refine z_aload_n hC dX1_findWays_5 rfl rfl ?_
      refine g_X1_12_0 hC dX1_findWays_6 ?_
      obtain ⟨h1, hV⟩ := hV
      refine zz_at rfl (by rw [pvo h1]) ?_
      obtain ⟨⟨n3, h2⟩, hV⟩ := hV
      refine g_X1_214_c1 hC dX1_findWays_9 h2 ?_
      obtain ⟨h4, hV⟩ := hV
      refine zz_at rfl (by rw [pvo h4]) ?_
      obtain ⟨⟨n8, h7⟩, hV⟩ := hV
      refine c_X1_127 hC (by decide) dX1_findWays_12 (Nat.le_of_ble_eq_true rfl) h7 hV (fun r5 σ6 hV => ?_)
      refine z_icmp_ge (tgt := 142) hC dX1_findWays_15 (by decide) (fun hc => ?_) (fun hc => ?_)
      · replace hV := hV.2 hc
        refine z_iload_n hC dX1_findWays_142 rfl rfl ?_
        exact z_iret hC dX1_findWays_143 rfl (by rw [hQo]; exact ⟨_, rfl, hV⟩)
      · replace hV := hV.1 hc
        refine z_aload_n hC dX1_findWays_18 rfl rfl ?_
        refine g_X1_12_0 hC dX1_findWays_19 ?_
        obtain ⟨h9, hV⟩ := hV
        refine zz_at rfl (by rw [pvo h9]) ?_
        obtain ⟨⟨n11, h10⟩, hV⟩ := hV
        refine g_X1_214_c1 hC dX1_findWays_22 h10 ?_
        obtain ⟨h12, hV⟩ := hV
        refine zz_at rfl (by rw [pvo h12]) ?_
        refine z_iload_n hC dX1_findWays_25 rfl rfl ?_
        obtain ⟨⟨n16, h15⟩, hV⟩ := hV
        refine c_X1_144 hC (by decide) dX1_findWays_26 (Nat.le_of_ble_eq_true rfl) h15 hV (fun r13 σ14 hV => ?_)
        obtain ⟨h17, hV⟩ := hV
        refine zz_at rfl (by rw [pvo h17]) ?_
        obtain ⟨⟨n19, h18⟩, hV⟩ := hV
        refine z_cast hC cf8 dX1_findWays_29 h18 q1476 ?_
        refine z_astore_n hC dX1_findWays_32 rfl (Nat.le_of_ble_eq_true rfl) rfl rfl ?_
        refine z_aload_n hC dX1_findWays_33 rfl rfl ?_
        refine g_X1_84_0 hC dX1_findWays_34 ?_
        refine z_iload_n hC dX1_findWays_37 rfl rfl ?_
        refine z_aload_n hC dX1_findWays_38 rfl rfl ?_
        refine z_aload_n hC dX1_findWays_39 rfl rfl ?_
        obtain ⟨⟨n21, h20⟩, hV⟩ := hV
        refine g_X1_365_c8 hC dX1_findWays_40 h20 ?_
        refine z_aload_n hC dX1_findWays_43 rfl rfl ?_
        obtain ⟨⟨n23, h22⟩, hV⟩ := hV
        refine g_X1_366_c8 hC dX1_findWays_44 h22 ?_
        refine z_aload_n hC dX1_findWays_47 rfl rfl ?_
        refine g_X1_19_0 hC dX1_findWays_48 ?_
        refine g_X1_154_12 hC dX1_findWays_51 ?_
        refine c_X1_305 hC (by decide) dX1_findWays_54 (Nat.le_of_ble_eq_true rfl) hV (fun r24 σ25 hV => ?_)
        obtain ⟨h26, hV⟩ := hV
        refine z_iast hC dX1_findWays_57 (k_33 _) (h26) ?_
        obtain ⟨σ27, e_σ27⟩ : ∃ z : ZS, z = sI σ25 33 (ix x2) r24 := ⟨_, rfl⟩
        replace hV := hV _ e_σ27
        rw [← e_σ27]
        refine z_iconst (v := 0) hC dX1_findWays_58 rfl ?_
        refine z_istore hC dX1_findWays_59 (Nat.le_of_ble_eq_true rfl) rfl rfl ?_
        refine zz_sub (L' := [some (.ref (E.1.heap.size + 0)), some (.int x1), some (.int x2), none, some (.int 0)]) ⟨rfl, rfl, rfl, rfl, trivial⟩ ?_
        exact j_61 σ27 x1 x2 0 hV
  refine z_iconst (v := 0) hC dX1_findWays_0 rfl ?_
  refine z_istore_n hC dX1_findWays_1 rfl (Nat.le_of_ble_eq_true rfl) rfl rfl ?_
  refine z_iconst (v := 0) hC dX1_findWays_2 rfl ?_
  refine z_istore_n hC dX1_findWays_3 rfl (Nat.le_of_ble_eq_true rfl) rfl rfl ?_
  refine zz_sub (L' := [some (.ref (E.1.heap.size + 0)), some (.int 0), some (.int 0), none, none]) ⟨rfl, rfl, rfl, trivial⟩ ?_
  exact j_4 σ 0 0 hV
theorem c_X1_208 {C : ZC} {E : ZE} {cc : ByteArray} {nL pc d : Nat} {nm : String} {ret : Option FieldType} {hh : List (Nat × Nat × Nat × Nat)} {σ : ZS} {L : List (Option Value)} {st : List Value} {a0 : Int32} {Ret : Int32 → ZS → Prop} (hC : Cx C E cc nL "RightTurns" nm ret hh d) (hdd : 1 + 1 ≤ d) (hd : decode cc pc = .ok (.invokestatic 208, 3)) (hW : (st.map fun v => v.category).sum ≤ 8) (hV : wp_J16_bitCount σ a0 Ret) (k : ∀ r σ', Ret r σ' → zz C E NS nL σ' (pc + 3) L (.int r :: st)) : zz C E NS nL σ pc L (.int a0 :: st) :=
  z_callSG hC cw_J16_bitCount hdd (by decide) (mz_J16_bitCount (cxE hC) hV) hd q1143 q911 (np := 1) rfl rfl hW rfl (kI k)
def VL_X1_pairs_4 (Ret : Int32 → ZS → Prop) : Nat → ZS → Int32 → Int32 → Int32 → Prop
  | 0 => fun _ _ _ _ => False
  | k + 1 => fun σ x1 x2 x3 =>
    let K4 := VL_X1_pairs_4 Ret k
    wp_X1_corners σ (fun r1 σ2 => ((x3 < r1 → (wp_X1_reached σ2 x3 x1 (fun r3 σ4 => wp_J16_bitCount σ4 r3 (fun r5 σ6 => ∀ y7 : Int32, y7 = x2 + (r5 - 1) → (∀ y8 : Int32, y8 = x3 + 1 → (K4 σ6 x1 y7 y8)))))) ∧ (¬ x3 < r1 → (Ret x2 σ2))))
def V_X1_pairs_4 (Ret : Int32 → ZS → Prop) (σ : ZS) (x1 : Int32) (x2 : Int32) (x3 : Int32) : Prop := ∃ k, VL_X1_pairs_4 Ret k σ x1 x2 x3
def wp_X1_pairs (σ : ZS) (a1 : Int32) (Ret : Int32 → ZS → Prop) : Prop :=
    V_X1_pairs_4 Ret σ a1 0 0
set_option maxHeartbeats 4000000 in
theorem mz_X1_pairs {l : Launch} {E : ZE} (hE : EOK E) {σ : ZS} {a1 : Int32} {Ret : Int32 → ZS → Prop} (hV : wp_X1_pairs σ a1 Ret) : MZ l E NS yX1_pairs (ws_ yX1_pairs cX1_pairs 4 (some .int)) 10 σ [.ref (E.1.heap.size + 0), .int a1] (rI Ret) := by
  refine MZ.start (L := [some (.ref (E.1.heap.size + 0)), some (.int a1), none, none]) hE (by decide) (Nat.le_of_ble_eq_true rfl) rfl fun C hCl hQo hC => ?_
  replace hC : Cx C E cX1_pairs 4 "RightTurns" "pairs" (some .int) [] 10 := hC
  unfold wp_X1_pairs at hV
  have j_4 : ∀ (σ : ZS) (x1 : Int32) (x2 : Int32) (x3 : Int32), V_X1_pairs_4 Ret σ x1 x2 x3 → zz C E NS 4 σ 4 [some (.ref (E.1.heap.size + 0)), some (.int x1), some (.int x2), some (.int x3)] [] := by
    intro σ x1 x2 x3 ⟨k, hV⟩
    revert σ x1 x2 x3
    induction k with
    | zero => exact fun _ _ _ _ hV => hV.elim
    | succ k j_4 =>
      intro σ x1 x2 x3 hV
      simp only [VL_X1_pairs_4] at hV
      generalize hKe4 : VL_X1_pairs_4 Ret k = K4 at hV j_4
      clear hKe4
      refine z_iload_n hC dX1_pairs_4 rfl rfl ?_
      refine z_aload_n hC dX1_pairs_5 rfl rfl ?_
      refine c_X1_133 hC (by decide) dX1_pairs_6 (Nat.le_of_ble_eq_true rfl) hV (fun r1 σ2 hV => ?_)
      refine z_icmp_ge (tgt := 32) hC dX1_pairs_9 (by decide) (fun hc => ?_) (fun hc => ?_)
      · replace hV := hV.2 hc
        refine z_iload_n hC dX1_pairs_32 rfl rfl ?_
        exact z_iret hC dX1_pairs_33 rfl (by rw [hQo]; exact ⟨_, rfl, hV⟩)
      · replace hV := hV.1 hc
        refine z_iload_n hC dX1_pairs_12 rfl rfl ?_
        refine z_aload_n hC dX1_pairs_13 rfl rfl ?_
        refine z_iload_n hC dX1_pairs_14 rfl rfl ?_
        refine z_iload_n hC dX1_pairs_15 rfl rfl ?_
        refine c_X1_310 hC (by decide) dX1_pairs_16 (Nat.le_of_ble_eq_true rfl) hV (fun r3 σ4 hV => ?_)
        refine c_X1_208 hC (by decide) dX1_pairs_19 (Nat.le_of_ble_eq_true rfl) hV (fun r5 σ6 hV => ?_)
        refine z_iconst (v := 1) hC dX1_pairs_22 rfl ?_
        refine z_isub hC dX1_pairs_23 ?_
        refine z_iadd hC dX1_pairs_24 ?_
        obtain ⟨y7, e_y7⟩ : ∃ z, z = x2 + (r5 - 1) := ⟨_, rfl⟩
        rw [← e_y7]
        replace hV := hV _ e_y7
        refine z_istore_n hC dX1_pairs_25 rfl (Nat.le_of_ble_eq_true rfl) rfl rfl ?_
        obtain ⟨y8, e_y8⟩ : ∃ z : Int32, z = x3 + 1 := ⟨_, rfl⟩
        replace hV := hV _ e_y8
        refine z_iinc (v := y8) hC dX1_pairs_26 rfl (by rw [e_y8]; rfl) (Nat.le_of_ble_eq_true rfl) rfl rfl ?_
        refine z_goto (tgt := 4) hC dX1_pairs_29 (by decide) ?_
        refine zz_sub (L' := [some (.ref (E.1.heap.size + 0)), some (.int x1), some (.int y7), some (.int y8)]) ⟨rfl, rfl, rfl, rfl, trivial⟩ ?_
        exact j_4 σ6 x1 y7 y8 hV
  refine z_iconst (v := 0) hC dX1_pairs_0 rfl ?_
  refine z_istore_n hC dX1_pairs_1 rfl (Nat.le_of_ble_eq_true rfl) rfl rfl ?_
  refine z_iconst (v := 0) hC dX1_pairs_2 rfl ?_
  refine z_istore_n hC dX1_pairs_3 rfl (Nat.le_of_ble_eq_true rfl) rfl rfl ?_
  refine zz_sub (L' := [some (.ref (E.1.heap.size + 0)), some (.int a1), some (.int 0), some (.int 0)]) ⟨rfl, rfl, rfl, rfl, trivial⟩ ?_
  exact j_4 σ a1 0 0 hV
theorem g_X1_23_0 {C : ZC} {E : ZE} {cc : ByteArray} {nL pc d : Nat} {nm : String} {ret : Option FieldType} {hh : List (Nat × Nat × Nat × Nat)} {σ : ZS} {L : List (Option Value)} {st : List Value} (hC : Cx C E cc nL "RightTurns" nm ret hh d) (hd : decode cc pc = .ok (.getfield 23, 3)) (k : zz C E NS nL σ (pc + 3) L (.int (zI σ 0 3) :: st)) : zz C E NS nL σ pc L (.ref (E.1.heap.size + 0) :: st) :=
  z_get hC cf0 hd (k_0 σ) (k := 3) (by decide) (Or.inl q584) (Or.inl rfl) rfl k
def wp_X1_fault (σ : ZS) (Ret : Int32 → ZS → Prop) : Prop :=
    Ret (zI σ 0 3) σ
set_option maxHeartbeats 4000000 in
theorem mz_X1_fault {l : Launch} {E : ZE} (hE : EOK E) {σ : ZS} {Ret : Int32 → ZS → Prop} (hV : wp_X1_fault σ Ret) : MZ l E NS yX1_fault (ws_ yX1_fault cX1_fault 1 (some .int)) 1 σ [.ref (E.1.heap.size + 0)] (rI Ret) := by
  refine MZ.start (L := [some (.ref (E.1.heap.size + 0))]) hE (by decide) (Nat.le_of_ble_eq_true rfl) rfl fun C hCl hQo hC => ?_
  replace hC : Cx C E cX1_fault 1 "RightTurns" "fault" (some .int) [] 1 := hC
  unfold wp_X1_fault at hV
  refine z_aload_n hC dX1_fault_0 rfl rfl ?_
  refine g_X1_23_0 hC dX1_fault_1 ?_
  exact z_iret hC dX1_fault_4 rfl (by rw [hQo]; exact ⟨_, rfl, hV⟩)
theorem g_X1_27_0 {C : ZC} {E : ZE} {cc : ByteArray} {nL pc d : Nat} {nm : String} {ret : Option FieldType} {hh : List (Nat × Nat × Nat × Nat)} {σ : ZS} {L : List (Option Value)} {st : List Value} (hC : Cx C E cc nL "RightTurns" nm ret hh d) (hd : decode cc pc = .ok (.getfield 27, 3)) (k : zz C E NS nL σ (pc + 3) L (.ref (E.1.heap.size + 16) :: st)) : zz C E NS nL σ pc L (.ref (E.1.heap.size + 0) :: st) :=
  z_get hC cf0 hd (k_0 σ) (k := 5) (by decide) (Or.inl q586) (Or.inl rfl) rfl k
theorem p_X1_157_c0 {C : ZC} {E : ZE} {cc : ByteArray} {n nL pc d a x : Nat} {nm : String} {ret : Option FieldType} {hh : List (Nat × Nat × Nat × Nat)} {σ : ZS} {L : List (Option Value)} {st : List Value} {v : Int32} (hC : Cx C E cc nL "RightTurns" nm ret hh d) (hd : decode cc pc = .ok (.putfield 157, 3)) (hk : kK n σ a = (0 + 7, x)) (k : zz C E n nL (sI σ a 2 v) (pc + 3) L st) : zz C E n nL σ pc L (.int v :: .ref (E.1.heap.size + a) :: st) :=
  z_putI hC cf0 hd hk (k := 2) (by decide) (Or.inl q583) (Or.inl rfl) (Or.inl rfl) rfl rfl rfl k
def VL_X1_put_3 (Ret : ZS → Prop) : Nat → ZS → Int32 → Int32 → Prop
  | 0 => fun _ _ _ => False
  | k + 1 => fun σ x1 x2 =>
    let K3 := VL_X1_put_3 Ret k
    ((x2 < 0 → (Ret σ)) ∧ (¬ x2 < 0 → (vp_in (zI σ 0 2) 500 ∧ (∀ σ2 : ZS, σ2 = sI σ 16 (ix (zI σ 0 2)) (vp_nar .byte ((x1 >>> (x2 &&& 31)).toInt8.toInt32)) → (∀ σ3 : ZS, σ3 = sI σ2 0 2 ((zI σ2 0 2) + 1) → (∀ y4 : Int32, y4 = x2 + (-8) → (K3 σ3 x1 y4)))))))
def V_X1_put_3 (Ret : ZS → Prop) (σ : ZS) (x1 : Int32) (x2 : Int32) : Prop := ∃ k, VL_X1_put_3 Ret k σ x1 x2
def wp_X1_put (σ : ZS) (a1 : Int32) (Ret : ZS → Prop) : Prop :=
    V_X1_put_3 Ret σ a1 24
set_option maxHeartbeats 4000000 in
theorem mz_X1_put {l : Launch} {E : ZE} (hE : EOK E) {σ : ZS} {a1 : Int32} {Ret : ZS → Prop} (hV : wp_X1_put σ a1 Ret) : MZ l E NS yX1_put (ws_ yX1_put cX1_put 3 none) 1 σ [.ref (E.1.heap.size + 0), .int a1] (rV Ret) := by
  refine MZ.start (L := [some (.ref (E.1.heap.size + 0)), some (.int a1), none]) hE (by decide) (Nat.le_of_ble_eq_true rfl) rfl fun C hCl hQo hC => ?_
  replace hC : Cx C E cX1_put 3 "RightTurns" "put" none [] 1 := hC
  unfold wp_X1_put at hV
  have j_3 : ∀ (σ : ZS) (x1 : Int32) (x2 : Int32), V_X1_put_3 Ret σ x1 x2 → zz C E NS 3 σ 3 [some (.ref (E.1.heap.size + 0)), some (.int x1), some (.int x2)] [] := by
    intro σ x1 x2 ⟨k, hV⟩
    revert σ x1 x2
    induction k with
    | zero => exact fun _ _ _ hV => hV.elim
    | succ k j_3 =>
      intro σ x1 x2 hV
      simp only [VL_X1_put_3] at hV
      generalize hKe3 : VL_X1_put_3 Ret k = K3 at hV j_3
      clear hKe3
      refine z_iload_n hC dX1_put_3 rfl rfl ?_
      refine z_if_lt (tgt := 36) hC dX1_put_4 (by decide) (fun hc => ?_) (fun hc => ?_)
      · replace hV := hV.1 hc
        exact z_vret hC dX1_put_36 (by rw [hQo]; exact ⟨rfl, hV⟩)
      · replace hV := hV.2 hc
        refine z_aload_n hC dX1_put_7 rfl rfl ?_
        refine g_X1_27_0 hC dX1_put_8 ?_
        refine z_aload_n hC dX1_put_11 rfl rfl ?_
        refine g_X1_157_0 hC dX1_put_12 ?_
        refine z_iload_n hC dX1_put_15 rfl rfl ?_
        refine z_iload_n hC dX1_put_16 rfl rfl ?_
        refine z_ishr hC dX1_put_17 ?_
        refine z_i2b hC dX1_put_18 ?_
        obtain ⟨h1, hV⟩ := hV
        refine z_bast hC dX1_put_19 (k_16 _) (h1) ?_
        obtain ⟨σ2, e_σ2⟩ : ∃ z : ZS, z = sI σ 16 (ix (zI σ 0 2)) (vp_nar .byte ((x1 >>> (x2 &&& 31)).toInt8.toInt32)) := ⟨_, rfl⟩
        replace hV := hV _ e_σ2
        rw [← e_σ2]
        refine z_aload_n hC dX1_put_20 rfl rfl ?_
        refine z_dup hC dX1_put_21 rfl ?_
        refine g_X1_157_0 hC dX1_put_22 ?_
        refine z_iconst (v := 1) hC dX1_put_25 rfl ?_
        refine z_iadd hC dX1_put_26 ?_
        refine p_X1_157_c0 hC dX1_put_27 (k_0 _) ?_
        obtain ⟨σ3, e_σ3⟩ : ∃ z : ZS, z = sI σ2 0 2 ((zI σ2 0 2) + 1) := ⟨_, rfl⟩
        replace hV := hV _ e_σ3
        rw [← e_σ3]
        obtain ⟨y4, e_y4⟩ : ∃ z : Int32, z = x2 + (-8) := ⟨_, rfl⟩
        replace hV := hV _ e_y4
        refine z_iinc (v := y4) hC dX1_put_30 rfl (by rw [e_y4]; rfl) (Nat.le_of_ble_eq_true rfl) rfl rfl ?_
        refine z_goto (tgt := 3) hC dX1_put_33 (by decide) ?_
        refine zz_sub (L' := [some (.ref (E.1.heap.size + 0)), some (.int x1), some (.int y4)]) ⟨rfl, rfl, rfl, trivial⟩ ?_
        exact j_3 σ3 x1 y4 hV
  refine z_bipush (v := 24) hC dX1_put_0 rfl ?_
  refine z_istore_n hC dX1_put_2 rfl (Nat.le_of_ble_eq_true rfl) rfl rfl ?_
  refine zz_sub (L' := [some (.ref (E.1.heap.size + 0)), some (.int a1), some (.int 24)]) ⟨rfl, rfl, rfl, trivial⟩ ?_
  exact j_3 σ a1 24 hV
theorem cw_X1_put : CodeW yX1_put (ws_ yX1_put cX1_put 3 none) 3 := ⟨fun w h => (List.mem_cons.mp h).elim (fun e => e ▸ q711) id, Or.inl ⟨_, _, q711⟩, q116, by decide, by decide⟩
theorem c_X1_160 {C : ZC} {E : ZE} {cc : ByteArray} {nL pc d : Nat} {nm : String} {ret : Option FieldType} {hh : List (Nat × Nat × Nat × Nat)} {σ : ZS} {L : List (Option Value)} {st : List Value} {a1 : Int32} {Ret : ZS → Prop} (hC : Cx C E cc nL "RightTurns" nm ret hh d) (hdd : 1 + 1 ≤ d) (hd : decode cc pc = .ok (.invokevirtual 160, 3)) (hW : (st.map fun v => v.category).sum ≤ 8) (hV : wp_X1_put σ a1 Ret) (k : ∀ σ', Ret σ' → zz C E NS nL σ' (pc + 3) L st) : zz C E NS nL σ pc L (.int a1 :: .ref (E.1.heap.size + 0) :: st) :=
  z_callVG hC cf0 cw_X1_put hdd (by decide) (mz_X1_put (cxE hC) hV) hd (k_0 σ) q708 q710 qs1 (np := 1) rfl rfl hW rfl (kV k)
def wp_X1_feed (σ : ZS) (a1 : Int32) (a2 : Int32) (a3 : Int32) (a4 : Int32) (a5 : Int32) (Ret : Int32 → ZS → Prop) : Prop :=
    ((500 < ((zI σ 0 2) + 20) → (Ret (-1) σ)) ∧ (¬ 500 < ((zI σ 0 2) + 20) → (wp_X1_put σ a1 (fun σ2 => wp_X1_put σ2 a2 (fun σ4 => wp_X1_put σ4 a3 (fun σ6 => wp_X1_put σ6 a4 (fun σ8 => wp_X1_put σ8 a5 (fun σ10 => Ret (zI σ10 0 2) σ10))))))))
set_option maxHeartbeats 4000000 in
theorem mz_X1_feed {l : Launch} {E : ZE} (hE : EOK E) {σ : ZS} {a1 : Int32} {a2 : Int32} {a3 : Int32} {a4 : Int32} {a5 : Int32} {Ret : Int32 → ZS → Prop} (hV : wp_X1_feed σ a1 a2 a3 a4 a5 Ret) : MZ l E NS yX1_feed (ws_ yX1_feed cX1_feed 6 (some .int)) 2 σ [.ref (E.1.heap.size + 0), .int a1, .int a2, .int a3, .int a4, .int a5] (rI Ret) := by
  refine MZ.start (L := [some (.ref (E.1.heap.size + 0)), some (.int a1), some (.int a2), some (.int a3), some (.int a4), some (.int a5)]) hE (by decide) (Nat.le_of_ble_eq_true rfl) rfl fun C hCl hQo hC => ?_
  replace hC : Cx C E cX1_feed 6 "RightTurns" "feed" (some .int) [] 2 := hC
  unfold wp_X1_feed at hV
  refine z_aload_n hC dX1_feed_0 rfl rfl ?_
  refine g_X1_157_0 hC dX1_feed_1 ?_
  refine z_bipush (v := 20) hC dX1_feed_4 rfl ?_
  refine z_iadd hC dX1_feed_6 ?_
  refine z_sipush (v := 500) hC dX1_feed_7 rfl ?_
  refine z_icmp_le (tgt := 15) hC dX1_feed_10 (by decide) (fun hc => ?_) (fun hc => ?_)
  · replace hV := hV.2 hc
    refine z_aload_n hC dX1_feed_15 rfl rfl ?_
    refine z_iload_n hC dX1_feed_16 rfl rfl ?_
    refine c_X1_160 hC (by decide) dX1_feed_17 (Nat.le_of_ble_eq_true rfl) hV (fun σ2 hV => ?_)
    refine z_aload_n hC dX1_feed_20 rfl rfl ?_
    refine z_iload_n hC dX1_feed_21 rfl rfl ?_
    refine c_X1_160 hC (by decide) dX1_feed_22 (Nat.le_of_ble_eq_true rfl) hV (fun σ4 hV => ?_)
    refine z_aload_n hC dX1_feed_25 rfl rfl ?_
    refine z_iload_n hC dX1_feed_26 rfl rfl ?_
    refine c_X1_160 hC (by decide) dX1_feed_27 (Nat.le_of_ble_eq_true rfl) hV (fun σ6 hV => ?_)
    refine z_aload_n hC dX1_feed_30 rfl rfl ?_
    refine z_iload hC dX1_feed_31 rfl ?_
    refine c_X1_160 hC (by decide) dX1_feed_33 (Nat.le_of_ble_eq_true rfl) hV (fun σ8 hV => ?_)
    refine z_aload_n hC dX1_feed_36 rfl rfl ?_
    refine z_iload hC dX1_feed_37 rfl ?_
    refine c_X1_160 hC (by decide) dX1_feed_39 (Nat.le_of_ble_eq_true rfl) hV (fun σ10 hV => ?_)
    refine z_aload_n hC dX1_feed_42 rfl rfl ?_
    refine g_X1_157_0 hC dX1_feed_43 ?_
    exact z_iret hC dX1_feed_46 rfl (by rw [hQo]; exact ⟨_, rfl, hV⟩)
  · replace hV := hV.1 hc
    refine z_iconst (v := (-1)) hC dX1_feed_13 rfl ?_
    exact z_iret hC dX1_feed_14 rfl (by rw [hQo]; exact ⟨_, rfl, hV⟩)
theorem g_X1_69_0 {C : ZC} {E : ZE} {cc : ByteArray} {nL pc d : Nat} {nm : String} {ret : Option FieldType} {hh : List (Nat × Nat × Nat × Nat)} {σ : ZS} {L : List (Option Value)} {st : List Value} (hC : Cx C E cc nL "RightTurns" nm ret hh d) (hd : decode cc pc = .ok (.getfield 69, 3)) (k : zz C E NS nL σ (pc + 3) L (.ref (E.1.heap.size + 28) :: st)) : zz C E NS nL σ pc L (.ref (E.1.heap.size + 0) :: st) :=
  z_get hC cf0 hd (k_0 σ) (k := 19) (by decide) (Or.inl q600) (Or.inl rfl) rfl k
theorem g_X1_205_c1 {a x : Nat} {C : ZC} {E : ZE} {cc : ByteArray} {n nL pc d : Nat} {nm : String} {ret : Option FieldType} {hh : List (Nat × Nat × Nat × Nat)} {σ : ZS} {L : List (Option Value)} {st : List Value} (hC : Cx C E cc nL "RightTurns" nm ret hh d) (hd : decode cc pc = .ok (.getfield 205, 3)) (hk : kK n σ a = (1 + 7, x)) (k : zz C E n nL σ (pc + 3) L (.int (zI σ a 7) :: st)) : zz C E n nL σ pc L (.ref (E.1.heap.size + a) :: st) :=
  z_get hC cf1 hd hk (k := 7) (by decide) (Or.inr ⟨_, q526⟩) (Or.inl rfl) rfl k
def VL_X1_findBoxes_4 (Ret : Int32 → ZS → Prop) : Nat → ZS → Int32 → Int32 → Int32 → Prop
  | 0 => fun _ _ _ _ => False
  | k + 1 => fun σ x1 x2 x3 =>
    let K4 := VL_X1_findBoxes_4 Ret k
    ((x3 < 16 → (vp_in x3 16 ∧ (∀ σ2 : ZS, σ2 = sI σ 28 (ix x3) (-1) → (((x3 = x1 → (∀ y3 : Int32, y3 = x3 + 1 → (K4 σ2 x1 x2 y3))) ∧ (¬ x3 = x1 → ((zP σ2 0 0) = some (.inl (zo (zP σ2 0 0))) ∧ ((∃ n6, kK NS σ2 (zo (zP σ2 0 0)) = (8, n6)) ∧ ((((((zI σ2 (zo (zP σ2 0 0)) 7) >>> (x3 &&& 31)) &&& 1) = 0 → (∀ y11 : Int32, y11 = x3 + 1 → (K4 σ2 x1 x2 y11))) ∧ (¬ (((zI σ2 (zo (zP σ2 0 0)) 7) >>> (x3 &&& 31)) &&& 1) = 0 → (vp_in x3 16 ∧ (∀ σ8 : ZS, σ8 = sI σ2 28 (ix x3) x2 → (∀ y9 : Int32, y9 = x2 + 1 → (∀ y10 : Int32, y10 = x3 + 1 → (K4 σ8 x1 y9 y10)))))))))))))))) ∧ (¬ x3 < 16 → (Ret x2 σ)))
def V_X1_findBoxes_4 (Ret : Int32 → ZS → Prop) (σ : ZS) (x1 : Int32) (x2 : Int32) (x3 : Int32) : Prop := ∃ k, VL_X1_findBoxes_4 Ret k σ x1 x2 x3
def wp_X1_findBoxes (σ : ZS) (a1 : Int32) (Ret : Int32 → ZS → Prop) : Prop :=
    V_X1_findBoxes_4 Ret σ a1 0 0
set_option maxHeartbeats 4000000 in
theorem mz_X1_findBoxes {l : Launch} {E : ZE} (hE : EOK E) {σ : ZS} {a1 : Int32} {Ret : Int32 → ZS → Prop} (hV : wp_X1_findBoxes σ a1 Ret) : MZ l E NS yX1_findBoxes (ws_ yX1_findBoxes cX1_findBoxes 4 (some .int)) 1 σ [.ref (E.1.heap.size + 0), .int a1] (rI Ret) := by
  refine MZ.start (L := [some (.ref (E.1.heap.size + 0)), some (.int a1), none, none]) hE (by decide) (Nat.le_of_ble_eq_true rfl) rfl fun C hCl hQo hC => ?_
  replace hC : Cx C E cX1_findBoxes 4 "RightTurns" "findBoxes" (some .int) [] 1 := hC
  unfold wp_X1_findBoxes at hV
  have j_4 : ∀ (σ : ZS) (x1 : Int32) (x2 : Int32) (x3 : Int32), V_X1_findBoxes_4 Ret σ x1 x2 x3 → zz C E NS 4 σ 4 [some (.ref (E.1.heap.size + 0)), some (.int x1), some (.int x2), some (.int x3)] [] := by
    intro σ x1 x2 x3 ⟨k, hV⟩
    revert σ x1 x2 x3
    induction k with
    | zero => exact fun _ _ _ _ hV => hV.elim
    | succ k j_4 =>
      intro σ x1 x2 x3 hV
      simp only [VL_X1_findBoxes_4] at hV
      generalize hKe4 : VL_X1_findBoxes_4 Ret k = K4 at hV j_4
      clear hKe4
      refine z_iload_n hC dX1_findBoxes_4 rfl rfl ?_
      refine z_bipush (v := 16) hC dX1_findBoxes_5 rfl ?_
      refine z_icmp_ge (tgt := 55) hC dX1_findBoxes_7 (by decide) (fun hc => ?_) (fun hc => ?_)
      · replace hV := hV.2 hc
        refine z_iload_n hC dX1_findBoxes_55 rfl rfl ?_
        exact z_iret hC dX1_findBoxes_56 rfl (by rw [hQo]; exact ⟨_, rfl, hV⟩)
      · replace hV := hV.1 hc
        refine z_aload_n hC dX1_findBoxes_10 rfl rfl ?_
        refine g_X1_69_0 hC dX1_findBoxes_11 ?_
        refine z_iload_n hC dX1_findBoxes_14 rfl rfl ?_
        refine z_iconst (v := (-1)) hC dX1_findBoxes_15 rfl ?_
        obtain ⟨h1, hV⟩ := hV
        refine z_iast hC dX1_findBoxes_16 (k_28 _) (h1) ?_
        obtain ⟨σ2, e_σ2⟩ : ∃ z : ZS, z = sI σ 28 (ix x3) (-1) := ⟨_, rfl⟩
        replace hV := hV _ e_σ2
        rw [← e_σ2]
        refine z_iload_n hC dX1_findBoxes_17 rfl rfl ?_
        refine z_iload_n hC dX1_findBoxes_18 rfl rfl ?_
        refine z_icmp_eq (tgt := 49) hC dX1_findBoxes_19 (by decide) (fun hc => ?_) (fun hc => ?_)
        · replace hV := hV.1 hc
          obtain ⟨y3, e_y3⟩ : ∃ z : Int32, z = x3 + 1 := ⟨_, rfl⟩
          replace hV := hV _ e_y3
          refine z_iinc (v := y3) hC dX1_findBoxes_49 rfl (by rw [e_y3]; rfl) (Nat.le_of_ble_eq_true rfl) rfl rfl ?_
          refine z_goto (tgt := 4) hC dX1_findBoxes_52 (by decide) ?_
          refine zz_sub (L' := [some (.ref (E.1.heap.size + 0)), some (.int x1), some (.int x2), some (.int y3)]) ⟨rfl, rfl, rfl, rfl, trivial⟩ ?_
          exact j_4 σ2 x1 x2 y3 hV
        · replace hV := hV.2 hc
          refine z_aload_n hC dX1_findBoxes_22 rfl rfl ?_
          refine g_X1_12_0 hC dX1_findBoxes_23 ?_
          obtain ⟨h4, hV⟩ := hV
          refine zz_at rfl (by rw [pvo h4]) ?_
          obtain ⟨⟨n6, h5⟩, hV⟩ := hV
          refine g_X1_205_c1 hC dX1_findBoxes_26 h5 ?_
          refine z_iload_n hC dX1_findBoxes_29 rfl rfl ?_
          refine z_ishr hC dX1_findBoxes_30 ?_
          refine z_iconst (v := 1) hC dX1_findBoxes_31 rfl ?_
          refine z_iand hC dX1_findBoxes_32 ?_
          refine z_if_ne (tgt := 39) hC dX1_findBoxes_33 (by decide) (fun hc => ?_) (fun hc => ?_)
          · replace hV := hV.2 hc
            refine z_aload_n hC dX1_findBoxes_39 rfl rfl ?_
            refine g_X1_69_0 hC dX1_findBoxes_40 ?_
            refine z_iload_n hC dX1_findBoxes_43 rfl rfl ?_
            refine z_iload_n hC dX1_findBoxes_44 rfl rfl ?_
            obtain ⟨h7, hV⟩ := hV
            refine z_iast hC dX1_findBoxes_45 (k_28 _) (h7) ?_
            obtain ⟨σ8, e_σ8⟩ : ∃ z : ZS, z = sI σ2 28 (ix x3) x2 := ⟨_, rfl⟩
            replace hV := hV _ e_σ8
            rw [← e_σ8]
            obtain ⟨y9, e_y9⟩ : ∃ z : Int32, z = x2 + 1 := ⟨_, rfl⟩
            replace hV := hV _ e_y9
            refine z_iinc (v := y9) hC dX1_findBoxes_46 rfl (by rw [e_y9]; rfl) (Nat.le_of_ble_eq_true rfl) rfl rfl ?_
            obtain ⟨y10, e_y10⟩ : ∃ z : Int32, z = x3 + 1 := ⟨_, rfl⟩
            replace hV := hV _ e_y10
            refine z_iinc (v := y10) hC dX1_findBoxes_49 rfl (by rw [e_y10]; rfl) (Nat.le_of_ble_eq_true rfl) rfl rfl ?_
            refine z_goto (tgt := 4) hC dX1_findBoxes_52 (by decide) ?_
            refine zz_sub (L' := [some (.ref (E.1.heap.size + 0)), some (.int x1), some (.int y9), some (.int y10)]) ⟨rfl, rfl, rfl, rfl, trivial⟩ ?_
            exact j_4 σ8 x1 y9 y10 hV
          · replace hV := hV.1 hc
            refine z_goto (tgt := 49) hC dX1_findBoxes_36 (by decide) ?_
            obtain ⟨y11, e_y11⟩ : ∃ z : Int32, z = x3 + 1 := ⟨_, rfl⟩
            replace hV := hV _ e_y11
            refine z_iinc (v := y11) hC dX1_findBoxes_49 rfl (by rw [e_y11]; rfl) (Nat.le_of_ble_eq_true rfl) rfl rfl ?_
            refine z_goto (tgt := 4) hC dX1_findBoxes_52 (by decide) ?_
            refine zz_sub (L' := [some (.ref (E.1.heap.size + 0)), some (.int x1), some (.int x2), some (.int y11)]) ⟨rfl, rfl, rfl, rfl, trivial⟩ ?_
            exact j_4 σ2 x1 x2 y11 hV
  refine z_iconst (v := 0) hC dX1_findBoxes_0 rfl ?_
  refine z_istore_n hC dX1_findBoxes_1 rfl (Nat.le_of_ble_eq_true rfl) rfl rfl ?_
  refine z_iconst (v := 0) hC dX1_findBoxes_2 rfl ?_
  refine z_istore_n hC dX1_findBoxes_3 rfl (Nat.le_of_ble_eq_true rfl) rfl rfl ?_
  refine zz_sub (L' := [some (.ref (E.1.heap.size + 0)), some (.int a1), some (.int 0), some (.int 0)]) ⟨rfl, rfl, rfl, rfl, trivial⟩ ?_
  exact j_4 σ a1 0 0 hV
theorem g_X1_55_0 {C : ZC} {E : ZE} {cc : ByteArray} {nL pc d : Nat} {nm : String} {ret : Option FieldType} {hh : List (Nat × Nat × Nat × Nat)} {σ : ZS} {L : List (Option Value)} {st : List Value} (hC : Cx C E cc nL "RightTurns" nm ret hh d) (hd : decode cc pc = .ok (.getfield 55, 3)) (k : zz C E NS nL σ (pc + 3) L (.ref (E.1.heap.size + 24) :: st)) : zz C E NS nL σ pc L (.ref (E.1.heap.size + 0) :: st) :=
  z_get hC cf0 hd (k_0 σ) (k := 14) (by decide) (Or.inl q595) (Or.inl rfl) rfl k
theorem cw_X1_areTogether : CodeW yX1_areTogether (ws_ yX1_areTogether cX1_areTogether 3 (some .boolean)) 3 := ⟨fun w h => (List.mem_cons.mp h).elim (fun e => e ▸ q1360) id, Or.inl ⟨_, _, q1360⟩, q116, by decide, by decide⟩
theorem c_X1_316 {C : ZC} {E : ZE} {cc : ByteArray} {nL pc d : Nat} {nm : String} {ret : Option FieldType} {hh : List (Nat × Nat × Nat × Nat)} {σ : ZS} {L : List (Option Value)} {st : List Value} {a1 : Int32} {a2 : Int32} {Ret : Int32 → ZS → Prop} (hC : Cx C E cc nL "RightTurns" nm ret hh d) (hdd : 1 + 1 ≤ d) (hd : decode cc pc = .ok (.invokevirtual 316, 3)) (hW : (st.map fun v => v.category).sum ≤ 8) (hV : wp_X1_areTogether σ a1 a2 Ret) (k : ∀ r σ', Ret r σ' → zz C E NS nL σ' (pc + 3) L (.int r :: st)) : zz C E NS nL σ pc L (.int a2 :: .int a1 :: .ref (E.1.heap.size + 0) :: st) :=
  z_callVG hC cf0 cw_X1_areTogether hdd (by decide) (mz_X1_areTogether (cxE hC) hV) hd (k_0 σ) q1357 q1359 qs30 (np := 2) rfl rfl hW rfl (kI k)
def VL_X1_findParts_168 (K141 : ZS → Int32 → Prop) (Ret : ZS → Prop) : Nat → ZS → Int32 → Int32 → Prop
  | 0 => fun _ _ _ => False
  | k + 1 => fun σ x2 x3 =>
    let K168 := VL_X1_findParts_168 K141 Ret k
    wp_X1_areTogether σ x3 x2 (fun r16 σ17 => ((r16 = 0 → (∀ y21 : Int32, y21 = x3 + 1 → (K168 σ17 x2 y21))) ∧ (¬ r16 = 0 → (vp_in x2 48 ∧ (∀ σ19 : ZS, σ19 = sI σ17 24 (ix x2) x3 → (∀ y20 : Int32, y20 = x2 + 1 → (K141 σ19 y20)))))))
def V_X1_findParts_168 (K141 : ZS → Int32 → Prop) (Ret : ZS → Prop) (σ : ZS) (x2 : Int32) (x3 : Int32) : Prop := ∃ k, VL_X1_findParts_168 K141 Ret k σ x2 x3
def VL_X1_findParts_141 (Ret : ZS → Prop) : Nat → ZS → Int32 → Prop
  | 0 => fun _ _ => False
  | k + 1 => fun σ x2 =>
    let K141 := VL_X1_findParts_141 Ret k
    (zP σ 0 0) = some (.inl (zo (zP σ 0 0))) ∧ ((∃ n10, kK NS σ (zo (zP σ 0 0)) = (8, n10)) ∧ (wp_X2_arcs σ (zo (zP σ 0 0)) (fun r7 σ8 => ((x2 < r7 → ((zP σ8 0 0) = some (.inl (zo (zP σ8 0 0))) ∧ ((∃ n15, kK NS σ8 (zo (zP σ8 0 0)) = (8, n15)) ∧ (wp_X2_isArc σ8 (zo (zP σ8 0 0)) x2 (fun r12 σ13 => ((r12 = 0 → (∀ y22 : Int32, y22 = x2 + 1 → (K141 σ13 y22))) ∧ (¬ r12 = 0 → (V_X1_findParts_168 K141 Ret σ13 x2 0)))))))) ∧ (¬ x2 < r7 → (Ret σ8))))))
def V_X1_findParts_141 (Ret : ZS → Prop) (σ : ZS) (x2 : Int32) : Prop := ∃ k, VL_X1_findParts_141 Ret k σ x2
def VL_X1_findParts_91 (K2 : ZS → Int32 → Int32 → Prop) (Ret : ZS → Prop) : Nat → ZS → Int32 → Int32 → Int32 → Prop
  | 0 => fun _ _ _ _ => False
  | k + 1 => fun σ x1 x2 x3 =>
    let K91 := VL_X1_findParts_91 K2 Ret k
    (zP σ 0 0) = some (.inl (zo (zP σ 0 0))) ∧ ((∃ n44, kK NS σ (zo (zP σ 0 0)) = (8, n44)) ∧ (wp_X2_arcs σ (zo (zP σ 0 0)) (fun r41 σ42 => ((x3 < r41 → (vp_in x2 48 ∧ (vp_in x3 48 ∧ ((((zI σ42 22 (ix x3)) = 0 → (vp_in x2 48 ∧ (∀ σ49 : ZS, σ49 = sJ σ42 25 (ix x2) ((zJ σ42 25 (ix x2)) ||| 0) → (∀ y50 : Int32, y50 = x3 + 1 → (K91 σ49 x1 x2 y50))))) ∧ (¬ (zI σ42 22 (ix x3)) = 0 → (vp_in x2 48 ∧ (∀ σ52 : ZS, σ52 = sJ σ42 25 (ix x2) ((zJ σ42 25 (ix x2)) ||| ((1 : Int64) <<< (x3.toInt64 &&& 63))) → (∀ y53 : Int32, y53 = x3 + 1 → (K91 σ52 x1 x2 y53)))))))))) ∧ (¬ x3 < r41 → (∀ y45 : Int32, y45 = x2 + 1 → (K2 σ42 x1 y45)))))))
def V_X1_findParts_91 (K2 : ZS → Int32 → Int32 → Prop) (Ret : ZS → Prop) (σ : ZS) (x1 : Int32) (x2 : Int32) (x3 : Int32) : Prop := ∃ k, VL_X1_findParts_91 K2 Ret k σ x1 x2 x3
def VL_X1_findParts_43 (K2 : ZS → Int32 → Int32 → Prop) (Ret : ZS → Prop) : Nat → ZS → Int32 → Int32 → Int32 → Prop
  | 0 => fun _ _ _ _ => False
  | k + 1 => fun σ x1 x2 x3 =>
    let K43 := VL_X1_findParts_43 K2 Ret k
    (zP σ 0 0) = some (.inl (zo (zP σ 0 0))) ∧ ((∃ n36, kK NS σ (zo (zP σ 0 0)) = (8, n36)) ∧ (wp_X2_arcs σ (zo (zP σ 0 0)) (fun r33 σ34 => ((x3 < r33 → (((x3 = x2 → (vp_in x3 48 ∧ (∀ σ58 : ZS, σ58 = sI σ34 22 (ix x3) (vp_nar .boolean 1) → (∀ y59 : Int32, y59 = x3 + 1 → (K43 σ58 x1 x2 y59))))) ∧ (¬ x3 = x2 → (vp_in x3 48 ∧ (∀ σ55 : ZS, σ55 = sI σ34 22 (ix x3) (vp_nar .boolean 0) → (∀ y56 : Int32, y56 = x3 + 1 → (K43 σ55 x1 x2 y56)))))))) ∧ (¬ x3 < r33 → (∀ σ37 : ZS, σ37 = sI σ34 23 (ix 0) x2 → (wp_X1_goesOn σ37 1 x1 (fun σ39 => V_X1_findParts_91 K2 Ret σ39 x1 x2 0))))))))
def V_X1_findParts_43 (K2 : ZS → Int32 → Int32 → Prop) (Ret : ZS → Prop) (σ : ZS) (x1 : Int32) (x2 : Int32) (x3 : Int32) : Prop := ∃ k, VL_X1_findParts_43 K2 Ret k σ x1 x2 x3
def VL_X1_findParts_2 (Ret : ZS → Prop) : Nat → ZS → Int32 → Int32 → Prop
  | 0 => fun _ _ _ => False
  | k + 1 => fun σ x1 x2 =>
    let K2 := VL_X1_findParts_2 Ret k
    (zP σ 0 0) = some (.inl (zo (zP σ 0 0))) ∧ ((∃ n5, kK NS σ (zo (zP σ 0 0)) = (8, n5)) ∧ (wp_X2_arcs σ (zo (zP σ 0 0)) (fun r2 σ3 => ((x2 < r2 → (vp_in x2 48 ∧ (∀ σ24 : ZS, σ24 = sJ σ3 25 (ix x2) 0 → (vp_in x2 48 ∧ (∀ σ26 : ZS, σ26 = sI σ24 24 (ix x2) (-1) → ((zP σ26 0 0) = some (.inl (zo (zP σ26 0 0))) ∧ ((∃ n31, kK NS σ26 (zo (zP σ26 0 0)) = (8, n31)) ∧ (wp_X2_isArc σ26 (zo (zP σ26 0 0)) x2 (fun r28 σ29 => ((r28 = 0 → (∀ y60 : Int32, y60 = x2 + 1 → (K2 σ29 x1 y60))) ∧ (¬ r28 = 0 → (V_X1_findParts_43 K2 Ret σ29 x1 x2 0)))))))))))) ∧ (¬ x2 < r2 → (V_X1_findParts_141 Ret σ3 0))))))
def V_X1_findParts_2 (Ret : ZS → Prop) (σ : ZS) (x1 : Int32) (x2 : Int32) : Prop := ∃ k, VL_X1_findParts_2 Ret k σ x1 x2
def wp_X1_findParts (σ : ZS) (a1 : Int32) (Ret : ZS → Prop) : Prop :=
    V_X1_findParts_2 Ret σ a1 0
set_option maxHeartbeats 4000000 in
theorem mz_X1_findParts {l : Launch} {E : ZE} (hE : EOK E) {σ : ZS} {a1 : Int32} {Ret : ZS → Prop} (hV : wp_X1_findParts σ a1 Ret) : MZ l E NS yX1_findParts (ws_ yX1_findParts cX1_findParts 4 none) 9 σ [.ref (E.1.heap.size + 0), .int a1] (rV Ret) := by
  refine MZ.start (L := [some (.ref (E.1.heap.size + 0)), some (.int a1), none, none]) hE (by decide) (Nat.le_of_ble_eq_true rfl) rfl fun C hCl hQo hC => ?_
  replace hC : Cx C E cX1_findParts 4 "RightTurns" "findParts" none [] 9 := hC
  unfold wp_X1_findParts at hV
  have j_141 : ∀ (σ : ZS) (x2 : Int32), V_X1_findParts_141 Ret σ x2 → zz C E NS 4 σ 141 [some (.ref (E.1.heap.size + 0)), none, some (.int x2), none] [] := by
    intro σ x2 ⟨k, hV⟩
    revert σ x2
    induction k with
    | zero => exact fun _ _ hV => hV.elim
    | succ k j_141 =>
      intro σ x2 hV
      simp only [VL_X1_findParts_141] at hV
      generalize hKe141 : VL_X1_findParts_141 Ret k = K141 at hV j_141
      clear hKe141
      have j_168 : ∀ (σ : ZS) (x2 : Int32) (x3 : Int32), V_X1_findParts_168 K141 Ret σ x2 x3 → zz C E NS 4 σ 168 [some (.ref (E.1.heap.size + 0)), none, some (.int x2), some (.int x3)] [] := by
        intro σ x2 x3 ⟨k, hV⟩
        revert σ x2 x3
        induction k with
        | zero => exact fun _ _ _ hV => hV.elim
        | succ k j_168 =>
          intro σ x2 x3 hV
          simp only [VL_X1_findParts_168] at hV
          generalize hKe168 : VL_X1_findParts_168 K141 Ret k = K168 at hV j_168
          clear hKe168
          refine z_aload_n hC dX1_findParts_168 rfl rfl ?_
          refine z_iload_n hC dX1_findParts_169 rfl rfl ?_
          refine z_iload_n hC dX1_findParts_170 rfl rfl ?_
          refine c_X1_316 hC (by decide) dX1_findParts_171 (Nat.le_of_ble_eq_true rfl) hV (fun r16 σ17 hV => ?_)
          refine z_if_ne (tgt := 183) hC dX1_findParts_174 (by decide) (fun hc => ?_) (fun hc => ?_)
          · replace hV := hV.2 hc
            refine z_aload_n hC dX1_findParts_183 rfl rfl ?_
            refine g_X1_55_0 hC dX1_findParts_184 ?_
            refine z_iload_n hC dX1_findParts_187 rfl rfl ?_
            refine z_iload_n hC dX1_findParts_188 rfl rfl ?_
            obtain ⟨h18, hV⟩ := hV
            refine z_iast hC dX1_findParts_189 (k_24 _) (h18) ?_
            obtain ⟨σ19, e_σ19⟩ : ∃ z : ZS, z = sI σ17 24 (ix x2) x3 := ⟨_, rfl⟩
            replace hV := hV _ e_σ19
            rw [← e_σ19]
            obtain ⟨y20, e_y20⟩ : ∃ z : Int32, z = x2 + 1 := ⟨_, rfl⟩
            replace hV := hV _ e_y20
            refine z_iinc (v := y20) hC dX1_findParts_190 rfl (by rw [e_y20]; rfl) (Nat.le_of_ble_eq_true rfl) rfl rfl ?_
            refine z_goto (tgt := 141) hC dX1_findParts_193 (by decide) ?_
            refine zz_sub (L' := [some (.ref (E.1.heap.size + 0)), none, some (.int y20), none]) ⟨rfl, rfl, trivial⟩ ?_
            exact j_141 σ19 y20 hV
          · replace hV := hV.1 hc
            obtain ⟨y21, e_y21⟩ : ∃ z : Int32, z = x3 + 1 := ⟨_, rfl⟩
            replace hV := hV _ e_y21
            refine z_iinc (v := y21) hC dX1_findParts_177 rfl (by rw [e_y21]; rfl) (Nat.le_of_ble_eq_true rfl) rfl rfl ?_
            refine z_goto (tgt := 168) hC dX1_findParts_180 (by decide) ?_
            refine zz_sub (L' := [some (.ref (E.1.heap.size + 0)), none, some (.int x2), some (.int y21)]) ⟨rfl, rfl, rfl, trivial⟩ ?_
            exact j_168 σ17 x2 y21 hV
      refine z_iload_n hC dX1_findParts_141 rfl rfl ?_
      refine z_aload_n hC dX1_findParts_142 rfl rfl ?_
      refine g_X1_12_0 hC dX1_findParts_143 ?_
      obtain ⟨h6, hV⟩ := hV
      refine zz_at rfl (by rw [pvo h6]) ?_
      obtain ⟨⟨n10, h9⟩, hV⟩ := hV
      refine c_X1_271 hC (by decide) dX1_findParts_146 (Nat.le_of_ble_eq_true rfl) h9 hV (fun r7 σ8 hV => ?_)
      refine z_icmp_ge (tgt := 196) hC dX1_findParts_149 (by decide) (fun hc => ?_) (fun hc => ?_)
      · replace hV := hV.2 hc
        exact z_vret hC dX1_findParts_196 (by rw [hQo]; exact ⟨rfl, hV⟩)
      · replace hV := hV.1 hc
        refine z_aload_n hC dX1_findParts_152 rfl rfl ?_
        refine g_X1_12_0 hC dX1_findParts_153 ?_
        obtain ⟨h11, hV⟩ := hV
        refine zz_at rfl (by rw [pvo h11]) ?_
        refine z_iload_n hC dX1_findParts_156 rfl rfl ?_
        obtain ⟨⟨n15, h14⟩, hV⟩ := hV
        refine c_X1_150 hC (by decide) dX1_findParts_157 (Nat.le_of_ble_eq_true rfl) h14 hV (fun r12 σ13 hV => ?_)
        refine z_if_ne (tgt := 166) hC dX1_findParts_160 (by decide) (fun hc => ?_) (fun hc => ?_)
        · replace hV := hV.2 hc
          refine z_iconst (v := 0) hC dX1_findParts_166 rfl ?_
          refine z_istore_n hC dX1_findParts_167 rfl (Nat.le_of_ble_eq_true rfl) rfl rfl ?_
          refine zz_sub (L' := [some (.ref (E.1.heap.size + 0)), none, some (.int x2), some (.int 0)]) ⟨rfl, rfl, rfl, trivial⟩ ?_
          exact j_168 σ13 x2 0 hV
        · replace hV := hV.1 hc
          refine z_goto (tgt := 190) hC dX1_findParts_163 (by decide) ?_
          obtain ⟨y22, e_y22⟩ : ∃ z : Int32, z = x2 + 1 := ⟨_, rfl⟩
          replace hV := hV _ e_y22
          refine z_iinc (v := y22) hC dX1_findParts_190 rfl (by rw [e_y22]; rfl) (Nat.le_of_ble_eq_true rfl) rfl rfl ?_
          refine z_goto (tgt := 141) hC dX1_findParts_193 (by decide) ?_
          refine zz_sub (L' := [some (.ref (E.1.heap.size + 0)), none, some (.int y22), none]) ⟨rfl, rfl, trivial⟩ ?_
          exact j_141 σ13 y22 hV
  have j_2 : ∀ (σ : ZS) (x1 : Int32) (x2 : Int32), V_X1_findParts_2 Ret σ x1 x2 → zz C E NS 4 σ 2 [some (.ref (E.1.heap.size + 0)), some (.int x1), some (.int x2), none] [] := by
    intro σ x1 x2 ⟨k, hV⟩
    revert σ x1 x2
    induction k with
    | zero => exact fun _ _ _ hV => hV.elim
    | succ k j_2 =>
      intro σ x1 x2 hV
      simp only [VL_X1_findParts_2] at hV
      generalize hKe2 : VL_X1_findParts_2 Ret k = K2 at hV j_2
      clear hKe2
      have j_91 : ∀ (σ : ZS) (x1 : Int32) (x2 : Int32) (x3 : Int32), V_X1_findParts_91 K2 Ret σ x1 x2 x3 → zz C E NS 4 σ 91 [some (.ref (E.1.heap.size + 0)), some (.int x1), some (.int x2), some (.int x3)] [] := by
        intro σ x1 x2 x3 ⟨k, hV⟩
        revert σ x1 x2 x3
        induction k with
        | zero => exact fun _ _ _ _ hV => hV.elim
        | succ k j_91 =>
          intro σ x1 x2 x3 hV
          simp only [VL_X1_findParts_91] at hV
          generalize hKe91 : VL_X1_findParts_91 K2 Ret k = K91 at hV j_91
          clear hKe91
          refine z_iload_n hC dX1_findParts_91 rfl rfl ?_
          refine z_aload_n hC dX1_findParts_92 rfl rfl ?_
          refine g_X1_12_0 hC dX1_findParts_93 ?_
          obtain ⟨h40, hV⟩ := hV
          refine zz_at rfl (by rw [pvo h40]) ?_
          obtain ⟨⟨n44, h43⟩, hV⟩ := hV
          refine c_X1_271 hC (by decide) dX1_findParts_96 (Nat.le_of_ble_eq_true rfl) h43 hV (fun r41 σ42 hV => ?_)
          refine z_icmp_ge (tgt := 133) hC dX1_findParts_99 (by decide) (fun hc => ?_) (fun hc => ?_)
          · replace hV := hV.2 hc
            obtain ⟨y45, e_y45⟩ : ∃ z : Int32, z = x2 + 1 := ⟨_, rfl⟩
            replace hV := hV _ e_y45
            refine z_iinc (v := y45) hC dX1_findParts_133 rfl (by rw [e_y45]; rfl) (Nat.le_of_ble_eq_true rfl) rfl rfl ?_
            refine z_goto (tgt := 2) hC dX1_findParts_136 (by decide) ?_
            refine zz_sub (L' := [some (.ref (E.1.heap.size + 0)), some (.int x1), some (.int y45), none]) ⟨rfl, rfl, rfl, trivial⟩ ?_
            exact j_2 σ42 x1 y45 hV
          · replace hV := hV.1 hc
            refine z_aload_n hC dX1_findParts_102 rfl rfl ?_
            refine g_X1_58_0 hC dX1_findParts_103 ?_
            refine z_iload_n hC dX1_findParts_106 rfl rfl ?_
            refine z_dup2 hC dX1_findParts_107 rfl rfl ?_
            obtain ⟨h46, hV⟩ := hV
            refine z_lald hC dX1_findParts_108 (k_25 _) (h46) ?_
            refine z_aload_n hC dX1_findParts_109 rfl rfl ?_
            refine g_X1_48_0 hC dX1_findParts_110 ?_
            refine z_iload_n hC dX1_findParts_113 rfl rfl ?_
            obtain ⟨h47, hV⟩ := hV
            refine z_zald hC dX1_findParts_114 (k_22 _) (h47) ?_
            refine z_if_eq (tgt := 124) hC dX1_findParts_115 (by decide) (fun hc => ?_) (fun hc => ?_)
            · replace hV := hV.1 hc
              refine z_lconst (v := 0) hC dX1_findParts_124 rfl ?_
              refine z_lor hC dX1_findParts_125 ?_
              obtain ⟨h48, hV⟩ := hV
              refine z_last hC dX1_findParts_126 (k_25 _) (h48) ?_
              obtain ⟨σ49, e_σ49⟩ : ∃ z : ZS, z = sJ σ42 25 (ix x2) ((zJ σ42 25 (ix x2)) ||| 0) := ⟨_, rfl⟩
              replace hV := hV _ e_σ49
              rw [← e_σ49]
              obtain ⟨y50, e_y50⟩ : ∃ z : Int32, z = x3 + 1 := ⟨_, rfl⟩
              replace hV := hV _ e_y50
              refine z_iinc (v := y50) hC dX1_findParts_127 rfl (by rw [e_y50]; rfl) (Nat.le_of_ble_eq_true rfl) rfl rfl ?_
              refine z_goto (tgt := 91) hC dX1_findParts_130 (by decide) ?_
              refine zz_sub (L' := [some (.ref (E.1.heap.size + 0)), some (.int x1), some (.int x2), some (.int y50)]) ⟨rfl, rfl, rfl, rfl, trivial⟩ ?_
              exact j_91 σ49 x1 x2 y50 hV
            · replace hV := hV.2 hc
              refine z_lconst (v := 1) hC dX1_findParts_118 rfl ?_
              refine z_iload_n hC dX1_findParts_119 rfl rfl ?_
              refine z_lshl hC dX1_findParts_120 ?_
              refine z_goto (tgt := 125) hC dX1_findParts_121 (by decide) ?_
              refine z_lor hC dX1_findParts_125 ?_
              obtain ⟨h51, hV⟩ := hV
              refine z_last hC dX1_findParts_126 (k_25 _) (h51) ?_
              obtain ⟨σ52, e_σ52⟩ : ∃ z : ZS, z = sJ σ42 25 (ix x2) ((zJ σ42 25 (ix x2)) ||| ((1 : Int64) <<< (x3.toInt64 &&& 63))) := ⟨_, rfl⟩
              replace hV := hV _ e_σ52
              rw [← e_σ52]
              obtain ⟨y53, e_y53⟩ : ∃ z : Int32, z = x3 + 1 := ⟨_, rfl⟩
              replace hV := hV _ e_y53
              refine z_iinc (v := y53) hC dX1_findParts_127 rfl (by rw [e_y53]; rfl) (Nat.le_of_ble_eq_true rfl) rfl rfl ?_
              refine z_goto (tgt := 91) hC dX1_findParts_130 (by decide) ?_
              refine zz_sub (L' := [some (.ref (E.1.heap.size + 0)), some (.int x1), some (.int x2), some (.int y53)]) ⟨rfl, rfl, rfl, rfl, trivial⟩ ?_
              exact j_91 σ52 x1 x2 y53 hV
      have j_43 : ∀ (σ : ZS) (x1 : Int32) (x2 : Int32) (x3 : Int32), V_X1_findParts_43 K2 Ret σ x1 x2 x3 → zz C E NS 4 σ 43 [some (.ref (E.1.heap.size + 0)), some (.int x1), some (.int x2), some (.int x3)] [] := by
        intro σ x1 x2 x3 ⟨k, hV⟩
        revert σ x1 x2 x3
        induction k with
        | zero => exact fun _ _ _ _ hV => hV.elim
        | succ k j_43 =>
          intro σ x1 x2 x3 hV
          simp only [VL_X1_findParts_43] at hV
          generalize hKe43 : VL_X1_findParts_43 K2 Ret k = K43 at hV j_43
          clear hKe43
          refine z_iload_n hC dX1_findParts_43 rfl rfl ?_
          refine z_aload_n hC dX1_findParts_44 rfl rfl ?_
          refine g_X1_12_0 hC dX1_findParts_45 ?_
          obtain ⟨h32, hV⟩ := hV
          refine zz_at rfl (by rw [pvo h32]) ?_
          obtain ⟨⟨n36, h35⟩, hV⟩ := hV
          refine c_X1_271 hC (by decide) dX1_findParts_48 (Nat.le_of_ble_eq_true rfl) h35 hV (fun r33 σ34 hV => ?_)
          refine z_icmp_ge (tgt := 76) hC dX1_findParts_51 (by decide) (fun hc => ?_) (fun hc => ?_)
          · replace hV := hV.2 hc
            refine z_aload_n hC dX1_findParts_76 rfl rfl ?_
            refine g_X1_52_0 hC dX1_findParts_77 ?_
            refine z_iconst (v := 0) hC dX1_findParts_80 rfl ?_
            refine z_iload_n hC dX1_findParts_81 rfl rfl ?_
            refine z_iast hC dX1_findParts_82 (k_23 _) (in_dec rfl) ?_
            obtain ⟨σ37, e_σ37⟩ : ∃ z : ZS, z = sI σ34 23 (ix 0) x2 := ⟨_, rfl⟩
            replace hV := hV _ e_σ37
            rw [← e_σ37]
            refine z_aload_n hC dX1_findParts_83 rfl rfl ?_
            refine z_iconst (v := 1) hC dX1_findParts_84 rfl ?_
            refine z_iload_n hC dX1_findParts_85 rfl rfl ?_
            refine c_X1_308 hC (by decide) dX1_findParts_86 (Nat.le_of_ble_eq_true rfl) hV (fun σ39 hV => ?_)
            refine z_iconst (v := 0) hC dX1_findParts_89 rfl ?_
            refine z_istore_n hC dX1_findParts_90 rfl (Nat.le_of_ble_eq_true rfl) rfl rfl ?_
            refine zz_sub (L' := [some (.ref (E.1.heap.size + 0)), some (.int x1), some (.int x2), some (.int 0)]) ⟨rfl, rfl, rfl, rfl, trivial⟩ ?_
            exact j_91 σ39 x1 x2 0 hV
          · replace hV := hV.1 hc
            refine z_aload_n hC dX1_findParts_54 rfl rfl ?_
            refine g_X1_48_0 hC dX1_findParts_55 ?_
            refine z_iload_n hC dX1_findParts_58 rfl rfl ?_
            refine z_iload_n hC dX1_findParts_59 rfl rfl ?_
            refine z_iload_n hC dX1_findParts_60 rfl rfl ?_
            refine z_icmp_ne (tgt := 68) hC dX1_findParts_61 (by decide) (fun hc => ?_) (fun hc => ?_)
            · replace hV := hV.2 hc
              refine z_iconst (v := 0) hC dX1_findParts_68 rfl ?_
              obtain ⟨h54, hV⟩ := hV
              refine z_zast hC dX1_findParts_69 (k_22 _) (h54) ?_
              obtain ⟨σ55, e_σ55⟩ : ∃ z : ZS, z = sI σ34 22 (ix x3) (vp_nar .boolean 0) := ⟨_, rfl⟩
              replace hV := hV _ e_σ55
              rw [← e_σ55]
              obtain ⟨y56, e_y56⟩ : ∃ z : Int32, z = x3 + 1 := ⟨_, rfl⟩
              replace hV := hV _ e_y56
              refine z_iinc (v := y56) hC dX1_findParts_70 rfl (by rw [e_y56]; rfl) (Nat.le_of_ble_eq_true rfl) rfl rfl ?_
              refine z_goto (tgt := 43) hC dX1_findParts_73 (by decide) ?_
              refine zz_sub (L' := [some (.ref (E.1.heap.size + 0)), some (.int x1), some (.int x2), some (.int y56)]) ⟨rfl, rfl, rfl, rfl, trivial⟩ ?_
              exact j_43 σ55 x1 x2 y56 hV
            · replace hV := hV.1 hc
              refine z_iconst (v := 1) hC dX1_findParts_64 rfl ?_
              refine z_goto (tgt := 69) hC dX1_findParts_65 (by decide) ?_
              obtain ⟨h57, hV⟩ := hV
              refine z_zast hC dX1_findParts_69 (k_22 _) (h57) ?_
              obtain ⟨σ58, e_σ58⟩ : ∃ z : ZS, z = sI σ34 22 (ix x3) (vp_nar .boolean 1) := ⟨_, rfl⟩
              replace hV := hV _ e_σ58
              rw [← e_σ58]
              obtain ⟨y59, e_y59⟩ : ∃ z : Int32, z = x3 + 1 := ⟨_, rfl⟩
              replace hV := hV _ e_y59
              refine z_iinc (v := y59) hC dX1_findParts_70 rfl (by rw [e_y59]; rfl) (Nat.le_of_ble_eq_true rfl) rfl rfl ?_
              refine z_goto (tgt := 43) hC dX1_findParts_73 (by decide) ?_
              refine zz_sub (L' := [some (.ref (E.1.heap.size + 0)), some (.int x1), some (.int x2), some (.int y59)]) ⟨rfl, rfl, rfl, rfl, trivial⟩ ?_
              exact j_43 σ58 x1 x2 y59 hV
      refine z_iload_n hC dX1_findParts_2 rfl rfl ?_
      refine z_aload_n hC dX1_findParts_3 rfl rfl ?_
      refine g_X1_12_0 hC dX1_findParts_4 ?_
      obtain ⟨h1, hV⟩ := hV
      refine zz_at rfl (by rw [pvo h1]) ?_
      obtain ⟨⟨n5, h4⟩, hV⟩ := hV
      refine c_X1_271 hC (by decide) dX1_findParts_7 (Nat.le_of_ble_eq_true rfl) h4 hV (fun r2 σ3 hV => ?_)
      refine z_icmp_ge (tgt := 139) hC dX1_findParts_10 (by decide) (fun hc => ?_) (fun hc => ?_)
      · replace hV := hV.2 hc
        refine z_iconst (v := 0) hC dX1_findParts_139 rfl ?_
        refine z_istore_n hC dX1_findParts_140 rfl (Nat.le_of_ble_eq_true rfl) rfl rfl ?_
        refine zz_sub (L' := [some (.ref (E.1.heap.size + 0)), none, some (.int 0), none]) ⟨rfl, rfl, trivial⟩ ?_
        exact j_141 σ3 0 hV
      · replace hV := hV.1 hc
        refine z_aload_n hC dX1_findParts_13 rfl rfl ?_
        refine g_X1_58_0 hC dX1_findParts_14 ?_
        refine z_iload_n hC dX1_findParts_17 rfl rfl ?_
        refine z_lconst (v := 0) hC dX1_findParts_18 rfl ?_
        obtain ⟨h23, hV⟩ := hV
        refine z_last hC dX1_findParts_19 (k_25 _) (h23) ?_
        obtain ⟨σ24, e_σ24⟩ : ∃ z : ZS, z = sJ σ3 25 (ix x2) 0 := ⟨_, rfl⟩
        replace hV := hV _ e_σ24
        rw [← e_σ24]
        refine z_aload_n hC dX1_findParts_20 rfl rfl ?_
        refine g_X1_55_0 hC dX1_findParts_21 ?_
        refine z_iload_n hC dX1_findParts_24 rfl rfl ?_
        refine z_iconst (v := (-1)) hC dX1_findParts_25 rfl ?_
        obtain ⟨h25, hV⟩ := hV
        refine z_iast hC dX1_findParts_26 (k_24 _) (h25) ?_
        obtain ⟨σ26, e_σ26⟩ : ∃ z : ZS, z = sI σ24 24 (ix x2) (-1) := ⟨_, rfl⟩
        replace hV := hV _ e_σ26
        rw [← e_σ26]
        refine z_aload_n hC dX1_findParts_27 rfl rfl ?_
        refine g_X1_12_0 hC dX1_findParts_28 ?_
        obtain ⟨h27, hV⟩ := hV
        refine zz_at rfl (by rw [pvo h27]) ?_
        refine z_iload_n hC dX1_findParts_31 rfl rfl ?_
        obtain ⟨⟨n31, h30⟩, hV⟩ := hV
        refine c_X1_150 hC (by decide) dX1_findParts_32 (Nat.le_of_ble_eq_true rfl) h30 hV (fun r28 σ29 hV => ?_)
        refine z_if_ne (tgt := 41) hC dX1_findParts_35 (by decide) (fun hc => ?_) (fun hc => ?_)
        · replace hV := hV.2 hc
          refine z_iconst (v := 0) hC dX1_findParts_41 rfl ?_
          refine z_istore_n hC dX1_findParts_42 rfl (Nat.le_of_ble_eq_true rfl) rfl rfl ?_
          refine zz_sub (L' := [some (.ref (E.1.heap.size + 0)), some (.int x1), some (.int x2), some (.int 0)]) ⟨rfl, rfl, rfl, rfl, trivial⟩ ?_
          exact j_43 σ29 x1 x2 0 hV
        · replace hV := hV.1 hc
          refine z_goto (tgt := 133) hC dX1_findParts_38 (by decide) ?_
          obtain ⟨y60, e_y60⟩ : ∃ z : Int32, z = x2 + 1 := ⟨_, rfl⟩
          replace hV := hV _ e_y60
          refine z_iinc (v := y60) hC dX1_findParts_133 rfl (by rw [e_y60]; rfl) (Nat.le_of_ble_eq_true rfl) rfl rfl ?_
          refine z_goto (tgt := 2) hC dX1_findParts_136 (by decide) ?_
          refine zz_sub (L' := [some (.ref (E.1.heap.size + 0)), some (.int x1), some (.int y60), none]) ⟨rfl, rfl, rfl, trivial⟩ ?_
          exact j_2 σ29 x1 y60 hV
  refine z_iconst (v := 0) hC dX1_findParts_0 rfl ?_
  refine z_istore_n hC dX1_findParts_1 rfl (Nat.le_of_ble_eq_true rfl) rfl rfl ?_
  refine zz_sub (L' := [some (.ref (E.1.heap.size + 0)), some (.int a1), some (.int 0), none]) ⟨rfl, rfl, rfl, trivial⟩ ?_
  exact j_2 σ a1 0 hV
theorem p_X1_177_c2 {C : ZC} {E : ZE} {cc : ByteArray} {n nL pc d a x : Nat} {nm : String} {ret : Option FieldType} {hh : List (Nat × Nat × Nat × Nat)} {σ : ZS} {L : List (Option Value)} {st : List Value} {v : Int32} (hC : Cx C E cc nL "RightTurns" nm ret hh d) (hd : decode cc pc = .ok (.putfield 177, 3)) (hk : kK n σ a = (2 + 7, x)) (k : zz C E n nL (sI σ a 4 v) (pc + 3) L st) : zz C E n nL σ pc L (.int v :: .ref (E.1.heap.size + a) :: st) :=
  z_putI hC cf2 hd hk (k := 4) (by decide) (Or.inr ⟨_, q567⟩) (Or.inl rfl) (Or.inl rfl) rfl rfl rfl k
def wp_X1_forget (σ : ZS) (Ret : Int32 → ZS → Prop) : Prop :=
    ∀ y1 : Int32, y1 = zI σ 12 4 → (∀ σ2 : ZS, σ2 = sI σ 12 4 0 → (Ret y1 σ2))
set_option maxHeartbeats 4000000 in
theorem mz_X1_forget {l : Launch} {E : ZE} (hE : EOK E) {σ : ZS} {Ret : Int32 → ZS → Prop} (hV : wp_X1_forget σ Ret) : MZ l E NS yX1_forget (ws_ yX1_forget cX1_forget 2 (some .int)) 1 σ [.ref (E.1.heap.size + 0)] (rI Ret) := by
  refine MZ.start (L := [some (.ref (E.1.heap.size + 0)), none]) hE (by decide) (Nat.le_of_ble_eq_true rfl) rfl fun C hCl hQo hC => ?_
  replace hC : Cx C E cX1_forget 2 "RightTurns" "forget" (some .int) [] 1 := hC
  unfold wp_X1_forget at hV
  refine z_aload_n hC dX1_forget_0 rfl rfl ?_
  refine g_X1_19_0 hC dX1_forget_1 ?_
  refine g_X1_177_12 hC dX1_forget_4 ?_
  obtain ⟨y1, e_y1⟩ : ∃ z, z = zI σ 12 4 := ⟨_, rfl⟩
  rw [← e_y1]
  replace hV := hV _ e_y1
  refine z_istore_n hC dX1_forget_7 rfl (Nat.le_of_ble_eq_true rfl) rfl rfl ?_
  refine z_aload_n hC dX1_forget_8 rfl rfl ?_
  refine g_X1_19_0 hC dX1_forget_9 ?_
  refine z_iconst (v := 0) hC dX1_forget_12 rfl ?_
  refine p_X1_177_c2 hC dX1_forget_13 (k_12 _) ?_
  obtain ⟨σ2, e_σ2⟩ : ∃ z : ZS, z = sI σ 12 4 0 := ⟨_, rfl⟩
  replace hV := hV _ e_σ2
  rw [← e_σ2]
  refine z_iload_n hC dX1_forget_16 rfl rfl ?_
  exact z_iret hC dX1_forget_17 rfl (by rw [hQo]; exact ⟨_, rfl, hV⟩)
theorem g_X1_415_0 {C : ZC} {E : ZE} {cc : ByteArray} {nL pc d : Nat} {nm : String} {ret : Option FieldType} {hh : List (Nat × Nat × Nat × Nat)} {σ : ZS} {L : List (Option Value)} {st : List Value} (hC : Cx C E cc nL "RightTurns" nm ret hh d) (hd : decode cc pc = .ok (.getfield 415, 3)) (k : zz C E NS nL σ (pc + 3) L (.int (zI σ 0 38) :: st)) : zz C E NS nL σ pc L (.ref (E.1.heap.size + 0) :: st) :=
  z_get hC cf0 hd (k_0 σ) (k := 38) (by decide) (Or.inl q619) (Or.inl rfl) rfl k
theorem p_X1_415_c0 {C : ZC} {E : ZE} {cc : ByteArray} {n nL pc d a x : Nat} {nm : String} {ret : Option FieldType} {hh : List (Nat × Nat × Nat × Nat)} {σ : ZS} {L : List (Option Value)} {st : List Value} {v : Int32} (hC : Cx C E cc nL "RightTurns" nm ret hh d) (hd : decode cc pc = .ok (.putfield 415, 3)) (hk : kK n σ a = (0 + 7, x)) (k : zz C E n nL (sI σ a 38 v) (pc + 3) L st) : zz C E n nL σ pc L (.int v :: .ref (E.1.heap.size + a) :: st) :=
  z_putI hC cf0 hd hk (k := 38) (by decide) (Or.inl q619) (Or.inl rfl) (Or.inl rfl) rfl rfl rfl k
def VL_X1_staying_9 (Ret : Int32 → ZS → Prop) : Nat → ZS → Int32 → Int32 → Int32 → Prop
  | 0 => fun _ _ _ _ => False
  | k + 1 => fun σ x1 x2 x3 =>
    let K9 := VL_X1_staying_9 Ret k
    (zP σ 0 0) = some (.inl (zo (zP σ 0 0))) ∧ ((∃ n4, kK NS σ (zo (zP σ 0 0)) = (8, n4)) ∧ ((kP NS σ (zo (zP σ 0 0)) 2) = some (.inl (zo (kP NS σ (zo (zP σ 0 0)) 2))) ∧ ((∃ n9, kK NS σ (zo (kP NS σ (zo (zP σ 0 0)) 2)) = (16, n9)) ∧ (wp_J2_size σ (zo (kP NS σ (zo (zP σ 0 0)) 2)) (fun r6 σ7 => ((x3 < r6 → ((zP σ7 0 0) = some (.inl (zo (zP σ7 0 0))) ∧ ((∃ n12, kK NS σ7 (zo (zP σ7 0 0)) = (8, n12)) ∧ ((kP NS σ7 (zo (zP σ7 0 0)) 2) = some (.inl (zo (kP NS σ7 (zo (zP σ7 0 0)) 2))) ∧ ((∃ n17, kK NS σ7 (zo (kP NS σ7 (zo (zP σ7 0 0)) 2)) = (16, n17)) ∧ (wp_J2_get σ7 (zo (kP NS σ7 (zo (zP σ7 0 0)) 2)) x3 (fun r14 σ15 => r14 = some (.inl (zo r14)) ∧ ((∃ n20, kK NS σ15 (zo r14) = (15, n20)) ∧ ((∃ n22, kK NS σ15 (zo r14) = (15, n22)) ∧ ((zP σ15 0 0) = some (.inl (zo (zP σ15 0 0))) ∧ ((∃ n25, kK NS σ15 (zo (zP σ15 0 0)) = (8, n25)) ∧ ((kP NS σ15 (zo (zP σ15 0 0)) 2) = some (.inl (zo (kP NS σ15 (zo (zP σ15 0 0)) 2))) ∧ ((∃ n30, kK NS σ15 (zo (kP NS σ15 (zo (zP σ15 0 0)) 2)) = (16, n30)) ∧ (wp_J2_get σ15 (zo (kP NS σ15 (zo (zP σ15 0 0)) 2)) x3 (fun r27 σ28 => r27 = some (.inl (zo r27)) ∧ ((∃ n33, kK NS σ28 (zo r27) = (15, n33)) ∧ ((∃ n35, kK NS σ28 (zo r27) = (15, n35)) ∧ (wp_X1_rideOf σ28 (zI σ15 (zo r14) 0) (zI σ28 (zo r27) 1) x1 (fun r36 σ37 => ((r36 = (-1) → (∀ y40 : Int32, y40 = x2 + 1 → (∀ y41 : Int32, y41 = x3 + 1 → (K9 σ37 x1 y40 y41)))) ∧ (¬ r36 = (-1) → (∀ σ38 : ZS, σ38 = sI σ37 0 38 ((zI σ37 0 38) + r36) → (∀ y39 : Int32, y39 = x3 + 1 → (K9 σ38 x1 x2 y39)))))))))))))))))))))))) ∧ (¬ x3 < r6 → (Ret x2 σ7))))))))
def V_X1_staying_9 (Ret : Int32 → ZS → Prop) (σ : ZS) (x1 : Int32) (x2 : Int32) (x3 : Int32) : Prop := ∃ k, VL_X1_staying_9 Ret k σ x1 x2 x3
def wp_X1_staying (σ : ZS) (a1 : Int32) (Ret : Int32 → ZS → Prop) : Prop :=
    ∀ σ1 : ZS, σ1 = sI σ 0 38 0 → (V_X1_staying_9 Ret σ1 a1 0 0)
set_option maxHeartbeats 4000000 in
theorem mz_X1_staying {l : Launch} {E : ZE} (hE : EOK E) {σ : ZS} {a1 : Int32} {Ret : Int32 → ZS → Prop} (hV : wp_X1_staying σ a1 Ret) : MZ l E NS yX1_staying (ws_ yX1_staying cX1_staying 5 (some .int)) 10 σ [.ref (E.1.heap.size + 0), .int a1] (rI Ret) := by
  refine MZ.start (L := [some (.ref (E.1.heap.size + 0)), some (.int a1), none, none, none]) hE (by decide) (Nat.le_of_ble_eq_true rfl) rfl fun C hCl hQo hC => ?_
  replace hC : Cx C E cX1_staying 5 "RightTurns" "staying" (some .int) [] 10 := hC
  unfold wp_X1_staying at hV
  have j_9 : ∀ (σ : ZS) (x1 : Int32) (x2 : Int32) (x3 : Int32), V_X1_staying_9 Ret σ x1 x2 x3 → zz C E NS 5 σ 9 [some (.ref (E.1.heap.size + 0)), some (.int x1), some (.int x2), some (.int x3), none] [] := by
    intro σ x1 x2 x3 ⟨k, hV⟩
    revert σ x1 x2 x3
    induction k with
    | zero => exact fun _ _ _ _ hV => hV.elim
    | succ k j_9 =>
      intro σ x1 x2 x3 hV
      simp only [VL_X1_staying_9] at hV
      generalize hKe9 : VL_X1_staying_9 Ret k = K9 at hV j_9
      clear hKe9
      refine z_iload_n hC dX1_staying_9 rfl rfl ?_
      refine z_aload_n hC dX1_staying_10 rfl rfl ?_
      refine g_X1_12_0 hC dX1_staying_11 ?_
      obtain ⟨h2, hV⟩ := hV
      refine zz_at rfl (by rw [pvo h2]) ?_
      obtain ⟨⟨n4, h3⟩, hV⟩ := hV
      refine g_X1_214_c1 hC dX1_staying_14 h3 ?_
      obtain ⟨h5, hV⟩ := hV
      refine zz_at rfl (by rw [pvo h5]) ?_
      obtain ⟨⟨n9, h8⟩, hV⟩ := hV
      refine c_X1_127 hC (by decide) dX1_staying_17 (Nat.le_of_ble_eq_true rfl) h8 hV (fun r6 σ7 hV => ?_)
      refine z_icmp_ge (tgt := 93) hC dX1_staying_20 (by decide) (fun hc => ?_) (fun hc => ?_)
      · replace hV := hV.2 hc
        refine z_iload_n hC dX1_staying_93 rfl rfl ?_
        exact z_iret hC dX1_staying_94 rfl (by rw [hQo]; exact ⟨_, rfl, hV⟩)
      · replace hV := hV.1 hc
        refine z_aload_n hC dX1_staying_23 rfl rfl ?_
        refine z_aload_n hC dX1_staying_24 rfl rfl ?_
        refine g_X1_12_0 hC dX1_staying_25 ?_
        obtain ⟨h10, hV⟩ := hV
        refine zz_at rfl (by rw [pvo h10]) ?_
        obtain ⟨⟨n12, h11⟩, hV⟩ := hV
        refine g_X1_214_c1 hC dX1_staying_28 h11 ?_
        obtain ⟨h13, hV⟩ := hV
        refine zz_at rfl (by rw [pvo h13]) ?_
        refine z_iload_n hC dX1_staying_31 rfl rfl ?_
        obtain ⟨⟨n17, h16⟩, hV⟩ := hV
        refine c_X1_144 hC (by decide) dX1_staying_32 (Nat.le_of_ble_eq_true rfl) h16 hV (fun r14 σ15 hV => ?_)
        obtain ⟨h18, hV⟩ := hV
        refine zz_at rfl (by rw [pvo h18]) ?_
        obtain ⟨⟨n20, h19⟩, hV⟩ := hV
        refine z_cast hC cf8 dX1_staying_35 h19 q1476 ?_
        obtain ⟨⟨n22, h21⟩, hV⟩ := hV
        refine g_X1_365_c8 hC dX1_staying_38 h21 ?_
        refine z_aload_n hC dX1_staying_41 rfl rfl ?_
        refine g_X1_12_0 hC dX1_staying_42 ?_
        obtain ⟨h23, hV⟩ := hV
        refine zz_at rfl (by rw [pvo h23]) ?_
        obtain ⟨⟨n25, h24⟩, hV⟩ := hV
        refine g_X1_214_c1 hC dX1_staying_45 h24 ?_
        obtain ⟨h26, hV⟩ := hV
        refine zz_at rfl (by rw [pvo h26]) ?_
        refine z_iload_n hC dX1_staying_48 rfl rfl ?_
        obtain ⟨⟨n30, h29⟩, hV⟩ := hV
        refine c_X1_144 hC (by decide) dX1_staying_49 (Nat.le_of_ble_eq_true rfl) h29 hV (fun r27 σ28 hV => ?_)
        obtain ⟨h31, hV⟩ := hV
        refine zz_at rfl (by rw [pvo h31]) ?_
        obtain ⟨⟨n33, h32⟩, hV⟩ := hV
        refine z_cast hC cf8 dX1_staying_52 h32 q1476 ?_
        obtain ⟨⟨n35, h34⟩, hV⟩ := hV
        refine g_X1_366_c8 hC dX1_staying_55 h34 ?_
        refine z_iload_n hC dX1_staying_58 rfl rfl ?_
        refine c_X1_297 hC (by decide) dX1_staying_59 (Nat.le_of_ble_eq_true rfl) hV (fun r36 σ37 hV => ?_)
        refine z_istore hC dX1_staying_62 (Nat.le_of_ble_eq_true rfl) rfl rfl ?_
        refine z_iload hC dX1_staying_64 rfl ?_
        refine z_iconst (v := (-1)) hC dX1_staying_66 rfl ?_
        refine z_icmp_ne (tgt := 76) hC dX1_staying_67 (by decide) (fun hc => ?_) (fun hc => ?_)
        · replace hV := hV.2 hc
          refine z_aload_n hC dX1_staying_76 rfl rfl ?_
          refine z_dup hC dX1_staying_77 rfl ?_
          refine g_X1_415_0 hC dX1_staying_78 ?_
          refine z_iload hC dX1_staying_81 rfl ?_
          refine z_iadd hC dX1_staying_83 ?_
          refine p_X1_415_c0 hC dX1_staying_84 (k_0 _) ?_
          obtain ⟨σ38, e_σ38⟩ : ∃ z : ZS, z = sI σ37 0 38 ((zI σ37 0 38) + r36) := ⟨_, rfl⟩
          replace hV := hV _ e_σ38
          rw [← e_σ38]
          obtain ⟨y39, e_y39⟩ : ∃ z : Int32, z = x3 + 1 := ⟨_, rfl⟩
          replace hV := hV _ e_y39
          refine z_iinc (v := y39) hC dX1_staying_87 rfl (by rw [e_y39]; rfl) (Nat.le_of_ble_eq_true rfl) rfl rfl ?_
          refine z_goto (tgt := 9) hC dX1_staying_90 (by decide) ?_
          refine zz_sub (L' := [some (.ref (E.1.heap.size + 0)), some (.int x1), some (.int x2), some (.int y39), none]) ⟨rfl, rfl, rfl, rfl, trivial⟩ ?_
          exact j_9 σ38 x1 x2 y39 hV
        · replace hV := hV.1 hc
          obtain ⟨y40, e_y40⟩ : ∃ z : Int32, z = x2 + 1 := ⟨_, rfl⟩
          replace hV := hV _ e_y40
          refine z_iinc (v := y40) hC dX1_staying_70 rfl (by rw [e_y40]; rfl) (Nat.le_of_ble_eq_true rfl) rfl rfl ?_
          refine z_goto (tgt := 87) hC dX1_staying_73 (by decide) ?_
          obtain ⟨y41, e_y41⟩ : ∃ z : Int32, z = x3 + 1 := ⟨_, rfl⟩
          replace hV := hV _ e_y41
          refine z_iinc (v := y41) hC dX1_staying_87 rfl (by rw [e_y41]; rfl) (Nat.le_of_ble_eq_true rfl) rfl rfl ?_
          refine z_goto (tgt := 9) hC dX1_staying_90 (by decide) ?_
          refine zz_sub (L' := [some (.ref (E.1.heap.size + 0)), some (.int x1), some (.int y40), some (.int y41), none]) ⟨rfl, rfl, rfl, rfl, trivial⟩ ?_
          exact j_9 σ37 x1 y40 y41 hV
  refine z_iconst (v := 0) hC dX1_staying_0 rfl ?_
  refine z_istore_n hC dX1_staying_1 rfl (Nat.le_of_ble_eq_true rfl) rfl rfl ?_
  refine z_aload_n hC dX1_staying_2 rfl rfl ?_
  refine z_iconst (v := 0) hC dX1_staying_3 rfl ?_
  refine p_X1_415_c0 hC dX1_staying_4 (k_0 _) ?_
  obtain ⟨σ1, e_σ1⟩ : ∃ z : ZS, z = sI σ 0 38 0 := ⟨_, rfl⟩
  replace hV := hV _ e_σ1
  rw [← e_σ1]
  refine z_iconst (v := 0) hC dX1_staying_7 rfl ?_
  refine z_istore_n hC dX1_staying_8 rfl (Nat.le_of_ble_eq_true rfl) rfl rfl ?_
  refine zz_sub (L' := [some (.ref (E.1.heap.size + 0)), some (.int a1), some (.int 0), some (.int 0), none]) ⟨rfl, rfl, rfl, rfl, trivial⟩ ?_
  exact j_9 σ1 a1 0 0 hV
def wp_X1_isOut (σ : ZS) (a1 : Int32) (Ret : Int32 → ZS → Prop) : Prop :=
    vp_in a1 12 ∧ ((((zI σ 33 (ix a1)) = (-1) → (Ret 0 σ)) ∧ (¬ (zI σ 33 (ix a1)) = (-1) → (vp_in a1 12 ∧ ((((zI σ 34 (ix a1)) = (-1) → (Ret 0 σ)) ∧ (¬ (zI σ 34 (ix a1)) = (-1) → (vp_in a1 12 ∧ ((((zI σ 37 (ix a1)) = (-1) → (Ret 1 σ)) ∧ (¬ (zI σ 37 (ix a1)) = (-1) → (Ret 0 σ))))))))))))
set_option maxHeartbeats 4000000 in
theorem mz_X1_isOut {l : Launch} {E : ZE} (hE : EOK E) {σ : ZS} {a1 : Int32} {Ret : Int32 → ZS → Prop} (hV : wp_X1_isOut σ a1 Ret) : MZ l E NS yX1_isOut (ws_ yX1_isOut cX1_isOut 2 (some .boolean)) 1 σ [.ref (E.1.heap.size + 0), .int a1] (rI Ret) := by
  refine MZ.start (L := [some (.ref (E.1.heap.size + 0)), some (.int a1)]) hE (by decide) (Nat.le_of_ble_eq_true rfl) rfl fun C hCl hQo hC => ?_
  replace hC : Cx C E cX1_isOut 2 "RightTurns" "isOut" (some .boolean) [] 1 := hC
  unfold wp_X1_isOut at hV
  refine z_aload_n hC dX1_isOut_0 rfl rfl ?_
  refine g_X1_84_0 hC dX1_isOut_1 ?_
  refine z_iload_n hC dX1_isOut_4 rfl rfl ?_
  obtain ⟨h1, hV⟩ := hV
  refine z_iald hC dX1_isOut_5 (k_33 _) (h1) ?_
  refine z_iconst (v := (-1)) hC dX1_isOut_6 rfl ?_
  refine z_icmp_eq (tgt := 34) hC dX1_isOut_7 (by decide) (fun hc => ?_) (fun hc => ?_)
  · replace hV := hV.1 hc
    refine z_iconst (v := 0) hC dX1_isOut_34 rfl ?_
    exact z_iret hC dX1_isOut_35 rfl (by rw [hQo]; exact ⟨_, rfl, hV⟩)
  · replace hV := hV.2 hc
    refine z_aload_n hC dX1_isOut_10 rfl rfl ?_
    refine g_X1_87_0 hC dX1_isOut_11 ?_
    refine z_iload_n hC dX1_isOut_14 rfl rfl ?_
    obtain ⟨h2, hV⟩ := hV
    refine z_iald hC dX1_isOut_15 (k_34 _) (h2) ?_
    refine z_iconst (v := (-1)) hC dX1_isOut_16 rfl ?_
    refine z_icmp_eq (tgt := 34) hC dX1_isOut_17 (by decide) (fun hc => ?_) (fun hc => ?_)
    · replace hV := hV.1 hc
      refine z_iconst (v := 0) hC dX1_isOut_34 rfl ?_
      exact z_iret hC dX1_isOut_35 rfl (by rw [hQo]; exact ⟨_, rfl, hV⟩)
    · replace hV := hV.2 hc
      refine z_aload_n hC dX1_isOut_20 rfl rfl ?_
      refine g_X1_96_0 hC dX1_isOut_21 ?_
      refine z_iload_n hC dX1_isOut_24 rfl rfl ?_
      obtain ⟨h3, hV⟩ := hV
      refine z_iald hC dX1_isOut_25 (k_37 _) (h3) ?_
      refine z_iconst (v := (-1)) hC dX1_isOut_26 rfl ?_
      refine z_icmp_ne (tgt := 34) hC dX1_isOut_27 (by decide) (fun hc => ?_) (fun hc => ?_)
      · replace hV := hV.2 hc
        refine z_iconst (v := 0) hC dX1_isOut_34 rfl ?_
        exact z_iret hC dX1_isOut_35 rfl (by rw [hQo]; exact ⟨_, rfl, hV⟩)
      · replace hV := hV.1 hc
        refine z_iconst (v := 1) hC dX1_isOut_30 rfl ?_
        refine z_goto (tgt := 35) hC dX1_isOut_31 (by decide) ?_
        exact z_iret hC dX1_isOut_35 rfl (by rw [hQo]; exact ⟨_, rfl, hV⟩)
theorem g_X1_370_0 {C : ZC} {E : ZE} {cc : ByteArray} {nL pc d : Nat} {nm : String} {ret : Option FieldType} {hh : List (Nat × Nat × Nat × Nat)} {σ : ZS} {L : List (Option Value)} {st : List Value} (hC : Cx C E cc nL "RightTurns" nm ret hh d) (hd : decode cc pc = .ok (.getfield 370, 3)) (k : zz C E NS nL σ (pc + 3) L (.int (zI σ 0 30) :: st)) : zz C E NS nL σ pc L (.ref (E.1.heap.size + 0) :: st) :=
  z_get hC cf0 hd (k_0 σ) (k := 30) (by decide) (Or.inl q611) (Or.inl rfl) rfl k
theorem g_X1_373_0 {C : ZC} {E : ZE} {cc : ByteArray} {nL pc d : Nat} {nm : String} {ret : Option FieldType} {hh : List (Nat × Nat × Nat × Nat)} {σ : ZS} {L : List (Option Value)} {st : List Value} (hC : Cx C E cc nL "RightTurns" nm ret hh d) (hd : decode cc pc = .ok (.getfield 373, 3)) (k : zz C E NS nL σ (pc + 3) L (.int (zI σ 0 31) :: st)) : zz C E NS nL σ pc L (.ref (E.1.heap.size + 0) :: st) :=
  z_get hC cf0 hd (k_0 σ) (k := 31) (by decide) (Or.inl q612) (Or.inl rfl) rfl k
theorem g_X1_90_0 {C : ZC} {E : ZE} {cc : ByteArray} {nL pc d : Nat} {nm : String} {ret : Option FieldType} {hh : List (Nat × Nat × Nat × Nat)} {σ : ZS} {L : List (Option Value)} {st : List Value} (hC : Cx C E cc nL "RightTurns" nm ret hh d) (hd : decode cc pc = .ok (.getfield 90, 3)) (k : zz C E NS nL σ (pc + 3) L (.ref (E.1.heap.size + 35) :: st)) : zz C E NS nL σ pc L (.ref (E.1.heap.size + 0) :: st) :=
  z_get hC cf0 hd (k_0 σ) (k := 26) (by decide) (Or.inl q607) (Or.inl rfl) rfl k
theorem g_X1_93_0 {C : ZC} {E : ZE} {cc : ByteArray} {nL pc d : Nat} {nm : String} {ret : Option FieldType} {hh : List (Nat × Nat × Nat × Nat)} {σ : ZS} {L : List (Option Value)} {st : List Value} (hC : Cx C E cc nL "RightTurns" nm ret hh d) (hd : decode cc pc = .ok (.getfield 93, 3)) (k : zz C E NS nL σ (pc + 3) L (.ref (E.1.heap.size + 36) :: st)) : zz C E NS nL σ pc L (.ref (E.1.heap.size + 0) :: st) :=
  z_get hC cf0 hd (k_0 σ) (k := 27) (by decide) (Or.inl q608) (Or.inl rfl) rfl k
theorem p_X1_373_c0 {C : ZC} {E : ZE} {cc : ByteArray} {n nL pc d a x : Nat} {nm : String} {ret : Option FieldType} {hh : List (Nat × Nat × Nat × Nat)} {σ : ZS} {L : List (Option Value)} {st : List Value} {v : Int32} (hC : Cx C E cc nL "RightTurns" nm ret hh d) (hd : decode cc pc = .ok (.putfield 373, 3)) (hk : kK n σ a = (0 + 7, x)) (k : zz C E n nL (sI σ a 31 v) (pc + 3) L st) : zz C E n nL σ pc L (.int v :: .ref (E.1.heap.size + a) :: st) :=
  z_putI hC cf0 hd hk (k := 31) (by decide) (Or.inl q612) (Or.inl rfl) (Or.inl rfl) rfl rfl rfl k
theorem cw_X1_arcOf : CodeW yX1_arcOf (ws_ yX1_arcOf cX1_arcOf 2 (some .int)) 2 := ⟨fun w h => (List.mem_cons.mp h).elim (fun e => e ▸ q1484) id, Or.inl ⟨_, _, q1484⟩, q116, by decide, by decide⟩
theorem c_X1_385 {C : ZC} {E : ZE} {cc : ByteArray} {nL pc d : Nat} {nm : String} {ret : Option FieldType} {hh : List (Nat × Nat × Nat × Nat)} {σ : ZS} {L : List (Option Value)} {st : List Value} {a1 : Int32} {Ret : Int32 → ZS → Prop} (hC : Cx C E cc nL "RightTurns" nm ret hh d) (hdd : 1 + 1 ≤ d) (hd : decode cc pc = .ok (.invokevirtual 385, 3)) (hW : (st.map fun v => v.category).sum ≤ 8) (hV : wp_X1_arcOf σ a1 Ret) (k : ∀ r σ', Ret r σ' → zz C E NS nL σ' (pc + 3) L (.int r :: st)) : zz C E NS nL σ pc L (.int a1 :: .ref (E.1.heap.size + 0) :: st) :=
  z_callVG hC cf0 cw_X1_arcOf hdd (by decide) (mz_X1_arcOf (cxE hC) hV) hd (k_0 σ) q1481 q1483 qs43 (np := 1) rfl rfl hW rfl (kI k)
theorem cw_X1_isOut : CodeW yX1_isOut (ws_ yX1_isOut cX1_isOut 2 (some .boolean)) 2 := ⟨fun w h => (List.mem_cons.mp h).elim (fun e => e ▸ q1488) id, Or.inl ⟨_, _, q1488⟩, q116, by decide, by decide⟩
theorem c_X1_388 {C : ZC} {E : ZE} {cc : ByteArray} {nL pc d : Nat} {nm : String} {ret : Option FieldType} {hh : List (Nat × Nat × Nat × Nat)} {σ : ZS} {L : List (Option Value)} {st : List Value} {a1 : Int32} {Ret : Int32 → ZS → Prop} (hC : Cx C E cc nL "RightTurns" nm ret hh d) (hdd : 1 + 1 ≤ d) (hd : decode cc pc = .ok (.invokevirtual 388, 3)) (hW : (st.map fun v => v.category).sum ≤ 8) (hV : wp_X1_isOut σ a1 Ret) (k : ∀ r σ', Ret r σ' → zz C E NS nL σ' (pc + 3) L (.int r :: st)) : zz C E NS nL σ pc L (.int a1 :: .ref (E.1.heap.size + 0) :: st) :=
  z_callVG hC cf0 cw_X1_isOut hdd (by decide) (mz_X1_isOut (cxE hC) hV) hd (k_0 σ) q1485 q1487 qs44 (np := 1) rfl rfl hW rfl (kI k)
def VL_X1_passes_4 (Ret : ZS → Prop) : Nat → ZS → Int32 → Int32 → Int32 → Prop
  | 0 => fun _ _ _ _ => False
  | k + 1 => fun σ x1 x2 x3 =>
    let K4 := VL_X1_passes_4 Ret k
    (zP σ 0 0) = some (.inl (zo (zP σ 0 0))) ∧ ((∃ n3, kK NS σ (zo (zP σ 0 0)) = (8, n3)) ∧ ((kP NS σ (zo (zP σ 0 0)) 2) = some (.inl (zo (kP NS σ (zo (zP σ 0 0)) 2))) ∧ ((∃ n8, kK NS σ (zo (kP NS σ (zo (zP σ 0 0)) 2)) = (16, n8)) ∧ (wp_J2_size σ (zo (kP NS σ (zo (zP σ 0 0)) 2)) (fun r5 σ6 => ((x3 < r5 → (wp_X1_isOut σ6 x3 (fun r29 σ30 => ((r29 = 0 → (∀ y31 : Int32, y31 = x3 + 1 → (K4 σ30 x1 x2 y31))) ∧ (¬ r29 = 0 → (vp_in x3 12 ∧ (((0 < (zI σ30 35 (ix x3)) → (∀ y33 : Int32, y33 = x3 + 1 → (K4 σ30 x1 x2 y33))) ∧ (¬ 0 < (zI σ30 35 (ix x3)) → ((zP σ30 0 0) = some (.inl (zo (zP σ30 0 0))) ∧ (wp_X1_arcOf σ30 x3 (fun r35 σ36 => (∃ n40, kK NS σ36 (zo (zP σ30 0 0)) = (8, n40)) ∧ (wp_X2_end σ36 (zo (zP σ30 0 0)) r35 (fun r37 σ38 => ((r37 = x1 → (vp_in x3 12 ∧ (vp_in x3 12 ∧ (∀ σ43 : ZS, σ43 = sI σ38 38 (ix x3) ((zI σ38 38 (ix x3)) + 1) → (((x2 = (-1) → (∀ y44 : Int32, y44 = x3 + 1 → (K4 σ43 x1 x3 y44))) ∧ (¬ x2 = (-1) → (vp_in x3 12 ∧ (vp_in x2 12 ∧ ((((zI σ43 36 (ix x3)) < (zI σ43 36 (ix x2)) → (∀ y48 : Int32, y48 = x3 + 1 → (K4 σ43 x1 x3 y48))) ∧ (¬ (zI σ43 36 (ix x3)) < (zI σ43 36 (ix x2)) → (∀ y47 : Int32, y47 = x3 + 1 → (K4 σ43 x1 x2 y47)))))))))))))) ∧ (¬ r37 = x1 → (∀ y49 : Int32, y49 = x3 + 1 → (K4 σ38 x1 x2 y49)))))))))))))))))) ∧ (¬ x3 < r5 → (((x2 = (-1) → (Ret σ6)) ∧ (¬ x2 = (-1) → (vp_in x2 12 ∧ (vp_in x2 12 ∧ (∀ σ11 : ZS, σ11 = sI σ6 38 (ix x2) ((zI σ6 38 (ix x2)) - 1) → (vp_in x2 12 ∧ (vp_in x2 12 ∧ (∀ σ14 : ZS, σ14 = sI σ11 34 (ix x2) ((zI σ11 34 (ix x2)) + 1) → (vp_in x2 12 ∧ (vp_in x2 12 ∧ ((((zI σ14 34 (ix x2)) = (zI σ14 33 (ix x2)) → (vp_in x2 12 ∧ (∀ σ27 : ZS, σ27 = sI σ14 37 (ix x2) (zI σ14 0 30) → (∀ σ28 : ZS, σ28 = sI σ27 0 31 ((zI σ27 0 31) + 1) → (Ret σ28))))) ∧ (¬ (zI σ14 34 (ix x2)) = (zI σ14 33 (ix x2)) → ((zP σ14 0 0) = some (.inl (zo (zP σ14 0 0))) ∧ (wp_X1_arcOf σ14 x2 (fun r18 σ19 => (∃ n23, kK NS σ19 (zo (zP σ14 0 0)) = (8, n23)) ∧ (wp_X2_length σ19 (zo (zP σ14 0 0)) r18 (fun r20 σ21 => vp_in x2 12 ∧ (∀ σ25 : ZS, σ25 = sI σ21 35 (ix x2) r20 → (Ret σ25))))))))))))))))))))))))))))
def V_X1_passes_4 (Ret : ZS → Prop) (σ : ZS) (x1 : Int32) (x2 : Int32) (x3 : Int32) : Prop := ∃ k, VL_X1_passes_4 Ret k σ x1 x2 x3
def wp_X1_passes (σ : ZS) (a1 : Int32) (Ret : ZS → Prop) : Prop :=
    V_X1_passes_4 Ret σ a1 (-1) 0
set_option maxHeartbeats 4000000 in
theorem mz_X1_passes {l : Launch} {E : ZE} (hE : EOK E) {σ : ZS} {a1 : Int32} {Ret : ZS → Prop} (hV : wp_X1_passes σ a1 Ret) : MZ l E NS yX1_passes (ws_ yX1_passes cX1_passes 4 none) 6 σ [.ref (E.1.heap.size + 0), .int a1] (rV Ret) := by
  refine MZ.start (L := [some (.ref (E.1.heap.size + 0)), some (.int a1), none, none]) hE (by decide) (Nat.le_of_ble_eq_true rfl) rfl fun C hCl hQo hC => ?_
  replace hC : Cx C E cX1_passes 4 "RightTurns" "passes" none [] 6 := hC
  unfold wp_X1_passes at hV
  have j_4 : ∀ (σ : ZS) (x1 : Int32) (x2 : Int32) (x3 : Int32), V_X1_passes_4 Ret σ x1 x2 x3 → zz C E NS 4 σ 4 [some (.ref (E.1.heap.size + 0)), some (.int x1), some (.int x2), some (.int x3)] [] := by
    intro σ x1 x2 x3 ⟨k, hV⟩
    revert σ x1 x2 x3
    induction k with
    | zero => exact fun _ _ _ _ hV => hV.elim
    | succ k j_4 =>
      intro σ x1 x2 x3 hV
      simp only [VL_X1_passes_4] at hV
      generalize hKe4 : VL_X1_passes_4 Ret k = K4 at hV j_4
      clear hKe4
      refine z_iload_n hC dX1_passes_4 rfl rfl ?_
      refine z_aload_n hC dX1_passes_5 rfl rfl ?_
      refine g_X1_12_0 hC dX1_passes_6 ?_
      obtain ⟨h1, hV⟩ := hV
      refine zz_at rfl (by rw [pvo h1]) ?_
      obtain ⟨⟨n3, h2⟩, hV⟩ := hV
      refine g_X1_214_c1 hC dX1_passes_9 h2 ?_
      obtain ⟨h4, hV⟩ := hV
      refine zz_at rfl (by rw [pvo h4]) ?_
      obtain ⟨⟨n8, h7⟩, hV⟩ := hV
      refine c_X1_127 hC (by decide) dX1_passes_12 (Nat.le_of_ble_eq_true rfl) h7 hV (fun r5 σ6 hV => ?_)
      refine z_icmp_ge (tgt := 92) hC dX1_passes_15 (by decide) (fun hc => ?_) (fun hc => ?_)
      · replace hV := hV.2 hc
        refine z_iload_n hC dX1_passes_92 rfl rfl ?_
        refine z_iconst (v := (-1)) hC dX1_passes_93 rfl ?_
        refine z_icmp_ne (tgt := 98) hC dX1_passes_94 (by decide) (fun hc => ?_) (fun hc => ?_)
        · replace hV := hV.2 hc
          refine z_aload_n hC dX1_passes_98 rfl rfl ?_
          refine g_X1_99_0 hC dX1_passes_99 ?_
          refine z_iload_n hC dX1_passes_102 rfl rfl ?_
          refine z_dup2 hC dX1_passes_103 rfl rfl ?_
          obtain ⟨h9, hV⟩ := hV
          refine z_iald hC dX1_passes_104 (k_38 _) (h9) ?_
          refine z_iconst (v := 1) hC dX1_passes_105 rfl ?_
          refine z_isub hC dX1_passes_106 ?_
          obtain ⟨h10, hV⟩ := hV
          refine z_iast hC dX1_passes_107 (k_38 _) (h10) ?_
          obtain ⟨σ11, e_σ11⟩ : ∃ z : ZS, z = sI σ6 38 (ix x2) ((zI σ6 38 (ix x2)) - 1) := ⟨_, rfl⟩
          replace hV := hV _ e_σ11
          rw [← e_σ11]
          refine z_aload_n hC dX1_passes_108 rfl rfl ?_
          refine g_X1_87_0 hC dX1_passes_109 ?_
          refine z_iload_n hC dX1_passes_112 rfl rfl ?_
          refine z_dup2 hC dX1_passes_113 rfl rfl ?_
          obtain ⟨h12, hV⟩ := hV
          refine z_iald hC dX1_passes_114 (k_34 _) (h12) ?_
          refine z_iconst (v := 1) hC dX1_passes_115 rfl ?_
          refine z_iadd hC dX1_passes_116 ?_
          obtain ⟨h13, hV⟩ := hV
          refine z_iast hC dX1_passes_117 (k_34 _) (h13) ?_
          obtain ⟨σ14, e_σ14⟩ : ∃ z : ZS, z = sI σ11 34 (ix x2) ((zI σ11 34 (ix x2)) + 1) := ⟨_, rfl⟩
          replace hV := hV _ e_σ14
          rw [← e_σ14]
          refine z_aload_n hC dX1_passes_118 rfl rfl ?_
          refine g_X1_87_0 hC dX1_passes_119 ?_
          refine z_iload_n hC dX1_passes_122 rfl rfl ?_
          obtain ⟨h15, hV⟩ := hV
          refine z_iald hC dX1_passes_123 (k_34 _) (h15) ?_
          refine z_aload_n hC dX1_passes_124 rfl rfl ?_
          refine g_X1_84_0 hC dX1_passes_125 ?_
          refine z_iload_n hC dX1_passes_128 rfl rfl ?_
          obtain ⟨h16, hV⟩ := hV
          refine z_iald hC dX1_passes_129 (k_33 _) (h16) ?_
          refine z_icmp_ne (tgt := 156) hC dX1_passes_130 (by decide) (fun hc => ?_) (fun hc => ?_)
          · replace hV := hV.2 hc
            refine z_aload_n hC dX1_passes_156 rfl rfl ?_
            refine g_X1_90_0 hC dX1_passes_157 ?_
            refine z_iload_n hC dX1_passes_160 rfl rfl ?_
            refine z_aload_n hC dX1_passes_161 rfl rfl ?_
            refine g_X1_12_0 hC dX1_passes_162 ?_
            obtain ⟨h17, hV⟩ := hV
            refine zz_at rfl (by rw [pvo h17]) ?_
            refine z_aload_n hC dX1_passes_165 rfl rfl ?_
            refine z_iload_n hC dX1_passes_166 rfl rfl ?_
            refine c_X1_385 hC (by decide) dX1_passes_167 (Nat.le_of_ble_eq_true rfl) hV (fun r18 σ19 hV => ?_)
            obtain ⟨⟨n23, h22⟩, hV⟩ := hV
            refine c_X1_278 hC (by decide) dX1_passes_170 (Nat.le_of_ble_eq_true rfl) h22 hV (fun r20 σ21 hV => ?_)
            obtain ⟨h24, hV⟩ := hV
            refine z_iast hC dX1_passes_173 (k_35 _) (h24) ?_
            obtain ⟨σ25, e_σ25⟩ : ∃ z : ZS, z = sI σ21 35 (ix x2) r20 := ⟨_, rfl⟩
            replace hV := hV _ e_σ25
            rw [← e_σ25]
            exact z_vret hC dX1_passes_174 (by rw [hQo]; exact ⟨rfl, hV⟩)
          · replace hV := hV.1 hc
            refine z_aload_n hC dX1_passes_133 rfl rfl ?_
            refine g_X1_96_0 hC dX1_passes_134 ?_
            refine z_iload_n hC dX1_passes_137 rfl rfl ?_
            refine z_aload_n hC dX1_passes_138 rfl rfl ?_
            refine g_X1_370_0 hC dX1_passes_139 ?_
            obtain ⟨h26, hV⟩ := hV
            refine z_iast hC dX1_passes_142 (k_37 _) (h26) ?_
            obtain ⟨σ27, e_σ27⟩ : ∃ z : ZS, z = sI σ14 37 (ix x2) (zI σ14 0 30) := ⟨_, rfl⟩
            replace hV := hV _ e_σ27
            rw [← e_σ27]
            refine z_aload_n hC dX1_passes_143 rfl rfl ?_
            refine z_dup hC dX1_passes_144 rfl ?_
            refine g_X1_373_0 hC dX1_passes_145 ?_
            refine z_iconst (v := 1) hC dX1_passes_148 rfl ?_
            refine z_iadd hC dX1_passes_149 ?_
            refine p_X1_373_c0 hC dX1_passes_150 (k_0 _) ?_
            obtain ⟨σ28, e_σ28⟩ : ∃ z : ZS, z = sI σ27 0 31 ((zI σ27 0 31) + 1) := ⟨_, rfl⟩
            replace hV := hV _ e_σ28
            rw [← e_σ28]
            refine z_goto (tgt := 174) hC dX1_passes_153 (by decide) ?_
            exact z_vret hC dX1_passes_174 (by rw [hQo]; exact ⟨rfl, hV⟩)
        · replace hV := hV.1 hc
          exact z_vret hC dX1_passes_97 (by rw [hQo]; exact ⟨rfl, hV⟩)
      · replace hV := hV.1 hc
        refine z_aload_n hC dX1_passes_18 rfl rfl ?_
        refine z_iload_n hC dX1_passes_19 rfl rfl ?_
        refine c_X1_388 hC (by decide) dX1_passes_20 (Nat.le_of_ble_eq_true rfl) hV (fun r29 σ30 hV => ?_)
        refine z_if_eq (tgt := 86) hC dX1_passes_23 (by decide) (fun hc => ?_) (fun hc => ?_)
        · replace hV := hV.1 hc
          obtain ⟨y31, e_y31⟩ : ∃ z : Int32, z = x3 + 1 := ⟨_, rfl⟩
          replace hV := hV _ e_y31
          refine z_iinc (v := y31) hC dX1_passes_86 rfl (by rw [e_y31]; rfl) (Nat.le_of_ble_eq_true rfl) rfl rfl ?_
          refine z_goto (tgt := 4) hC dX1_passes_89 (by decide) ?_
          refine zz_sub (L' := [some (.ref (E.1.heap.size + 0)), some (.int x1), some (.int x2), some (.int y31)]) ⟨rfl, rfl, rfl, rfl, trivial⟩ ?_
          exact j_4 σ30 x1 x2 y31 hV
        · replace hV := hV.2 hc
          refine z_aload_n hC dX1_passes_26 rfl rfl ?_
          refine g_X1_90_0 hC dX1_passes_27 ?_
          refine z_iload_n hC dX1_passes_30 rfl rfl ?_
          obtain ⟨h32, hV⟩ := hV
          refine z_iald hC dX1_passes_31 (k_35 _) (h32) ?_
          refine z_if_gt (tgt := 86) hC dX1_passes_32 (by decide) (fun hc => ?_) (fun hc => ?_)
          · replace hV := hV.1 hc
            obtain ⟨y33, e_y33⟩ : ∃ z : Int32, z = x3 + 1 := ⟨_, rfl⟩
            replace hV := hV _ e_y33
            refine z_iinc (v := y33) hC dX1_passes_86 rfl (by rw [e_y33]; rfl) (Nat.le_of_ble_eq_true rfl) rfl rfl ?_
            refine z_goto (tgt := 4) hC dX1_passes_89 (by decide) ?_
            refine zz_sub (L' := [some (.ref (E.1.heap.size + 0)), some (.int x1), some (.int x2), some (.int y33)]) ⟨rfl, rfl, rfl, rfl, trivial⟩ ?_
            exact j_4 σ30 x1 x2 y33 hV
          · replace hV := hV.2 hc
            refine z_aload_n hC dX1_passes_35 rfl rfl ?_
            refine g_X1_12_0 hC dX1_passes_36 ?_
            obtain ⟨h34, hV⟩ := hV
            refine zz_at rfl (by rw [pvo h34]) ?_
            refine z_aload_n hC dX1_passes_39 rfl rfl ?_
            refine z_iload_n hC dX1_passes_40 rfl rfl ?_
            refine c_X1_385 hC (by decide) dX1_passes_41 (Nat.le_of_ble_eq_true rfl) hV (fun r35 σ36 hV => ?_)
            obtain ⟨⟨n40, h39⟩, hV⟩ := hV
            refine c_X1_274 hC (by decide) dX1_passes_44 (Nat.le_of_ble_eq_true rfl) h39 hV (fun r37 σ38 hV => ?_)
            refine z_iload_n hC dX1_passes_47 rfl rfl ?_
            refine z_icmp_eq (tgt := 54) hC dX1_passes_48 (by decide) (fun hc => ?_) (fun hc => ?_)
            · replace hV := hV.1 hc
              refine z_aload_n hC dX1_passes_54 rfl rfl ?_
              refine g_X1_99_0 hC dX1_passes_55 ?_
              refine z_iload_n hC dX1_passes_58 rfl rfl ?_
              refine z_dup2 hC dX1_passes_59 rfl rfl ?_
              obtain ⟨h41, hV⟩ := hV
              refine z_iald hC dX1_passes_60 (k_38 _) (h41) ?_
              refine z_iconst (v := 1) hC dX1_passes_61 rfl ?_
              refine z_iadd hC dX1_passes_62 ?_
              obtain ⟨h42, hV⟩ := hV
              refine z_iast hC dX1_passes_63 (k_38 _) (h42) ?_
              obtain ⟨σ43, e_σ43⟩ : ∃ z : ZS, z = sI σ38 38 (ix x3) ((zI σ38 38 (ix x3)) + 1) := ⟨_, rfl⟩
              replace hV := hV _ e_σ43
              rw [← e_σ43]
              refine z_iload_n hC dX1_passes_64 rfl rfl ?_
              refine z_iconst (v := (-1)) hC dX1_passes_65 rfl ?_
              refine z_icmp_eq (tgt := 84) hC dX1_passes_66 (by decide) (fun hc => ?_) (fun hc => ?_)
              · replace hV := hV.1 hc
                refine z_iload_n hC dX1_passes_84 rfl rfl ?_
                refine z_istore_n hC dX1_passes_85 rfl (Nat.le_of_ble_eq_true rfl) rfl rfl ?_
                obtain ⟨y44, e_y44⟩ : ∃ z : Int32, z = x3 + 1 := ⟨_, rfl⟩
                replace hV := hV _ e_y44
                refine z_iinc (v := y44) hC dX1_passes_86 rfl (by rw [e_y44]; rfl) (Nat.le_of_ble_eq_true rfl) rfl rfl ?_
                refine z_goto (tgt := 4) hC dX1_passes_89 (by decide) ?_
                refine zz_sub (L' := [some (.ref (E.1.heap.size + 0)), some (.int x1), some (.int x3), some (.int y44)]) ⟨rfl, rfl, rfl, rfl, trivial⟩ ?_
                exact j_4 σ43 x1 x3 y44 hV
              · replace hV := hV.2 hc
                refine z_aload_n hC dX1_passes_69 rfl rfl ?_
                refine g_X1_93_0 hC dX1_passes_70 ?_
                refine z_iload_n hC dX1_passes_73 rfl rfl ?_
                obtain ⟨h45, hV⟩ := hV
                refine z_iald hC dX1_passes_74 (k_36 _) (h45) ?_
                refine z_aload_n hC dX1_passes_75 rfl rfl ?_
                refine g_X1_93_0 hC dX1_passes_76 ?_
                refine z_iload_n hC dX1_passes_79 rfl rfl ?_
                obtain ⟨h46, hV⟩ := hV
                refine z_iald hC dX1_passes_80 (k_36 _) (h46) ?_
                refine z_icmp_ge (tgt := 86) hC dX1_passes_81 (by decide) (fun hc => ?_) (fun hc => ?_)
                · replace hV := hV.2 hc
                  obtain ⟨y47, e_y47⟩ : ∃ z : Int32, z = x3 + 1 := ⟨_, rfl⟩
                  replace hV := hV _ e_y47
                  refine z_iinc (v := y47) hC dX1_passes_86 rfl (by rw [e_y47]; rfl) (Nat.le_of_ble_eq_true rfl) rfl rfl ?_
                  refine z_goto (tgt := 4) hC dX1_passes_89 (by decide) ?_
                  refine zz_sub (L' := [some (.ref (E.1.heap.size + 0)), some (.int x1), some (.int x2), some (.int y47)]) ⟨rfl, rfl, rfl, rfl, trivial⟩ ?_
                  exact j_4 σ43 x1 x2 y47 hV
                · replace hV := hV.1 hc
                  refine z_iload_n hC dX1_passes_84 rfl rfl ?_
                  refine z_istore_n hC dX1_passes_85 rfl (Nat.le_of_ble_eq_true rfl) rfl rfl ?_
                  obtain ⟨y48, e_y48⟩ : ∃ z : Int32, z = x3 + 1 := ⟨_, rfl⟩
                  replace hV := hV _ e_y48
                  refine z_iinc (v := y48) hC dX1_passes_86 rfl (by rw [e_y48]; rfl) (Nat.le_of_ble_eq_true rfl) rfl rfl ?_
                  refine z_goto (tgt := 4) hC dX1_passes_89 (by decide) ?_
                  refine zz_sub (L' := [some (.ref (E.1.heap.size + 0)), some (.int x1), some (.int x3), some (.int y48)]) ⟨rfl, rfl, rfl, rfl, trivial⟩ ?_
                  exact j_4 σ43 x1 x3 y48 hV
            · replace hV := hV.2 hc
              refine z_goto (tgt := 86) hC dX1_passes_51 (by decide) ?_
              obtain ⟨y49, e_y49⟩ : ∃ z : Int32, z = x3 + 1 := ⟨_, rfl⟩
              replace hV := hV _ e_y49
              refine z_iinc (v := y49) hC dX1_passes_86 rfl (by rw [e_y49]; rfl) (Nat.le_of_ble_eq_true rfl) rfl rfl ?_
              refine z_goto (tgt := 4) hC dX1_passes_89 (by decide) ?_
              refine zz_sub (L' := [some (.ref (E.1.heap.size + 0)), some (.int x1), some (.int x2), some (.int y49)]) ⟨rfl, rfl, rfl, rfl, trivial⟩ ?_
              exact j_4 σ38 x1 x2 y49 hV
  refine z_iconst (v := (-1)) hC dX1_passes_0 rfl ?_
  refine z_istore_n hC dX1_passes_1 rfl (Nat.le_of_ble_eq_true rfl) rfl rfl ?_
  refine z_iconst (v := 0) hC dX1_passes_2 rfl ?_
  refine z_istore_n hC dX1_passes_3 rfl (Nat.le_of_ble_eq_true rfl) rfl rfl ?_
  refine zz_sub (L' := [some (.ref (E.1.heap.size + 0)), some (.int a1), some (.int (-1)), some (.int 0)]) ⟨rfl, rfl, rfl, rfl, trivial⟩ ?_
  exact j_4 σ a1 (-1) 0 hV
theorem g_X1_382_c8 {a x : Nat} {C : ZC} {E : ZE} {cc : ByteArray} {n nL pc d : Nat} {nm : String} {ret : Option FieldType} {hh : List (Nat × Nat × Nat × Nat)} {σ : ZS} {L : List (Option Value)} {st : List Value} (hC : Cx C E cc nL "RightTurns" nm ret hh d) (hd : decode cc pc = .ok (.getfield 382, 3)) (hk : kK n σ a = (8 + 7, x)) (k : zz C E n nL σ (pc + 3) L (.int (zI σ a 2) :: st)) : zz C E n nL σ pc L (.ref (E.1.heap.size + a) :: st) :=
  z_get hC cf8 hd hk (k := 2) (by decide) (Or.inr ⟨_, q1086⟩) (Or.inl rfl) rfl k
def V_X1_rides_73 (Ret : ZS → Prop) (σ : ZS) (x1 : Int32) : Prop :=
    wp_X1_isOut σ x1 (fun r3 σ4 => ((r3 = 0 → (Ret σ4)) ∧ (¬ r3 = 0 → (vp_in x1 12 ∧ (((0 < (zI σ4 35 (ix x1)) → (vp_in x1 12 ∧ (vp_in x1 12 ∧ (∀ σ8 : ZS, σ8 = sI σ4 35 (ix x1) ((zI σ4 35 (ix x1)) - 1) → (vp_in x1 12 ∧ ((((zI σ8 35 (ix x1)) = 0 → (vp_in x1 12 ∧ (∀ σ11 : ZS, σ11 = sI σ8 36 (ix x1) (zI σ8 0 30) → (Ret σ11)))) ∧ (¬ (zI σ8 35 (ix x1)) = 0 → (Ret σ8))))))))) ∧ (¬ 0 < (zI σ4 35 (ix x1)) → (Ret σ4))))))))
def wp_X1_rides (σ : ZS) (a1 : Int32) (Ret : ZS → Prop) : Prop :=
    vp_in a1 12 ∧ ((((zI σ 33 (ix a1)) = (-1) → (Ret σ)) ∧ (¬ (zI σ 33 (ix a1)) = (-1) → (vp_in a1 12 ∧ ((((zI σ 34 (ix a1)) = (-1) → ((zP σ 0 0) = some (.inl (zo (zP σ 0 0))) ∧ ((∃ n14, kK NS σ (zo (zP σ 0 0)) = (8, n14)) ∧ ((kP NS σ (zo (zP σ 0 0)) 2) = some (.inl (zo (kP NS σ (zo (zP σ 0 0)) 2))) ∧ ((∃ n19, kK NS σ (zo (kP NS σ (zo (zP σ 0 0)) 2)) = (16, n19)) ∧ (wp_J2_get σ (zo (kP NS σ (zo (zP σ 0 0)) 2)) a1 (fun r16 σ17 => r16 = some (.inl (zo r16)) ∧ ((∃ n22, kK NS σ17 (zo r16) = (15, n22)) ∧ ((∃ n24, kK NS σ17 (zo r16) = (15, n24)) ∧ ((((zI σ17 (zo r16) 2) = (zI σ17 0 30) → (vp_in a1 12 ∧ (∀ σ26 : ZS, σ26 = sI σ17 34 (ix a1) 0 → ((zP σ26 0 0) = some (.inl (zo (zP σ26 0 0))) ∧ (wp_X1_arcOf σ26 a1 (fun r28 σ29 => (∃ n33, kK NS σ29 (zo (zP σ26 0 0)) = (8, n33)) ∧ (wp_X2_length σ29 (zo (zP σ26 0 0)) r28 (fun r30 σ31 => vp_in a1 12 ∧ (∀ σ35 : ZS, σ35 = sI σ31 35 (ix a1) r30 → (Ret σ35)))))))))) ∧ (¬ (zI σ17 (zo r16) 2) = (zI σ17 0 30) → (V_X1_rides_73 Ret σ17 a1))))))))))))) ∧ (¬ (zI σ 34 (ix a1)) = (-1) → (V_X1_rides_73 Ret σ a1))))))))
set_option maxHeartbeats 4000000 in
theorem mz_X1_rides {l : Launch} {E : ZE} (hE : EOK E) {σ : ZS} {a1 : Int32} {Ret : ZS → Prop} (hV : wp_X1_rides σ a1 Ret) : MZ l E NS yX1_rides (ws_ yX1_rides cX1_rides 2 none) 6 σ [.ref (E.1.heap.size + 0), .int a1] (rV Ret) := by
  refine MZ.start (L := [some (.ref (E.1.heap.size + 0)), some (.int a1)]) hE (by decide) (Nat.le_of_ble_eq_true rfl) rfl fun C hCl hQo hC => ?_
  replace hC : Cx C E cX1_rides 2 "RightTurns" "rides" none [] 6 := hC
  unfold wp_X1_rides at hV
  have j_73 : ∀ (σ : ZS) (x1 : Int32), V_X1_rides_73 Ret σ x1 → zz C E NS 2 σ 73 [some (.ref (E.1.heap.size + 0)), some (.int x1)] [] := by
    intro σ x1 hV
    unfold V_X1_rides_73 at hV
    refine z_aload_n hC dX1_rides_73 rfl rfl ?_
    refine z_iload_n hC dX1_rides_74 rfl rfl ?_
    refine c_X1_388 hC (by decide) dX1_rides_75 (Nat.le_of_ble_eq_true rfl) hV (fun r3 σ4 hV => ?_)
    refine z_if_eq (tgt := 119) hC dX1_rides_78 (by decide) (fun hc => ?_) (fun hc => ?_)
    · replace hV := hV.1 hc
      exact z_vret hC dX1_rides_119 (by rw [hQo]; exact ⟨rfl, hV⟩)
    · replace hV := hV.2 hc
      refine z_aload_n hC dX1_rides_81 rfl rfl ?_
      refine g_X1_90_0 hC dX1_rides_82 ?_
      refine z_iload_n hC dX1_rides_85 rfl rfl ?_
      obtain ⟨h5, hV⟩ := hV
      refine z_iald hC dX1_rides_86 (k_35 _) (h5) ?_
      refine z_if_le (tgt := 119) hC dX1_rides_87 (by decide) (fun hc => ?_) (fun hc => ?_)
      · replace hV := hV.2 hc
        exact z_vret hC dX1_rides_119 (by rw [hQo]; exact ⟨rfl, hV⟩)
      · replace hV := hV.1 hc
        refine z_aload_n hC dX1_rides_90 rfl rfl ?_
        refine g_X1_90_0 hC dX1_rides_91 ?_
        refine z_iload_n hC dX1_rides_94 rfl rfl ?_
        refine z_dup2 hC dX1_rides_95 rfl rfl ?_
        obtain ⟨h6, hV⟩ := hV
        refine z_iald hC dX1_rides_96 (k_35 _) (h6) ?_
        refine z_iconst (v := 1) hC dX1_rides_97 rfl ?_
        refine z_isub hC dX1_rides_98 ?_
        obtain ⟨h7, hV⟩ := hV
        refine z_iast hC dX1_rides_99 (k_35 _) (h7) ?_
        obtain ⟨σ8, e_σ8⟩ : ∃ z : ZS, z = sI σ4 35 (ix x1) ((zI σ4 35 (ix x1)) - 1) := ⟨_, rfl⟩
        replace hV := hV _ e_σ8
        rw [← e_σ8]
        refine z_aload_n hC dX1_rides_100 rfl rfl ?_
        refine g_X1_90_0 hC dX1_rides_101 ?_
        refine z_iload_n hC dX1_rides_104 rfl rfl ?_
        obtain ⟨h9, hV⟩ := hV
        refine z_iald hC dX1_rides_105 (k_35 _) (h9) ?_
        refine z_if_ne (tgt := 119) hC dX1_rides_106 (by decide) (fun hc => ?_) (fun hc => ?_)
        · replace hV := hV.2 hc
          exact z_vret hC dX1_rides_119 (by rw [hQo]; exact ⟨rfl, hV⟩)
        · replace hV := hV.1 hc
          refine z_aload_n hC dX1_rides_109 rfl rfl ?_
          refine g_X1_93_0 hC dX1_rides_110 ?_
          refine z_iload_n hC dX1_rides_113 rfl rfl ?_
          refine z_aload_n hC dX1_rides_114 rfl rfl ?_
          refine g_X1_370_0 hC dX1_rides_115 ?_
          obtain ⟨h10, hV⟩ := hV
          refine z_iast hC dX1_rides_118 (k_36 _) (h10) ?_
          obtain ⟨σ11, e_σ11⟩ : ∃ z : ZS, z = sI σ8 36 (ix x1) (zI σ8 0 30) := ⟨_, rfl⟩
          replace hV := hV _ e_σ11
          rw [← e_σ11]
          exact z_vret hC dX1_rides_119 (by rw [hQo]; exact ⟨rfl, hV⟩)
  refine z_aload_n hC dX1_rides_0 rfl rfl ?_
  refine g_X1_84_0 hC dX1_rides_1 ?_
  refine z_iload_n hC dX1_rides_4 rfl rfl ?_
  obtain ⟨h1, hV⟩ := hV
  refine z_iald hC dX1_rides_5 (k_33 _) (h1) ?_
  refine z_iconst (v := (-1)) hC dX1_rides_6 rfl ?_
  refine z_icmp_ne (tgt := 11) hC dX1_rides_7 (by decide) (fun hc => ?_) (fun hc => ?_)
  · replace hV := hV.2 hc
    refine z_aload_n hC dX1_rides_11 rfl rfl ?_
    refine g_X1_87_0 hC dX1_rides_12 ?_
    refine z_iload_n hC dX1_rides_15 rfl rfl ?_
    obtain ⟨h2, hV⟩ := hV
    refine z_iald hC dX1_rides_16 (k_34 _) (h2) ?_
    refine z_iconst (v := (-1)) hC dX1_rides_17 rfl ?_
    refine z_icmp_ne (tgt := 73) hC dX1_rides_18 (by decide) (fun hc => ?_) (fun hc => ?_)
    · replace hV := hV.2 hc
      refine zz_sub (L' := [some (.ref (E.1.heap.size + 0)), some (.int a1)]) ⟨rfl, rfl, trivial⟩ ?_
      exact j_73 σ a1 hV
    · replace hV := hV.1 hc
      refine z_aload_n hC dX1_rides_21 rfl rfl ?_
      refine g_X1_12_0 hC dX1_rides_22 ?_
      obtain ⟨h12, hV⟩ := hV
      refine zz_at rfl (by rw [pvo h12]) ?_
      obtain ⟨⟨n14, h13⟩, hV⟩ := hV
      refine g_X1_214_c1 hC dX1_rides_25 h13 ?_
      obtain ⟨h15, hV⟩ := hV
      refine zz_at rfl (by rw [pvo h15]) ?_
      refine z_iload_n hC dX1_rides_28 rfl rfl ?_
      obtain ⟨⟨n19, h18⟩, hV⟩ := hV
      refine c_X1_144 hC (by decide) dX1_rides_29 (Nat.le_of_ble_eq_true rfl) h18 hV (fun r16 σ17 hV => ?_)
      obtain ⟨h20, hV⟩ := hV
      refine zz_at rfl (by rw [pvo h20]) ?_
      obtain ⟨⟨n22, h21⟩, hV⟩ := hV
      refine z_cast hC cf8 dX1_rides_32 h21 q1476 ?_
      obtain ⟨⟨n24, h23⟩, hV⟩ := hV
      refine g_X1_382_c8 hC dX1_rides_35 h23 ?_
      refine z_aload_n hC dX1_rides_38 rfl rfl ?_
      refine g_X1_370_0 hC dX1_rides_39 ?_
      refine z_icmp_ne (tgt := 73) hC dX1_rides_42 (by decide) (fun hc => ?_) (fun hc => ?_)
      · replace hV := hV.2 hc
        refine zz_sub (L' := [some (.ref (E.1.heap.size + 0)), some (.int a1)]) ⟨rfl, rfl, trivial⟩ ?_
        exact j_73 σ17 a1 hV
      · replace hV := hV.1 hc
        refine z_aload_n hC dX1_rides_45 rfl rfl ?_
        refine g_X1_87_0 hC dX1_rides_46 ?_
        refine z_iload_n hC dX1_rides_49 rfl rfl ?_
        refine z_iconst (v := 0) hC dX1_rides_50 rfl ?_
        obtain ⟨h25, hV⟩ := hV
        refine z_iast hC dX1_rides_51 (k_34 _) (h25) ?_
        obtain ⟨σ26, e_σ26⟩ : ∃ z : ZS, z = sI σ17 34 (ix a1) 0 := ⟨_, rfl⟩
        replace hV := hV _ e_σ26
        rw [← e_σ26]
        refine z_aload_n hC dX1_rides_52 rfl rfl ?_
        refine g_X1_90_0 hC dX1_rides_53 ?_
        refine z_iload_n hC dX1_rides_56 rfl rfl ?_
        refine z_aload_n hC dX1_rides_57 rfl rfl ?_
        refine g_X1_12_0 hC dX1_rides_58 ?_
        obtain ⟨h27, hV⟩ := hV
        refine zz_at rfl (by rw [pvo h27]) ?_
        refine z_aload_n hC dX1_rides_61 rfl rfl ?_
        refine z_iload_n hC dX1_rides_62 rfl rfl ?_
        refine c_X1_385 hC (by decide) dX1_rides_63 (Nat.le_of_ble_eq_true rfl) hV (fun r28 σ29 hV => ?_)
        obtain ⟨⟨n33, h32⟩, hV⟩ := hV
        refine c_X1_278 hC (by decide) dX1_rides_66 (Nat.le_of_ble_eq_true rfl) h32 hV (fun r30 σ31 hV => ?_)
        obtain ⟨h34, hV⟩ := hV
        refine z_iast hC dX1_rides_69 (k_35 _) (h34) ?_
        obtain ⟨σ35, e_σ35⟩ : ∃ z : ZS, z = sI σ31 35 (ix a1) r30 := ⟨_, rfl⟩
        replace hV := hV _ e_σ35
        rw [← e_σ35]
        refine z_goto (tgt := 119) hC dX1_rides_70 (by decide) ?_
        exact z_vret hC dX1_rides_119 (by rw [hQo]; exact ⟨rfl, hV⟩)
  · replace hV := hV.1 hc
    exact z_vret hC dX1_rides_10 (by rw [hQo]; exact ⟨rfl, hV⟩)
theorem p_X1_370_c0 {C : ZC} {E : ZE} {cc : ByteArray} {n nL pc d a x : Nat} {nm : String} {ret : Option FieldType} {hh : List (Nat × Nat × Nat × Nat)} {σ : ZS} {L : List (Option Value)} {st : List Value} {v : Int32} (hC : Cx C E cc nL "RightTurns" nm ret hh d) (hd : decode cc pc = .ok (.putfield 370, 3)) (hk : kK n σ a = (0 + 7, x)) (k : zz C E n nL (sI σ a 30 v) (pc + 3) L st) : zz C E n nL σ pc L (.int v :: .ref (E.1.heap.size + a) :: st) :=
  z_putI hC cf0 hd hk (k := 30) (by decide) (Or.inl q611) (Or.inl rfl) (Or.inl rfl) rfl rfl rfl k
theorem cw_X1_findWays : CodeW yX1_findWays (ws_ yX1_findWays cX1_findWays 5 (some .int)) 5 := ⟨fun w h => (List.mem_cons.mp h).elim (fun e => e ▸ q1475) id, Or.inl ⟨_, _, q1475⟩, q116, by decide, by decide⟩
theorem c_X1_367 {C : ZC} {E : ZE} {cc : ByteArray} {nL pc d : Nat} {nm : String} {ret : Option FieldType} {hh : List (Nat × Nat × Nat × Nat)} {σ : ZS} {L : List (Option Value)} {st : List Value} {Ret : Int32 → ZS → Prop} (hC : Cx C E cc nL "RightTurns" nm ret hh d) (hdd : 11 + 1 ≤ d) (hd : decode cc pc = .ok (.invokevirtual 367, 3)) (hW : (st.map fun v => v.category).sum ≤ 8) (hV : wp_X1_findWays σ Ret) (k : ∀ r σ', Ret r σ' → zz C E NS nL σ' (pc + 3) L (.int r :: st)) : zz C E NS nL σ pc L (.ref (E.1.heap.size + 0) :: st) :=
  z_callVG hC cf0 cw_X1_findWays hdd (by decide) (mz_X1_findWays (cxE hC) hV) hd (k_0 σ) q1472 q1474 qs41 (np := 0) rfl rfl hW rfl (kI k)
theorem cw_X1_rides : CodeW yX1_rides (ws_ yX1_rides cX1_rides 2 none) 2 := ⟨fun w h => (List.mem_cons.mp h).elim (fun e => e ▸ q1480) id, Or.inl ⟨_, _, q1480⟩, q116, by decide, by decide⟩
theorem c_X1_376 {C : ZC} {E : ZE} {cc : ByteArray} {nL pc d : Nat} {nm : String} {ret : Option FieldType} {hh : List (Nat × Nat × Nat × Nat)} {σ : ZS} {L : List (Option Value)} {st : List Value} {a1 : Int32} {Ret : ZS → Prop} (hC : Cx C E cc nL "RightTurns" nm ret hh d) (hdd : 6 + 1 ≤ d) (hd : decode cc pc = .ok (.invokevirtual 376, 3)) (hW : (st.map fun v => v.category).sum ≤ 8) (hV : wp_X1_rides σ a1 Ret) (k : ∀ σ', Ret σ' → zz C E NS nL σ' (pc + 3) L st) : zz C E NS nL σ pc L (.int a1 :: .ref (E.1.heap.size + 0) :: st) :=
  z_callVG hC cf0 cw_X1_rides hdd (by decide) (mz_X1_rides (cxE hC) hV) hd (k_0 σ) q1477 q1479 qs42 (np := 1) rfl rfl hW rfl (kV k)
theorem cw_X1_passes : CodeW yX1_passes (ws_ yX1_passes cX1_passes 4 none) 4 := ⟨fun w h => (List.mem_cons.mp h).elim (fun e => e ▸ q1492) id, Or.inl ⟨_, _, q1492⟩, q116, by decide, by decide⟩
theorem c_X1_379 {C : ZC} {E : ZE} {cc : ByteArray} {nL pc d : Nat} {nm : String} {ret : Option FieldType} {hh : List (Nat × Nat × Nat × Nat)} {σ : ZS} {L : List (Option Value)} {st : List Value} {a1 : Int32} {Ret : ZS → Prop} (hC : Cx C E cc nL "RightTurns" nm ret hh d) (hdd : 6 + 1 ≤ d) (hd : decode cc pc = .ok (.invokevirtual 379, 3)) (hW : (st.map fun v => v.category).sum ≤ 8) (hV : wp_X1_passes σ a1 Ret) (k : ∀ σ', Ret σ' → zz C E NS nL σ' (pc + 3) L st) : zz C E NS nL σ pc L (.int a1 :: .ref (E.1.heap.size + 0) :: st) :=
  z_callVG hC cf0 cw_X1_passes hdd (by decide) (mz_X1_passes (cxE hC) hV) hd (k_0 σ) q1489 q1491 qs45 (np := 1) rfl rfl hW rfl (kV k)
def VL_X1_goes_62 (K15 : ZS → Int32 → Prop) (Ret : ZS → Prop) : Nat → ZS → Int32 → Int32 → Prop
  | 0 => fun _ _ _ => False
  | k + 1 => fun σ x1 x2 =>
    let K62 := VL_X1_goes_62 K15 Ret k
    wp_X1_corners σ (fun r13 σ14 => ((x2 < r13 → (wp_X1_passes σ14 x2 (fun σ17 => ∀ y18 : Int32, y18 = x2 + 1 → (K62 σ17 x1 y18)))) ∧ (¬ x2 < r13 → (∀ σ15 : ZS, σ15 = sI σ14 0 30 ((zI σ14 0 30) + 1) → (K15 σ15 x1)))))
def V_X1_goes_62 (K15 : ZS → Int32 → Prop) (Ret : ZS → Prop) (σ : ZS) (x1 : Int32) (x2 : Int32) : Prop := ∃ k, VL_X1_goes_62 K15 Ret k σ x1 x2
def VL_X1_goes_35 (K15 : ZS → Int32 → Prop) (Ret : ZS → Prop) : Nat → ZS → Int32 → Int32 → Prop
  | 0 => fun _ _ _ => False
  | k + 1 => fun σ x1 x2 =>
    let K35 := VL_X1_goes_35 K15 Ret k
    (zP σ 0 0) = some (.inl (zo (zP σ 0 0))) ∧ ((∃ n7, kK NS σ (zo (zP σ 0 0)) = (8, n7)) ∧ ((kP NS σ (zo (zP σ 0 0)) 2) = some (.inl (zo (kP NS σ (zo (zP σ 0 0)) 2))) ∧ ((∃ n12, kK NS σ (zo (kP NS σ (zo (zP σ 0 0)) 2)) = (16, n12)) ∧ (wp_J2_size σ (zo (kP NS σ (zo (zP σ 0 0)) 2)) (fun r9 σ10 => ((x2 < r9 → (wp_X1_rides σ10 x2 (fun σ20 => ∀ y21 : Int32, y21 = x2 + 1 → (K35 σ20 x1 y21)))) ∧ (¬ x2 < r9 → (V_X1_goes_62 K15 Ret σ10 x1 0))))))))
def V_X1_goes_35 (K15 : ZS → Int32 → Prop) (Ret : ZS → Prop) (σ : ZS) (x1 : Int32) (x2 : Int32) : Prop := ∃ k, VL_X1_goes_35 K15 Ret k σ x1 x2
def VL_X1_goes_15 (Ret : ZS → Prop) : Nat → ZS → Int32 → Prop
  | 0 => fun _ _ => False
  | k + 1 => fun σ x1 =>
    let K15 := VL_X1_goes_15 Ret k
    (((zI σ 0 31) < x1 → ((((zI σ 0 30) < 999 → (V_X1_goes_35 K15 Ret σ x1 0)) ∧ (¬ (zI σ 0 30) < 999 → (Ret σ))))) ∧ (¬ (zI σ 0 31) < x1 → (Ret σ)))
def V_X1_goes_15 (Ret : ZS → Prop) (σ : ZS) (x1 : Int32) : Prop := ∃ k, VL_X1_goes_15 Ret k σ x1
def wp_X1_goes (σ : ZS) (Ret : ZS → Prop) : Prop :=
    wp_X1_findWays σ (fun r1 σ2 => ∀ σ3 : ZS, σ3 = sI σ2 0 30 0 → (∀ σ4 : ZS, σ4 = sI σ3 0 31 0 → (V_X1_goes_15 Ret σ4 r1)))
set_option maxHeartbeats 4000000 in
theorem mz_X1_goes {l : Launch} {E : ZE} (hE : EOK E) {σ : ZS} {Ret : ZS → Prop} (hV : wp_X1_goes σ Ret) : MZ l E NS yX1_goes (ws_ yX1_goes cX1_goes 3 none) 12 σ [.ref (E.1.heap.size + 0)] (rV Ret) := by
  refine MZ.start (L := [some (.ref (E.1.heap.size + 0)), none, none]) hE (by decide) (Nat.le_of_ble_eq_true rfl) rfl fun C hCl hQo hC => ?_
  replace hC : Cx C E cX1_goes 3 "RightTurns" "goes" none [] 12 := hC
  unfold wp_X1_goes at hV
  have j_15 : ∀ (σ : ZS) (x1 : Int32), V_X1_goes_15 Ret σ x1 → zz C E NS 3 σ 15 [some (.ref (E.1.heap.size + 0)), some (.int x1), none] [] := by
    intro σ x1 ⟨k, hV⟩
    revert σ x1
    induction k with
    | zero => exact fun _ _ hV => hV.elim
    | succ k j_15 =>
      intro σ x1 hV
      simp only [VL_X1_goes_15] at hV
      generalize hKe15 : VL_X1_goes_15 Ret k = K15 at hV j_15
      clear hKe15
      have j_62 : ∀ (σ : ZS) (x1 : Int32) (x2 : Int32), V_X1_goes_62 K15 Ret σ x1 x2 → zz C E NS 3 σ 62 [some (.ref (E.1.heap.size + 0)), some (.int x1), some (.int x2)] [] := by
        intro σ x1 x2 ⟨k, hV⟩
        revert σ x1 x2
        induction k with
        | zero => exact fun _ _ _ hV => hV.elim
        | succ k j_62 =>
          intro σ x1 x2 hV
          simp only [VL_X1_goes_62] at hV
          generalize hKe62 : VL_X1_goes_62 K15 Ret k = K62 at hV j_62
          clear hKe62
          refine z_iload_n hC dX1_goes_62 rfl rfl ?_
          refine z_aload_n hC dX1_goes_63 rfl rfl ?_
          refine c_X1_133 hC (by decide) dX1_goes_64 (Nat.le_of_ble_eq_true rfl) hV (fun r13 σ14 hV => ?_)
          refine z_icmp_ge (tgt := 81) hC dX1_goes_67 (by decide) (fun hc => ?_) (fun hc => ?_)
          · replace hV := hV.2 hc
            refine z_aload_n hC dX1_goes_81 rfl rfl ?_
            refine z_dup hC dX1_goes_82 rfl ?_
            refine g_X1_370_0 hC dX1_goes_83 ?_
            refine z_iconst (v := 1) hC dX1_goes_86 rfl ?_
            refine z_iadd hC dX1_goes_87 ?_
            refine p_X1_370_c0 hC dX1_goes_88 (k_0 _) ?_
            obtain ⟨σ15, e_σ15⟩ : ∃ z : ZS, z = sI σ14 0 30 ((zI σ14 0 30) + 1) := ⟨_, rfl⟩
            replace hV := hV _ e_σ15
            rw [← e_σ15]
            refine z_goto (tgt := 15) hC dX1_goes_91 (by decide) ?_
            refine zz_sub (L' := [some (.ref (E.1.heap.size + 0)), some (.int x1), none]) ⟨rfl, rfl, trivial⟩ ?_
            exact j_15 σ15 x1 hV
          · replace hV := hV.1 hc
            refine z_aload_n hC dX1_goes_70 rfl rfl ?_
            refine z_iload_n hC dX1_goes_71 rfl rfl ?_
            refine c_X1_379 hC (by decide) dX1_goes_72 (Nat.le_of_ble_eq_true rfl) hV (fun σ17 hV => ?_)
            obtain ⟨y18, e_y18⟩ : ∃ z : Int32, z = x2 + 1 := ⟨_, rfl⟩
            replace hV := hV _ e_y18
            refine z_iinc (v := y18) hC dX1_goes_75 rfl (by rw [e_y18]; rfl) (Nat.le_of_ble_eq_true rfl) rfl rfl ?_
            refine z_goto (tgt := 62) hC dX1_goes_78 (by decide) ?_
            refine zz_sub (L' := [some (.ref (E.1.heap.size + 0)), some (.int x1), some (.int y18)]) ⟨rfl, rfl, rfl, trivial⟩ ?_
            exact j_62 σ17 x1 y18 hV
      have j_35 : ∀ (σ : ZS) (x1 : Int32) (x2 : Int32), V_X1_goes_35 K15 Ret σ x1 x2 → zz C E NS 3 σ 35 [some (.ref (E.1.heap.size + 0)), some (.int x1), some (.int x2)] [] := by
        intro σ x1 x2 ⟨k, hV⟩
        revert σ x1 x2
        induction k with
        | zero => exact fun _ _ _ hV => hV.elim
        | succ k j_35 =>
          intro σ x1 x2 hV
          simp only [VL_X1_goes_35] at hV
          generalize hKe35 : VL_X1_goes_35 K15 Ret k = K35 at hV j_35
          clear hKe35
          refine z_iload_n hC dX1_goes_35 rfl rfl ?_
          refine z_aload_n hC dX1_goes_36 rfl rfl ?_
          refine g_X1_12_0 hC dX1_goes_37 ?_
          obtain ⟨h5, hV⟩ := hV
          refine zz_at rfl (by rw [pvo h5]) ?_
          obtain ⟨⟨n7, h6⟩, hV⟩ := hV
          refine g_X1_214_c1 hC dX1_goes_40 h6 ?_
          obtain ⟨h8, hV⟩ := hV
          refine zz_at rfl (by rw [pvo h8]) ?_
          obtain ⟨⟨n12, h11⟩, hV⟩ := hV
          refine c_X1_127 hC (by decide) dX1_goes_43 (Nat.le_of_ble_eq_true rfl) h11 hV (fun r9 σ10 hV => ?_)
          refine z_icmp_ge (tgt := 60) hC dX1_goes_46 (by decide) (fun hc => ?_) (fun hc => ?_)
          · replace hV := hV.2 hc
            refine z_iconst (v := 0) hC dX1_goes_60 rfl ?_
            refine z_istore_n hC dX1_goes_61 rfl (Nat.le_of_ble_eq_true rfl) rfl rfl ?_
            refine zz_sub (L' := [some (.ref (E.1.heap.size + 0)), some (.int x1), some (.int 0)]) ⟨rfl, rfl, rfl, trivial⟩ ?_
            exact j_62 σ10 x1 0 hV
          · replace hV := hV.1 hc
            refine z_aload_n hC dX1_goes_49 rfl rfl ?_
            refine z_iload_n hC dX1_goes_50 rfl rfl ?_
            refine c_X1_376 hC (by decide) dX1_goes_51 (Nat.le_of_ble_eq_true rfl) hV (fun σ20 hV => ?_)
            obtain ⟨y21, e_y21⟩ : ∃ z : Int32, z = x2 + 1 := ⟨_, rfl⟩
            replace hV := hV _ e_y21
            refine z_iinc (v := y21) hC dX1_goes_54 rfl (by rw [e_y21]; rfl) (Nat.le_of_ble_eq_true rfl) rfl rfl ?_
            refine z_goto (tgt := 35) hC dX1_goes_57 (by decide) ?_
            refine zz_sub (L' := [some (.ref (E.1.heap.size + 0)), some (.int x1), some (.int y21)]) ⟨rfl, rfl, rfl, trivial⟩ ?_
            exact j_35 σ20 x1 y21 hV
      refine z_aload_n hC dX1_goes_15 rfl rfl ?_
      refine g_X1_373_0 hC dX1_goes_16 ?_
      refine z_iload_n hC dX1_goes_19 rfl rfl ?_
      refine z_icmp_ge (tgt := 94) hC dX1_goes_20 (by decide) (fun hc => ?_) (fun hc => ?_)
      · replace hV := hV.2 hc
        exact z_vret hC dX1_goes_94 (by rw [hQo]; exact ⟨rfl, hV⟩)
      · replace hV := hV.1 hc
        refine z_aload_n hC dX1_goes_23 rfl rfl ?_
        refine g_X1_370_0 hC dX1_goes_24 ?_
        refine z_sipush (v := 999) hC dX1_goes_27 rfl ?_
        refine z_icmp_ge (tgt := 94) hC dX1_goes_30 (by decide) (fun hc => ?_) (fun hc => ?_)
        · replace hV := hV.2 hc
          exact z_vret hC dX1_goes_94 (by rw [hQo]; exact ⟨rfl, hV⟩)
        · replace hV := hV.1 hc
          refine z_iconst (v := 0) hC dX1_goes_33 rfl ?_
          refine z_istore_n hC dX1_goes_34 rfl (Nat.le_of_ble_eq_true rfl) rfl rfl ?_
          refine zz_sub (L' := [some (.ref (E.1.heap.size + 0)), some (.int x1), some (.int 0)]) ⟨rfl, rfl, rfl, trivial⟩ ?_
          exact j_35 σ x1 0 hV
  refine z_aload_n hC dX1_goes_0 rfl rfl ?_
  refine c_X1_367 hC (by decide) dX1_goes_1 (Nat.le_of_ble_eq_true rfl) hV (fun r1 σ2 hV => ?_)
  refine z_istore_n hC dX1_goes_4 rfl (Nat.le_of_ble_eq_true rfl) rfl rfl ?_
  refine z_aload_n hC dX1_goes_5 rfl rfl ?_
  refine z_iconst (v := 0) hC dX1_goes_6 rfl ?_
  refine p_X1_370_c0 hC dX1_goes_7 (k_0 _) ?_
  obtain ⟨σ3, e_σ3⟩ : ∃ z : ZS, z = sI σ2 0 30 0 := ⟨_, rfl⟩
  replace hV := hV _ e_σ3
  rw [← e_σ3]
  refine z_aload_n hC dX1_goes_10 rfl rfl ?_
  refine z_iconst (v := 0) hC dX1_goes_11 rfl ?_
  refine p_X1_373_c0 hC dX1_goes_12 (k_0 _) ?_
  obtain ⟨σ4, e_σ4⟩ : ∃ z : ZS, z = sI σ3 0 31 0 := ⟨_, rfl⟩
  replace hV := hV _ e_σ4
  rw [← e_σ4]
  refine zz_sub (L' := [some (.ref (E.1.heap.size + 0)), some (.int r1), none]) ⟨rfl, rfl, trivial⟩ ?_
  exact j_15 σ4 r1 hV
def wp_X1_with (σ : ZS) (a1 : Int32) (a2 : Int32) (Ret : Int32 → ZS → Prop) : Prop :=
    (zP σ 0 0) = some (.inl (zo (zP σ 0 0))) ∧ ((∃ n5, kK NS σ (zo (zP σ 0 0)) = (8, n5)) ∧ (wp_X2_end σ (zo (zP σ 0 0)) a2 (fun r2 σ3 => vp_in r2 16 ∧ (∀ y7 : Int32, y7 = zI σ3 28 (ix r2) → (((y7 = (-1) → (Ret a1 σ3)) ∧ (¬ y7 = (-1) → (Ret (a1 ||| ((1 : Int32) <<< (y7 &&& 31))) σ3))))))))
set_option maxHeartbeats 4000000 in
theorem mz_X1_with {l : Launch} {E : ZE} (hE : EOK E) {σ : ZS} {a1 : Int32} {a2 : Int32} {Ret : Int32 → ZS → Prop} (hV : wp_X1_with σ a1 a2 Ret) : MZ l E NS yX1_with (ws_ yX1_with cX1_with 4 (some .int)) 6 σ [.ref (E.1.heap.size + 0), .int a1, .int a2] (rI Ret) := by
  refine MZ.start (L := [some (.ref (E.1.heap.size + 0)), some (.int a1), some (.int a2), none]) hE (by decide) (Nat.le_of_ble_eq_true rfl) rfl fun C hCl hQo hC => ?_
  replace hC : Cx C E cX1_with 4 "RightTurns" "with" (some .int) [] 6 := hC
  unfold wp_X1_with at hV
  refine z_aload_n hC dX1_with_0 rfl rfl ?_
  refine g_X1_69_0 hC dX1_with_1 ?_
  refine z_aload_n hC dX1_with_4 rfl rfl ?_
  refine g_X1_12_0 hC dX1_with_5 ?_
  obtain ⟨h1, hV⟩ := hV
  refine zz_at rfl (by rw [pvo h1]) ?_
  refine z_iload_n hC dX1_with_8 rfl rfl ?_
  obtain ⟨⟨n5, h4⟩, hV⟩ := hV
  refine c_X1_274 hC (by decide) dX1_with_9 (Nat.le_of_ble_eq_true rfl) h4 hV (fun r2 σ3 hV => ?_)
  obtain ⟨h6, hV⟩ := hV
  refine z_iald hC dX1_with_12 (k_28 _) (h6) ?_
  obtain ⟨y7, e_y7⟩ : ∃ z, z = zI σ3 28 (ix r2) := ⟨_, rfl⟩
  rw [← e_y7]
  replace hV := hV _ e_y7
  refine z_istore_n hC dX1_with_13 rfl (Nat.le_of_ble_eq_true rfl) rfl rfl ?_
  refine z_iload_n hC dX1_with_14 rfl rfl ?_
  refine z_iconst (v := (-1)) hC dX1_with_15 rfl ?_
  refine z_icmp_ne (tgt := 23) hC dX1_with_16 (by decide) (fun hc => ?_) (fun hc => ?_)
  · replace hV := hV.2 hc
    refine z_iload_n hC dX1_with_23 rfl rfl ?_
    refine z_iconst (v := 1) hC dX1_with_24 rfl ?_
    refine z_iload_n hC dX1_with_25 rfl rfl ?_
    refine z_ishl hC dX1_with_26 ?_
    refine z_ior hC dX1_with_27 ?_
    exact z_iret hC dX1_with_28 rfl (by rw [hQo]; exact ⟨_, rfl, hV⟩)
  · replace hV := hV.1 hc
    refine z_iload_n hC dX1_with_19 rfl rfl ?_
    refine z_goto (tgt := 28) hC dX1_with_20 (by decide) ?_
    exact z_iret hC dX1_with_28 rfl (by rw [hQo]; exact ⟨_, rfl, hV⟩)
