set_option maxRecDepth 100000
theorem cw_X1_feed : CodeW yX1_feed (ws_ yX1_feed cX1_feed 6 (some .int)) 6 := ⟨fun w h => (List.mem_cons.mp h).elim (fun e => e ▸ q707) id, Or.inl ⟨_, _, q707⟩, q116, by decide, by decide⟩
theorem c_X0_124 {C : ZC} {E : ZE} {cc : ByteArray} {nL pc d : Nat} {nm : String} {ret : Option FieldType} {hh : List (Nat × Nat × Nat × Nat)} {σ : ZS} {L : List (Option Value)} {st : List Value} {a1 : Int32} {a2 : Int32} {a3 : Int32} {a4 : Int32} {a5 : Int32} {Ret : Int32 → ZS → Prop} (hC : Cx C E cc nL "RightTurnsLaw" nm ret hh d) (hdd : 2 + 1 ≤ d) (hd : decode cc pc = .ok (.invokevirtual 124, 3)) (hW : (st.map fun v => v.category).sum ≤ 8) (hV : wp_X1_feed σ a1 a2 a3 a4 a5 Ret) (k : ∀ r σ', Ret r σ' → zz C E NS nL σ' (pc + 3) L (.int r :: st)) : zz C E NS nL σ pc L (.int a5 :: .int a4 :: .int a3 :: .int a2 :: .int a1 :: .ref (E.1.heap.size + 0) :: st) :=
  z_callVG hC cf0 cw_X1_feed hdd (by decide) (mz_X1_feed (cxE hC) hV) hd (k_0 σ) q704 q705 q706 (np := 5) rfl rfl hW rfl (kI k)
theorem cw_X4_feed : CodeW yX4_feed (ws_ yX4_feed cX4_feed 8 (some .int)) 8 := ⟨fun w h => (List.mem_cons.mp h).elim (fun e => e ▸ q1773) id, Or.inl ⟨_, _, q1773⟩, q138, by decide, by decide⟩
theorem c_X0_128 {C : ZC} {E : ZE} {cc : ByteArray} {nL pc d : Nat} {nm : String} {ret : Option FieldType} {hh : List (Nat × Nat × Nat × Nat)} {σ : ZS} {L : List (Option Value)} {st : List Value} {a1 : Int32} {a2 : Int32} {a3 : Int32} {a4 : Int32} {a5 : Int32} {Ret : Int32 → ZS → Prop} (hC : Cx C E cc nL "RightTurnsLaw" nm ret hh d) (hdd : 1 + 1 ≤ d) (hd : decode cc pc = .ok (.invokevirtual 128, 3)) (hW : (st.map fun v => v.category).sum ≤ 8) (hV : wp_X4_feed σ a1 a2 a3 a4 a5 Ret) (k : ∀ r σ', Ret r σ' → zz C E NS nL σ' (pc + 3) L (.int r :: st)) : zz C E NS nL σ pc L (.int a5 :: .int a4 :: .int a3 :: .int a2 :: .int a1 :: .ref (E.1.heap.size + 44) :: st) :=
  z_callVG hC cf3 cw_X4_feed hdd (by decide) (mz_X4_feed (cxE hC) hV) hd (k_44 σ) q1770 q1771 q1772 (np := 5) rfl rfl hW rfl (kI k)
theorem cw_X0_town : CodeW yX0_town (wsW_ yX0_town cX0_town 4 (some .int) [(0, 9, 12, 13)]) 4 := ⟨fun w h => (List.mem_cons.mp h).elim (fun e => e ▸ q743) id, Or.inr ⟨_, _, _, q743⟩, q115, by decide, by decide⟩
theorem c_X0_129 {C : ZC} {E : ZE} {cc : ByteArray} {nL pc d : Nat} {nm : String} {ret : Option FieldType} {hh : List (Nat × Nat × Nat × Nat)} {σ : ZS} {L : List (Option Value)} {st : List Value} {a1 : Int32} {Ret : Int32 → ZS → Prop} (hC : Cx C E cc nL "RightTurnsLaw" nm ret hh d) (hdd : 12 + 1 ≤ d) (hd : decode cc pc = .ok (.invokestatic 129, 3)) (hW : (st.map fun v => v.category).sum ≤ 8) (hV : wp_X0_town σ a1 Ret) (k : ∀ r σ', Ret r σ' → zz C E NS nL σ' (pc + 3) L (.int r :: st)) : zz C E NS nL σ pc L (.ref (E.1.heap.size + 1238) :: .int a1 :: .ref (E.1.heap.size + 0) :: st) :=
  z_callSG hC cw_X0_town hdd (by decide) (mz_X0_town (cxE hC) hV) hd q741 q742 (np := 3) rfl rfl hW rfl (kI k)
theorem cw_X4_town : CodeW yX4_town (ws_ yX4_town cX4_town 3 (some .int)) 3 := ⟨fun w h => (List.mem_cons.mp h).elim (fun e => e ▸ q1777) id, Or.inl ⟨_, _, q1777⟩, q138, by decide, by decide⟩
theorem c_X0_134 {C : ZC} {E : ZE} {cc : ByteArray} {nL pc d : Nat} {nm : String} {ret : Option FieldType} {hh : List (Nat × Nat × Nat × Nat)} {σ : ZS} {L : List (Option Value)} {st : List Value} {a1 : Int32} {Ret : Int32 → ZS → Prop} (hC : Cx C E cc nL "RightTurnsLaw" nm ret hh d) (hdd : 7 + 1 ≤ d) (hd : decode cc pc = .ok (.invokevirtual 134, 3)) (hW : (st.map fun v => v.category).sum ≤ 8) (hV : wp_X4_town σ a1 Ret) (k : ∀ r σ', Ret r σ' → zz C E NS nL σ' (pc + 3) L (.int r :: st)) : zz C E NS nL σ pc L (.int a1 :: .ref (E.1.heap.size + 44) :: st) :=
  z_callVG hC cf3 cw_X4_town hdd (by decide) (mz_X4_town (cxE hC) hV) hd (k_44 σ) q1774 q1775 q1776 (np := 1) rfl rfl hW rfl (kI k)
theorem cw_X4_thrown : CodeW yX4_thrown (ws_ yX4_thrown cX4_thrown 1 (some .int)) 1 := ⟨fun w h => (List.mem_cons.mp h).elim (fun e => e ▸ q1769) id, Or.inl ⟨_, _, q1769⟩, q138, by decide, by decide⟩
theorem c_X0_135 {C : ZC} {E : ZE} {cc : ByteArray} {nL pc d : Nat} {nm : String} {ret : Option FieldType} {hh : List (Nat × Nat × Nat × Nat)} {σ : ZS} {L : List (Option Value)} {st : List Value} {Ret : Int32 → ZS → Prop} (hC : Cx C E cc nL "RightTurnsLaw" nm ret hh d) (hdd : 1 + 1 ≤ d) (hd : decode cc pc = .ok (.invokevirtual 135, 3)) (hW : (st.map fun v => v.category).sum ≤ 8) (hV : wp_X4_thrown σ Ret) (k : ∀ r σ', Ret r σ' → zz C E NS nL σ' (pc + 3) L (.int r :: st)) : zz C E NS nL σ pc L (.ref (E.1.heap.size + 44) :: st) :=
  z_callVG hC cf3 cw_X4_thrown hdd (by decide) (mz_X4_thrown (cxE hC) hV) hd (k_44 σ) q1766 q1767 q1768 (np := 0) rfl rfl hW rfl (kI k)
theorem cw_X1_fault : CodeW yX1_fault (ws_ yX1_fault cX1_fault 1 (some .int)) 1 := ⟨fun w h => (List.mem_cons.mp h).elim (fun e => e ▸ q715) id, Or.inl ⟨_, _, q715⟩, q116, by decide, by decide⟩
theorem c_X0_139 {C : ZC} {E : ZE} {cc : ByteArray} {nL pc d : Nat} {nm : String} {ret : Option FieldType} {hh : List (Nat × Nat × Nat × Nat)} {σ : ZS} {L : List (Option Value)} {st : List Value} {Ret : Int32 → ZS → Prop} (hC : Cx C E cc nL "RightTurnsLaw" nm ret hh d) (hdd : 1 + 1 ≤ d) (hd : decode cc pc = .ok (.invokevirtual 139, 3)) (hW : (st.map fun v => v.category).sum ≤ 8) (hV : wp_X1_fault σ Ret) (k : ∀ r σ', Ret r σ' → zz C E NS nL σ' (pc + 3) L (.int r :: st)) : zz C E NS nL σ pc L (.ref (E.1.heap.size + 0) :: st) :=
  z_callVG hC cf0 cw_X1_fault hdd (by decide) (mz_X1_fault (cxE hC) hV) hd (k_0 σ) q712 q713 q714 (np := 0) rfl rfl hW rfl (kI k)
theorem cw_X4_fault : CodeW yX4_fault (ws_ yX4_fault cX4_fault 1 (some .int)) 1 := ⟨fun w h => (List.mem_cons.mp h).elim (fun e => e ▸ q1896) id, Or.inl ⟨_, _, q1896⟩, q138, by decide, by decide⟩
theorem c_X0_142 {C : ZC} {E : ZE} {cc : ByteArray} {nL pc d : Nat} {nm : String} {ret : Option FieldType} {hh : List (Nat × Nat × Nat × Nat)} {σ : ZS} {L : List (Option Value)} {st : List Value} {Ret : Int32 → ZS → Prop} (hC : Cx C E cc nL "RightTurnsLaw" nm ret hh d) (hdd : 1 + 1 ≤ d) (hd : decode cc pc = .ok (.invokevirtual 142, 3)) (hW : (st.map fun v => v.category).sum ≤ 8) (hV : wp_X4_fault σ Ret) (k : ∀ r σ', Ret r σ' → zz C E NS nL σ' (pc + 3) L (.int r :: st)) : zz C E NS nL σ pc L (.ref (E.1.heap.size + 44) :: st) :=
  z_callVG hC cf3 cw_X4_fault hdd (by decide) (mz_X4_fault (cxE hC) hV) hd (k_44 σ) q1893 q1894 q1895 (np := 0) rfl rfl hW rfl (kI k)
theorem cw_X0_told : CodeW yX0_told (wsW_ yX0_told cX0_told 4 (some .int) [(0, 9, 12, 13)]) 4 := ⟨fun w h => (List.mem_cons.mp h).elim (fun e => e ▸ q1138) id, Or.inr ⟨_, _, _, q1138⟩, q115, by decide, by decide⟩
theorem c_X0_143 {C : ZC} {E : ZE} {cc : ByteArray} {nL pc d : Nat} {nm : String} {ret : Option FieldType} {hh : List (Nat × Nat × Nat × Nat)} {σ : ZS} {L : List (Option Value)} {st : List Value} {a1 : Int32} {Ret : Int32 → ZS → Prop} (hC : Cx C E cc nL "RightTurnsLaw" nm ret hh d) (hdd : 8 + 1 ≤ d) (hd : decode cc pc = .ok (.invokestatic 143, 3)) (hW : (st.map fun v => v.category).sum ≤ 8) (hV : wp_X0_told σ a1 Ret) (k : ∀ r σ', Ret r σ' → zz C E NS nL σ' (pc + 3) L (.int r :: st)) : zz C E NS nL σ pc L (.ref (E.1.heap.size + 1238) :: .int a1 :: .ref (E.1.heap.size + 0) :: st) :=
  z_callSG hC cw_X0_told hdd (by decide) (mz_X0_told (cxE hC) hV) hd q1136 q1137 (np := 3) rfl rfl hW rfl (kI k)
theorem cw_X4_told : CodeW yX4_told (ws_ yX4_told cX4_told 2 (some .int)) 2 := ⟨fun w h => (List.mem_cons.mp h).elim (fun e => e ▸ q1900) id, Or.inl ⟨_, _, q1900⟩, q138, by decide, by decide⟩
theorem c_X0_145 {C : ZC} {E : ZE} {cc : ByteArray} {nL pc d : Nat} {nm : String} {ret : Option FieldType} {hh : List (Nat × Nat × Nat × Nat)} {σ : ZS} {L : List (Option Value)} {st : List Value} {a1 : Int32} {Ret : Int32 → ZS → Prop} (hC : Cx C E cc nL "RightTurnsLaw" nm ret hh d) (hdd : 2 + 1 ≤ d) (hd : decode cc pc = .ok (.invokevirtual 145, 3)) (hW : (st.map fun v => v.category).sum ≤ 8) (hV : wp_X4_told σ a1 Ret) (k : ∀ r σ', Ret r σ' → zz C E NS nL σ' (pc + 3) L (.int r :: st)) : zz C E NS nL σ pc L (.int a1 :: .ref (E.1.heap.size + 44) :: st) :=
  z_callVG hC cf3 cw_X4_told hdd (by decide) (mz_X4_told (cxE hC) hV) hd (k_44 σ) q1897 q1898 q1899 (np := 1) rfl rfl hW rfl (kI k)
theorem cw_X0_street : CodeW yX0_street (wsW_ yX0_street cX0_street 5 (some .int) [(0, 10, 13, 22), (0, 10, 17, 13)]) 5 := ⟨fun w h => (List.mem_cons.mp h).elim (fun e => e ▸ q1146) id, Or.inr ⟨_, _, _, q1146⟩, q115, by decide, by decide⟩
theorem c_X0_146 {C : ZC} {E : ZE} {cc : ByteArray} {nL pc d : Nat} {nm : String} {ret : Option FieldType} {hh : List (Nat × Nat × Nat × Nat)} {σ : ZS} {L : List (Option Value)} {st : List Value} {a1 : Int32} {a2 : Int32} {Ret : Int32 → ZS → Prop} (hC : Cx C E cc nL "RightTurnsLaw" nm ret hh d) (hdd : 8 + 1 ≤ d) (hd : decode cc pc = .ok (.invokestatic 146, 3)) (hW : (st.map fun v => v.category).sum ≤ 8) (hV : wp_X0_street σ a1 a2 Ret) (k : ∀ r σ', Ret r σ' → zz C E NS nL σ' (pc + 3) L (.int r :: st)) : zz C E NS nL σ pc L (.ref (E.1.heap.size + 1238) :: .int a2 :: .int a1 :: .ref (E.1.heap.size + 0) :: st) :=
  z_callSG hC cw_X0_street hdd (by decide) (mz_X0_street (cxE hC) hV) hd q1144 q1145 (np := 4) rfl rfl hW rfl (kI k)
theorem cw_X4_street : CodeW yX4_street (ws_ yX4_street cX4_street 3 (some .int)) 3 := ⟨fun w h => (List.mem_cons.mp h).elim (fun e => e ▸ q1904) id, Or.inl ⟨_, _, q1904⟩, q138, by decide, by decide⟩
theorem c_X0_149 {C : ZC} {E : ZE} {cc : ByteArray} {nL pc d : Nat} {nm : String} {ret : Option FieldType} {hh : List (Nat × Nat × Nat × Nat)} {σ : ZS} {L : List (Option Value)} {st : List Value} {a1 : Int32} {a2 : Int32} {Ret : Int32 → ZS → Prop} (hC : Cx C E cc nL "RightTurnsLaw" nm ret hh d) (hdd : 3 + 1 ≤ d) (hd : decode cc pc = .ok (.invokevirtual 149, 3)) (hW : (st.map fun v => v.category).sum ≤ 8) (hV : wp_X4_street σ a1 a2 Ret) (k : ∀ r σ', Ret r σ' → zz C E NS nL σ' (pc + 3) L (.int r :: st)) : zz C E NS nL σ pc L (.int a2 :: .int a1 :: .ref (E.1.heap.size + 44) :: st) :=
  z_callVG hC cf3 cw_X4_street hdd (by decide) (mz_X4_street (cxE hC) hV) hd (k_44 σ) q1901 q1902 q1903 (np := 2) rfl rfl hW rfl (kI k)
theorem cw_X0_turn : CodeW yX0_turn (wsW_ yX0_turn cX0_turn 5 (some .int) [(0, 10, 13, 22)]) 5 := ⟨fun w h => (List.mem_cons.mp h).elim (fun e => e ▸ q1175) id, Or.inr ⟨_, _, _, q1175⟩, q115, by decide, by decide⟩
theorem c_X0_150 {C : ZC} {E : ZE} {cc : ByteArray} {nL pc d : Nat} {nm : String} {ret : Option FieldType} {hh : List (Nat × Nat × Nat × Nat)} {σ : ZS} {L : List (Option Value)} {st : List Value} {a1 : Int32} {a2 : Int32} {Ret : Int32 → ZS → Prop} (hC : Cx C E cc nL "RightTurnsLaw" nm ret hh d) (hdd : 8 + 1 ≤ d) (hd : decode cc pc = .ok (.invokestatic 150, 3)) (hW : (st.map fun v => v.category).sum ≤ 8) (hV : wp_X0_turn σ a1 a2 Ret) (k : ∀ r σ', Ret r σ' → zz C E NS nL σ' (pc + 3) L (.int r :: st)) : zz C E NS nL σ pc L (.ref (E.1.heap.size + 1238) :: .int a2 :: .int a1 :: .ref (E.1.heap.size + 0) :: st) :=
  z_callSG hC cw_X0_turn hdd (by decide) (mz_X0_turn (cxE hC) hV) hd q1173 q1174 (np := 4) rfl rfl hW rfl (kI k)
theorem cw_X4_turn : CodeW yX4_turn (ws_ yX4_turn cX4_turn 3 (some .int)) 3 := ⟨fun w h => (List.mem_cons.mp h).elim (fun e => e ▸ q1912) id, Or.inl ⟨_, _, q1912⟩, q138, by decide, by decide⟩
theorem c_X0_152 {C : ZC} {E : ZE} {cc : ByteArray} {nL pc d : Nat} {nm : String} {ret : Option FieldType} {hh : List (Nat × Nat × Nat × Nat)} {σ : ZS} {L : List (Option Value)} {st : List Value} {a1 : Int32} {a2 : Int32} {Ret : Int32 → ZS → Prop} (hC : Cx C E cc nL "RightTurnsLaw" nm ret hh d) (hdd : 4 + 1 ≤ d) (hd : decode cc pc = .ok (.invokevirtual 152, 3)) (hW : (st.map fun v => v.category).sum ≤ 8) (hV : wp_X4_turn σ a1 a2 Ret) (k : ∀ r σ', Ret r σ' → zz C E NS nL σ' (pc + 3) L (.int r :: st)) : zz C E NS nL σ pc L (.int a2 :: .int a1 :: .ref (E.1.heap.size + 44) :: st) :=
  z_callVG hC cf3 cw_X4_turn hdd (by decide) (mz_X4_turn (cxE hC) hV) hd (k_44 σ) q1909 q1910 q1911 (np := 2) rfl rfl hW rfl (kI k)
theorem cw_X0_may : CodeW yX0_may (wsW_ yX0_may cX0_may 6 (some .int) [(0, 19, 22, 22), (0, 19, 26, 13)]) 6 := ⟨fun w h => (List.mem_cons.mp h).elim (fun e => e ▸ q1188) id, Or.inr ⟨_, _, _, q1188⟩, q115, by decide, by decide⟩
theorem c_X0_153 {C : ZC} {E : ZE} {cc : ByteArray} {nL pc d : Nat} {nm : String} {ret : Option FieldType} {hh : List (Nat × Nat × Nat × Nat)} {σ : ZS} {L : List (Option Value)} {st : List Value} {a1 : Int32} {a2 : Int32} {a3 : Int32} {Ret : Int32 → ZS → Prop} (hC : Cx C E cc nL "RightTurnsLaw" nm ret hh d) (hdd : 9 + 1 ≤ d) (hd : decode cc pc = .ok (.invokestatic 153, 3)) (hW : (st.map fun v => v.category).sum ≤ 8) (hV : wp_X0_may σ a1 a2 a3 Ret) (k : ∀ r σ', Ret r σ' → zz C E NS nL σ' (pc + 3) L (.int r :: st)) : zz C E NS nL σ pc L (.ref (E.1.heap.size + 1238) :: .int a3 :: .int a2 :: .int a1 :: .ref (E.1.heap.size + 0) :: st) :=
  z_callSG hC cw_X0_may hdd (by decide) (mz_X0_may (cxE hC) hV) hd q1186 q1187 (np := 5) rfl rfl hW rfl (kI k)
theorem cw_X4_may : CodeW yX4_may (ws_ yX4_may cX4_may 4 (some .boolean)) 4 := ⟨fun w h => (List.mem_cons.mp h).elim (fun e => e ▸ q1916) id, Or.inl ⟨_, _, q1916⟩, q138, by decide, by decide⟩
theorem c_X0_156 {C : ZC} {E : ZE} {cc : ByteArray} {nL pc d : Nat} {nm : String} {ret : Option FieldType} {hh : List (Nat × Nat × Nat × Nat)} {σ : ZS} {L : List (Option Value)} {st : List Value} {a1 : Int32} {a2 : Int32} {a3 : Int32} {Ret : Int32 → ZS → Prop} (hC : Cx C E cc nL "RightTurnsLaw" nm ret hh d) (hdd : 5 + 1 ≤ d) (hd : decode cc pc = .ok (.invokevirtual 156, 3)) (hW : (st.map fun v => v.category).sum ≤ 8) (hV : wp_X4_may σ a1 a2 a3 Ret) (k : ∀ r σ', Ret r σ' → zz C E NS nL σ' (pc + 3) L (.int r :: st)) : zz C E NS nL σ pc L (.int a3 :: .int a2 :: .int a1 :: .ref (E.1.heap.size + 44) :: st) :=
  z_callVG hC cf3 cw_X4_may hdd (by decide) (mz_X4_may (cxE hC) hV) hd (k_44 σ) q1913 q1914 q1915 (np := 3) rfl rfl hW rfl (kI k)
theorem cw_X0_sign : CodeW yX0_sign (wsW_ yX0_sign cX0_sign 6 (some .int) [(0, 12, 15, 22), (0, 12, 19, 13)]) 6 := ⟨fun w h => (List.mem_cons.mp h).elim (fun e => e ▸ q1211) id, Or.inr ⟨_, _, _, q1211⟩, q115, by decide, by decide⟩
theorem c_X0_157 {C : ZC} {E : ZE} {cc : ByteArray} {nL pc d : Nat} {nm : String} {ret : Option FieldType} {hh : List (Nat × Nat × Nat × Nat)} {σ : ZS} {L : List (Option Value)} {st : List Value} {a1 : Int32} {a2 : Int32} {a3 : Int32} {Ret : Int32 → ZS → Prop} (hC : Cx C E cc nL "RightTurnsLaw" nm ret hh d) (hdd : 9 + 1 ≤ d) (hd : decode cc pc = .ok (.invokestatic 157, 3)) (hW : (st.map fun v => v.category).sum ≤ 8) (hV : wp_X0_sign σ a1 a2 a3 Ret) (k : ∀ r σ', Ret r σ' → zz C E NS nL σ' (pc + 3) L (.int r :: st)) : zz C E NS nL σ pc L (.ref (E.1.heap.size + 1238) :: .int a3 :: .int a2 :: .int a1 :: .ref (E.1.heap.size + 0) :: st) :=
  z_callSG hC cw_X0_sign hdd (by decide) (mz_X0_sign (cxE hC) hV) hd q1209 q1210 (np := 5) rfl rfl hW rfl (kI k)
theorem cw_X4_sign : CodeW yX4_sign (ws_ yX4_sign cX4_sign 4 (some .int)) 4 := ⟨fun w h => (List.mem_cons.mp h).elim (fun e => e ▸ q1932) id, Or.inl ⟨_, _, q1932⟩, q138, by decide, by decide⟩
theorem c_X0_160 {C : ZC} {E : ZE} {cc : ByteArray} {nL pc d : Nat} {nm : String} {ret : Option FieldType} {hh : List (Nat × Nat × Nat × Nat)} {σ : ZS} {L : List (Option Value)} {st : List Value} {a1 : Int32} {a2 : Int32} {a3 : Int32} {Ret : Int32 → ZS → Prop} (hC : Cx C E cc nL "RightTurnsLaw" nm ret hh d) (hdd : 5 + 1 ≤ d) (hd : decode cc pc = .ok (.invokevirtual 160, 3)) (hW : (st.map fun v => v.category).sum ≤ 8) (hV : wp_X4_sign σ a1 a2 a3 Ret) (k : ∀ r σ', Ret r σ' → zz C E NS nL σ' (pc + 3) L (.int r :: st)) : zz C E NS nL σ pc L (.int a3 :: .int a2 :: .int a1 :: .ref (E.1.heap.size + 44) :: st) :=
  z_callVG hC cf3 cw_X4_sign hdd (by decide) (mz_X4_sign (cxE hC) hV) hd (k_44 σ) q1929 q1930 q1931 (np := 3) rfl rfl hW rfl (kI k)
theorem cw_X0_allow : CodeW yX0_allow (wsW_ yX0_allow cX0_allow 6 (some .int) [(0, 12, 15, 22), (0, 12, 19, 13)]) 6 := ⟨fun w h => (List.mem_cons.mp h).elim (fun e => e ▸ q1227) id, Or.inr ⟨_, _, _, q1227⟩, q115, by decide, by decide⟩
theorem c_X0_161 {C : ZC} {E : ZE} {cc : ByteArray} {nL pc d : Nat} {nm : String} {ret : Option FieldType} {hh : List (Nat × Nat × Nat × Nat)} {σ : ZS} {L : List (Option Value)} {st : List Value} {a1 : Int32} {a2 : Int32} {a3 : Int32} {Ret : Int32 → ZS → Prop} (hC : Cx C E cc nL "RightTurnsLaw" nm ret hh d) (hdd : 9 + 1 ≤ d) (hd : decode cc pc = .ok (.invokestatic 161, 3)) (hW : (st.map fun v => v.category).sum ≤ 8) (hV : wp_X0_allow σ a1 a2 a3 Ret) (k : ∀ r σ', Ret r σ' → zz C E NS nL σ' (pc + 3) L (.int r :: st)) : zz C E NS nL σ pc L (.ref (E.1.heap.size + 1238) :: .int a3 :: .int a2 :: .int a1 :: .ref (E.1.heap.size + 0) :: st) :=
  z_callSG hC cw_X0_allow hdd (by decide) (mz_X0_allow (cxE hC) hV) hd q1225 q1226 (np := 5) rfl rfl hW rfl (kI k)
theorem cw_X4_allow : CodeW yX4_allow (ws_ yX4_allow cX4_allow 4 (some .int)) 4 := ⟨fun w h => (List.mem_cons.mp h).elim (fun e => e ▸ q1948) id, Or.inl ⟨_, _, q1948⟩, q138, by decide, by decide⟩
theorem c_X0_163 {C : ZC} {E : ZE} {cc : ByteArray} {nL pc d : Nat} {nm : String} {ret : Option FieldType} {hh : List (Nat × Nat × Nat × Nat)} {σ : ZS} {L : List (Option Value)} {st : List Value} {a1 : Int32} {a2 : Int32} {a3 : Int32} {Ret : Int32 → ZS → Prop} (hC : Cx C E cc nL "RightTurnsLaw" nm ret hh d) (hdd : 5 + 1 ≤ d) (hd : decode cc pc = .ok (.invokevirtual 163, 3)) (hW : (st.map fun v => v.category).sum ≤ 8) (hV : wp_X4_allow σ a1 a2 a3 Ret) (k : ∀ r σ', Ret r σ' → zz C E NS nL σ' (pc + 3) L (.int r :: st)) : zz C E NS nL σ pc L (.int a3 :: .int a2 :: .int a1 :: .ref (E.1.heap.size + 44) :: st) :=
  z_callVG hC cf3 cw_X4_allow hdd (by decide) (mz_X4_allow (cxE hC) hV) hd (k_44 σ) q1945 q1946 q1947 (np := 3) rfl rfl hW rfl (kI k)
theorem cw_X0_back : CodeW yX0_back (wsW_ yX0_back cX0_back 4 (some .int) [(0, 9, 12, 13)]) 4 := ⟨fun w h => (List.mem_cons.mp h).elim (fun e => e ▸ q1234) id, Or.inr ⟨_, _, _, q1234⟩, q115, by decide, by decide⟩
theorem c_X0_164 {C : ZC} {E : ZE} {cc : ByteArray} {nL pc d : Nat} {nm : String} {ret : Option FieldType} {hh : List (Nat × Nat × Nat × Nat)} {σ : ZS} {L : List (Option Value)} {st : List Value} {a1 : Int32} {Ret : Int32 → ZS → Prop} (hC : Cx C E cc nL "RightTurnsLaw" nm ret hh d) (hdd : 8 + 1 ≤ d) (hd : decode cc pc = .ok (.invokestatic 164, 3)) (hW : (st.map fun v => v.category).sum ≤ 8) (hV : wp_X0_back σ a1 Ret) (k : ∀ r σ', Ret r σ' → zz C E NS nL σ' (pc + 3) L (.int r :: st)) : zz C E NS nL σ pc L (.ref (E.1.heap.size + 1238) :: .int a1 :: .ref (E.1.heap.size + 0) :: st) :=
  z_callSG hC cw_X0_back hdd (by decide) (mz_X0_back (cxE hC) hV) hd q1232 q1233 (np := 3) rfl rfl hW rfl (kI k)
theorem cw_X4_back : CodeW yX4_back (ws_ yX4_back cX4_back 3 (some .int)) 3 := ⟨fun w h => (List.mem_cons.mp h).elim (fun e => e ▸ q1952) id, Or.inl ⟨_, _, q1952⟩, q138, by decide, by decide⟩
theorem c_X0_166 {C : ZC} {E : ZE} {cc : ByteArray} {nL pc d : Nat} {nm : String} {ret : Option FieldType} {hh : List (Nat × Nat × Nat × Nat)} {σ : ZS} {L : List (Option Value)} {st : List Value} {a1 : Int32} {Ret : Int32 → ZS → Prop} (hC : Cx C E cc nL "RightTurnsLaw" nm ret hh d) (hdd : 3 + 1 ≤ d) (hd : decode cc pc = .ok (.invokevirtual 166, 3)) (hW : (st.map fun v => v.category).sum ≤ 8) (hV : wp_X4_back σ a1 Ret) (k : ∀ r σ', Ret r σ' → zz C E NS nL σ' (pc + 3) L (.int r :: st)) : zz C E NS nL σ pc L (.int a1 :: .ref (E.1.heap.size + 44) :: st) :=
  z_callVG hC cf3 cw_X4_back hdd (by decide) (mz_X4_back (cxE hC) hV) hd (k_44 σ) q1949 q1950 q1951 (np := 1) rfl rfl hW rfl (kI k)
theorem cw_X0_stands : CodeW yX0_stands (wsW_ yX0_stands cX0_stands 7 (some .int) [(0, 21, 24, 22), (0, 21, 28, 13)]) 7 := ⟨fun w h => (List.mem_cons.mp h).elim (fun e => e ▸ q1241) id, Or.inr ⟨_, _, _, q1241⟩, q115, by decide, by decide⟩
theorem c_X0_167 {C : ZC} {E : ZE} {cc : ByteArray} {nL pc d : Nat} {nm : String} {ret : Option FieldType} {hh : List (Nat × Nat × Nat × Nat)} {σ : ZS} {L : List (Option Value)} {st : List Value} {a1 : Int32} {a2 : Int32} {a3 : Int32} {a4 : Int32} {Ret : Int32 → ZS → Prop} (hC : Cx C E cc nL "RightTurnsLaw" nm ret hh d) (hdd : 8 + 1 ≤ d) (hd : decode cc pc = .ok (.invokestatic 167, 3)) (hW : (st.map fun v => v.category).sum ≤ 8) (hV : wp_X0_stands σ a1 a2 a3 a4 Ret) (k : ∀ r σ', Ret r σ' → zz C E NS nL σ' (pc + 3) L (.int r :: st)) : zz C E NS nL σ pc L (.ref (E.1.heap.size + 1238) :: .int a4 :: .int a3 :: .int a2 :: .int a1 :: .ref (E.1.heap.size + 0) :: st) :=
  z_callSG hC cw_X0_stands hdd (by decide) (mz_X0_stands (cxE hC) hV) hd q1239 q1240 (np := 6) rfl rfl hW rfl (kI k)
theorem cw_X4_stands : CodeW yX4_stands (ws_ yX4_stands cX4_stands 5 (some .boolean)) 5 := ⟨fun w h => (List.mem_cons.mp h).elim (fun e => e ▸ q1956) id, Or.inl ⟨_, _, q1956⟩, q138, by decide, by decide⟩
theorem c_X0_170 {C : ZC} {E : ZE} {cc : ByteArray} {nL pc d : Nat} {nm : String} {ret : Option FieldType} {hh : List (Nat × Nat × Nat × Nat)} {σ : ZS} {L : List (Option Value)} {st : List Value} {a1 : Int32} {a2 : Int32} {a3 : Int32} {a4 : Int32} {Ret : Int32 → ZS → Prop} (hC : Cx C E cc nL "RightTurnsLaw" nm ret hh d) (hdd : 4 + 1 ≤ d) (hd : decode cc pc = .ok (.invokevirtual 170, 3)) (hW : (st.map fun v => v.category).sum ≤ 8) (hV : wp_X4_stands σ a1 a2 a3 a4 Ret) (k : ∀ r σ', Ret r σ' → zz C E NS nL σ' (pc + 3) L (.int r :: st)) : zz C E NS nL σ pc L (.int a4 :: .int a3 :: .int a2 :: .int a1 :: .ref (E.1.heap.size + 44) :: st) :=
  z_callVG hC cf3 cw_X4_stands hdd (by decide) (mz_X4_stands (cxE hC) hV) hd (k_44 σ) q1953 q1954 q1955 (np := 4) rfl rfl hW rfl (kI k)
theorem cw_X0_ride : CodeW yX0_ride (wsW_ yX0_ride cX0_ride 6 (some .int) [(0, 12, 15, 49), (0, 12, 19, 13)]) 6 := ⟨fun w h => (List.mem_cons.mp h).elim (fun e => e ▸ q1248) id, Or.inr ⟨_, _, _, q1248⟩, q115, by decide, by decide⟩
theorem c_X0_171 {C : ZC} {E : ZE} {cc : ByteArray} {nL pc d : Nat} {nm : String} {ret : Option FieldType} {hh : List (Nat × Nat × Nat × Nat)} {σ : ZS} {L : List (Option Value)} {st : List Value} {a1 : Int32} {a2 : Int32} {a3 : Int32} {Ret : Int32 → ZS → Prop} (hC : Cx C E cc nL "RightTurnsLaw" nm ret hh d) (hdd : 11 + 1 ≤ d) (hd : decode cc pc = .ok (.invokestatic 171, 3)) (hW : (st.map fun v => v.category).sum ≤ 8) (hV : wp_X0_ride σ a1 a2 a3 Ret) (k : ∀ r σ', Ret r σ' → zz C E NS nL σ' (pc + 3) L (.int r :: st)) : zz C E NS nL σ pc L (.ref (E.1.heap.size + 1238) :: .int a3 :: .int a2 :: .int a1 :: .ref (E.1.heap.size + 0) :: st) :=
  z_callSG hC cw_X0_ride hdd (by decide) (mz_X0_ride (cxE hC) hV) hd q1246 q1247 (np := 5) rfl rfl hW rfl (kI k)
theorem cw_X4_ride : CodeW yX4_ride (ws_ yX4_ride cX4_ride 4 (some .int)) 4 := ⟨fun w h => (List.mem_cons.mp h).elim (fun e => e ▸ q1960) id, Or.inl ⟨_, _, q1960⟩, q138, by decide, by decide⟩
theorem c_X0_173 {C : ZC} {E : ZE} {cc : ByteArray} {nL pc d : Nat} {nm : String} {ret : Option FieldType} {hh : List (Nat × Nat × Nat × Nat)} {σ : ZS} {L : List (Option Value)} {st : List Value} {a1 : Int32} {a2 : Int32} {a3 : Int32} {Ret : Int32 → ZS → Prop} (hC : Cx C E cc nL "RightTurnsLaw" nm ret hh d) (hdd : 7 + 1 ≤ d) (hd : decode cc pc = .ok (.invokevirtual 173, 3)) (hW : (st.map fun v => v.category).sum ≤ 8) (hV : wp_X4_ride σ a1 a2 a3 Ret) (k : ∀ r σ', Ret r σ' → zz C E NS nL σ' (pc + 3) L (.int r :: st)) : zz C E NS nL σ pc L (.int a3 :: .int a2 :: .int a1 :: .ref (E.1.heap.size + 44) :: st) :=
  z_callVG hC cf3 cw_X4_ride hdd (by decide) (mz_X4_ride (cxE hC) hV) hd (k_44 σ) q1957 q1958 q1959 (np := 3) rfl rfl hW rfl (kI k)
theorem cw_X0_step : CodeW yX0_step (wsW_ yX0_step cX0_step 7 (some .int) [(0, 14, 17, 49), (0, 14, 21, 13)]) 7 := ⟨fun w h => (List.mem_cons.mp h).elim (fun e => e ▸ q1314) id, Or.inr ⟨_, _, _, q1314⟩, q115, by decide, by decide⟩
theorem c_X0_174 {C : ZC} {E : ZE} {cc : ByteArray} {nL pc d : Nat} {nm : String} {ret : Option FieldType} {hh : List (Nat × Nat × Nat × Nat)} {σ : ZS} {L : List (Option Value)} {st : List Value} {a1 : Int32} {a2 : Int32} {a3 : Int32} {a4 : Int32} {Ret : Int32 → ZS → Prop} (hC : Cx C E cc nL "RightTurnsLaw" nm ret hh d) (hdd : 12 + 1 ≤ d) (hd : decode cc pc = .ok (.invokestatic 174, 3)) (hW : (st.map fun v => v.category).sum ≤ 8) (hV : wp_X0_step σ a1 a2 a3 a4 Ret) (k : ∀ r σ', Ret r σ' → zz C E NS nL σ' (pc + 3) L (.int r :: st)) : zz C E NS nL σ pc L (.ref (E.1.heap.size + 1238) :: .int a4 :: .int a3 :: .int a2 :: .int a1 :: .ref (E.1.heap.size + 0) :: st) :=
  z_callSG hC cw_X0_step hdd (by decide) (mz_X0_step (cxE hC) hV) hd q1312 q1313 (np := 6) rfl rfl hW rfl (kI k)
theorem cw_X4_step : CodeW yX4_step (ws_ yX4_step cX4_step 7 (some .int)) 7 := ⟨fun w h => (List.mem_cons.mp h).elim (fun e => e ▸ q1997) id, Or.inl ⟨_, _, q1997⟩, q138, by decide, by decide⟩
theorem c_X0_176 {C : ZC} {E : ZE} {cc : ByteArray} {nL pc d : Nat} {nm : String} {ret : Option FieldType} {hh : List (Nat × Nat × Nat × Nat)} {σ : ZS} {L : List (Option Value)} {st : List Value} {a1 : Int32} {a2 : Int32} {a3 : Int32} {a4 : Int32} {Ret : Int32 → ZS → Prop} (hC : Cx C E cc nL "RightTurnsLaw" nm ret hh d) (hdd : 7 + 1 ≤ d) (hd : decode cc pc = .ok (.invokevirtual 176, 3)) (hW : (st.map fun v => v.category).sum ≤ 8) (hV : wp_X4_step σ a1 a2 a3 a4 Ret) (k : ∀ r σ', Ret r σ' → zz C E NS nL σ' (pc + 3) L (.int r :: st)) : zz C E NS nL σ pc L (.int a4 :: .int a3 :: .int a2 :: .int a1 :: .ref (E.1.heap.size + 44) :: st) :=
  z_callVG hC cf3 cw_X4_step hdd (by decide) (mz_X4_step (cxE hC) hV) hd (k_44 σ) q1994 q1995 q1996 (np := 4) rfl rfl hW rfl (kI k)
theorem cw_X0_reach : CodeW yX0_reach (wsW_ yX0_reach cX0_reach 6 (some .int) [(0, 12, 15, 49), (0, 12, 19, 13)]) 6 := ⟨fun w h => (List.mem_cons.mp h).elim (fun e => e ▸ q1329) id, Or.inr ⟨_, _, _, q1329⟩, q115, by decide, by decide⟩
theorem c_X0_177 {C : ZC} {E : ZE} {cc : ByteArray} {nL pc d : Nat} {nm : String} {ret : Option FieldType} {hh : List (Nat × Nat × Nat × Nat)} {σ : ZS} {L : List (Option Value)} {st : List Value} {a1 : Int32} {a2 : Int32} {a3 : Int32} {Ret : Int32 → ZS → Prop} (hC : Cx C E cc nL "RightTurnsLaw" nm ret hh d) (hdd : 12 + 1 ≤ d) (hd : decode cc pc = .ok (.invokestatic 177, 3)) (hW : (st.map fun v => v.category).sum ≤ 8) (hV : wp_X0_reach σ a1 a2 a3 Ret) (k : ∀ r σ', Ret r σ' → zz C E NS nL σ' (pc + 3) L (.int r :: st)) : zz C E NS nL σ pc L (.ref (E.1.heap.size + 1238) :: .int a3 :: .int a2 :: .int a1 :: .ref (E.1.heap.size + 0) :: st) :=
  z_callSG hC cw_X0_reach hdd (by decide) (mz_X0_reach (cxE hC) hV) hd q1327 q1328 (np := 5) rfl rfl hW rfl (kI k)
theorem cw_X4_reach : CodeW yX4_reach (ws_ yX4_reach cX4_reach 4 (some .int)) 4 := ⟨fun w h => (List.mem_cons.mp h).elim (fun e => e ▸ q2005) id, Or.inl ⟨_, _, q2005⟩, q138, by decide, by decide⟩
theorem c_X0_179 {C : ZC} {E : ZE} {cc : ByteArray} {nL pc d : Nat} {nm : String} {ret : Option FieldType} {hh : List (Nat × Nat × Nat × Nat)} {σ : ZS} {L : List (Option Value)} {st : List Value} {a1 : Int32} {a2 : Int32} {a3 : Int32} {Ret : Int32 → ZS → Prop} (hC : Cx C E cc nL "RightTurnsLaw" nm ret hh d) (hdd : 7 + 1 ≤ d) (hd : decode cc pc = .ok (.invokevirtual 179, 3)) (hW : (st.map fun v => v.category).sum ≤ 8) (hV : wp_X4_reach σ a1 a2 a3 Ret) (k : ∀ r σ', Ret r σ' → zz C E NS nL σ' (pc + 3) L (.int r :: st)) : zz C E NS nL σ pc L (.int a3 :: .int a2 :: .int a1 :: .ref (E.1.heap.size + 44) :: st) :=
  z_callVG hC cf3 cw_X4_reach hdd (by decide) (mz_X4_reach (cxE hC) hV) hd (k_44 σ) q2002 q2003 q2004 (np := 3) rfl rfl hW rfl (kI k)
theorem cw_X0_parts : CodeW yX0_parts (wsW_ yX0_parts cX0_parts 5 (some .int) [(0, 10, 13, 13)]) 5 := ⟨fun w h => (List.mem_cons.mp h).elim (fun e => e ▸ q1348) id, Or.inr ⟨_, _, _, q1348⟩, q115, by decide, by decide⟩
theorem c_X0_180 {C : ZC} {E : ZE} {cc : ByteArray} {nL pc d : Nat} {nm : String} {ret : Option FieldType} {hh : List (Nat × Nat × Nat × Nat)} {σ : ZS} {L : List (Option Value)} {st : List Value} {a1 : Int32} {a2 : Int32} {Ret : Int32 → ZS → Prop} (hC : Cx C E cc nL "RightTurnsLaw" nm ret hh d) (hdd : 11 + 1 ≤ d) (hd : decode cc pc = .ok (.invokestatic 180, 3)) (hW : (st.map fun v => v.category).sum ≤ 8) (hV : wp_X0_parts σ a1 a2 Ret) (k : ∀ r σ', Ret r σ' → zz C E NS nL σ' (pc + 3) L (.int r :: st)) : zz C E NS nL σ pc L (.ref (E.1.heap.size + 1238) :: .int a2 :: .int a1 :: .ref (E.1.heap.size + 0) :: st) :=
  z_callSG hC cw_X0_parts hdd (by decide) (mz_X0_parts (cxE hC) hV) hd q1346 q1347 (np := 4) rfl rfl hW rfl (kI k)
theorem cw_X4_parts : CodeW yX4_parts (ws_ yX4_parts cX4_parts 9 (some .int)) 9 := ⟨fun w h => (List.mem_cons.mp h).elim (fun e => e ▸ q2021) id, Or.inl ⟨_, _, q2021⟩, q138, by decide, by decide⟩
theorem c_X0_182 {C : ZC} {E : ZE} {cc : ByteArray} {nL pc d : Nat} {nm : String} {ret : Option FieldType} {hh : List (Nat × Nat × Nat × Nat)} {σ : ZS} {L : List (Option Value)} {st : List Value} {a1 : Int32} {a2 : Int32} {Ret : Int32 → ZS → Prop} (hC : Cx C E cc nL "RightTurnsLaw" nm ret hh d) (hdd : 7 + 1 ≤ d) (hd : decode cc pc = .ok (.invokevirtual 182, 3)) (hW : (st.map fun v => v.category).sum ≤ 8) (hV : wp_X4_parts σ a1 a2 Ret) (k : ∀ r σ', Ret r σ' → zz C E NS nL σ' (pc + 3) L (.int r :: st)) : zz C E NS nL σ pc L (.int a2 :: .int a1 :: .ref (E.1.heap.size + 44) :: st) :=
  z_callVG hC cf3 cw_X4_parts hdd (by decide) (mz_X4_parts (cxE hC) hV) hd (k_44 σ) q2018 q2019 q2020 (np := 2) rfl rfl hW rfl (kI k)
theorem cw_X0_together : CodeW yX0_together (wsW_ yX0_together cX0_together 6 (some .int) [(0, 19, 22, 22), (0, 19, 26, 13)]) 6 := ⟨fun w h => (List.mem_cons.mp h).elim (fun e => e ▸ q1364) id, Or.inr ⟨_, _, _, q1364⟩, q115, by decide, by decide⟩
theorem c_X0_183 {C : ZC} {E : ZE} {cc : ByteArray} {nL pc d : Nat} {nm : String} {ret : Option FieldType} {hh : List (Nat × Nat × Nat × Nat)} {σ : ZS} {L : List (Option Value)} {st : List Value} {a1 : Int32} {a2 : Int32} {a3 : Int32} {Ret : Int32 → ZS → Prop} (hC : Cx C E cc nL "RightTurnsLaw" nm ret hh d) (hdd : 11 + 1 ≤ d) (hd : decode cc pc = .ok (.invokestatic 183, 3)) (hW : (st.map fun v => v.category).sum ≤ 8) (hV : wp_X0_together σ a1 a2 a3 Ret) (k : ∀ r σ', Ret r σ' → zz C E NS nL σ' (pc + 3) L (.int r :: st)) : zz C E NS nL σ pc L (.ref (E.1.heap.size + 1238) :: .int a3 :: .int a2 :: .int a1 :: .ref (E.1.heap.size + 0) :: st) :=
  z_callSG hC cw_X0_together hdd (by decide) (mz_X0_together (cxE hC) hV) hd q1362 q1363 (np := 5) rfl rfl hW rfl (kI k)
theorem cw_X4_together : CodeW yX4_together (ws_ yX4_together cX4_together 4 (some .boolean)) 4 := ⟨fun w h => (List.mem_cons.mp h).elim (fun e => e ▸ q2029) id, Or.inl ⟨_, _, q2029⟩, q138, by decide, by decide⟩
theorem c_X0_185 {C : ZC} {E : ZE} {cc : ByteArray} {nL pc d : Nat} {nm : String} {ret : Option FieldType} {hh : List (Nat × Nat × Nat × Nat)} {σ : ZS} {L : List (Option Value)} {st : List Value} {a1 : Int32} {a2 : Int32} {a3 : Int32} {Ret : Int32 → ZS → Prop} (hC : Cx C E cc nL "RightTurnsLaw" nm ret hh d) (hdd : 7 + 1 ≤ d) (hd : decode cc pc = .ok (.invokevirtual 185, 3)) (hW : (st.map fun v => v.category).sum ≤ 8) (hV : wp_X4_together σ a1 a2 a3 Ret) (k : ∀ r σ', Ret r σ' → zz C E NS nL σ' (pc + 3) L (.int r :: st)) : zz C E NS nL σ pc L (.int a3 :: .int a2 :: .int a1 :: .ref (E.1.heap.size + 44) :: st) :=
  z_callVG hC cf3 cw_X4_together hdd (by decide) (mz_X4_together (cxE hC) hV) hd (k_44 σ) q2026 q2027 q2028 (np := 3) rfl rfl hW rfl (kI k)
theorem cw_X0_open : CodeW yX0_open (wsW_ yX0_open cX0_open 5 (some .int) [(0, 10, 13, 13)]) 5 := ⟨fun w h => (List.mem_cons.mp h).elim (fun e => e ▸ q1371) id, Or.inr ⟨_, _, _, q1371⟩, q115, by decide, by decide⟩
theorem c_X0_186 {C : ZC} {E : ZE} {cc : ByteArray} {nL pc d : Nat} {nm : String} {ret : Option FieldType} {hh : List (Nat × Nat × Nat × Nat)} {σ : ZS} {L : List (Option Value)} {st : List Value} {a1 : Int32} {a2 : Int32} {Ret : Int32 → ZS → Prop} (hC : Cx C E cc nL "RightTurnsLaw" nm ret hh d) (hdd : 12 + 1 ≤ d) (hd : decode cc pc = .ok (.invokestatic 186, 3)) (hW : (st.map fun v => v.category).sum ≤ 8) (hV : wp_X0_open σ a1 a2 Ret) (k : ∀ r σ', Ret r σ' → zz C E NS nL σ' (pc + 3) L (.int r :: st)) : zz C E NS nL σ pc L (.ref (E.1.heap.size + 1238) :: .int a2 :: .int a1 :: .ref (E.1.heap.size + 0) :: st) :=
  z_callSG hC cw_X0_open hdd (by decide) (mz_X0_open (cxE hC) hV) hd q1369 q1370 (np := 4) rfl rfl hW rfl (kI k)
theorem cw_X4_open : CodeW yX4_open (ws_ yX4_open cX4_open 4 (some .int)) 4 := ⟨fun w h => (List.mem_cons.mp h).elim (fun e => e ▸ q2033) id, Or.inl ⟨_, _, q2033⟩, q138, by decide, by decide⟩
theorem c_X0_188 {C : ZC} {E : ZE} {cc : ByteArray} {nL pc d : Nat} {nm : String} {ret : Option FieldType} {hh : List (Nat × Nat × Nat × Nat)} {σ : ZS} {L : List (Option Value)} {st : List Value} {a1 : Int32} {a2 : Int32} {Ret : Int32 → ZS → Prop} (hC : Cx C E cc nL "RightTurnsLaw" nm ret hh d) (hdd : 7 + 1 ≤ d) (hd : decode cc pc = .ok (.invokevirtual 188, 3)) (hW : (st.map fun v => v.category).sum ≤ 8) (hV : wp_X4_open σ a1 a2 Ret) (k : ∀ r σ', Ret r σ' → zz C E NS nL σ' (pc + 3) L (.int r :: st)) : zz C E NS nL σ pc L (.int a2 :: .int a1 :: .ref (E.1.heap.size + 44) :: st) :=
  z_callVG hC cf3 cw_X4_open hdd (by decide) (mz_X4_open (cxE hC) hV) hd (k_44 σ) q2030 q2031 q2032 (np := 2) rfl rfl hW rfl (kI k)
theorem cw_X0_since : CodeW yX0_since (wsW_ yX0_since cX0_since 7 (some .int) [(0, 14, 17, 49), (0, 14, 21, 13)]) 7 := ⟨fun w h => (List.mem_cons.mp h).elim (fun e => e ▸ q1386) id, Or.inr ⟨_, _, _, q1386⟩, q115, by decide, by decide⟩
theorem c_X0_189 {C : ZC} {E : ZE} {cc : ByteArray} {nL pc d : Nat} {nm : String} {ret : Option FieldType} {hh : List (Nat × Nat × Nat × Nat)} {σ : ZS} {L : List (Option Value)} {st : List Value} {a1 : Int32} {a2 : Int32} {a3 : Int32} {a4 : Int32} {Ret : Int32 → ZS → Prop} (hC : Cx C E cc nL "RightTurnsLaw" nm ret hh d) (hdd : 11 + 1 ≤ d) (hd : decode cc pc = .ok (.invokestatic 189, 3)) (hW : (st.map fun v => v.category).sum ≤ 8) (hV : wp_X0_since σ a1 a2 a3 a4 Ret) (k : ∀ r σ', Ret r σ' → zz C E NS nL σ' (pc + 3) L (.int r :: st)) : zz C E NS nL σ pc L (.ref (E.1.heap.size + 1238) :: .int a4 :: .int a3 :: .int a2 :: .int a1 :: .ref (E.1.heap.size + 0) :: st) :=
  z_callSG hC cw_X0_since hdd (by decide) (mz_X0_since (cxE hC) hV) hd q1384 q1385 (np := 6) rfl rfl hW rfl (kI k)
theorem cw_X4_since : CodeW yX4_since (ws_ yX4_since cX4_since 6 (some .int)) 6 := ⟨fun w h => (List.mem_cons.mp h).elim (fun e => e ▸ q2041) id, Or.inl ⟨_, _, q2041⟩, q138, by decide, by decide⟩
theorem c_X0_192 {C : ZC} {E : ZE} {cc : ByteArray} {nL pc d : Nat} {nm : String} {ret : Option FieldType} {hh : List (Nat × Nat × Nat × Nat)} {σ : ZS} {L : List (Option Value)} {st : List Value} {a1 : Int32} {a2 : Int32} {a3 : Int32} {a4 : Int32} {Ret : Int32 → ZS → Prop} (hC : Cx C E cc nL "RightTurnsLaw" nm ret hh d) (hdd : 7 + 1 ≤ d) (hd : decode cc pc = .ok (.invokevirtual 192, 3)) (hW : (st.map fun v => v.category).sum ≤ 8) (hV : wp_X4_since σ a1 a2 a3 a4 Ret) (k : ∀ r σ', Ret r σ' → zz C E NS nL σ' (pc + 3) L (.int r :: st)) : zz C E NS nL σ pc L (.int a4 :: .int a3 :: .int a2 :: .int a1 :: .ref (E.1.heap.size + 44) :: st) :=
  z_callVG hC cf3 cw_X4_since hdd (by decide) (mz_X4_since (cxE hC) hV) hd (k_44 σ) q2038 q2039 q2040 (np := 4) rfl rfl hW rfl (kI k)
theorem cw_X1_left : CodeW yX1_left (ws_ yX1_left cX1_left 2 (some .int)) 2 := ⟨fun w h => (List.mem_cons.mp h).elim (fun e => e ▸ q719) id, Or.inl ⟨_, _, q719⟩, q116, by decide, by decide⟩
theorem c_X0_193 {C : ZC} {E : ZE} {cc : ByteArray} {nL pc d : Nat} {nm : String} {ret : Option FieldType} {hh : List (Nat × Nat × Nat × Nat)} {σ : ZS} {L : List (Option Value)} {st : List Value} {a1 : Int32} {Ret : Int32 → ZS → Prop} (hC : Cx C E cc nL "RightTurnsLaw" nm ret hh d) (hdd : 1 + 1 ≤ d) (hd : decode cc pc = .ok (.invokevirtual 193, 3)) (hW : (st.map fun v => v.category).sum ≤ 8) (hV : wp_X1_left σ a1 Ret) (k : ∀ r σ', Ret r σ' → zz C E NS nL σ' (pc + 3) L (.int r :: st)) : zz C E NS nL σ pc L (.int a1 :: .ref (E.1.heap.size + 0) :: st) :=
  z_callVG hC cf0 cw_X1_left hdd (by decide) (mz_X1_left (cxE hC) hV) hd (k_0 σ) q716 q717 q718 (np := 1) rfl rfl hW rfl (kI k)
theorem cw_X4_left : CodeW yX4_left (ws_ yX4_left cX4_left 2 (some .int)) 2 := ⟨fun w h => (List.mem_cons.mp h).elim (fun e => e ▸ q2045) id, Or.inl ⟨_, _, q2045⟩, q138, by decide, by decide⟩
theorem c_X0_196 {C : ZC} {E : ZE} {cc : ByteArray} {nL pc d : Nat} {nm : String} {ret : Option FieldType} {hh : List (Nat × Nat × Nat × Nat)} {σ : ZS} {L : List (Option Value)} {st : List Value} {a1 : Int32} {Ret : Int32 → ZS → Prop} (hC : Cx C E cc nL "RightTurnsLaw" nm ret hh d) (hdd : 2 + 1 ≤ d) (hd : decode cc pc = .ok (.invokevirtual 196, 3)) (hW : (st.map fun v => v.category).sum ≤ 8) (hV : wp_X4_left σ a1 Ret) (k : ∀ r σ', Ret r σ' → zz C E NS nL σ' (pc + 3) L (.int r :: st)) : zz C E NS nL σ pc L (.int a1 :: .ref (E.1.heap.size + 44) :: st) :=
  z_callVG hC cf3 cw_X4_left hdd (by decide) (mz_X4_left (cxE hC) hV) hd (k_44 σ) q2042 q2043 q2044 (np := 1) rfl rfl hW rfl (kI k)
theorem cw_X0_candidates : CodeW yX0_candidates (wsW_ yX0_candidates cX0_candidates 4 (some .int) [(0, 9, 12, 13)]) 4 := ⟨fun w h => (List.mem_cons.mp h).elim (fun e => e ▸ q1393) id, Or.inr ⟨_, _, _, q1393⟩, q115, by decide, by decide⟩
theorem c_X0_197 {C : ZC} {E : ZE} {cc : ByteArray} {nL pc d : Nat} {nm : String} {ret : Option FieldType} {hh : List (Nat × Nat × Nat × Nat)} {σ : ZS} {L : List (Option Value)} {st : List Value} {a1 : Int32} {Ret : Int32 → ZS → Prop} (hC : Cx C E cc nL "RightTurnsLaw" nm ret hh d) (hdd : 8 + 1 ≤ d) (hd : decode cc pc = .ok (.invokestatic 197, 3)) (hW : (st.map fun v => v.category).sum ≤ 8) (hV : wp_X0_candidates σ a1 Ret) (k : ∀ r σ', Ret r σ' → zz C E NS nL σ' (pc + 3) L (.int r :: st)) : zz C E NS nL σ pc L (.ref (E.1.heap.size + 1238) :: .int a1 :: .ref (E.1.heap.size + 0) :: st) :=
  z_callSG hC cw_X0_candidates hdd (by decide) (mz_X0_candidates (cxE hC) hV) hd q1391 q1392 (np := 3) rfl rfl hW rfl (kI k)
theorem cw_X4_candidates : CodeW yX4_candidates (ws_ yX4_candidates cX4_candidates 2 (some .int)) 2 := ⟨fun w h => (List.mem_cons.mp h).elim (fun e => e ▸ q2049) id, Or.inl ⟨_, _, q2049⟩, q138, by decide, by decide⟩
theorem c_X0_199 {C : ZC} {E : ZE} {cc : ByteArray} {nL pc d : Nat} {nm : String} {ret : Option FieldType} {hh : List (Nat × Nat × Nat × Nat)} {σ : ZS} {L : List (Option Value)} {st : List Value} {a1 : Int32} {Ret : Int32 → ZS → Prop} (hC : Cx C E cc nL "RightTurnsLaw" nm ret hh d) (hdd : 3 + 1 ≤ d) (hd : decode cc pc = .ok (.invokevirtual 199, 3)) (hW : (st.map fun v => v.category).sum ≤ 8) (hV : wp_X4_candidates σ a1 Ret) (k : ∀ r σ', Ret r σ' → zz C E NS nL σ' (pc + 3) L (.int r :: st)) : zz C E NS nL σ pc L (.int a1 :: .ref (E.1.heap.size + 44) :: st) :=
  z_callVG hC cf3 cw_X4_candidates hdd (by decide) (mz_X4_candidates (cxE hC) hV) hd (k_44 σ) q2046 q2047 q2048 (np := 1) rfl rfl hW rfl (kI k)
theorem cw_X0_fewest : CodeW yX0_fewest (wsW_ yX0_fewest cX0_fewest 5 (some .int) [(0, 10, 13, 13)]) 5 := ⟨fun w h => (List.mem_cons.mp h).elim (fun e => e ▸ q1404) id, Or.inr ⟨_, _, _, q1404⟩, q115, by decide, by decide⟩
theorem c_X0_200 {C : ZC} {E : ZE} {cc : ByteArray} {nL pc d : Nat} {nm : String} {ret : Option FieldType} {hh : List (Nat × Nat × Nat × Nat)} {σ : ZS} {L : List (Option Value)} {st : List Value} {a1 : Int32} {a2 : Int32} {Ret : Int32 → ZS → Prop} (hC : Cx C E cc nL "RightTurnsLaw" nm ret hh d) (hdd : 13 + 1 ≤ d) (hd : decode cc pc = .ok (.invokestatic 200, 3)) (hW : (st.map fun v => v.category).sum ≤ 8) (hV : wp_X0_fewest σ a1 a2 Ret) (k : ∀ r σ', Ret r σ' → zz C E NS nL σ' (pc + 3) L (.int r :: st)) : zz C E NS nL σ pc L (.ref (E.1.heap.size + 1238) :: .int a2 :: .int a1 :: .ref (E.1.heap.size + 0) :: st) :=
  z_callSG hC cw_X0_fewest hdd (by decide) (mz_X0_fewest (cxE hC) hV) hd q1402 q1403 (np := 4) rfl rfl hW rfl (kI k)
theorem cw_X4_fewest : CodeW yX4_fewest (ws_ yX4_fewest cX4_fewest 3 (some .int)) 3 := ⟨fun w h => (List.mem_cons.mp h).elim (fun e => e ▸ q2065) id, Or.inl ⟨_, _, q2065⟩, q138, by decide, by decide⟩
theorem c_X0_202 {C : ZC} {E : ZE} {cc : ByteArray} {nL pc d : Nat} {nm : String} {ret : Option FieldType} {hh : List (Nat × Nat × Nat × Nat)} {σ : ZS} {L : List (Option Value)} {st : List Value} {a1 : Int32} {a2 : Int32} {Ret : Int32 → ZS → Prop} (hC : Cx C E cc nL "RightTurnsLaw" nm ret hh d) (hdd : 9 + 1 ≤ d) (hd : decode cc pc = .ok (.invokevirtual 202, 3)) (hW : (st.map fun v => v.category).sum ≤ 8) (hV : wp_X4_fewest σ a1 a2 Ret) (k : ∀ r σ', Ret r σ' → zz C E NS nL σ' (pc + 3) L (.int r :: st)) : zz C E NS nL σ pc L (.int a2 :: .int a1 :: .ref (E.1.heap.size + 44) :: st) :=
  z_callVG hC cf3 cw_X4_fewest hdd (by decide) (mz_X4_fewest (cxE hC) hV) hd (k_44 σ) q2062 q2063 q2064 (np := 2) rfl rfl hW rfl (kI k)
theorem cw_X0_cheapest : CodeW yX0_cheapest (wsW_ yX0_cheapest cX0_cheapest 5 (some .int) [(0, 10, 13, 13)]) 5 := ⟨fun w h => (List.mem_cons.mp h).elim (fun e => e ▸ q1423) id, Or.inr ⟨_, _, _, q1423⟩, q115, by decide, by decide⟩
theorem c_X0_203 {C : ZC} {E : ZE} {cc : ByteArray} {nL pc d : Nat} {nm : String} {ret : Option FieldType} {hh : List (Nat × Nat × Nat × Nat)} {σ : ZS} {L : List (Option Value)} {st : List Value} {a1 : Int32} {a2 : Int32} {Ret : Int32 → ZS → Prop} (hC : Cx C E cc nL "RightTurnsLaw" nm ret hh d) (hdd : 13 + 1 ≤ d) (hd : decode cc pc = .ok (.invokestatic 203, 3)) (hW : (st.map fun v => v.category).sum ≤ 8) (hV : wp_X0_cheapest σ a1 a2 Ret) (k : ∀ r σ', Ret r σ' → zz C E NS nL σ' (pc + 3) L (.int r :: st)) : zz C E NS nL σ pc L (.ref (E.1.heap.size + 1238) :: .int a2 :: .int a1 :: .ref (E.1.heap.size + 0) :: st) :=
  z_callSG hC cw_X0_cheapest hdd (by decide) (mz_X0_cheapest (cxE hC) hV) hd q1421 q1422 (np := 4) rfl rfl hW rfl (kI k)
theorem cw_X4_cheapest : CodeW yX4_cheapest (ws_ yX4_cheapest cX4_cheapest 3 (some .int)) 3 := ⟨fun w h => (List.mem_cons.mp h).elim (fun e => e ▸ q2085) id, Or.inl ⟨_, _, q2085⟩, q138, by decide, by decide⟩
theorem c_X0_205 {C : ZC} {E : ZE} {cc : ByteArray} {nL pc d : Nat} {nm : String} {ret : Option FieldType} {hh : List (Nat × Nat × Nat × Nat)} {σ : ZS} {L : List (Option Value)} {st : List Value} {a1 : Int32} {a2 : Int32} {Ret : Int32 → ZS → Prop} (hC : Cx C E cc nL "RightTurnsLaw" nm ret hh d) (hdd : 9 + 1 ≤ d) (hd : decode cc pc = .ok (.invokevirtual 205, 3)) (hW : (st.map fun v => v.category).sum ≤ 8) (hV : wp_X4_cheapest σ a1 a2 Ret) (k : ∀ r σ', Ret r σ' → zz C E NS nL σ' (pc + 3) L (.int r :: st)) : zz C E NS nL σ pc L (.int a2 :: .int a1 :: .ref (E.1.heap.size + 44) :: st) :=
  z_callVG hC cf3 cw_X4_cheapest hdd (by decide) (mz_X4_cheapest (cxE hC) hV) hd (k_44 σ) q2082 q2083 q2084 (np := 2) rfl rfl hW rfl (kI k)
theorem cw_X0_exchange : CodeW yX0_exchange (wsW_ yX0_exchange cX0_exchange 5 (some .int) [(0, 10, 13, 13)]) 5 := ⟨fun w h => (List.mem_cons.mp h).elim (fun e => e ▸ q1430) id, Or.inr ⟨_, _, _, q1430⟩, q115, by decide, by decide⟩
theorem c_X0_206 {C : ZC} {E : ZE} {cc : ByteArray} {nL pc d : Nat} {nm : String} {ret : Option FieldType} {hh : List (Nat × Nat × Nat × Nat)} {σ : ZS} {L : List (Option Value)} {st : List Value} {a1 : Int32} {a2 : Int32} {Ret : Int32 → ZS → Prop} (hC : Cx C E cc nL "RightTurnsLaw" nm ret hh d) (hdd : 12 + 1 ≤ d) (hd : decode cc pc = .ok (.invokestatic 206, 3)) (hW : (st.map fun v => v.category).sum ≤ 8) (hV : wp_X0_exchange σ a1 a2 Ret) (k : ∀ r σ', Ret r σ' → zz C E NS nL σ' (pc + 3) L (.int r :: st)) : zz C E NS nL σ pc L (.ref (E.1.heap.size + 1238) :: .int a2 :: .int a1 :: .ref (E.1.heap.size + 0) :: st) :=
  z_callSG hC cw_X0_exchange hdd (by decide) (mz_X0_exchange (cxE hC) hV) hd q1428 q1429 (np := 4) rfl rfl hW rfl (kI k)
theorem cw_X4_exchange : CodeW yX4_exchange (ws_ yX4_exchange cX4_exchange 8 (some .int)) 8 := ⟨fun w h => (List.mem_cons.mp h).elim (fun e => e ▸ q2089) id, Or.inl ⟨_, _, q2089⟩, q138, by decide, by decide⟩
theorem c_X0_208 {C : ZC} {E : ZE} {cc : ByteArray} {nL pc d : Nat} {nm : String} {ret : Option FieldType} {hh : List (Nat × Nat × Nat × Nat)} {σ : ZS} {L : List (Option Value)} {st : List Value} {a1 : Int32} {a2 : Int32} {Ret : Int32 → ZS → Prop} (hC : Cx C E cc nL "RightTurnsLaw" nm ret hh d) (hdd : 7 + 1 ≤ d) (hd : decode cc pc = .ok (.invokevirtual 208, 3)) (hW : (st.map fun v => v.category).sum ≤ 8) (hV : wp_X4_exchange σ a1 a2 Ret) (k : ∀ r σ', Ret r σ' → zz C E NS nL σ' (pc + 3) L (.int r :: st)) : zz C E NS nL σ pc L (.int a2 :: .int a1 :: .ref (E.1.heap.size + 44) :: st) :=
  z_callVG hC cf3 cw_X4_exchange hdd (by decide) (mz_X4_exchange (cxE hC) hV) hd (k_44 σ) q2086 q2087 q2088 (np := 2) rfl rfl hW rfl (kI k)
theorem cw_X0_round : CodeW yX0_round (wsW_ yX0_round cX0_round 5 (some .int) [(0, 10, 13, 49), (0, 10, 17, 13)]) 5 := ⟨fun w h => (List.mem_cons.mp h).elim (fun e => e ▸ q1437) id, Or.inr ⟨_, _, _, q1437⟩, q115, by decide, by decide⟩
theorem c_X0_209 {C : ZC} {E : ZE} {cc : ByteArray} {nL pc d : Nat} {nm : String} {ret : Option FieldType} {hh : List (Nat × Nat × Nat × Nat)} {σ : ZS} {L : List (Option Value)} {st : List Value} {a1 : Int32} {a2 : Int32} {Ret : Int32 → ZS → Prop} (hC : Cx C E cc nL "RightTurnsLaw" nm ret hh d) (hdd : 10 + 1 ≤ d) (hd : decode cc pc = .ok (.invokestatic 209, 3)) (hW : (st.map fun v => v.category).sum ≤ 8) (hV : wp_X0_round σ a1 a2 Ret) (k : ∀ r σ', Ret r σ' → zz C E NS nL σ' (pc + 3) L (.int r :: st)) : zz C E NS nL σ pc L (.ref (E.1.heap.size + 1238) :: .int a2 :: .int a1 :: .ref (E.1.heap.size + 0) :: st) :=
  z_callSG hC cw_X0_round hdd (by decide) (mz_X0_round (cxE hC) hV) hd q1435 q1436 (np := 4) rfl rfl hW rfl (kI k)
theorem cw_X4_round : CodeW yX4_round (ws_ yX4_round cX4_round 9 (some .int)) 9 := ⟨fun w h => (List.mem_cons.mp h).elim (fun e => e ▸ q2093) id, Or.inl ⟨_, _, q2093⟩, q138, by decide, by decide⟩
theorem c_X0_211 {C : ZC} {E : ZE} {cc : ByteArray} {nL pc d : Nat} {nm : String} {ret : Option FieldType} {hh : List (Nat × Nat × Nat × Nat)} {σ : ZS} {L : List (Option Value)} {st : List Value} {a1 : Int32} {a2 : Int32} {Ret : Int32 → ZS → Prop} (hC : Cx C E cc nL "RightTurnsLaw" nm ret hh d) (hdd : 7 + 1 ≤ d) (hd : decode cc pc = .ok (.invokevirtual 211, 3)) (hW : (st.map fun v => v.category).sum ≤ 8) (hV : wp_X4_round σ a1 a2 Ret) (k : ∀ r σ', Ret r σ' → zz C E NS nL σ' (pc + 3) L (.int r :: st)) : zz C E NS nL σ pc L (.int a2 :: .int a1 :: .ref (E.1.heap.size + 44) :: st) :=
  z_callVG hC cf3 cw_X4_round hdd (by decide) (mz_X4_round (cxE hC) hV) hd (k_44 σ) q2090 q2091 q2092 (np := 2) rfl rfl hW rfl (kI k)
theorem cw_X0_bound : CodeW yX0_bound (wsW_ yX0_bound cX0_bound 5 (some .int) [(0, 10, 13, 49), (0, 10, 17, 13)]) 5 := ⟨fun w h => (List.mem_cons.mp h).elim (fun e => e ▸ q1456) id, Or.inr ⟨_, _, _, q1456⟩, q115, by decide, by decide⟩
theorem c_X0_212 {C : ZC} {E : ZE} {cc : ByteArray} {nL pc d : Nat} {nm : String} {ret : Option FieldType} {hh : List (Nat × Nat × Nat × Nat)} {σ : ZS} {L : List (Option Value)} {st : List Value} {a1 : Int32} {a2 : Int32} {Ret : Int32 → ZS → Prop} (hC : Cx C E cc nL "RightTurnsLaw" nm ret hh d) (hdd : 11 + 1 ≤ d) (hd : decode cc pc = .ok (.invokestatic 212, 3)) (hW : (st.map fun v => v.category).sum ≤ 8) (hV : wp_X0_bound σ a1 a2 Ret) (k : ∀ r σ', Ret r σ' → zz C E NS nL σ' (pc + 3) L (.int r :: st)) : zz C E NS nL σ pc L (.ref (E.1.heap.size + 1238) :: .int a2 :: .int a1 :: .ref (E.1.heap.size + 0) :: st) :=
  z_callSG hC cw_X0_bound hdd (by decide) (mz_X0_bound (cxE hC) hV) hd q1454 q1455 (np := 4) rfl rfl hW rfl (kI k)
theorem cw_X4_bound : CodeW yX4_bound (ws_ yX4_bound cX4_bound 11 (some .int)) 11 := ⟨fun w h => (List.mem_cons.mp h).elim (fun e => e ▸ q2105) id, Or.inl ⟨_, _, q2105⟩, q138, by decide, by decide⟩
theorem c_X0_214 {C : ZC} {E : ZE} {cc : ByteArray} {nL pc d : Nat} {nm : String} {ret : Option FieldType} {hh : List (Nat × Nat × Nat × Nat)} {σ : ZS} {L : List (Option Value)} {st : List Value} {a1 : Int32} {a2 : Int32} {Ret : Int32 → ZS → Prop} (hC : Cx C E cc nL "RightTurnsLaw" nm ret hh d) (hdd : 7 + 1 ≤ d) (hd : decode cc pc = .ok (.invokevirtual 214, 3)) (hW : (st.map fun v => v.category).sum ≤ 8) (hV : wp_X4_bound σ a1 a2 Ret) (k : ∀ r σ', Ret r σ' → zz C E NS nL σ' (pc + 3) L (.int r :: st)) : zz C E NS nL σ pc L (.int a2 :: .int a1 :: .ref (E.1.heap.size + 44) :: st) :=
  z_callVG hC cf3 cw_X4_bound hdd (by decide) (mz_X4_bound (cxE hC) hV) hd (k_44 σ) q2102 q2103 q2104 (np := 2) rfl rfl hW rfl (kI k)
theorem cw_X0_home : CodeW yX0_home (wsW_ yX0_home cX0_home 4 (some .int) [(0, 9, 12, 13)]) 4 := ⟨fun w h => (List.mem_cons.mp h).elim (fun e => e ▸ q1463) id, Or.inr ⟨_, _, _, q1463⟩, q115, by decide, by decide⟩
theorem c_X0_215 {C : ZC} {E : ZE} {cc : ByteArray} {nL pc d : Nat} {nm : String} {ret : Option FieldType} {hh : List (Nat × Nat × Nat × Nat)} {σ : ZS} {L : List (Option Value)} {st : List Value} {a1 : Int32} {Ret : Int32 → ZS → Prop} (hC : Cx C E cc nL "RightTurnsLaw" nm ret hh d) (hdd : 14 + 1 ≤ d) (hd : decode cc pc = .ok (.invokestatic 215, 3)) (hW : (st.map fun v => v.category).sum ≤ 8) (hV : wp_X0_home σ a1 Ret) (k : ∀ r σ', Ret r σ' → zz C E NS nL σ' (pc + 3) L (.int r :: st)) : zz C E NS nL σ pc L (.ref (E.1.heap.size + 1238) :: .int a1 :: .ref (E.1.heap.size + 0) :: st) :=
  z_callSG hC cw_X0_home hdd (by decide) (mz_X0_home (cxE hC) hV) hd q1461 q1462 (np := 3) rfl rfl hW rfl (kI k)
theorem cw_X4_home : CodeW yX4_home (ws_ yX4_home cX4_home 2 (some .int)) 2 := ⟨fun w h => (List.mem_cons.mp h).elim (fun e => e ▸ q2109) id, Or.inl ⟨_, _, q2109⟩, q138, by decide, by decide⟩
theorem c_X0_217 {C : ZC} {E : ZE} {cc : ByteArray} {nL pc d : Nat} {nm : String} {ret : Option FieldType} {hh : List (Nat × Nat × Nat × Nat)} {σ : ZS} {L : List (Option Value)} {st : List Value} {a1 : Int32} {Ret : Int32 → ZS → Prop} (hC : Cx C E cc nL "RightTurnsLaw" nm ret hh d) (hdd : 9 + 1 ≤ d) (hd : decode cc pc = .ok (.invokevirtual 217, 3)) (hW : (st.map fun v => v.category).sum ≤ 8) (hV : wp_X4_home σ a1 Ret) (k : ∀ r σ', Ret r σ' → zz C E NS nL σ' (pc + 3) L (.int r :: st)) : zz C E NS nL σ pc L (.int a1 :: .ref (E.1.heap.size + 44) :: st) :=
  z_callVG hC cf3 cw_X4_home hdd (by decide) (mz_X4_home (cxE hC) hV) hd (k_44 σ) q2106 q2107 q2108 (np := 1) rfl rfl hW rfl (kI k)
theorem cw_X0_traffic : CodeW yX0_traffic (wsW_ yX0_traffic cX0_traffic 4 (some .int) [(0, 9, 12, 13)]) 4 := ⟨fun w h => (List.mem_cons.mp h).elim (fun e => e ▸ q1495) id, Or.inr ⟨_, _, _, q1495⟩, q115, by decide, by decide⟩
theorem c_X0_218 {C : ZC} {E : ZE} {cc : ByteArray} {nL pc d : Nat} {nm : String} {ret : Option FieldType} {hh : List (Nat × Nat × Nat × Nat)} {σ : ZS} {L : List (Option Value)} {st : List Value} {a1 : Int32} {Ret : Int32 → ZS → Prop} (hC : Cx C E cc nL "RightTurnsLaw" nm ret hh d) (hdd : 14 + 1 ≤ d) (hd : decode cc pc = .ok (.invokestatic 218, 3)) (hW : (st.map fun v => v.category).sum ≤ 8) (hV : wp_X0_traffic σ a1 Ret) (k : ∀ r σ', Ret r σ' → zz C E NS nL σ' (pc + 3) L (.int r :: st)) : zz C E NS nL σ pc L (.ref (E.1.heap.size + 1238) :: .int a1 :: .ref (E.1.heap.size + 0) :: st) :=
  z_callSG hC cw_X0_traffic hdd (by decide) (mz_X0_traffic (cxE hC) hV) hd q1493 q1494 (np := 3) rfl rfl hW rfl (kI k)
theorem cw_X4_traffic : CodeW yX4_traffic (ws_ yX4_traffic cX4_traffic 6 (some .int)) 6 := ⟨fun w h => (List.mem_cons.mp h).elim (fun e => e ▸ q2133) id, Or.inl ⟨_, _, q2133⟩, q138, by decide, by decide⟩
theorem c_X0_220 {C : ZC} {E : ZE} {cc : ByteArray} {nL pc d : Nat} {nm : String} {ret : Option FieldType} {hh : List (Nat × Nat × Nat × Nat)} {σ : ZS} {L : List (Option Value)} {st : List Value} {a1 : Int32} {Ret : Int32 → ZS → Prop} (hC : Cx C E cc nL "RightTurnsLaw" nm ret hh d) (hdd : 9 + 1 ≤ d) (hd : decode cc pc = .ok (.invokevirtual 220, 3)) (hW : (st.map fun v => v.category).sum ≤ 8) (hV : wp_X4_traffic σ a1 Ret) (k : ∀ r σ', Ret r σ' → zz C E NS nL σ' (pc + 3) L (.int r :: st)) : zz C E NS nL σ pc L (.int a1 :: .ref (E.1.heap.size + 44) :: st) :=
  z_callVG hC cf3 cw_X4_traffic hdd (by decide) (mz_X4_traffic (cxE hC) hV) hd (k_44 σ) q2130 q2131 q2132 (np := 1) rfl rfl hW rfl (kI k)
theorem cw_X0_counts : CodeW yX0_counts (wsW_ yX0_counts cX0_counts 4 (some .int) [(0, 9, 12, 22)]) 4 := ⟨fun w h => (List.mem_cons.mp h).elim (fun e => e ▸ q1502) id, Or.inr ⟨_, _, _, q1502⟩, q115, by decide, by decide⟩
theorem c_X0_221 {C : ZC} {E : ZE} {cc : ByteArray} {nL pc d : Nat} {nm : String} {ret : Option FieldType} {hh : List (Nat × Nat × Nat × Nat)} {σ : ZS} {L : List (Option Value)} {st : List Value} {a1 : Int32} {Ret : Int32 → ZS → Prop} (hC : Cx C E cc nL "RightTurnsLaw" nm ret hh d) (hdd : 13 + 1 ≤ d) (hd : decode cc pc = .ok (.invokestatic 221, 3)) (hW : (st.map fun v => v.category).sum ≤ 8) (hV : wp_X0_counts σ a1 Ret) (k : ∀ r σ', Ret r σ' → zz C E NS nL σ' (pc + 3) L (.int r :: st)) : zz C E NS nL σ pc L (.ref (E.1.heap.size + 1238) :: .int a1 :: .ref (E.1.heap.size + 0) :: st) :=
  z_callSG hC cw_X0_counts hdd (by decide) (mz_X0_counts (cxE hC) hV) hd q1500 q1501 (np := 3) rfl rfl hW rfl (kI k)
theorem cw_X4_counts : CodeW yX4_counts (ws_ yX4_counts cX4_counts 6 (some .int)) 6 := ⟨fun w h => (List.mem_cons.mp h).elim (fun e => e ▸ q2137) id, Or.inl ⟨_, _, q2137⟩, q138, by decide, by decide⟩
theorem c_X0_223 {C : ZC} {E : ZE} {cc : ByteArray} {nL pc d : Nat} {nm : String} {ret : Option FieldType} {hh : List (Nat × Nat × Nat × Nat)} {σ : ZS} {L : List (Option Value)} {st : List Value} {a1 : Int32} {Ret : Int32 → ZS → Prop} (hC : Cx C E cc nL "RightTurnsLaw" nm ret hh d) (hdd : 8 + 1 ≤ d) (hd : decode cc pc = .ok (.invokevirtual 223, 3)) (hW : (st.map fun v => v.category).sum ≤ 8) (hV : wp_X4_counts σ a1 Ret) (k : ∀ r σ', Ret r σ' → zz C E NS nL σ' (pc + 3) L (.int r :: st)) : zz C E NS nL σ pc L (.int a1 :: .ref (E.1.heap.size + 44) :: st) :=
  z_callVG hC cf3 cw_X4_counts hdd (by decide) (mz_X4_counts (cxE hC) hV) hd (k_44 σ) q2134 q2135 q2136 (np := 1) rfl rfl hW rfl (kI k)
theorem cw_X0_tell : CodeW yX0_tell (wsW_ yX0_tell cX0_tell 4 (some .int) [(0, 9, 12, 49)]) 4 := ⟨fun w h => (List.mem_cons.mp h).elim (fun e => e ▸ q1509) id, Or.inr ⟨_, _, _, q1509⟩, q115, by decide, by decide⟩
theorem c_X0_224 {C : ZC} {E : ZE} {cc : ByteArray} {nL pc d : Nat} {nm : String} {ret : Option FieldType} {hh : List (Nat × Nat × Nat × Nat)} {σ : ZS} {L : List (Option Value)} {st : List Value} {a1 : Int32} {Ret : Int32 → ZS → Prop} (hC : Cx C E cc nL "RightTurnsLaw" nm ret hh d) (hdd : 8 + 1 ≤ d) (hd : decode cc pc = .ok (.invokestatic 224, 3)) (hW : (st.map fun v => v.category).sum ≤ 8) (hV : wp_X0_tell σ a1 Ret) (k : ∀ r σ', Ret r σ' → zz C E NS nL σ' (pc + 3) L (.int r :: st)) : zz C E NS nL σ pc L (.ref (E.1.heap.size + 1238) :: .int a1 :: .ref (E.1.heap.size + 0) :: st) :=
  z_callSG hC cw_X0_tell hdd (by decide) (mz_X0_tell (cxE hC) hV) hd q1507 q1508 (np := 3) rfl rfl hW rfl (kI k)
theorem cw_X4_tell : CodeW yX4_tell (ws_ yX4_tell cX4_tell 2 (some .int)) 2 := ⟨fun w h => (List.mem_cons.mp h).elim (fun e => e ▸ q2141) id, Or.inl ⟨_, _, q2141⟩, q138, by decide, by decide⟩
theorem c_X0_226 {C : ZC} {E : ZE} {cc : ByteArray} {nL pc d : Nat} {nm : String} {ret : Option FieldType} {hh : List (Nat × Nat × Nat × Nat)} {σ : ZS} {L : List (Option Value)} {st : List Value} {a1 : Int32} {Ret : Int32 → ZS → Prop} (hC : Cx C E cc nL "RightTurnsLaw" nm ret hh d) (hdd : 3 + 1 ≤ d) (hd : decode cc pc = .ok (.invokevirtual 226, 3)) (hW : (st.map fun v => v.category).sum ≤ 8) (hV : wp_X4_tell σ a1 Ret) (k : ∀ r σ', Ret r σ' → zz C E NS nL σ' (pc + 3) L (.int r :: st)) : zz C E NS nL σ pc L (.int a1 :: .ref (E.1.heap.size + 44) :: st) :=
  z_callVG hC cf3 cw_X4_tell hdd (by decide) (mz_X4_tell (cxE hC) hV) hd (k_44 σ) q2138 q2139 q2140 (np := 1) rfl rfl hW rfl (kI k)
theorem cw_X1_forget : CodeW yX1_forget (ws_ yX1_forget cX1_forget 2 (some .int)) 2 := ⟨fun w h => (List.mem_cons.mp h).elim (fun e => e ▸ q723) id, Or.inl ⟨_, _, q723⟩, q116, by decide, by decide⟩
theorem c_X0_227 {C : ZC} {E : ZE} {cc : ByteArray} {nL pc d : Nat} {nm : String} {ret : Option FieldType} {hh : List (Nat × Nat × Nat × Nat)} {σ : ZS} {L : List (Option Value)} {st : List Value} {Ret : Int32 → ZS → Prop} (hC : Cx C E cc nL "RightTurnsLaw" nm ret hh d) (hdd : 1 + 1 ≤ d) (hd : decode cc pc = .ok (.invokevirtual 227, 3)) (hW : (st.map fun v => v.category).sum ≤ 8) (hV : wp_X1_forget σ Ret) (k : ∀ r σ', Ret r σ' → zz C E NS nL σ' (pc + 3) L (.int r :: st)) : zz C E NS nL σ pc L (.ref (E.1.heap.size + 0) :: st) :=
  z_callVG hC cf0 cw_X1_forget hdd (by decide) (mz_X1_forget (cxE hC) hV) hd (k_0 σ) q720 q721 q722 (np := 0) rfl rfl hW rfl (kI k)
theorem cw_X4_forget : CodeW yX4_forget (ws_ yX4_forget cX4_forget 2 (some .int)) 2 := ⟨fun w h => (List.mem_cons.mp h).elim (fun e => e ▸ q2145) id, Or.inl ⟨_, _, q2145⟩, q138, by decide, by decide⟩
theorem c_X0_230 {C : ZC} {E : ZE} {cc : ByteArray} {nL pc d : Nat} {nm : String} {ret : Option FieldType} {hh : List (Nat × Nat × Nat × Nat)} {σ : ZS} {L : List (Option Value)} {st : List Value} {Ret : Int32 → ZS → Prop} (hC : Cx C E cc nL "RightTurnsLaw" nm ret hh d) (hdd : 1 + 1 ≤ d) (hd : decode cc pc = .ok (.invokevirtual 230, 3)) (hW : (st.map fun v => v.category).sum ≤ 8) (hV : wp_X4_forget σ Ret) (k : ∀ r σ', Ret r σ' → zz C E NS nL σ' (pc + 3) L (.int r :: st)) : zz C E NS nL σ pc L (.ref (E.1.heap.size + 44) :: st) :=
  z_callVG hC cf3 cw_X4_forget hdd (by decide) (mz_X4_forget (cxE hC) hV) hd (k_44 σ) q2142 q2143 q2144 (np := 0) rfl rfl hW rfl (kI k)
theorem cw_X0_breaks : CodeW yX0_breaks (wsW_ yX0_breaks cX0_breaks 5 (some .int) [(0, 9, 12, 13)]) 5 := ⟨fun w h => (List.mem_cons.mp h).elim (fun e => e ▸ q1516) id, Or.inr ⟨_, _, _, q1516⟩, q115, by decide, by decide⟩
theorem c_X0_231 {C : ZC} {E : ZE} {cc : ByteArray} {nL pc d : Nat} {nm : String} {ret : Option FieldType} {hh : List (Nat × Nat × Nat × Nat)} {σ : ZS} {L : List (Option Value)} {st : List Value} {a1 : Int32} {a2 : Int32} {Ret : Int32 → ZS → Prop} (hC : Cx C E cc nL "RightTurnsLaw" nm ret hh d) (hdd : 11 + 1 ≤ d) (hd : decode cc pc = .ok (.invokestatic 231, 3)) (hW : (st.map fun v => v.category).sum ≤ 8) (hV : wp_X0_breaks σ a1 a2 Ret) (k : ∀ r σ', Ret r σ' → zz C E NS nL σ' (pc + 3) L (.int r :: st)) : zz C E NS nL σ pc L (.ref (E.1.heap.size + 1238) :: .int a2 :: .int a1 :: .ref (E.1.heap.size + 0) :: st) :=
  z_callSG hC cw_X0_breaks hdd (by decide) (mz_X0_breaks (cxE hC) hV) hd q1514 q1515 (np := 4) rfl rfl hW rfl (kI k)
theorem cw_X4_breaks : CodeW yX4_breaks (ws_ yX4_breaks cX4_breaks 3 (some .long)) 3 := ⟨fun w h => (List.mem_cons.mp h).elim (fun e => e ▸ q2149) id, Or.inl ⟨_, _, q2149⟩, q138, by decide, by decide⟩
theorem c_X0_233 {C : ZC} {E : ZE} {cc : ByteArray} {nL pc d : Nat} {nm : String} {ret : Option FieldType} {hh : List (Nat × Nat × Nat × Nat)} {σ : ZS} {L : List (Option Value)} {st : List Value} {a1 : Int32} {a2 : Int32} {Ret : Int64 → ZS → Prop} (hC : Cx C E cc nL "RightTurnsLaw" nm ret hh d) (hdd : 7 + 1 ≤ d) (hd : decode cc pc = .ok (.invokevirtual 233, 3)) (hW : (st.map fun v => v.category).sum ≤ 8) (hV : wp_X4_breaks σ a1 a2 Ret) (k : ∀ r σ', Ret r σ' → zz C E NS nL σ' (pc + 3) L (.long r :: st)) : zz C E NS nL σ pc L (.int a2 :: .int a1 :: .ref (E.1.heap.size + 44) :: st) :=
  z_callVG hC cf3 cw_X4_breaks hdd (by decide) (mz_X4_breaks (cxE hC) hV) hd (k_44 σ) q2146 q2147 q2148 (np := 2) rfl rfl hW rfl (kJ k)
theorem cw_X0_cut : CodeW yX0_cut (wsW_ yX0_cut cX0_cut 4 (some .int) [(0, 9, 12, 13)]) 4 := ⟨fun w h => (List.mem_cons.mp h).elim (fun e => e ▸ q1536) id, Or.inr ⟨_, _, _, q1536⟩, q115, by decide, by decide⟩
theorem c_X0_234 {C : ZC} {E : ZE} {cc : ByteArray} {nL pc d : Nat} {nm : String} {ret : Option FieldType} {hh : List (Nat × Nat × Nat × Nat)} {σ : ZS} {L : List (Option Value)} {st : List Value} {a1 : Int32} {Ret : Int32 → ZS → Prop} (hC : Cx C E cc nL "RightTurnsLaw" nm ret hh d) (hdd : 12 + 1 ≤ d) (hd : decode cc pc = .ok (.invokestatic 234, 3)) (hW : (st.map fun v => v.category).sum ≤ 8) (hV : wp_X0_cut σ a1 Ret) (k : ∀ r σ', Ret r σ' → zz C E NS nL σ' (pc + 3) L (.int r :: st)) : zz C E NS nL σ pc L (.ref (E.1.heap.size + 1238) :: .int a1 :: .ref (E.1.heap.size + 0) :: st) :=
  z_callSG hC cw_X0_cut hdd (by decide) (mz_X0_cut (cxE hC) hV) hd q1534 q1535 (np := 3) rfl rfl hW rfl (kI k)
theorem cw_X4_cut : CodeW yX4_cut (ws_ yX4_cut cX4_cut 7 (some .int)) 7 := ⟨fun w h => (List.mem_cons.mp h).elim (fun e => e ▸ q2166) id, Or.inl ⟨_, _, q2166⟩, q138, by decide, by decide⟩
theorem c_X0_236 {C : ZC} {E : ZE} {cc : ByteArray} {nL pc d : Nat} {nm : String} {ret : Option FieldType} {hh : List (Nat × Nat × Nat × Nat)} {σ : ZS} {L : List (Option Value)} {st : List Value} {a1 : Int32} {Ret : Int32 → ZS → Prop} (hC : Cx C E cc nL "RightTurnsLaw" nm ret hh d) (hdd : 7 + 1 ≤ d) (hd : decode cc pc = .ok (.invokevirtual 236, 3)) (hW : (st.map fun v => v.category).sum ≤ 8) (hV : wp_X4_cut σ a1 Ret) (k : ∀ r σ', Ret r σ' → zz C E NS nL σ' (pc + 3) L (.int r :: st)) : zz C E NS nL σ pc L (.int a1 :: .ref (E.1.heap.size + 44) :: st) :=
  z_callVG hC cf3 cw_X4_cut hdd (by decide) (mz_X4_cut (cxE hC) hV) hd (k_44 σ) q2163 q2164 q2165 (np := 1) rfl rfl hW rfl (kI k)
theorem cw_X0_sure : CodeW yX0_sure (wsW_ yX0_sure cX0_sure 5 (some .int) [(0, 10, 13, 13)]) 5 := ⟨fun w h => (List.mem_cons.mp h).elim (fun e => e ▸ q1547) id, Or.inr ⟨_, _, _, q1547⟩, q115, by decide, by decide⟩
theorem c_X0_237 {C : ZC} {E : ZE} {cc : ByteArray} {nL pc d : Nat} {nm : String} {ret : Option FieldType} {hh : List (Nat × Nat × Nat × Nat)} {σ : ZS} {L : List (Option Value)} {st : List Value} {a1 : Int32} {a2 : Int32} {Ret : Int32 → ZS → Prop} (hC : Cx C E cc nL "RightTurnsLaw" nm ret hh d) (hdd : 11 + 1 ≤ d) (hd : decode cc pc = .ok (.invokestatic 237, 3)) (hW : (st.map fun v => v.category).sum ≤ 8) (hV : wp_X0_sure σ a1 a2 Ret) (k : ∀ r σ', Ret r σ' → zz C E NS nL σ' (pc + 3) L (.int r :: st)) : zz C E NS nL σ pc L (.ref (E.1.heap.size + 1238) :: .int a2 :: .int a1 :: .ref (E.1.heap.size + 0) :: st) :=
  z_callSG hC cw_X0_sure hdd (by decide) (mz_X0_sure (cxE hC) hV) hd q1545 q1546 (np := 4) rfl rfl hW rfl (kI k)
theorem cw_X4_sure : CodeW yX4_sure (ws_ yX4_sure cX4_sure 7 (some .int)) 7 := ⟨fun w h => (List.mem_cons.mp h).elim (fun e => e ▸ q2162) id, Or.inl ⟨_, _, q2162⟩, q138, by decide, by decide⟩
theorem c_X0_239 {C : ZC} {E : ZE} {cc : ByteArray} {nL pc d : Nat} {nm : String} {ret : Option FieldType} {hh : List (Nat × Nat × Nat × Nat)} {σ : ZS} {L : List (Option Value)} {st : List Value} {a1 : Int32} {a2 : Int32} {Ret : Int32 → ZS → Prop} (hC : Cx C E cc nL "RightTurnsLaw" nm ret hh d) (hdd : 7 + 1 ≤ d) (hd : decode cc pc = .ok (.invokevirtual 239, 3)) (hW : (st.map fun v => v.category).sum ≤ 8) (hV : wp_X4_sure σ a1 a2 Ret) (k : ∀ r σ', Ret r σ' → zz C E NS nL σ' (pc + 3) L (.int r :: st)) : zz C E NS nL σ pc L (.int a2 :: .int a1 :: .ref (E.1.heap.size + 44) :: st) :=
  z_callVG hC cf3 cw_X4_sure hdd (by decide) (mz_X4_sure (cxE hC) hV) hd (k_44 σ) q2159 q2160 q2161 (np := 2) rfl rfl hW rfl (kI k)
theorem cw_X0_detour : CodeW yX0_detour (wsW_ yX0_detour cX0_detour 6 (some .int) [(0, 12, 15, 49), (0, 12, 19, 13)]) 6 := ⟨fun w h => (List.mem_cons.mp h).elim (fun e => e ▸ q1554) id, Or.inr ⟨_, _, _, q1554⟩, q115, by decide, by decide⟩
theorem c_X0_240 {C : ZC} {E : ZE} {cc : ByteArray} {nL pc d : Nat} {nm : String} {ret : Option FieldType} {hh : List (Nat × Nat × Nat × Nat)} {σ : ZS} {L : List (Option Value)} {st : List Value} {a1 : Int32} {a2 : Int32} {a3 : Int32} {Ret : Int32 → ZS → Prop} (hC : Cx C E cc nL "RightTurnsLaw" nm ret hh d) (hdd : 11 + 1 ≤ d) (hd : decode cc pc = .ok (.invokestatic 240, 3)) (hW : (st.map fun v => v.category).sum ≤ 8) (hV : wp_X0_detour σ a1 a2 a3 Ret) (k : ∀ r σ', Ret r σ' → zz C E NS nL σ' (pc + 3) L (.int r :: st)) : zz C E NS nL σ pc L (.ref (E.1.heap.size + 1238) :: .int a3 :: .int a2 :: .int a1 :: .ref (E.1.heap.size + 0) :: st) :=
  z_callSG hC cw_X0_detour hdd (by decide) (mz_X0_detour (cxE hC) hV) hd q1552 q1553 (np := 5) rfl rfl hW rfl (kI k)
theorem cw_X4_detour : CodeW yX4_detour (ws_ yX4_detour cX4_detour 7 (some .int)) 7 := ⟨fun w h => (List.mem_cons.mp h).elim (fun e => e ▸ q2170) id, Or.inl ⟨_, _, q2170⟩, q138, by decide, by decide⟩
theorem c_X0_242 {C : ZC} {E : ZE} {cc : ByteArray} {nL pc d : Nat} {nm : String} {ret : Option FieldType} {hh : List (Nat × Nat × Nat × Nat)} {σ : ZS} {L : List (Option Value)} {st : List Value} {a1 : Int32} {a2 : Int32} {a3 : Int32} {Ret : Int32 → ZS → Prop} (hC : Cx C E cc nL "RightTurnsLaw" nm ret hh d) (hdd : 7 + 1 ≤ d) (hd : decode cc pc = .ok (.invokevirtual 242, 3)) (hW : (st.map fun v => v.category).sum ≤ 8) (hV : wp_X4_detour σ a1 a2 a3 Ret) (k : ∀ r σ', Ret r σ' → zz C E NS nL σ' (pc + 3) L (.int r :: st)) : zz C E NS nL σ pc L (.int a3 :: .int a2 :: .int a1 :: .ref (E.1.heap.size + 44) :: st) :=
  z_callVG hC cf3 cw_X4_detour hdd (by decide) (mz_X4_detour (cxE hC) hV) hd (k_44 σ) q2167 q2168 q2169 (np := 3) rfl rfl hW rfl (kI k)
theorem cw_X0_gain : CodeW yX0_gain (wsW_ yX0_gain cX0_gain 5 (some .int) [(0, 10, 13, 13)]) 5 := ⟨fun w h => (List.mem_cons.mp h).elim (fun e => e ▸ q1561) id, Or.inr ⟨_, _, _, q1561⟩, q115, by decide, by decide⟩
theorem c_X0_243 {C : ZC} {E : ZE} {cc : ByteArray} {nL pc d : Nat} {nm : String} {ret : Option FieldType} {hh : List (Nat × Nat × Nat × Nat)} {σ : ZS} {L : List (Option Value)} {st : List Value} {a1 : Int32} {a2 : Int32} {Ret : Int32 → ZS → Prop} (hC : Cx C E cc nL "RightTurnsLaw" nm ret hh d) (hdd : 12 + 1 ≤ d) (hd : decode cc pc = .ok (.invokestatic 243, 3)) (hW : (st.map fun v => v.category).sum ≤ 8) (hV : wp_X0_gain σ a1 a2 Ret) (k : ∀ r σ', Ret r σ' → zz C E NS nL σ' (pc + 3) L (.int r :: st)) : zz C E NS nL σ pc L (.ref (E.1.heap.size + 1238) :: .int a2 :: .int a1 :: .ref (E.1.heap.size + 0) :: st) :=
  z_callSG hC cw_X0_gain hdd (by decide) (mz_X0_gain (cxE hC) hV) hd q1559 q1560 (np := 4) rfl rfl hW rfl (kI k)
theorem cw_X4_gain : CodeW yX4_gain (ws_ yX4_gain cX4_gain 7 (some .int)) 7 := ⟨fun w h => (List.mem_cons.mp h).elim (fun e => e ▸ q2174) id, Or.inl ⟨_, _, q2174⟩, q138, by decide, by decide⟩
theorem c_X0_245 {C : ZC} {E : ZE} {cc : ByteArray} {nL pc d : Nat} {nm : String} {ret : Option FieldType} {hh : List (Nat × Nat × Nat × Nat)} {σ : ZS} {L : List (Option Value)} {st : List Value} {a1 : Int32} {a2 : Int32} {Ret : Int32 → ZS → Prop} (hC : Cx C E cc nL "RightTurnsLaw" nm ret hh d) (hdd : 7 + 1 ≤ d) (hd : decode cc pc = .ok (.invokevirtual 245, 3)) (hW : (st.map fun v => v.category).sum ≤ 8) (hV : wp_X4_gain σ a1 a2 Ret) (k : ∀ r σ', Ret r σ' → zz C E NS nL σ' (pc + 3) L (.int r :: st)) : zz C E NS nL σ pc L (.int a2 :: .int a1 :: .ref (E.1.heap.size + 44) :: st) :=
  z_callVG hC cf3 cw_X4_gain hdd (by decide) (mz_X4_gain (cxE hC) hV) hd (k_44 σ) q2171 q2172 q2173 (np := 2) rfl rfl hW rfl (kI k)
theorem cw_X0_baker : CodeW yX0_baker (wsW_ yX0_baker cX0_baker 5 (some .int) [(0, 10, 13, 13)]) 5 := ⟨fun w h => (List.mem_cons.mp h).elim (fun e => e ▸ q1572) id, Or.inr ⟨_, _, _, q1572⟩, q115, by decide, by decide⟩
theorem c_X0_246 {C : ZC} {E : ZE} {cc : ByteArray} {nL pc d : Nat} {nm : String} {ret : Option FieldType} {hh : List (Nat × Nat × Nat × Nat)} {σ : ZS} {L : List (Option Value)} {st : List Value} {a1 : Int32} {a2 : Int32} {Ret : Int32 → ZS → Prop} (hC : Cx C E cc nL "RightTurnsLaw" nm ret hh d) (hdd : 12 + 1 ≤ d) (hd : decode cc pc = .ok (.invokestatic 246, 3)) (hW : (st.map fun v => v.category).sum ≤ 8) (hV : wp_X0_baker σ a1 a2 Ret) (k : ∀ r σ', Ret r σ' → zz C E NS nL σ' (pc + 3) L (.int r :: st)) : zz C E NS nL σ pc L (.ref (E.1.heap.size + 1238) :: .int a2 :: .int a1 :: .ref (E.1.heap.size + 0) :: st) :=
  z_callSG hC cw_X0_baker hdd (by decide) (mz_X0_baker (cxE hC) hV) hd q1570 q1571 (np := 4) rfl rfl hW rfl (kI k)
theorem cw_X4_baker : CodeW yX4_baker (ws_ yX4_baker cX4_baker 9 (some .int)) 9 := ⟨fun w h => (List.mem_cons.mp h).elim (fun e => e ▸ q2182) id, Or.inl ⟨_, _, q2182⟩, q138, by decide, by decide⟩
theorem c_X0_248 {C : ZC} {E : ZE} {cc : ByteArray} {nL pc d : Nat} {nm : String} {ret : Option FieldType} {hh : List (Nat × Nat × Nat × Nat)} {σ : ZS} {L : List (Option Value)} {st : List Value} {a1 : Int32} {a2 : Int32} {Ret : Int32 → ZS → Prop} (hC : Cx C E cc nL "RightTurnsLaw" nm ret hh d) (hdd : 7 + 1 ≤ d) (hd : decode cc pc = .ok (.invokevirtual 248, 3)) (hW : (st.map fun v => v.category).sum ≤ 8) (hV : wp_X4_baker σ a1 a2 Ret) (k : ∀ r σ', Ret r σ' → zz C E NS nL σ' (pc + 3) L (.int r :: st)) : zz C E NS nL σ pc L (.int a2 :: .int a1 :: .ref (E.1.heap.size + 44) :: st) :=
  z_callVG hC cf3 cw_X4_baker hdd (by decide) (mz_X4_baker (cxE hC) hV) hd (k_44 σ) q2179 q2180 q2181 (np := 2) rfl rfl hW rfl (kI k)
theorem cw_X1_image : CodeW yX1_image (ws_ yX1_image cX1_image 1 (some .int)) 1 := ⟨fun w h => (List.mem_cons.mp h).elim (fun e => e ▸ q727) id, Or.inl ⟨_, _, q727⟩, q116, by decide, by decide⟩
theorem c_X0_249 {C : ZC} {E : ZE} {cc : ByteArray} {nL pc d : Nat} {nm : String} {ret : Option FieldType} {hh : List (Nat × Nat × Nat × Nat)} {σ : ZS} {L : List (Option Value)} {st : List Value} {Ret : Int32 → ZS → Prop} (hC : Cx C E cc nL "RightTurnsLaw" nm ret hh d) (hdd : 3 + 1 ≤ d) (hd : decode cc pc = .ok (.invokevirtual 249, 3)) (hW : (st.map fun v => v.category).sum ≤ 8) (hV : wp_X1_image σ Ret) (k : ∀ r σ', Ret r σ' → zz C E NS nL σ' (pc + 3) L (.int r :: st)) : zz C E NS nL σ pc L (.ref (E.1.heap.size + 0) :: st) :=
  z_callVG hC cf0 cw_X1_image hdd (by decide) (mz_X1_image (cxE hC) hV) hd (k_0 σ) q724 q725 q726 (np := 0) rfl rfl hW rfl (kI k)
theorem cw_X4_image : CodeW yX4_image (ws_ yX4_image cX4_image 1 (some .int)) 1 := ⟨fun w h => (List.mem_cons.mp h).elim (fun e => e ▸ q2186) id, Or.inl ⟨_, _, q2186⟩, q138, by decide, by decide⟩
theorem c_X0_252 {C : ZC} {E : ZE} {cc : ByteArray} {nL pc d : Nat} {nm : String} {ret : Option FieldType} {hh : List (Nat × Nat × Nat × Nat)} {σ : ZS} {L : List (Option Value)} {st : List Value} {Ret : Int32 → ZS → Prop} (hC : Cx C E cc nL "RightTurnsLaw" nm ret hh d) (hdd : 3 + 1 ≤ d) (hd : decode cc pc = .ok (.invokevirtual 252, 3)) (hW : (st.map fun v => v.category).sum ≤ 8) (hV : wp_X4_image σ Ret) (k : ∀ r σ', Ret r σ' → zz C E NS nL σ' (pc + 3) L (.int r :: st)) : zz C E NS nL σ pc L (.ref (E.1.heap.size + 44) :: st) :=
  z_callVG hC cf3 cw_X4_image hdd (by decide) (mz_X4_image (cxE hC) hV) hd (k_44 σ) q2183 q2184 q2185 (np := 0) rfl rfl hW rfl (kI k)
theorem cw_X1_restore : CodeW yX1_restore (ws_ yX1_restore cX1_restore 1 (some .int)) 1 := ⟨fun w h => (List.mem_cons.mp h).elim (fun e => e ▸ q736) id, Or.inl ⟨_, _, q736⟩, q116, by decide, by decide⟩
theorem c_X0_253 {C : ZC} {E : ZE} {cc : ByteArray} {nL pc d : Nat} {nm : String} {ret : Option FieldType} {hh : List (Nat × Nat × Nat × Nat)} {σ : ZS} {L : List (Option Value)} {st : List Value} {Ret : Int32 → ZS → Prop} (hC : Cx C E cc nL "RightTurnsLaw" nm ret hh d) (hdd : 3 + 1 ≤ d) (hd : decode cc pc = .ok (.invokevirtual 253, 3)) (hW : (st.map fun v => v.category).sum ≤ 8) (hV : wp_X1_restore σ Ret) (k : ∀ r σ', Ret r σ' → zz C E NS nL σ' (pc + 3) L (.int r :: st)) : zz C E NS nL σ pc L (.ref (E.1.heap.size + 0) :: st) :=
  z_callVG hC cf0 cw_X1_restore hdd (by decide) (mz_X1_restore (cxE hC) hV) hd (k_0 σ) q733 q734 q735 (np := 0) rfl rfl hW rfl (kI k)
theorem cw_X4_restore : CodeW yX4_restore (ws_ yX4_restore cX4_restore 1 (some .int)) 1 := ⟨fun w h => (List.mem_cons.mp h).elim (fun e => e ▸ q2198) id, Or.inl ⟨_, _, q2198⟩, q138, by decide, by decide⟩
theorem c_X0_256 {C : ZC} {E : ZE} {cc : ByteArray} {nL pc d : Nat} {nm : String} {ret : Option FieldType} {hh : List (Nat × Nat × Nat × Nat)} {σ : ZS} {L : List (Option Value)} {st : List Value} {Ret : Int32 → ZS → Prop} (hC : Cx C E cc nL "RightTurnsLaw" nm ret hh d) (hdd : 3 + 1 ≤ d) (hd : decode cc pc = .ok (.invokevirtual 256, 3)) (hW : (st.map fun v => v.category).sum ≤ 8) (hV : wp_X4_restore σ Ret) (k : ∀ r σ', Ret r σ' → zz C E NS nL σ' (pc + 3) L (.int r :: st)) : zz C E NS nL σ pc L (.ref (E.1.heap.size + 44) :: st) :=
  z_callVG hC cf3 cw_X4_restore hdd (by decide) (mz_X4_restore (cxE hC) hV) hd (k_44 σ) q2195 q2196 q2197 (np := 0) rfl rfl hW rfl (kI k)
theorem cw_X1_count : CodeW yX1_count (ws_ yX1_count cX1_count 2 (some .int)) 2 := ⟨fun w h => (List.mem_cons.mp h).elim (fun e => e ▸ q740) id, Or.inl ⟨_, _, q740⟩, q116, by decide, by decide⟩
theorem c_X0_257 {C : ZC} {E : ZE} {cc : ByteArray} {nL pc d : Nat} {nm : String} {ret : Option FieldType} {hh : List (Nat × Nat × Nat × Nat)} {σ : ZS} {L : List (Option Value)} {st : List Value} {a1 : Int32} {Ret : Int32 → ZS → Prop} (hC : Cx C E cc nL "RightTurnsLaw" nm ret hh d) (hdd : 1 + 1 ≤ d) (hd : decode cc pc = .ok (.invokevirtual 257, 3)) (hW : (st.map fun v => v.category).sum ≤ 8) (hV : wp_X1_count σ a1 Ret) (k : ∀ r σ', Ret r σ' → zz C E NS nL σ' (pc + 3) L (.int r :: st)) : zz C E NS nL σ pc L (.int a1 :: .ref (E.1.heap.size + 0) :: st) :=
  z_callVG hC cf0 cw_X1_count hdd (by decide) (mz_X1_count (cxE hC) hV) hd (k_0 σ) q737 q738 q739 (np := 1) rfl rfl hW rfl (kI k)
theorem cw_X4_count : CodeW yX4_count (ws_ yX4_count cX4_count 2 (some .int)) 2 := ⟨fun w h => (List.mem_cons.mp h).elim (fun e => e ▸ q2202) id, Or.inl ⟨_, _, q2202⟩, q138, by decide, by decide⟩
theorem c_X0_260 {C : ZC} {E : ZE} {cc : ByteArray} {nL pc d : Nat} {nm : String} {ret : Option FieldType} {hh : List (Nat × Nat × Nat × Nat)} {σ : ZS} {L : List (Option Value)} {st : List Value} {a1 : Int32} {Ret : Int32 → ZS → Prop} (hC : Cx C E cc nL "RightTurnsLaw" nm ret hh d) (hdd : 1 + 1 ≤ d) (hd : decode cc pc = .ok (.invokevirtual 260, 3)) (hW : (st.map fun v => v.category).sum ≤ 8) (hV : wp_X4_count σ a1 Ret) (k : ∀ r σ', Ret r σ' → zz C E NS nL σ' (pc + 3) L (.int r :: st)) : zz C E NS nL σ pc L (.int a1 :: .ref (E.1.heap.size + 44) :: st) :=
  z_callVG hC cf3 cw_X4_count hdd (by decide) (mz_X4_count (cxE hC) hV) hd (k_44 σ) q2199 q2200 q2201 (np := 1) rfl rfl hW rfl (kI k)
def V_X0_law_624 (K23 : ZS → Int32 → Prop) (w0 : List Int32) (Ret : Int32 → ZS → Prop) (σ : ZS) (x4 : Int32) (s0 : Int64) (s1 : Int64) : Prop :=
    (((lg_cmp s1 s0) = 0 → (∀ y79 : Int32, y79 = x4 + 6 → (K23 σ y79))) ∧ (¬ (lg_cmp s1 s0) = 0 → (Ret 0 σ)))
def V_X0_law_693 (K23 : ZS → Int32 → Prop) (w0 : List Int32) (Ret : Int32 → ZS → Prop) (σ : ZS) (x4 : Int32) (x5 : Int32) (s0 : Int32) (s1 : Int32) (s2 : Int32) : Prop :=
    wp_X4_sign σ s2 s1 s0 (fun r88 σ89 => wp_X4_thrown σ89 (fun r90 σ91 => ((r90 = x5 → (((x5 = 0 → ((((lg_cmp (zJ σ91 1238 (ix 0)) r88.toInt64) = 0 → (∀ y93 : Int32, y93 = x4 + 6 → (K23 σ91 y93))) ∧ (¬ (lg_cmp (zJ σ91 1238 (ix 0)) r88.toInt64) = 0 → (Ret 0 σ91))))) ∧ (¬ x5 = 0 → (∀ y92 : Int32, y92 = x4 + 6 → (K23 σ91 y92)))))) ∧ (¬ r90 = x5 → (Ret 0 σ91)))))
def V_X0_law_660 (K23 : ZS → Int32 → Prop) (w0 : List Int32) (Ret : Int32 → ZS → Prop) (σ : ZS) (x4 : Int32) (s0 : Int32) (s1 : Int32) (s2 : Int32) : Prop :=
    wp_X0_sign σ s2 s1 s0 (fun r83 σ84 => vp_in (x4 + 1) w0.length ∧ (vp_in (x4 + 2) w0.length ∧ (vp_in (x4 + 3) w0.length ∧ ((((w0.getD (ix (x4 + 3)) 0) = 0 → (V_X0_law_693 K23 w0 Ret σ84 x4 r83 0 (w0.getD (ix (x4 + 2)) 0) (w0.getD (ix (x4 + 1)) 0))) ∧ (¬ (w0.getD (ix (x4 + 3)) 0) = 0 → (V_X0_law_693 K23 w0 Ret σ84 x4 r83 1 (w0.getD (ix (x4 + 2)) 0) (w0.getD (ix (x4 + 1)) 0))))))))
def V_X0_law_789 (K23 : ZS → Int32 → Prop) (w0 : List Int32) (Ret : Int32 → ZS → Prop) (σ : ZS) (x4 : Int32) (x5 : Int32) (s0 : Int32) (s1 : Int32) (s2 : Int32) : Prop :=
    wp_X4_allow σ s2 s1 s0 (fun r102 σ103 => wp_X4_thrown σ103 (fun r104 σ105 => ((r104 = x5 → (((x5 = 0 → ((((lg_cmp (zJ σ105 1238 (ix 0)) r102.toInt64) = 0 → (∀ y107 : Int32, y107 = x4 + 6 → (K23 σ105 y107))) ∧ (¬ (lg_cmp (zJ σ105 1238 (ix 0)) r102.toInt64) = 0 → (Ret 0 σ105))))) ∧ (¬ x5 = 0 → (∀ y106 : Int32, y106 = x4 + 6 → (K23 σ105 y106)))))) ∧ (¬ r104 = x5 → (Ret 0 σ105)))))
def V_X0_law_756 (K23 : ZS → Int32 → Prop) (w0 : List Int32) (Ret : Int32 → ZS → Prop) (σ : ZS) (x4 : Int32) (s0 : Int32) (s1 : Int32) (s2 : Int32) : Prop :=
    wp_X0_allow σ s2 s1 s0 (fun r97 σ98 => vp_in (x4 + 1) w0.length ∧ (vp_in (x4 + 2) w0.length ∧ (vp_in (x4 + 3) w0.length ∧ ((((w0.getD (ix (x4 + 3)) 0) = 0 → (V_X0_law_789 K23 w0 Ret σ98 x4 r97 0 (w0.getD (ix (x4 + 2)) 0) (w0.getD (ix (x4 + 1)) 0))) ∧ (¬ (w0.getD (ix (x4 + 3)) 0) = 0 → (V_X0_law_789 K23 w0 Ret σ98 x4 r97 1 (w0.getD (ix (x4 + 2)) 0) (w0.getD (ix (x4 + 1)) 0))))))))
def V_X0_law_971 (K23 : ZS → Int32 → Prop) (w0 : List Int32) (Ret : Int32 → ZS → Prop) (σ : ZS) (x4 : Int32) (s0 : Int64) (s1 : Int64) : Prop :=
    (((lg_cmp s1 s0) = 0 → (∀ y133 : Int32, y133 = x4 + 6 → (K23 σ y133))) ∧ (¬ (lg_cmp s1 s0) = 0 → (Ret 0 σ)))
def V_X0_law_1378 (K23 : ZS → Int32 → Prop) (w0 : List Int32) (Ret : Int32 → ZS → Prop) (σ : ZS) (x4 : Int32) (s0 : Int64) (s1 : Int64) : Prop :=
    (((lg_cmp s1 s0) = 0 → (∀ y203 : Int32, y203 = x4 + 6 → (K23 σ y203))) ∧ (¬ (lg_cmp s1 s0) = 0 → (Ret 0 σ)))
def V_X0_law_1527 (K23 : ZS → Int32 → Prop) (w0 : List Int32) (Ret : Int32 → ZS → Prop) (σ : ZS) (x4 : Int32) (x5 : Int32) (s0 : Int32) (s1 : Int32) (s2 : Int32) (s3 : Int32) : Prop :=
    wp_X4_since σ s3 s2 s1 s0 (fun r226 σ227 => wp_X4_thrown σ227 (fun r228 σ229 => ((r228 = x5 → (((x5 = 0 → ((((lg_cmp (zJ σ229 1238 (ix 0)) r226.toInt64) = 0 → (∀ y231 : Int32, y231 = x4 + 6 → (K23 σ229 y231))) ∧ (¬ (lg_cmp (zJ σ229 1238 (ix 0)) r226.toInt64) = 0 → (Ret 0 σ229))))) ∧ (¬ x5 = 0 → (∀ y230 : Int32, y230 = x4 + 6 → (K23 σ229 y230)))))) ∧ (¬ r228 = x5 → (Ret 0 σ229)))))
def V_X0_law_1488 (K23 : ZS → Int32 → Prop) (w0 : List Int32) (Ret : Int32 → ZS → Prop) (σ : ZS) (x4 : Int32) (s0 : Int32) (s1 : Int32) (s2 : Int32) (s3 : Int32) : Prop :=
    wp_X0_since σ s3 s2 s1 s0 (fun r220 σ221 => vp_in (x4 + 1) w0.length ∧ (vp_in (x4 + 2) w0.length ∧ (vp_in (x4 + 3) w0.length ∧ (vp_in (x4 + 4) w0.length ∧ ((((w0.getD (ix (x4 + 4)) 0) = 0 → (V_X0_law_1527 K23 w0 Ret σ221 x4 r220 0 (w0.getD (ix (x4 + 3)) 0) (w0.getD (ix (x4 + 2)) 0) (w0.getD (ix (x4 + 1)) 0))) ∧ (¬ (w0.getD (ix (x4 + 4)) 0) = 0 → (V_X0_law_1527 K23 w0 Ret σ221 x4 r220 1 (w0.getD (ix (x4 + 3)) 0) (w0.getD (ix (x4 + 2)) 0) (w0.getD (ix (x4 + 1)) 0)))))))))
def VL_X0_law_23 (w0 : List Int32) (Ret : Int32 → ZS → Prop) : Nat → ZS → Int32 → Prop
  | 0 => fun _ _ => False
  | k + 1 => fun σ x4 =>
    let K23 := VL_X0_law_23 w0 Ret k
    ((((Int32.ofNat w0.length) - 6) < x4 → (Ret 1 σ)) ∧ (¬ ((Int32.ofNat w0.length) - 6) < x4 → (vp_in x4 w0.length ∧ (((((w0.getD (ix x4) 0) &&& 63) = 0 → (vp_in (x4 + 1) w0.length ∧ (vp_in (x4 + 2) w0.length ∧ (vp_in (x4 + 3) w0.length ∧ (vp_in (x4 + 4) w0.length ∧ (vp_in (x4 + 5) w0.length ∧ (wp_X1_feed σ (w0.getD (ix (x4 + 1)) 0) (w0.getD (ix (x4 + 2)) 0) (w0.getD (ix (x4 + 3)) 0) (w0.getD (ix (x4 + 4)) 0) (w0.getD (ix (x4 + 5)) 0) (fun r7 σ8 => vp_in (x4 + 1) w0.length ∧ (vp_in (x4 + 2) w0.length ∧ (vp_in (x4 + 3) w0.length ∧ (vp_in (x4 + 4) w0.length ∧ (vp_in (x4 + 5) w0.length ∧ (wp_X4_feed σ8 (w0.getD (ix (x4 + 1)) 0) (w0.getD (ix (x4 + 2)) 0) (w0.getD (ix (x4 + 3)) 0) (w0.getD (ix (x4 + 4)) 0) (w0.getD (ix (x4 + 5)) 0) (fun r14 σ15 => ((r7 = r14 → (∀ y16 : Int32, y16 = x4 + 6 → (K23 σ15 y16))) ∧ (¬ r7 = r14 → (Ret 0 σ15))))))))))))))))) ∧ (¬ ((w0.getD (ix x4) 0) &&& 63) = 0 → (((((w0.getD (ix x4) 0) &&& 63) = 1 → (vp_in (x4 + 1) w0.length ∧ (wp_X0_town σ (w0.getD (ix (x4 + 1)) 0) (fun r18 σ19 => vp_in (x4 + 1) w0.length ∧ (wp_X4_town σ19 (w0.getD (ix (x4 + 1)) 0) (fun r21 σ22 => wp_X4_thrown σ22 (fun r23 σ24 => ((r23 = r18 → (((r18 = 0 → ((((lg_cmp (zJ σ24 1238 (ix 0)) r21.toInt64) = 0 → (∀ y26 : Int32, y26 = x4 + 6 → (K23 σ24 y26))) ∧ (¬ (lg_cmp (zJ σ24 1238 (ix 0)) r21.toInt64) = 0 → (Ret 0 σ24))))) ∧ (¬ r18 = 0 → (∀ y25 : Int32, y25 = x4 + 6 → (K23 σ24 y25)))))) ∧ (¬ r23 = r18 → (Ret 0 σ24)))))))))) ∧ (¬ ((w0.getD (ix x4) 0) &&& 63) = 1 → (((((w0.getD (ix x4) 0) &&& 63) = 2 → (wp_X1_fault σ (fun r27 σ28 => wp_X4_fault σ28 (fun r29 σ30 => ((r27 = r29 → (∀ y31 : Int32, y31 = x4 + 6 → (K23 σ30 y31))) ∧ (¬ r27 = r29 → (Ret 0 σ30))))))) ∧ (¬ ((w0.getD (ix x4) 0) &&& 63) = 2 → (((((w0.getD (ix x4) 0) &&& 63) = 3 → (vp_in (x4 + 1) w0.length ∧ (wp_X0_told σ (w0.getD (ix (x4 + 1)) 0) (fun r33 σ34 => vp_in (x4 + 1) w0.length ∧ (wp_X4_told σ34 (w0.getD (ix (x4 + 1)) 0) (fun r36 σ37 => wp_X4_thrown σ37 (fun r38 σ39 => ((r38 = r33 → (((r33 = 0 → ((((lg_cmp (zJ σ39 1238 (ix 0)) r36.toInt64) = 0 → (∀ y41 : Int32, y41 = x4 + 6 → (K23 σ39 y41))) ∧ (¬ (lg_cmp (zJ σ39 1238 (ix 0)) r36.toInt64) = 0 → (Ret 0 σ39))))) ∧ (¬ r33 = 0 → (∀ y40 : Int32, y40 = x4 + 6 → (K23 σ39 y40)))))) ∧ (¬ r38 = r33 → (Ret 0 σ39)))))))))) ∧ (¬ ((w0.getD (ix x4) 0) &&& 63) = 3 → (((((w0.getD (ix x4) 0) &&& 63) = 4 → (vp_in (x4 + 1) w0.length ∧ (vp_in (x4 + 2) w0.length ∧ (wp_X0_street σ (w0.getD (ix (x4 + 1)) 0) (w0.getD (ix (x4 + 2)) 0) (fun r44 σ45 => vp_in (x4 + 1) w0.length ∧ (vp_in (x4 + 2) w0.length ∧ (wp_X4_street σ45 (w0.getD (ix (x4 + 1)) 0) (w0.getD (ix (x4 + 2)) 0) (fun r48 σ49 => wp_X4_thrown σ49 (fun r50 σ51 => ((r50 = r44 → (((r44 = 0 → ((((lg_cmp (zJ σ51 1238 (ix 0)) r48.toInt64) = 0 → (∀ y53 : Int32, y53 = x4 + 6 → (K23 σ51 y53))) ∧ (¬ (lg_cmp (zJ σ51 1238 (ix 0)) r48.toInt64) = 0 → (Ret 0 σ51))))) ∧ (¬ r44 = 0 → (∀ y52 : Int32, y52 = x4 + 6 → (K23 σ51 y52)))))) ∧ (¬ r50 = r44 → (Ret 0 σ51)))))))))))) ∧ (¬ ((w0.getD (ix x4) 0) &&& 63) = 4 → (((((w0.getD (ix x4) 0) &&& 63) = 5 → (vp_in (x4 + 1) w0.length ∧ (vp_in (x4 + 2) w0.length ∧ (wp_X0_turn σ (w0.getD (ix (x4 + 1)) 0) (w0.getD (ix (x4 + 2)) 0) (fun r56 σ57 => vp_in (x4 + 1) w0.length ∧ (vp_in (x4 + 2) w0.length ∧ (wp_X4_turn σ57 (w0.getD (ix (x4 + 1)) 0) (w0.getD (ix (x4 + 2)) 0) (fun r60 σ61 => wp_X4_thrown σ61 (fun r62 σ63 => ((r62 = r56 → (((r56 = 0 → ((((lg_cmp (zJ σ63 1238 (ix 0)) r60.toInt64) = 0 → (∀ y65 : Int32, y65 = x4 + 6 → (K23 σ63 y65))) ∧ (¬ (lg_cmp (zJ σ63 1238 (ix 0)) r60.toInt64) = 0 → (Ret 0 σ63))))) ∧ (¬ r56 = 0 → (∀ y64 : Int32, y64 = x4 + 6 → (K23 σ63 y64)))))) ∧ (¬ r62 = r56 → (Ret 0 σ63)))))))))))) ∧ (¬ ((w0.getD (ix x4) 0) &&& 63) = 5 → (((((w0.getD (ix x4) 0) &&& 63) = 6 → (vp_in (x4 + 1) w0.length ∧ (vp_in (x4 + 2) w0.length ∧ (vp_in (x4 + 3) w0.length ∧ (wp_X0_may σ (w0.getD (ix (x4 + 1)) 0) (w0.getD (ix (x4 + 2)) 0) (w0.getD (ix (x4 + 3)) 0) (fun r69 σ70 => vp_in (x4 + 1) w0.length ∧ (vp_in (x4 + 2) w0.length ∧ (vp_in (x4 + 3) w0.length ∧ (wp_X4_may σ70 (w0.getD (ix (x4 + 1)) 0) (w0.getD (ix (x4 + 2)) 0) (w0.getD (ix (x4 + 3)) 0) (fun r74 σ75 => wp_X4_thrown σ75 (fun r76 σ77 => ((r76 = r69 → (((r69 = 0 → (((r74 = 0 → (V_X0_law_624 K23 w0 Ret σ77 x4 0 (zJ σ77 1238 (ix 0)))) ∧ (¬ r74 = 0 → (V_X0_law_624 K23 w0 Ret σ77 x4 1 (zJ σ77 1238 (ix 0))))))) ∧ (¬ r69 = 0 → (∀ y78 : Int32, y78 = x4 + 6 → (K23 σ77 y78)))))) ∧ (¬ r76 = r69 → (Ret 0 σ77)))))))))))))) ∧ (¬ ((w0.getD (ix x4) 0) &&& 63) = 6 → (((((w0.getD (ix x4) 0) &&& 63) = 7 → (vp_in (x4 + 1) w0.length ∧ (vp_in (x4 + 2) w0.length ∧ (vp_in (x4 + 3) w0.length ∧ ((((w0.getD (ix (x4 + 3)) 0) = 0 → (V_X0_law_660 K23 w0 Ret σ x4 0 (w0.getD (ix (x4 + 2)) 0) (w0.getD (ix (x4 + 1)) 0))) ∧ (¬ (w0.getD (ix (x4 + 3)) 0) = 0 → (V_X0_law_660 K23 w0 Ret σ x4 1 (w0.getD (ix (x4 + 2)) 0) (w0.getD (ix (x4 + 1)) 0))))))))) ∧ (¬ ((w0.getD (ix x4) 0) &&& 63) = 7 → (((((w0.getD (ix x4) 0) &&& 63) = 8 → (vp_in (x4 + 1) w0.length ∧ (vp_in (x4 + 2) w0.length ∧ (vp_in (x4 + 3) w0.length ∧ ((((w0.getD (ix (x4 + 3)) 0) = 0 → (V_X0_law_756 K23 w0 Ret σ x4 0 (w0.getD (ix (x4 + 2)) 0) (w0.getD (ix (x4 + 1)) 0))) ∧ (¬ (w0.getD (ix (x4 + 3)) 0) = 0 → (V_X0_law_756 K23 w0 Ret σ x4 1 (w0.getD (ix (x4 + 2)) 0) (w0.getD (ix (x4 + 1)) 0))))))))) ∧ (¬ ((w0.getD (ix x4) 0) &&& 63) = 8 → (((((w0.getD (ix x4) 0) &&& 63) = 9 → (vp_in (x4 + 1) w0.length ∧ (wp_X0_back σ (w0.getD (ix (x4 + 1)) 0) (fun r109 σ110 => vp_in (x4 + 1) w0.length ∧ (wp_X4_back σ110 (w0.getD (ix (x4 + 1)) 0) (fun r112 σ113 => wp_X4_thrown σ113 (fun r114 σ115 => ((r114 = r109 → (((r109 = 0 → ((((lg_cmp (zJ σ115 1238 (ix 0)) r112.toInt64) = 0 → (∀ y117 : Int32, y117 = x4 + 6 → (K23 σ115 y117))) ∧ (¬ (lg_cmp (zJ σ115 1238 (ix 0)) r112.toInt64) = 0 → (Ret 0 σ115))))) ∧ (¬ r109 = 0 → (∀ y116 : Int32, y116 = x4 + 6 → (K23 σ115 y116)))))) ∧ (¬ r114 = r109 → (Ret 0 σ115)))))))))) ∧ (¬ ((w0.getD (ix x4) 0) &&& 63) = 9 → (((((w0.getD (ix x4) 0) &&& 63) = 10 → (vp_in (x4 + 1) w0.length ∧ (vp_in (x4 + 2) w0.length ∧ (vp_in (x4 + 3) w0.length ∧ (vp_in (x4 + 4) w0.length ∧ (wp_X0_stands σ (w0.getD (ix (x4 + 1)) 0) (w0.getD (ix (x4 + 2)) 0) (w0.getD (ix (x4 + 3)) 0) (w0.getD (ix (x4 + 4)) 0) (fun r122 σ123 => vp_in (x4 + 1) w0.length ∧ (vp_in (x4 + 2) w0.length ∧ (vp_in (x4 + 3) w0.length ∧ (vp_in (x4 + 4) w0.length ∧ (wp_X4_stands σ123 (w0.getD (ix (x4 + 1)) 0) (w0.getD (ix (x4 + 2)) 0) (w0.getD (ix (x4 + 3)) 0) (w0.getD (ix (x4 + 4)) 0) (fun r128 σ129 => wp_X4_thrown σ129 (fun r130 σ131 => ((r130 = r122 → (((r122 = 0 → (((r128 = 0 → (V_X0_law_971 K23 w0 Ret σ131 x4 0 (zJ σ131 1238 (ix 0)))) ∧ (¬ r128 = 0 → (V_X0_law_971 K23 w0 Ret σ131 x4 1 (zJ σ131 1238 (ix 0))))))) ∧ (¬ r122 = 0 → (∀ y132 : Int32, y132 = x4 + 6 → (K23 σ131 y132)))))) ∧ (¬ r130 = r122 → (Ret 0 σ131)))))))))))))))) ∧ (¬ ((w0.getD (ix x4) 0) &&& 63) = 10 → (((((w0.getD (ix x4) 0) &&& 63) = 11 → (vp_in (x4 + 1) w0.length ∧ (vp_in (x4 + 2) w0.length ∧ (vp_in (x4 + 3) w0.length ∧ (wp_X0_ride σ (w0.getD (ix (x4 + 1)) 0) (w0.getD (ix (x4 + 2)) 0) (w0.getD (ix (x4 + 3)) 0) (fun r137 σ138 => vp_in (x4 + 1) w0.length ∧ (vp_in (x4 + 2) w0.length ∧ (vp_in (x4 + 3) w0.length ∧ (wp_X4_ride σ138 (w0.getD (ix (x4 + 1)) 0) (w0.getD (ix (x4 + 2)) 0) (w0.getD (ix (x4 + 3)) 0) (fun r142 σ143 => wp_X4_thrown σ143 (fun r144 σ145 => ((r144 = r137 → (((r137 = 0 → ((((lg_cmp (zJ σ145 1238 (ix 0)) r142.toInt64) = 0 → (∀ y147 : Int32, y147 = x4 + 6 → (K23 σ145 y147))) ∧ (¬ (lg_cmp (zJ σ145 1238 (ix 0)) r142.toInt64) = 0 → (Ret 0 σ145))))) ∧ (¬ r137 = 0 → (∀ y146 : Int32, y146 = x4 + 6 → (K23 σ145 y146)))))) ∧ (¬ r144 = r137 → (Ret 0 σ145)))))))))))))) ∧ (¬ ((w0.getD (ix x4) 0) &&& 63) = 11 → (((((w0.getD (ix x4) 0) &&& 63) = 12 → (vp_in (x4 + 1) w0.length ∧ (vp_in (x4 + 2) w0.length ∧ (vp_in (x4 + 3) w0.length ∧ (vp_in (x4 + 4) w0.length ∧ (wp_X0_step σ (w0.getD (ix (x4 + 1)) 0) (w0.getD (ix (x4 + 2)) 0) (w0.getD (ix (x4 + 3)) 0) (w0.getD (ix (x4 + 4)) 0) (fun r152 σ153 => vp_in (x4 + 1) w0.length ∧ (vp_in (x4 + 2) w0.length ∧ (vp_in (x4 + 3) w0.length ∧ (vp_in (x4 + 4) w0.length ∧ (wp_X4_step σ153 (w0.getD (ix (x4 + 1)) 0) (w0.getD (ix (x4 + 2)) 0) (w0.getD (ix (x4 + 3)) 0) (w0.getD (ix (x4 + 4)) 0) (fun r158 σ159 => wp_X4_thrown σ159 (fun r160 σ161 => ((r160 = r152 → (((r152 = 0 → ((((lg_cmp (zJ σ161 1238 (ix 0)) r158.toInt64) = 0 → (∀ y163 : Int32, y163 = x4 + 6 → (K23 σ161 y163))) ∧ (¬ (lg_cmp (zJ σ161 1238 (ix 0)) r158.toInt64) = 0 → (Ret 0 σ161))))) ∧ (¬ r152 = 0 → (∀ y162 : Int32, y162 = x4 + 6 → (K23 σ161 y162)))))) ∧ (¬ r160 = r152 → (Ret 0 σ161)))))))))))))))) ∧ (¬ ((w0.getD (ix x4) 0) &&& 63) = 12 → (((((w0.getD (ix x4) 0) &&& 63) = 13 → (vp_in (x4 + 1) w0.length ∧ (vp_in (x4 + 2) w0.length ∧ (vp_in (x4 + 3) w0.length ∧ (wp_X0_reach σ (w0.getD (ix (x4 + 1)) 0) (w0.getD (ix (x4 + 2)) 0) (w0.getD (ix (x4 + 3)) 0) (fun r167 σ168 => vp_in (x4 + 1) w0.length ∧ (vp_in (x4 + 2) w0.length ∧ (vp_in (x4 + 3) w0.length ∧ (wp_X4_reach σ168 (w0.getD (ix (x4 + 1)) 0) (w0.getD (ix (x4 + 2)) 0) (w0.getD (ix (x4 + 3)) 0) (fun r172 σ173 => wp_X4_thrown σ173 (fun r174 σ175 => ((r174 = r167 → (((r167 = 0 → ((((lg_cmp (zJ σ175 1238 (ix 0)) r172.toInt64) = 0 → (∀ y177 : Int32, y177 = x4 + 6 → (K23 σ175 y177))) ∧ (¬ (lg_cmp (zJ σ175 1238 (ix 0)) r172.toInt64) = 0 → (Ret 0 σ175))))) ∧ (¬ r167 = 0 → (∀ y176 : Int32, y176 = x4 + 6 → (K23 σ175 y176)))))) ∧ (¬ r174 = r167 → (Ret 0 σ175)))))))))))))) ∧ (¬ ((w0.getD (ix x4) 0) &&& 63) = 13 → (((((w0.getD (ix x4) 0) &&& 63) = 14 → (vp_in (x4 + 1) w0.length ∧ (vp_in (x4 + 2) w0.length ∧ (wp_X0_parts σ (w0.getD (ix (x4 + 1)) 0) (w0.getD (ix (x4 + 2)) 0) (fun r180 σ181 => vp_in (x4 + 1) w0.length ∧ (vp_in (x4 + 2) w0.length ∧ (wp_X4_parts σ181 (w0.getD (ix (x4 + 1)) 0) (w0.getD (ix (x4 + 2)) 0) (fun r184 σ185 => wp_X4_thrown σ185 (fun r186 σ187 => ((r186 = r180 → (((r180 = 0 → ((((lg_cmp (zJ σ187 1238 (ix 0)) r184.toInt64) = 0 → (∀ y189 : Int32, y189 = x4 + 6 → (K23 σ187 y189))) ∧ (¬ (lg_cmp (zJ σ187 1238 (ix 0)) r184.toInt64) = 0 → (Ret 0 σ187))))) ∧ (¬ r180 = 0 → (∀ y188 : Int32, y188 = x4 + 6 → (K23 σ187 y188)))))) ∧ (¬ r186 = r180 → (Ret 0 σ187)))))))))))) ∧ (¬ ((w0.getD (ix x4) 0) &&& 63) = 14 → (((((w0.getD (ix x4) 0) &&& 63) = 15 → (vp_in (x4 + 1) w0.length ∧ (vp_in (x4 + 2) w0.length ∧ (vp_in (x4 + 3) w0.length ∧ (wp_X0_together σ (w0.getD (ix (x4 + 1)) 0) (w0.getD (ix (x4 + 2)) 0) (w0.getD (ix (x4 + 3)) 0) (fun r193 σ194 => vp_in (x4 + 1) w0.length ∧ (vp_in (x4 + 2) w0.length ∧ (vp_in (x4 + 3) w0.length ∧ (wp_X4_together σ194 (w0.getD (ix (x4 + 1)) 0) (w0.getD (ix (x4 + 2)) 0) (w0.getD (ix (x4 + 3)) 0) (fun r198 σ199 => wp_X4_thrown σ199 (fun r200 σ201 => ((r200 = r193 → (((r193 = 0 → (((r198 = 0 → (V_X0_law_1378 K23 w0 Ret σ201 x4 0 (zJ σ201 1238 (ix 0)))) ∧ (¬ r198 = 0 → (V_X0_law_1378 K23 w0 Ret σ201 x4 1 (zJ σ201 1238 (ix 0))))))) ∧ (¬ r193 = 0 → (∀ y202 : Int32, y202 = x4 + 6 → (K23 σ201 y202)))))) ∧ (¬ r200 = r193 → (Ret 0 σ201)))))))))))))) ∧ (¬ ((w0.getD (ix x4) 0) &&& 63) = 15 → (((((w0.getD (ix x4) 0) &&& 63) = 16 → (vp_in (x4 + 1) w0.length ∧ (vp_in (x4 + 2) w0.length ∧ (wp_X0_open σ (w0.getD (ix (x4 + 1)) 0) (w0.getD (ix (x4 + 2)) 0) (fun r206 σ207 => vp_in (x4 + 1) w0.length ∧ (vp_in (x4 + 2) w0.length ∧ (wp_X4_open σ207 (w0.getD (ix (x4 + 1)) 0) (w0.getD (ix (x4 + 2)) 0) (fun r210 σ211 => wp_X4_thrown σ211 (fun r212 σ213 => ((r212 = r206 → (((r206 = 0 → ((((lg_cmp (zJ σ213 1238 (ix 0)) r210.toInt64) = 0 → (∀ y215 : Int32, y215 = x4 + 6 → (K23 σ213 y215))) ∧ (¬ (lg_cmp (zJ σ213 1238 (ix 0)) r210.toInt64) = 0 → (Ret 0 σ213))))) ∧ (¬ r206 = 0 → (∀ y214 : Int32, y214 = x4 + 6 → (K23 σ213 y214)))))) ∧ (¬ r212 = r206 → (Ret 0 σ213)))))))))))) ∧ (¬ ((w0.getD (ix x4) 0) &&& 63) = 16 → (((((w0.getD (ix x4) 0) &&& 63) = 17 → (vp_in (x4 + 1) w0.length ∧ (vp_in (x4 + 2) w0.length ∧ (vp_in (x4 + 3) w0.length ∧ (vp_in (x4 + 4) w0.length ∧ ((((w0.getD (ix (x4 + 4)) 0) = 0 → (V_X0_law_1488 K23 w0 Ret σ x4 0 (w0.getD (ix (x4 + 3)) 0) (w0.getD (ix (x4 + 2)) 0) (w0.getD (ix (x4 + 1)) 0))) ∧ (¬ (w0.getD (ix (x4 + 4)) 0) = 0 → (V_X0_law_1488 K23 w0 Ret σ x4 1 (w0.getD (ix (x4 + 3)) 0) (w0.getD (ix (x4 + 2)) 0) (w0.getD (ix (x4 + 1)) 0)))))))))) ∧ (¬ ((w0.getD (ix x4) 0) &&& 63) = 17 → (((((w0.getD (ix x4) 0) &&& 63) = 18 → (vp_in (x4 + 1) w0.length ∧ (wp_X1_left σ (w0.getD (ix (x4 + 1)) 0) (fun r233 σ234 => vp_in (x4 + 1) w0.length ∧ (wp_X4_left σ234 (w0.getD (ix (x4 + 1)) 0) (fun r236 σ237 => ((r233 = r236 → (∀ y238 : Int32, y238 = x4 + 6 → (K23 σ237 y238))) ∧ (¬ r233 = r236 → (Ret 0 σ237))))))))) ∧ (¬ ((w0.getD (ix x4) 0) &&& 63) = 18 → (((((w0.getD (ix x4) 0) &&& 63) = 19 → (vp_in (x4 + 1) w0.length ∧ (wp_X0_candidates σ (w0.getD (ix (x4 + 1)) 0) (fun r240 σ241 => vp_in (x4 + 1) w0.length ∧ (wp_X4_candidates σ241 (w0.getD (ix (x4 + 1)) 0) (fun r243 σ244 => wp_X4_thrown σ244 (fun r245 σ246 => ((r245 = r240 → (((r240 = 0 → ((((lg_cmp (zJ σ246 1238 (ix 0)) r243.toInt64) = 0 → (∀ y248 : Int32, y248 = x4 + 6 → (K23 σ246 y248))) ∧ (¬ (lg_cmp (zJ σ246 1238 (ix 0)) r243.toInt64) = 0 → (Ret 0 σ246))))) ∧ (¬ r240 = 0 → (∀ y247 : Int32, y247 = x4 + 6 → (K23 σ246 y247)))))) ∧ (¬ r245 = r240 → (Ret 0 σ246)))))))))) ∧ (¬ ((w0.getD (ix x4) 0) &&& 63) = 19 → (((((w0.getD (ix x4) 0) &&& 63) = 20 → (vp_in (x4 + 1) w0.length ∧ (vp_in (x4 + 2) w0.length ∧ (wp_X0_fewest σ (w0.getD (ix (x4 + 1)) 0) (w0.getD (ix (x4 + 2)) 0) (fun r251 σ252 => vp_in (x4 + 1) w0.length ∧ (vp_in (x4 + 2) w0.length ∧ (wp_X4_fewest σ252 (w0.getD (ix (x4 + 1)) 0) (w0.getD (ix (x4 + 2)) 0) (fun r255 σ256 => wp_X4_thrown σ256 (fun r257 σ258 => ((r257 = r251 → (((r251 = 0 → ((((lg_cmp (zJ σ258 1238 (ix 0)) r255.toInt64) = 0 → (∀ y260 : Int32, y260 = x4 + 6 → (K23 σ258 y260))) ∧ (¬ (lg_cmp (zJ σ258 1238 (ix 0)) r255.toInt64) = 0 → (Ret 0 σ258))))) ∧ (¬ r251 = 0 → (∀ y259 : Int32, y259 = x4 + 6 → (K23 σ258 y259)))))) ∧ (¬ r257 = r251 → (Ret 0 σ258)))))))))))) ∧ (¬ ((w0.getD (ix x4) 0) &&& 63) = 20 → (((((w0.getD (ix x4) 0) &&& 63) = 21 → (vp_in (x4 + 1) w0.length ∧ (vp_in (x4 + 2) w0.length ∧ (wp_X0_cheapest σ (w0.getD (ix (x4 + 1)) 0) (w0.getD (ix (x4 + 2)) 0) (fun r263 σ264 => vp_in (x4 + 1) w0.length ∧ (vp_in (x4 + 2) w0.length ∧ (wp_X4_cheapest σ264 (w0.getD (ix (x4 + 1)) 0) (w0.getD (ix (x4 + 2)) 0) (fun r267 σ268 => wp_X4_thrown σ268 (fun r269 σ270 => ((r269 = r263 → (((r263 = 0 → ((((lg_cmp (zJ σ270 1238 (ix 0)) r267.toInt64) = 0 → (∀ y272 : Int32, y272 = x4 + 6 → (K23 σ270 y272))) ∧ (¬ (lg_cmp (zJ σ270 1238 (ix 0)) r267.toInt64) = 0 → (Ret 0 σ270))))) ∧ (¬ r263 = 0 → (∀ y271 : Int32, y271 = x4 + 6 → (K23 σ270 y271)))))) ∧ (¬ r269 = r263 → (Ret 0 σ270)))))))))))) ∧ (¬ ((w0.getD (ix x4) 0) &&& 63) = 21 → (((((w0.getD (ix x4) 0) &&& 63) = 22 → (vp_in (x4 + 1) w0.length ∧ (vp_in (x4 + 2) w0.length ∧ (wp_X0_exchange σ (w0.getD (ix (x4 + 1)) 0) (w0.getD (ix (x4 + 2)) 0) (fun r275 σ276 => vp_in (x4 + 1) w0.length ∧ (vp_in (x4 + 2) w0.length ∧ (wp_X4_exchange σ276 (w0.getD (ix (x4 + 1)) 0) (w0.getD (ix (x4 + 2)) 0) (fun r279 σ280 => wp_X4_thrown σ280 (fun r281 σ282 => ((r281 = r275 → (((r275 = 0 → ((((lg_cmp (zJ σ282 1238 (ix 0)) r279.toInt64) = 0 → (∀ y284 : Int32, y284 = x4 + 6 → (K23 σ282 y284))) ∧ (¬ (lg_cmp (zJ σ282 1238 (ix 0)) r279.toInt64) = 0 → (Ret 0 σ282))))) ∧ (¬ r275 = 0 → (∀ y283 : Int32, y283 = x4 + 6 → (K23 σ282 y283)))))) ∧ (¬ r281 = r275 → (Ret 0 σ282)))))))))))) ∧ (¬ ((w0.getD (ix x4) 0) &&& 63) = 22 → (((((w0.getD (ix x4) 0) &&& 63) = 23 → (vp_in (x4 + 1) w0.length ∧ (vp_in (x4 + 2) w0.length ∧ (wp_X0_round σ (w0.getD (ix (x4 + 1)) 0) (w0.getD (ix (x4 + 2)) 0) (fun r287 σ288 => vp_in (x4 + 1) w0.length ∧ (vp_in (x4 + 2) w0.length ∧ (wp_X4_round σ288 (w0.getD (ix (x4 + 1)) 0) (w0.getD (ix (x4 + 2)) 0) (fun r291 σ292 => wp_X4_thrown σ292 (fun r293 σ294 => ((r293 = r287 → (((r287 = 0 → ((((lg_cmp (zJ σ294 1238 (ix 0)) r291.toInt64) = 0 → (∀ y296 : Int32, y296 = x4 + 6 → (K23 σ294 y296))) ∧ (¬ (lg_cmp (zJ σ294 1238 (ix 0)) r291.toInt64) = 0 → (Ret 0 σ294))))) ∧ (¬ r287 = 0 → (∀ y295 : Int32, y295 = x4 + 6 → (K23 σ294 y295)))))) ∧ (¬ r293 = r287 → (Ret 0 σ294)))))))))))) ∧ (¬ ((w0.getD (ix x4) 0) &&& 63) = 23 → (((((w0.getD (ix x4) 0) &&& 63) = 24 → (vp_in (x4 + 1) w0.length ∧ (vp_in (x4 + 2) w0.length ∧ (wp_X0_bound σ (w0.getD (ix (x4 + 1)) 0) (w0.getD (ix (x4 + 2)) 0) (fun r299 σ300 => vp_in (x4 + 1) w0.length ∧ (vp_in (x4 + 2) w0.length ∧ (wp_X4_bound σ300 (w0.getD (ix (x4 + 1)) 0) (w0.getD (ix (x4 + 2)) 0) (fun r303 σ304 => wp_X4_thrown σ304 (fun r305 σ306 => ((r305 = r299 → (((r299 = 0 → ((((lg_cmp (zJ σ306 1238 (ix 0)) r303.toInt64) = 0 → (∀ y308 : Int32, y308 = x4 + 6 → (K23 σ306 y308))) ∧ (¬ (lg_cmp (zJ σ306 1238 (ix 0)) r303.toInt64) = 0 → (Ret 0 σ306))))) ∧ (¬ r299 = 0 → (∀ y307 : Int32, y307 = x4 + 6 → (K23 σ306 y307)))))) ∧ (¬ r305 = r299 → (Ret 0 σ306)))))))))))) ∧ (¬ ((w0.getD (ix x4) 0) &&& 63) = 24 → (((((w0.getD (ix x4) 0) &&& 63) = 25 → (vp_in (x4 + 1) w0.length ∧ (wp_X0_home σ (w0.getD (ix (x4 + 1)) 0) (fun r310 σ311 => vp_in (x4 + 1) w0.length ∧ (wp_X4_home σ311 (w0.getD (ix (x4 + 1)) 0) (fun r313 σ314 => wp_X4_thrown σ314 (fun r315 σ316 => ((r315 = r310 → (((r310 = 0 → ((((lg_cmp (zJ σ316 1238 (ix 0)) r313.toInt64) = 0 → (∀ y318 : Int32, y318 = x4 + 6 → (K23 σ316 y318))) ∧ (¬ (lg_cmp (zJ σ316 1238 (ix 0)) r313.toInt64) = 0 → (Ret 0 σ316))))) ∧ (¬ r310 = 0 → (∀ y317 : Int32, y317 = x4 + 6 → (K23 σ316 y317)))))) ∧ (¬ r315 = r310 → (Ret 0 σ316)))))))))) ∧ (¬ ((w0.getD (ix x4) 0) &&& 63) = 25 → (((((w0.getD (ix x4) 0) &&& 63) = 26 → (vp_in (x4 + 1) w0.length ∧ (wp_X0_traffic σ (w0.getD (ix (x4 + 1)) 0) (fun r320 σ321 => vp_in (x4 + 1) w0.length ∧ (wp_X4_traffic σ321 (w0.getD (ix (x4 + 1)) 0) (fun r323 σ324 => wp_X4_thrown σ324 (fun r325 σ326 => ((r325 = r320 → (((r320 = 0 → ((((lg_cmp (zJ σ326 1238 (ix 0)) r323.toInt64) = 0 → (∀ y328 : Int32, y328 = x4 + 6 → (K23 σ326 y328))) ∧ (¬ (lg_cmp (zJ σ326 1238 (ix 0)) r323.toInt64) = 0 → (Ret 0 σ326))))) ∧ (¬ r320 = 0 → (∀ y327 : Int32, y327 = x4 + 6 → (K23 σ326 y327)))))) ∧ (¬ r325 = r320 → (Ret 0 σ326)))))))))) ∧ (¬ ((w0.getD (ix x4) 0) &&& 63) = 26 → (((((w0.getD (ix x4) 0) &&& 63) = 27 → (vp_in (x4 + 1) w0.length ∧ (wp_X0_counts σ (w0.getD (ix (x4 + 1)) 0) (fun r330 σ331 => vp_in (x4 + 1) w0.length ∧ (wp_X4_counts σ331 (w0.getD (ix (x4 + 1)) 0) (fun r333 σ334 => wp_X4_thrown σ334 (fun r335 σ336 => ((r335 = r330 → (((r330 = 0 → ((((lg_cmp (zJ σ336 1238 (ix 0)) r333.toInt64) = 0 → (∀ y338 : Int32, y338 = x4 + 6 → (K23 σ336 y338))) ∧ (¬ (lg_cmp (zJ σ336 1238 (ix 0)) r333.toInt64) = 0 → (Ret 0 σ336))))) ∧ (¬ r330 = 0 → (∀ y337 : Int32, y337 = x4 + 6 → (K23 σ336 y337)))))) ∧ (¬ r335 = r330 → (Ret 0 σ336)))))))))) ∧ (¬ ((w0.getD (ix x4) 0) &&& 63) = 27 → (((((w0.getD (ix x4) 0) &&& 63) = 28 → (vp_in (x4 + 1) w0.length ∧ (wp_X0_tell σ (w0.getD (ix (x4 + 1)) 0) (fun r340 σ341 => vp_in (x4 + 1) w0.length ∧ (wp_X4_tell σ341 (w0.getD (ix (x4 + 1)) 0) (fun r343 σ344 => wp_X4_thrown σ344 (fun r345 σ346 => ((r345 = r340 → (((r340 = 0 → ((((lg_cmp (zJ σ346 1238 (ix 0)) r343.toInt64) = 0 → (∀ y348 : Int32, y348 = x4 + 6 → (K23 σ346 y348))) ∧ (¬ (lg_cmp (zJ σ346 1238 (ix 0)) r343.toInt64) = 0 → (Ret 0 σ346))))) ∧ (¬ r340 = 0 → (∀ y347 : Int32, y347 = x4 + 6 → (K23 σ346 y347)))))) ∧ (¬ r345 = r340 → (Ret 0 σ346)))))))))) ∧ (¬ ((w0.getD (ix x4) 0) &&& 63) = 28 → (((((w0.getD (ix x4) 0) &&& 63) = 29 → (wp_X1_forget σ (fun r349 σ350 => wp_X4_forget σ350 (fun r351 σ352 => ((r349 = r351 → (∀ y353 : Int32, y353 = x4 + 6 → (K23 σ352 y353))) ∧ (¬ r349 = r351 → (Ret 0 σ352))))))) ∧ (¬ ((w0.getD (ix x4) 0) &&& 63) = 29 → (((((w0.getD (ix x4) 0) &&& 63) = 30 → (vp_in (x4 + 1) w0.length ∧ (vp_in (x4 + 2) w0.length ∧ (wp_X0_breaks σ (w0.getD (ix (x4 + 1)) 0) (w0.getD (ix (x4 + 2)) 0) (fun r356 σ357 => vp_in (x4 + 1) w0.length ∧ (vp_in (x4 + 2) w0.length ∧ (wp_X4_breaks σ357 (w0.getD (ix (x4 + 1)) 0) (w0.getD (ix (x4 + 2)) 0) (fun r360 σ361 => wp_X4_thrown σ361 (fun r362 σ363 => ((r362 = r356 → (((r356 = 0 → ((((lg_cmp (zJ σ363 1238 (ix 0)) r360) = 0 → (∀ y365 : Int32, y365 = x4 + 6 → (K23 σ363 y365))) ∧ (¬ (lg_cmp (zJ σ363 1238 (ix 0)) r360) = 0 → (Ret 0 σ363))))) ∧ (¬ r356 = 0 → (∀ y364 : Int32, y364 = x4 + 6 → (K23 σ363 y364)))))) ∧ (¬ r362 = r356 → (Ret 0 σ363)))))))))))) ∧ (¬ ((w0.getD (ix x4) 0) &&& 63) = 30 → (((((w0.getD (ix x4) 0) &&& 63) = 31 → (vp_in (x4 + 1) w0.length ∧ (wp_X0_cut σ (w0.getD (ix (x4 + 1)) 0) (fun r367 σ368 => vp_in (x4 + 1) w0.length ∧ (wp_X4_cut σ368 (w0.getD (ix (x4 + 1)) 0) (fun r370 σ371 => wp_X4_thrown σ371 (fun r372 σ373 => ((r372 = r367 → (((r367 = 0 → ((((lg_cmp (zJ σ373 1238 (ix 0)) r370.toInt64) = 0 → (∀ y375 : Int32, y375 = x4 + 6 → (K23 σ373 y375))) ∧ (¬ (lg_cmp (zJ σ373 1238 (ix 0)) r370.toInt64) = 0 → (Ret 0 σ373))))) ∧ (¬ r367 = 0 → (∀ y374 : Int32, y374 = x4 + 6 → (K23 σ373 y374)))))) ∧ (¬ r372 = r367 → (Ret 0 σ373)))))))))) ∧ (¬ ((w0.getD (ix x4) 0) &&& 63) = 31 → (((((w0.getD (ix x4) 0) &&& 63) = 32 → (vp_in (x4 + 1) w0.length ∧ (vp_in (x4 + 2) w0.length ∧ (wp_X0_sure σ (w0.getD (ix (x4 + 1)) 0) (w0.getD (ix (x4 + 2)) 0) (fun r378 σ379 => vp_in (x4 + 1) w0.length ∧ (vp_in (x4 + 2) w0.length ∧ (wp_X4_sure σ379 (w0.getD (ix (x4 + 1)) 0) (w0.getD (ix (x4 + 2)) 0) (fun r382 σ383 => wp_X4_thrown σ383 (fun r384 σ385 => ((r384 = r378 → (((r378 = 0 → ((((lg_cmp (zJ σ385 1238 (ix 0)) r382.toInt64) = 0 → (∀ y387 : Int32, y387 = x4 + 6 → (K23 σ385 y387))) ∧ (¬ (lg_cmp (zJ σ385 1238 (ix 0)) r382.toInt64) = 0 → (Ret 0 σ385))))) ∧ (¬ r378 = 0 → (∀ y386 : Int32, y386 = x4 + 6 → (K23 σ385 y386)))))) ∧ (¬ r384 = r378 → (Ret 0 σ385)))))))))))) ∧ (¬ ((w0.getD (ix x4) 0) &&& 63) = 32 → (((((w0.getD (ix x4) 0) &&& 63) = 33 → (vp_in (x4 + 1) w0.length ∧ (vp_in (x4 + 2) w0.length ∧ (vp_in (x4 + 3) w0.length ∧ (wp_X0_detour σ (w0.getD (ix (x4 + 1)) 0) (w0.getD (ix (x4 + 2)) 0) (w0.getD (ix (x4 + 3)) 0) (fun r391 σ392 => vp_in (x4 + 1) w0.length ∧ (vp_in (x4 + 2) w0.length ∧ (vp_in (x4 + 3) w0.length ∧ (wp_X4_detour σ392 (w0.getD (ix (x4 + 1)) 0) (w0.getD (ix (x4 + 2)) 0) (w0.getD (ix (x4 + 3)) 0) (fun r396 σ397 => wp_X4_thrown σ397 (fun r398 σ399 => ((r398 = r391 → (((r391 = 0 → ((((lg_cmp (zJ σ399 1238 (ix 0)) r396.toInt64) = 0 → (∀ y401 : Int32, y401 = x4 + 6 → (K23 σ399 y401))) ∧ (¬ (lg_cmp (zJ σ399 1238 (ix 0)) r396.toInt64) = 0 → (Ret 0 σ399))))) ∧ (¬ r391 = 0 → (∀ y400 : Int32, y400 = x4 + 6 → (K23 σ399 y400)))))) ∧ (¬ r398 = r391 → (Ret 0 σ399)))))))))))))) ∧ (¬ ((w0.getD (ix x4) 0) &&& 63) = 33 → (((((w0.getD (ix x4) 0) &&& 63) = 34 → (vp_in (x4 + 1) w0.length ∧ (vp_in (x4 + 2) w0.length ∧ (wp_X0_gain σ (w0.getD (ix (x4 + 1)) 0) (w0.getD (ix (x4 + 2)) 0) (fun r404 σ405 => vp_in (x4 + 1) w0.length ∧ (vp_in (x4 + 2) w0.length ∧ (wp_X4_gain σ405 (w0.getD (ix (x4 + 1)) 0) (w0.getD (ix (x4 + 2)) 0) (fun r408 σ409 => wp_X4_thrown σ409 (fun r410 σ411 => ((r410 = r404 → (((r404 = 0 → ((((lg_cmp (zJ σ411 1238 (ix 0)) r408.toInt64) = 0 → (∀ y413 : Int32, y413 = x4 + 6 → (K23 σ411 y413))) ∧ (¬ (lg_cmp (zJ σ411 1238 (ix 0)) r408.toInt64) = 0 → (Ret 0 σ411))))) ∧ (¬ r404 = 0 → (∀ y412 : Int32, y412 = x4 + 6 → (K23 σ411 y412)))))) ∧ (¬ r410 = r404 → (Ret 0 σ411)))))))))))) ∧ (¬ ((w0.getD (ix x4) 0) &&& 63) = 34 → (((((w0.getD (ix x4) 0) &&& 63) = 35 → (vp_in (x4 + 1) w0.length ∧ (vp_in (x4 + 2) w0.length ∧ (wp_X0_baker σ (w0.getD (ix (x4 + 1)) 0) (w0.getD (ix (x4 + 2)) 0) (fun r416 σ417 => vp_in (x4 + 1) w0.length ∧ (vp_in (x4 + 2) w0.length ∧ (wp_X4_baker σ417 (w0.getD (ix (x4 + 1)) 0) (w0.getD (ix (x4 + 2)) 0) (fun r420 σ421 => wp_X4_thrown σ421 (fun r422 σ423 => ((r422 = r416 → (((r416 = 0 → ((((lg_cmp (zJ σ423 1238 (ix 0)) r420.toInt64) = 0 → (∀ y425 : Int32, y425 = x4 + 6 → (K23 σ423 y425))) ∧ (¬ (lg_cmp (zJ σ423 1238 (ix 0)) r420.toInt64) = 0 → (Ret 0 σ423))))) ∧ (¬ r416 = 0 → (∀ y424 : Int32, y424 = x4 + 6 → (K23 σ423 y424)))))) ∧ (¬ r422 = r416 → (Ret 0 σ423)))))))))))) ∧ (¬ ((w0.getD (ix x4) 0) &&& 63) = 35 → (((((w0.getD (ix x4) 0) &&& 63) = 36 → (wp_X1_image σ (fun r426 σ427 => wp_X4_image σ427 (fun r428 σ429 => ((r426 = r428 → (∀ y430 : Int32, y430 = x4 + 6 → (K23 σ429 y430))) ∧ (¬ r426 = r428 → (Ret 0 σ429))))))) ∧ (¬ ((w0.getD (ix x4) 0) &&& 63) = 36 → (((((w0.getD (ix x4) 0) &&& 63) = 37 → (wp_X1_restore σ (fun r431 σ432 => wp_X4_restore σ432 (fun r433 σ434 => ((r431 = r433 → (∀ y435 : Int32, y435 = x4 + 6 → (K23 σ434 y435))) ∧ (¬ r431 = r433 → (Ret 0 σ434))))))) ∧ (¬ ((w0.getD (ix x4) 0) &&& 63) = 37 → (((((w0.getD (ix x4) 0) &&& 63) = 38 → (vp_in (x4 + 1) w0.length ∧ (wp_X1_count σ (w0.getD (ix (x4 + 1)) 0) (fun r437 σ438 => vp_in (x4 + 1) w0.length ∧ (wp_X4_count σ438 (w0.getD (ix (x4 + 1)) 0) (fun r440 σ441 => ((r437 = r440 → (∀ y442 : Int32, y442 = x4 + 6 → (K23 σ441 y442))) ∧ (¬ r437 = r440 → (Ret 0 σ441))))))))) ∧ (¬ ((w0.getD (ix x4) 0) &&& 63) = 38 → (∀ y443 : Int32, y443 = x4 + 6 → (K23 σ y443))))))))))))))))))))))))))))))))))))))))))))))))))))))))))))))))))))))))))))))))))))))))))))))))))))))))))))))))))))))))))
def V_X0_law_23 (w0 : List Int32) (Ret : Int32 → ZS → Prop) (σ : ZS) (x4 : Int32) : Prop := ∃ k, VL_X0_law_23 w0 Ret k σ x4
set_option maxHeartbeats 8000000 in
theorem zl_law {C : ZC} {E : ZE} {σ : ZS} {v0 : Nat} {w0 : List Int32} {a4 : Int32} (hFI : FI E v0 w0) {Ret : Int32 → ZS → Prop} (hC : Cx C E cL_law 8 "RightTurnsLaw" "law" (some .boolean) [] 15) (hQo : C.2.2.2.2.2.2.2.2.2.2 = rI Ret) (hV : V_X0_law_23 w0 Ret σ a4) : zz C E NS 8 σ 23 [some (.ref v0), some (.ref (E.1.heap.size + 0)), some (.ref (E.1.heap.size + 44)), some (.ref (E.1.heap.size + 1238)), some (.int a4), none, none, none] [] := by
  have j_23 : ∀ (σ : ZS) (x4 : Int32), V_X0_law_23 w0 Ret σ x4 → zz C E NS 8 σ 23 [some (.ref v0), some (.ref (E.1.heap.size + 0)), some (.ref (E.1.heap.size + 44)), some (.ref (E.1.heap.size + 1238)), some (.int x4), none, none, none] [] := by
    intro σ x4 ⟨k, hV⟩
    revert σ x4
    induction k with
    | zero => exact fun _ _ hV => hV.elim
    | succ k j_23 =>
      intro σ x4 hV
      simp only [VL_X0_law_23] at hV
      generalize hKe23 : VL_X0_law_23 w0 Ret k = K23 at hV j_23
      clear hKe23
      have j_624 : ∀ (σ : ZS) (x4 : Int32) (s0 : Int64) (s1 : Int64), V_X0_law_624 K23 w0 Ret σ x4 s0 s1 → zz C E NS 8 σ 624 [some (.ref v0), some (.ref (E.1.heap.size + 0)), some (.ref (E.1.heap.size + 44)), some (.ref (E.1.heap.size + 1238)), some (.int x4), none, none, none] [.long s0, .long s1] := by
        intro σ x4 s0 s1 hV
        unfold V_X0_law_624 at hV
        refine z_lcmp hC dL_law_624 ?_
        refine z_if_eq (tgt := 630) hC dL_law_625 (by decide) (fun hc => ?_) (fun hc => ?_)
        · replace hV := hV.1 hc
          refine z_goto (tgt := 2679) hC dL_law_630 (by decide) ?_
          obtain ⟨y79, e_y79⟩ : ∃ z : Int32, z = x4 + 6 := ⟨_, rfl⟩
          replace hV := hV _ e_y79
          refine z_iinc (v := y79) hC dL_law_2679 rfl (by rw [e_y79]; rfl) (Nat.le_of_ble_eq_true rfl) rfl rfl ?_
          refine z_goto (tgt := 23) hC dL_law_2682 (by decide) ?_
          refine zz_sub (L' := [some (.ref v0), some (.ref (E.1.heap.size + 0)), some (.ref (E.1.heap.size + 44)), some (.ref (E.1.heap.size + 1238)), some (.int y79), none, none, none]) ⟨rfl, rfl, rfl, rfl, rfl, trivial⟩ ?_
          exact j_23 σ y79 hV
        · replace hV := hV.2 hc
          refine z_iconst (v := 0) hC dL_law_628 rfl ?_
          exact z_iret hC dL_law_629 rfl (by rw [hQo]; exact ⟨_, rfl, hV⟩)
      have j_693 : ∀ (σ : ZS) (x4 : Int32) (x5 : Int32) (s0 : Int32) (s1 : Int32) (s2 : Int32), V_X0_law_693 K23 w0 Ret σ x4 x5 s0 s1 s2 → zz C E NS 8 σ 693 [some (.ref v0), some (.ref (E.1.heap.size + 0)), some (.ref (E.1.heap.size + 44)), some (.ref (E.1.heap.size + 1238)), some (.int x4), some (.int x5), none, none] [.int s0, .int s1, .int s2, .ref (E.1.heap.size + 44)] := by
        intro σ x4 x5 s0 s1 s2 hV
        unfold V_X0_law_693 at hV
        refine c_X0_160 hC (by decide) dL_law_693 (Nat.le_of_ble_eq_true rfl) hV (fun r88 σ89 hV => ?_)
        refine z_istore hC dL_law_696 (Nat.le_of_ble_eq_true rfl) rfl rfl ?_
        refine z_aload_n hC dL_law_698 rfl rfl ?_
        refine c_X0_135 hC (by decide) dL_law_699 (Nat.le_of_ble_eq_true rfl) hV (fun r90 σ91 hV => ?_)
        refine z_iload hC dL_law_702 rfl ?_
        refine z_icmp_eq (tgt := 709) hC dL_law_704 (by decide) (fun hc => ?_) (fun hc => ?_)
        · replace hV := hV.1 hc
          refine z_iload hC dL_law_709 rfl ?_
          refine z_if_ne (tgt := 726) hC dL_law_711 (by decide) (fun hc => ?_) (fun hc => ?_)
          · replace hV := hV.2 hc
            refine z_goto (tgt := 2679) hC dL_law_726 (by decide) ?_
            obtain ⟨y92, e_y92⟩ : ∃ z : Int32, z = x4 + 6 := ⟨_, rfl⟩
            replace hV := hV _ e_y92
            refine z_iinc (v := y92) hC dL_law_2679 rfl (by rw [e_y92]; rfl) (Nat.le_of_ble_eq_true rfl) rfl rfl ?_
            refine z_goto (tgt := 23) hC dL_law_2682 (by decide) ?_
            refine zz_sub (L' := [some (.ref v0), some (.ref (E.1.heap.size + 0)), some (.ref (E.1.heap.size + 44)), some (.ref (E.1.heap.size + 1238)), some (.int y92), none, none, none]) ⟨rfl, rfl, rfl, rfl, rfl, trivial⟩ ?_
            exact j_23 σ91 y92 hV
          · replace hV := hV.1 hc
            refine z_aload_n hC dL_law_714 rfl rfl ?_
            refine z_iconst (v := 0) hC dL_law_715 rfl ?_
            refine z_lald hC dL_law_716 (k_1238 _) (in_dec rfl) ?_
            refine z_iload hC dL_law_717 rfl ?_
            refine z_i2l hC dL_law_719 ?_
            refine z_lcmp hC dL_law_720 ?_
            refine z_if_eq (tgt := 726) hC dL_law_721 (by decide) (fun hc => ?_) (fun hc => ?_)
            · replace hV := hV.1 hc
              refine z_goto (tgt := 2679) hC dL_law_726 (by decide) ?_
              obtain ⟨y93, e_y93⟩ : ∃ z : Int32, z = x4 + 6 := ⟨_, rfl⟩
              replace hV := hV _ e_y93
              refine z_iinc (v := y93) hC dL_law_2679 rfl (by rw [e_y93]; rfl) (Nat.le_of_ble_eq_true rfl) rfl rfl ?_
              refine z_goto (tgt := 23) hC dL_law_2682 (by decide) ?_
              refine zz_sub (L' := [some (.ref v0), some (.ref (E.1.heap.size + 0)), some (.ref (E.1.heap.size + 44)), some (.ref (E.1.heap.size + 1238)), some (.int y93), none, none, none]) ⟨rfl, rfl, rfl, rfl, rfl, trivial⟩ ?_
              exact j_23 σ91 y93 hV
            · replace hV := hV.2 hc
              refine z_iconst (v := 0) hC dL_law_724 rfl ?_
              exact z_iret hC dL_law_725 rfl (by rw [hQo]; exact ⟨_, rfl, hV⟩)
        · replace hV := hV.2 hc
          refine z_iconst (v := 0) hC dL_law_707 rfl ?_
          exact z_iret hC dL_law_708 rfl (by rw [hQo]; exact ⟨_, rfl, hV⟩)
      have j_660 : ∀ (σ : ZS) (x4 : Int32) (s0 : Int32) (s1 : Int32) (s2 : Int32), V_X0_law_660 K23 w0 Ret σ x4 s0 s1 s2 → zz C E NS 8 σ 660 [some (.ref v0), some (.ref (E.1.heap.size + 0)), some (.ref (E.1.heap.size + 44)), some (.ref (E.1.heap.size + 1238)), some (.int x4), none, none, none] [.int s0, .int s1, .int s2, .ref (E.1.heap.size + 0)] := by
        intro σ x4 s0 s1 s2 hV
        unfold V_X0_law_660 at hV
        refine z_aload_n hC dL_law_660 rfl rfl ?_
        refine c_X0_157 hC (by decide) dL_law_661 (Nat.le_of_ble_eq_true rfl) hV (fun r83 σ84 hV => ?_)
        refine z_istore hC dL_law_664 (Nat.le_of_ble_eq_true rfl) rfl rfl ?_
        refine z_aload_n hC dL_law_666 rfl rfl ?_
        refine z_aload_n hC dL_law_667 rfl rfl ?_
        refine z_iload hC dL_law_668 rfl ?_
        refine z_iconst (v := 1) hC dL_law_670 rfl ?_
        refine z_iadd hC dL_law_671 ?_
        obtain ⟨h85, hV⟩ := hV
        refine z_ialdI hC hFI dL_law_672 (h85) ?_
        refine z_aload_n hC dL_law_673 rfl rfl ?_
        refine z_iload hC dL_law_674 rfl ?_
        refine z_iconst (v := 2) hC dL_law_676 rfl ?_
        refine z_iadd hC dL_law_677 ?_
        obtain ⟨h86, hV⟩ := hV
        refine z_ialdI hC hFI dL_law_678 (h86) ?_
        refine z_aload_n hC dL_law_679 rfl rfl ?_
        refine z_iload hC dL_law_680 rfl ?_
        refine z_iconst (v := 3) hC dL_law_682 rfl ?_
        refine z_iadd hC dL_law_683 ?_
        obtain ⟨h87, hV⟩ := hV
        refine z_ialdI hC hFI dL_law_684 (h87) ?_
        refine z_if_eq (tgt := 692) hC dL_law_685 (by decide) (fun hc => ?_) (fun hc => ?_)
        · replace hV := hV.1 hc
          refine z_iconst (v := 0) hC dL_law_692 rfl ?_
          refine zz_sub (L' := [some (.ref v0), some (.ref (E.1.heap.size + 0)), some (.ref (E.1.heap.size + 44)), some (.ref (E.1.heap.size + 1238)), some (.int x4), some (.int r83), none, none]) ⟨rfl, rfl, rfl, rfl, rfl, rfl, trivial⟩ ?_
          exact j_693 σ84 x4 r83 0 (w0.getD (ix (x4 + 2)) 0) (w0.getD (ix (x4 + 1)) 0) hV
        · replace hV := hV.2 hc
          refine z_iconst (v := 1) hC dL_law_688 rfl ?_
          refine z_goto (tgt := 693) hC dL_law_689 (by decide) ?_
          refine zz_sub (L' := [some (.ref v0), some (.ref (E.1.heap.size + 0)), some (.ref (E.1.heap.size + 44)), some (.ref (E.1.heap.size + 1238)), some (.int x4), some (.int r83), none, none]) ⟨rfl, rfl, rfl, rfl, rfl, rfl, trivial⟩ ?_
          exact j_693 σ84 x4 r83 1 (w0.getD (ix (x4 + 2)) 0) (w0.getD (ix (x4 + 1)) 0) hV
      have j_789 : ∀ (σ : ZS) (x4 : Int32) (x5 : Int32) (s0 : Int32) (s1 : Int32) (s2 : Int32), V_X0_law_789 K23 w0 Ret σ x4 x5 s0 s1 s2 → zz C E NS 8 σ 789 [some (.ref v0), some (.ref (E.1.heap.size + 0)), some (.ref (E.1.heap.size + 44)), some (.ref (E.1.heap.size + 1238)), some (.int x4), some (.int x5), none, none] [.int s0, .int s1, .int s2, .ref (E.1.heap.size + 44)] := by
        intro σ x4 x5 s0 s1 s2 hV
        unfold V_X0_law_789 at hV
        refine c_X0_163 hC (by decide) dL_law_789 (Nat.le_of_ble_eq_true rfl) hV (fun r102 σ103 hV => ?_)
        refine z_istore hC dL_law_792 (Nat.le_of_ble_eq_true rfl) rfl rfl ?_
        refine z_aload_n hC dL_law_794 rfl rfl ?_
        refine c_X0_135 hC (by decide) dL_law_795 (Nat.le_of_ble_eq_true rfl) hV (fun r104 σ105 hV => ?_)
        refine z_iload hC dL_law_798 rfl ?_
        refine z_icmp_eq (tgt := 805) hC dL_law_800 (by decide) (fun hc => ?_) (fun hc => ?_)
        · replace hV := hV.1 hc
          refine z_iload hC dL_law_805 rfl ?_
          refine z_if_ne (tgt := 822) hC dL_law_807 (by decide) (fun hc => ?_) (fun hc => ?_)
          · replace hV := hV.2 hc
            refine z_goto (tgt := 2679) hC dL_law_822 (by decide) ?_
            obtain ⟨y106, e_y106⟩ : ∃ z : Int32, z = x4 + 6 := ⟨_, rfl⟩
            replace hV := hV _ e_y106
            refine z_iinc (v := y106) hC dL_law_2679 rfl (by rw [e_y106]; rfl) (Nat.le_of_ble_eq_true rfl) rfl rfl ?_
            refine z_goto (tgt := 23) hC dL_law_2682 (by decide) ?_
            refine zz_sub (L' := [some (.ref v0), some (.ref (E.1.heap.size + 0)), some (.ref (E.1.heap.size + 44)), some (.ref (E.1.heap.size + 1238)), some (.int y106), none, none, none]) ⟨rfl, rfl, rfl, rfl, rfl, trivial⟩ ?_
            exact j_23 σ105 y106 hV
          · replace hV := hV.1 hc
            refine z_aload_n hC dL_law_810 rfl rfl ?_
            refine z_iconst (v := 0) hC dL_law_811 rfl ?_
            refine z_lald hC dL_law_812 (k_1238 _) (in_dec rfl) ?_
            refine z_iload hC dL_law_813 rfl ?_
            refine z_i2l hC dL_law_815 ?_
            refine z_lcmp hC dL_law_816 ?_
            refine z_if_eq (tgt := 822) hC dL_law_817 (by decide) (fun hc => ?_) (fun hc => ?_)
            · replace hV := hV.1 hc
              refine z_goto (tgt := 2679) hC dL_law_822 (by decide) ?_
              obtain ⟨y107, e_y107⟩ : ∃ z : Int32, z = x4 + 6 := ⟨_, rfl⟩
              replace hV := hV _ e_y107
              refine z_iinc (v := y107) hC dL_law_2679 rfl (by rw [e_y107]; rfl) (Nat.le_of_ble_eq_true rfl) rfl rfl ?_
              refine z_goto (tgt := 23) hC dL_law_2682 (by decide) ?_
              refine zz_sub (L' := [some (.ref v0), some (.ref (E.1.heap.size + 0)), some (.ref (E.1.heap.size + 44)), some (.ref (E.1.heap.size + 1238)), some (.int y107), none, none, none]) ⟨rfl, rfl, rfl, rfl, rfl, trivial⟩ ?_
              exact j_23 σ105 y107 hV
            · replace hV := hV.2 hc
              refine z_iconst (v := 0) hC dL_law_820 rfl ?_
              exact z_iret hC dL_law_821 rfl (by rw [hQo]; exact ⟨_, rfl, hV⟩)
        · replace hV := hV.2 hc
          refine z_iconst (v := 0) hC dL_law_803 rfl ?_
          exact z_iret hC dL_law_804 rfl (by rw [hQo]; exact ⟨_, rfl, hV⟩)
      have j_756 : ∀ (σ : ZS) (x4 : Int32) (s0 : Int32) (s1 : Int32) (s2 : Int32), V_X0_law_756 K23 w0 Ret σ x4 s0 s1 s2 → zz C E NS 8 σ 756 [some (.ref v0), some (.ref (E.1.heap.size + 0)), some (.ref (E.1.heap.size + 44)), some (.ref (E.1.heap.size + 1238)), some (.int x4), none, none, none] [.int s0, .int s1, .int s2, .ref (E.1.heap.size + 0)] := by
        intro σ x4 s0 s1 s2 hV
        unfold V_X0_law_756 at hV
        refine z_aload_n hC dL_law_756 rfl rfl ?_
        refine c_X0_161 hC (by decide) dL_law_757 (Nat.le_of_ble_eq_true rfl) hV (fun r97 σ98 hV => ?_)
        refine z_istore hC dL_law_760 (Nat.le_of_ble_eq_true rfl) rfl rfl ?_
        refine z_aload_n hC dL_law_762 rfl rfl ?_
        refine z_aload_n hC dL_law_763 rfl rfl ?_
        refine z_iload hC dL_law_764 rfl ?_
        refine z_iconst (v := 1) hC dL_law_766 rfl ?_
        refine z_iadd hC dL_law_767 ?_
        obtain ⟨h99, hV⟩ := hV
        refine z_ialdI hC hFI dL_law_768 (h99) ?_
        refine z_aload_n hC dL_law_769 rfl rfl ?_
        refine z_iload hC dL_law_770 rfl ?_
        refine z_iconst (v := 2) hC dL_law_772 rfl ?_
        refine z_iadd hC dL_law_773 ?_
        obtain ⟨h100, hV⟩ := hV
        refine z_ialdI hC hFI dL_law_774 (h100) ?_
        refine z_aload_n hC dL_law_775 rfl rfl ?_
        refine z_iload hC dL_law_776 rfl ?_
        refine z_iconst (v := 3) hC dL_law_778 rfl ?_
        refine z_iadd hC dL_law_779 ?_
        obtain ⟨h101, hV⟩ := hV
        refine z_ialdI hC hFI dL_law_780 (h101) ?_
        refine z_if_eq (tgt := 788) hC dL_law_781 (by decide) (fun hc => ?_) (fun hc => ?_)
        · replace hV := hV.1 hc
          refine z_iconst (v := 0) hC dL_law_788 rfl ?_
          refine zz_sub (L' := [some (.ref v0), some (.ref (E.1.heap.size + 0)), some (.ref (E.1.heap.size + 44)), some (.ref (E.1.heap.size + 1238)), some (.int x4), some (.int r97), none, none]) ⟨rfl, rfl, rfl, rfl, rfl, rfl, trivial⟩ ?_
          exact j_789 σ98 x4 r97 0 (w0.getD (ix (x4 + 2)) 0) (w0.getD (ix (x4 + 1)) 0) hV
        · replace hV := hV.2 hc
          refine z_iconst (v := 1) hC dL_law_784 rfl ?_
          refine z_goto (tgt := 789) hC dL_law_785 (by decide) ?_
          refine zz_sub (L' := [some (.ref v0), some (.ref (E.1.heap.size + 0)), some (.ref (E.1.heap.size + 44)), some (.ref (E.1.heap.size + 1238)), some (.int x4), some (.int r97), none, none]) ⟨rfl, rfl, rfl, rfl, rfl, rfl, trivial⟩ ?_
          exact j_789 σ98 x4 r97 1 (w0.getD (ix (x4 + 2)) 0) (w0.getD (ix (x4 + 1)) 0) hV
      have j_971 : ∀ (σ : ZS) (x4 : Int32) (s0 : Int64) (s1 : Int64), V_X0_law_971 K23 w0 Ret σ x4 s0 s1 → zz C E NS 8 σ 971 [some (.ref v0), some (.ref (E.1.heap.size + 0)), some (.ref (E.1.heap.size + 44)), some (.ref (E.1.heap.size + 1238)), some (.int x4), none, none, none] [.long s0, .long s1] := by
        intro σ x4 s0 s1 hV
        unfold V_X0_law_971 at hV
        refine z_lcmp hC dL_law_971 ?_
        refine z_if_eq (tgt := 977) hC dL_law_972 (by decide) (fun hc => ?_) (fun hc => ?_)
        · replace hV := hV.1 hc
          refine z_goto (tgt := 2679) hC dL_law_977 (by decide) ?_
          obtain ⟨y133, e_y133⟩ : ∃ z : Int32, z = x4 + 6 := ⟨_, rfl⟩
          replace hV := hV _ e_y133
          refine z_iinc (v := y133) hC dL_law_2679 rfl (by rw [e_y133]; rfl) (Nat.le_of_ble_eq_true rfl) rfl rfl ?_
          refine z_goto (tgt := 23) hC dL_law_2682 (by decide) ?_
          refine zz_sub (L' := [some (.ref v0), some (.ref (E.1.heap.size + 0)), some (.ref (E.1.heap.size + 44)), some (.ref (E.1.heap.size + 1238)), some (.int y133), none, none, none]) ⟨rfl, rfl, rfl, rfl, rfl, trivial⟩ ?_
          exact j_23 σ y133 hV
        · replace hV := hV.2 hc
          refine z_iconst (v := 0) hC dL_law_975 rfl ?_
          exact z_iret hC dL_law_976 rfl (by rw [hQo]; exact ⟨_, rfl, hV⟩)
      have j_1378 : ∀ (σ : ZS) (x4 : Int32) (s0 : Int64) (s1 : Int64), V_X0_law_1378 K23 w0 Ret σ x4 s0 s1 → zz C E NS 8 σ 1378 [some (.ref v0), some (.ref (E.1.heap.size + 0)), some (.ref (E.1.heap.size + 44)), some (.ref (E.1.heap.size + 1238)), some (.int x4), none, none, none] [.long s0, .long s1] := by
        intro σ x4 s0 s1 hV
        unfold V_X0_law_1378 at hV
        refine z_lcmp hC dL_law_1378 ?_
        refine z_if_eq (tgt := 1384) hC dL_law_1379 (by decide) (fun hc => ?_) (fun hc => ?_)
        · replace hV := hV.1 hc
          refine z_goto (tgt := 2679) hC dL_law_1384 (by decide) ?_
          obtain ⟨y203, e_y203⟩ : ∃ z : Int32, z = x4 + 6 := ⟨_, rfl⟩
          replace hV := hV _ e_y203
          refine z_iinc (v := y203) hC dL_law_2679 rfl (by rw [e_y203]; rfl) (Nat.le_of_ble_eq_true rfl) rfl rfl ?_
          refine z_goto (tgt := 23) hC dL_law_2682 (by decide) ?_
          refine zz_sub (L' := [some (.ref v0), some (.ref (E.1.heap.size + 0)), some (.ref (E.1.heap.size + 44)), some (.ref (E.1.heap.size + 1238)), some (.int y203), none, none, none]) ⟨rfl, rfl, rfl, rfl, rfl, trivial⟩ ?_
          exact j_23 σ y203 hV
        · replace hV := hV.2 hc
          refine z_iconst (v := 0) hC dL_law_1382 rfl ?_
          exact z_iret hC dL_law_1383 rfl (by rw [hQo]; exact ⟨_, rfl, hV⟩)
      have j_1527 : ∀ (σ : ZS) (x4 : Int32) (x5 : Int32) (s0 : Int32) (s1 : Int32) (s2 : Int32) (s3 : Int32), V_X0_law_1527 K23 w0 Ret σ x4 x5 s0 s1 s2 s3 → zz C E NS 8 σ 1527 [some (.ref v0), some (.ref (E.1.heap.size + 0)), some (.ref (E.1.heap.size + 44)), some (.ref (E.1.heap.size + 1238)), some (.int x4), some (.int x5), none, none] [.int s0, .int s1, .int s2, .int s3, .ref (E.1.heap.size + 44)] := by
        intro σ x4 x5 s0 s1 s2 s3 hV
        unfold V_X0_law_1527 at hV
        refine c_X0_192 hC (by decide) dL_law_1527 (Nat.le_of_ble_eq_true rfl) hV (fun r226 σ227 hV => ?_)
        refine z_istore hC dL_law_1530 (Nat.le_of_ble_eq_true rfl) rfl rfl ?_
        refine z_aload_n hC dL_law_1532 rfl rfl ?_
        refine c_X0_135 hC (by decide) dL_law_1533 (Nat.le_of_ble_eq_true rfl) hV (fun r228 σ229 hV => ?_)
        refine z_iload hC dL_law_1536 rfl ?_
        refine z_icmp_eq (tgt := 1543) hC dL_law_1538 (by decide) (fun hc => ?_) (fun hc => ?_)
        · replace hV := hV.1 hc
          refine z_iload hC dL_law_1543 rfl ?_
          refine z_if_ne (tgt := 1560) hC dL_law_1545 (by decide) (fun hc => ?_) (fun hc => ?_)
          · replace hV := hV.2 hc
            refine z_goto (tgt := 2679) hC dL_law_1560 (by decide) ?_
            obtain ⟨y230, e_y230⟩ : ∃ z : Int32, z = x4 + 6 := ⟨_, rfl⟩
            replace hV := hV _ e_y230
            refine z_iinc (v := y230) hC dL_law_2679 rfl (by rw [e_y230]; rfl) (Nat.le_of_ble_eq_true rfl) rfl rfl ?_
            refine z_goto (tgt := 23) hC dL_law_2682 (by decide) ?_
            refine zz_sub (L' := [some (.ref v0), some (.ref (E.1.heap.size + 0)), some (.ref (E.1.heap.size + 44)), some (.ref (E.1.heap.size + 1238)), some (.int y230), none, none, none]) ⟨rfl, rfl, rfl, rfl, rfl, trivial⟩ ?_
            exact j_23 σ229 y230 hV
          · replace hV := hV.1 hc
            refine z_aload_n hC dL_law_1548 rfl rfl ?_
            refine z_iconst (v := 0) hC dL_law_1549 rfl ?_
            refine z_lald hC dL_law_1550 (k_1238 _) (in_dec rfl) ?_
            refine z_iload hC dL_law_1551 rfl ?_
            refine z_i2l hC dL_law_1553 ?_
            refine z_lcmp hC dL_law_1554 ?_
            refine z_if_eq (tgt := 1560) hC dL_law_1555 (by decide) (fun hc => ?_) (fun hc => ?_)
            · replace hV := hV.1 hc
              refine z_goto (tgt := 2679) hC dL_law_1560 (by decide) ?_
              obtain ⟨y231, e_y231⟩ : ∃ z : Int32, z = x4 + 6 := ⟨_, rfl⟩
              replace hV := hV _ e_y231
              refine z_iinc (v := y231) hC dL_law_2679 rfl (by rw [e_y231]; rfl) (Nat.le_of_ble_eq_true rfl) rfl rfl ?_
              refine z_goto (tgt := 23) hC dL_law_2682 (by decide) ?_
              refine zz_sub (L' := [some (.ref v0), some (.ref (E.1.heap.size + 0)), some (.ref (E.1.heap.size + 44)), some (.ref (E.1.heap.size + 1238)), some (.int y231), none, none, none]) ⟨rfl, rfl, rfl, rfl, rfl, trivial⟩ ?_
              exact j_23 σ229 y231 hV
            · replace hV := hV.2 hc
              refine z_iconst (v := 0) hC dL_law_1558 rfl ?_
              exact z_iret hC dL_law_1559 rfl (by rw [hQo]; exact ⟨_, rfl, hV⟩)
        · replace hV := hV.2 hc
          refine z_iconst (v := 0) hC dL_law_1541 rfl ?_
          exact z_iret hC dL_law_1542 rfl (by rw [hQo]; exact ⟨_, rfl, hV⟩)
      have j_1488 : ∀ (σ : ZS) (x4 : Int32) (s0 : Int32) (s1 : Int32) (s2 : Int32) (s3 : Int32), V_X0_law_1488 K23 w0 Ret σ x4 s0 s1 s2 s3 → zz C E NS 8 σ 1488 [some (.ref v0), some (.ref (E.1.heap.size + 0)), some (.ref (E.1.heap.size + 44)), some (.ref (E.1.heap.size + 1238)), some (.int x4), none, none, none] [.int s0, .int s1, .int s2, .int s3, .ref (E.1.heap.size + 0)] := by
        intro σ x4 s0 s1 s2 s3 hV
        unfold V_X0_law_1488 at hV
        refine z_aload_n hC dL_law_1488 rfl rfl ?_
        refine c_X0_189 hC (by decide) dL_law_1489 (Nat.le_of_ble_eq_true rfl) hV (fun r220 σ221 hV => ?_)
        refine z_istore hC dL_law_1492 (Nat.le_of_ble_eq_true rfl) rfl rfl ?_
        refine z_aload_n hC dL_law_1494 rfl rfl ?_
        refine z_aload_n hC dL_law_1495 rfl rfl ?_
        refine z_iload hC dL_law_1496 rfl ?_
        refine z_iconst (v := 1) hC dL_law_1498 rfl ?_
        refine z_iadd hC dL_law_1499 ?_
        obtain ⟨h222, hV⟩ := hV
        refine z_ialdI hC hFI dL_law_1500 (h222) ?_
        refine z_aload_n hC dL_law_1501 rfl rfl ?_
        refine z_iload hC dL_law_1502 rfl ?_
        refine z_iconst (v := 2) hC dL_law_1504 rfl ?_
        refine z_iadd hC dL_law_1505 ?_
        obtain ⟨h223, hV⟩ := hV
        refine z_ialdI hC hFI dL_law_1506 (h223) ?_
        refine z_aload_n hC dL_law_1507 rfl rfl ?_
        refine z_iload hC dL_law_1508 rfl ?_
        refine z_iconst (v := 3) hC dL_law_1510 rfl ?_
        refine z_iadd hC dL_law_1511 ?_
        obtain ⟨h224, hV⟩ := hV
        refine z_ialdI hC hFI dL_law_1512 (h224) ?_
        refine z_aload_n hC dL_law_1513 rfl rfl ?_
        refine z_iload hC dL_law_1514 rfl ?_
        refine z_iconst (v := 4) hC dL_law_1516 rfl ?_
        refine z_iadd hC dL_law_1517 ?_
        obtain ⟨h225, hV⟩ := hV
        refine z_ialdI hC hFI dL_law_1518 (h225) ?_
        refine z_if_eq (tgt := 1526) hC dL_law_1519 (by decide) (fun hc => ?_) (fun hc => ?_)
        · replace hV := hV.1 hc
          refine z_iconst (v := 0) hC dL_law_1526 rfl ?_
          refine zz_sub (L' := [some (.ref v0), some (.ref (E.1.heap.size + 0)), some (.ref (E.1.heap.size + 44)), some (.ref (E.1.heap.size + 1238)), some (.int x4), some (.int r220), none, none]) ⟨rfl, rfl, rfl, rfl, rfl, rfl, trivial⟩ ?_
          exact j_1527 σ221 x4 r220 0 (w0.getD (ix (x4 + 3)) 0) (w0.getD (ix (x4 + 2)) 0) (w0.getD (ix (x4 + 1)) 0) hV
        · replace hV := hV.2 hc
          refine z_iconst (v := 1) hC dL_law_1522 rfl ?_
          refine z_goto (tgt := 1527) hC dL_law_1523 (by decide) ?_
          refine zz_sub (L' := [some (.ref v0), some (.ref (E.1.heap.size + 0)), some (.ref (E.1.heap.size + 44)), some (.ref (E.1.heap.size + 1238)), some (.int x4), some (.int r220), none, none]) ⟨rfl, rfl, rfl, rfl, rfl, rfl, trivial⟩ ?_
          exact j_1527 σ221 x4 r220 1 (w0.getD (ix (x4 + 3)) 0) (w0.getD (ix (x4 + 2)) 0) (w0.getD (ix (x4 + 1)) 0) hV
      refine z_iload hC dL_law_23 rfl ?_
      refine z_aload_n hC dL_law_25 rfl rfl ?_
      refine z_alenI hC hFI dL_law_26 ?_
      refine z_bipush (v := 6) hC dL_law_27 rfl ?_
      refine z_isub hC dL_law_29 ?_
      refine z_icmp_gt (tgt := 2685) hC dL_law_30 (by decide) (fun hc => ?_) (fun hc => ?_)
      · replace hV := hV.1 hc
        refine z_iconst (v := 1) hC dL_law_2685 rfl ?_
        exact z_iret hC dL_law_2686 rfl (by rw [hQo]; exact ⟨_, rfl, hV⟩)
      · replace hV := hV.2 hc
        refine z_aload_n hC dL_law_33 rfl rfl ?_
        refine z_iload hC dL_law_34 rfl ?_
        obtain ⟨h1, hV⟩ := hV
        refine z_ialdI hC hFI dL_law_36 (h1) ?_
        refine z_bipush (v := 63) hC dL_law_37 rfl ?_
        refine z_iand hC dL_law_39 ?_
        by_cases hc0 : ((w0.getD (ix x4) 0) &&& 63) = 0
        · replace hV := hV.1 hc0
          refine z_tableIn (tgt := 212) (off := 172) hC dL_law_40 (by rw [hc0]; decide) (by rw [hc0]; decide) (by rw [hc0]; rfl) (by decide) ?_
          refine z_aload_n hC dL_law_212 rfl rfl ?_
          refine z_aload_n hC dL_law_213 rfl rfl ?_
          refine z_iload hC dL_law_214 rfl ?_
          refine z_iconst (v := 1) hC dL_law_216 rfl ?_
          refine z_iadd hC dL_law_217 ?_
          obtain ⟨h2, hV⟩ := hV
          refine z_ialdI hC hFI dL_law_218 (h2) ?_
          refine z_aload_n hC dL_law_219 rfl rfl ?_
          refine z_iload hC dL_law_220 rfl ?_
          refine z_iconst (v := 2) hC dL_law_222 rfl ?_
          refine z_iadd hC dL_law_223 ?_
          obtain ⟨h3, hV⟩ := hV
          refine z_ialdI hC hFI dL_law_224 (h3) ?_
          refine z_aload_n hC dL_law_225 rfl rfl ?_
          refine z_iload hC dL_law_226 rfl ?_
          refine z_iconst (v := 3) hC dL_law_228 rfl ?_
          refine z_iadd hC dL_law_229 ?_
          obtain ⟨h4, hV⟩ := hV
          refine z_ialdI hC hFI dL_law_230 (h4) ?_
          refine z_aload_n hC dL_law_231 rfl rfl ?_
          refine z_iload hC dL_law_232 rfl ?_
          refine z_iconst (v := 4) hC dL_law_234 rfl ?_
          refine z_iadd hC dL_law_235 ?_
          obtain ⟨h5, hV⟩ := hV
          refine z_ialdI hC hFI dL_law_236 (h5) ?_
          refine z_aload_n hC dL_law_237 rfl rfl ?_
          refine z_iload hC dL_law_238 rfl ?_
          refine z_iconst (v := 5) hC dL_law_240 rfl ?_
          refine z_iadd hC dL_law_241 ?_
          obtain ⟨h6, hV⟩ := hV
          refine z_ialdI hC hFI dL_law_242 (h6) ?_
          refine c_X0_124 hC (by decide) dL_law_243 (Nat.le_of_ble_eq_true rfl) hV (fun r7 σ8 hV => ?_)
          refine z_aload_n hC dL_law_246 rfl rfl ?_
          refine z_aload_n hC dL_law_247 rfl rfl ?_
          refine z_iload hC dL_law_248 rfl ?_
          refine z_iconst (v := 1) hC dL_law_250 rfl ?_
          refine z_iadd hC dL_law_251 ?_
          obtain ⟨h9, hV⟩ := hV
          refine z_ialdI hC hFI dL_law_252 (h9) ?_
          refine z_aload_n hC dL_law_253 rfl rfl ?_
          refine z_iload hC dL_law_254 rfl ?_
          refine z_iconst (v := 2) hC dL_law_256 rfl ?_
          refine z_iadd hC dL_law_257 ?_
          obtain ⟨h10, hV⟩ := hV
          refine z_ialdI hC hFI dL_law_258 (h10) ?_
          refine z_aload_n hC dL_law_259 rfl rfl ?_
          refine z_iload hC dL_law_260 rfl ?_
          refine z_iconst (v := 3) hC dL_law_262 rfl ?_
          refine z_iadd hC dL_law_263 ?_
          obtain ⟨h11, hV⟩ := hV
          refine z_ialdI hC hFI dL_law_264 (h11) ?_
          refine z_aload_n hC dL_law_265 rfl rfl ?_
          refine z_iload hC dL_law_266 rfl ?_
          refine z_iconst (v := 4) hC dL_law_268 rfl ?_
          refine z_iadd hC dL_law_269 ?_
          obtain ⟨h12, hV⟩ := hV
          refine z_ialdI hC hFI dL_law_270 (h12) ?_
          refine z_aload_n hC dL_law_271 rfl rfl ?_
          refine z_iload hC dL_law_272 rfl ?_
          refine z_iconst (v := 5) hC dL_law_274 rfl ?_
          refine z_iadd hC dL_law_275 ?_
          obtain ⟨h13, hV⟩ := hV
          refine z_ialdI hC hFI dL_law_276 (h13) ?_
          refine c_X0_128 hC (by decide) dL_law_277 (Nat.le_of_ble_eq_true rfl) hV (fun r14 σ15 hV => ?_)
          refine z_icmp_eq (tgt := 2679) hC dL_law_280 (by decide) (fun hc => ?_) (fun hc => ?_)
          · replace hV := hV.1 hc
            obtain ⟨y16, e_y16⟩ : ∃ z : Int32, z = x4 + 6 := ⟨_, rfl⟩
            replace hV := hV _ e_y16
            refine z_iinc (v := y16) hC dL_law_2679 rfl (by rw [e_y16]; rfl) (Nat.le_of_ble_eq_true rfl) rfl rfl ?_
            refine z_goto (tgt := 23) hC dL_law_2682 (by decide) ?_
            refine zz_sub (L' := [some (.ref v0), some (.ref (E.1.heap.size + 0)), some (.ref (E.1.heap.size + 44)), some (.ref (E.1.heap.size + 1238)), some (.int y16), none, none, none]) ⟨rfl, rfl, rfl, rfl, rfl, trivial⟩ ?_
            exact j_23 σ15 y16 hV
          · replace hV := hV.2 hc
            refine z_iconst (v := 0) hC dL_law_283 rfl ?_
            exact z_iret hC dL_law_284 rfl (by rw [hQo]; exact ⟨_, rfl, hV⟩)
        replace hV := hV.2 hc0
        by_cases hc1 : ((w0.getD (ix x4) 0) &&& 63) = 1
        · replace hV := hV.1 hc1
          refine z_tableIn (tgt := 285) (off := 245) hC dL_law_40 (by rw [hc1]; decide) (by rw [hc1]; decide) (by rw [hc1]; rfl) (by decide) ?_
          refine z_aload_n hC dL_law_285 rfl rfl ?_
          refine z_aload_n hC dL_law_286 rfl rfl ?_
          refine z_iload hC dL_law_287 rfl ?_
          refine z_iconst (v := 1) hC dL_law_289 rfl ?_
          refine z_iadd hC dL_law_290 ?_
          obtain ⟨h17, hV⟩ := hV
          refine z_ialdI hC hFI dL_law_291 (h17) ?_
          refine z_aload_n hC dL_law_292 rfl rfl ?_
          refine c_X0_129 hC (by decide) dL_law_293 (Nat.le_of_ble_eq_true rfl) hV (fun r18 σ19 hV => ?_)
          refine z_istore hC dL_law_296 (Nat.le_of_ble_eq_true rfl) rfl rfl ?_
          refine z_aload_n hC dL_law_298 rfl rfl ?_
          refine z_aload_n hC dL_law_299 rfl rfl ?_
          refine z_iload hC dL_law_300 rfl ?_
          refine z_iconst (v := 1) hC dL_law_302 rfl ?_
          refine z_iadd hC dL_law_303 ?_
          obtain ⟨h20, hV⟩ := hV
          refine z_ialdI hC hFI dL_law_304 (h20) ?_
          refine c_X0_134 hC (by decide) dL_law_305 (Nat.le_of_ble_eq_true rfl) hV (fun r21 σ22 hV => ?_)
          refine z_istore hC dL_law_308 (Nat.le_of_ble_eq_true rfl) rfl rfl ?_
          refine z_aload_n hC dL_law_310 rfl rfl ?_
          refine c_X0_135 hC (by decide) dL_law_311 (Nat.le_of_ble_eq_true rfl) hV (fun r23 σ24 hV => ?_)
          refine z_iload hC dL_law_314 rfl ?_
          refine z_icmp_eq (tgt := 321) hC dL_law_316 (by decide) (fun hc => ?_) (fun hc => ?_)
          · replace hV := hV.1 hc
            refine z_iload hC dL_law_321 rfl ?_
            refine z_if_ne (tgt := 338) hC dL_law_323 (by decide) (fun hc => ?_) (fun hc => ?_)
            · replace hV := hV.2 hc
              refine z_goto (tgt := 2679) hC dL_law_338 (by decide) ?_
              obtain ⟨y25, e_y25⟩ : ∃ z : Int32, z = x4 + 6 := ⟨_, rfl⟩
              replace hV := hV _ e_y25
              refine z_iinc (v := y25) hC dL_law_2679 rfl (by rw [e_y25]; rfl) (Nat.le_of_ble_eq_true rfl) rfl rfl ?_
              refine z_goto (tgt := 23) hC dL_law_2682 (by decide) ?_
              refine zz_sub (L' := [some (.ref v0), some (.ref (E.1.heap.size + 0)), some (.ref (E.1.heap.size + 44)), some (.ref (E.1.heap.size + 1238)), some (.int y25), none, none, none]) ⟨rfl, rfl, rfl, rfl, rfl, trivial⟩ ?_
              exact j_23 σ24 y25 hV
            · replace hV := hV.1 hc
              refine z_aload_n hC dL_law_326 rfl rfl ?_
              refine z_iconst (v := 0) hC dL_law_327 rfl ?_
              refine z_lald hC dL_law_328 (k_1238 _) (in_dec rfl) ?_
              refine z_iload hC dL_law_329 rfl ?_
              refine z_i2l hC dL_law_331 ?_
              refine z_lcmp hC dL_law_332 ?_
              refine z_if_eq (tgt := 338) hC dL_law_333 (by decide) (fun hc => ?_) (fun hc => ?_)
              · replace hV := hV.1 hc
                refine z_goto (tgt := 2679) hC dL_law_338 (by decide) ?_
                obtain ⟨y26, e_y26⟩ : ∃ z : Int32, z = x4 + 6 := ⟨_, rfl⟩
                replace hV := hV _ e_y26
                refine z_iinc (v := y26) hC dL_law_2679 rfl (by rw [e_y26]; rfl) (Nat.le_of_ble_eq_true rfl) rfl rfl ?_
                refine z_goto (tgt := 23) hC dL_law_2682 (by decide) ?_
                refine zz_sub (L' := [some (.ref v0), some (.ref (E.1.heap.size + 0)), some (.ref (E.1.heap.size + 44)), some (.ref (E.1.heap.size + 1238)), some (.int y26), none, none, none]) ⟨rfl, rfl, rfl, rfl, rfl, trivial⟩ ?_
                exact j_23 σ24 y26 hV
              · replace hV := hV.2 hc
                refine z_iconst (v := 0) hC dL_law_336 rfl ?_
                exact z_iret hC dL_law_337 rfl (by rw [hQo]; exact ⟨_, rfl, hV⟩)
          · replace hV := hV.2 hc
            refine z_iconst (v := 0) hC dL_law_319 rfl ?_
            exact z_iret hC dL_law_320 rfl (by rw [hQo]; exact ⟨_, rfl, hV⟩)
        replace hV := hV.2 hc1
        by_cases hc2 : ((w0.getD (ix x4) 0) &&& 63) = 2
        · replace hV := hV.1 hc2
          refine z_tableIn (tgt := 341) (off := 301) hC dL_law_40 (by rw [hc2]; decide) (by rw [hc2]; decide) (by rw [hc2]; rfl) (by decide) ?_
          refine z_aload_n hC dL_law_341 rfl rfl ?_
          refine c_X0_139 hC (by decide) dL_law_342 (Nat.le_of_ble_eq_true rfl) hV (fun r27 σ28 hV => ?_)
          refine z_aload_n hC dL_law_345 rfl rfl ?_
          refine c_X0_142 hC (by decide) dL_law_346 (Nat.le_of_ble_eq_true rfl) hV (fun r29 σ30 hV => ?_)
          refine z_icmp_eq (tgt := 2679) hC dL_law_349 (by decide) (fun hc => ?_) (fun hc => ?_)
          · replace hV := hV.1 hc
            obtain ⟨y31, e_y31⟩ : ∃ z : Int32, z = x4 + 6 := ⟨_, rfl⟩
            replace hV := hV _ e_y31
            refine z_iinc (v := y31) hC dL_law_2679 rfl (by rw [e_y31]; rfl) (Nat.le_of_ble_eq_true rfl) rfl rfl ?_
            refine z_goto (tgt := 23) hC dL_law_2682 (by decide) ?_
            refine zz_sub (L' := [some (.ref v0), some (.ref (E.1.heap.size + 0)), some (.ref (E.1.heap.size + 44)), some (.ref (E.1.heap.size + 1238)), some (.int y31), none, none, none]) ⟨rfl, rfl, rfl, rfl, rfl, trivial⟩ ?_
            exact j_23 σ30 y31 hV
          · replace hV := hV.2 hc
            refine z_iconst (v := 0) hC dL_law_352 rfl ?_
            exact z_iret hC dL_law_353 rfl (by rw [hQo]; exact ⟨_, rfl, hV⟩)
        replace hV := hV.2 hc2
        by_cases hc3 : ((w0.getD (ix x4) 0) &&& 63) = 3
        · replace hV := hV.1 hc3
          refine z_tableIn (tgt := 354) (off := 314) hC dL_law_40 (by rw [hc3]; decide) (by rw [hc3]; decide) (by rw [hc3]; rfl) (by decide) ?_
          refine z_aload_n hC dL_law_354 rfl rfl ?_
          refine z_aload_n hC dL_law_355 rfl rfl ?_
          refine z_iload hC dL_law_356 rfl ?_
          refine z_iconst (v := 1) hC dL_law_358 rfl ?_
          refine z_iadd hC dL_law_359 ?_
          obtain ⟨h32, hV⟩ := hV
          refine z_ialdI hC hFI dL_law_360 (h32) ?_
          refine z_aload_n hC dL_law_361 rfl rfl ?_
          refine c_X0_143 hC (by decide) dL_law_362 (Nat.le_of_ble_eq_true rfl) hV (fun r33 σ34 hV => ?_)
          refine z_istore hC dL_law_365 (Nat.le_of_ble_eq_true rfl) rfl rfl ?_
          refine z_aload_n hC dL_law_367 rfl rfl ?_
          refine z_aload_n hC dL_law_368 rfl rfl ?_
          refine z_iload hC dL_law_369 rfl ?_
          refine z_iconst (v := 1) hC dL_law_371 rfl ?_
          refine z_iadd hC dL_law_372 ?_
          obtain ⟨h35, hV⟩ := hV
          refine z_ialdI hC hFI dL_law_373 (h35) ?_
          refine c_X0_145 hC (by decide) dL_law_374 (Nat.le_of_ble_eq_true rfl) hV (fun r36 σ37 hV => ?_)
          refine z_istore hC dL_law_377 (Nat.le_of_ble_eq_true rfl) rfl rfl ?_
          refine z_aload_n hC dL_law_379 rfl rfl ?_
          refine c_X0_135 hC (by decide) dL_law_380 (Nat.le_of_ble_eq_true rfl) hV (fun r38 σ39 hV => ?_)
          refine z_iload hC dL_law_383 rfl ?_
          refine z_icmp_eq (tgt := 390) hC dL_law_385 (by decide) (fun hc => ?_) (fun hc => ?_)
          · replace hV := hV.1 hc
            refine z_iload hC dL_law_390 rfl ?_
            refine z_if_ne (tgt := 407) hC dL_law_392 (by decide) (fun hc => ?_) (fun hc => ?_)
            · replace hV := hV.2 hc
              refine z_goto (tgt := 2679) hC dL_law_407 (by decide) ?_
              obtain ⟨y40, e_y40⟩ : ∃ z : Int32, z = x4 + 6 := ⟨_, rfl⟩
              replace hV := hV _ e_y40
              refine z_iinc (v := y40) hC dL_law_2679 rfl (by rw [e_y40]; rfl) (Nat.le_of_ble_eq_true rfl) rfl rfl ?_
              refine z_goto (tgt := 23) hC dL_law_2682 (by decide) ?_
              refine zz_sub (L' := [some (.ref v0), some (.ref (E.1.heap.size + 0)), some (.ref (E.1.heap.size + 44)), some (.ref (E.1.heap.size + 1238)), some (.int y40), none, none, none]) ⟨rfl, rfl, rfl, rfl, rfl, trivial⟩ ?_
              exact j_23 σ39 y40 hV
            · replace hV := hV.1 hc
              refine z_aload_n hC dL_law_395 rfl rfl ?_
              refine z_iconst (v := 0) hC dL_law_396 rfl ?_
              refine z_lald hC dL_law_397 (k_1238 _) (in_dec rfl) ?_
              refine z_iload hC dL_law_398 rfl ?_
              refine z_i2l hC dL_law_400 ?_
              refine z_lcmp hC dL_law_401 ?_
              refine z_if_eq (tgt := 407) hC dL_law_402 (by decide) (fun hc => ?_) (fun hc => ?_)
              · replace hV := hV.1 hc
                refine z_goto (tgt := 2679) hC dL_law_407 (by decide) ?_
                obtain ⟨y41, e_y41⟩ : ∃ z : Int32, z = x4 + 6 := ⟨_, rfl⟩
                replace hV := hV _ e_y41
                refine z_iinc (v := y41) hC dL_law_2679 rfl (by rw [e_y41]; rfl) (Nat.le_of_ble_eq_true rfl) rfl rfl ?_
                refine z_goto (tgt := 23) hC dL_law_2682 (by decide) ?_
                refine zz_sub (L' := [some (.ref v0), some (.ref (E.1.heap.size + 0)), some (.ref (E.1.heap.size + 44)), some (.ref (E.1.heap.size + 1238)), some (.int y41), none, none, none]) ⟨rfl, rfl, rfl, rfl, rfl, trivial⟩ ?_
                exact j_23 σ39 y41 hV
              · replace hV := hV.2 hc
                refine z_iconst (v := 0) hC dL_law_405 rfl ?_
                exact z_iret hC dL_law_406 rfl (by rw [hQo]; exact ⟨_, rfl, hV⟩)
          · replace hV := hV.2 hc
            refine z_iconst (v := 0) hC dL_law_388 rfl ?_
            exact z_iret hC dL_law_389 rfl (by rw [hQo]; exact ⟨_, rfl, hV⟩)
        replace hV := hV.2 hc3
        by_cases hc4 : ((w0.getD (ix x4) 0) &&& 63) = 4
        · replace hV := hV.1 hc4
          refine z_tableIn (tgt := 410) (off := 370) hC dL_law_40 (by rw [hc4]; decide) (by rw [hc4]; decide) (by rw [hc4]; rfl) (by decide) ?_
          refine z_aload_n hC dL_law_410 rfl rfl ?_
          refine z_aload_n hC dL_law_411 rfl rfl ?_
          refine z_iload hC dL_law_412 rfl ?_
          refine z_iconst (v := 1) hC dL_law_414 rfl ?_
          refine z_iadd hC dL_law_415 ?_
          obtain ⟨h42, hV⟩ := hV
          refine z_ialdI hC hFI dL_law_416 (h42) ?_
          refine z_aload_n hC dL_law_417 rfl rfl ?_
          refine z_iload hC dL_law_418 rfl ?_
          refine z_iconst (v := 2) hC dL_law_420 rfl ?_
          refine z_iadd hC dL_law_421 ?_
          obtain ⟨h43, hV⟩ := hV
          refine z_ialdI hC hFI dL_law_422 (h43) ?_
          refine z_aload_n hC dL_law_423 rfl rfl ?_
          refine c_X0_146 hC (by decide) dL_law_424 (Nat.le_of_ble_eq_true rfl) hV (fun r44 σ45 hV => ?_)
          refine z_istore hC dL_law_427 (Nat.le_of_ble_eq_true rfl) rfl rfl ?_
          refine z_aload_n hC dL_law_429 rfl rfl ?_
          refine z_aload_n hC dL_law_430 rfl rfl ?_
          refine z_iload hC dL_law_431 rfl ?_
          refine z_iconst (v := 1) hC dL_law_433 rfl ?_
          refine z_iadd hC dL_law_434 ?_
          obtain ⟨h46, hV⟩ := hV
          refine z_ialdI hC hFI dL_law_435 (h46) ?_
          refine z_aload_n hC dL_law_436 rfl rfl ?_
          refine z_iload hC dL_law_437 rfl ?_
          refine z_iconst (v := 2) hC dL_law_439 rfl ?_
          refine z_iadd hC dL_law_440 ?_
          obtain ⟨h47, hV⟩ := hV
          refine z_ialdI hC hFI dL_law_441 (h47) ?_
          refine c_X0_149 hC (by decide) dL_law_442 (Nat.le_of_ble_eq_true rfl) hV (fun r48 σ49 hV => ?_)
          refine z_istore hC dL_law_445 (Nat.le_of_ble_eq_true rfl) rfl rfl ?_
          refine z_aload_n hC dL_law_447 rfl rfl ?_
          refine c_X0_135 hC (by decide) dL_law_448 (Nat.le_of_ble_eq_true rfl) hV (fun r50 σ51 hV => ?_)
          refine z_iload hC dL_law_451 rfl ?_
          refine z_icmp_eq (tgt := 458) hC dL_law_453 (by decide) (fun hc => ?_) (fun hc => ?_)
          · replace hV := hV.1 hc
            refine z_iload hC dL_law_458 rfl ?_
            refine z_if_ne (tgt := 475) hC dL_law_460 (by decide) (fun hc => ?_) (fun hc => ?_)
            · replace hV := hV.2 hc
              refine z_goto (tgt := 2679) hC dL_law_475 (by decide) ?_
              obtain ⟨y52, e_y52⟩ : ∃ z : Int32, z = x4 + 6 := ⟨_, rfl⟩
              replace hV := hV _ e_y52
              refine z_iinc (v := y52) hC dL_law_2679 rfl (by rw [e_y52]; rfl) (Nat.le_of_ble_eq_true rfl) rfl rfl ?_
              refine z_goto (tgt := 23) hC dL_law_2682 (by decide) ?_
              refine zz_sub (L' := [some (.ref v0), some (.ref (E.1.heap.size + 0)), some (.ref (E.1.heap.size + 44)), some (.ref (E.1.heap.size + 1238)), some (.int y52), none, none, none]) ⟨rfl, rfl, rfl, rfl, rfl, trivial⟩ ?_
              exact j_23 σ51 y52 hV
            · replace hV := hV.1 hc
              refine z_aload_n hC dL_law_463 rfl rfl ?_
              refine z_iconst (v := 0) hC dL_law_464 rfl ?_
              refine z_lald hC dL_law_465 (k_1238 _) (in_dec rfl) ?_
              refine z_iload hC dL_law_466 rfl ?_
              refine z_i2l hC dL_law_468 ?_
              refine z_lcmp hC dL_law_469 ?_
              refine z_if_eq (tgt := 475) hC dL_law_470 (by decide) (fun hc => ?_) (fun hc => ?_)
              · replace hV := hV.1 hc
                refine z_goto (tgt := 2679) hC dL_law_475 (by decide) ?_
                obtain ⟨y53, e_y53⟩ : ∃ z : Int32, z = x4 + 6 := ⟨_, rfl⟩
                replace hV := hV _ e_y53
                refine z_iinc (v := y53) hC dL_law_2679 rfl (by rw [e_y53]; rfl) (Nat.le_of_ble_eq_true rfl) rfl rfl ?_
                refine z_goto (tgt := 23) hC dL_law_2682 (by decide) ?_
                refine zz_sub (L' := [some (.ref v0), some (.ref (E.1.heap.size + 0)), some (.ref (E.1.heap.size + 44)), some (.ref (E.1.heap.size + 1238)), some (.int y53), none, none, none]) ⟨rfl, rfl, rfl, rfl, rfl, trivial⟩ ?_
                exact j_23 σ51 y53 hV
              · replace hV := hV.2 hc
                refine z_iconst (v := 0) hC dL_law_473 rfl ?_
                exact z_iret hC dL_law_474 rfl (by rw [hQo]; exact ⟨_, rfl, hV⟩)
          · replace hV := hV.2 hc
            refine z_iconst (v := 0) hC dL_law_456 rfl ?_
            exact z_iret hC dL_law_457 rfl (by rw [hQo]; exact ⟨_, rfl, hV⟩)
        replace hV := hV.2 hc4
        by_cases hc5 : ((w0.getD (ix x4) 0) &&& 63) = 5
        · replace hV := hV.1 hc5
          refine z_tableIn (tgt := 478) (off := 438) hC dL_law_40 (by rw [hc5]; decide) (by rw [hc5]; decide) (by rw [hc5]; rfl) (by decide) ?_
          refine z_aload_n hC dL_law_478 rfl rfl ?_
          refine z_aload_n hC dL_law_479 rfl rfl ?_
          refine z_iload hC dL_law_480 rfl ?_
          refine z_iconst (v := 1) hC dL_law_482 rfl ?_
          refine z_iadd hC dL_law_483 ?_
          obtain ⟨h54, hV⟩ := hV
          refine z_ialdI hC hFI dL_law_484 (h54) ?_
          refine z_aload_n hC dL_law_485 rfl rfl ?_
          refine z_iload hC dL_law_486 rfl ?_
          refine z_iconst (v := 2) hC dL_law_488 rfl ?_
          refine z_iadd hC dL_law_489 ?_
          obtain ⟨h55, hV⟩ := hV
          refine z_ialdI hC hFI dL_law_490 (h55) ?_
          refine z_aload_n hC dL_law_491 rfl rfl ?_
          refine c_X0_150 hC (by decide) dL_law_492 (Nat.le_of_ble_eq_true rfl) hV (fun r56 σ57 hV => ?_)
          refine z_istore hC dL_law_495 (Nat.le_of_ble_eq_true rfl) rfl rfl ?_
          refine z_aload_n hC dL_law_497 rfl rfl ?_
          refine z_aload_n hC dL_law_498 rfl rfl ?_
          refine z_iload hC dL_law_499 rfl ?_
          refine z_iconst (v := 1) hC dL_law_501 rfl ?_
          refine z_iadd hC dL_law_502 ?_
          obtain ⟨h58, hV⟩ := hV
          refine z_ialdI hC hFI dL_law_503 (h58) ?_
          refine z_aload_n hC dL_law_504 rfl rfl ?_
          refine z_iload hC dL_law_505 rfl ?_
          refine z_iconst (v := 2) hC dL_law_507 rfl ?_
          refine z_iadd hC dL_law_508 ?_
          obtain ⟨h59, hV⟩ := hV
          refine z_ialdI hC hFI dL_law_509 (h59) ?_
          refine c_X0_152 hC (by decide) dL_law_510 (Nat.le_of_ble_eq_true rfl) hV (fun r60 σ61 hV => ?_)
          refine z_istore hC dL_law_513 (Nat.le_of_ble_eq_true rfl) rfl rfl ?_
          refine z_aload_n hC dL_law_515 rfl rfl ?_
          refine c_X0_135 hC (by decide) dL_law_516 (Nat.le_of_ble_eq_true rfl) hV (fun r62 σ63 hV => ?_)
          refine z_iload hC dL_law_519 rfl ?_
          refine z_icmp_eq (tgt := 526) hC dL_law_521 (by decide) (fun hc => ?_) (fun hc => ?_)
          · replace hV := hV.1 hc
            refine z_iload hC dL_law_526 rfl ?_
            refine z_if_ne (tgt := 543) hC dL_law_528 (by decide) (fun hc => ?_) (fun hc => ?_)
            · replace hV := hV.2 hc
              refine z_goto (tgt := 2679) hC dL_law_543 (by decide) ?_
              obtain ⟨y64, e_y64⟩ : ∃ z : Int32, z = x4 + 6 := ⟨_, rfl⟩
              replace hV := hV _ e_y64
              refine z_iinc (v := y64) hC dL_law_2679 rfl (by rw [e_y64]; rfl) (Nat.le_of_ble_eq_true rfl) rfl rfl ?_
              refine z_goto (tgt := 23) hC dL_law_2682 (by decide) ?_
              refine zz_sub (L' := [some (.ref v0), some (.ref (E.1.heap.size + 0)), some (.ref (E.1.heap.size + 44)), some (.ref (E.1.heap.size + 1238)), some (.int y64), none, none, none]) ⟨rfl, rfl, rfl, rfl, rfl, trivial⟩ ?_
              exact j_23 σ63 y64 hV
            · replace hV := hV.1 hc
              refine z_aload_n hC dL_law_531 rfl rfl ?_
              refine z_iconst (v := 0) hC dL_law_532 rfl ?_
              refine z_lald hC dL_law_533 (k_1238 _) (in_dec rfl) ?_
              refine z_iload hC dL_law_534 rfl ?_
              refine z_i2l hC dL_law_536 ?_
              refine z_lcmp hC dL_law_537 ?_
              refine z_if_eq (tgt := 543) hC dL_law_538 (by decide) (fun hc => ?_) (fun hc => ?_)
              · replace hV := hV.1 hc
                refine z_goto (tgt := 2679) hC dL_law_543 (by decide) ?_
                obtain ⟨y65, e_y65⟩ : ∃ z : Int32, z = x4 + 6 := ⟨_, rfl⟩
                replace hV := hV _ e_y65
                refine z_iinc (v := y65) hC dL_law_2679 rfl (by rw [e_y65]; rfl) (Nat.le_of_ble_eq_true rfl) rfl rfl ?_
                refine z_goto (tgt := 23) hC dL_law_2682 (by decide) ?_
                refine zz_sub (L' := [some (.ref v0), some (.ref (E.1.heap.size + 0)), some (.ref (E.1.heap.size + 44)), some (.ref (E.1.heap.size + 1238)), some (.int y65), none, none, none]) ⟨rfl, rfl, rfl, rfl, rfl, trivial⟩ ?_
                exact j_23 σ63 y65 hV
              · replace hV := hV.2 hc
                refine z_iconst (v := 0) hC dL_law_541 rfl ?_
                exact z_iret hC dL_law_542 rfl (by rw [hQo]; exact ⟨_, rfl, hV⟩)
          · replace hV := hV.2 hc
            refine z_iconst (v := 0) hC dL_law_524 rfl ?_
            exact z_iret hC dL_law_525 rfl (by rw [hQo]; exact ⟨_, rfl, hV⟩)
        replace hV := hV.2 hc5
        by_cases hc6 : ((w0.getD (ix x4) 0) &&& 63) = 6
        · replace hV := hV.1 hc6
          refine z_tableIn (tgt := 546) (off := 506) hC dL_law_40 (by rw [hc6]; decide) (by rw [hc6]; decide) (by rw [hc6]; rfl) (by decide) ?_
          refine z_aload_n hC dL_law_546 rfl rfl ?_
          refine z_aload_n hC dL_law_547 rfl rfl ?_
          refine z_iload hC dL_law_548 rfl ?_
          refine z_iconst (v := 1) hC dL_law_550 rfl ?_
          refine z_iadd hC dL_law_551 ?_
          obtain ⟨h66, hV⟩ := hV
          refine z_ialdI hC hFI dL_law_552 (h66) ?_
          refine z_aload_n hC dL_law_553 rfl rfl ?_
          refine z_iload hC dL_law_554 rfl ?_
          refine z_iconst (v := 2) hC dL_law_556 rfl ?_
          refine z_iadd hC dL_law_557 ?_
          obtain ⟨h67, hV⟩ := hV
          refine z_ialdI hC hFI dL_law_558 (h67) ?_
          refine z_aload_n hC dL_law_559 rfl rfl ?_
          refine z_iload hC dL_law_560 rfl ?_
          refine z_iconst (v := 3) hC dL_law_562 rfl ?_
          refine z_iadd hC dL_law_563 ?_
          obtain ⟨h68, hV⟩ := hV
          refine z_ialdI hC hFI dL_law_564 (h68) ?_
          refine z_aload_n hC dL_law_565 rfl rfl ?_
          refine c_X0_153 hC (by decide) dL_law_566 (Nat.le_of_ble_eq_true rfl) hV (fun r69 σ70 hV => ?_)
          refine z_istore hC dL_law_569 (Nat.le_of_ble_eq_true rfl) rfl rfl ?_
          refine z_aload_n hC dL_law_571 rfl rfl ?_
          refine z_aload_n hC dL_law_572 rfl rfl ?_
          refine z_iload hC dL_law_573 rfl ?_
          refine z_iconst (v := 1) hC dL_law_575 rfl ?_
          refine z_iadd hC dL_law_576 ?_
          obtain ⟨h71, hV⟩ := hV
          refine z_ialdI hC hFI dL_law_577 (h71) ?_
          refine z_aload_n hC dL_law_578 rfl rfl ?_
          refine z_iload hC dL_law_579 rfl ?_
          refine z_iconst (v := 2) hC dL_law_581 rfl ?_
          refine z_iadd hC dL_law_582 ?_
          obtain ⟨h72, hV⟩ := hV
          refine z_ialdI hC hFI dL_law_583 (h72) ?_
          refine z_aload_n hC dL_law_584 rfl rfl ?_
          refine z_iload hC dL_law_585 rfl ?_
          refine z_iconst (v := 3) hC dL_law_587 rfl ?_
          refine z_iadd hC dL_law_588 ?_
          obtain ⟨h73, hV⟩ := hV
          refine z_ialdI hC hFI dL_law_589 (h73) ?_
          refine c_X0_156 hC (by decide) dL_law_590 (Nat.le_of_ble_eq_true rfl) hV (fun r74 σ75 hV => ?_)
          refine z_istore hC dL_law_593 (Nat.le_of_ble_eq_true rfl) rfl rfl ?_
          refine z_aload_n hC dL_law_595 rfl rfl ?_
          refine c_X0_135 hC (by decide) dL_law_596 (Nat.le_of_ble_eq_true rfl) hV (fun r76 σ77 hV => ?_)
          refine z_iload hC dL_law_599 rfl ?_
          refine z_icmp_eq (tgt := 606) hC dL_law_601 (by decide) (fun hc => ?_) (fun hc => ?_)
          · replace hV := hV.1 hc
            refine z_iload hC dL_law_606 rfl ?_
            refine z_if_ne (tgt := 630) hC dL_law_608 (by decide) (fun hc => ?_) (fun hc => ?_)
            · replace hV := hV.2 hc
              refine z_goto (tgt := 2679) hC dL_law_630 (by decide) ?_
              obtain ⟨y78, e_y78⟩ : ∃ z : Int32, z = x4 + 6 := ⟨_, rfl⟩
              replace hV := hV _ e_y78
              refine z_iinc (v := y78) hC dL_law_2679 rfl (by rw [e_y78]; rfl) (Nat.le_of_ble_eq_true rfl) rfl rfl ?_
              refine z_goto (tgt := 23) hC dL_law_2682 (by decide) ?_
              refine zz_sub (L' := [some (.ref v0), some (.ref (E.1.heap.size + 0)), some (.ref (E.1.heap.size + 44)), some (.ref (E.1.heap.size + 1238)), some (.int y78), none, none, none]) ⟨rfl, rfl, rfl, rfl, rfl, trivial⟩ ?_
              exact j_23 σ77 y78 hV
            · replace hV := hV.1 hc
              refine z_aload_n hC dL_law_611 rfl rfl ?_
              refine z_iconst (v := 0) hC dL_law_612 rfl ?_
              refine z_lald hC dL_law_613 (k_1238 _) (in_dec rfl) ?_
              refine z_iload hC dL_law_614 rfl ?_
              refine z_if_eq (tgt := 623) hC dL_law_616 (by decide) (fun hc => ?_) (fun hc => ?_)
              · replace hV := hV.1 hc
                refine z_lconst (v := 0) hC dL_law_623 rfl ?_
                refine zz_sub (L' := [some (.ref v0), some (.ref (E.1.heap.size + 0)), some (.ref (E.1.heap.size + 44)), some (.ref (E.1.heap.size + 1238)), some (.int x4), none, none, none]) ⟨rfl, rfl, rfl, rfl, rfl, trivial⟩ ?_
                exact j_624 σ77 x4 0 (zJ σ77 1238 (ix 0)) hV
              · replace hV := hV.2 hc
                refine z_lconst (v := 1) hC dL_law_619 rfl ?_
                refine z_goto (tgt := 624) hC dL_law_620 (by decide) ?_
                refine zz_sub (L' := [some (.ref v0), some (.ref (E.1.heap.size + 0)), some (.ref (E.1.heap.size + 44)), some (.ref (E.1.heap.size + 1238)), some (.int x4), none, none, none]) ⟨rfl, rfl, rfl, rfl, rfl, trivial⟩ ?_
                exact j_624 σ77 x4 1 (zJ σ77 1238 (ix 0)) hV
          · replace hV := hV.2 hc
            refine z_iconst (v := 0) hC dL_law_604 rfl ?_
            exact z_iret hC dL_law_605 rfl (by rw [hQo]; exact ⟨_, rfl, hV⟩)
        replace hV := hV.2 hc6
        by_cases hc7 : ((w0.getD (ix x4) 0) &&& 63) = 7
        · replace hV := hV.1 hc7
          refine z_tableIn (tgt := 633) (off := 593) hC dL_law_40 (by rw [hc7]; decide) (by rw [hc7]; decide) (by rw [hc7]; rfl) (by decide) ?_
          refine z_aload_n hC dL_law_633 rfl rfl ?_
          refine z_aload_n hC dL_law_634 rfl rfl ?_
          refine z_iload hC dL_law_635 rfl ?_
          refine z_iconst (v := 1) hC dL_law_637 rfl ?_
          refine z_iadd hC dL_law_638 ?_
          obtain ⟨h80, hV⟩ := hV
          refine z_ialdI hC hFI dL_law_639 (h80) ?_
          refine z_aload_n hC dL_law_640 rfl rfl ?_
          refine z_iload hC dL_law_641 rfl ?_
          refine z_iconst (v := 2) hC dL_law_643 rfl ?_
          refine z_iadd hC dL_law_644 ?_
          obtain ⟨h81, hV⟩ := hV
          refine z_ialdI hC hFI dL_law_645 (h81) ?_
          refine z_aload_n hC dL_law_646 rfl rfl ?_
          refine z_iload hC dL_law_647 rfl ?_
          refine z_iconst (v := 3) hC dL_law_649 rfl ?_
          refine z_iadd hC dL_law_650 ?_
          obtain ⟨h82, hV⟩ := hV
          refine z_ialdI hC hFI dL_law_651 (h82) ?_
          refine z_if_eq (tgt := 659) hC dL_law_652 (by decide) (fun hc => ?_) (fun hc => ?_)
          · replace hV := hV.1 hc
            refine z_iconst (v := 0) hC dL_law_659 rfl ?_
            refine zz_sub (L' := [some (.ref v0), some (.ref (E.1.heap.size + 0)), some (.ref (E.1.heap.size + 44)), some (.ref (E.1.heap.size + 1238)), some (.int x4), none, none, none]) ⟨rfl, rfl, rfl, rfl, rfl, trivial⟩ ?_
            exact j_660 σ x4 0 (w0.getD (ix (x4 + 2)) 0) (w0.getD (ix (x4 + 1)) 0) hV
          · replace hV := hV.2 hc
            refine z_iconst (v := 1) hC dL_law_655 rfl ?_
            refine z_goto (tgt := 660) hC dL_law_656 (by decide) ?_
            refine zz_sub (L' := [some (.ref v0), some (.ref (E.1.heap.size + 0)), some (.ref (E.1.heap.size + 44)), some (.ref (E.1.heap.size + 1238)), some (.int x4), none, none, none]) ⟨rfl, rfl, rfl, rfl, rfl, trivial⟩ ?_
            exact j_660 σ x4 1 (w0.getD (ix (x4 + 2)) 0) (w0.getD (ix (x4 + 1)) 0) hV
        replace hV := hV.2 hc7
        by_cases hc8 : ((w0.getD (ix x4) 0) &&& 63) = 8
        · replace hV := hV.1 hc8
          refine z_tableIn (tgt := 729) (off := 689) hC dL_law_40 (by rw [hc8]; decide) (by rw [hc8]; decide) (by rw [hc8]; rfl) (by decide) ?_
          refine z_aload_n hC dL_law_729 rfl rfl ?_
          refine z_aload_n hC dL_law_730 rfl rfl ?_
          refine z_iload hC dL_law_731 rfl ?_
          refine z_iconst (v := 1) hC dL_law_733 rfl ?_
          refine z_iadd hC dL_law_734 ?_
          obtain ⟨h94, hV⟩ := hV
          refine z_ialdI hC hFI dL_law_735 (h94) ?_
          refine z_aload_n hC dL_law_736 rfl rfl ?_
          refine z_iload hC dL_law_737 rfl ?_
          refine z_iconst (v := 2) hC dL_law_739 rfl ?_
          refine z_iadd hC dL_law_740 ?_
          obtain ⟨h95, hV⟩ := hV
          refine z_ialdI hC hFI dL_law_741 (h95) ?_
          refine z_aload_n hC dL_law_742 rfl rfl ?_
          refine z_iload hC dL_law_743 rfl ?_
          refine z_iconst (v := 3) hC dL_law_745 rfl ?_
          refine z_iadd hC dL_law_746 ?_
          obtain ⟨h96, hV⟩ := hV
          refine z_ialdI hC hFI dL_law_747 (h96) ?_
          refine z_if_eq (tgt := 755) hC dL_law_748 (by decide) (fun hc => ?_) (fun hc => ?_)
          · replace hV := hV.1 hc
            refine z_iconst (v := 0) hC dL_law_755 rfl ?_
            refine zz_sub (L' := [some (.ref v0), some (.ref (E.1.heap.size + 0)), some (.ref (E.1.heap.size + 44)), some (.ref (E.1.heap.size + 1238)), some (.int x4), none, none, none]) ⟨rfl, rfl, rfl, rfl, rfl, trivial⟩ ?_
            exact j_756 σ x4 0 (w0.getD (ix (x4 + 2)) 0) (w0.getD (ix (x4 + 1)) 0) hV
          · replace hV := hV.2 hc
            refine z_iconst (v := 1) hC dL_law_751 rfl ?_
            refine z_goto (tgt := 756) hC dL_law_752 (by decide) ?_
            refine zz_sub (L' := [some (.ref v0), some (.ref (E.1.heap.size + 0)), some (.ref (E.1.heap.size + 44)), some (.ref (E.1.heap.size + 1238)), some (.int x4), none, none, none]) ⟨rfl, rfl, rfl, rfl, rfl, trivial⟩ ?_
            exact j_756 σ x4 1 (w0.getD (ix (x4 + 2)) 0) (w0.getD (ix (x4 + 1)) 0) hV
        replace hV := hV.2 hc8
        by_cases hc9 : ((w0.getD (ix x4) 0) &&& 63) = 9
        · replace hV := hV.1 hc9
          refine z_tableIn (tgt := 825) (off := 785) hC dL_law_40 (by rw [hc9]; decide) (by rw [hc9]; decide) (by rw [hc9]; rfl) (by decide) ?_
          refine z_aload_n hC dL_law_825 rfl rfl ?_
          refine z_aload_n hC dL_law_826 rfl rfl ?_
          refine z_iload hC dL_law_827 rfl ?_
          refine z_iconst (v := 1) hC dL_law_829 rfl ?_
          refine z_iadd hC dL_law_830 ?_
          obtain ⟨h108, hV⟩ := hV
          refine z_ialdI hC hFI dL_law_831 (h108) ?_
          refine z_aload_n hC dL_law_832 rfl rfl ?_
          refine c_X0_164 hC (by decide) dL_law_833 (Nat.le_of_ble_eq_true rfl) hV (fun r109 σ110 hV => ?_)
          refine z_istore hC dL_law_836 (Nat.le_of_ble_eq_true rfl) rfl rfl ?_
          refine z_aload_n hC dL_law_838 rfl rfl ?_
          refine z_aload_n hC dL_law_839 rfl rfl ?_
          refine z_iload hC dL_law_840 rfl ?_
          refine z_iconst (v := 1) hC dL_law_842 rfl ?_
          refine z_iadd hC dL_law_843 ?_
          obtain ⟨h111, hV⟩ := hV
          refine z_ialdI hC hFI dL_law_844 (h111) ?_
          refine c_X0_166 hC (by decide) dL_law_845 (Nat.le_of_ble_eq_true rfl) hV (fun r112 σ113 hV => ?_)
          refine z_istore hC dL_law_848 (Nat.le_of_ble_eq_true rfl) rfl rfl ?_
          refine z_aload_n hC dL_law_850 rfl rfl ?_
          refine c_X0_135 hC (by decide) dL_law_851 (Nat.le_of_ble_eq_true rfl) hV (fun r114 σ115 hV => ?_)
          refine z_iload hC dL_law_854 rfl ?_
          refine z_icmp_eq (tgt := 861) hC dL_law_856 (by decide) (fun hc => ?_) (fun hc => ?_)
          · replace hV := hV.1 hc
            refine z_iload hC dL_law_861 rfl ?_
            refine z_if_ne (tgt := 878) hC dL_law_863 (by decide) (fun hc => ?_) (fun hc => ?_)
            · replace hV := hV.2 hc
              refine z_goto (tgt := 2679) hC dL_law_878 (by decide) ?_
              obtain ⟨y116, e_y116⟩ : ∃ z : Int32, z = x4 + 6 := ⟨_, rfl⟩
              replace hV := hV _ e_y116
              refine z_iinc (v := y116) hC dL_law_2679 rfl (by rw [e_y116]; rfl) (Nat.le_of_ble_eq_true rfl) rfl rfl ?_
              refine z_goto (tgt := 23) hC dL_law_2682 (by decide) ?_
              refine zz_sub (L' := [some (.ref v0), some (.ref (E.1.heap.size + 0)), some (.ref (E.1.heap.size + 44)), some (.ref (E.1.heap.size + 1238)), some (.int y116), none, none, none]) ⟨rfl, rfl, rfl, rfl, rfl, trivial⟩ ?_
              exact j_23 σ115 y116 hV
            · replace hV := hV.1 hc
              refine z_aload_n hC dL_law_866 rfl rfl ?_
              refine z_iconst (v := 0) hC dL_law_867 rfl ?_
              refine z_lald hC dL_law_868 (k_1238 _) (in_dec rfl) ?_
              refine z_iload hC dL_law_869 rfl ?_
              refine z_i2l hC dL_law_871 ?_
              refine z_lcmp hC dL_law_872 ?_
              refine z_if_eq (tgt := 878) hC dL_law_873 (by decide) (fun hc => ?_) (fun hc => ?_)
              · replace hV := hV.1 hc
                refine z_goto (tgt := 2679) hC dL_law_878 (by decide) ?_
                obtain ⟨y117, e_y117⟩ : ∃ z : Int32, z = x4 + 6 := ⟨_, rfl⟩
                replace hV := hV _ e_y117
                refine z_iinc (v := y117) hC dL_law_2679 rfl (by rw [e_y117]; rfl) (Nat.le_of_ble_eq_true rfl) rfl rfl ?_
                refine z_goto (tgt := 23) hC dL_law_2682 (by decide) ?_
                refine zz_sub (L' := [some (.ref v0), some (.ref (E.1.heap.size + 0)), some (.ref (E.1.heap.size + 44)), some (.ref (E.1.heap.size + 1238)), some (.int y117), none, none, none]) ⟨rfl, rfl, rfl, rfl, rfl, trivial⟩ ?_
                exact j_23 σ115 y117 hV
              · replace hV := hV.2 hc
                refine z_iconst (v := 0) hC dL_law_876 rfl ?_
                exact z_iret hC dL_law_877 rfl (by rw [hQo]; exact ⟨_, rfl, hV⟩)
          · replace hV := hV.2 hc
            refine z_iconst (v := 0) hC dL_law_859 rfl ?_
            exact z_iret hC dL_law_860 rfl (by rw [hQo]; exact ⟨_, rfl, hV⟩)
        replace hV := hV.2 hc9
        by_cases hc10 : ((w0.getD (ix x4) 0) &&& 63) = 10
        · replace hV := hV.1 hc10
          refine z_tableIn (tgt := 881) (off := 841) hC dL_law_40 (by rw [hc10]; decide) (by rw [hc10]; decide) (by rw [hc10]; rfl) (by decide) ?_
          refine z_aload_n hC dL_law_881 rfl rfl ?_
          refine z_aload_n hC dL_law_882 rfl rfl ?_
          refine z_iload hC dL_law_883 rfl ?_
          refine z_iconst (v := 1) hC dL_law_885 rfl ?_
          refine z_iadd hC dL_law_886 ?_
          obtain ⟨h118, hV⟩ := hV
          refine z_ialdI hC hFI dL_law_887 (h118) ?_
          refine z_aload_n hC dL_law_888 rfl rfl ?_
          refine z_iload hC dL_law_889 rfl ?_
          refine z_iconst (v := 2) hC dL_law_891 rfl ?_
          refine z_iadd hC dL_law_892 ?_
          obtain ⟨h119, hV⟩ := hV
          refine z_ialdI hC hFI dL_law_893 (h119) ?_
          refine z_aload_n hC dL_law_894 rfl rfl ?_
          refine z_iload hC dL_law_895 rfl ?_
          refine z_iconst (v := 3) hC dL_law_897 rfl ?_
          refine z_iadd hC dL_law_898 ?_
          obtain ⟨h120, hV⟩ := hV
          refine z_ialdI hC hFI dL_law_899 (h120) ?_
          refine z_aload_n hC dL_law_900 rfl rfl ?_
          refine z_iload hC dL_law_901 rfl ?_
          refine z_iconst (v := 4) hC dL_law_903 rfl ?_
          refine z_iadd hC dL_law_904 ?_
          obtain ⟨h121, hV⟩ := hV
          refine z_ialdI hC hFI dL_law_905 (h121) ?_
          refine z_aload_n hC dL_law_906 rfl rfl ?_
          refine c_X0_167 hC (by decide) dL_law_907 (Nat.le_of_ble_eq_true rfl) hV (fun r122 σ123 hV => ?_)
          refine z_istore hC dL_law_910 (Nat.le_of_ble_eq_true rfl) rfl rfl ?_
          refine z_aload_n hC dL_law_912 rfl rfl ?_
          refine z_aload_n hC dL_law_913 rfl rfl ?_
          refine z_iload hC dL_law_914 rfl ?_
          refine z_iconst (v := 1) hC dL_law_916 rfl ?_
          refine z_iadd hC dL_law_917 ?_
          obtain ⟨h124, hV⟩ := hV
          refine z_ialdI hC hFI dL_law_918 (h124) ?_
          refine z_aload_n hC dL_law_919 rfl rfl ?_
          refine z_iload hC dL_law_920 rfl ?_
          refine z_iconst (v := 2) hC dL_law_922 rfl ?_
          refine z_iadd hC dL_law_923 ?_
          obtain ⟨h125, hV⟩ := hV
          refine z_ialdI hC hFI dL_law_924 (h125) ?_
          refine z_aload_n hC dL_law_925 rfl rfl ?_
          refine z_iload hC dL_law_926 rfl ?_
          refine z_iconst (v := 3) hC dL_law_928 rfl ?_
          refine z_iadd hC dL_law_929 ?_
          obtain ⟨h126, hV⟩ := hV
          refine z_ialdI hC hFI dL_law_930 (h126) ?_
          refine z_aload_n hC dL_law_931 rfl rfl ?_
          refine z_iload hC dL_law_932 rfl ?_
          refine z_iconst (v := 4) hC dL_law_934 rfl ?_
          refine z_iadd hC dL_law_935 ?_
          obtain ⟨h127, hV⟩ := hV
          refine z_ialdI hC hFI dL_law_936 (h127) ?_
          refine c_X0_170 hC (by decide) dL_law_937 (Nat.le_of_ble_eq_true rfl) hV (fun r128 σ129 hV => ?_)
          refine z_istore hC dL_law_940 (Nat.le_of_ble_eq_true rfl) rfl rfl ?_
          refine z_aload_n hC dL_law_942 rfl rfl ?_
          refine c_X0_135 hC (by decide) dL_law_943 (Nat.le_of_ble_eq_true rfl) hV (fun r130 σ131 hV => ?_)
          refine z_iload hC dL_law_946 rfl ?_
          refine z_icmp_eq (tgt := 953) hC dL_law_948 (by decide) (fun hc => ?_) (fun hc => ?_)
          · replace hV := hV.1 hc
            refine z_iload hC dL_law_953 rfl ?_
            refine z_if_ne (tgt := 977) hC dL_law_955 (by decide) (fun hc => ?_) (fun hc => ?_)
            · replace hV := hV.2 hc
              refine z_goto (tgt := 2679) hC dL_law_977 (by decide) ?_
              obtain ⟨y132, e_y132⟩ : ∃ z : Int32, z = x4 + 6 := ⟨_, rfl⟩
              replace hV := hV _ e_y132
              refine z_iinc (v := y132) hC dL_law_2679 rfl (by rw [e_y132]; rfl) (Nat.le_of_ble_eq_true rfl) rfl rfl ?_
              refine z_goto (tgt := 23) hC dL_law_2682 (by decide) ?_
              refine zz_sub (L' := [some (.ref v0), some (.ref (E.1.heap.size + 0)), some (.ref (E.1.heap.size + 44)), some (.ref (E.1.heap.size + 1238)), some (.int y132), none, none, none]) ⟨rfl, rfl, rfl, rfl, rfl, trivial⟩ ?_
              exact j_23 σ131 y132 hV
            · replace hV := hV.1 hc
              refine z_aload_n hC dL_law_958 rfl rfl ?_
              refine z_iconst (v := 0) hC dL_law_959 rfl ?_
              refine z_lald hC dL_law_960 (k_1238 _) (in_dec rfl) ?_
              refine z_iload hC dL_law_961 rfl ?_
              refine z_if_eq (tgt := 970) hC dL_law_963 (by decide) (fun hc => ?_) (fun hc => ?_)
              · replace hV := hV.1 hc
                refine z_lconst (v := 0) hC dL_law_970 rfl ?_
                refine zz_sub (L' := [some (.ref v0), some (.ref (E.1.heap.size + 0)), some (.ref (E.1.heap.size + 44)), some (.ref (E.1.heap.size + 1238)), some (.int x4), none, none, none]) ⟨rfl, rfl, rfl, rfl, rfl, trivial⟩ ?_
                exact j_971 σ131 x4 0 (zJ σ131 1238 (ix 0)) hV
              · replace hV := hV.2 hc
                refine z_lconst (v := 1) hC dL_law_966 rfl ?_
                refine z_goto (tgt := 971) hC dL_law_967 (by decide) ?_
                refine zz_sub (L' := [some (.ref v0), some (.ref (E.1.heap.size + 0)), some (.ref (E.1.heap.size + 44)), some (.ref (E.1.heap.size + 1238)), some (.int x4), none, none, none]) ⟨rfl, rfl, rfl, rfl, rfl, trivial⟩ ?_
                exact j_971 σ131 x4 1 (zJ σ131 1238 (ix 0)) hV
          · replace hV := hV.2 hc
            refine z_iconst (v := 0) hC dL_law_951 rfl ?_
            exact z_iret hC dL_law_952 rfl (by rw [hQo]; exact ⟨_, rfl, hV⟩)
        replace hV := hV.2 hc10
        by_cases hc11 : ((w0.getD (ix x4) 0) &&& 63) = 11
        · replace hV := hV.1 hc11
          refine z_tableIn (tgt := 980) (off := 940) hC dL_law_40 (by rw [hc11]; decide) (by rw [hc11]; decide) (by rw [hc11]; rfl) (by decide) ?_
          refine z_aload_n hC dL_law_980 rfl rfl ?_
          refine z_aload_n hC dL_law_981 rfl rfl ?_
          refine z_iload hC dL_law_982 rfl ?_
          refine z_iconst (v := 1) hC dL_law_984 rfl ?_
          refine z_iadd hC dL_law_985 ?_
          obtain ⟨h134, hV⟩ := hV
          refine z_ialdI hC hFI dL_law_986 (h134) ?_
          refine z_aload_n hC dL_law_987 rfl rfl ?_
          refine z_iload hC dL_law_988 rfl ?_
          refine z_iconst (v := 2) hC dL_law_990 rfl ?_
          refine z_iadd hC dL_law_991 ?_
          obtain ⟨h135, hV⟩ := hV
          refine z_ialdI hC hFI dL_law_992 (h135) ?_
          refine z_aload_n hC dL_law_993 rfl rfl ?_
          refine z_iload hC dL_law_994 rfl ?_
          refine z_iconst (v := 3) hC dL_law_996 rfl ?_
          refine z_iadd hC dL_law_997 ?_
          obtain ⟨h136, hV⟩ := hV
          refine z_ialdI hC hFI dL_law_998 (h136) ?_
          refine z_aload_n hC dL_law_999 rfl rfl ?_
          refine c_X0_171 hC (by decide) dL_law_1000 (Nat.le_of_ble_eq_true rfl) hV (fun r137 σ138 hV => ?_)
          refine z_istore hC dL_law_1003 (Nat.le_of_ble_eq_true rfl) rfl rfl ?_
          refine z_aload_n hC dL_law_1005 rfl rfl ?_
          refine z_aload_n hC dL_law_1006 rfl rfl ?_
          refine z_iload hC dL_law_1007 rfl ?_
          refine z_iconst (v := 1) hC dL_law_1009 rfl ?_
          refine z_iadd hC dL_law_1010 ?_
          obtain ⟨h139, hV⟩ := hV
          refine z_ialdI hC hFI dL_law_1011 (h139) ?_
          refine z_aload_n hC dL_law_1012 rfl rfl ?_
          refine z_iload hC dL_law_1013 rfl ?_
          refine z_iconst (v := 2) hC dL_law_1015 rfl ?_
          refine z_iadd hC dL_law_1016 ?_
          obtain ⟨h140, hV⟩ := hV
          refine z_ialdI hC hFI dL_law_1017 (h140) ?_
          refine z_aload_n hC dL_law_1018 rfl rfl ?_
          refine z_iload hC dL_law_1019 rfl ?_
          refine z_iconst (v := 3) hC dL_law_1021 rfl ?_
          refine z_iadd hC dL_law_1022 ?_
          obtain ⟨h141, hV⟩ := hV
          refine z_ialdI hC hFI dL_law_1023 (h141) ?_
          refine c_X0_173 hC (by decide) dL_law_1024 (Nat.le_of_ble_eq_true rfl) hV (fun r142 σ143 hV => ?_)
          refine z_istore hC dL_law_1027 (Nat.le_of_ble_eq_true rfl) rfl rfl ?_
          refine z_aload_n hC dL_law_1029 rfl rfl ?_
          refine c_X0_135 hC (by decide) dL_law_1030 (Nat.le_of_ble_eq_true rfl) hV (fun r144 σ145 hV => ?_)
          refine z_iload hC dL_law_1033 rfl ?_
          refine z_icmp_eq (tgt := 1040) hC dL_law_1035 (by decide) (fun hc => ?_) (fun hc => ?_)
          · replace hV := hV.1 hc
            refine z_iload hC dL_law_1040 rfl ?_
            refine z_if_ne (tgt := 1057) hC dL_law_1042 (by decide) (fun hc => ?_) (fun hc => ?_)
            · replace hV := hV.2 hc
              refine z_goto (tgt := 2679) hC dL_law_1057 (by decide) ?_
              obtain ⟨y146, e_y146⟩ : ∃ z : Int32, z = x4 + 6 := ⟨_, rfl⟩
              replace hV := hV _ e_y146
              refine z_iinc (v := y146) hC dL_law_2679 rfl (by rw [e_y146]; rfl) (Nat.le_of_ble_eq_true rfl) rfl rfl ?_
              refine z_goto (tgt := 23) hC dL_law_2682 (by decide) ?_
              refine zz_sub (L' := [some (.ref v0), some (.ref (E.1.heap.size + 0)), some (.ref (E.1.heap.size + 44)), some (.ref (E.1.heap.size + 1238)), some (.int y146), none, none, none]) ⟨rfl, rfl, rfl, rfl, rfl, trivial⟩ ?_
              exact j_23 σ145 y146 hV
            · replace hV := hV.1 hc
              refine z_aload_n hC dL_law_1045 rfl rfl ?_
              refine z_iconst (v := 0) hC dL_law_1046 rfl ?_
              refine z_lald hC dL_law_1047 (k_1238 _) (in_dec rfl) ?_
              refine z_iload hC dL_law_1048 rfl ?_
              refine z_i2l hC dL_law_1050 ?_
              refine z_lcmp hC dL_law_1051 ?_
              refine z_if_eq (tgt := 1057) hC dL_law_1052 (by decide) (fun hc => ?_) (fun hc => ?_)
              · replace hV := hV.1 hc
                refine z_goto (tgt := 2679) hC dL_law_1057 (by decide) ?_
                obtain ⟨y147, e_y147⟩ : ∃ z : Int32, z = x4 + 6 := ⟨_, rfl⟩
                replace hV := hV _ e_y147
                refine z_iinc (v := y147) hC dL_law_2679 rfl (by rw [e_y147]; rfl) (Nat.le_of_ble_eq_true rfl) rfl rfl ?_
                refine z_goto (tgt := 23) hC dL_law_2682 (by decide) ?_
                refine zz_sub (L' := [some (.ref v0), some (.ref (E.1.heap.size + 0)), some (.ref (E.1.heap.size + 44)), some (.ref (E.1.heap.size + 1238)), some (.int y147), none, none, none]) ⟨rfl, rfl, rfl, rfl, rfl, trivial⟩ ?_
                exact j_23 σ145 y147 hV
              · replace hV := hV.2 hc
                refine z_iconst (v := 0) hC dL_law_1055 rfl ?_
                exact z_iret hC dL_law_1056 rfl (by rw [hQo]; exact ⟨_, rfl, hV⟩)
          · replace hV := hV.2 hc
            refine z_iconst (v := 0) hC dL_law_1038 rfl ?_
            exact z_iret hC dL_law_1039 rfl (by rw [hQo]; exact ⟨_, rfl, hV⟩)
        replace hV := hV.2 hc11
        by_cases hc12 : ((w0.getD (ix x4) 0) &&& 63) = 12
        · replace hV := hV.1 hc12
          refine z_tableIn (tgt := 1060) (off := 1020) hC dL_law_40 (by rw [hc12]; decide) (by rw [hc12]; decide) (by rw [hc12]; rfl) (by decide) ?_
          refine z_aload_n hC dL_law_1060 rfl rfl ?_
          refine z_aload_n hC dL_law_1061 rfl rfl ?_
          refine z_iload hC dL_law_1062 rfl ?_
          refine z_iconst (v := 1) hC dL_law_1064 rfl ?_
          refine z_iadd hC dL_law_1065 ?_
          obtain ⟨h148, hV⟩ := hV
          refine z_ialdI hC hFI dL_law_1066 (h148) ?_
          refine z_aload_n hC dL_law_1067 rfl rfl ?_
          refine z_iload hC dL_law_1068 rfl ?_
          refine z_iconst (v := 2) hC dL_law_1070 rfl ?_
          refine z_iadd hC dL_law_1071 ?_
          obtain ⟨h149, hV⟩ := hV
          refine z_ialdI hC hFI dL_law_1072 (h149) ?_
          refine z_aload_n hC dL_law_1073 rfl rfl ?_
          refine z_iload hC dL_law_1074 rfl ?_
          refine z_iconst (v := 3) hC dL_law_1076 rfl ?_
          refine z_iadd hC dL_law_1077 ?_
          obtain ⟨h150, hV⟩ := hV
          refine z_ialdI hC hFI dL_law_1078 (h150) ?_
          refine z_aload_n hC dL_law_1079 rfl rfl ?_
          refine z_iload hC dL_law_1080 rfl ?_
          refine z_iconst (v := 4) hC dL_law_1082 rfl ?_
          refine z_iadd hC dL_law_1083 ?_
          obtain ⟨h151, hV⟩ := hV
          refine z_ialdI hC hFI dL_law_1084 (h151) ?_
          refine z_aload_n hC dL_law_1085 rfl rfl ?_
          refine c_X0_174 hC (by decide) dL_law_1086 (Nat.le_of_ble_eq_true rfl) hV (fun r152 σ153 hV => ?_)
          refine z_istore hC dL_law_1089 (Nat.le_of_ble_eq_true rfl) rfl rfl ?_
          refine z_aload_n hC dL_law_1091 rfl rfl ?_
          refine z_aload_n hC dL_law_1092 rfl rfl ?_
          refine z_iload hC dL_law_1093 rfl ?_
          refine z_iconst (v := 1) hC dL_law_1095 rfl ?_
          refine z_iadd hC dL_law_1096 ?_
          obtain ⟨h154, hV⟩ := hV
          refine z_ialdI hC hFI dL_law_1097 (h154) ?_
          refine z_aload_n hC dL_law_1098 rfl rfl ?_
          refine z_iload hC dL_law_1099 rfl ?_
          refine z_iconst (v := 2) hC dL_law_1101 rfl ?_
          refine z_iadd hC dL_law_1102 ?_
          obtain ⟨h155, hV⟩ := hV
          refine z_ialdI hC hFI dL_law_1103 (h155) ?_
          refine z_aload_n hC dL_law_1104 rfl rfl ?_
          refine z_iload hC dL_law_1105 rfl ?_
          refine z_iconst (v := 3) hC dL_law_1107 rfl ?_
          refine z_iadd hC dL_law_1108 ?_
          obtain ⟨h156, hV⟩ := hV
          refine z_ialdI hC hFI dL_law_1109 (h156) ?_
          refine z_aload_n hC dL_law_1110 rfl rfl ?_
          refine z_iload hC dL_law_1111 rfl ?_
          refine z_iconst (v := 4) hC dL_law_1113 rfl ?_
          refine z_iadd hC dL_law_1114 ?_
          obtain ⟨h157, hV⟩ := hV
          refine z_ialdI hC hFI dL_law_1115 (h157) ?_
          refine c_X0_176 hC (by decide) dL_law_1116 (Nat.le_of_ble_eq_true rfl) hV (fun r158 σ159 hV => ?_)
          refine z_istore hC dL_law_1119 (Nat.le_of_ble_eq_true rfl) rfl rfl ?_
          refine z_aload_n hC dL_law_1121 rfl rfl ?_
          refine c_X0_135 hC (by decide) dL_law_1122 (Nat.le_of_ble_eq_true rfl) hV (fun r160 σ161 hV => ?_)
          refine z_iload hC dL_law_1125 rfl ?_
          refine z_icmp_eq (tgt := 1132) hC dL_law_1127 (by decide) (fun hc => ?_) (fun hc => ?_)
          · replace hV := hV.1 hc
            refine z_iload hC dL_law_1132 rfl ?_
            refine z_if_ne (tgt := 1149) hC dL_law_1134 (by decide) (fun hc => ?_) (fun hc => ?_)
            · replace hV := hV.2 hc
              refine z_goto (tgt := 2679) hC dL_law_1149 (by decide) ?_
              obtain ⟨y162, e_y162⟩ : ∃ z : Int32, z = x4 + 6 := ⟨_, rfl⟩
              replace hV := hV _ e_y162
              refine z_iinc (v := y162) hC dL_law_2679 rfl (by rw [e_y162]; rfl) (Nat.le_of_ble_eq_true rfl) rfl rfl ?_
              refine z_goto (tgt := 23) hC dL_law_2682 (by decide) ?_
              refine zz_sub (L' := [some (.ref v0), some (.ref (E.1.heap.size + 0)), some (.ref (E.1.heap.size + 44)), some (.ref (E.1.heap.size + 1238)), some (.int y162), none, none, none]) ⟨rfl, rfl, rfl, rfl, rfl, trivial⟩ ?_
              exact j_23 σ161 y162 hV
            · replace hV := hV.1 hc
              refine z_aload_n hC dL_law_1137 rfl rfl ?_
              refine z_iconst (v := 0) hC dL_law_1138 rfl ?_
              refine z_lald hC dL_law_1139 (k_1238 _) (in_dec rfl) ?_
              refine z_iload hC dL_law_1140 rfl ?_
              refine z_i2l hC dL_law_1142 ?_
              refine z_lcmp hC dL_law_1143 ?_
              refine z_if_eq (tgt := 1149) hC dL_law_1144 (by decide) (fun hc => ?_) (fun hc => ?_)
              · replace hV := hV.1 hc
                refine z_goto (tgt := 2679) hC dL_law_1149 (by decide) ?_
                obtain ⟨y163, e_y163⟩ : ∃ z : Int32, z = x4 + 6 := ⟨_, rfl⟩
                replace hV := hV _ e_y163
                refine z_iinc (v := y163) hC dL_law_2679 rfl (by rw [e_y163]; rfl) (Nat.le_of_ble_eq_true rfl) rfl rfl ?_
                refine z_goto (tgt := 23) hC dL_law_2682 (by decide) ?_
                refine zz_sub (L' := [some (.ref v0), some (.ref (E.1.heap.size + 0)), some (.ref (E.1.heap.size + 44)), some (.ref (E.1.heap.size + 1238)), some (.int y163), none, none, none]) ⟨rfl, rfl, rfl, rfl, rfl, trivial⟩ ?_
                exact j_23 σ161 y163 hV
              · replace hV := hV.2 hc
                refine z_iconst (v := 0) hC dL_law_1147 rfl ?_
                exact z_iret hC dL_law_1148 rfl (by rw [hQo]; exact ⟨_, rfl, hV⟩)
          · replace hV := hV.2 hc
            refine z_iconst (v := 0) hC dL_law_1130 rfl ?_
            exact z_iret hC dL_law_1131 rfl (by rw [hQo]; exact ⟨_, rfl, hV⟩)
        replace hV := hV.2 hc12
        by_cases hc13 : ((w0.getD (ix x4) 0) &&& 63) = 13
        · replace hV := hV.1 hc13
          refine z_tableIn (tgt := 1152) (off := 1112) hC dL_law_40 (by rw [hc13]; decide) (by rw [hc13]; decide) (by rw [hc13]; rfl) (by decide) ?_
          refine z_aload_n hC dL_law_1152 rfl rfl ?_
          refine z_aload_n hC dL_law_1153 rfl rfl ?_
          refine z_iload hC dL_law_1154 rfl ?_
          refine z_iconst (v := 1) hC dL_law_1156 rfl ?_
          refine z_iadd hC dL_law_1157 ?_
          obtain ⟨h164, hV⟩ := hV
          refine z_ialdI hC hFI dL_law_1158 (h164) ?_
          refine z_aload_n hC dL_law_1159 rfl rfl ?_
          refine z_iload hC dL_law_1160 rfl ?_
          refine z_iconst (v := 2) hC dL_law_1162 rfl ?_
          refine z_iadd hC dL_law_1163 ?_
          obtain ⟨h165, hV⟩ := hV
          refine z_ialdI hC hFI dL_law_1164 (h165) ?_
          refine z_aload_n hC dL_law_1165 rfl rfl ?_
          refine z_iload hC dL_law_1166 rfl ?_
          refine z_iconst (v := 3) hC dL_law_1168 rfl ?_
          refine z_iadd hC dL_law_1169 ?_
          obtain ⟨h166, hV⟩ := hV
          refine z_ialdI hC hFI dL_law_1170 (h166) ?_
          refine z_aload_n hC dL_law_1171 rfl rfl ?_
          refine c_X0_177 hC (by decide) dL_law_1172 (Nat.le_of_ble_eq_true rfl) hV (fun r167 σ168 hV => ?_)
          refine z_istore hC dL_law_1175 (Nat.le_of_ble_eq_true rfl) rfl rfl ?_
          refine z_aload_n hC dL_law_1177 rfl rfl ?_
          refine z_aload_n hC dL_law_1178 rfl rfl ?_
          refine z_iload hC dL_law_1179 rfl ?_
          refine z_iconst (v := 1) hC dL_law_1181 rfl ?_
          refine z_iadd hC dL_law_1182 ?_
          obtain ⟨h169, hV⟩ := hV
          refine z_ialdI hC hFI dL_law_1183 (h169) ?_
          refine z_aload_n hC dL_law_1184 rfl rfl ?_
          refine z_iload hC dL_law_1185 rfl ?_
          refine z_iconst (v := 2) hC dL_law_1187 rfl ?_
          refine z_iadd hC dL_law_1188 ?_
          obtain ⟨h170, hV⟩ := hV
          refine z_ialdI hC hFI dL_law_1189 (h170) ?_
          refine z_aload_n hC dL_law_1190 rfl rfl ?_
          refine z_iload hC dL_law_1191 rfl ?_
          refine z_iconst (v := 3) hC dL_law_1193 rfl ?_
          refine z_iadd hC dL_law_1194 ?_
          obtain ⟨h171, hV⟩ := hV
          refine z_ialdI hC hFI dL_law_1195 (h171) ?_
          refine c_X0_179 hC (by decide) dL_law_1196 (Nat.le_of_ble_eq_true rfl) hV (fun r172 σ173 hV => ?_)
          refine z_istore hC dL_law_1199 (Nat.le_of_ble_eq_true rfl) rfl rfl ?_
          refine z_aload_n hC dL_law_1201 rfl rfl ?_
          refine c_X0_135 hC (by decide) dL_law_1202 (Nat.le_of_ble_eq_true rfl) hV (fun r174 σ175 hV => ?_)
          refine z_iload hC dL_law_1205 rfl ?_
          refine z_icmp_eq (tgt := 1212) hC dL_law_1207 (by decide) (fun hc => ?_) (fun hc => ?_)
          · replace hV := hV.1 hc
            refine z_iload hC dL_law_1212 rfl ?_
            refine z_if_ne (tgt := 1229) hC dL_law_1214 (by decide) (fun hc => ?_) (fun hc => ?_)
            · replace hV := hV.2 hc
              refine z_goto (tgt := 2679) hC dL_law_1229 (by decide) ?_
              obtain ⟨y176, e_y176⟩ : ∃ z : Int32, z = x4 + 6 := ⟨_, rfl⟩
              replace hV := hV _ e_y176
              refine z_iinc (v := y176) hC dL_law_2679 rfl (by rw [e_y176]; rfl) (Nat.le_of_ble_eq_true rfl) rfl rfl ?_
              refine z_goto (tgt := 23) hC dL_law_2682 (by decide) ?_
              refine zz_sub (L' := [some (.ref v0), some (.ref (E.1.heap.size + 0)), some (.ref (E.1.heap.size + 44)), some (.ref (E.1.heap.size + 1238)), some (.int y176), none, none, none]) ⟨rfl, rfl, rfl, rfl, rfl, trivial⟩ ?_
              exact j_23 σ175 y176 hV
            · replace hV := hV.1 hc
              refine z_aload_n hC dL_law_1217 rfl rfl ?_
              refine z_iconst (v := 0) hC dL_law_1218 rfl ?_
              refine z_lald hC dL_law_1219 (k_1238 _) (in_dec rfl) ?_
              refine z_iload hC dL_law_1220 rfl ?_
              refine z_i2l hC dL_law_1222 ?_
              refine z_lcmp hC dL_law_1223 ?_
              refine z_if_eq (tgt := 1229) hC dL_law_1224 (by decide) (fun hc => ?_) (fun hc => ?_)
              · replace hV := hV.1 hc
                refine z_goto (tgt := 2679) hC dL_law_1229 (by decide) ?_
                obtain ⟨y177, e_y177⟩ : ∃ z : Int32, z = x4 + 6 := ⟨_, rfl⟩
                replace hV := hV _ e_y177
                refine z_iinc (v := y177) hC dL_law_2679 rfl (by rw [e_y177]; rfl) (Nat.le_of_ble_eq_true rfl) rfl rfl ?_
                refine z_goto (tgt := 23) hC dL_law_2682 (by decide) ?_
                refine zz_sub (L' := [some (.ref v0), some (.ref (E.1.heap.size + 0)), some (.ref (E.1.heap.size + 44)), some (.ref (E.1.heap.size + 1238)), some (.int y177), none, none, none]) ⟨rfl, rfl, rfl, rfl, rfl, trivial⟩ ?_
                exact j_23 σ175 y177 hV
              · replace hV := hV.2 hc
                refine z_iconst (v := 0) hC dL_law_1227 rfl ?_
                exact z_iret hC dL_law_1228 rfl (by rw [hQo]; exact ⟨_, rfl, hV⟩)
          · replace hV := hV.2 hc
            refine z_iconst (v := 0) hC dL_law_1210 rfl ?_
            exact z_iret hC dL_law_1211 rfl (by rw [hQo]; exact ⟨_, rfl, hV⟩)
        replace hV := hV.2 hc13
        by_cases hc14 : ((w0.getD (ix x4) 0) &&& 63) = 14
        · replace hV := hV.1 hc14
          refine z_tableIn (tgt := 1232) (off := 1192) hC dL_law_40 (by rw [hc14]; decide) (by rw [hc14]; decide) (by rw [hc14]; rfl) (by decide) ?_
          refine z_aload_n hC dL_law_1232 rfl rfl ?_
          refine z_aload_n hC dL_law_1233 rfl rfl ?_
          refine z_iload hC dL_law_1234 rfl ?_
          refine z_iconst (v := 1) hC dL_law_1236 rfl ?_
          refine z_iadd hC dL_law_1237 ?_
          obtain ⟨h178, hV⟩ := hV
          refine z_ialdI hC hFI dL_law_1238 (h178) ?_
          refine z_aload_n hC dL_law_1239 rfl rfl ?_
          refine z_iload hC dL_law_1240 rfl ?_
          refine z_iconst (v := 2) hC dL_law_1242 rfl ?_
          refine z_iadd hC dL_law_1243 ?_
          obtain ⟨h179, hV⟩ := hV
          refine z_ialdI hC hFI dL_law_1244 (h179) ?_
          refine z_aload_n hC dL_law_1245 rfl rfl ?_
          refine c_X0_180 hC (by decide) dL_law_1246 (Nat.le_of_ble_eq_true rfl) hV (fun r180 σ181 hV => ?_)
          refine z_istore hC dL_law_1249 (Nat.le_of_ble_eq_true rfl) rfl rfl ?_
          refine z_aload_n hC dL_law_1251 rfl rfl ?_
          refine z_aload_n hC dL_law_1252 rfl rfl ?_
          refine z_iload hC dL_law_1253 rfl ?_
          refine z_iconst (v := 1) hC dL_law_1255 rfl ?_
          refine z_iadd hC dL_law_1256 ?_
          obtain ⟨h182, hV⟩ := hV
          refine z_ialdI hC hFI dL_law_1257 (h182) ?_
          refine z_aload_n hC dL_law_1258 rfl rfl ?_
          refine z_iload hC dL_law_1259 rfl ?_
          refine z_iconst (v := 2) hC dL_law_1261 rfl ?_
          refine z_iadd hC dL_law_1262 ?_
          obtain ⟨h183, hV⟩ := hV
          refine z_ialdI hC hFI dL_law_1263 (h183) ?_
          refine c_X0_182 hC (by decide) dL_law_1264 (Nat.le_of_ble_eq_true rfl) hV (fun r184 σ185 hV => ?_)
          refine z_istore hC dL_law_1267 (Nat.le_of_ble_eq_true rfl) rfl rfl ?_
          refine z_aload_n hC dL_law_1269 rfl rfl ?_
          refine c_X0_135 hC (by decide) dL_law_1270 (Nat.le_of_ble_eq_true rfl) hV (fun r186 σ187 hV => ?_)
          refine z_iload hC dL_law_1273 rfl ?_
          refine z_icmp_eq (tgt := 1280) hC dL_law_1275 (by decide) (fun hc => ?_) (fun hc => ?_)
          · replace hV := hV.1 hc
            refine z_iload hC dL_law_1280 rfl ?_
            refine z_if_ne (tgt := 1297) hC dL_law_1282 (by decide) (fun hc => ?_) (fun hc => ?_)
            · replace hV := hV.2 hc
              refine z_goto (tgt := 2679) hC dL_law_1297 (by decide) ?_
              obtain ⟨y188, e_y188⟩ : ∃ z : Int32, z = x4 + 6 := ⟨_, rfl⟩
              replace hV := hV _ e_y188
              refine z_iinc (v := y188) hC dL_law_2679 rfl (by rw [e_y188]; rfl) (Nat.le_of_ble_eq_true rfl) rfl rfl ?_
              refine z_goto (tgt := 23) hC dL_law_2682 (by decide) ?_
              refine zz_sub (L' := [some (.ref v0), some (.ref (E.1.heap.size + 0)), some (.ref (E.1.heap.size + 44)), some (.ref (E.1.heap.size + 1238)), some (.int y188), none, none, none]) ⟨rfl, rfl, rfl, rfl, rfl, trivial⟩ ?_
              exact j_23 σ187 y188 hV
            · replace hV := hV.1 hc
              refine z_aload_n hC dL_law_1285 rfl rfl ?_
              refine z_iconst (v := 0) hC dL_law_1286 rfl ?_
              refine z_lald hC dL_law_1287 (k_1238 _) (in_dec rfl) ?_
              refine z_iload hC dL_law_1288 rfl ?_
              refine z_i2l hC dL_law_1290 ?_
              refine z_lcmp hC dL_law_1291 ?_
              refine z_if_eq (tgt := 1297) hC dL_law_1292 (by decide) (fun hc => ?_) (fun hc => ?_)
              · replace hV := hV.1 hc
                refine z_goto (tgt := 2679) hC dL_law_1297 (by decide) ?_
                obtain ⟨y189, e_y189⟩ : ∃ z : Int32, z = x4 + 6 := ⟨_, rfl⟩
                replace hV := hV _ e_y189
                refine z_iinc (v := y189) hC dL_law_2679 rfl (by rw [e_y189]; rfl) (Nat.le_of_ble_eq_true rfl) rfl rfl ?_
                refine z_goto (tgt := 23) hC dL_law_2682 (by decide) ?_
                refine zz_sub (L' := [some (.ref v0), some (.ref (E.1.heap.size + 0)), some (.ref (E.1.heap.size + 44)), some (.ref (E.1.heap.size + 1238)), some (.int y189), none, none, none]) ⟨rfl, rfl, rfl, rfl, rfl, trivial⟩ ?_
                exact j_23 σ187 y189 hV
              · replace hV := hV.2 hc
                refine z_iconst (v := 0) hC dL_law_1295 rfl ?_
                exact z_iret hC dL_law_1296 rfl (by rw [hQo]; exact ⟨_, rfl, hV⟩)
          · replace hV := hV.2 hc
            refine z_iconst (v := 0) hC dL_law_1278 rfl ?_
            exact z_iret hC dL_law_1279 rfl (by rw [hQo]; exact ⟨_, rfl, hV⟩)
        replace hV := hV.2 hc14
        by_cases hc15 : ((w0.getD (ix x4) 0) &&& 63) = 15
        · replace hV := hV.1 hc15
          refine z_tableIn (tgt := 1300) (off := 1260) hC dL_law_40 (by rw [hc15]; decide) (by rw [hc15]; decide) (by rw [hc15]; rfl) (by decide) ?_
          refine z_aload_n hC dL_law_1300 rfl rfl ?_
          refine z_aload_n hC dL_law_1301 rfl rfl ?_
          refine z_iload hC dL_law_1302 rfl ?_
          refine z_iconst (v := 1) hC dL_law_1304 rfl ?_
          refine z_iadd hC dL_law_1305 ?_
          obtain ⟨h190, hV⟩ := hV
          refine z_ialdI hC hFI dL_law_1306 (h190) ?_
          refine z_aload_n hC dL_law_1307 rfl rfl ?_
          refine z_iload hC dL_law_1308 rfl ?_
          refine z_iconst (v := 2) hC dL_law_1310 rfl ?_
          refine z_iadd hC dL_law_1311 ?_
          obtain ⟨h191, hV⟩ := hV
          refine z_ialdI hC hFI dL_law_1312 (h191) ?_
          refine z_aload_n hC dL_law_1313 rfl rfl ?_
          refine z_iload hC dL_law_1314 rfl ?_
          refine z_iconst (v := 3) hC dL_law_1316 rfl ?_
          refine z_iadd hC dL_law_1317 ?_
          obtain ⟨h192, hV⟩ := hV
          refine z_ialdI hC hFI dL_law_1318 (h192) ?_
          refine z_aload_n hC dL_law_1319 rfl rfl ?_
          refine c_X0_183 hC (by decide) dL_law_1320 (Nat.le_of_ble_eq_true rfl) hV (fun r193 σ194 hV => ?_)
          refine z_istore hC dL_law_1323 (Nat.le_of_ble_eq_true rfl) rfl rfl ?_
          refine z_aload_n hC dL_law_1325 rfl rfl ?_
          refine z_aload_n hC dL_law_1326 rfl rfl ?_
          refine z_iload hC dL_law_1327 rfl ?_
          refine z_iconst (v := 1) hC dL_law_1329 rfl ?_
          refine z_iadd hC dL_law_1330 ?_
          obtain ⟨h195, hV⟩ := hV
          refine z_ialdI hC hFI dL_law_1331 (h195) ?_
          refine z_aload_n hC dL_law_1332 rfl rfl ?_
          refine z_iload hC dL_law_1333 rfl ?_
          refine z_iconst (v := 2) hC dL_law_1335 rfl ?_
          refine z_iadd hC dL_law_1336 ?_
          obtain ⟨h196, hV⟩ := hV
          refine z_ialdI hC hFI dL_law_1337 (h196) ?_
          refine z_aload_n hC dL_law_1338 rfl rfl ?_
          refine z_iload hC dL_law_1339 rfl ?_
          refine z_iconst (v := 3) hC dL_law_1341 rfl ?_
          refine z_iadd hC dL_law_1342 ?_
          obtain ⟨h197, hV⟩ := hV
          refine z_ialdI hC hFI dL_law_1343 (h197) ?_
          refine c_X0_185 hC (by decide) dL_law_1344 (Nat.le_of_ble_eq_true rfl) hV (fun r198 σ199 hV => ?_)
          refine z_istore hC dL_law_1347 (Nat.le_of_ble_eq_true rfl) rfl rfl ?_
          refine z_aload_n hC dL_law_1349 rfl rfl ?_
          refine c_X0_135 hC (by decide) dL_law_1350 (Nat.le_of_ble_eq_true rfl) hV (fun r200 σ201 hV => ?_)
          refine z_iload hC dL_law_1353 rfl ?_
          refine z_icmp_eq (tgt := 1360) hC dL_law_1355 (by decide) (fun hc => ?_) (fun hc => ?_)
          · replace hV := hV.1 hc
            refine z_iload hC dL_law_1360 rfl ?_
            refine z_if_ne (tgt := 1384) hC dL_law_1362 (by decide) (fun hc => ?_) (fun hc => ?_)
            · replace hV := hV.2 hc
              refine z_goto (tgt := 2679) hC dL_law_1384 (by decide) ?_
              obtain ⟨y202, e_y202⟩ : ∃ z : Int32, z = x4 + 6 := ⟨_, rfl⟩
              replace hV := hV _ e_y202
              refine z_iinc (v := y202) hC dL_law_2679 rfl (by rw [e_y202]; rfl) (Nat.le_of_ble_eq_true rfl) rfl rfl ?_
              refine z_goto (tgt := 23) hC dL_law_2682 (by decide) ?_
              refine zz_sub (L' := [some (.ref v0), some (.ref (E.1.heap.size + 0)), some (.ref (E.1.heap.size + 44)), some (.ref (E.1.heap.size + 1238)), some (.int y202), none, none, none]) ⟨rfl, rfl, rfl, rfl, rfl, trivial⟩ ?_
              exact j_23 σ201 y202 hV
            · replace hV := hV.1 hc
              refine z_aload_n hC dL_law_1365 rfl rfl ?_
              refine z_iconst (v := 0) hC dL_law_1366 rfl ?_
              refine z_lald hC dL_law_1367 (k_1238 _) (in_dec rfl) ?_
              refine z_iload hC dL_law_1368 rfl ?_
              refine z_if_eq (tgt := 1377) hC dL_law_1370 (by decide) (fun hc => ?_) (fun hc => ?_)
              · replace hV := hV.1 hc
                refine z_lconst (v := 0) hC dL_law_1377 rfl ?_
                refine zz_sub (L' := [some (.ref v0), some (.ref (E.1.heap.size + 0)), some (.ref (E.1.heap.size + 44)), some (.ref (E.1.heap.size + 1238)), some (.int x4), none, none, none]) ⟨rfl, rfl, rfl, rfl, rfl, trivial⟩ ?_
                exact j_1378 σ201 x4 0 (zJ σ201 1238 (ix 0)) hV
              · replace hV := hV.2 hc
                refine z_lconst (v := 1) hC dL_law_1373 rfl ?_
                refine z_goto (tgt := 1378) hC dL_law_1374 (by decide) ?_
                refine zz_sub (L' := [some (.ref v0), some (.ref (E.1.heap.size + 0)), some (.ref (E.1.heap.size + 44)), some (.ref (E.1.heap.size + 1238)), some (.int x4), none, none, none]) ⟨rfl, rfl, rfl, rfl, rfl, trivial⟩ ?_
                exact j_1378 σ201 x4 1 (zJ σ201 1238 (ix 0)) hV
          · replace hV := hV.2 hc
            refine z_iconst (v := 0) hC dL_law_1358 rfl ?_
            exact z_iret hC dL_law_1359 rfl (by rw [hQo]; exact ⟨_, rfl, hV⟩)
        replace hV := hV.2 hc15
        by_cases hc16 : ((w0.getD (ix x4) 0) &&& 63) = 16
        · replace hV := hV.1 hc16
          refine z_tableIn (tgt := 1387) (off := 1347) hC dL_law_40 (by rw [hc16]; decide) (by rw [hc16]; decide) (by rw [hc16]; rfl) (by decide) ?_
          refine z_aload_n hC dL_law_1387 rfl rfl ?_
          refine z_aload_n hC dL_law_1388 rfl rfl ?_
          refine z_iload hC dL_law_1389 rfl ?_
          refine z_iconst (v := 1) hC dL_law_1391 rfl ?_
          refine z_iadd hC dL_law_1392 ?_
          obtain ⟨h204, hV⟩ := hV
          refine z_ialdI hC hFI dL_law_1393 (h204) ?_
          refine z_aload_n hC dL_law_1394 rfl rfl ?_
          refine z_iload hC dL_law_1395 rfl ?_
          refine z_iconst (v := 2) hC dL_law_1397 rfl ?_
          refine z_iadd hC dL_law_1398 ?_
          obtain ⟨h205, hV⟩ := hV
          refine z_ialdI hC hFI dL_law_1399 (h205) ?_
          refine z_aload_n hC dL_law_1400 rfl rfl ?_
          refine c_X0_186 hC (by decide) dL_law_1401 (Nat.le_of_ble_eq_true rfl) hV (fun r206 σ207 hV => ?_)
          refine z_istore hC dL_law_1404 (Nat.le_of_ble_eq_true rfl) rfl rfl ?_
          refine z_aload_n hC dL_law_1406 rfl rfl ?_
          refine z_aload_n hC dL_law_1407 rfl rfl ?_
          refine z_iload hC dL_law_1408 rfl ?_
          refine z_iconst (v := 1) hC dL_law_1410 rfl ?_
          refine z_iadd hC dL_law_1411 ?_
          obtain ⟨h208, hV⟩ := hV
          refine z_ialdI hC hFI dL_law_1412 (h208) ?_
          refine z_aload_n hC dL_law_1413 rfl rfl ?_
          refine z_iload hC dL_law_1414 rfl ?_
          refine z_iconst (v := 2) hC dL_law_1416 rfl ?_
          refine z_iadd hC dL_law_1417 ?_
          obtain ⟨h209, hV⟩ := hV
          refine z_ialdI hC hFI dL_law_1418 (h209) ?_
          refine c_X0_188 hC (by decide) dL_law_1419 (Nat.le_of_ble_eq_true rfl) hV (fun r210 σ211 hV => ?_)
          refine z_istore hC dL_law_1422 (Nat.le_of_ble_eq_true rfl) rfl rfl ?_
          refine z_aload_n hC dL_law_1424 rfl rfl ?_
          refine c_X0_135 hC (by decide) dL_law_1425 (Nat.le_of_ble_eq_true rfl) hV (fun r212 σ213 hV => ?_)
          refine z_iload hC dL_law_1428 rfl ?_
          refine z_icmp_eq (tgt := 1435) hC dL_law_1430 (by decide) (fun hc => ?_) (fun hc => ?_)
          · replace hV := hV.1 hc
            refine z_iload hC dL_law_1435 rfl ?_
            refine z_if_ne (tgt := 1452) hC dL_law_1437 (by decide) (fun hc => ?_) (fun hc => ?_)
            · replace hV := hV.2 hc
              refine z_goto (tgt := 2679) hC dL_law_1452 (by decide) ?_
              obtain ⟨y214, e_y214⟩ : ∃ z : Int32, z = x4 + 6 := ⟨_, rfl⟩
              replace hV := hV _ e_y214
              refine z_iinc (v := y214) hC dL_law_2679 rfl (by rw [e_y214]; rfl) (Nat.le_of_ble_eq_true rfl) rfl rfl ?_
              refine z_goto (tgt := 23) hC dL_law_2682 (by decide) ?_
              refine zz_sub (L' := [some (.ref v0), some (.ref (E.1.heap.size + 0)), some (.ref (E.1.heap.size + 44)), some (.ref (E.1.heap.size + 1238)), some (.int y214), none, none, none]) ⟨rfl, rfl, rfl, rfl, rfl, trivial⟩ ?_
              exact j_23 σ213 y214 hV
            · replace hV := hV.1 hc
              refine z_aload_n hC dL_law_1440 rfl rfl ?_
              refine z_iconst (v := 0) hC dL_law_1441 rfl ?_
              refine z_lald hC dL_law_1442 (k_1238 _) (in_dec rfl) ?_
              refine z_iload hC dL_law_1443 rfl ?_
              refine z_i2l hC dL_law_1445 ?_
              refine z_lcmp hC dL_law_1446 ?_
              refine z_if_eq (tgt := 1452) hC dL_law_1447 (by decide) (fun hc => ?_) (fun hc => ?_)
              · replace hV := hV.1 hc
                refine z_goto (tgt := 2679) hC dL_law_1452 (by decide) ?_
                obtain ⟨y215, e_y215⟩ : ∃ z : Int32, z = x4 + 6 := ⟨_, rfl⟩
                replace hV := hV _ e_y215
                refine z_iinc (v := y215) hC dL_law_2679 rfl (by rw [e_y215]; rfl) (Nat.le_of_ble_eq_true rfl) rfl rfl ?_
                refine z_goto (tgt := 23) hC dL_law_2682 (by decide) ?_
                refine zz_sub (L' := [some (.ref v0), some (.ref (E.1.heap.size + 0)), some (.ref (E.1.heap.size + 44)), some (.ref (E.1.heap.size + 1238)), some (.int y215), none, none, none]) ⟨rfl, rfl, rfl, rfl, rfl, trivial⟩ ?_
                exact j_23 σ213 y215 hV
              · replace hV := hV.2 hc
                refine z_iconst (v := 0) hC dL_law_1450 rfl ?_
                exact z_iret hC dL_law_1451 rfl (by rw [hQo]; exact ⟨_, rfl, hV⟩)
          · replace hV := hV.2 hc
            refine z_iconst (v := 0) hC dL_law_1433 rfl ?_
            exact z_iret hC dL_law_1434 rfl (by rw [hQo]; exact ⟨_, rfl, hV⟩)
        replace hV := hV.2 hc16
        by_cases hc17 : ((w0.getD (ix x4) 0) &&& 63) = 17
        · replace hV := hV.1 hc17
          refine z_tableIn (tgt := 1455) (off := 1415) hC dL_law_40 (by rw [hc17]; decide) (by rw [hc17]; decide) (by rw [hc17]; rfl) (by decide) ?_
          refine z_aload_n hC dL_law_1455 rfl rfl ?_
          refine z_aload_n hC dL_law_1456 rfl rfl ?_
          refine z_iload hC dL_law_1457 rfl ?_
          refine z_iconst (v := 1) hC dL_law_1459 rfl ?_
          refine z_iadd hC dL_law_1460 ?_
          obtain ⟨h216, hV⟩ := hV
          refine z_ialdI hC hFI dL_law_1461 (h216) ?_
          refine z_aload_n hC dL_law_1462 rfl rfl ?_
          refine z_iload hC dL_law_1463 rfl ?_
          refine z_iconst (v := 2) hC dL_law_1465 rfl ?_
          refine z_iadd hC dL_law_1466 ?_
          obtain ⟨h217, hV⟩ := hV
          refine z_ialdI hC hFI dL_law_1467 (h217) ?_
          refine z_aload_n hC dL_law_1468 rfl rfl ?_
          refine z_iload hC dL_law_1469 rfl ?_
          refine z_iconst (v := 3) hC dL_law_1471 rfl ?_
          refine z_iadd hC dL_law_1472 ?_
          obtain ⟨h218, hV⟩ := hV
          refine z_ialdI hC hFI dL_law_1473 (h218) ?_
          refine z_aload_n hC dL_law_1474 rfl rfl ?_
          refine z_iload hC dL_law_1475 rfl ?_
          refine z_iconst (v := 4) hC dL_law_1477 rfl ?_
          refine z_iadd hC dL_law_1478 ?_
          obtain ⟨h219, hV⟩ := hV
          refine z_ialdI hC hFI dL_law_1479 (h219) ?_
          refine z_if_eq (tgt := 1487) hC dL_law_1480 (by decide) (fun hc => ?_) (fun hc => ?_)
          · replace hV := hV.1 hc
            refine z_iconst (v := 0) hC dL_law_1487 rfl ?_
            refine zz_sub (L' := [some (.ref v0), some (.ref (E.1.heap.size + 0)), some (.ref (E.1.heap.size + 44)), some (.ref (E.1.heap.size + 1238)), some (.int x4), none, none, none]) ⟨rfl, rfl, rfl, rfl, rfl, trivial⟩ ?_
            exact j_1488 σ x4 0 (w0.getD (ix (x4 + 3)) 0) (w0.getD (ix (x4 + 2)) 0) (w0.getD (ix (x4 + 1)) 0) hV
          · replace hV := hV.2 hc
            refine z_iconst (v := 1) hC dL_law_1483 rfl ?_
            refine z_goto (tgt := 1488) hC dL_law_1484 (by decide) ?_
            refine zz_sub (L' := [some (.ref v0), some (.ref (E.1.heap.size + 0)), some (.ref (E.1.heap.size + 44)), some (.ref (E.1.heap.size + 1238)), some (.int x4), none, none, none]) ⟨rfl, rfl, rfl, rfl, rfl, trivial⟩ ?_
            exact j_1488 σ x4 1 (w0.getD (ix (x4 + 3)) 0) (w0.getD (ix (x4 + 2)) 0) (w0.getD (ix (x4 + 1)) 0) hV
        replace hV := hV.2 hc17
        by_cases hc18 : ((w0.getD (ix x4) 0) &&& 63) = 18
        · replace hV := hV.1 hc18
          refine z_tableIn (tgt := 1563) (off := 1523) hC dL_law_40 (by rw [hc18]; decide) (by rw [hc18]; decide) (by rw [hc18]; rfl) (by decide) ?_
          refine z_aload_n hC dL_law_1563 rfl rfl ?_
          refine z_aload_n hC dL_law_1564 rfl rfl ?_
          refine z_iload hC dL_law_1565 rfl ?_
          refine z_iconst (v := 1) hC dL_law_1567 rfl ?_
          refine z_iadd hC dL_law_1568 ?_
          obtain ⟨h232, hV⟩ := hV
          refine z_ialdI hC hFI dL_law_1569 (h232) ?_
          refine c_X0_193 hC (by decide) dL_law_1570 (Nat.le_of_ble_eq_true rfl) hV (fun r233 σ234 hV => ?_)
          refine z_aload_n hC dL_law_1573 rfl rfl ?_
          refine z_aload_n hC dL_law_1574 rfl rfl ?_
          refine z_iload hC dL_law_1575 rfl ?_
          refine z_iconst (v := 1) hC dL_law_1577 rfl ?_
          refine z_iadd hC dL_law_1578 ?_
          obtain ⟨h235, hV⟩ := hV
          refine z_ialdI hC hFI dL_law_1579 (h235) ?_
          refine c_X0_196 hC (by decide) dL_law_1580 (Nat.le_of_ble_eq_true rfl) hV (fun r236 σ237 hV => ?_)
          refine z_icmp_eq (tgt := 2679) hC dL_law_1583 (by decide) (fun hc => ?_) (fun hc => ?_)
          · replace hV := hV.1 hc
            obtain ⟨y238, e_y238⟩ : ∃ z : Int32, z = x4 + 6 := ⟨_, rfl⟩
            replace hV := hV _ e_y238
            refine z_iinc (v := y238) hC dL_law_2679 rfl (by rw [e_y238]; rfl) (Nat.le_of_ble_eq_true rfl) rfl rfl ?_
            refine z_goto (tgt := 23) hC dL_law_2682 (by decide) ?_
            refine zz_sub (L' := [some (.ref v0), some (.ref (E.1.heap.size + 0)), some (.ref (E.1.heap.size + 44)), some (.ref (E.1.heap.size + 1238)), some (.int y238), none, none, none]) ⟨rfl, rfl, rfl, rfl, rfl, trivial⟩ ?_
            exact j_23 σ237 y238 hV
          · replace hV := hV.2 hc
            refine z_iconst (v := 0) hC dL_law_1586 rfl ?_
            exact z_iret hC dL_law_1587 rfl (by rw [hQo]; exact ⟨_, rfl, hV⟩)
        replace hV := hV.2 hc18
        by_cases hc19 : ((w0.getD (ix x4) 0) &&& 63) = 19
        · replace hV := hV.1 hc19
          refine z_tableIn (tgt := 1588) (off := 1548) hC dL_law_40 (by rw [hc19]; decide) (by rw [hc19]; decide) (by rw [hc19]; rfl) (by decide) ?_
          refine z_aload_n hC dL_law_1588 rfl rfl ?_
          refine z_aload_n hC dL_law_1589 rfl rfl ?_
          refine z_iload hC dL_law_1590 rfl ?_
          refine z_iconst (v := 1) hC dL_law_1592 rfl ?_
          refine z_iadd hC dL_law_1593 ?_
          obtain ⟨h239, hV⟩ := hV
          refine z_ialdI hC hFI dL_law_1594 (h239) ?_
          refine z_aload_n hC dL_law_1595 rfl rfl ?_
          refine c_X0_197 hC (by decide) dL_law_1596 (Nat.le_of_ble_eq_true rfl) hV (fun r240 σ241 hV => ?_)
          refine z_istore hC dL_law_1599 (Nat.le_of_ble_eq_true rfl) rfl rfl ?_
          refine z_aload_n hC dL_law_1601 rfl rfl ?_
          refine z_aload_n hC dL_law_1602 rfl rfl ?_
          refine z_iload hC dL_law_1603 rfl ?_
          refine z_iconst (v := 1) hC dL_law_1605 rfl ?_
          refine z_iadd hC dL_law_1606 ?_
          obtain ⟨h242, hV⟩ := hV
          refine z_ialdI hC hFI dL_law_1607 (h242) ?_
          refine c_X0_199 hC (by decide) dL_law_1608 (Nat.le_of_ble_eq_true rfl) hV (fun r243 σ244 hV => ?_)
          refine z_istore hC dL_law_1611 (Nat.le_of_ble_eq_true rfl) rfl rfl ?_
          refine z_aload_n hC dL_law_1613 rfl rfl ?_
          refine c_X0_135 hC (by decide) dL_law_1614 (Nat.le_of_ble_eq_true rfl) hV (fun r245 σ246 hV => ?_)
          refine z_iload hC dL_law_1617 rfl ?_
          refine z_icmp_eq (tgt := 1624) hC dL_law_1619 (by decide) (fun hc => ?_) (fun hc => ?_)
          · replace hV := hV.1 hc
            refine z_iload hC dL_law_1624 rfl ?_
            refine z_if_ne (tgt := 1641) hC dL_law_1626 (by decide) (fun hc => ?_) (fun hc => ?_)
            · replace hV := hV.2 hc
              refine z_goto (tgt := 2679) hC dL_law_1641 (by decide) ?_
              obtain ⟨y247, e_y247⟩ : ∃ z : Int32, z = x4 + 6 := ⟨_, rfl⟩
              replace hV := hV _ e_y247
              refine z_iinc (v := y247) hC dL_law_2679 rfl (by rw [e_y247]; rfl) (Nat.le_of_ble_eq_true rfl) rfl rfl ?_
              refine z_goto (tgt := 23) hC dL_law_2682 (by decide) ?_
              refine zz_sub (L' := [some (.ref v0), some (.ref (E.1.heap.size + 0)), some (.ref (E.1.heap.size + 44)), some (.ref (E.1.heap.size + 1238)), some (.int y247), none, none, none]) ⟨rfl, rfl, rfl, rfl, rfl, trivial⟩ ?_
              exact j_23 σ246 y247 hV
            · replace hV := hV.1 hc
              refine z_aload_n hC dL_law_1629 rfl rfl ?_
              refine z_iconst (v := 0) hC dL_law_1630 rfl ?_
              refine z_lald hC dL_law_1631 (k_1238 _) (in_dec rfl) ?_
              refine z_iload hC dL_law_1632 rfl ?_
              refine z_i2l hC dL_law_1634 ?_
              refine z_lcmp hC dL_law_1635 ?_
              refine z_if_eq (tgt := 1641) hC dL_law_1636 (by decide) (fun hc => ?_) (fun hc => ?_)
              · replace hV := hV.1 hc
                refine z_goto (tgt := 2679) hC dL_law_1641 (by decide) ?_
                obtain ⟨y248, e_y248⟩ : ∃ z : Int32, z = x4 + 6 := ⟨_, rfl⟩
                replace hV := hV _ e_y248
                refine z_iinc (v := y248) hC dL_law_2679 rfl (by rw [e_y248]; rfl) (Nat.le_of_ble_eq_true rfl) rfl rfl ?_
                refine z_goto (tgt := 23) hC dL_law_2682 (by decide) ?_
                refine zz_sub (L' := [some (.ref v0), some (.ref (E.1.heap.size + 0)), some (.ref (E.1.heap.size + 44)), some (.ref (E.1.heap.size + 1238)), some (.int y248), none, none, none]) ⟨rfl, rfl, rfl, rfl, rfl, trivial⟩ ?_
                exact j_23 σ246 y248 hV
              · replace hV := hV.2 hc
                refine z_iconst (v := 0) hC dL_law_1639 rfl ?_
                exact z_iret hC dL_law_1640 rfl (by rw [hQo]; exact ⟨_, rfl, hV⟩)
          · replace hV := hV.2 hc
            refine z_iconst (v := 0) hC dL_law_1622 rfl ?_
            exact z_iret hC dL_law_1623 rfl (by rw [hQo]; exact ⟨_, rfl, hV⟩)
        replace hV := hV.2 hc19
        by_cases hc20 : ((w0.getD (ix x4) 0) &&& 63) = 20
        · replace hV := hV.1 hc20
          refine z_tableIn (tgt := 1644) (off := 1604) hC dL_law_40 (by rw [hc20]; decide) (by rw [hc20]; decide) (by rw [hc20]; rfl) (by decide) ?_
          refine z_aload_n hC dL_law_1644 rfl rfl ?_
          refine z_aload_n hC dL_law_1645 rfl rfl ?_
          refine z_iload hC dL_law_1646 rfl ?_
          refine z_iconst (v := 1) hC dL_law_1648 rfl ?_
          refine z_iadd hC dL_law_1649 ?_
          obtain ⟨h249, hV⟩ := hV
          refine z_ialdI hC hFI dL_law_1650 (h249) ?_
          refine z_aload_n hC dL_law_1651 rfl rfl ?_
          refine z_iload hC dL_law_1652 rfl ?_
          refine z_iconst (v := 2) hC dL_law_1654 rfl ?_
          refine z_iadd hC dL_law_1655 ?_
          obtain ⟨h250, hV⟩ := hV
          refine z_ialdI hC hFI dL_law_1656 (h250) ?_
          refine z_aload_n hC dL_law_1657 rfl rfl ?_
          refine c_X0_200 hC (by decide) dL_law_1658 (Nat.le_of_ble_eq_true rfl) hV (fun r251 σ252 hV => ?_)
          refine z_istore hC dL_law_1661 (Nat.le_of_ble_eq_true rfl) rfl rfl ?_
          refine z_aload_n hC dL_law_1663 rfl rfl ?_
          refine z_aload_n hC dL_law_1664 rfl rfl ?_
          refine z_iload hC dL_law_1665 rfl ?_
          refine z_iconst (v := 1) hC dL_law_1667 rfl ?_
          refine z_iadd hC dL_law_1668 ?_
          obtain ⟨h253, hV⟩ := hV
          refine z_ialdI hC hFI dL_law_1669 (h253) ?_
          refine z_aload_n hC dL_law_1670 rfl rfl ?_
          refine z_iload hC dL_law_1671 rfl ?_
          refine z_iconst (v := 2) hC dL_law_1673 rfl ?_
          refine z_iadd hC dL_law_1674 ?_
          obtain ⟨h254, hV⟩ := hV
          refine z_ialdI hC hFI dL_law_1675 (h254) ?_
          refine c_X0_202 hC (by decide) dL_law_1676 (Nat.le_of_ble_eq_true rfl) hV (fun r255 σ256 hV => ?_)
          refine z_istore hC dL_law_1679 (Nat.le_of_ble_eq_true rfl) rfl rfl ?_
          refine z_aload_n hC dL_law_1681 rfl rfl ?_
          refine c_X0_135 hC (by decide) dL_law_1682 (Nat.le_of_ble_eq_true rfl) hV (fun r257 σ258 hV => ?_)
          refine z_iload hC dL_law_1685 rfl ?_
          refine z_icmp_eq (tgt := 1692) hC dL_law_1687 (by decide) (fun hc => ?_) (fun hc => ?_)
          · replace hV := hV.1 hc
            refine z_iload hC dL_law_1692 rfl ?_
            refine z_if_ne (tgt := 1709) hC dL_law_1694 (by decide) (fun hc => ?_) (fun hc => ?_)
            · replace hV := hV.2 hc
              refine z_goto (tgt := 2679) hC dL_law_1709 (by decide) ?_
              obtain ⟨y259, e_y259⟩ : ∃ z : Int32, z = x4 + 6 := ⟨_, rfl⟩
              replace hV := hV _ e_y259
              refine z_iinc (v := y259) hC dL_law_2679 rfl (by rw [e_y259]; rfl) (Nat.le_of_ble_eq_true rfl) rfl rfl ?_
              refine z_goto (tgt := 23) hC dL_law_2682 (by decide) ?_
              refine zz_sub (L' := [some (.ref v0), some (.ref (E.1.heap.size + 0)), some (.ref (E.1.heap.size + 44)), some (.ref (E.1.heap.size + 1238)), some (.int y259), none, none, none]) ⟨rfl, rfl, rfl, rfl, rfl, trivial⟩ ?_
              exact j_23 σ258 y259 hV
            · replace hV := hV.1 hc
              refine z_aload_n hC dL_law_1697 rfl rfl ?_
              refine z_iconst (v := 0) hC dL_law_1698 rfl ?_
              refine z_lald hC dL_law_1699 (k_1238 _) (in_dec rfl) ?_
              refine z_iload hC dL_law_1700 rfl ?_
              refine z_i2l hC dL_law_1702 ?_
              refine z_lcmp hC dL_law_1703 ?_
              refine z_if_eq (tgt := 1709) hC dL_law_1704 (by decide) (fun hc => ?_) (fun hc => ?_)
              · replace hV := hV.1 hc
                refine z_goto (tgt := 2679) hC dL_law_1709 (by decide) ?_
                obtain ⟨y260, e_y260⟩ : ∃ z : Int32, z = x4 + 6 := ⟨_, rfl⟩
                replace hV := hV _ e_y260
                refine z_iinc (v := y260) hC dL_law_2679 rfl (by rw [e_y260]; rfl) (Nat.le_of_ble_eq_true rfl) rfl rfl ?_
                refine z_goto (tgt := 23) hC dL_law_2682 (by decide) ?_
                refine zz_sub (L' := [some (.ref v0), some (.ref (E.1.heap.size + 0)), some (.ref (E.1.heap.size + 44)), some (.ref (E.1.heap.size + 1238)), some (.int y260), none, none, none]) ⟨rfl, rfl, rfl, rfl, rfl, trivial⟩ ?_
                exact j_23 σ258 y260 hV
              · replace hV := hV.2 hc
                refine z_iconst (v := 0) hC dL_law_1707 rfl ?_
                exact z_iret hC dL_law_1708 rfl (by rw [hQo]; exact ⟨_, rfl, hV⟩)
          · replace hV := hV.2 hc
            refine z_iconst (v := 0) hC dL_law_1690 rfl ?_
            exact z_iret hC dL_law_1691 rfl (by rw [hQo]; exact ⟨_, rfl, hV⟩)
        replace hV := hV.2 hc20
        by_cases hc21 : ((w0.getD (ix x4) 0) &&& 63) = 21
        · replace hV := hV.1 hc21
          refine z_tableIn (tgt := 1712) (off := 1672) hC dL_law_40 (by rw [hc21]; decide) (by rw [hc21]; decide) (by rw [hc21]; rfl) (by decide) ?_
          refine z_aload_n hC dL_law_1712 rfl rfl ?_
          refine z_aload_n hC dL_law_1713 rfl rfl ?_
          refine z_iload hC dL_law_1714 rfl ?_
          refine z_iconst (v := 1) hC dL_law_1716 rfl ?_
          refine z_iadd hC dL_law_1717 ?_
          obtain ⟨h261, hV⟩ := hV
          refine z_ialdI hC hFI dL_law_1718 (h261) ?_
          refine z_aload_n hC dL_law_1719 rfl rfl ?_
          refine z_iload hC dL_law_1720 rfl ?_
          refine z_iconst (v := 2) hC dL_law_1722 rfl ?_
          refine z_iadd hC dL_law_1723 ?_
          obtain ⟨h262, hV⟩ := hV
          refine z_ialdI hC hFI dL_law_1724 (h262) ?_
          refine z_aload_n hC dL_law_1725 rfl rfl ?_
          refine c_X0_203 hC (by decide) dL_law_1726 (Nat.le_of_ble_eq_true rfl) hV (fun r263 σ264 hV => ?_)
          refine z_istore hC dL_law_1729 (Nat.le_of_ble_eq_true rfl) rfl rfl ?_
          refine z_aload_n hC dL_law_1731 rfl rfl ?_
          refine z_aload_n hC dL_law_1732 rfl rfl ?_
          refine z_iload hC dL_law_1733 rfl ?_
          refine z_iconst (v := 1) hC dL_law_1735 rfl ?_
          refine z_iadd hC dL_law_1736 ?_
          obtain ⟨h265, hV⟩ := hV
          refine z_ialdI hC hFI dL_law_1737 (h265) ?_
          refine z_aload_n hC dL_law_1738 rfl rfl ?_
          refine z_iload hC dL_law_1739 rfl ?_
          refine z_iconst (v := 2) hC dL_law_1741 rfl ?_
          refine z_iadd hC dL_law_1742 ?_
          obtain ⟨h266, hV⟩ := hV
          refine z_ialdI hC hFI dL_law_1743 (h266) ?_
          refine c_X0_205 hC (by decide) dL_law_1744 (Nat.le_of_ble_eq_true rfl) hV (fun r267 σ268 hV => ?_)
          refine z_istore hC dL_law_1747 (Nat.le_of_ble_eq_true rfl) rfl rfl ?_
          refine z_aload_n hC dL_law_1749 rfl rfl ?_
          refine c_X0_135 hC (by decide) dL_law_1750 (Nat.le_of_ble_eq_true rfl) hV (fun r269 σ270 hV => ?_)
          refine z_iload hC dL_law_1753 rfl ?_
          refine z_icmp_eq (tgt := 1760) hC dL_law_1755 (by decide) (fun hc => ?_) (fun hc => ?_)
          · replace hV := hV.1 hc
            refine z_iload hC dL_law_1760 rfl ?_
            refine z_if_ne (tgt := 1777) hC dL_law_1762 (by decide) (fun hc => ?_) (fun hc => ?_)
            · replace hV := hV.2 hc
              refine z_goto (tgt := 2679) hC dL_law_1777 (by decide) ?_
              obtain ⟨y271, e_y271⟩ : ∃ z : Int32, z = x4 + 6 := ⟨_, rfl⟩
              replace hV := hV _ e_y271
              refine z_iinc (v := y271) hC dL_law_2679 rfl (by rw [e_y271]; rfl) (Nat.le_of_ble_eq_true rfl) rfl rfl ?_
              refine z_goto (tgt := 23) hC dL_law_2682 (by decide) ?_
              refine zz_sub (L' := [some (.ref v0), some (.ref (E.1.heap.size + 0)), some (.ref (E.1.heap.size + 44)), some (.ref (E.1.heap.size + 1238)), some (.int y271), none, none, none]) ⟨rfl, rfl, rfl, rfl, rfl, trivial⟩ ?_
              exact j_23 σ270 y271 hV
            · replace hV := hV.1 hc
              refine z_aload_n hC dL_law_1765 rfl rfl ?_
              refine z_iconst (v := 0) hC dL_law_1766 rfl ?_
              refine z_lald hC dL_law_1767 (k_1238 _) (in_dec rfl) ?_
              refine z_iload hC dL_law_1768 rfl ?_
              refine z_i2l hC dL_law_1770 ?_
              refine z_lcmp hC dL_law_1771 ?_
              refine z_if_eq (tgt := 1777) hC dL_law_1772 (by decide) (fun hc => ?_) (fun hc => ?_)
              · replace hV := hV.1 hc
                refine z_goto (tgt := 2679) hC dL_law_1777 (by decide) ?_
                obtain ⟨y272, e_y272⟩ : ∃ z : Int32, z = x4 + 6 := ⟨_, rfl⟩
                replace hV := hV _ e_y272
                refine z_iinc (v := y272) hC dL_law_2679 rfl (by rw [e_y272]; rfl) (Nat.le_of_ble_eq_true rfl) rfl rfl ?_
                refine z_goto (tgt := 23) hC dL_law_2682 (by decide) ?_
                refine zz_sub (L' := [some (.ref v0), some (.ref (E.1.heap.size + 0)), some (.ref (E.1.heap.size + 44)), some (.ref (E.1.heap.size + 1238)), some (.int y272), none, none, none]) ⟨rfl, rfl, rfl, rfl, rfl, trivial⟩ ?_
                exact j_23 σ270 y272 hV
              · replace hV := hV.2 hc
                refine z_iconst (v := 0) hC dL_law_1775 rfl ?_
                exact z_iret hC dL_law_1776 rfl (by rw [hQo]; exact ⟨_, rfl, hV⟩)
          · replace hV := hV.2 hc
            refine z_iconst (v := 0) hC dL_law_1758 rfl ?_
            exact z_iret hC dL_law_1759 rfl (by rw [hQo]; exact ⟨_, rfl, hV⟩)
        replace hV := hV.2 hc21
        by_cases hc22 : ((w0.getD (ix x4) 0) &&& 63) = 22
        · replace hV := hV.1 hc22
          refine z_tableIn (tgt := 1780) (off := 1740) hC dL_law_40 (by rw [hc22]; decide) (by rw [hc22]; decide) (by rw [hc22]; rfl) (by decide) ?_
          refine z_aload_n hC dL_law_1780 rfl rfl ?_
          refine z_aload_n hC dL_law_1781 rfl rfl ?_
          refine z_iload hC dL_law_1782 rfl ?_
          refine z_iconst (v := 1) hC dL_law_1784 rfl ?_
          refine z_iadd hC dL_law_1785 ?_
          obtain ⟨h273, hV⟩ := hV
          refine z_ialdI hC hFI dL_law_1786 (h273) ?_
          refine z_aload_n hC dL_law_1787 rfl rfl ?_
          refine z_iload hC dL_law_1788 rfl ?_
          refine z_iconst (v := 2) hC dL_law_1790 rfl ?_
          refine z_iadd hC dL_law_1791 ?_
          obtain ⟨h274, hV⟩ := hV
          refine z_ialdI hC hFI dL_law_1792 (h274) ?_
          refine z_aload_n hC dL_law_1793 rfl rfl ?_
          refine c_X0_206 hC (by decide) dL_law_1794 (Nat.le_of_ble_eq_true rfl) hV (fun r275 σ276 hV => ?_)
          refine z_istore hC dL_law_1797 (Nat.le_of_ble_eq_true rfl) rfl rfl ?_
          refine z_aload_n hC dL_law_1799 rfl rfl ?_
          refine z_aload_n hC dL_law_1800 rfl rfl ?_
          refine z_iload hC dL_law_1801 rfl ?_
          refine z_iconst (v := 1) hC dL_law_1803 rfl ?_
          refine z_iadd hC dL_law_1804 ?_
          obtain ⟨h277, hV⟩ := hV
          refine z_ialdI hC hFI dL_law_1805 (h277) ?_
          refine z_aload_n hC dL_law_1806 rfl rfl ?_
          refine z_iload hC dL_law_1807 rfl ?_
          refine z_iconst (v := 2) hC dL_law_1809 rfl ?_
          refine z_iadd hC dL_law_1810 ?_
          obtain ⟨h278, hV⟩ := hV
          refine z_ialdI hC hFI dL_law_1811 (h278) ?_
          refine c_X0_208 hC (by decide) dL_law_1812 (Nat.le_of_ble_eq_true rfl) hV (fun r279 σ280 hV => ?_)
          refine z_istore hC dL_law_1815 (Nat.le_of_ble_eq_true rfl) rfl rfl ?_
          refine z_aload_n hC dL_law_1817 rfl rfl ?_
          refine c_X0_135 hC (by decide) dL_law_1818 (Nat.le_of_ble_eq_true rfl) hV (fun r281 σ282 hV => ?_)
          refine z_iload hC dL_law_1821 rfl ?_
          refine z_icmp_eq (tgt := 1828) hC dL_law_1823 (by decide) (fun hc => ?_) (fun hc => ?_)
          · replace hV := hV.1 hc
            refine z_iload hC dL_law_1828 rfl ?_
            refine z_if_ne (tgt := 1845) hC dL_law_1830 (by decide) (fun hc => ?_) (fun hc => ?_)
            · replace hV := hV.2 hc
              refine z_goto (tgt := 2679) hC dL_law_1845 (by decide) ?_
              obtain ⟨y283, e_y283⟩ : ∃ z : Int32, z = x4 + 6 := ⟨_, rfl⟩
              replace hV := hV _ e_y283
              refine z_iinc (v := y283) hC dL_law_2679 rfl (by rw [e_y283]; rfl) (Nat.le_of_ble_eq_true rfl) rfl rfl ?_
              refine z_goto (tgt := 23) hC dL_law_2682 (by decide) ?_
              refine zz_sub (L' := [some (.ref v0), some (.ref (E.1.heap.size + 0)), some (.ref (E.1.heap.size + 44)), some (.ref (E.1.heap.size + 1238)), some (.int y283), none, none, none]) ⟨rfl, rfl, rfl, rfl, rfl, trivial⟩ ?_
              exact j_23 σ282 y283 hV
            · replace hV := hV.1 hc
              refine z_aload_n hC dL_law_1833 rfl rfl ?_
              refine z_iconst (v := 0) hC dL_law_1834 rfl ?_
              refine z_lald hC dL_law_1835 (k_1238 _) (in_dec rfl) ?_
              refine z_iload hC dL_law_1836 rfl ?_
              refine z_i2l hC dL_law_1838 ?_
              refine z_lcmp hC dL_law_1839 ?_
              refine z_if_eq (tgt := 1845) hC dL_law_1840 (by decide) (fun hc => ?_) (fun hc => ?_)
              · replace hV := hV.1 hc
                refine z_goto (tgt := 2679) hC dL_law_1845 (by decide) ?_
                obtain ⟨y284, e_y284⟩ : ∃ z : Int32, z = x4 + 6 := ⟨_, rfl⟩
                replace hV := hV _ e_y284
                refine z_iinc (v := y284) hC dL_law_2679 rfl (by rw [e_y284]; rfl) (Nat.le_of_ble_eq_true rfl) rfl rfl ?_
                refine z_goto (tgt := 23) hC dL_law_2682 (by decide) ?_
                refine zz_sub (L' := [some (.ref v0), some (.ref (E.1.heap.size + 0)), some (.ref (E.1.heap.size + 44)), some (.ref (E.1.heap.size + 1238)), some (.int y284), none, none, none]) ⟨rfl, rfl, rfl, rfl, rfl, trivial⟩ ?_
                exact j_23 σ282 y284 hV
              · replace hV := hV.2 hc
                refine z_iconst (v := 0) hC dL_law_1843 rfl ?_
                exact z_iret hC dL_law_1844 rfl (by rw [hQo]; exact ⟨_, rfl, hV⟩)
          · replace hV := hV.2 hc
            refine z_iconst (v := 0) hC dL_law_1826 rfl ?_
            exact z_iret hC dL_law_1827 rfl (by rw [hQo]; exact ⟨_, rfl, hV⟩)
        replace hV := hV.2 hc22
        by_cases hc23 : ((w0.getD (ix x4) 0) &&& 63) = 23
        · replace hV := hV.1 hc23
          refine z_tableIn (tgt := 1848) (off := 1808) hC dL_law_40 (by rw [hc23]; decide) (by rw [hc23]; decide) (by rw [hc23]; rfl) (by decide) ?_
          refine z_aload_n hC dL_law_1848 rfl rfl ?_
          refine z_aload_n hC dL_law_1849 rfl rfl ?_
          refine z_iload hC dL_law_1850 rfl ?_
          refine z_iconst (v := 1) hC dL_law_1852 rfl ?_
          refine z_iadd hC dL_law_1853 ?_
          obtain ⟨h285, hV⟩ := hV
          refine z_ialdI hC hFI dL_law_1854 (h285) ?_
          refine z_aload_n hC dL_law_1855 rfl rfl ?_
          refine z_iload hC dL_law_1856 rfl ?_
          refine z_iconst (v := 2) hC dL_law_1858 rfl ?_
          refine z_iadd hC dL_law_1859 ?_
          obtain ⟨h286, hV⟩ := hV
          refine z_ialdI hC hFI dL_law_1860 (h286) ?_
          refine z_aload_n hC dL_law_1861 rfl rfl ?_
          refine c_X0_209 hC (by decide) dL_law_1862 (Nat.le_of_ble_eq_true rfl) hV (fun r287 σ288 hV => ?_)
          refine z_istore hC dL_law_1865 (Nat.le_of_ble_eq_true rfl) rfl rfl ?_
          refine z_aload_n hC dL_law_1867 rfl rfl ?_
          refine z_aload_n hC dL_law_1868 rfl rfl ?_
          refine z_iload hC dL_law_1869 rfl ?_
          refine z_iconst (v := 1) hC dL_law_1871 rfl ?_
          refine z_iadd hC dL_law_1872 ?_
          obtain ⟨h289, hV⟩ := hV
          refine z_ialdI hC hFI dL_law_1873 (h289) ?_
          refine z_aload_n hC dL_law_1874 rfl rfl ?_
          refine z_iload hC dL_law_1875 rfl ?_
          refine z_iconst (v := 2) hC dL_law_1877 rfl ?_
          refine z_iadd hC dL_law_1878 ?_
          obtain ⟨h290, hV⟩ := hV
          refine z_ialdI hC hFI dL_law_1879 (h290) ?_
          refine c_X0_211 hC (by decide) dL_law_1880 (Nat.le_of_ble_eq_true rfl) hV (fun r291 σ292 hV => ?_)
          refine z_istore hC dL_law_1883 (Nat.le_of_ble_eq_true rfl) rfl rfl ?_
          refine z_aload_n hC dL_law_1885 rfl rfl ?_
          refine c_X0_135 hC (by decide) dL_law_1886 (Nat.le_of_ble_eq_true rfl) hV (fun r293 σ294 hV => ?_)
          refine z_iload hC dL_law_1889 rfl ?_
          refine z_icmp_eq (tgt := 1896) hC dL_law_1891 (by decide) (fun hc => ?_) (fun hc => ?_)
          · replace hV := hV.1 hc
            refine z_iload hC dL_law_1896 rfl ?_
            refine z_if_ne (tgt := 1913) hC dL_law_1898 (by decide) (fun hc => ?_) (fun hc => ?_)
            · replace hV := hV.2 hc
              refine z_goto (tgt := 2679) hC dL_law_1913 (by decide) ?_
              obtain ⟨y295, e_y295⟩ : ∃ z : Int32, z = x4 + 6 := ⟨_, rfl⟩
              replace hV := hV _ e_y295
              refine z_iinc (v := y295) hC dL_law_2679 rfl (by rw [e_y295]; rfl) (Nat.le_of_ble_eq_true rfl) rfl rfl ?_
              refine z_goto (tgt := 23) hC dL_law_2682 (by decide) ?_
              refine zz_sub (L' := [some (.ref v0), some (.ref (E.1.heap.size + 0)), some (.ref (E.1.heap.size + 44)), some (.ref (E.1.heap.size + 1238)), some (.int y295), none, none, none]) ⟨rfl, rfl, rfl, rfl, rfl, trivial⟩ ?_
              exact j_23 σ294 y295 hV
            · replace hV := hV.1 hc
              refine z_aload_n hC dL_law_1901 rfl rfl ?_
              refine z_iconst (v := 0) hC dL_law_1902 rfl ?_
              refine z_lald hC dL_law_1903 (k_1238 _) (in_dec rfl) ?_
              refine z_iload hC dL_law_1904 rfl ?_
              refine z_i2l hC dL_law_1906 ?_
              refine z_lcmp hC dL_law_1907 ?_
              refine z_if_eq (tgt := 1913) hC dL_law_1908 (by decide) (fun hc => ?_) (fun hc => ?_)
              · replace hV := hV.1 hc
                refine z_goto (tgt := 2679) hC dL_law_1913 (by decide) ?_
                obtain ⟨y296, e_y296⟩ : ∃ z : Int32, z = x4 + 6 := ⟨_, rfl⟩
                replace hV := hV _ e_y296
                refine z_iinc (v := y296) hC dL_law_2679 rfl (by rw [e_y296]; rfl) (Nat.le_of_ble_eq_true rfl) rfl rfl ?_
                refine z_goto (tgt := 23) hC dL_law_2682 (by decide) ?_
                refine zz_sub (L' := [some (.ref v0), some (.ref (E.1.heap.size + 0)), some (.ref (E.1.heap.size + 44)), some (.ref (E.1.heap.size + 1238)), some (.int y296), none, none, none]) ⟨rfl, rfl, rfl, rfl, rfl, trivial⟩ ?_
                exact j_23 σ294 y296 hV
              · replace hV := hV.2 hc
                refine z_iconst (v := 0) hC dL_law_1911 rfl ?_
                exact z_iret hC dL_law_1912 rfl (by rw [hQo]; exact ⟨_, rfl, hV⟩)
          · replace hV := hV.2 hc
            refine z_iconst (v := 0) hC dL_law_1894 rfl ?_
            exact z_iret hC dL_law_1895 rfl (by rw [hQo]; exact ⟨_, rfl, hV⟩)
        replace hV := hV.2 hc23
        by_cases hc24 : ((w0.getD (ix x4) 0) &&& 63) = 24
        · replace hV := hV.1 hc24
          refine z_tableIn (tgt := 1916) (off := 1876) hC dL_law_40 (by rw [hc24]; decide) (by rw [hc24]; decide) (by rw [hc24]; rfl) (by decide) ?_
          refine z_aload_n hC dL_law_1916 rfl rfl ?_
          refine z_aload_n hC dL_law_1917 rfl rfl ?_
          refine z_iload hC dL_law_1918 rfl ?_
          refine z_iconst (v := 1) hC dL_law_1920 rfl ?_
          refine z_iadd hC dL_law_1921 ?_
          obtain ⟨h297, hV⟩ := hV
          refine z_ialdI hC hFI dL_law_1922 (h297) ?_
          refine z_aload_n hC dL_law_1923 rfl rfl ?_
          refine z_iload hC dL_law_1924 rfl ?_
          refine z_iconst (v := 2) hC dL_law_1926 rfl ?_
          refine z_iadd hC dL_law_1927 ?_
          obtain ⟨h298, hV⟩ := hV
          refine z_ialdI hC hFI dL_law_1928 (h298) ?_
          refine z_aload_n hC dL_law_1929 rfl rfl ?_
          refine c_X0_212 hC (by decide) dL_law_1930 (Nat.le_of_ble_eq_true rfl) hV (fun r299 σ300 hV => ?_)
          refine z_istore hC dL_law_1933 (Nat.le_of_ble_eq_true rfl) rfl rfl ?_
          refine z_aload_n hC dL_law_1935 rfl rfl ?_
          refine z_aload_n hC dL_law_1936 rfl rfl ?_
          refine z_iload hC dL_law_1937 rfl ?_
          refine z_iconst (v := 1) hC dL_law_1939 rfl ?_
          refine z_iadd hC dL_law_1940 ?_
          obtain ⟨h301, hV⟩ := hV
          refine z_ialdI hC hFI dL_law_1941 (h301) ?_
          refine z_aload_n hC dL_law_1942 rfl rfl ?_
          refine z_iload hC dL_law_1943 rfl ?_
          refine z_iconst (v := 2) hC dL_law_1945 rfl ?_
          refine z_iadd hC dL_law_1946 ?_
          obtain ⟨h302, hV⟩ := hV
          refine z_ialdI hC hFI dL_law_1947 (h302) ?_
          refine c_X0_214 hC (by decide) dL_law_1948 (Nat.le_of_ble_eq_true rfl) hV (fun r303 σ304 hV => ?_)
          refine z_istore hC dL_law_1951 (Nat.le_of_ble_eq_true rfl) rfl rfl ?_
          refine z_aload_n hC dL_law_1953 rfl rfl ?_
          refine c_X0_135 hC (by decide) dL_law_1954 (Nat.le_of_ble_eq_true rfl) hV (fun r305 σ306 hV => ?_)
          refine z_iload hC dL_law_1957 rfl ?_
          refine z_icmp_eq (tgt := 1964) hC dL_law_1959 (by decide) (fun hc => ?_) (fun hc => ?_)
          · replace hV := hV.1 hc
            refine z_iload hC dL_law_1964 rfl ?_
            refine z_if_ne (tgt := 1981) hC dL_law_1966 (by decide) (fun hc => ?_) (fun hc => ?_)
            · replace hV := hV.2 hc
              refine z_goto (tgt := 2679) hC dL_law_1981 (by decide) ?_
              obtain ⟨y307, e_y307⟩ : ∃ z : Int32, z = x4 + 6 := ⟨_, rfl⟩
              replace hV := hV _ e_y307
              refine z_iinc (v := y307) hC dL_law_2679 rfl (by rw [e_y307]; rfl) (Nat.le_of_ble_eq_true rfl) rfl rfl ?_
              refine z_goto (tgt := 23) hC dL_law_2682 (by decide) ?_
              refine zz_sub (L' := [some (.ref v0), some (.ref (E.1.heap.size + 0)), some (.ref (E.1.heap.size + 44)), some (.ref (E.1.heap.size + 1238)), some (.int y307), none, none, none]) ⟨rfl, rfl, rfl, rfl, rfl, trivial⟩ ?_
              exact j_23 σ306 y307 hV
            · replace hV := hV.1 hc
              refine z_aload_n hC dL_law_1969 rfl rfl ?_
              refine z_iconst (v := 0) hC dL_law_1970 rfl ?_
              refine z_lald hC dL_law_1971 (k_1238 _) (in_dec rfl) ?_
              refine z_iload hC dL_law_1972 rfl ?_
              refine z_i2l hC dL_law_1974 ?_
              refine z_lcmp hC dL_law_1975 ?_
              refine z_if_eq (tgt := 1981) hC dL_law_1976 (by decide) (fun hc => ?_) (fun hc => ?_)
              · replace hV := hV.1 hc
                refine z_goto (tgt := 2679) hC dL_law_1981 (by decide) ?_
                obtain ⟨y308, e_y308⟩ : ∃ z : Int32, z = x4 + 6 := ⟨_, rfl⟩
                replace hV := hV _ e_y308
                refine z_iinc (v := y308) hC dL_law_2679 rfl (by rw [e_y308]; rfl) (Nat.le_of_ble_eq_true rfl) rfl rfl ?_
                refine z_goto (tgt := 23) hC dL_law_2682 (by decide) ?_
                refine zz_sub (L' := [some (.ref v0), some (.ref (E.1.heap.size + 0)), some (.ref (E.1.heap.size + 44)), some (.ref (E.1.heap.size + 1238)), some (.int y308), none, none, none]) ⟨rfl, rfl, rfl, rfl, rfl, trivial⟩ ?_
                exact j_23 σ306 y308 hV
              · replace hV := hV.2 hc
                refine z_iconst (v := 0) hC dL_law_1979 rfl ?_
                exact z_iret hC dL_law_1980 rfl (by rw [hQo]; exact ⟨_, rfl, hV⟩)
          · replace hV := hV.2 hc
            refine z_iconst (v := 0) hC dL_law_1962 rfl ?_
            exact z_iret hC dL_law_1963 rfl (by rw [hQo]; exact ⟨_, rfl, hV⟩)
        replace hV := hV.2 hc24
        by_cases hc25 : ((w0.getD (ix x4) 0) &&& 63) = 25
        · replace hV := hV.1 hc25
          refine z_tableIn (tgt := 1984) (off := 1944) hC dL_law_40 (by rw [hc25]; decide) (by rw [hc25]; decide) (by rw [hc25]; rfl) (by decide) ?_
          refine z_aload_n hC dL_law_1984 rfl rfl ?_
          refine z_aload_n hC dL_law_1985 rfl rfl ?_
          refine z_iload hC dL_law_1986 rfl ?_
          refine z_iconst (v := 1) hC dL_law_1988 rfl ?_
          refine z_iadd hC dL_law_1989 ?_
          obtain ⟨h309, hV⟩ := hV
          refine z_ialdI hC hFI dL_law_1990 (h309) ?_
          refine z_aload_n hC dL_law_1991 rfl rfl ?_
          refine c_X0_215 hC (by decide) dL_law_1992 (Nat.le_of_ble_eq_true rfl) hV (fun r310 σ311 hV => ?_)
          refine z_istore hC dL_law_1995 (Nat.le_of_ble_eq_true rfl) rfl rfl ?_
          refine z_aload_n hC dL_law_1997 rfl rfl ?_
          refine z_aload_n hC dL_law_1998 rfl rfl ?_
          refine z_iload hC dL_law_1999 rfl ?_
          refine z_iconst (v := 1) hC dL_law_2001 rfl ?_
          refine z_iadd hC dL_law_2002 ?_
          obtain ⟨h312, hV⟩ := hV
          refine z_ialdI hC hFI dL_law_2003 (h312) ?_
          refine c_X0_217 hC (by decide) dL_law_2004 (Nat.le_of_ble_eq_true rfl) hV (fun r313 σ314 hV => ?_)
          refine z_istore hC dL_law_2007 (Nat.le_of_ble_eq_true rfl) rfl rfl ?_
          refine z_aload_n hC dL_law_2009 rfl rfl ?_
          refine c_X0_135 hC (by decide) dL_law_2010 (Nat.le_of_ble_eq_true rfl) hV (fun r315 σ316 hV => ?_)
          refine z_iload hC dL_law_2013 rfl ?_
          refine z_icmp_eq (tgt := 2020) hC dL_law_2015 (by decide) (fun hc => ?_) (fun hc => ?_)
          · replace hV := hV.1 hc
            refine z_iload hC dL_law_2020 rfl ?_
            refine z_if_ne (tgt := 2037) hC dL_law_2022 (by decide) (fun hc => ?_) (fun hc => ?_)
            · replace hV := hV.2 hc
              refine z_goto (tgt := 2679) hC dL_law_2037 (by decide) ?_
              obtain ⟨y317, e_y317⟩ : ∃ z : Int32, z = x4 + 6 := ⟨_, rfl⟩
              replace hV := hV _ e_y317
              refine z_iinc (v := y317) hC dL_law_2679 rfl (by rw [e_y317]; rfl) (Nat.le_of_ble_eq_true rfl) rfl rfl ?_
              refine z_goto (tgt := 23) hC dL_law_2682 (by decide) ?_
              refine zz_sub (L' := [some (.ref v0), some (.ref (E.1.heap.size + 0)), some (.ref (E.1.heap.size + 44)), some (.ref (E.1.heap.size + 1238)), some (.int y317), none, none, none]) ⟨rfl, rfl, rfl, rfl, rfl, trivial⟩ ?_
              exact j_23 σ316 y317 hV
            · replace hV := hV.1 hc
              refine z_aload_n hC dL_law_2025 rfl rfl ?_
              refine z_iconst (v := 0) hC dL_law_2026 rfl ?_
              refine z_lald hC dL_law_2027 (k_1238 _) (in_dec rfl) ?_
              refine z_iload hC dL_law_2028 rfl ?_
              refine z_i2l hC dL_law_2030 ?_
              refine z_lcmp hC dL_law_2031 ?_
              refine z_if_eq (tgt := 2037) hC dL_law_2032 (by decide) (fun hc => ?_) (fun hc => ?_)
              · replace hV := hV.1 hc
                refine z_goto (tgt := 2679) hC dL_law_2037 (by decide) ?_
                obtain ⟨y318, e_y318⟩ : ∃ z : Int32, z = x4 + 6 := ⟨_, rfl⟩
                replace hV := hV _ e_y318
                refine z_iinc (v := y318) hC dL_law_2679 rfl (by rw [e_y318]; rfl) (Nat.le_of_ble_eq_true rfl) rfl rfl ?_
                refine z_goto (tgt := 23) hC dL_law_2682 (by decide) ?_
                refine zz_sub (L' := [some (.ref v0), some (.ref (E.1.heap.size + 0)), some (.ref (E.1.heap.size + 44)), some (.ref (E.1.heap.size + 1238)), some (.int y318), none, none, none]) ⟨rfl, rfl, rfl, rfl, rfl, trivial⟩ ?_
                exact j_23 σ316 y318 hV
              · replace hV := hV.2 hc
                refine z_iconst (v := 0) hC dL_law_2035 rfl ?_
                exact z_iret hC dL_law_2036 rfl (by rw [hQo]; exact ⟨_, rfl, hV⟩)
          · replace hV := hV.2 hc
            refine z_iconst (v := 0) hC dL_law_2018 rfl ?_
            exact z_iret hC dL_law_2019 rfl (by rw [hQo]; exact ⟨_, rfl, hV⟩)
        replace hV := hV.2 hc25
        by_cases hc26 : ((w0.getD (ix x4) 0) &&& 63) = 26
        · replace hV := hV.1 hc26
          refine z_tableIn (tgt := 2040) (off := 2000) hC dL_law_40 (by rw [hc26]; decide) (by rw [hc26]; decide) (by rw [hc26]; rfl) (by decide) ?_
          refine z_aload_n hC dL_law_2040 rfl rfl ?_
          refine z_aload_n hC dL_law_2041 rfl rfl ?_
          refine z_iload hC dL_law_2042 rfl ?_
          refine z_iconst (v := 1) hC dL_law_2044 rfl ?_
          refine z_iadd hC dL_law_2045 ?_
          obtain ⟨h319, hV⟩ := hV
          refine z_ialdI hC hFI dL_law_2046 (h319) ?_
          refine z_aload_n hC dL_law_2047 rfl rfl ?_
          refine c_X0_218 hC (by decide) dL_law_2048 (Nat.le_of_ble_eq_true rfl) hV (fun r320 σ321 hV => ?_)
          refine z_istore hC dL_law_2051 (Nat.le_of_ble_eq_true rfl) rfl rfl ?_
          refine z_aload_n hC dL_law_2053 rfl rfl ?_
          refine z_aload_n hC dL_law_2054 rfl rfl ?_
          refine z_iload hC dL_law_2055 rfl ?_
          refine z_iconst (v := 1) hC dL_law_2057 rfl ?_
          refine z_iadd hC dL_law_2058 ?_
          obtain ⟨h322, hV⟩ := hV
          refine z_ialdI hC hFI dL_law_2059 (h322) ?_
          refine c_X0_220 hC (by decide) dL_law_2060 (Nat.le_of_ble_eq_true rfl) hV (fun r323 σ324 hV => ?_)
          refine z_istore hC dL_law_2063 (Nat.le_of_ble_eq_true rfl) rfl rfl ?_
          refine z_aload_n hC dL_law_2065 rfl rfl ?_
          refine c_X0_135 hC (by decide) dL_law_2066 (Nat.le_of_ble_eq_true rfl) hV (fun r325 σ326 hV => ?_)
          refine z_iload hC dL_law_2069 rfl ?_
          refine z_icmp_eq (tgt := 2076) hC dL_law_2071 (by decide) (fun hc => ?_) (fun hc => ?_)
          · replace hV := hV.1 hc
            refine z_iload hC dL_law_2076 rfl ?_
            refine z_if_ne (tgt := 2093) hC dL_law_2078 (by decide) (fun hc => ?_) (fun hc => ?_)
            · replace hV := hV.2 hc
              refine z_goto (tgt := 2679) hC dL_law_2093 (by decide) ?_
              obtain ⟨y327, e_y327⟩ : ∃ z : Int32, z = x4 + 6 := ⟨_, rfl⟩
              replace hV := hV _ e_y327
              refine z_iinc (v := y327) hC dL_law_2679 rfl (by rw [e_y327]; rfl) (Nat.le_of_ble_eq_true rfl) rfl rfl ?_
              refine z_goto (tgt := 23) hC dL_law_2682 (by decide) ?_
              refine zz_sub (L' := [some (.ref v0), some (.ref (E.1.heap.size + 0)), some (.ref (E.1.heap.size + 44)), some (.ref (E.1.heap.size + 1238)), some (.int y327), none, none, none]) ⟨rfl, rfl, rfl, rfl, rfl, trivial⟩ ?_
              exact j_23 σ326 y327 hV
            · replace hV := hV.1 hc
              refine z_aload_n hC dL_law_2081 rfl rfl ?_
              refine z_iconst (v := 0) hC dL_law_2082 rfl ?_
              refine z_lald hC dL_law_2083 (k_1238 _) (in_dec rfl) ?_
              refine z_iload hC dL_law_2084 rfl ?_
              refine z_i2l hC dL_law_2086 ?_
              refine z_lcmp hC dL_law_2087 ?_
              refine z_if_eq (tgt := 2093) hC dL_law_2088 (by decide) (fun hc => ?_) (fun hc => ?_)
              · replace hV := hV.1 hc
                refine z_goto (tgt := 2679) hC dL_law_2093 (by decide) ?_
                obtain ⟨y328, e_y328⟩ : ∃ z : Int32, z = x4 + 6 := ⟨_, rfl⟩
                replace hV := hV _ e_y328
                refine z_iinc (v := y328) hC dL_law_2679 rfl (by rw [e_y328]; rfl) (Nat.le_of_ble_eq_true rfl) rfl rfl ?_
                refine z_goto (tgt := 23) hC dL_law_2682 (by decide) ?_
                refine zz_sub (L' := [some (.ref v0), some (.ref (E.1.heap.size + 0)), some (.ref (E.1.heap.size + 44)), some (.ref (E.1.heap.size + 1238)), some (.int y328), none, none, none]) ⟨rfl, rfl, rfl, rfl, rfl, trivial⟩ ?_
                exact j_23 σ326 y328 hV
              · replace hV := hV.2 hc
                refine z_iconst (v := 0) hC dL_law_2091 rfl ?_
                exact z_iret hC dL_law_2092 rfl (by rw [hQo]; exact ⟨_, rfl, hV⟩)
          · replace hV := hV.2 hc
            refine z_iconst (v := 0) hC dL_law_2074 rfl ?_
            exact z_iret hC dL_law_2075 rfl (by rw [hQo]; exact ⟨_, rfl, hV⟩)
        replace hV := hV.2 hc26
        by_cases hc27 : ((w0.getD (ix x4) 0) &&& 63) = 27
        · replace hV := hV.1 hc27
          refine z_tableIn (tgt := 2096) (off := 2056) hC dL_law_40 (by rw [hc27]; decide) (by rw [hc27]; decide) (by rw [hc27]; rfl) (by decide) ?_
          refine z_aload_n hC dL_law_2096 rfl rfl ?_
          refine z_aload_n hC dL_law_2097 rfl rfl ?_
          refine z_iload hC dL_law_2098 rfl ?_
          refine z_iconst (v := 1) hC dL_law_2100 rfl ?_
          refine z_iadd hC dL_law_2101 ?_
          obtain ⟨h329, hV⟩ := hV
          refine z_ialdI hC hFI dL_law_2102 (h329) ?_
          refine z_aload_n hC dL_law_2103 rfl rfl ?_
          refine c_X0_221 hC (by decide) dL_law_2104 (Nat.le_of_ble_eq_true rfl) hV (fun r330 σ331 hV => ?_)
          refine z_istore hC dL_law_2107 (Nat.le_of_ble_eq_true rfl) rfl rfl ?_
          refine z_aload_n hC dL_law_2109 rfl rfl ?_
          refine z_aload_n hC dL_law_2110 rfl rfl ?_
          refine z_iload hC dL_law_2111 rfl ?_
          refine z_iconst (v := 1) hC dL_law_2113 rfl ?_
          refine z_iadd hC dL_law_2114 ?_
          obtain ⟨h332, hV⟩ := hV
          refine z_ialdI hC hFI dL_law_2115 (h332) ?_
          refine c_X0_223 hC (by decide) dL_law_2116 (Nat.le_of_ble_eq_true rfl) hV (fun r333 σ334 hV => ?_)
          refine z_istore hC dL_law_2119 (Nat.le_of_ble_eq_true rfl) rfl rfl ?_
          refine z_aload_n hC dL_law_2121 rfl rfl ?_
          refine c_X0_135 hC (by decide) dL_law_2122 (Nat.le_of_ble_eq_true rfl) hV (fun r335 σ336 hV => ?_)
          refine z_iload hC dL_law_2125 rfl ?_
          refine z_icmp_eq (tgt := 2132) hC dL_law_2127 (by decide) (fun hc => ?_) (fun hc => ?_)
          · replace hV := hV.1 hc
            refine z_iload hC dL_law_2132 rfl ?_
            refine z_if_ne (tgt := 2149) hC dL_law_2134 (by decide) (fun hc => ?_) (fun hc => ?_)
            · replace hV := hV.2 hc
              refine z_goto (tgt := 2679) hC dL_law_2149 (by decide) ?_
              obtain ⟨y337, e_y337⟩ : ∃ z : Int32, z = x4 + 6 := ⟨_, rfl⟩
              replace hV := hV _ e_y337
              refine z_iinc (v := y337) hC dL_law_2679 rfl (by rw [e_y337]; rfl) (Nat.le_of_ble_eq_true rfl) rfl rfl ?_
              refine z_goto (tgt := 23) hC dL_law_2682 (by decide) ?_
              refine zz_sub (L' := [some (.ref v0), some (.ref (E.1.heap.size + 0)), some (.ref (E.1.heap.size + 44)), some (.ref (E.1.heap.size + 1238)), some (.int y337), none, none, none]) ⟨rfl, rfl, rfl, rfl, rfl, trivial⟩ ?_
              exact j_23 σ336 y337 hV
            · replace hV := hV.1 hc
              refine z_aload_n hC dL_law_2137 rfl rfl ?_
              refine z_iconst (v := 0) hC dL_law_2138 rfl ?_
              refine z_lald hC dL_law_2139 (k_1238 _) (in_dec rfl) ?_
              refine z_iload hC dL_law_2140 rfl ?_
              refine z_i2l hC dL_law_2142 ?_
              refine z_lcmp hC dL_law_2143 ?_
              refine z_if_eq (tgt := 2149) hC dL_law_2144 (by decide) (fun hc => ?_) (fun hc => ?_)
              · replace hV := hV.1 hc
                refine z_goto (tgt := 2679) hC dL_law_2149 (by decide) ?_
                obtain ⟨y338, e_y338⟩ : ∃ z : Int32, z = x4 + 6 := ⟨_, rfl⟩
                replace hV := hV _ e_y338
                refine z_iinc (v := y338) hC dL_law_2679 rfl (by rw [e_y338]; rfl) (Nat.le_of_ble_eq_true rfl) rfl rfl ?_
                refine z_goto (tgt := 23) hC dL_law_2682 (by decide) ?_
                refine zz_sub (L' := [some (.ref v0), some (.ref (E.1.heap.size + 0)), some (.ref (E.1.heap.size + 44)), some (.ref (E.1.heap.size + 1238)), some (.int y338), none, none, none]) ⟨rfl, rfl, rfl, rfl, rfl, trivial⟩ ?_
                exact j_23 σ336 y338 hV
              · replace hV := hV.2 hc
                refine z_iconst (v := 0) hC dL_law_2147 rfl ?_
                exact z_iret hC dL_law_2148 rfl (by rw [hQo]; exact ⟨_, rfl, hV⟩)
          · replace hV := hV.2 hc
            refine z_iconst (v := 0) hC dL_law_2130 rfl ?_
            exact z_iret hC dL_law_2131 rfl (by rw [hQo]; exact ⟨_, rfl, hV⟩)
        replace hV := hV.2 hc27
        by_cases hc28 : ((w0.getD (ix x4) 0) &&& 63) = 28
        · replace hV := hV.1 hc28
          refine z_tableIn (tgt := 2152) (off := 2112) hC dL_law_40 (by rw [hc28]; decide) (by rw [hc28]; decide) (by rw [hc28]; rfl) (by decide) ?_
          refine z_aload_n hC dL_law_2152 rfl rfl ?_
          refine z_aload_n hC dL_law_2153 rfl rfl ?_
          refine z_iload hC dL_law_2154 rfl ?_
          refine z_iconst (v := 1) hC dL_law_2156 rfl ?_
          refine z_iadd hC dL_law_2157 ?_
          obtain ⟨h339, hV⟩ := hV
          refine z_ialdI hC hFI dL_law_2158 (h339) ?_
          refine z_aload_n hC dL_law_2159 rfl rfl ?_
          refine c_X0_224 hC (by decide) dL_law_2160 (Nat.le_of_ble_eq_true rfl) hV (fun r340 σ341 hV => ?_)
          refine z_istore hC dL_law_2163 (Nat.le_of_ble_eq_true rfl) rfl rfl ?_
          refine z_aload_n hC dL_law_2165 rfl rfl ?_
          refine z_aload_n hC dL_law_2166 rfl rfl ?_
          refine z_iload hC dL_law_2167 rfl ?_
          refine z_iconst (v := 1) hC dL_law_2169 rfl ?_
          refine z_iadd hC dL_law_2170 ?_
          obtain ⟨h342, hV⟩ := hV
          refine z_ialdI hC hFI dL_law_2171 (h342) ?_
          refine c_X0_226 hC (by decide) dL_law_2172 (Nat.le_of_ble_eq_true rfl) hV (fun r343 σ344 hV => ?_)
          refine z_istore hC dL_law_2175 (Nat.le_of_ble_eq_true rfl) rfl rfl ?_
          refine z_aload_n hC dL_law_2177 rfl rfl ?_
          refine c_X0_135 hC (by decide) dL_law_2178 (Nat.le_of_ble_eq_true rfl) hV (fun r345 σ346 hV => ?_)
          refine z_iload hC dL_law_2181 rfl ?_
          refine z_icmp_eq (tgt := 2188) hC dL_law_2183 (by decide) (fun hc => ?_) (fun hc => ?_)
          · replace hV := hV.1 hc
            refine z_iload hC dL_law_2188 rfl ?_
            refine z_if_ne (tgt := 2205) hC dL_law_2190 (by decide) (fun hc => ?_) (fun hc => ?_)
            · replace hV := hV.2 hc
              refine z_goto (tgt := 2679) hC dL_law_2205 (by decide) ?_
              obtain ⟨y347, e_y347⟩ : ∃ z : Int32, z = x4 + 6 := ⟨_, rfl⟩
              replace hV := hV _ e_y347
              refine z_iinc (v := y347) hC dL_law_2679 rfl (by rw [e_y347]; rfl) (Nat.le_of_ble_eq_true rfl) rfl rfl ?_
              refine z_goto (tgt := 23) hC dL_law_2682 (by decide) ?_
              refine zz_sub (L' := [some (.ref v0), some (.ref (E.1.heap.size + 0)), some (.ref (E.1.heap.size + 44)), some (.ref (E.1.heap.size + 1238)), some (.int y347), none, none, none]) ⟨rfl, rfl, rfl, rfl, rfl, trivial⟩ ?_
              exact j_23 σ346 y347 hV
            · replace hV := hV.1 hc
              refine z_aload_n hC dL_law_2193 rfl rfl ?_
              refine z_iconst (v := 0) hC dL_law_2194 rfl ?_
              refine z_lald hC dL_law_2195 (k_1238 _) (in_dec rfl) ?_
              refine z_iload hC dL_law_2196 rfl ?_
              refine z_i2l hC dL_law_2198 ?_
              refine z_lcmp hC dL_law_2199 ?_
              refine z_if_eq (tgt := 2205) hC dL_law_2200 (by decide) (fun hc => ?_) (fun hc => ?_)
              · replace hV := hV.1 hc
                refine z_goto (tgt := 2679) hC dL_law_2205 (by decide) ?_
                obtain ⟨y348, e_y348⟩ : ∃ z : Int32, z = x4 + 6 := ⟨_, rfl⟩
                replace hV := hV _ e_y348
                refine z_iinc (v := y348) hC dL_law_2679 rfl (by rw [e_y348]; rfl) (Nat.le_of_ble_eq_true rfl) rfl rfl ?_
                refine z_goto (tgt := 23) hC dL_law_2682 (by decide) ?_
                refine zz_sub (L' := [some (.ref v0), some (.ref (E.1.heap.size + 0)), some (.ref (E.1.heap.size + 44)), some (.ref (E.1.heap.size + 1238)), some (.int y348), none, none, none]) ⟨rfl, rfl, rfl, rfl, rfl, trivial⟩ ?_
                exact j_23 σ346 y348 hV
              · replace hV := hV.2 hc
                refine z_iconst (v := 0) hC dL_law_2203 rfl ?_
                exact z_iret hC dL_law_2204 rfl (by rw [hQo]; exact ⟨_, rfl, hV⟩)
          · replace hV := hV.2 hc
            refine z_iconst (v := 0) hC dL_law_2186 rfl ?_
            exact z_iret hC dL_law_2187 rfl (by rw [hQo]; exact ⟨_, rfl, hV⟩)
        replace hV := hV.2 hc28
        by_cases hc29 : ((w0.getD (ix x4) 0) &&& 63) = 29
        · replace hV := hV.1 hc29
          refine z_tableIn (tgt := 2208) (off := 2168) hC dL_law_40 (by rw [hc29]; decide) (by rw [hc29]; decide) (by rw [hc29]; rfl) (by decide) ?_
          refine z_aload_n hC dL_law_2208 rfl rfl ?_
          refine c_X0_227 hC (by decide) dL_law_2209 (Nat.le_of_ble_eq_true rfl) hV (fun r349 σ350 hV => ?_)
          refine z_aload_n hC dL_law_2212 rfl rfl ?_
          refine c_X0_230 hC (by decide) dL_law_2213 (Nat.le_of_ble_eq_true rfl) hV (fun r351 σ352 hV => ?_)
          refine z_icmp_eq (tgt := 2679) hC dL_law_2216 (by decide) (fun hc => ?_) (fun hc => ?_)
          · replace hV := hV.1 hc
            obtain ⟨y353, e_y353⟩ : ∃ z : Int32, z = x4 + 6 := ⟨_, rfl⟩
            replace hV := hV _ e_y353
            refine z_iinc (v := y353) hC dL_law_2679 rfl (by rw [e_y353]; rfl) (Nat.le_of_ble_eq_true rfl) rfl rfl ?_
            refine z_goto (tgt := 23) hC dL_law_2682 (by decide) ?_
            refine zz_sub (L' := [some (.ref v0), some (.ref (E.1.heap.size + 0)), some (.ref (E.1.heap.size + 44)), some (.ref (E.1.heap.size + 1238)), some (.int y353), none, none, none]) ⟨rfl, rfl, rfl, rfl, rfl, trivial⟩ ?_
            exact j_23 σ352 y353 hV
          · replace hV := hV.2 hc
            refine z_iconst (v := 0) hC dL_law_2219 rfl ?_
            exact z_iret hC dL_law_2220 rfl (by rw [hQo]; exact ⟨_, rfl, hV⟩)
        replace hV := hV.2 hc29
        by_cases hc30 : ((w0.getD (ix x4) 0) &&& 63) = 30
        · replace hV := hV.1 hc30
          refine z_tableIn (tgt := 2221) (off := 2181) hC dL_law_40 (by rw [hc30]; decide) (by rw [hc30]; decide) (by rw [hc30]; rfl) (by decide) ?_
          refine z_aload_n hC dL_law_2221 rfl rfl ?_
          refine z_aload_n hC dL_law_2222 rfl rfl ?_
          refine z_iload hC dL_law_2223 rfl ?_
          refine z_iconst (v := 1) hC dL_law_2225 rfl ?_
          refine z_iadd hC dL_law_2226 ?_
          obtain ⟨h354, hV⟩ := hV
          refine z_ialdI hC hFI dL_law_2227 (h354) ?_
          refine z_aload_n hC dL_law_2228 rfl rfl ?_
          refine z_iload hC dL_law_2229 rfl ?_
          refine z_iconst (v := 2) hC dL_law_2231 rfl ?_
          refine z_iadd hC dL_law_2232 ?_
          obtain ⟨h355, hV⟩ := hV
          refine z_ialdI hC hFI dL_law_2233 (h355) ?_
          refine z_aload_n hC dL_law_2234 rfl rfl ?_
          refine c_X0_231 hC (by decide) dL_law_2235 (Nat.le_of_ble_eq_true rfl) hV (fun r356 σ357 hV => ?_)
          refine z_istore hC dL_law_2238 (Nat.le_of_ble_eq_true rfl) rfl rfl ?_
          refine z_aload_n hC dL_law_2240 rfl rfl ?_
          refine z_aload_n hC dL_law_2241 rfl rfl ?_
          refine z_iload hC dL_law_2242 rfl ?_
          refine z_iconst (v := 1) hC dL_law_2244 rfl ?_
          refine z_iadd hC dL_law_2245 ?_
          obtain ⟨h358, hV⟩ := hV
          refine z_ialdI hC hFI dL_law_2246 (h358) ?_
          refine z_aload_n hC dL_law_2247 rfl rfl ?_
          refine z_iload hC dL_law_2248 rfl ?_
          refine z_iconst (v := 2) hC dL_law_2250 rfl ?_
          refine z_iadd hC dL_law_2251 ?_
          obtain ⟨h359, hV⟩ := hV
          refine z_ialdI hC hFI dL_law_2252 (h359) ?_
          refine c_X0_233 hC (by decide) dL_law_2253 (Nat.le_of_ble_eq_true rfl) hV (fun r360 σ361 hV => ?_)
          refine z_lstore hC dL_law_2256 (Nat.le_of_ble_eq_true rfl) rfl rfl ?_
          refine z_aload_n hC dL_law_2258 rfl rfl ?_
          refine c_X0_135 hC (by decide) dL_law_2259 (Nat.le_of_ble_eq_true rfl) hV (fun r362 σ363 hV => ?_)
          refine z_iload hC dL_law_2262 rfl ?_
          refine z_icmp_eq (tgt := 2269) hC dL_law_2264 (by decide) (fun hc => ?_) (fun hc => ?_)
          · replace hV := hV.1 hc
            refine z_iload hC dL_law_2269 rfl ?_
            refine z_if_ne (tgt := 2285) hC dL_law_2271 (by decide) (fun hc => ?_) (fun hc => ?_)
            · replace hV := hV.2 hc
              refine z_goto (tgt := 2679) hC dL_law_2285 (by decide) ?_
              obtain ⟨y364, e_y364⟩ : ∃ z : Int32, z = x4 + 6 := ⟨_, rfl⟩
              replace hV := hV _ e_y364
              refine z_iinc (v := y364) hC dL_law_2679 rfl (by rw [e_y364]; rfl) (Nat.le_of_ble_eq_true rfl) rfl rfl ?_
              refine z_goto (tgt := 23) hC dL_law_2682 (by decide) ?_
              refine zz_sub (L' := [some (.ref v0), some (.ref (E.1.heap.size + 0)), some (.ref (E.1.heap.size + 44)), some (.ref (E.1.heap.size + 1238)), some (.int y364), none, none, none]) ⟨rfl, rfl, rfl, rfl, rfl, trivial⟩ ?_
              exact j_23 σ363 y364 hV
            · replace hV := hV.1 hc
              refine z_aload_n hC dL_law_2274 rfl rfl ?_
              refine z_iconst (v := 0) hC dL_law_2275 rfl ?_
              refine z_lald hC dL_law_2276 (k_1238 _) (in_dec rfl) ?_
              refine z_lload hC dL_law_2277 rfl ?_
              refine z_lcmp hC dL_law_2279 ?_
              refine z_if_eq (tgt := 2285) hC dL_law_2280 (by decide) (fun hc => ?_) (fun hc => ?_)
              · replace hV := hV.1 hc
                refine z_goto (tgt := 2679) hC dL_law_2285 (by decide) ?_
                obtain ⟨y365, e_y365⟩ : ∃ z : Int32, z = x4 + 6 := ⟨_, rfl⟩
                replace hV := hV _ e_y365
                refine z_iinc (v := y365) hC dL_law_2679 rfl (by rw [e_y365]; rfl) (Nat.le_of_ble_eq_true rfl) rfl rfl ?_
                refine z_goto (tgt := 23) hC dL_law_2682 (by decide) ?_
                refine zz_sub (L' := [some (.ref v0), some (.ref (E.1.heap.size + 0)), some (.ref (E.1.heap.size + 44)), some (.ref (E.1.heap.size + 1238)), some (.int y365), none, none, none]) ⟨rfl, rfl, rfl, rfl, rfl, trivial⟩ ?_
                exact j_23 σ363 y365 hV
              · replace hV := hV.2 hc
                refine z_iconst (v := 0) hC dL_law_2283 rfl ?_
                exact z_iret hC dL_law_2284 rfl (by rw [hQo]; exact ⟨_, rfl, hV⟩)
          · replace hV := hV.2 hc
            refine z_iconst (v := 0) hC dL_law_2267 rfl ?_
            exact z_iret hC dL_law_2268 rfl (by rw [hQo]; exact ⟨_, rfl, hV⟩)
        replace hV := hV.2 hc30
        by_cases hc31 : ((w0.getD (ix x4) 0) &&& 63) = 31
        · replace hV := hV.1 hc31
          refine z_tableIn (tgt := 2288) (off := 2248) hC dL_law_40 (by rw [hc31]; decide) (by rw [hc31]; decide) (by rw [hc31]; rfl) (by decide) ?_
          refine z_aload_n hC dL_law_2288 rfl rfl ?_
          refine z_aload_n hC dL_law_2289 rfl rfl ?_
          refine z_iload hC dL_law_2290 rfl ?_
          refine z_iconst (v := 1) hC dL_law_2292 rfl ?_
          refine z_iadd hC dL_law_2293 ?_
          obtain ⟨h366, hV⟩ := hV
          refine z_ialdI hC hFI dL_law_2294 (h366) ?_
          refine z_aload_n hC dL_law_2295 rfl rfl ?_
          refine c_X0_234 hC (by decide) dL_law_2296 (Nat.le_of_ble_eq_true rfl) hV (fun r367 σ368 hV => ?_)
          refine z_istore hC dL_law_2299 (Nat.le_of_ble_eq_true rfl) rfl rfl ?_
          refine z_aload_n hC dL_law_2301 rfl rfl ?_
          refine z_aload_n hC dL_law_2302 rfl rfl ?_
          refine z_iload hC dL_law_2303 rfl ?_
          refine z_iconst (v := 1) hC dL_law_2305 rfl ?_
          refine z_iadd hC dL_law_2306 ?_
          obtain ⟨h369, hV⟩ := hV
          refine z_ialdI hC hFI dL_law_2307 (h369) ?_
          refine c_X0_236 hC (by decide) dL_law_2308 (Nat.le_of_ble_eq_true rfl) hV (fun r370 σ371 hV => ?_)
          refine z_istore hC dL_law_2311 (Nat.le_of_ble_eq_true rfl) rfl rfl ?_
          refine z_aload_n hC dL_law_2313 rfl rfl ?_
          refine c_X0_135 hC (by decide) dL_law_2314 (Nat.le_of_ble_eq_true rfl) hV (fun r372 σ373 hV => ?_)
          refine z_iload hC dL_law_2317 rfl ?_
          refine z_icmp_eq (tgt := 2324) hC dL_law_2319 (by decide) (fun hc => ?_) (fun hc => ?_)
          · replace hV := hV.1 hc
            refine z_iload hC dL_law_2324 rfl ?_
            refine z_if_ne (tgt := 2341) hC dL_law_2326 (by decide) (fun hc => ?_) (fun hc => ?_)
            · replace hV := hV.2 hc
              refine z_goto (tgt := 2679) hC dL_law_2341 (by decide) ?_
              obtain ⟨y374, e_y374⟩ : ∃ z : Int32, z = x4 + 6 := ⟨_, rfl⟩
              replace hV := hV _ e_y374
              refine z_iinc (v := y374) hC dL_law_2679 rfl (by rw [e_y374]; rfl) (Nat.le_of_ble_eq_true rfl) rfl rfl ?_
              refine z_goto (tgt := 23) hC dL_law_2682 (by decide) ?_
              refine zz_sub (L' := [some (.ref v0), some (.ref (E.1.heap.size + 0)), some (.ref (E.1.heap.size + 44)), some (.ref (E.1.heap.size + 1238)), some (.int y374), none, none, none]) ⟨rfl, rfl, rfl, rfl, rfl, trivial⟩ ?_
              exact j_23 σ373 y374 hV
            · replace hV := hV.1 hc
              refine z_aload_n hC dL_law_2329 rfl rfl ?_
              refine z_iconst (v := 0) hC dL_law_2330 rfl ?_
              refine z_lald hC dL_law_2331 (k_1238 _) (in_dec rfl) ?_
              refine z_iload hC dL_law_2332 rfl ?_
              refine z_i2l hC dL_law_2334 ?_
              refine z_lcmp hC dL_law_2335 ?_
              refine z_if_eq (tgt := 2341) hC dL_law_2336 (by decide) (fun hc => ?_) (fun hc => ?_)
              · replace hV := hV.1 hc
                refine z_goto (tgt := 2679) hC dL_law_2341 (by decide) ?_
                obtain ⟨y375, e_y375⟩ : ∃ z : Int32, z = x4 + 6 := ⟨_, rfl⟩
                replace hV := hV _ e_y375
                refine z_iinc (v := y375) hC dL_law_2679 rfl (by rw [e_y375]; rfl) (Nat.le_of_ble_eq_true rfl) rfl rfl ?_
                refine z_goto (tgt := 23) hC dL_law_2682 (by decide) ?_
                refine zz_sub (L' := [some (.ref v0), some (.ref (E.1.heap.size + 0)), some (.ref (E.1.heap.size + 44)), some (.ref (E.1.heap.size + 1238)), some (.int y375), none, none, none]) ⟨rfl, rfl, rfl, rfl, rfl, trivial⟩ ?_
                exact j_23 σ373 y375 hV
              · replace hV := hV.2 hc
                refine z_iconst (v := 0) hC dL_law_2339 rfl ?_
                exact z_iret hC dL_law_2340 rfl (by rw [hQo]; exact ⟨_, rfl, hV⟩)
          · replace hV := hV.2 hc
            refine z_iconst (v := 0) hC dL_law_2322 rfl ?_
            exact z_iret hC dL_law_2323 rfl (by rw [hQo]; exact ⟨_, rfl, hV⟩)
        replace hV := hV.2 hc31
        by_cases hc32 : ((w0.getD (ix x4) 0) &&& 63) = 32
        · replace hV := hV.1 hc32
          refine z_tableIn (tgt := 2344) (off := 2304) hC dL_law_40 (by rw [hc32]; decide) (by rw [hc32]; decide) (by rw [hc32]; rfl) (by decide) ?_
          refine z_aload_n hC dL_law_2344 rfl rfl ?_
          refine z_aload_n hC dL_law_2345 rfl rfl ?_
          refine z_iload hC dL_law_2346 rfl ?_
          refine z_iconst (v := 1) hC dL_law_2348 rfl ?_
          refine z_iadd hC dL_law_2349 ?_
          obtain ⟨h376, hV⟩ := hV
          refine z_ialdI hC hFI dL_law_2350 (h376) ?_
          refine z_aload_n hC dL_law_2351 rfl rfl ?_
          refine z_iload hC dL_law_2352 rfl ?_
          refine z_iconst (v := 2) hC dL_law_2354 rfl ?_
          refine z_iadd hC dL_law_2355 ?_
          obtain ⟨h377, hV⟩ := hV
          refine z_ialdI hC hFI dL_law_2356 (h377) ?_
          refine z_aload_n hC dL_law_2357 rfl rfl ?_
          refine c_X0_237 hC (by decide) dL_law_2358 (Nat.le_of_ble_eq_true rfl) hV (fun r378 σ379 hV => ?_)
          refine z_istore hC dL_law_2361 (Nat.le_of_ble_eq_true rfl) rfl rfl ?_
          refine z_aload_n hC dL_law_2363 rfl rfl ?_
          refine z_aload_n hC dL_law_2364 rfl rfl ?_
          refine z_iload hC dL_law_2365 rfl ?_
          refine z_iconst (v := 1) hC dL_law_2367 rfl ?_
          refine z_iadd hC dL_law_2368 ?_
          obtain ⟨h380, hV⟩ := hV
          refine z_ialdI hC hFI dL_law_2369 (h380) ?_
          refine z_aload_n hC dL_law_2370 rfl rfl ?_
          refine z_iload hC dL_law_2371 rfl ?_
          refine z_iconst (v := 2) hC dL_law_2373 rfl ?_
          refine z_iadd hC dL_law_2374 ?_
          obtain ⟨h381, hV⟩ := hV
          refine z_ialdI hC hFI dL_law_2375 (h381) ?_
          refine c_X0_239 hC (by decide) dL_law_2376 (Nat.le_of_ble_eq_true rfl) hV (fun r382 σ383 hV => ?_)
          refine z_istore hC dL_law_2379 (Nat.le_of_ble_eq_true rfl) rfl rfl ?_
          refine z_aload_n hC dL_law_2381 rfl rfl ?_
          refine c_X0_135 hC (by decide) dL_law_2382 (Nat.le_of_ble_eq_true rfl) hV (fun r384 σ385 hV => ?_)
          refine z_iload hC dL_law_2385 rfl ?_
          refine z_icmp_eq (tgt := 2392) hC dL_law_2387 (by decide) (fun hc => ?_) (fun hc => ?_)
          · replace hV := hV.1 hc
            refine z_iload hC dL_law_2392 rfl ?_
            refine z_if_ne (tgt := 2409) hC dL_law_2394 (by decide) (fun hc => ?_) (fun hc => ?_)
            · replace hV := hV.2 hc
              refine z_goto (tgt := 2679) hC dL_law_2409 (by decide) ?_
              obtain ⟨y386, e_y386⟩ : ∃ z : Int32, z = x4 + 6 := ⟨_, rfl⟩
              replace hV := hV _ e_y386
              refine z_iinc (v := y386) hC dL_law_2679 rfl (by rw [e_y386]; rfl) (Nat.le_of_ble_eq_true rfl) rfl rfl ?_
              refine z_goto (tgt := 23) hC dL_law_2682 (by decide) ?_
              refine zz_sub (L' := [some (.ref v0), some (.ref (E.1.heap.size + 0)), some (.ref (E.1.heap.size + 44)), some (.ref (E.1.heap.size + 1238)), some (.int y386), none, none, none]) ⟨rfl, rfl, rfl, rfl, rfl, trivial⟩ ?_
              exact j_23 σ385 y386 hV
            · replace hV := hV.1 hc
              refine z_aload_n hC dL_law_2397 rfl rfl ?_
              refine z_iconst (v := 0) hC dL_law_2398 rfl ?_
              refine z_lald hC dL_law_2399 (k_1238 _) (in_dec rfl) ?_
              refine z_iload hC dL_law_2400 rfl ?_
              refine z_i2l hC dL_law_2402 ?_
              refine z_lcmp hC dL_law_2403 ?_
              refine z_if_eq (tgt := 2409) hC dL_law_2404 (by decide) (fun hc => ?_) (fun hc => ?_)
              · replace hV := hV.1 hc
                refine z_goto (tgt := 2679) hC dL_law_2409 (by decide) ?_
                obtain ⟨y387, e_y387⟩ : ∃ z : Int32, z = x4 + 6 := ⟨_, rfl⟩
                replace hV := hV _ e_y387
                refine z_iinc (v := y387) hC dL_law_2679 rfl (by rw [e_y387]; rfl) (Nat.le_of_ble_eq_true rfl) rfl rfl ?_
                refine z_goto (tgt := 23) hC dL_law_2682 (by decide) ?_
                refine zz_sub (L' := [some (.ref v0), some (.ref (E.1.heap.size + 0)), some (.ref (E.1.heap.size + 44)), some (.ref (E.1.heap.size + 1238)), some (.int y387), none, none, none]) ⟨rfl, rfl, rfl, rfl, rfl, trivial⟩ ?_
                exact j_23 σ385 y387 hV
              · replace hV := hV.2 hc
                refine z_iconst (v := 0) hC dL_law_2407 rfl ?_
                exact z_iret hC dL_law_2408 rfl (by rw [hQo]; exact ⟨_, rfl, hV⟩)
          · replace hV := hV.2 hc
            refine z_iconst (v := 0) hC dL_law_2390 rfl ?_
            exact z_iret hC dL_law_2391 rfl (by rw [hQo]; exact ⟨_, rfl, hV⟩)
        replace hV := hV.2 hc32
        by_cases hc33 : ((w0.getD (ix x4) 0) &&& 63) = 33
        · replace hV := hV.1 hc33
          refine z_tableIn (tgt := 2412) (off := 2372) hC dL_law_40 (by rw [hc33]; decide) (by rw [hc33]; decide) (by rw [hc33]; rfl) (by decide) ?_
          refine z_aload_n hC dL_law_2412 rfl rfl ?_
          refine z_aload_n hC dL_law_2413 rfl rfl ?_
          refine z_iload hC dL_law_2414 rfl ?_
          refine z_iconst (v := 1) hC dL_law_2416 rfl ?_
          refine z_iadd hC dL_law_2417 ?_
          obtain ⟨h388, hV⟩ := hV
          refine z_ialdI hC hFI dL_law_2418 (h388) ?_
          refine z_aload_n hC dL_law_2419 rfl rfl ?_
          refine z_iload hC dL_law_2420 rfl ?_
          refine z_iconst (v := 2) hC dL_law_2422 rfl ?_
          refine z_iadd hC dL_law_2423 ?_
          obtain ⟨h389, hV⟩ := hV
          refine z_ialdI hC hFI dL_law_2424 (h389) ?_
          refine z_aload_n hC dL_law_2425 rfl rfl ?_
          refine z_iload hC dL_law_2426 rfl ?_
          refine z_iconst (v := 3) hC dL_law_2428 rfl ?_
          refine z_iadd hC dL_law_2429 ?_
          obtain ⟨h390, hV⟩ := hV
          refine z_ialdI hC hFI dL_law_2430 (h390) ?_
          refine z_aload_n hC dL_law_2431 rfl rfl ?_
          refine c_X0_240 hC (by decide) dL_law_2432 (Nat.le_of_ble_eq_true rfl) hV (fun r391 σ392 hV => ?_)
          refine z_istore hC dL_law_2435 (Nat.le_of_ble_eq_true rfl) rfl rfl ?_
          refine z_aload_n hC dL_law_2437 rfl rfl ?_
          refine z_aload_n hC dL_law_2438 rfl rfl ?_
          refine z_iload hC dL_law_2439 rfl ?_
          refine z_iconst (v := 1) hC dL_law_2441 rfl ?_
          refine z_iadd hC dL_law_2442 ?_
          obtain ⟨h393, hV⟩ := hV
          refine z_ialdI hC hFI dL_law_2443 (h393) ?_
          refine z_aload_n hC dL_law_2444 rfl rfl ?_
          refine z_iload hC dL_law_2445 rfl ?_
          refine z_iconst (v := 2) hC dL_law_2447 rfl ?_
          refine z_iadd hC dL_law_2448 ?_
          obtain ⟨h394, hV⟩ := hV
          refine z_ialdI hC hFI dL_law_2449 (h394) ?_
          refine z_aload_n hC dL_law_2450 rfl rfl ?_
          refine z_iload hC dL_law_2451 rfl ?_
          refine z_iconst (v := 3) hC dL_law_2453 rfl ?_
          refine z_iadd hC dL_law_2454 ?_
          obtain ⟨h395, hV⟩ := hV
          refine z_ialdI hC hFI dL_law_2455 (h395) ?_
          refine c_X0_242 hC (by decide) dL_law_2456 (Nat.le_of_ble_eq_true rfl) hV (fun r396 σ397 hV => ?_)
          refine z_istore hC dL_law_2459 (Nat.le_of_ble_eq_true rfl) rfl rfl ?_
          refine z_aload_n hC dL_law_2461 rfl rfl ?_
          refine c_X0_135 hC (by decide) dL_law_2462 (Nat.le_of_ble_eq_true rfl) hV (fun r398 σ399 hV => ?_)
          refine z_iload hC dL_law_2465 rfl ?_
          refine z_icmp_eq (tgt := 2472) hC dL_law_2467 (by decide) (fun hc => ?_) (fun hc => ?_)
          · replace hV := hV.1 hc
            refine z_iload hC dL_law_2472 rfl ?_
            refine z_if_ne (tgt := 2489) hC dL_law_2474 (by decide) (fun hc => ?_) (fun hc => ?_)
            · replace hV := hV.2 hc
              refine z_goto (tgt := 2679) hC dL_law_2489 (by decide) ?_
              obtain ⟨y400, e_y400⟩ : ∃ z : Int32, z = x4 + 6 := ⟨_, rfl⟩
              replace hV := hV _ e_y400
              refine z_iinc (v := y400) hC dL_law_2679 rfl (by rw [e_y400]; rfl) (Nat.le_of_ble_eq_true rfl) rfl rfl ?_
              refine z_goto (tgt := 23) hC dL_law_2682 (by decide) ?_
              refine zz_sub (L' := [some (.ref v0), some (.ref (E.1.heap.size + 0)), some (.ref (E.1.heap.size + 44)), some (.ref (E.1.heap.size + 1238)), some (.int y400), none, none, none]) ⟨rfl, rfl, rfl, rfl, rfl, trivial⟩ ?_
              exact j_23 σ399 y400 hV
            · replace hV := hV.1 hc
              refine z_aload_n hC dL_law_2477 rfl rfl ?_
              refine z_iconst (v := 0) hC dL_law_2478 rfl ?_
              refine z_lald hC dL_law_2479 (k_1238 _) (in_dec rfl) ?_
              refine z_iload hC dL_law_2480 rfl ?_
              refine z_i2l hC dL_law_2482 ?_
              refine z_lcmp hC dL_law_2483 ?_
              refine z_if_eq (tgt := 2489) hC dL_law_2484 (by decide) (fun hc => ?_) (fun hc => ?_)
              · replace hV := hV.1 hc
                refine z_goto (tgt := 2679) hC dL_law_2489 (by decide) ?_
                obtain ⟨y401, e_y401⟩ : ∃ z : Int32, z = x4 + 6 := ⟨_, rfl⟩
                replace hV := hV _ e_y401
                refine z_iinc (v := y401) hC dL_law_2679 rfl (by rw [e_y401]; rfl) (Nat.le_of_ble_eq_true rfl) rfl rfl ?_
                refine z_goto (tgt := 23) hC dL_law_2682 (by decide) ?_
                refine zz_sub (L' := [some (.ref v0), some (.ref (E.1.heap.size + 0)), some (.ref (E.1.heap.size + 44)), some (.ref (E.1.heap.size + 1238)), some (.int y401), none, none, none]) ⟨rfl, rfl, rfl, rfl, rfl, trivial⟩ ?_
                exact j_23 σ399 y401 hV
              · replace hV := hV.2 hc
                refine z_iconst (v := 0) hC dL_law_2487 rfl ?_
                exact z_iret hC dL_law_2488 rfl (by rw [hQo]; exact ⟨_, rfl, hV⟩)
          · replace hV := hV.2 hc
            refine z_iconst (v := 0) hC dL_law_2470 rfl ?_
            exact z_iret hC dL_law_2471 rfl (by rw [hQo]; exact ⟨_, rfl, hV⟩)
        replace hV := hV.2 hc33
        by_cases hc34 : ((w0.getD (ix x4) 0) &&& 63) = 34
        · replace hV := hV.1 hc34
          refine z_tableIn (tgt := 2492) (off := 2452) hC dL_law_40 (by rw [hc34]; decide) (by rw [hc34]; decide) (by rw [hc34]; rfl) (by decide) ?_
          refine z_aload_n hC dL_law_2492 rfl rfl ?_
          refine z_aload_n hC dL_law_2493 rfl rfl ?_
          refine z_iload hC dL_law_2494 rfl ?_
          refine z_iconst (v := 1) hC dL_law_2496 rfl ?_
          refine z_iadd hC dL_law_2497 ?_
          obtain ⟨h402, hV⟩ := hV
          refine z_ialdI hC hFI dL_law_2498 (h402) ?_
          refine z_aload_n hC dL_law_2499 rfl rfl ?_
          refine z_iload hC dL_law_2500 rfl ?_
          refine z_iconst (v := 2) hC dL_law_2502 rfl ?_
          refine z_iadd hC dL_law_2503 ?_
          obtain ⟨h403, hV⟩ := hV
          refine z_ialdI hC hFI dL_law_2504 (h403) ?_
          refine z_aload_n hC dL_law_2505 rfl rfl ?_
          refine c_X0_243 hC (by decide) dL_law_2506 (Nat.le_of_ble_eq_true rfl) hV (fun r404 σ405 hV => ?_)
          refine z_istore hC dL_law_2509 (Nat.le_of_ble_eq_true rfl) rfl rfl ?_
          refine z_aload_n hC dL_law_2511 rfl rfl ?_
          refine z_aload_n hC dL_law_2512 rfl rfl ?_
          refine z_iload hC dL_law_2513 rfl ?_
          refine z_iconst (v := 1) hC dL_law_2515 rfl ?_
          refine z_iadd hC dL_law_2516 ?_
          obtain ⟨h406, hV⟩ := hV
          refine z_ialdI hC hFI dL_law_2517 (h406) ?_
          refine z_aload_n hC dL_law_2518 rfl rfl ?_
          refine z_iload hC dL_law_2519 rfl ?_
          refine z_iconst (v := 2) hC dL_law_2521 rfl ?_
          refine z_iadd hC dL_law_2522 ?_
          obtain ⟨h407, hV⟩ := hV
          refine z_ialdI hC hFI dL_law_2523 (h407) ?_
          refine c_X0_245 hC (by decide) dL_law_2524 (Nat.le_of_ble_eq_true rfl) hV (fun r408 σ409 hV => ?_)
          refine z_istore hC dL_law_2527 (Nat.le_of_ble_eq_true rfl) rfl rfl ?_
          refine z_aload_n hC dL_law_2529 rfl rfl ?_
          refine c_X0_135 hC (by decide) dL_law_2530 (Nat.le_of_ble_eq_true rfl) hV (fun r410 σ411 hV => ?_)
          refine z_iload hC dL_law_2533 rfl ?_
          refine z_icmp_eq (tgt := 2540) hC dL_law_2535 (by decide) (fun hc => ?_) (fun hc => ?_)
          · replace hV := hV.1 hc
            refine z_iload hC dL_law_2540 rfl ?_
            refine z_if_ne (tgt := 2557) hC dL_law_2542 (by decide) (fun hc => ?_) (fun hc => ?_)
            · replace hV := hV.2 hc
              refine z_goto (tgt := 2679) hC dL_law_2557 (by decide) ?_
              obtain ⟨y412, e_y412⟩ : ∃ z : Int32, z = x4 + 6 := ⟨_, rfl⟩
              replace hV := hV _ e_y412
              refine z_iinc (v := y412) hC dL_law_2679 rfl (by rw [e_y412]; rfl) (Nat.le_of_ble_eq_true rfl) rfl rfl ?_
              refine z_goto (tgt := 23) hC dL_law_2682 (by decide) ?_
              refine zz_sub (L' := [some (.ref v0), some (.ref (E.1.heap.size + 0)), some (.ref (E.1.heap.size + 44)), some (.ref (E.1.heap.size + 1238)), some (.int y412), none, none, none]) ⟨rfl, rfl, rfl, rfl, rfl, trivial⟩ ?_
              exact j_23 σ411 y412 hV
            · replace hV := hV.1 hc
              refine z_aload_n hC dL_law_2545 rfl rfl ?_
              refine z_iconst (v := 0) hC dL_law_2546 rfl ?_
              refine z_lald hC dL_law_2547 (k_1238 _) (in_dec rfl) ?_
              refine z_iload hC dL_law_2548 rfl ?_
              refine z_i2l hC dL_law_2550 ?_
              refine z_lcmp hC dL_law_2551 ?_
              refine z_if_eq (tgt := 2557) hC dL_law_2552 (by decide) (fun hc => ?_) (fun hc => ?_)
              · replace hV := hV.1 hc
                refine z_goto (tgt := 2679) hC dL_law_2557 (by decide) ?_
                obtain ⟨y413, e_y413⟩ : ∃ z : Int32, z = x4 + 6 := ⟨_, rfl⟩
                replace hV := hV _ e_y413
                refine z_iinc (v := y413) hC dL_law_2679 rfl (by rw [e_y413]; rfl) (Nat.le_of_ble_eq_true rfl) rfl rfl ?_
                refine z_goto (tgt := 23) hC dL_law_2682 (by decide) ?_
                refine zz_sub (L' := [some (.ref v0), some (.ref (E.1.heap.size + 0)), some (.ref (E.1.heap.size + 44)), some (.ref (E.1.heap.size + 1238)), some (.int y413), none, none, none]) ⟨rfl, rfl, rfl, rfl, rfl, trivial⟩ ?_
                exact j_23 σ411 y413 hV
              · replace hV := hV.2 hc
                refine z_iconst (v := 0) hC dL_law_2555 rfl ?_
                exact z_iret hC dL_law_2556 rfl (by rw [hQo]; exact ⟨_, rfl, hV⟩)
          · replace hV := hV.2 hc
            refine z_iconst (v := 0) hC dL_law_2538 rfl ?_
            exact z_iret hC dL_law_2539 rfl (by rw [hQo]; exact ⟨_, rfl, hV⟩)
        replace hV := hV.2 hc34
        by_cases hc35 : ((w0.getD (ix x4) 0) &&& 63) = 35
        · replace hV := hV.1 hc35
          refine z_tableIn (tgt := 2560) (off := 2520) hC dL_law_40 (by rw [hc35]; decide) (by rw [hc35]; decide) (by rw [hc35]; rfl) (by decide) ?_
          refine z_aload_n hC dL_law_2560 rfl rfl ?_
          refine z_aload_n hC dL_law_2561 rfl rfl ?_
          refine z_iload hC dL_law_2562 rfl ?_
          refine z_iconst (v := 1) hC dL_law_2564 rfl ?_
          refine z_iadd hC dL_law_2565 ?_
          obtain ⟨h414, hV⟩ := hV
          refine z_ialdI hC hFI dL_law_2566 (h414) ?_
          refine z_aload_n hC dL_law_2567 rfl rfl ?_
          refine z_iload hC dL_law_2568 rfl ?_
          refine z_iconst (v := 2) hC dL_law_2570 rfl ?_
          refine z_iadd hC dL_law_2571 ?_
          obtain ⟨h415, hV⟩ := hV
          refine z_ialdI hC hFI dL_law_2572 (h415) ?_
          refine z_aload_n hC dL_law_2573 rfl rfl ?_
          refine c_X0_246 hC (by decide) dL_law_2574 (Nat.le_of_ble_eq_true rfl) hV (fun r416 σ417 hV => ?_)
          refine z_istore hC dL_law_2577 (Nat.le_of_ble_eq_true rfl) rfl rfl ?_
          refine z_aload_n hC dL_law_2579 rfl rfl ?_
          refine z_aload_n hC dL_law_2580 rfl rfl ?_
          refine z_iload hC dL_law_2581 rfl ?_
          refine z_iconst (v := 1) hC dL_law_2583 rfl ?_
          refine z_iadd hC dL_law_2584 ?_
          obtain ⟨h418, hV⟩ := hV
          refine z_ialdI hC hFI dL_law_2585 (h418) ?_
          refine z_aload_n hC dL_law_2586 rfl rfl ?_
          refine z_iload hC dL_law_2587 rfl ?_
          refine z_iconst (v := 2) hC dL_law_2589 rfl ?_
          refine z_iadd hC dL_law_2590 ?_
          obtain ⟨h419, hV⟩ := hV
          refine z_ialdI hC hFI dL_law_2591 (h419) ?_
          refine c_X0_248 hC (by decide) dL_law_2592 (Nat.le_of_ble_eq_true rfl) hV (fun r420 σ421 hV => ?_)
          refine z_istore hC dL_law_2595 (Nat.le_of_ble_eq_true rfl) rfl rfl ?_
          refine z_aload_n hC dL_law_2597 rfl rfl ?_
          refine c_X0_135 hC (by decide) dL_law_2598 (Nat.le_of_ble_eq_true rfl) hV (fun r422 σ423 hV => ?_)
          refine z_iload hC dL_law_2601 rfl ?_
          refine z_icmp_eq (tgt := 2608) hC dL_law_2603 (by decide) (fun hc => ?_) (fun hc => ?_)
          · replace hV := hV.1 hc
            refine z_iload hC dL_law_2608 rfl ?_
            refine z_if_ne (tgt := 2625) hC dL_law_2610 (by decide) (fun hc => ?_) (fun hc => ?_)
            · replace hV := hV.2 hc
              refine z_goto (tgt := 2679) hC dL_law_2625 (by decide) ?_
              obtain ⟨y424, e_y424⟩ : ∃ z : Int32, z = x4 + 6 := ⟨_, rfl⟩
              replace hV := hV _ e_y424
              refine z_iinc (v := y424) hC dL_law_2679 rfl (by rw [e_y424]; rfl) (Nat.le_of_ble_eq_true rfl) rfl rfl ?_
              refine z_goto (tgt := 23) hC dL_law_2682 (by decide) ?_
              refine zz_sub (L' := [some (.ref v0), some (.ref (E.1.heap.size + 0)), some (.ref (E.1.heap.size + 44)), some (.ref (E.1.heap.size + 1238)), some (.int y424), none, none, none]) ⟨rfl, rfl, rfl, rfl, rfl, trivial⟩ ?_
              exact j_23 σ423 y424 hV
            · replace hV := hV.1 hc
              refine z_aload_n hC dL_law_2613 rfl rfl ?_
              refine z_iconst (v := 0) hC dL_law_2614 rfl ?_
              refine z_lald hC dL_law_2615 (k_1238 _) (in_dec rfl) ?_
              refine z_iload hC dL_law_2616 rfl ?_
              refine z_i2l hC dL_law_2618 ?_
              refine z_lcmp hC dL_law_2619 ?_
              refine z_if_eq (tgt := 2625) hC dL_law_2620 (by decide) (fun hc => ?_) (fun hc => ?_)
              · replace hV := hV.1 hc
                refine z_goto (tgt := 2679) hC dL_law_2625 (by decide) ?_
                obtain ⟨y425, e_y425⟩ : ∃ z : Int32, z = x4 + 6 := ⟨_, rfl⟩
                replace hV := hV _ e_y425
                refine z_iinc (v := y425) hC dL_law_2679 rfl (by rw [e_y425]; rfl) (Nat.le_of_ble_eq_true rfl) rfl rfl ?_
                refine z_goto (tgt := 23) hC dL_law_2682 (by decide) ?_
                refine zz_sub (L' := [some (.ref v0), some (.ref (E.1.heap.size + 0)), some (.ref (E.1.heap.size + 44)), some (.ref (E.1.heap.size + 1238)), some (.int y425), none, none, none]) ⟨rfl, rfl, rfl, rfl, rfl, trivial⟩ ?_
                exact j_23 σ423 y425 hV
              · replace hV := hV.2 hc
                refine z_iconst (v := 0) hC dL_law_2623 rfl ?_
                exact z_iret hC dL_law_2624 rfl (by rw [hQo]; exact ⟨_, rfl, hV⟩)
          · replace hV := hV.2 hc
            refine z_iconst (v := 0) hC dL_law_2606 rfl ?_
            exact z_iret hC dL_law_2607 rfl (by rw [hQo]; exact ⟨_, rfl, hV⟩)
        replace hV := hV.2 hc35
        by_cases hc36 : ((w0.getD (ix x4) 0) &&& 63) = 36
        · replace hV := hV.1 hc36
          refine z_tableIn (tgt := 2628) (off := 2588) hC dL_law_40 (by rw [hc36]; decide) (by rw [hc36]; decide) (by rw [hc36]; rfl) (by decide) ?_
          refine z_aload_n hC dL_law_2628 rfl rfl ?_
          refine c_X0_249 hC (by decide) dL_law_2629 (Nat.le_of_ble_eq_true rfl) hV (fun r426 σ427 hV => ?_)
          refine z_aload_n hC dL_law_2632 rfl rfl ?_
          refine c_X0_252 hC (by decide) dL_law_2633 (Nat.le_of_ble_eq_true rfl) hV (fun r428 σ429 hV => ?_)
          refine z_icmp_eq (tgt := 2679) hC dL_law_2636 (by decide) (fun hc => ?_) (fun hc => ?_)
          · replace hV := hV.1 hc
            obtain ⟨y430, e_y430⟩ : ∃ z : Int32, z = x4 + 6 := ⟨_, rfl⟩
            replace hV := hV _ e_y430
            refine z_iinc (v := y430) hC dL_law_2679 rfl (by rw [e_y430]; rfl) (Nat.le_of_ble_eq_true rfl) rfl rfl ?_
            refine z_goto (tgt := 23) hC dL_law_2682 (by decide) ?_
            refine zz_sub (L' := [some (.ref v0), some (.ref (E.1.heap.size + 0)), some (.ref (E.1.heap.size + 44)), some (.ref (E.1.heap.size + 1238)), some (.int y430), none, none, none]) ⟨rfl, rfl, rfl, rfl, rfl, trivial⟩ ?_
            exact j_23 σ429 y430 hV
          · replace hV := hV.2 hc
            refine z_iconst (v := 0) hC dL_law_2639 rfl ?_
            exact z_iret hC dL_law_2640 rfl (by rw [hQo]; exact ⟨_, rfl, hV⟩)
        replace hV := hV.2 hc36
        by_cases hc37 : ((w0.getD (ix x4) 0) &&& 63) = 37
        · replace hV := hV.1 hc37
          refine z_tableIn (tgt := 2641) (off := 2601) hC dL_law_40 (by rw [hc37]; decide) (by rw [hc37]; decide) (by rw [hc37]; rfl) (by decide) ?_
          refine z_aload_n hC dL_law_2641 rfl rfl ?_
          refine c_X0_253 hC (by decide) dL_law_2642 (Nat.le_of_ble_eq_true rfl) hV (fun r431 σ432 hV => ?_)
          refine z_aload_n hC dL_law_2645 rfl rfl ?_
          refine c_X0_256 hC (by decide) dL_law_2646 (Nat.le_of_ble_eq_true rfl) hV (fun r433 σ434 hV => ?_)
          refine z_icmp_eq (tgt := 2679) hC dL_law_2649 (by decide) (fun hc => ?_) (fun hc => ?_)
          · replace hV := hV.1 hc
            obtain ⟨y435, e_y435⟩ : ∃ z : Int32, z = x4 + 6 := ⟨_, rfl⟩
            replace hV := hV _ e_y435
            refine z_iinc (v := y435) hC dL_law_2679 rfl (by rw [e_y435]; rfl) (Nat.le_of_ble_eq_true rfl) rfl rfl ?_
            refine z_goto (tgt := 23) hC dL_law_2682 (by decide) ?_
            refine zz_sub (L' := [some (.ref v0), some (.ref (E.1.heap.size + 0)), some (.ref (E.1.heap.size + 44)), some (.ref (E.1.heap.size + 1238)), some (.int y435), none, none, none]) ⟨rfl, rfl, rfl, rfl, rfl, trivial⟩ ?_
            exact j_23 σ434 y435 hV
          · replace hV := hV.2 hc
            refine z_iconst (v := 0) hC dL_law_2652 rfl ?_
            exact z_iret hC dL_law_2653 rfl (by rw [hQo]; exact ⟨_, rfl, hV⟩)
        replace hV := hV.2 hc37
        by_cases hc38 : ((w0.getD (ix x4) 0) &&& 63) = 38
        · replace hV := hV.1 hc38
          refine z_tableIn (tgt := 2654) (off := 2614) hC dL_law_40 (by rw [hc38]; decide) (by rw [hc38]; decide) (by rw [hc38]; rfl) (by decide) ?_
          refine z_aload_n hC dL_law_2654 rfl rfl ?_
          refine z_aload_n hC dL_law_2655 rfl rfl ?_
          refine z_iload hC dL_law_2656 rfl ?_
          refine z_iconst (v := 1) hC dL_law_2658 rfl ?_
          refine z_iadd hC dL_law_2659 ?_
          obtain ⟨h436, hV⟩ := hV
          refine z_ialdI hC hFI dL_law_2660 (h436) ?_
          refine c_X0_257 hC (by decide) dL_law_2661 (Nat.le_of_ble_eq_true rfl) hV (fun r437 σ438 hV => ?_)
          refine z_aload_n hC dL_law_2664 rfl rfl ?_
          refine z_aload_n hC dL_law_2665 rfl rfl ?_
          refine z_iload hC dL_law_2666 rfl ?_
          refine z_iconst (v := 1) hC dL_law_2668 rfl ?_
          refine z_iadd hC dL_law_2669 ?_
          obtain ⟨h439, hV⟩ := hV
          refine z_ialdI hC hFI dL_law_2670 (h439) ?_
          refine c_X0_260 hC (by decide) dL_law_2671 (Nat.le_of_ble_eq_true rfl) hV (fun r440 σ441 hV => ?_)
          refine z_icmp_eq (tgt := 2679) hC dL_law_2674 (by decide) (fun hc => ?_) (fun hc => ?_)
          · replace hV := hV.1 hc
            obtain ⟨y442, e_y442⟩ : ∃ z : Int32, z = x4 + 6 := ⟨_, rfl⟩
            replace hV := hV _ e_y442
            refine z_iinc (v := y442) hC dL_law_2679 rfl (by rw [e_y442]; rfl) (Nat.le_of_ble_eq_true rfl) rfl rfl ?_
            refine z_goto (tgt := 23) hC dL_law_2682 (by decide) ?_
            refine zz_sub (L' := [some (.ref v0), some (.ref (E.1.heap.size + 0)), some (.ref (E.1.heap.size + 44)), some (.ref (E.1.heap.size + 1238)), some (.int y442), none, none, none]) ⟨rfl, rfl, rfl, rfl, rfl, trivial⟩ ?_
            exact j_23 σ441 y442 hV
          · replace hV := hV.2 hc
            refine z_iconst (v := 0) hC dL_law_2677 rfl ?_
            exact z_iret hC dL_law_2678 rfl (by rw [hQo]; exact ⟨_, rfl, hV⟩)
        replace hV := hV.2 hc38
        refine z_tableOut (tgt := 2679) hC dL_law_40 (tb_out (lo := 0) (hi := 38) (x := ((w0.getD (ix x4) 0) &&& 63)) (fun i h1 h2 => ?_)) (by decide) ?_
        · rcases (show i = 0 ∨ i = 1 ∨ i = 2 ∨ i = 3 ∨ i = 4 ∨ i = 5 ∨ i = 6 ∨ i = 7 ∨ i = 8 ∨ i = 9 ∨ i = 10 ∨ i = 11 ∨ i = 12 ∨ i = 13 ∨ i = 14 ∨ i = 15 ∨ i = 16 ∨ i = 17 ∨ i = 18 ∨ i = 19 ∨ i = 20 ∨ i = 21 ∨ i = 22 ∨ i = 23 ∨ i = 24 ∨ i = 25 ∨ i = 26 ∨ i = 27 ∨ i = 28 ∨ i = 29 ∨ i = 30 ∨ i = 31 ∨ i = 32 ∨ i = 33 ∨ i = 34 ∨ i = 35 ∨ i = 36 ∨ i = 37 ∨ i = 38 by omega) with rfl | rfl | rfl | rfl | rfl | rfl | rfl | rfl | rfl | rfl | rfl | rfl | rfl | rfl | rfl | rfl | rfl | rfl | rfl | rfl | rfl | rfl | rfl | rfl | rfl | rfl | rfl | rfl | rfl | rfl | rfl | rfl | rfl | rfl | rfl | rfl | rfl | rfl | rfl
          · exact fun q => hc0 (Int32.toInt_inj.mp (q.trans (by decide)))
          · exact fun q => hc1 (Int32.toInt_inj.mp (q.trans (by decide)))
          · exact fun q => hc2 (Int32.toInt_inj.mp (q.trans (by decide)))
          · exact fun q => hc3 (Int32.toInt_inj.mp (q.trans (by decide)))
          · exact fun q => hc4 (Int32.toInt_inj.mp (q.trans (by decide)))
          · exact fun q => hc5 (Int32.toInt_inj.mp (q.trans (by decide)))
          · exact fun q => hc6 (Int32.toInt_inj.mp (q.trans (by decide)))
          · exact fun q => hc7 (Int32.toInt_inj.mp (q.trans (by decide)))
          · exact fun q => hc8 (Int32.toInt_inj.mp (q.trans (by decide)))
          · exact fun q => hc9 (Int32.toInt_inj.mp (q.trans (by decide)))
          · exact fun q => hc10 (Int32.toInt_inj.mp (q.trans (by decide)))
          · exact fun q => hc11 (Int32.toInt_inj.mp (q.trans (by decide)))
          · exact fun q => hc12 (Int32.toInt_inj.mp (q.trans (by decide)))
          · exact fun q => hc13 (Int32.toInt_inj.mp (q.trans (by decide)))
          · exact fun q => hc14 (Int32.toInt_inj.mp (q.trans (by decide)))
          · exact fun q => hc15 (Int32.toInt_inj.mp (q.trans (by decide)))
          · exact fun q => hc16 (Int32.toInt_inj.mp (q.trans (by decide)))
          · exact fun q => hc17 (Int32.toInt_inj.mp (q.trans (by decide)))
          · exact fun q => hc18 (Int32.toInt_inj.mp (q.trans (by decide)))
          · exact fun q => hc19 (Int32.toInt_inj.mp (q.trans (by decide)))
          · exact fun q => hc20 (Int32.toInt_inj.mp (q.trans (by decide)))
          · exact fun q => hc21 (Int32.toInt_inj.mp (q.trans (by decide)))
          · exact fun q => hc22 (Int32.toInt_inj.mp (q.trans (by decide)))
          · exact fun q => hc23 (Int32.toInt_inj.mp (q.trans (by decide)))
          · exact fun q => hc24 (Int32.toInt_inj.mp (q.trans (by decide)))
          · exact fun q => hc25 (Int32.toInt_inj.mp (q.trans (by decide)))
          · exact fun q => hc26 (Int32.toInt_inj.mp (q.trans (by decide)))
          · exact fun q => hc27 (Int32.toInt_inj.mp (q.trans (by decide)))
          · exact fun q => hc28 (Int32.toInt_inj.mp (q.trans (by decide)))
          · exact fun q => hc29 (Int32.toInt_inj.mp (q.trans (by decide)))
          · exact fun q => hc30 (Int32.toInt_inj.mp (q.trans (by decide)))
          · exact fun q => hc31 (Int32.toInt_inj.mp (q.trans (by decide)))
          · exact fun q => hc32 (Int32.toInt_inj.mp (q.trans (by decide)))
          · exact fun q => hc33 (Int32.toInt_inj.mp (q.trans (by decide)))
          · exact fun q => hc34 (Int32.toInt_inj.mp (q.trans (by decide)))
          · exact fun q => hc35 (Int32.toInt_inj.mp (q.trans (by decide)))
          · exact fun q => hc36 (Int32.toInt_inj.mp (q.trans (by decide)))
          · exact fun q => hc37 (Int32.toInt_inj.mp (q.trans (by decide)))
          · exact fun q => hc38 (Int32.toInt_inj.mp (q.trans (by decide)))
        · obtain ⟨y443, e_y443⟩ : ∃ z : Int32, z = x4 + 6 := ⟨_, rfl⟩
          replace hV := hV _ e_y443
          refine z_iinc (v := y443) hC dL_law_2679 rfl (by rw [e_y443]; rfl) (Nat.le_of_ble_eq_true rfl) rfl rfl ?_
          refine z_goto (tgt := 23) hC dL_law_2682 (by decide) ?_
          refine zz_sub (L' := [some (.ref v0), some (.ref (E.1.heap.size + 0)), some (.ref (E.1.heap.size + 44)), some (.ref (E.1.heap.size + 1238)), some (.int y443), none, none, none]) ⟨rfl, rfl, rfl, rfl, rfl, trivial⟩ ?_
          exact j_23 σ y443 hV
  refine zz_sub (L' := [some (.ref v0), some (.ref (E.1.heap.size + 0)), some (.ref (E.1.heap.size + 44)), some (.ref (E.1.heap.size + 1238)), some (.int a4), none, none, none]) ⟨rfl, rfl, rfl, rfl, rfl, trivial⟩ ?_
  exact j_23 σ a4 hV
