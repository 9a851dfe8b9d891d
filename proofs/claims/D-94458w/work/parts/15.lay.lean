/-! lemmas of the layout for the walks (by program) -/
set_option maxRecDepth 100000
abbrev isB (x : Int32) : Prop := narrow .boolean (.int x) = .int x
theorem isB_fits {x : Int32} (h : isB x) : fits .boolean (.int x) = true := by
  have h2 : (Value.int (x &&& 1)) = .int x := h
  have h3 : x &&& 1 = x := by injection h2
  obtain ⟨j, hj, e⟩ := pk_andE x (m := 1) 1 (by decide)
  rw [← h3, e]
  rcases (show j = 0 ∨ j = 1 by omega) with rfl | rfl <;> decide
theorem in_dec {j : Int32} {n : Nat} (h : (decide (0 ≤ j.toInt) && decide (j.toInt < n)) = true) : vp_in j n := by
  rw [Bool.and_eq_true] at h
  exact vp_in_iff.mpr ⟨of_decide_eq_true h.1, of_decide_eq_true h.2⟩
theorem cxE {C : ZC} {E : ZE} {cc : ByteArray} {nL d : Nat} {own nm : String} {ret : Option FieldType} {hh : List (Nat × Nat × Nat × Nat)} (h : Cx C E cc nL own nm ret hh d) : EOK E := by
  obtain ⟨p, l, e, R, s, m, args, below, meth, c, Qo⟩ := C
  exact h.2.2.2.2.2.2.2.2.2.2.1
theorem tb_out {x : Int32} {lo hi : Int} (h : ∀ i : Int, lo ≤ i → i ≤ hi → ¬ x.toInt = i) : x.toInt < lo ∨ hi < x.toInt := by
  by_cases a : x.toInt < lo
  · exact Or.inl a
  · by_cases b : hi < x.toInt
    · exact Or.inr b
    · exact absurd rfl (h x.toInt (by omega) (by omega))
theorem pvo {B : Nat} {r : ZR} (h : r = some (.inl (zo r))) {st : List Value} : pv B r :: st = Value.ref (B + zo r) :: st := by rw [h]; rfl
theorem pv_cat (B : Nat) (r : ZR) : (pv B r).category = 1 := by rcases r with _ | a | q <;> rfl

theorem k_0 (σ : ZS) : kK NS σ 0 = (7, 0) := rfl
theorem k_1 (σ : ZS) : kK NS σ 1 = (8, 0) := rfl
theorem k_2 (σ : ZS) : kK NS σ 2 = (16, 0) := rfl
theorem k_3 (σ : ZS) : kK NS σ 3 = (6, 2) := rfl
theorem k_4 (σ : ZS) : kK NS σ 4 = (16, 0) := rfl
theorem k_5 (σ : ZS) : kK NS σ 5 = (6, 2) := rfl
theorem k_6 (σ : ZS) : kK NS σ 6 = (16, 0) := rfl
theorem k_7 (σ : ZS) : kK NS σ 7 = (6, 1) := rfl
theorem k_8 (σ : ZS) : kK NS σ 8 = (0, 24) := rfl
theorem k_9 (σ : ZS) : kK NS σ 9 = (0, 24) := rfl
theorem k_10 (σ : ZS) : kK NS σ 10 = (0, 576) := rfl
theorem k_11 (σ : ZS) : kK NS σ 11 = (0, 576) := rfl
theorem k_12 (σ : ZS) : kK NS σ 12 = (9, 0) := rfl
theorem k_13 (σ : ZS) : kK NS σ 13 = (0, 4824) := rfl
theorem k_14 (σ : ZS) : kK NS σ 14 = (0, 4824) := rfl
theorem k_15 (σ : ZS) : kK NS σ 15 = (0, 12) := rfl
theorem k_16 (σ : ZS) : kK NS σ 16 = (2, 500) := rfl
theorem k_17 (σ : ZS) : kK NS σ 17 = (5, 3) := rfl
theorem k_18 (σ : ZS) : kK NS σ 18 = (0, 24) := rfl
theorem k_19 (σ : ZS) : kK NS σ 19 = (0, 24) := rfl
theorem k_20 (σ : ZS) : kK NS σ 20 = (0, 48) := rfl
theorem k_21 (σ : ZS) : kK NS σ 21 = (0, 48) := rfl
theorem k_22 (σ : ZS) : kK NS σ 22 = (3, 48) := rfl
theorem k_23 (σ : ZS) : kK NS σ 23 = (0, 48) := rfl
theorem k_24 (σ : ZS) : kK NS σ 24 = (0, 48) := rfl
theorem k_25 (σ : ZS) : kK NS σ 25 = (1, 48) := rfl
theorem k_26 (σ : ZS) : kK NS σ 26 = (0, 14) := rfl
theorem k_27 (σ : ZS) : kK NS σ 27 = (0, 49152) := rfl
theorem k_28 (σ : ZS) : kK NS σ 28 = (0, 16) := rfl
theorem k_29 (σ : ZS) : kK NS σ 29 = (0, 11) := rfl
theorem k_30 (σ : ZS) : kK NS σ 30 = (0, 121) := rfl
theorem k_31 (σ : ZS) : kK NS σ 31 = (0, 2048) := rfl
theorem k_32 (σ : ZS) : kK NS σ 32 = (0, 576) := rfl
theorem k_33 (σ : ZS) : kK NS σ 33 = (0, 12) := rfl
theorem k_34 (σ : ZS) : kK NS σ 34 = (0, 12) := rfl
theorem k_35 (σ : ZS) : kK NS σ 35 = (0, 12) := rfl
theorem k_36 (σ : ZS) : kK NS σ 36 = (0, 12) := rfl
theorem k_37 (σ : ZS) : kK NS σ 37 = (0, 12) := rfl
theorem k_38 (σ : ZS) : kK NS σ 38 = (0, 12) := rfl
theorem k_39 (σ : ZS) : kK NS σ 39 = (0, 48) := rfl
theorem k_40 (σ : ZS) : kK NS σ 40 = (0, 48) := rfl
theorem k_41 (σ : ZS) : kK NS σ 41 = (1, 48) := rfl
theorem k_42 (σ : ZS) : kK NS σ 42 = (1, 48) := rfl
theorem k_43 (σ : ZS) : kK NS σ 43 = (0, 24) := rfl
theorem k_44 (σ : ZS) : kK NS σ 44 = (10, 0) := rfl
theorem k_45 (σ : ZS) : kK NS σ 45 = (0, 500) := rfl
theorem k_46 (σ : ZS) : kK NS σ 46 = (0, 4) := rfl
theorem k_47 (σ : ZS) : kK NS σ 47 = (0, 4) := rfl
theorem k_48 (σ : ZS) : kK NS σ 48 = (4, 16) := rfl
theorem ps_48 : ∀ i, i < 16 → Pst 48 i = some (48 + 1 + i) := fun i h => by
  show (if i < 16 then some (49 + i) else none) = _
  rw [if_pos h]
theorem kr_48 (σ : ZS) {i : Nat} (h : i < 16) : kK NS σ (48 + 1 + i) = (0, 2) := by
  have e : ∀ i, i < 16 → Kst (48 + 1 + i) = (0, 2) := by decide +kernel
  unfold kK
  rw [if_pos (by unfold NS; omega), e i h]
theorem k_65 (σ : ZS) : kK NS σ 65 = (4, 16) := rfl
theorem ps_65 : ∀ i, i < 16 → Pst 65 i = some (65 + 1 + i) := fun i h => by
  show (if i < 16 then some (66 + i) else none) = _
  rw [if_pos h]
theorem kr_65 (σ : ZS) {i : Nat} (h : i < 16) : kK NS σ (65 + 1 + i) = (0, 2) := by
  have e : ∀ i, i < 16 → Kst (65 + 1 + i) = (0, 2) := by decide +kernel
  unfold kK
  rw [if_pos (by unfold NS; omega), e i h]
theorem k_82 (σ : ZS) : kK NS σ 82 = (4, 24) := rfl
theorem ps_82 : ∀ i, i < 24 → Pst 82 i = some (82 + 1 + i) := fun i h => by
  show (if i < 24 then some (83 + i) else none) = _
  rw [if_pos h]
theorem kr_82 (σ : ZS) {i : Nat} (h : i < 24) : kK NS σ (82 + 1 + i) = (0, 4) := by
  have e : ∀ i, i < 24 → Kst (82 + 1 + i) = (0, 4) := by decide +kernel
  unfold kK
  rw [if_pos (by unfold NS; omega), e i h]
theorem k_107 (σ : ZS) : kK NS σ 107 = (4, 24) := rfl
theorem ps_107 : ∀ i, i < 24 → Pst 107 i = some (107 + 1 + i) := fun i h => by
  show (if i < 24 then some (108 + i) else none) = _
  rw [if_pos h]
theorem kr_107 (σ : ZS) {i : Nat} (h : i < 24) : kK NS σ (107 + 1 + i) = (0, 4) := by
  have e : ∀ i, i < 24 → Kst (107 + 1 + i) = (0, 4) := by decide +kernel
  unfold kK
  rw [if_pos (by unfold NS; omega), e i h]
theorem k_132 (σ : ZS) : kK NS σ 132 = (4, 12) := rfl
theorem ps_132 : ∀ i, i < 12 → Pst 132 i = some (132 + 1 + i) := fun i h => by
  show (if i < 12 then some (133 + i) else none) = _
  rw [if_pos h]
theorem kr_132 (σ : ZS) {i : Nat} (h : i < 12) : kK NS σ (132 + 1 + i) = (0, 3) := by
  have e : ∀ i, i < 12 → Kst (132 + 1 + i) = (0, 3) := by decide +kernel
  unfold kK
  rw [if_pos (by unfold NS; omega), e i h]
theorem k_145 (σ : ZS) : kK NS σ 145 = (4, 12) := rfl
theorem ps_145 : ∀ i, i < 12 → Pst 145 i = some (145 + 1 + i) := fun i h => by
  show (if i < 12 then some (146 + i) else none) = _
  rw [if_pos h]
theorem kr_145 (σ : ZS) {i : Nat} (h : i < 12) : kK NS σ (145 + 1 + i) = (0, 3) := by
  have e : ∀ i, i < 12 → Kst (145 + 1 + i) = (0, 3) := by decide +kernel
  unfold kK
  rw [if_pos (by unfold NS; omega), e i h]
theorem k_158 (σ : ZS) : kK NS σ 158 = (0, 24) := rfl
theorem k_159 (σ : ZS) : kK NS σ 159 = (0, 24) := rfl
theorem k_160 (σ : ZS) : kK NS σ 160 = (4, 201) := rfl
theorem ps_160 : ∀ i, i < 201 → Pst 160 i = some (160 + 1 + i) := fun i h => by
  show (if i < 201 then some (161 + i) else none) = _
  rw [if_pos h]
theorem kr_160 (σ : ZS) {i : Nat} (h : i < 201) : kK NS σ (160 + 1 + i) = (0, 24) := by
  have e : ∀ i, i < 201 → Kst (160 + 1 + i) = (0, 24) := by decide +kernel
  unfold kK
  rw [if_pos (by unfold NS; omega), e i h]
theorem k_362 (σ : ZS) : kK NS σ 362 = (4, 201) := rfl
theorem ps_362 : ∀ i, i < 201 → Pst 362 i = some (362 + 1 + i) := fun i h => by
  show (if i < 201 then some (363 + i) else none) = _
  rw [if_pos h]
theorem kr_362 (σ : ZS) {i : Nat} (h : i < 201) : kK NS σ (362 + 1 + i) = (0, 24) := by
  have e : ∀ i, i < 201 → Kst (362 + 1 + i) = (0, 24) := by decide +kernel
  unfold kK
  rw [if_pos (by unfold NS; omega), e i h]
theorem k_564 (σ : ZS) : kK NS σ 564 = (0, 24) := rfl
theorem k_565 (σ : ZS) : kK NS σ 565 = (0, 24) := rfl
theorem k_566 (σ : ZS) : kK NS σ 566 = (1, 48) := rfl
theorem k_567 (σ : ZS) : kK NS σ 567 = (1, 48) := rfl
theorem k_568 (σ : ZS) : kK NS σ 568 = (0, 48) := rfl
theorem k_569 (σ : ZS) : kK NS σ 569 = (4, 576) := rfl
theorem ps_569 : ∀ i, i < 576 → Pst 569 i = some (569 + 1 + i) := fun i h => by
  show (if i < 576 then some (570 + i) else none) = _
  rw [if_pos h]
theorem kr_569 (σ : ZS) {i : Nat} (h : i < 576) : kK NS σ (569 + 1 + i) = (0, 2) := by
  have e : ∀ i, i < 576 → Kst (569 + 1 + i) = (0, 2) := by decide +kernel
  unfold kK
  rw [if_pos (by unfold NS; omega), e i h]
theorem k_1146 (σ : ZS) : kK NS σ 1146 = (0, 12) := rfl
theorem k_1147 (σ : ZS) : kK NS σ 1147 = (0, 14) := rfl
theorem k_1148 (σ : ZS) : kK NS σ 1148 = (4, 12) := rfl
theorem ps_1148 : ∀ i, i < 12 → Pst 1148 i = some (1148 + 1 + i) := fun i h => by
  show (if i < 12 then some (1149 + i) else none) = _
  rw [if_pos h]
theorem kr_1148 (σ : ZS) {i : Nat} (h : i < 12) : kK NS σ (1148 + 1 + i) = (0, 48) := by
  have e : ∀ i, i < 12 → Kst (1148 + 1 + i) = (0, 48) := by decide +kernel
  unfold kK
  rw [if_pos (by unfold NS; omega), e i h]
theorem k_1161 (σ : ZS) : kK NS σ 1161 = (0, 12) := rfl
theorem k_1162 (σ : ZS) : kK NS σ 1162 = (0, 12) := rfl
theorem k_1163 (σ : ZS) : kK NS σ 1163 = (0, 12) := rfl
theorem k_1164 (σ : ZS) : kK NS σ 1164 = (0, 12) := rfl
theorem k_1165 (σ : ZS) : kK NS σ 1165 = (0, 12) := rfl
theorem k_1166 (σ : ZS) : kK NS σ 1166 = (0, 12) := rfl
theorem k_1167 (σ : ZS) : kK NS σ 1167 = (4, 3) := rfl
theorem ps_1167 : ∀ i, i < 3 → Pst 1167 i = some (1167 + 1 + i) := fun i h => by
  show (if i < 3 then some (1168 + i) else none) = _
  rw [if_pos h]
theorem kr_1167 (σ : ZS) {i : Nat} (h : i < 3) : kK NS σ (1167 + 1 + i) = (0, 10000) := by
  have e : ∀ i, i < 3 → Kst (1167 + 1 + i) = (0, 10000) := by decide +kernel
  unfold kK
  rw [if_pos (by unfold NS; omega), e i h]
theorem k_1171 (σ : ZS) : kK NS σ 1171 = (4, 48) := rfl
theorem ps_1171 : ∀ i, i < 48 → Pst 1171 i = some (1171 + 1 + i) := fun i h => by
  show (if i < 48 then some (1172 + i) else none) = _
  rw [if_pos h]
theorem kr_1171 (σ : ZS) {i : Nat} (h : i < 48) : kK NS σ (1171 + 1 + i) = (0, 1024) := by
  have e : ∀ i, i < 48 → Kst (1171 + 1 + i) = (0, 1024) := by decide +kernel
  unfold kK
  rw [if_pos (by unfold NS; omega), e i h]
theorem k_1220 (σ : ZS) : kK NS σ 1220 = (0, 11) := rfl
theorem k_1221 (σ : ZS) : kK NS σ 1221 = (4, 11) := rfl
theorem ps_1221 : ∀ i, i < 11 → Pst 1221 i = some (1221 + 1 + i) := fun i h => by
  show (if i < 11 then some (1222 + i) else none) = _
  rw [if_pos h]
theorem kr_1221 (σ : ZS) {i : Nat} (h : i < 11) : kK NS σ (1221 + 1 + i) = (0, 11) := by
  have e : ∀ i, i < 11 → Kst (1221 + 1 + i) = (0, 11) := by decide +kernel
  unfold kK
  rw [if_pos (by unfold NS; omega), e i h]
theorem k_1233 (σ : ZS) : kK NS σ 1233 = (0, 2048) := rfl
theorem k_1234 (σ : ZS) : kK NS σ 1234 = (0, 48) := rfl
theorem k_1235 (σ : ZS) : kK NS σ 1235 = (0, 48) := rfl
theorem k_1236 (σ : ZS) : kK NS σ 1236 = (1, 48) := rfl
theorem k_1237 (σ : ZS) : kK NS σ 1237 = (1, 48) := rfl
theorem k_1238 (σ : ZS) : kK NS σ 1238 = (1, 1) := rfl
