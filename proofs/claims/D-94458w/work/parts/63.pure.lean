/-! PURE HALF: how many bits, II. -/
set_option maxRecDepth 100000
theorem bcN_eq {n : Nat} (h : n < 65536) : bcN n = pc16 n := by
  have h1 := ckN_is (ckN_is bc_ck (show n / 256 < 256 by omega)) (show n % 256 < 256 by omega)
  have e : 256 * (n / 256) + n % 256 = n := by omega
  rw [e] at h1
  exact Nat.eq_of_beq_eq_true h1
theorem bt_nI (n k : Nat) (hk : k < 32) : btI (nI n) k = n.testBit k := by
  unfold btI
  show (BitVec.ofNat 32 n).getLsbD k = _
  rw [BitVec.getLsbD_ofNat]; simp [hk]
theorem nI_of_bt (x : Int32) : x = nI x.toBitVec.toNat := by
  apply Int32.toBitVec_inj.1
  show x.toBitVec = BitVec.ofNat 32 x.toBitVec.toNat
  simp
theorem bt_small {x : Int32} {m : Nat} (h : ∀ k, m ≤ k → btI x k = false) : x.toBitVec.toNat < 2 ^ m := by
  apply Nat.lt_pow_two_of_testBit
  intro i hi
  have := h i hi
  unfold btI at this
  exact this
theorem cnt_pc {n : Nat} (h : n < 65536) : cnt (btI (nI n)) 24 = pc16 n := by
  have t : ∀ k, k < 24 → (if btI (nI n) k = true then 1 else 0) = n / 2 ^ k % 2 := by
    intro k hk
    rw [bt_nI n k (by omega), Nat.testBit_eq_decide_div_mod_eq]
    have := Nat.mod_two_eq_zero_or_one (n / 2 ^ k)
    rcases this with e | e <;> rw [e] <;> simp
  simp only [cnt, t 0 (by decide), t 1 (by decide), t 2 (by decide), t 3 (by decide), t 4 (by decide), t 5 (by decide), t 6 (by decide), t 7 (by decide), t 8 (by decide), t 9 (by decide), t 10 (by decide), t 11 (by decide), t 12 (by decide), t 13 (by decide), t 14 (by decide), t 15 (by decide), t 16 (by decide), t 17 (by decide), t 18 (by decide), t 19 (by decide), t 20 (by decide), t 21 (by decide), t 22 (by decide), t 23 (by decide)]
  have z : ∀ k, 16 ≤ k → n / 2 ^ k % 2 = 0 := by
    intro k hk
    have : n < 2 ^ k := Nat.lt_of_lt_of_le h (Nat.pow_le_pow_right (show 0 < 2 by decide) hk)
    rw [Nat.div_eq_of_lt this]
  rw [z 16 (by decide), z 17 (by decide), z 18 (by decide), z 19 (by decide), z 20 (by decide), z 21 (by decide), z 22 (by decide), z 23 (by decide)]
  unfold pc16
  simp
theorem nI_and (a b : Nat) : nI a &&& nI b = nI (a &&& b) := by
  apply Int32.toBitVec_inj.1
  show BitVec.ofNat 32 a &&& BitVec.ofNat 32 b = BitVec.ofNat 32 (a &&& b)
  apply BitVec.eq_of_getLsbD_eq
  intro i hi
  simp [hi]
theorem ushr_1 {n : Nat} (hn : n < 2 ^ 32) : ((nI n).toUInt32 >>> ((1 : Int32).toUInt32 &&& Int32.toUInt32 31)).toInt32 = nI (n / 2) := pk_ushrN hn 1 1 (by decide)
theorem ushr_2 {n : Nat} (hn : n < 2 ^ 32) : ((nI n).toUInt32 >>> ((2 : Int32).toUInt32 &&& Int32.toUInt32 31)).toInt32 = nI (n / 4) := pk_ushrN hn 2 2 (by decide)
theorem ushr_4 {n : Nat} (hn : n < 2 ^ 32) : ((nI n).toUInt32 >>> ((4 : Int32).toUInt32 &&& Int32.toUInt32 31)).toInt32 = nI (n / 16) := pk_ushrN hn 4 4 (by decide)
theorem ushr_8 {n : Nat} (hn : n < 2 ^ 32) : ((nI n).toUInt32 >>> ((8 : Int32).toUInt32 &&& Int32.toUInt32 31)).toInt32 = nI (n / 256) := pk_ushrN hn 8 8 (by decide)
theorem ushr_16 {n : Nat} (hn : n < 2 ^ 32) : ((nI n).toUInt32 >>> ((16 : Int32).toUInt32 &&& Int32.toUInt32 31)).toInt32 = nI (n / 65536) := pk_ushrN hn 16 16 (by decide)
theorem c_bitCount {σ : ZS} {x : Int32} (hx : ∀ k, 16 ≤ k → btI x k = false) {Ret : Int32 → ZS → Prop} (hr : Ret (nI (cnt (btI x) 24)) σ) : wp_J16_bitCount σ x Ret := by
  have hn : x.toBitVec.toNat < 65536 := bt_small hx
  rw [nI_of_bt x] at hr ⊢
  generalize x.toBitVec.toNat = n at hn hr ⊢
  rw [cnt_pc hn, ← bcN_eq hn] at hr
  unfold wp_J16_bitCount
  unfold bcN at hr
  dsimp only at hr
  have l1 : n / 2 &&& 1431655765 ≤ n := Nat.le_trans Nat.and_le_left (by omega)
  refine nm_e ?_
  rw [ushr_1 (by omega), show (1431655765 : Int32) = nI 1431655765 from rfl, nI_and, pk_sub l1]
  have b1 : n - (n / 2 &&& 1431655765) < 65536 := by omega
  generalize n - (n / 2 &&& 1431655765) = y1 at b1 hr ⊢
  refine nm_e ?_
  rw [ushr_2 (by omega), show (858993459 : Int32) = nI 858993459 from rfl, nI_and, nI_and, nI_add]
  have b2 : (y1 &&& 858993459) + (y1 / 4 &&& 858993459) < 2 * 65536 := by
    have : y1 &&& 858993459 ≤ y1 := Nat.and_le_left
    have : y1 / 4 &&& 858993459 ≤ y1 / 4 := Nat.and_le_left
    omega
  generalize (y1 &&& 858993459) + (y1 / 4 &&& 858993459) = y2 at b2 hr ⊢
  refine nm_e ?_
  rw [ushr_4 (by omega), nI_add, show (252645135 : Int32) = nI 252645135 from rfl, nI_and]
  have b3 : (y2 + y2 / 16) &&& 252645135 < 2 * 2 * 65536 := by
    have : (y2 + y2 / 16) &&& 252645135 ≤ y2 + y2 / 16 := Nat.and_le_left
    omega
  generalize (y2 + y2 / 16) &&& 252645135 = y3 at b3 hr ⊢
  refine nm_e ?_
  rw [ushr_8 (by omega), nI_add]
  have b4 : y3 + y3 / 256 < 4 * 2 * 65536 := by omega
  generalize y3 + y3 / 256 = y4 at b4 hr ⊢
  refine nm_e ?_
  rw [ushr_16 (by omega), nI_add, show (63 : Int32) = nI 63 from rfl, nI_and]
  exact hr
