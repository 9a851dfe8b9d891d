/-! PURE HALF, base: reads behind writes, frames, numbers. -/
set_option maxRecDepth 100000
theorem qI_sI (σ : ZS) (a i : Nat) (v : Int32) (b j : Nat) : zI (sI σ a i v) b j = if b = a ∧ j = i then v else zI σ b j := rfl
theorem qJ_sI (σ : ZS) (a i : Nat) (v : Int32) (b j : Nat) : zJ (sI σ a i v) b j = zJ σ b j := rfl
theorem qI_sJ (σ : ZS) (a i : Nat) (v : Int64) (b j : Nat) : zI (sJ σ a i v) b j = zI σ b j := rfl
theorem qJ_sJ (σ : ZS) (a i : Nat) (v : Int64) (b j : Nat) : zJ (sJ σ a i v) b j = if b = a ∧ j = i then v else zJ σ b j := rfl
theorem zI_self (σ : ZS) (a i : Nat) (v : Int32) : zI (sI σ a i v) a i = v := by rw [qI_sI, if_pos ⟨rfl, rfl⟩]
theorem zJ_self (σ : ZS) (a i : Nat) (v : Int64) : zJ (sJ σ a i v) a i = v := by rw [qJ_sJ, if_pos ⟨rfl, rfl⟩]
theorem zI_ne (σ : ZS) {a i : Nat} {v : Int32} {b j : Nat} (h : b ≠ a ∨ j ≠ i) : zI (sI σ a i v) b j = zI σ b j := by
  rw [qI_sI, if_neg]
  rintro ⟨h1, h2⟩
  rcases h with h | h
  · exact h h1
  · exact h h2
theorem zJ_ne (σ : ZS) {a i : Nat} {v : Int64} {b j : Nat} (h : b ≠ a ∨ j ≠ i) : zJ (sJ σ a i v) b j = zJ σ b j := by
  rw [qJ_sJ, if_neg]
  rintro ⟨h1, h2⟩
  rcases h with h | h
  · exact h h1
  · exact h h2
/-- a row of an array behind a store -/
theorem zI_row (σ : ZS) (a i : Nat) (v : Int32) (j : Nat) : zI (sI σ a i v) a j = if j = i then v else zI σ a j := by
  rw [qI_sI]; by_cases h : j = i <;> simp [h]
theorem zJ_row (σ : ZS) (a i : Nat) (v : Int64) (j : Nat) : zJ (sJ σ a i v) a j = if j = i then v else zJ σ a j := by
  rw [qJ_sJ]; by_cases h : j = i <;> simp [h]
/-- a place's code: an array's offset, or a field's of one of the two objects -/
def cd (a i : Nat) : Nat := if a = 44 then 1000000 + i else if a = 0 then 2000000 + i else a
/-- σ' is σ but in S -/
def Fr (S : Nat → Prop) (σ σ' : ZS) : Prop := (∀ a i, ¬ S (cd a i) → zI σ' a i = zI σ a i) ∧ (∀ a i, ¬ S (cd a i) → zJ σ' a i = zJ σ a i) ∧ σ'.2.2 = σ.2.2
theorem Fr.rfl {S : Nat → Prop} {σ : ZS} : Fr S σ σ := ⟨fun _ _ _ => Eq.refl _, fun _ _ _ => Eq.refl _, Eq.refl _⟩
theorem Fr.trans {S : Nat → Prop} {σ σ' σ'' : ZS} (h : Fr S σ σ') (h' : Fr S σ' σ'') : Fr S σ σ'' :=
  ⟨fun a i n => (h'.1 a i n).trans (h.1 a i n), fun a i n => (h'.2.1 a i n).trans (h.2.1 a i n), h'.2.2.trans h.2.2⟩
theorem Fr.mono {S S' : Nat → Prop} {σ σ' : ZS} (h : Fr S σ σ') (hs : ∀ c, S c → S' c) : Fr S' σ σ' :=
  ⟨fun a i n => h.1 a i fun k => n (hs _ k), fun a i n => h.2.1 a i fun k => n (hs _ k), h.2.2⟩
theorem Fr.sI {S : Nat → Prop} {σ σ' : ZS} (h : Fr S σ σ') (a i : Nat) (v : Int32) (hs : S (cd a i)) : Fr S σ (sI σ' a i v) := by
  refine ⟨fun b j n => ?_, fun b j n => h.2.1 b j n, h.2.2⟩
  rw [zI_ne, h.1 b j n]
  by_cases h1 : b = a
  · by_cases h2 : j = i
    · subst h1 h2; exact absurd hs n
    · exact .inr h2
  · exact .inl h1
theorem Fr.sJ {S : Nat → Prop} {σ σ' : ZS} (h : Fr S σ σ') (a i : Nat) (v : Int64) (hs : S (cd a i)) : Fr S σ (sJ σ' a i v) := by
  refine ⟨fun b j n => h.1 b j n, fun b j n => ?_, h.2.2⟩
  rw [zJ_ne, h.2.1 b j n]
  by_cases h1 : b = a
  · by_cases h2 : j = i
    · subst h1 h2; exact absurd hs n
    · exact .inr h2
  · exact .inl h1
theorem Fr.cI {S : Nat → Prop} {σ σ' : ZS} (h : Fr S σ σ') (b a sp dp n : Nat) (hs : ∀ i, S (cd a i)) : Fr S σ (cI σ' b a sp dp n) := by
  refine ⟨fun c j m => ?_, fun c j m => h.2.1 c j m, h.2.2⟩
  rw [← h.1 c j m]
  show (if c = a then _ else _) = _
  rw [if_neg (fun (e : c = a) => m (by rw [e]; exact hs j))]; rfl
theorem Fr.cJ {S : Nat → Prop} {σ σ' : ZS} (h : Fr S σ σ') (b a sp dp n : Nat) (hs : ∀ i, S (cd a i)) : Fr S σ (cJ σ' b a sp dp n) := by
  refine ⟨fun c j m => h.1 c j m, fun c j m => ?_, h.2.2⟩
  rw [← h.2.1 c j m]
  show (if c = a then _ else _) = _
  rw [if_neg (fun (e : c = a) => m (by rw [e]; exact hs j))]; rfl
theorem Fr.K {S : Nat → Prop} {σ σ' : ZS} (h : Fr S σ σ') (n a : Nat) : kK n σ' a = kK n σ a := by unfold kK zK; rw [h.2.2]
theorem Fr.P {S : Nat → Prop} {σ σ' : ZS} (h : Fr S σ σ') (n a i : Nat) : kP n σ' a i = kP n σ a i := by unfold kP zP; rw [h.2.2]
theorem Fr.ep {S : Nat → Prop} {σ σ' : ZS} (h : Fr S σ σ') (a i : Nat) : zP σ' a i = zP σ a i := by unfold zP; rw [h.2.2]
theorem Fr.et {S : Nat → Prop} {σ σ' : ZS} (h : Fr S σ σ') : zt σ' = zt σ := by unfold zt; rw [h.2.2]
theorem Fr.en {S : Nat → Prop} {σ σ' : ZS} (h : Fr S σ σ') : zn σ' = zn σ := by unfold zn; rw [h.2.2]
/-! numbers -/
theorem n0 : (0 : Int32) = nI 0 := rfl
theorem n1 : (1 : Int32) = nI 1 := rfl
theorem n2 : (2 : Int32) = nI 2 := rfl
theorem n3 : (3 : Int32) = nI 3 := rfl
theorem n4 : (4 : Int32) = nI 4 := rfl
theorem n24 : (24 : Int32) = nI 24 := rfl
theorem n48 : (48 : Int32) = nI 48 := rfl
theorem nI_m1 {a : Nat} (h : a < 2 ^ 31) : (nI a = -1) = False := by
  apply eq_false
  intro e
  have h1 := congrArg Int32.toInt e
  rw [nI_toInt h] at h1
  have h2 : (-1 : Int32).toInt = -1 := by decide
  omega
theorem nI_lt0 {a : Nat} (h : a < 2 ^ 31) : (nI a < 0) = False := eq_false (nI_pos h)
theorem nI_div2 {a : Nat} (h : a < 2 ^ 31) : nI a / 2 = nI (a / 2) := pk_div h (by decide) (by decide)
theorem nI_rem2 {a : Nat} (h : a < 2 ^ 31) : nI a - nI a / 2 * 2 = nI (a % 2) := pk_rem h (by decide) (by decide)
theorem nI_2mul (a : Nat) : 2 * nI a = nI (2 * a) := pk_mul 2 a
theorem nI_24mul (a : Nat) : 24 * nI a = nI (24 * a) := pk_mul 24 a
theorem nI_48mul (a : Nat) : 48 * nI a = nI (48 * a) := pk_mul 48 a
theorem nI_eq0 {a : Nat} (h : a < 2 ^ 31) : (nI a = 0) = (a = 0) := by rw [n0]; exact propext (nI_eq h (by decide))
theorem nI_eq1 {a : Nat} (h : a < 2 ^ 31) : (nI a = 1) = (a = 1) := by rw [n1]; exact propext (nI_eq h (by decide))
theorem ix_nI {a : Nat} (h : a < 2 ^ 31) : ix (nI a) = a := nI_clamp h
theorem ix0 : ix 0 = 0 := rfl
theorem ix1 : ix 1 = 1 := rfl
theorem ix2 : ix 2 = 2 := rfl
theorem ix3 : ix 3 = 3 := rfl
theorem zo_in (a : Nat) : zo (some (.inl a)) = a := rfl
/-- a bit of an int -/
def btI (x : Int32) (k : Nat) : Bool := x.toBitVec.getLsbD k
def btL (x : Int64) (k : Nat) : Bool := x.toBitVec.getLsbD k
def b2i (b : Bool) : Int32 := if b then 1 else 0
theorem b2i_t : b2i true = 1 := rfl
theorem b2i_f : b2i false = 0 := rfl
theorem b2i_0 (b : Bool) : (b2i b = 0) = (b = false) := by cases b <;> simp [b2i]
theorem b2i_1 (b : Bool) : (b2i b = 1) = (b = true) := by cases b <;> simp [b2i]
/-- a branch as a case of a Bool -/
theorem brB {c A B : Prop} {b : Bool} (hc : c = (b = true)) (h1 : b = true → A) (h2 : b = false → B) : (c → A) ∧ (¬ c → B) := by
  subst hc
  refine ⟨h1, fun h => h2 (by simpa using h)⟩
theorem br0 {A B : Prop} {b : Bool} (h1 : b = false → A) (h2 : b = true → B) : (b2i b = 0 → A) ∧ (¬ b2i b = 0 → B) := by
  rw [b2i_0]
  exact ⟨h1, fun h => h2 (by simpa using h)⟩
theorem shift31 {k : Nat} (hk : k < 32) : ((nI k &&& 31).toBitVec.smod 32).toNat = k := by
  have : ∀ j : Fin 32, ((nI j.val &&& 31).toBitVec.smod 32).toNat = j.val := by decide +kernel
  exact this ⟨k, hk⟩
theorem and1 (x : Int32) : x &&& 1 = b2i (btI x 0) := by
  apply Int32.toBitVec_inj.1
  apply BitVec.eq_of_getLsbD_eq
  intro i hi
  show (x.toBitVec &&& (1#32)).getLsbD i = _
  rw [BitVec.getLsbD_and]
  unfold btI b2i
  by_cases h0 : i = 0
  · subst h0
    cases h : x.toBitVec.getLsbD 0 <;> simp
  · have : (1#32).getLsbD i = false := by simp [BitVec.getLsbD_one, h0]
    rw [this, Bool.and_false]
    cases h : x.toBitVec.getLsbD 0
    · simp
    · show false = (1#32).getLsbD i; rw [this]

theorem bt_shr (x : Int32) {k : Nat} (hk : k < 32) : btI (x >>> (nI k &&& 31)) 0 = btI x k := by
  have h := shift31 hk
  unfold btI
  show (BitVec.sshiftRight' x.toBitVec ((nI k &&& 31).toBitVec.smod 32)).getLsbD 0 = _
  unfold BitVec.sshiftRight'
  rw [h, BitVec.getLsbD_sshiftRight]
  simp [hk]
/-- a bit is asked -/
theorem tst (x : Int32) {k : Nat} (hk : k < 32) : (x >>> (nI k &&& 31)) &&& 1 = b2i (btI x k) := by rw [and1, bt_shr x hk]
theorem bt_or (x y : Int32) (k : Nat) : btI (x ||| y) k = (btI x k || btI y k) := by
  show (x.toBitVec ||| y.toBitVec).getLsbD k = _; rw [BitVec.getLsbD_or]; rfl
theorem bt_and (x y : Int32) (k : Nat) : btI (x &&& y) k = (btI x k && btI y k) := by
  show (x.toBitVec &&& y.toBitVec).getLsbD k = _; rw [BitVec.getLsbD_and]; rfl
theorem bt_xor (x y : Int32) (k : Nat) : btI (x ^^^ y) k = (btI x k ^^ btI y k) := by
  show (x.toBitVec ^^^ y.toBitVec).getLsbD k = _; rw [BitVec.getLsbD_xor]; rfl
theorem bt_0 (k : Nat) : btI 0 k = false := by show (0#32).getLsbD k = _; simp
theorem bt_hi (x : Int32) {k : Nat} (h : 32 ≤ k) : btI x k = false := BitVec.getLsbD_of_ge _ _ h
theorem bt_one {k j : Nat} (hk : k < 32) (hj : j < 32) : btI ((1 : Int32) <<< (nI k &&& 31)) j = decide (j = k) := by
  have : ∀ a b : Fin 32, btI ((1 : Int32) <<< (nI a.val &&& 31)) b.val = decide (b.val = a.val) := by decide +kernel
  exact this ⟨k, hk⟩ ⟨j, hj⟩
theorem bt_ext {x y : Int32} (h : ∀ k, k < 32 → btI x k = btI y k) : x = y := by
  apply Int32.toBitVec_inj.1
  exact BitVec.eq_of_getLsbD_eq fun i hi => h i hi
/-! long bits -/
theorem shift63 {k : Nat} (hk : k < 64) : (((nI k).toInt64 &&& 63).toBitVec.smod 64).toNat = k := by
  have : ∀ j : Fin 64, (((nI j.val).toInt64 &&& 63).toBitVec.smod 64).toNat = j.val := by decide +kernel
  exact this ⟨k, hk⟩
theorem shift63u {k : Nat} (hk : k < 64) : (((nI k).toInt64.toUInt64 &&& Int64.toUInt64 63).toBitVec % 64).toNat = k := by
  have : ∀ j : Fin 64, (((nI j.val).toInt64.toUInt64 &&& Int64.toUInt64 63).toBitVec % 64).toNat = j.val := by decide +kernel
  exact this ⟨k, hk⟩
def b2j (b : Bool) : Int64 := if b then 1 else 0
theorem and1L (x : Int64) : x &&& 1 = b2j (btL x 0) := by
  apply Int64.toBitVec_inj.1
  apply BitVec.eq_of_getLsbD_eq
  intro i hi
  show (x.toBitVec &&& (1#64)).getLsbD i = _
  rw [BitVec.getLsbD_and]
  unfold btL b2j
  by_cases h0 : i = 0
  · subst h0
    cases h : x.toBitVec.getLsbD 0 <;> simp
  · have : (1#64).getLsbD i = false := by simp [BitVec.getLsbD_one, h0]
    rw [this, Bool.and_false]
    cases h : x.toBitVec.getLsbD 0
    · simp
    · show false = (1#64).getLsbD i; rw [this]
theorem tstL (x : Int64) {k : Nat} (hk : k < 64) : (x >>> ((nI k).toInt64 &&& 63)) &&& 1 = b2j (btL x k) := by
  have h := shift63 hk
  rw [and1L]
  unfold btL
  congr 1
  show (BitVec.sshiftRight' x.toBitVec (((nI k).toInt64 &&& 63).toBitVec.smod 64)).getLsbD 0 = _
  unfold BitVec.sshiftRight'
  rw [h, BitVec.getLsbD_sshiftRight]
  simp [hk]
theorem tstU (x : Int64) {k : Nat} (hk : k < 64) : (x.toUInt64 >>> ((nI k).toInt64.toUInt64 &&& Int64.toUInt64 63)).toInt64 &&& 1 = b2j (btL x k) := by
  have h := shift63u hk
  rw [and1L]
  unfold btL
  congr 1
  show (x.toBitVec >>> (((nI k).toInt64.toUInt64 &&& Int64.toUInt64 63).toBitVec % 64)).getLsbD 0 = _
  rw [BitVec.ushiftRight_eq', h, BitVec.getLsbD_ushiftRight]
  simp
theorem btL_or (x y : Int64) (k : Nat) : btL (x ||| y) k = (btL x k || btL y k) := by
  show (x.toBitVec ||| y.toBitVec).getLsbD k = _; rw [BitVec.getLsbD_or]; rfl
theorem btL_0 (k : Nat) : btL 0 k = false := by show (0#64).getLsbD k = _; simp
theorem btL_one {k j : Nat} (hk : k < 64) (hj : j < 64) : btL ((1 : Int64) <<< ((nI k).toInt64 &&& 63)) j = decide (j = k) := by
  have h := shift63 hk
  unfold btL
  show (BitVec.shiftLeft (1#64) (((nI k).toInt64 &&& 63).toBitVec.smod 64).toNat).getLsbD j = _
  rw [h]
  show ((1#64) <<< k).getLsbD j = _
  rw [BitVec.getLsbD_shiftLeft]
  by_cases e : j = k
  · subst e; simp [hj]
  · by_cases l : j < k
    · simp [l, e]
    · have : j - k ≠ 0 := by omega
      simp [BitVec.getLsbD_one, this, e]
theorem b2j_1 (b : Bool) : (b2j b = 1) = (b = true) := by cases b <;> simp [b2j]
