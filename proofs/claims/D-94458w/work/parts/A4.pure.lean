/-! PURE HALF: words: hashes, equals, the two switches. -/
set_option maxRecDepth 100000
theorem hsN_congr {f g : Nat → Nat} {L : Nat} (h : ∀ j, j < L → f j = g j) : hsN f L = hsN g L := by
  induction L with
  | zero => rfl
  | succ L ih => rw [hsN, hsN, ih fun j hj => h j (by omega), h L (by omega)]
theorem STR.k {s : ZS} {w v L : Nat} {f : Nat → Nat} (h : STR s w v L f) : ∃ q, kK NS s w = (18, q) := by rw [kK_dyn h.1]; exact h.2.2.2.1
theorem c_hash {s : ZS} {w v L : Nat} {f : Nat → Nat} (h : STR s w v L f) {Ret : Int32 → ZS → Prop} (hr : ∀ s', Fr (fun c => c = w) s s' → STR s' w v L f → Ret (hsN f L) s') : wp_J9_hashCode s w Ret := by
  obtain ⟨h1, h2, h3, h4, h5, h6, h7, h8, h9, h10⟩ := id h
  have kw := h.k
  have kv : kK NS s v = (2, L) := by rw [kK_dyn h2]; exact h6
  unfold wp_J9_hashCode
  refine ⟨kw, nm_e ⟨fun e => ⟨kw, fun e3 => ⟨kw, ?_⟩, fun e3 => ?_⟩, fun e => ?_⟩⟩
  · unfold wp_J9_isLatin1
    rw [h7]
    refine br_f (by decide) ⟨kw, br_t rfl (br_f (by decide) ⟨kw, ?_⟩)⟩
    rw [kP_dyn h1, h5, zo_in]
    refine ⟨rfl, ?_⟩
    have fin : V_J9_hashCode_40 Ret s w (hsN f L) := by
      unfold V_J9_hashCode_40
      have mk : ∀ j x, (j = 2 ∧ x = hsN f L) ∨ (j = 3 ∧ hsN f L = 0) → STR (sI s w j x) w v L f := fun j x hj => by
        refine ⟨h1, h2, h3, h4, h5, h6, ?_, h8, fun i hi => by rw [zI_ne _ (.inl (Ne.symm h3))]; exact h9 i hi, ?_⟩
        · rw [zI_ne _ (.inr (by omega))]; exact h7
        · rcases hj with ⟨rfl, rfl⟩ | ⟨rfl, h0⟩
          · exact .inl (zI_self _ _ _ _)
          · refine .inr ⟨?_, .inr h0⟩
            rw [zI_ne _ (.inr (by decide))]; exact e
      have cdw : ∀ i, cd w i = w := fun i => by unfold cd; rw [if_neg (by omega), if_neg (by omega)]
      exact ⟨fun h0 => ⟨kw, nm_e (hr _ (Fr.rfl.sI w 3 _ (cdw _)) (mk 3 1 (.inr ⟨rfl, h0⟩)))⟩, fun h0 => ⟨kw, nm_e (hr _ (Fr.rfl.sI w 2 _ (cdw _)) (mk 2 _ (.inl ⟨rfl, rfl⟩)))⟩⟩
    unfold wp_J15_hashCode
    refine ⟨L, kv, ?_⟩
    rw [show Int32.ofNat L = nI L from rfl, nI_eq0 (by omega), nI_eq1 (by omega)]
    refine ⟨fun e0 => ?_, fun e0 => ⟨fun e1 => ⟨L, kv, vin (n := 0) (by omega) (by omega), ?_⟩, fun e1 => ⟨L, kv, ?_⟩⟩⟩
    · have : hsN f L = 0 := by rw [e0]; rfl
      rw [this] at fin; exact fin
    · have : hsN f L = zI s v (ix 0) &&& 255 := by
        rw [e1, ix0, (h9 0 (by omega)).1]
        show 31 * 0 + _ = _
        rw [show (31 * 0 : Int32) = nI 0 from rfl, ← n0, Int32.zero_add]
      rw [← this]; exact fin
    · unfold wp_J11_vectorizedHashCode wp_J11_signedHashCode
      refine br_t rfl ⟨L, kv, nm_e ?_⟩
      rw [show Int32.ofNat L = nI L from rfl, show (0 : Int32) + nI L = nI L by rw [n0, nI_add, Nat.zero_add]]
      refine forL1 (fun m s' x y => VL_J11_signedHashCode_8 _ m s' x v (nI L) y) (fun i s' x => s' = s ∧ x = hsN f i) L ?_ ?_ 0 s 0 (Nat.zero_le _) ⟨rfl, rfl⟩
      · rintro m s' x ⟨rfl, rfl⟩
        simp only [VL_J11_signedHashCode_8]
        exact br_f (nI_nlt (Nat.le_refl _) (by omega)) fin
      · rintro m i s' x hi ⟨rfl, rfl⟩ ih
        simp only [VL_J11_signedHashCode_8]
        simp only [nI1]
        refine br_t (nI_lt hi (by omega)) ⟨L, kv, vin hi (by omega), nm_e (nm_e (ih s' _ ⟨rfl, ?_⟩))⟩
        rw [ix_nI (by omega), (h9 i hi).1]; rfl
  · have : hsN f L = zI s w 2 := by
      rcases h10 with k | ⟨k, k2⟩
      · exact k.symm
      · rcases k2 with k2 | k2
        · exact absurd k2 e3
        · rw [k2, k]
    rw [← this]; exact hr s Fr.rfl h
  · have : hsN f L = zI s w 2 := by
      rcases h10 with k | ⟨k, -⟩
      · exact k.symm
      · exact absurd k e
    rw [← this]; exact hr s Fr.rfl h
noncomputable def eqS (f : Nat → Nat) (L : Nat) (l : List Int32) : Bool := @decide (L = l.length ∧ ∀ j, j < l.length → nI (f j) = l.getD j 0) (Classical.propDecidable _)
theorem eqS_iff {f : Nat → Nat} {L : Nat} {l : List Int32} : eqS f L l = true ↔ (L = l.length ∧ ∀ j, j < l.length → nI (f j) = l.getD j 0) := by unfold eqS; simp
theorem c_equals {s : ZS} {w v L : Nat} {f : Nat → Nat} (h : STR s w v L f) (l : List Int32) (hl : l.length < 1000) {Ret : Int32 → ZS → Prop} (hr : Ret (b2i (eqS f L l)) s) : wp_J9_equals s w l Ret := by
  obtain ⟨h1, h2, h3, h4, h5, h6, h7, h8, h9, h10⟩ := id h
  have kw := h.k
  have kv : kK NS s v = (2, L) := by rw [kK_dyn h2]; exact h6
  unfold wp_J9_equals V_J9_equals_36 wp_J15_equals
  rw [h7]
  refine br_f (by decide) (br_f (by decide) ⟨kw, br_t rfl ⟨kw, ?_⟩⟩)
  rw [kP_dyn h1, h5, zo_in]
  refine ⟨rfl, L, kv, ?_⟩
  rw [show Int32.ofNat L = nI L from rfl, show Int32.ofNat l.length = nI l.length from rfl, nI_eq (by omega) (by omega)]
  refine ⟨fun e => ?_, fun e => br_t rfl ?_⟩
  · refine forL (S := ZS) (fun m s' y => VL_J15_equals_9 l _ m s' v y) (fun i s' => s' = s ∧ ∀ j, j < i → nI (f j) = l.getD j 0) L ?_ ?_ 0 s (Nat.zero_le _) ⟨rfl, fun j hj => absurd hj (Nat.not_lt_zero _)⟩
    · rintro m s' ⟨rfl, g⟩
      simp only [VL_J15_equals_9]
      refine ⟨L, kv, br_f (nI_nlt (Nat.le_refl _) (by omega)) (br_f (by decide) ?_)⟩
      have : eqS f L l = true := eqS_iff.mpr ⟨e, fun j hj => g j (by omega)⟩
      rw [this] at hr; exact hr
    · rintro m i s' hi ⟨rfl, g⟩ ih
      simp only [VL_J15_equals_9]
      simp only [nI1]
      refine ⟨L, kv, br_t (nI_lt hi (by omega)) ⟨L, kv, vin hi (by omega), vin (by omega) (by omega), ?_⟩⟩
      rw [ix_nI (by omega), (h9 i hi).1]
      refine ⟨fun e1 => nm_e (ih s' ⟨rfl, fun j hj => ?_⟩), fun e1 => br_t trivial ?_⟩
      · by_cases ej : j = i
        · rw [ej]; exact e1
        · exact g j (by omega)
      · have : eqS f L l = false := by
          cases k : eqS f L l
          · rfl
          · exact absurd ((eqS_iff.mp k).2 i (by omega)) e1
        rw [this] at hr; exact hr
  · have : eqS f L l = false := by
      cases k : eqS f L l
      · rfl
      · exact absurd (eqS_iff.mp k).1 e
    rw [this] at hr; exact hr
theorem eqS_L {n : Nat} {tx : Nat → Int32} {k : Nat} {l : List Int32} (hl : l.length ≤ 6) : eqS (fun j => ch n tx (k + j)) (min 7 (wl n tx k)) l = eqL n tx k l := by
  rw [Bool.eq_iff_iff, eqS_iff, eqL_iff]
  constructor
  · rintro ⟨h1, h2⟩; exact ⟨by omega, h2⟩
  · rintro ⟨h1, h2⟩; exact ⟨by omega, h2⟩
theorem hs_of {f : Nat → Nat} {L : Nat} (g : List Nat) (hg : ∀ j, j < g.length → g.getD j 0 < 128) (h : eqS f L (g.map nI) = true) (hf : ∀ j, j < L → f j < 128) : hsN f L = hsN (fun j => g.getD j 0) g.length := by
  obtain ⟨h1, h2⟩ := eqS_iff.mp h
  rw [List.length_map] at h1 h2
  rw [h1]
  refine hsN_congr fun j hj => ?_
  have := h2 j hj
  have e : (g.map nI).getD j 0 = nI (g.getD j 0) := by
    rw [List.getD_eq_getElem?_getD, List.getD_eq_getElem?_getD, List.getElem?_map]
    cases g[j]? <;> rfl
  rw [e] at this
  have h3 := hg j hj
  have h4 := hf j (by omega)
  exact (nI_eq (by omega) (by omega)).mp this
def g_corner : List Nat := [99, 111, 114, 110, 101, 114]
def g_street : List Nat := [115, 116, 114, 101, 101, 116]
def g_rider : List Nat := [114, 105, 100, 101, 114]
def g_box : List Nat := [98, 111, 120]
def g_one : List Nat := [111, 110, 101]
def g_no : List Nat := [110, 111]
def g_may : List Nat := [109, 97, 121]
theorem hs_all {f : Nat → Nat} {L : Nat} (hf : ∀ j, j < L → f j < 128) :
    (eqS f L l_corner = true → hsN f L = -1354665387) ∧ (eqS f L l_street = true → hsN f L = -891990013) ∧ (eqS f L l_no = true → hsN f L = 3521) ∧ (eqS f L l_box = true → hsN f L = 97739) ∧ (eqS f L l_may = true → hsN f L = 107877) ∧ (eqS f L l_one = true → hsN f L = 110182) ∧ (eqS f L l_rider = true → hsN f L = 108508794) :=
  ⟨fun h => (hs_of g_corner (by decide) h hf).trans (by decide), fun h => (hs_of g_street (by decide) h hf).trans (by decide), fun h => (hs_of g_no (by decide) h hf).trans (by decide), fun h => (hs_of g_box (by decide) h hf).trans (by decide), fun h => (hs_of g_may (by decide) h hf).trans (by decide), fun h => (hs_of g_one (by decide) h hf).trans (by decide), fun h => (hs_of g_rider (by decide) h hf).trans (by decide)⟩
noncomputable def kS (f : Nat → Nat) (L : Nat) : Nat := if eqS f L l_corner then 0 else if eqS f L l_street then 1 else if eqS f L l_one then 2 else if eqS f L l_no then 3 else if eqS f L l_may then 4 else if eqS f L l_box then 5 else if eqS f L l_rider then 6 else 7
theorem kS_W (n : Nat) (tx : Nat → Int32) (k : Nat) : kS (fun j => ch n tx (k + j)) (min 7 (wl n tx k)) = kW n tx k := by
  unfold kS kW
  rw [eqS_L (by decide), eqS_L (by decide), eqS_L (by decide), eqS_L (by decide), eqS_L (by decide), eqS_L (by decide), eqS_L (by decide)]
def sw1 (κ : Nat) : Int32 := match κ with
  | 0 => 0
  | 1 => 1
  | 2 => 4
  | 3 => 5
  | 4 => 6
  | 5 => 3
  | 6 => 2
  | _ => -1
def sw2 (κ : Nat) : Int32 := match κ with
  | 0 => 0
  | 1 => 1
  | 2 => 2
  | 3 => 3
  | 4 => 4
  | 5 => 5
  | _ => -1
theorem kS_corner {f : Nat → Nat} {L : Nat} (hf : ∀ j, j < L → f j < 128) (e : hsN f L = (-1354665387)) : kS f L = if eqS f L l_corner then 0 else 7 := by
  obtain ⟨a_corner, a_street, a_no, a_box, a_may, a_one, a_rider⟩ := hs_all hf
  have b_street : eqS f L l_street = false := by
    cases k : eqS f L l_street
    · rfl
    · exact absurd ((a_street k).symm.trans e) (by decide)
  have b_no : eqS f L l_no = false := by
    cases k : eqS f L l_no
    · rfl
    · exact absurd ((a_no k).symm.trans e) (by decide)
  have b_box : eqS f L l_box = false := by
    cases k : eqS f L l_box
    · rfl
    · exact absurd ((a_box k).symm.trans e) (by decide)
  have b_may : eqS f L l_may = false := by
    cases k : eqS f L l_may
    · rfl
    · exact absurd ((a_may k).symm.trans e) (by decide)
  have b_one : eqS f L l_one = false := by
    cases k : eqS f L l_one
    · rfl
    · exact absurd ((a_one k).symm.trans e) (by decide)
  have b_rider : eqS f L l_rider = false := by
    cases k : eqS f L l_rider
    · rfl
    · exact absurd ((a_rider k).symm.trans e) (by decide)
  unfold kS
  rw [b_street, b_no, b_box, b_may, b_one, b_rider]
  cases eqS f L l_corner <;> rfl
theorem kS_street {f : Nat → Nat} {L : Nat} (hf : ∀ j, j < L → f j < 128) (e : hsN f L = (-891990013)) : kS f L = if eqS f L l_street then 1 else 7 := by
  obtain ⟨a_corner, a_street, a_no, a_box, a_may, a_one, a_rider⟩ := hs_all hf
  have b_corner : eqS f L l_corner = false := by
    cases k : eqS f L l_corner
    · rfl
    · exact absurd ((a_corner k).symm.trans e) (by decide)
  have b_no : eqS f L l_no = false := by
    cases k : eqS f L l_no
    · rfl
    · exact absurd ((a_no k).symm.trans e) (by decide)
  have b_box : eqS f L l_box = false := by
    cases k : eqS f L l_box
    · rfl
    · exact absurd ((a_box k).symm.trans e) (by decide)
  have b_may : eqS f L l_may = false := by
    cases k : eqS f L l_may
    · rfl
    · exact absurd ((a_may k).symm.trans e) (by decide)
  have b_one : eqS f L l_one = false := by
    cases k : eqS f L l_one
    · rfl
    · exact absurd ((a_one k).symm.trans e) (by decide)
  have b_rider : eqS f L l_rider = false := by
    cases k : eqS f L l_rider
    · rfl
    · exact absurd ((a_rider k).symm.trans e) (by decide)
  unfold kS
  rw [b_corner, b_no, b_box, b_may, b_one, b_rider]
  cases eqS f L l_street <;> rfl
theorem kS_no {f : Nat → Nat} {L : Nat} (hf : ∀ j, j < L → f j < 128) (e : hsN f L = 3521) : kS f L = if eqS f L l_no then 3 else 7 := by
  obtain ⟨a_corner, a_street, a_no, a_box, a_may, a_one, a_rider⟩ := hs_all hf
  have b_corner : eqS f L l_corner = false := by
    cases k : eqS f L l_corner
    · rfl
    · exact absurd ((a_corner k).symm.trans e) (by decide)
  have b_street : eqS f L l_street = false := by
    cases k : eqS f L l_street
    · rfl
    · exact absurd ((a_street k).symm.trans e) (by decide)
  have b_box : eqS f L l_box = false := by
    cases k : eqS f L l_box
    · rfl
    · exact absurd ((a_box k).symm.trans e) (by decide)
  have b_may : eqS f L l_may = false := by
    cases k : eqS f L l_may
    · rfl
    · exact absurd ((a_may k).symm.trans e) (by decide)
  have b_one : eqS f L l_one = false := by
    cases k : eqS f L l_one
    · rfl
    · exact absurd ((a_one k).symm.trans e) (by decide)
  have b_rider : eqS f L l_rider = false := by
    cases k : eqS f L l_rider
    · rfl
    · exact absurd ((a_rider k).symm.trans e) (by decide)
  unfold kS
  rw [b_corner, b_street, b_box, b_may, b_one, b_rider]
  cases eqS f L l_no <;> rfl
theorem kS_box {f : Nat → Nat} {L : Nat} (hf : ∀ j, j < L → f j < 128) (e : hsN f L = 97739) : kS f L = if eqS f L l_box then 5 else 7 := by
  obtain ⟨a_corner, a_street, a_no, a_box, a_may, a_one, a_rider⟩ := hs_all hf
  have b_corner : eqS f L l_corner = false := by
    cases k : eqS f L l_corner
    · rfl
    · exact absurd ((a_corner k).symm.trans e) (by decide)
  have b_street : eqS f L l_street = false := by
    cases k : eqS f L l_street
    · rfl
    · exact absurd ((a_street k).symm.trans e) (by decide)
  have b_no : eqS f L l_no = false := by
    cases k : eqS f L l_no
    · rfl
    · exact absurd ((a_no k).symm.trans e) (by decide)
  have b_may : eqS f L l_may = false := by
    cases k : eqS f L l_may
    · rfl
    · exact absurd ((a_may k).symm.trans e) (by decide)
  have b_one : eqS f L l_one = false := by
    cases k : eqS f L l_one
    · rfl
    · exact absurd ((a_one k).symm.trans e) (by decide)
  have b_rider : eqS f L l_rider = false := by
    cases k : eqS f L l_rider
    · rfl
    · exact absurd ((a_rider k).symm.trans e) (by decide)
  unfold kS
  rw [b_corner, b_street, b_no, b_may, b_one, b_rider]
  cases eqS f L l_box <;> rfl
theorem kS_may {f : Nat → Nat} {L : Nat} (hf : ∀ j, j < L → f j < 128) (e : hsN f L = 107877) : kS f L = if eqS f L l_may then 4 else 7 := by
  obtain ⟨a_corner, a_street, a_no, a_box, a_may, a_one, a_rider⟩ := hs_all hf
  have b_corner : eqS f L l_corner = false := by
    cases k : eqS f L l_corner
    · rfl
    · exact absurd ((a_corner k).symm.trans e) (by decide)
  have b_street : eqS f L l_street = false := by
    cases k : eqS f L l_street
    · rfl
    · exact absurd ((a_street k).symm.trans e) (by decide)
  have b_no : eqS f L l_no = false := by
    cases k : eqS f L l_no
    · rfl
    · exact absurd ((a_no k).symm.trans e) (by decide)
  have b_box : eqS f L l_box = false := by
    cases k : eqS f L l_box
    · rfl
    · exact absurd ((a_box k).symm.trans e) (by decide)
  have b_one : eqS f L l_one = false := by
    cases k : eqS f L l_one
    · rfl
    · exact absurd ((a_one k).symm.trans e) (by decide)
  have b_rider : eqS f L l_rider = false := by
    cases k : eqS f L l_rider
    · rfl
    · exact absurd ((a_rider k).symm.trans e) (by decide)
  unfold kS
  rw [b_corner, b_street, b_no, b_box, b_one, b_rider]
  cases eqS f L l_may <;> rfl
theorem kS_one {f : Nat → Nat} {L : Nat} (hf : ∀ j, j < L → f j < 128) (e : hsN f L = 110182) : kS f L = if eqS f L l_one then 2 else 7 := by
  obtain ⟨a_corner, a_street, a_no, a_box, a_may, a_one, a_rider⟩ := hs_all hf
  have b_corner : eqS f L l_corner = false := by
    cases k : eqS f L l_corner
    · rfl
    · exact absurd ((a_corner k).symm.trans e) (by decide)
  have b_street : eqS f L l_street = false := by
    cases k : eqS f L l_street
    · rfl
    · exact absurd ((a_street k).symm.trans e) (by decide)
  have b_no : eqS f L l_no = false := by
    cases k : eqS f L l_no
    · rfl
    · exact absurd ((a_no k).symm.trans e) (by decide)
  have b_box : eqS f L l_box = false := by
    cases k : eqS f L l_box
    · rfl
    · exact absurd ((a_box k).symm.trans e) (by decide)
  have b_may : eqS f L l_may = false := by
    cases k : eqS f L l_may
    · rfl
    · exact absurd ((a_may k).symm.trans e) (by decide)
  have b_rider : eqS f L l_rider = false := by
    cases k : eqS f L l_rider
    · rfl
    · exact absurd ((a_rider k).symm.trans e) (by decide)
  unfold kS
  rw [b_corner, b_street, b_no, b_box, b_may, b_rider]
  cases eqS f L l_one <;> rfl
theorem kS_rider {f : Nat → Nat} {L : Nat} (hf : ∀ j, j < L → f j < 128) (e : hsN f L = 108508794) : kS f L = if eqS f L l_rider then 6 else 7 := by
  obtain ⟨a_corner, a_street, a_no, a_box, a_may, a_one, a_rider⟩ := hs_all hf
  have b_corner : eqS f L l_corner = false := by
    cases k : eqS f L l_corner
    · rfl
    · exact absurd ((a_corner k).symm.trans e) (by decide)
  have b_street : eqS f L l_street = false := by
    cases k : eqS f L l_street
    · rfl
    · exact absurd ((a_street k).symm.trans e) (by decide)
  have b_no : eqS f L l_no = false := by
    cases k : eqS f L l_no
    · rfl
    · exact absurd ((a_no k).symm.trans e) (by decide)
  have b_box : eqS f L l_box = false := by
    cases k : eqS f L l_box
    · rfl
    · exact absurd ((a_box k).symm.trans e) (by decide)
  have b_may : eqS f L l_may = false := by
    cases k : eqS f L l_may
    · rfl
    · exact absurd ((a_may k).symm.trans e) (by decide)
  have b_one : eqS f L l_one = false := by
    cases k : eqS f L l_one
    · rfl
    · exact absurd ((a_one k).symm.trans e) (by decide)
  unfold kS
  rw [b_corner, b_street, b_no, b_box, b_may, b_one]
  cases eqS f L l_rider <;> rfl
theorem kS_no7 {f : Nat → Nat} {L : Nat} (hf : ∀ j, j < L → f j < 128) (e_corner : ¬ hsN f L = (-1354665387)) (e_street : ¬ hsN f L = (-891990013)) (e_no : ¬ hsN f L = 3521) (e_box : ¬ hsN f L = 97739) (e_may : ¬ hsN f L = 107877) (e_one : ¬ hsN f L = 110182) (e_rider : ¬ hsN f L = 108508794) : kS f L = 7 := by
  obtain ⟨a_corner, a_street, a_no, a_box, a_may, a_one, a_rider⟩ := hs_all hf
  have b_corner : eqS f L l_corner = false := by
    cases k : eqS f L l_corner
    · rfl
    · exact absurd (a_corner k) e_corner
  have b_street : eqS f L l_street = false := by
    cases k : eqS f L l_street
    · rfl
    · exact absurd (a_street k) e_street
  have b_no : eqS f L l_no = false := by
    cases k : eqS f L l_no
    · rfl
    · exact absurd (a_no k) e_no
  have b_box : eqS f L l_box = false := by
    cases k : eqS f L l_box
    · rfl
    · exact absurd (a_box k) e_box
  have b_may : eqS f L l_may = false := by
    cases k : eqS f L l_may
    · rfl
    · exact absurd (a_may k) e_may
  have b_one : eqS f L l_one = false := by
    cases k : eqS f L l_one
    · rfl
    · exact absurd (a_one k) e_one
  have b_rider : eqS f L l_rider = false := by
    cases k : eqS f L l_rider
    · rfl
    · exact absurd (a_rider k) e_rider
  unfold kS
  rw [b_corner, b_street, b_no, b_box, b_may, b_one, b_rider]; rfl
theorem kS_no67 {f : Nat → Nat} {L : Nat} (hf : ∀ j, j < L → f j < 128) (e_corner : ¬ hsN f L = (-1354665387)) (e_street : ¬ hsN f L = (-891990013)) (e_no : ¬ hsN f L = 3521) (e_box : ¬ hsN f L = 97739) (e_may : ¬ hsN f L = 107877) (e_one : ¬ hsN f L = 110182) : kS f L = 6 ∨ kS f L = 7 := by
  obtain ⟨a_corner, a_street, a_no, a_box, a_may, a_one, a_rider⟩ := hs_all hf
  have b_corner : eqS f L l_corner = false := by
    cases k : eqS f L l_corner
    · rfl
    · exact absurd (a_corner k) e_corner
  have b_street : eqS f L l_street = false := by
    cases k : eqS f L l_street
    · rfl
    · exact absurd (a_street k) e_street
  have b_no : eqS f L l_no = false := by
    cases k : eqS f L l_no
    · rfl
    · exact absurd (a_no k) e_no
  have b_box : eqS f L l_box = false := by
    cases k : eqS f L l_box
    · rfl
    · exact absurd (a_box k) e_box
  have b_may : eqS f L l_may = false := by
    cases k : eqS f L l_may
    · rfl
    · exact absurd (a_may k) e_may
  have b_one : eqS f L l_one = false := by
    cases k : eqS f L l_one
    · rfl
    · exact absurd (a_one k) e_one
  unfold kS
  rw [b_corner, b_street, b_no, b_box, b_may, b_one]
  cases eqS f L l_rider
  · exact .inr rfl
  · exact .inl rfl
theorem sw_br {s : ZS} {w v L : Nat} {f : Nat → Nat} (h : STR s w v L f) {l : List Int32} (hl : l.length < 1000) {H code : Int32} {Q : ZS → Int32 → Prop} {REST : Prop} (hQ : hsN f L = H → Q s (if eqS f L l then code else -1)) (hR : ¬ hsN f L = H → REST) : ((hsN f L = H → ((∃ n13, kK NS s w = (18, n13)) ∧ (wp_J9_equals s w l (fun r10 σ11 => ((r10 = 0 → Q σ11 (-1)) ∧ (¬ r10 = 0 → Q σ11 code)))))) ∧ (¬ hsN f L = H → REST)) := by
  refine ⟨fun e => ⟨h.k, c_equals h l hl ?_⟩, hR⟩
  have := hQ e
  refine br0 (fun k => ?_) fun k => ?_
  · rw [k] at this; exact this
  · rw [k] at this; exact this
theorem c_sw1 {s : ZS} {w v L : Nat} {f : Nat → Nat} (h : STR s w v L f) {Q : ZS → Int32 → Prop} (hQ : ∀ s', Fr (fun c => c = w) s s' → STR s' w v L f → Q s' (sw1 (kS f L))) : (∃ n9, kK NS s w = (18, n9)) ∧ (wp_J9_hashCode s w (fun r6 σ7 => ((r6 = (-1354665387) → ((∃ n13, kK NS σ7 w = (18, n13)) ∧ (wp_J9_equals σ7 w l_corner (fun r10 σ11 => ((r10 = 0 → Q σ11 (-1)) ∧ (¬ r10 = 0 → Q σ11 0)))))) ∧ (¬ r6 = (-1354665387) → ((r6 = (-891990013) → ((∃ n13, kK NS σ7 w = (18, n13)) ∧ (wp_J9_equals σ7 w l_street (fun r10 σ11 => ((r10 = 0 → Q σ11 (-1)) ∧ (¬ r10 = 0 → Q σ11 1)))))) ∧ (¬ r6 = (-891990013) → ((r6 = 3521 → ((∃ n13, kK NS σ7 w = (18, n13)) ∧ (wp_J9_equals σ7 w l_no (fun r10 σ11 => ((r10 = 0 → Q σ11 (-1)) ∧ (¬ r10 = 0 → Q σ11 5)))))) ∧ (¬ r6 = 3521 → ((r6 = 97739 → ((∃ n13, kK NS σ7 w = (18, n13)) ∧ (wp_J9_equals σ7 w l_box (fun r10 σ11 => ((r10 = 0 → Q σ11 (-1)) ∧ (¬ r10 = 0 → Q σ11 3)))))) ∧ (¬ r6 = 97739 → ((r6 = 107877 → ((∃ n13, kK NS σ7 w = (18, n13)) ∧ (wp_J9_equals σ7 w l_may (fun r10 σ11 => ((r10 = 0 → Q σ11 (-1)) ∧ (¬ r10 = 0 → Q σ11 6)))))) ∧ (¬ r6 = 107877 → ((r6 = 110182 → ((∃ n13, kK NS σ7 w = (18, n13)) ∧ (wp_J9_equals σ7 w l_one (fun r10 σ11 => ((r10 = 0 → Q σ11 (-1)) ∧ (¬ r10 = 0 → Q σ11 4)))))) ∧ (¬ r6 = 110182 → ((r6 = 108508794 → ((∃ n13, kK NS σ7 w = (18, n13)) ∧ (wp_J9_equals σ7 w l_rider (fun r10 σ11 => ((r10 = 0 → Q σ11 (-1)) ∧ (¬ r10 = 0 → Q σ11 2)))))) ∧ (¬ r6 = 108508794 → Q σ7 (-1))))))))))))))))) := by
  have hf : ∀ j, j < L → f j < 128 := fun j hj => (h.2.2.2.2.2.2.2.2.1 j hj).2
  refine ⟨h.k, c_hash h fun s' f' h' => ?_⟩
  have q := hQ s' f' h'
  refine sw_br h' (by decide) (fun e => ?_) fun e_corner => ?_
  · rw [kS_corner hf e] at q; cases k : eqS f L l_corner <;> rw [k] at q <;> exact q
  refine sw_br h' (by decide) (fun e => ?_) fun e_street => ?_
  · rw [kS_street hf e] at q; cases k : eqS f L l_street <;> rw [k] at q <;> exact q
  refine sw_br h' (by decide) (fun e => ?_) fun e_no => ?_
  · rw [kS_no hf e] at q; cases k : eqS f L l_no <;> rw [k] at q <;> exact q
  refine sw_br h' (by decide) (fun e => ?_) fun e_box => ?_
  · rw [kS_box hf e] at q; cases k : eqS f L l_box <;> rw [k] at q <;> exact q
  refine sw_br h' (by decide) (fun e => ?_) fun e_may => ?_
  · rw [kS_may hf e] at q; cases k : eqS f L l_may <;> rw [k] at q <;> exact q
  refine sw_br h' (by decide) (fun e => ?_) fun e_one => ?_
  · rw [kS_one hf e] at q; cases k : eqS f L l_one <;> rw [k] at q <;> exact q
  refine sw_br h' (by decide) (fun e => ?_) fun e_rider => ?_
  · rw [kS_rider hf e] at q; cases k : eqS f L l_rider <;> rw [k] at q <;> exact q
  rw [kS_no7 hf e_corner e_street e_no e_box e_may e_one e_rider] at q; exact q
theorem c_sw2 {s : ZS} {w v L : Nat} {f : Nat → Nat} (h : STR s w v L f) {Q : ZS → Int32 → Prop} (hQ : ∀ s', Fr (fun c => c = w) s s' → STR s' w v L f → Q s' (sw2 (kS f L))) : (∃ n9, kK NS s w = (18, n9)) ∧ (wp_J9_hashCode s w (fun r6 σ7 => ((r6 = (-1354665387) → ((∃ n13, kK NS σ7 w = (18, n13)) ∧ (wp_J9_equals σ7 w l_corner (fun r10 σ11 => ((r10 = 0 → Q σ11 (-1)) ∧ (¬ r10 = 0 → Q σ11 0)))))) ∧ (¬ r6 = (-1354665387) → ((r6 = (-891990013) → ((∃ n13, kK NS σ7 w = (18, n13)) ∧ (wp_J9_equals σ7 w l_street (fun r10 σ11 => ((r10 = 0 → Q σ11 (-1)) ∧ (¬ r10 = 0 → Q σ11 1)))))) ∧ (¬ r6 = (-891990013) → ((r6 = 3521 → ((∃ n13, kK NS σ7 w = (18, n13)) ∧ (wp_J9_equals σ7 w l_no (fun r10 σ11 => ((r10 = 0 → Q σ11 (-1)) ∧ (¬ r10 = 0 → Q σ11 3)))))) ∧ (¬ r6 = 3521 → ((r6 = 97739 → ((∃ n13, kK NS σ7 w = (18, n13)) ∧ (wp_J9_equals σ7 w l_box (fun r10 σ11 => ((r10 = 0 → Q σ11 (-1)) ∧ (¬ r10 = 0 → Q σ11 5)))))) ∧ (¬ r6 = 97739 → ((r6 = 107877 → ((∃ n13, kK NS σ7 w = (18, n13)) ∧ (wp_J9_equals σ7 w l_may (fun r10 σ11 => ((r10 = 0 → Q σ11 (-1)) ∧ (¬ r10 = 0 → Q σ11 4)))))) ∧ (¬ r6 = 107877 → ((r6 = 110182 → ((∃ n13, kK NS σ7 w = (18, n13)) ∧ (wp_J9_equals σ7 w l_one (fun r10 σ11 => ((r10 = 0 → Q σ11 (-1)) ∧ (¬ r10 = 0 → Q σ11 2)))))) ∧ (¬ r6 = 110182 → Q σ7 (-1))))))))))))))) := by
  have hf : ∀ j, j < L → f j < 128 := fun j hj => (h.2.2.2.2.2.2.2.2.1 j hj).2
  refine ⟨h.k, c_hash h fun s' f' h' => ?_⟩
  have q := hQ s' f' h'
  refine sw_br h' (by decide) (fun e => ?_) fun e_corner => ?_
  · rw [kS_corner hf e] at q; cases k : eqS f L l_corner <;> rw [k] at q <;> exact q
  refine sw_br h' (by decide) (fun e => ?_) fun e_street => ?_
  · rw [kS_street hf e] at q; cases k : eqS f L l_street <;> rw [k] at q <;> exact q
  refine sw_br h' (by decide) (fun e => ?_) fun e_no => ?_
  · rw [kS_no hf e] at q; cases k : eqS f L l_no <;> rw [k] at q <;> exact q
  refine sw_br h' (by decide) (fun e => ?_) fun e_box => ?_
  · rw [kS_box hf e] at q; cases k : eqS f L l_box <;> rw [k] at q <;> exact q
  refine sw_br h' (by decide) (fun e => ?_) fun e_may => ?_
  · rw [kS_may hf e] at q; cases k : eqS f L l_may <;> rw [k] at q <;> exact q
  refine sw_br h' (by decide) (fun e => ?_) fun e_one => ?_
  · rw [kS_one hf e] at q; cases k : eqS f L l_one <;> rw [k] at q <;> exact q
  rcases kS_no67 hf e_corner e_street e_no e_box e_may e_one with k | k <;> rw [k] at q <;> exact q
