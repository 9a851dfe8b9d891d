/-! PURE HALF: words: the model. -/
set_option maxRecDepth 100000
def bwF (f : Nat → Nat) : Nat → Nat
  | 0 => 0
  | i + 1 => 27 * bwF f i + (f i - 96)
theorem bwF_inj {f g : Nat → Nat} {L M : Nat} (hf : ∀ j, j < L → 97 ≤ f j ∧ f j ≤ 122) (hg : ∀ j, j < M → 97 ≤ g j ∧ g j ≤ 122) (h : bwF f L = bwF g M) : L = M ∧ ∀ j, j < L → f j = g j := by
  induction L generalizing M with
  | zero =>
    cases M with
    | zero => exact ⟨rfl, fun j hj => absurd hj (Nat.not_lt_zero _)⟩
    | succ m => rw [bwF, bwF] at h; have := hg m (by omega); omega
  | succ l ih =>
    cases M with
    | zero => rw [bwF, bwF] at h; have := hf l (by omega); omega
    | succ m =>
      rw [bwF, bwF] at h
      have a1 := hf l (by omega)
      have a2 := hg m (by omega)
      obtain ⟨e1, e2⟩ := ih (M := m) (fun j hj => hf j (by omega)) (fun j hj => hg j (by omega)) (by omega)
      refine ⟨by omega, fun j hj => ?_⟩
      by_cases e : j = l
      · rw [e]; have : l = m := e1; rw [← this] at a2 h; omega
      · exact e2 j (by omega)
theorem bwF_le {f : Nat → Nat} {L : Nat} (hf : ∀ j, j < L → 97 ≤ f j ∧ f j ≤ 122) : bwF f L + 1 ≤ 27 ^ L := by
  induction L with
  | zero => show 0 + 1 ≤ 1; omega
  | succ l ih =>
    have := ih fun j hj => hf j (by omega)
    have := hf l (by omega)
    rw [bwF, Nat.pow_succ]; omega
theorem bwF_lt {f : Nat → Nat} {L : Nat} (hL : L ≤ 6) (hf : ∀ j, j < L → 97 ≤ f j ∧ f j ≤ 122) : bwF f L < 387420489 := by
  have h1 := bwF_le hf
  have h2 : 27 ^ L ≤ 27 ^ 6 := Nat.pow_le_pow_right (by decide) hL
  have h3 : (27 : Nat) ^ 6 = 387420489 := by decide
  omega
/-- what the model makes of a word -/
noncomputable def wdI (n : Nat) (tx : Nat → Int32) (k : Nat) : Int32 := if 6 < wl n tx k then -1 else nI (bwF (fun j => ch n tx (k + j)) (wl n tx k))
theorem m_wordHere {n : Nat} {tx : Nat → Int32} {σ : ZS} (h : MXt n tx σ) {k : Nat} (hk : k ≤ n) (hsk : sk n tx k = k) (e4 : zI σ 44 4 = nI k) {Ret : Int32 → ZS → Prop} (hr : Ret (wdI n tx k) σ) : wp_X4_wordHere σ Ret := by
  have hn := h.1
  have hby := h.2.2.2
  have hwn := wl_le (tx := tx) hk
  unfold wp_X4_wordHere
  refine m_blanks h hk e4 ?_
  rw [hsk, sI_id e4]
  have hlet : ∀ j, j < wl n tx k → 97 ≤ ch n tx (k + j) ∧ ch n tx (k + j) ≤ 122 := fun j hj => by have := (wl_is n tx k).2 j hj; unfold lw at this; simpa using this
  have stop : ∀ i, i = wl n tx k → ((6 < nI i → Ret (-1) σ) ∧ (¬ 6 < nI i → Ret (nI (bwF (fun j => ch n tx (k + j)) (min 6 i))) σ)) := fun i e => by
    subst e
    rw [show (6 : Int32) = nI 6 from rfl, nI_ltI (by decide) (by omega)]
    unfold wdI at hr
    refine ⟨fun l => by rw [if_pos l] at hr; exact hr, fun l => ?_⟩
    rw [if_neg l] at hr
    rw [show min 6 (wl n tx k) = wl n tx k by omega]; exact hr
  refine lp3 (fun m s x y => VL_X4_wordHere_8 Ret m s x y) (fun s x y => s = σ ∧ ∃ i, i ≤ wl n tx k ∧ y = nI i ∧ x = nI (bwF (fun j => ch n tx (k + j)) (min 6 i))) (fun s x y => wl n tx k - ix y) ?_ σ 0 0 ⟨rfl, 0, Nat.zero_le _, rfl, rfl⟩
  rintro m s x y ⟨rfl, i, hi, rfl, rfl⟩ ih
  simp only [VL_X4_wordHere_8]
  rw [e4, nI_add]
  obtain ⟨b1, b2⟩ := bI_low hby (k + i)
  have hno : lw (ch n tx (k + i)) = false → i = wl n tx k := fun hf => by
    rcases Nat.lt_or_ge i (wl n tx k) with l | l
    · rw [(wl_is n tx k).2 i l] at hf; cases hf
    · omega
  refine m_byteAt h (by omega) ?_
  rw [b1]
  refine ⟨fun a => stop i (hno ?_), fun a => ?_⟩
  · rcases Nat.lt_or_ge (k + i) n with l | l
    · unfold lw; simp; omega
    · rw [ch_out l]; rfl
  rw [e4, nI_add]
  refine m_byteAt h (by omega) ?_
  rw [b2]
  have a := Classical.not_not.mp a
  refine ⟨fun b => stop i (hno (by unfold lw; simp; omega)), fun b => ?_⟩
  have hil : i < wl n tx k := by
    rcases Nat.lt_or_ge i (wl n tx k) with l | l
    · exact l
    · have e : i = wl n tx k := by omega
      have := (wl_is n tx k).1
      rw [← e] at this
      unfold lw at this; simp at this; omega
  rw [show (6 : Int32) = nI 6 from rfl, nI_ltI (by omega) (by decide)]
  simp only [nI1]
  have hdec : wl n tx k - ix (nI (i + 1)) < wl n tx k - ix (nI i) := by rw [ix_nI (by omega), ix_nI (by omega)]; omega
  rw [e4, nI_add]
  refine ⟨fun l6 => m_byteAt h (by omega) (nm_e (nm_e (ih s _ _ ⟨rfl, i + 1, by omega, rfl, ?_⟩ hdec))), fun l6 => nm_e (ih s _ _ ⟨rfl, i + 1, by omega, rfl, ?_⟩ hdec)⟩
  · have hb := bwF_lt (f := fun j => ch n tx (k + j)) (L := i) (by omega) (fun j hj => hlet j (by omega))
    unfold bI
    rw [if_pos (by omega), show min 6 i = i by omega, show min 6 (i + 1) = i + 1 by omega, show (27 : Int32) = nI 27 from rfl, pk_mul, nI_add, show (97 : Int32) = nI 97 from rfl, pk_sub (by omega), nI1]
    congr 1
    show _ = 27 * bwF _ i + (ch n tx (k + i) - 96)
    omega
  · rw [show min 6 i = min 6 (i + 1) by omega]
theorem m_nm_corner {σ : ZS} {Ret : Int32 → ZS → Prop} (hr : Ret (nI (bwF (fun j => g_corner.getD j 0) g_corner.length)) σ) : wp_X4_named σ 3 15 18 14 5 18 Ret := by
  have e : (((27 * ((27 * ((27 * ((27 * ((27 * 3) + 15)) + 18)) + 14)) + 5)) + 18 : Int32)) = nI (bwF (fun j => g_corner.getD j 0) g_corner.length) := by decide
  unfold wp_X4_named V_X4_named_24 V_X4_named_42 V_X4_named_62
  refine nm_e (br_f (by decide) (br_f (by decide) (br_f (by decide) (br_f (by decide) ?_))))
  rw [e]; exact hr
theorem m_nm_street {σ : ZS} {Ret : Int32 → ZS → Prop} (hr : Ret (nI (bwF (fun j => g_street.getD j 0) g_street.length)) σ) : wp_X4_named σ 19 20 18 5 5 20 Ret := by
  have e : (((27 * ((27 * ((27 * ((27 * ((27 * 19) + 20)) + 18)) + 5)) + 5)) + 20 : Int32)) = nI (bwF (fun j => g_street.getD j 0) g_street.length) := by decide
  unfold wp_X4_named V_X4_named_24 V_X4_named_42 V_X4_named_62
  refine nm_e (br_f (by decide) (br_f (by decide) (br_f (by decide) (br_f (by decide) ?_))))
  rw [e]; exact hr
theorem m_nm_one {σ : ZS} {Ret : Int32 → ZS → Prop} (hr : Ret (nI (bwF (fun j => g_one.getD j 0) g_one.length)) σ) : wp_X4_named σ 15 14 5 0 0 0 Ret := by
  have e : (((27 * ((27 * 15) + 14)) + 5 : Int32)) = nI (bwF (fun j => g_one.getD j 0) g_one.length) := by decide
  unfold wp_X4_named V_X4_named_24 V_X4_named_42 V_X4_named_62
  refine nm_e (br_f (by decide) (br_t rfl (br_t rfl (br_t rfl ?_))))
  rw [e]; exact hr
theorem m_nm_no {σ : ZS} {Ret : Int32 → ZS → Prop} (hr : Ret (nI (bwF (fun j => g_no.getD j 0) g_no.length)) σ) : wp_X4_named σ 14 15 0 0 0 0 Ret := by
  have e : (((27 * 14) + 15 : Int32)) = nI (bwF (fun j => g_no.getD j 0) g_no.length) := by decide
  unfold wp_X4_named V_X4_named_24 V_X4_named_42 V_X4_named_62
  refine nm_e (br_t rfl (br_t rfl (br_t rfl (br_t rfl ?_))))
  rw [e]; exact hr
theorem m_nm_may {σ : ZS} {Ret : Int32 → ZS → Prop} (hr : Ret (nI (bwF (fun j => g_may.getD j 0) g_may.length)) σ) : wp_X4_named σ 13 1 25 0 0 0 Ret := by
  have e : (((27 * ((27 * 13) + 1)) + 25 : Int32)) = nI (bwF (fun j => g_may.getD j 0) g_may.length) := by decide
  unfold wp_X4_named V_X4_named_24 V_X4_named_42 V_X4_named_62
  refine nm_e (br_f (by decide) (br_t rfl (br_t rfl (br_t rfl ?_))))
  rw [e]; exact hr
theorem m_nm_box {σ : ZS} {Ret : Int32 → ZS → Prop} (hr : Ret (nI (bwF (fun j => g_box.getD j 0) g_box.length)) σ) : wp_X4_named σ 2 15 24 0 0 0 Ret := by
  have e : (((27 * ((27 * 2) + 15)) + 24 : Int32)) = nI (bwF (fun j => g_box.getD j 0) g_box.length) := by decide
  unfold wp_X4_named V_X4_named_24 V_X4_named_42 V_X4_named_62
  refine nm_e (br_f (by decide) (br_t rfl (br_t rfl (br_t rfl ?_))))
  rw [e]; exact hr
theorem m_nm_rider {σ : ZS} {Ret : Int32 → ZS → Prop} (hr : Ret (nI (bwF (fun j => g_rider.getD j 0) g_rider.length)) σ) : wp_X4_named σ 18 9 4 5 18 0 Ret := by
  have e : (((27 * ((27 * ((27 * ((27 * 18) + 9)) + 4)) + 5)) + 18 : Int32)) = nI (bwF (fun j => g_rider.getD j 0) g_rider.length) := by decide
  unfold wp_X4_named V_X4_named_24 V_X4_named_42 V_X4_named_62
  refine nm_e (br_f (by decide) (br_f (by decide) (br_f (by decide) (br_t rfl ?_))))
  rw [e]; exact hr
theorem wd_eq {n : Nat} {tx : Nat → Int32} {k : Nat} (g : List Nat) (hg : ∀ j, j < g.length → 97 ≤ g.getD j 0 ∧ g.getD j 0 ≤ 122) (hl : g.length ≤ 6) : (wdI n tx k = nI (bwF (fun j => g.getD j 0) g.length)) = (eqL n tx k (g.map nI) = true) := by
  have hlet : ∀ j, j < wl n tx k → 97 ≤ ch n tx (k + j) ∧ ch n tx (k + j) ≤ 122 := fun j hj => by have := (wl_is n tx k).2 j hj; unfold lw at this; simpa using this
  have b2 := bwF_lt (f := fun j => g.getD j 0) (L := g.length) hl hg
  have gm : ∀ j, j < g.length → (g.map nI).getD j 0 = nI (g.getD j 0) := fun j hj => by
    rw [List.getD_eq_getElem?_getD, List.getD_eq_getElem?_getD, List.getElem?_map]
    cases g[j]? <;> rfl
  apply propext
  rw [eqL_iff, List.length_map]
  unfold wdI
  by_cases l : 6 < wl n tx k
  · rw [if_pos l]
    refine ⟨fun e => absurd e.symm (by rw [nI_m1 (by omega)]; exact id), fun e => by omega⟩
  · rw [if_neg l]
    have b1 := bwF_lt (f := fun j => ch n tx (k + j)) (L := wl n tx k) (by omega) hlet
    rw [nI_eq (by omega) (by omega)]
    constructor
    · intro e
      obtain ⟨e1, e2⟩ := bwF_inj hlet hg e
      refine ⟨e1, fun j hj => ?_⟩
      rw [gm j hj, ← e2 j (by omega)]
    · rintro ⟨e1, e2⟩
      rw [e1]
      have : ∀ j, j < g.length → ch n tx (k + j) = g.getD j 0 := fun j hj => by
        have h1 := e2 j hj
        rw [gm j hj] at h1
        have h2 := hlet j (by omega)
        have h3 := hg j hj
        exact (nI_eq (by omega) (by omega)).mp h1
      have cong : ∀ L, L ≤ g.length → bwF (fun j => ch n tx (k + j)) L = bwF (fun j => g.getD j 0) L := by
        intro L
        induction L with
        | zero => intro _; rfl
        | succ L ih => intro hL; rw [bwF, bwF, ih (by omega)]; show 27 * _ + (ch n tx (k + L) - 96) = _; rw [this L (by omega)]
      exact cong _ (Nat.le_refl _)
def kIw (κ : Nat) : Int32 := if κ = 7 then -1 else nI κ
theorem m_kindHere {n : Nat} {tx : Nat → Int32} {σ : ZS} (h : MXt n tx σ) {k : Nat} (hk : k ≤ n) (hsk : sk n tx k = k) (e4 : zI σ 44 4 = nI k) (e5 : zI σ 44 5 = 0) {Ret : Int32 → ZS → Prop} (hr : Ret (kIw (kW n tx k)) σ) : wp_X4_kindHere σ Ret := by
  unfold wp_X4_kindHere wp_X4_isWord
  have wh := fun {Ret : Int32 → ZS → Prop} (hr : Ret (wdI n tx k) σ) => m_wordHere h hk hsk e4 hr
  have c1 := wd_eq (n := n) (tx := tx) (k := k) g_corner (by decide) (by decide)
  have c2 := wd_eq (n := n) (tx := tx) (k := k) g_street (by decide) (by decide)
  have c3 := wd_eq (n := n) (tx := tx) (k := k) g_one (by decide) (by decide)
  have c4 := wd_eq (n := n) (tx := tx) (k := k) g_no (by decide) (by decide)
  have c5 := wd_eq (n := n) (tx := tx) (k := k) g_may (by decide) (by decide)
  have c6 := wd_eq (n := n) (tx := tx) (k := k) g_box (by decide) (by decide)
  have c7 := wd_eq (n := n) (tx := tx) (k := k) g_rider (by decide) (by decide)
  change _ = (eqL n tx k l_corner = true) at c1
  change _ = (eqL n tx k l_street = true) at c2
  change _ = (eqL n tx k l_one = true) at c3
  change _ = (eqL n tx k l_no = true) at c4
  change _ = (eqL n tx k l_may = true) at c5
  change _ = (eqL n tx k l_box = true) at c6
  change _ = (eqL n tx k l_rider = true) at c7
  unfold kW at hr
  refine br_t e5 (wh (m_nm_corner ?_))
  rw [c1]
  refine ⟨fun x => br_f (by decide) (by rw [if_pos x] at hr; exact hr), fun x => br_t rfl (br_t e5 (wh (m_nm_street ?_)))⟩
  rw [if_neg x] at hr
  rw [c2]
  refine ⟨fun x => br_f (by decide) (by rw [if_pos x] at hr; exact hr), fun x => br_t rfl (br_t e5 (wh (m_nm_one ?_)))⟩
  rw [if_neg x] at hr
  rw [c3]
  refine ⟨fun x => br_f (by decide) (by rw [if_pos x] at hr; exact hr), fun x => br_t rfl (br_t e5 (wh (m_nm_no ?_)))⟩
  rw [if_neg x] at hr
  rw [c4]
  refine ⟨fun x => br_f (by decide) (by rw [if_pos x] at hr; exact hr), fun x => br_t rfl (br_t e5 (wh (m_nm_may ?_)))⟩
  rw [if_neg x] at hr
  rw [c5]
  refine ⟨fun x => br_f (by decide) (by rw [if_pos x] at hr; exact hr), fun x => br_t rfl (br_t e5 (wh (m_nm_box ?_)))⟩
  rw [if_neg x] at hr
  rw [c6]
  refine ⟨fun x => br_f (by decide) (by rw [if_pos x] at hr; exact hr), fun x => br_t rfl (br_t e5 (wh (m_nm_rider ?_)))⟩
  rw [if_neg x] at hr
  rw [c7]
  exact ⟨fun x => br_f (by decide) (by rw [if_pos x] at hr; exact hr), fun x => br_t rfl (by rw [if_neg x] at hr; exact hr)⟩
theorem m_skipWord {n : Nat} {tx : Nat → Int32} {σ : ZS} (h : MXt n tx σ) {k : Nat} (hk : k ≤ n) (e4 : zI σ 44 4 = nI k) {Ret : ZS → Prop} (hr : Ret (sI σ 44 4 (nI (k + wl n tx k)))) : wp_X4_skipWord σ Ret := by
  have hn := h.1
  have hby := h.2.2.2
  have hwn := wl_le (tx := tx) hk
  unfold wp_X4_skipWord
  refine lp1 (fun m s => VL_X4_skipWord_0 Ret m s) (fun s => ∃ i, i ≤ wl n tx k ∧ s = sI σ 44 4 (nI (k + i))) (fun s => n - ix (zI s 44 4)) ?_ σ ⟨0, Nat.zero_le _, (sI_id e4).symm⟩
  rintro m s ⟨i, hi, rfl⟩ ih
  have hs := h.set (j := 4) (by decide) (nI (k + i))
  obtain ⟨b1, b2⟩ := bI_low hby (k + i)
  have stop : lw (ch n tx (k + i)) = false → Ret (sI σ 44 4 (nI (k + i))) := fun hf => by
    have : i = wl n tx k := by
      rcases Nat.lt_or_ge i (wl n tx k) with l | l
      · rw [(wl_is n tx k).2 i l] at hf; cases hf
      · omega
    rw [this]; exact hr
  simp only [VL_X4_skipWord_0]
  rw [zI_self]
  refine m_byteAt hs (by omega) ?_
  rw [b1]
  refine ⟨fun a => stop ?_, fun a => ?_⟩
  · rcases Nat.lt_or_ge (k + i) n with l | l
    · unfold lw; simp; omega
    · rw [ch_out l]; rfl
  have a := Classical.not_not.mp a
  rw [zI_self]
  refine m_byteAt hs (by omega) ?_
  rw [b2]
  refine ⟨fun b => stop (by unfold lw; simp; omega), fun b => nm_e ?_⟩
  have hil : i < wl n tx k := by
    rcases Nat.lt_or_ge i (wl n tx k) with l | l
    · exact l
    · have e : i = wl n tx k := by omega
      have := (wl_is n tx k).1
      rw [← e] at this
      unfold lw at this; simp at this; omega
  rw [zI_self, nI1, sI_sI]
  refine ih _ ⟨i + 1, by omega, rfl⟩ ?_
  show n - ix (zI (sI σ 44 4 (nI (k + i + 1))) 44 4) < n - ix (zI (sI σ 44 4 (nI (k + i))) 44 4)
  rw [zI_self, zI_self, ix_nI (by omega), ix_nI (by omega)]; omega
theorem m_closes {n : Nat} {tx : Nat → Int32} {σ : ZS} (h : MXt n tx σ) {k : Nat} (hk : k ≤ n) (e4 : zI σ 44 4 = nI k) (e5 : zI σ 44 5 = 0) {Ret : ZS → Prop} (ok : ch n tx (sk n tx k) = 59 → Ret (sI σ 44 4 (nI (sk n tx k + 1)))) (bad : ch n tx (sk n tx k) ≠ 59 → ∀ σ', MF n (1, sk n tx k) σ σ' → Ret σ') : wp_X4_closes σ 59 Ret := by
  have hn := h.1
  have hsk := sk_le (tx := tx) hk
  unfold wp_X4_closes
  refine br_t e5 (m_blanks h hk e4 ?_)
  have hs := h.set (j := 4) (by decide) (nI (sk n tx k))
  rw [zI_self]
  refine m_byteAt hs (by omega) ?_
  rw [show (59 : Int32) = nI 59 from rfl, bI_eq h.2.2.2 _ (by decide)]
  refine ⟨fun e => nm_e ?_, fun e => ?_⟩
  · rw [zI_self, nI1, sI_sI]; exact ok e
  · unfold wp_X4_wrong
    rw [zI_self]
    refine br_t (by rw [zI_ne _ (.inr (by decide))]; exact e5) (nm_e (nm_e (bad e _ ⟨((Fr.rfl.sI 44 4 _ (.inl rfl)).sI 44 5 _ (.inr (.inl rfl))).sI 44 6 _ (.inr (.inr rfl)), ⟨sk n tx k, hsk, ?_⟩, ?_, zI_self _ _ _ _, by simp, by simp⟩)))
    · rw [zI_ne _ (.inr (by decide)), zI_ne _ (.inr (by decide)), zI_self]
    · rw [zI_ne _ (.inr (by decide)), zI_self]; rfl
theorem m_closesF {σ : ZS} (e5 : ¬ zI σ 44 5 = 0) {a : Int32} {Ret : ZS → Prop} (hr : Ret σ) : wp_X4_closes σ a Ret := by
  unfold wp_X4_closes
  exact br_f e5 hr
