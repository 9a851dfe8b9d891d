/-! PURE HALF: candidates, sets of them. -/
set_option maxRecDepth 100000
def isCd (T : Tw) (sn an : Nat → Int32) (k : Nat) : Bool := !btI (an (T.lf k)) (T.lt k) && !btI (sn (T.lf k)) (T.lt k)
def nCd (T : Tw) (sn an : Nat → Int32) : Nat := min 14 (cnt (isCd T sn an) T.nl)
noncomputable def cdA (T : Tw) (sn an : Nat → Int32) (j : Nat) : Nat := leastN (fun k => isCd T sn an k = true ∧ cnt (isCd T sn an) k = j)
theorem cnt_mon {p : Nat → Bool} {a b : Nat} (h : a ≤ b) : cnt p a ≤ cnt p b := by
  induction b with
  | zero => have : a = 0 := by omega
            rw [this]; exact Nat.le_refl _
  | succ b ih =>
    by_cases e : a = b + 1
    · rw [e]; exact Nat.le_refl _
    · have := ih (by omega)
      show cnt p a ≤ cnt p b + _
      omega
theorem cdA_eq {T : Tw} {sn an : Nat → Int32} {k : Nat} (h : isCd T sn an k = true) : cdA T sn an (cnt (isCd T sn an) k) = k := by
  refine leastN_eq ⟨h, rfl⟩ fun j hj k2 => ?_
  have h1 : cnt (isCd T sn an) (j + 1) ≤ cnt (isCd T sn an) k := cnt_mon hj
  have h2 : cnt (isCd T sn an) (j + 1) = cnt (isCd T sn an) j + 1 := by
    show cnt _ j + _ = _; rw [k2.1]; rfl
  omega
theorem cnt_hit {p : Nat → Bool} {n j : Nat} (h : j < cnt p n) : ∃ k, k < n ∧ p k = true ∧ cnt p k = j := by
  induction n with
  | zero => exact absurd h (Nat.not_lt_zero _)
  | succ n ih =>
    by_cases h2 : j < cnt p n
    · obtain ⟨k, h1, h3⟩ := ih h2
      exact ⟨k, by omega, h3⟩
    · have h' : j < cnt p n + (if p n then 1 else 0) := h
      cases hp : p n
      · rw [hp] at h'; exact absurd h' h2
      · rw [hp] at h'; simp at h'
        exact ⟨n, by omega, hp, by omega⟩
theorem cdA_is {T : Tw} {sn an : Nat → Int32} {j : Nat} (h : j < nCd T sn an) : cdA T sn an j < T.nl ∧ isCd T sn an (cdA T sn an j) = true ∧ cnt (isCd T sn an) (cdA T sn an j) = j := by
  unfold nCd at h
  obtain ⟨k, h1, h2, h3⟩ := cnt_hit (p := isCd T sn an) (n := T.nl) (j := j) (by omega)
  have := cdA_eq h2
  rw [h3] at this
  rw [this]; exact ⟨h1, h2, h3⟩
theorem cdA_inj {T : Tw} {sn an : Nat → Int32} {i j : Nat} (hi : i < nCd T sn an) (hj : j < nCd T sn an) (h : cdA T sn an i = cdA T sn an j) : i = j := by
  rw [← (cdA_is hi).2.2, ← (cdA_is hj).2.2, h]
theorem c_findCand {e : Ev} {σ : ZS} (h : CE e σ) {t : Nat} (ht : t ≤ e.tm) {Ret : Int32 → ZS → Prop} (hr : ∀ σ', Fr (fun c => c = 26) σ σ' → (∀ j, j < nCd e.T (e.sg t) (e.al t) → zI σ' 26 j = nI (cdA e.T (e.sg t) (e.al t) j)) → Ret (nI (nCd e.T (e.sg t) (e.al t))) σ') : wp_X1_findCandidates σ (nI t) Ret := by
  have w := h.ct.wf
  have hns := w.ns
  have hnl := w.nl
  unfold wp_X1_findCandidates
  refine forL1 (fun k s v x => VL_X1_findCandidates_4 Ret k s (nI t) v x) (fun i s v => Fr (fun c => c = 26) σ s ∧ cnt (isCd e.T (e.sg t) (e.al t)) i ≤ 14 ∧ v = nI (cnt (isCd e.T (e.sg t) (e.al t)) i) ∧ ∀ j, j < cnt (isCd e.T (e.sg t) (e.al t)) i → zI s 26 j = nI (cdA e.T (e.sg t) (e.al t) j)) e.T.nl ?_ ?_ 0 σ 0 (Nat.zero_le _) ⟨Fr.rfl, Nat.zero_le _, rfl, fun j hj => absurd hj (Nat.not_lt_zero _)⟩
  · rintro n s v ⟨f, h1, rfl, h2⟩
    have hs := h.fr f (by intro c hc; unfold scC; omega)
    have ct := hs.ct
    simp only [VL_X1_findCandidates_4]
    rw [ct.pt, zo_in, ct.nl]
    have en : cnt (isCd e.T (e.sg t) (e.al t)) e.T.nl = nCd e.T (e.sg t) (e.al t) := by unfold nCd; omega
    rw [en] at h2 ⊢
    exact ⟨rfl, ct.kt, br_f (nI_nlt (Nat.le_refl _) (by omega)) (hr s f h2)⟩
  · rintro n i s v hi ⟨f, h1, rfl, h2⟩ ih
    have hs := h.fr f (by intro c hc; unfold scC; omega)
    have ct := hs.ct
    have hlf := w.lf i hi
    have hlt := w.lt i hi
    simp only [VL_X1_findCandidates_4]
    simp only [nI1]
    rw [ct.pt, zo_in, ct.nl, ct.p5, ct.p6, zo_in, zo_in, ix_nI (by omega), ct.lf i hi, ct.lt i hi]
    refine ⟨rfl, ct.kt, br_t (nI_lt hi (by omega)) ?_⟩
    rw [show (14 : Int32) = nI 14 from rfl, nI_ltI (by omega) (by omega)]
    refine ⟨fun h3 => ⟨rfl, ct.kt, rfl, 576, ct.k5, vin (by omega) (by decide), rfl, ct.kt, rfl, 576, ct.k6, vin (by omega) (by decide), c_isAllowed hs.ch ht (by omega) (by omega) ?_⟩, fun h3 => ?_⟩
    · have skip : isCd e.T (e.sg t) (e.al t) i = false → VL_X1_findCandidates_4 Ret n s (nI t) (nI (cnt (isCd e.T (e.sg t) (e.al t)) i)) (nI (i + 1)) := by
        intro k
        have ec : cnt (isCd e.T (e.sg t) (e.al t)) (i + 1) = cnt (isCd e.T (e.sg t) (e.al t)) i := by show cnt _ i + _ = _; rw [k]; rfl
        exact ih s _ ⟨f, by rw [ec]; exact h1, by rw [ec], by rw [ec]; exact h2⟩
      refine br0 (fun k1 => ?_) fun k1 => nm_e (skip (by unfold isCd; rw [k1]; rfl))
      rw [ct.pt, zo_in, ct.p5, ct.p6, zo_in, zo_in, ct.lf i hi, ct.lt i hi]
      refine ⟨rfl, ct.kt, rfl, 576, ct.k5, vin (by omega) (by decide), rfl, ct.kt, rfl, 576, ct.k6, vin (by omega) (by decide), c_isSigned hs.ch ht (by omega) (by omega) (br0 (fun k2 => ⟨vin (by omega) (by decide), nm_e (nm_e (nm_e ?_))⟩) fun k2 => nm_e (skip (by unfold isCd; rw [k2]; simp)))⟩
      have kc : isCd e.T (e.sg t) (e.al t) i = true := by unfold isCd; rw [k1, k2]; rfl
      have ec : cnt (isCd e.T (e.sg t) (e.al t)) (i + 1) = cnt (isCd e.T (e.sg t) (e.al t)) i + 1 := by show cnt _ i + _ = _; rw [kc]; rfl
      rw [ix_nI (by omega)]
      refine ih _ _ ⟨f.sI _ _ _ rfl, by omega, by rw [ec], fun j hj => ?_⟩
      rw [zI_row]
      by_cases ej : j = cnt (isCd e.T (e.sg t) (e.al t)) i
      · rw [if_pos ej, ej, cdA_eq kc]
      · rw [if_neg ej]; exact h2 j (by omega)
    · have en : cnt (isCd e.T (e.sg t) (e.al t)) i = nCd e.T (e.sg t) (e.al t) := by
        unfold nCd
        have := cnt_mon (p := isCd e.T (e.sg t) (e.al t)) (Nat.le_of_lt hi)
        omega
      rw [en] at h2 ⊢
      exact hr s f h2
/-! the model's -/
/-- what is found -/
abbrev LatM (T : Tw) (sn an : Nat → Int32) (σ : ZS) : Prop := zI σ 44 33 = nI (nCd T sn an) ∧ ∀ j, j < nCd T sn an → zI σ 1147 j = nI (cdA T sn an j)
theorem LatM.fr {T : Tw} {sn an : Nat → Int32} {σ σ' : ZS} {S : Nat → Prop} (h : LatM T sn an σ) (f : Fr S σ σ') (hs : ∀ c, S c → c ≠ 1147 ∧ c ≠ 1000033) : LatM T sn an σ' := by
  refine ⟨?_, fun j hj => ?_⟩
  · rw [f.1 44 33 fun k => (hs _ k).2 rfl]; exact h.1
  · rw [f.1 1147 j fun k => (hs _ k).1 rfl]; exact h.2 j hj
theorem m_isAllowed {T : Tw} {σ : ZS} (h : MT T σ) {sn an : Nat → Int32} (hn : NowM sn an σ) {k : Nat} (hk : k < T.nl) {Ret : Int32 → ZS → Prop} (hr : Ret (b2i (btI (an (T.lf k)) (T.lt k))) σ) : wp_X4_isAllowed σ (nI k) Ret := by
  have := h.wf.nl; have := h.wf.ns; have := h.wf.lf k hk; have := h.wf.lt k hk
  unfold wp_X4_isAllowed
  rw [ix_nI (by omega), ix0, ix1, h.lf k hk, h.lt k hk, ix_nI (by omega), (hn _ (by omega)).2, tst _ (by omega), b2i_1]
  refine ⟨vin (by omega) (by decide), vin (by omega) (by decide), vin (by omega) (by decide), fun k => ?_, fun k => ?_⟩
  · rw [k] at hr; exact hr
  · rw [Bool.not_eq_true] at k; rw [k] at hr; exact hr
theorem m_isSigned {T : Tw} {σ : ZS} (h : MT T σ) {sn an : Nat → Int32} (hn : NowM sn an σ) {k : Nat} (hk : k < T.nl) {Ret : Int32 → ZS → Prop} (hr : Ret (b2i (btI (sn (T.lf k)) (T.lt k))) σ) : wp_X4_isSigned σ (nI k) Ret := by
  have := h.wf.nl; have := h.wf.ns; have := h.wf.lf k hk; have := h.wf.lt k hk
  unfold wp_X4_isSigned
  rw [ix_nI (by omega), ix0, ix1, h.lf k hk, h.lt k hk, ix_nI (by omega), (hn _ (by omega)).1, tst _ (by omega), b2i_1]
  refine ⟨vin (by omega) (by decide), vin (by omega) (by decide), vin (by omega) (by decide), fun k => ?_, fun k => ?_⟩
  · rw [k] at hr; exact hr
  · rw [Bool.not_eq_true] at k; rw [k] at hr; exact hr
def inL (c : Nat) : Prop := c = 564 ∨ c = 565 ∨ c = 1147 ∨ c = 1000033
theorem m_findLater {T : Tw} {tm : Nat} {sg al : Nat → Nat → Int32} {σ : ZS} (h : ME T tm sg al σ) {t : Nat} (ht : t ≤ tm) {Ret : ZS → Prop} (hr : ∀ σ', Fr inL σ σ' → NowM (sg t) (al t) σ' → LatM T (sg t) (al t) σ' → Ret σ') : wp_X4_findLater σ (nI t) Ret := by
  have w := h.mt.wf
  have hns := w.ns
  have hnl := w.nl
  unfold wp_X4_findLater
  refine m_laysTime h ht fun s1 f1 hn1 => nm_e ?_
  have f2 : Fr inL σ (sI s1 44 33 0) := (f1.mono (by intro c hc; unfold inL; omega)).sI 44 33 0 (by unfold inL cd; simp)
  have hn2 : NowM (sg t) (al t) (sI s1 44 33 0) := hn1.fr (Fr.rfl.sI (S := fun c => c = 1000033) 44 33 0 rfl) (by intro c hc; omega)
  refine forL (S := ZS) (fun k s x => VL_X4_findLater_12 Ret k s x) (fun i s => Fr inL σ s ∧ NowM (sg t) (al t) s ∧ cnt (isCd T (sg t) (al t)) i ≤ 14 ∧ zI s 44 33 = nI (cnt (isCd T (sg t) (al t)) i) ∧ ∀ j, j < cnt (isCd T (sg t) (al t)) i → zI s 1147 j = nI (cdA T (sg t) (al t) j)) T.nl ?_ ?_ 0 _ (Nat.zero_le _) ⟨f2, hn2, Nat.zero_le _, zI_self _ _ _ _, fun j hj => absurd hj (Nat.not_lt_zero _)⟩
  · rintro n s ⟨f, hn, h1, h2, h3⟩
    have hs := h.fr f (by intro c hc; unfold inL at hc; unfold scM; omega)
    simp only [VL_X4_findLater_12]
    rw [hs.mt.nl]
    have en : cnt (isCd T (sg t) (al t)) T.nl = nCd T (sg t) (al t) := by unfold nCd; omega
    rw [en] at h2 h3
    exact br_f (nI_nlt (Nat.le_refl _) (by omega)) (hr s f hn ⟨h2, h3⟩)
  · rintro n i s hi ⟨f, hn, h1, h2, h3⟩ ih
    have hs := h.fr f (by intro c hc; unfold inL at hc; unfold scM; omega)
    simp only [VL_X4_findLater_12]
    simp only [nI1]
    rw [hs.mt.nl, h2]
    refine br_t (nI_lt hi (by omega)) ?_
    rw [show (14 : Int32) = nI 14 from rfl, nI_ltI (by omega) (by omega)]
    have skip : isCd T (sg t) (al t) i = false → VL_X4_findLater_12 Ret n s (nI (i + 1)) := by
      intro k
      have ec : cnt (isCd T (sg t) (al t)) (i + 1) = cnt (isCd T (sg t) (al t)) i := by show cnt _ i + _ = _; rw [k]; rfl
      exact ih s ⟨f, hn, by rw [ec]; exact h1, by rw [ec]; exact h2, by rw [ec]; exact h3⟩
    refine ⟨fun h4 => m_isAllowed hs.mt hn hi (br0 (fun k1 => m_isSigned hs.mt hn hi (br0 (fun k2 => ?_) fun k2 => nm_e (skip (by unfold isCd; rw [k2]; simp)))) fun k1 => nm_e (skip (by unfold isCd; rw [k1]; rfl))), fun h4 => ?_⟩
    · rw [h2]
      have kc : isCd T (sg t) (al t) i = true := by unfold isCd; rw [k1, k2]; rfl
      have ec : cnt (isCd T (sg t) (al t)) (i + 1) = cnt (isCd T (sg t) (al t)) i + 1 := by show cnt _ i + _ = _; rw [kc]; rfl
      rw [ix_nI (by omega)]
      refine ⟨vin (by omega) (by decide), nm_e (nm_e (nm_e (ih _ ⟨(f.sI _ _ _ (.inr (.inr (.inl rfl)))).sI _ _ _ (.inr (.inr (.inr rfl))), ?_, by omega, ?_, fun j hj => ?_⟩)))⟩
      · exact hn.fr ((Fr.rfl.sI (S := fun c => c = 1147 ∨ c = 1000033) 1147 _ _ (.inl rfl)).sI 44 33 _ (.inr rfl)) (by intro c hc; omega)
      · rw [zI_self, zI_ne _ (.inl (by decide)), h2, nI1, ec]
      · rw [zI_ne _ (.inl (by decide)), zI_row]
        by_cases ej : j = cnt (isCd T (sg t) (al t)) i
        · rw [if_pos ej, ej, cdA_eq kc]
        · rw [if_neg ej]; exact h3 j (by omega)
    · have en : cnt (isCd T (sg t) (al t)) i = nCd T (sg t) (al t) := by
        unfold nCd
        have := cnt_mon (p := isCd T (sg t) (al t)) (Nat.le_of_lt hi)
        omega
      rw [en] at h2 h3
      exact hr s f hn ⟨h2, h3⟩
/-! candidates -/
def spCand (T : Tw) (tm : Nat) (sg al : Nat → Nat → Int32) (t : Int32) : Nat × Int32 := sp1 (inN t (tm + 1)) (nI (nCd T (sg (ix t)) (al (ix t))))
theorem C_cand {T : Tw} {d : Ad} {tm : Nat} {sg al : Nat → Nat → Int32} {σ : ZS} (h : CQ T d tm sg al σ) {t : Int32} {Ret : Int32 → ZS → Prop} (hr : PC σ Ret (wd (spCand T tm sg al t))) : wp_X0_candidates σ t Ret := by
  unfold wp_X0_candidates wp_X1_candidates
  have ce := h.ce
  obtain ⟨ct, ch, sf, rm⟩ := h
  unfold spCand at hr
  refine c_isTime ch (c_need rm (fun k => ?_) fun k σ' g k2 => ⟨⟨0, k2⟩, hr.thr (c := 1) (sp1_1 k) (by decide) rm.1 sf g⟩)
  rw [sp1_0 k] at hr
  obtain ⟨w, rfl, hw, ew, -⟩ := inN_N k
  rw [ew] at hr
  exact c_findCand ce (by show w ≤ tm; omega) fun s f _ => hr.ok rfl sf f (by intro c hc; omega) rfl
theorem M_cand {T : Tw} {tm : Nat} {sg al : Nat → Nat → Int32} {σ : ZS} (h : ME T tm sg al σ) (hb : zI σ 44 54 = -1) {t : Int32} {Ret : Int32 → ZS → Prop} (hr : PM σ Ret (spCand T tm sg al t)) : wp_X4_candidates σ t Ret := by
  unfold wp_X4_candidates
  refine nm_e ?_
  obtain ⟨h1, hz⟩ := h.z
  unfold spCand at hr
  refine m_isTime h1 (br0 (fun k => ?_) fun k => ?_)
  · unfold V_X4_candidates_19
    exact m_bad1 hz (by decide) (br_f (by decide) (hr.thr (c := 1) (sp1_1 k) (by decide) hb))
  unfold V_X4_candidates_19
  rw [sp1_0 k] at hr
  obtain ⟨w, rfl, hw, ew, -⟩ := inN_N k
  rw [ew] at hr
  refine m_bad0 hz (br_t rfl (m_findLater h1 (t := w) (by omega) fun s f hn hl => ?_))
  rw [hl.1]
  exact hr.ok rfl hb f (by intro c hc; unfold inL at hc; unfold SM; omega) rfl
