/-! PURE HALF: clauses' bodies: the model. -/
set_option maxRecDepth 100000
def SRd (c : Nat) : Prop := c = 46 ∨ (49 ≤ c ∧ c < 65) ∨ (83 ≤ c ∧ c < 107) ∨ (133 ≤ c ∧ c < 145) ∨ c = 158 ∨ c = 159 ∨ c = 1000004 ∨ c = 1000005 ∨ c = 1000006
def MFs (n : Nat) (e : Nat × Nat) (σ : ZS) : Prop := (∃ p, p ≤ n ∧ zI σ 44 4 = nI p) ∧ zI σ 44 5 = nI e.1 ∧ zI σ 44 6 = nI e.2 ∧ 1 ≤ e.1 ∧ e.1 ≤ 3
theorem MFs.f0 {n : Nat} {e : Nat × Nat} {σ : ZS} (h : MFs n e σ) : ¬ zI σ 44 5 = 0 := by
  have := h.2.2.2; rw [h.2.1, nI_eq0 (by omega)]; omega
theorem MF.s {n : Nat} {e : Nat × Nat} {σ σ' : ZS} (h : MF n e σ σ') : MFs n e σ' := h.2
abbrev BTm (n : Nat) (σ : ZS) (res : PR (PT × Nat)) (Ret : ZS → Prop) : Prop := ∀ e, res = .inl e → ∀ σ', Fr SRd σ σ' → MFs n e σ' → Ret σ'
/-- codes written where nothing is wrong -/
def SRs (c : Nat) : Prop := c = 46 ∨ (49 ≤ c ∧ c < 65) ∨ (83 ≤ c ∧ c < 107) ∨ (133 ≤ c ∧ c < 145) ∨ c = 158 ∨ c = 159 ∨ c = 1000004
theorem f4s : ∀ c, c = 1000004 → SRs c := by intro c hc; unfold SRs; omega
theorem SRs_d : ∀ c, SRs c → SRd c := by intro c hc; unfold SRs at hc; unfold SRd; omega
abbrev BRm (σ : ZS) (res : PR (PT × Nat)) (Ret : ZS → Prop) : Prop := ∀ P' q, res = .inr (P', q) → ∀ σ', Fr SRs σ σ' → MQt P' σ' → zI σ' 44 4 = nI q → zI σ' 44 5 = 0 → Ret σ'
theorem f456 : ∀ c, c = 1000004 ∨ c = 1000005 ∨ c = 1000006 → SRd c := by intro c hc; unfold SRd; omega
theorem numR_sk (n : Nat) (tx : Nat → Int32) (k lo m : Nat) : numR n tx (sk n tx k) lo m = numR n tx k lo m := by unfold numR; rw [sk_sk]
theorem m_blanksF {n : Nat} {tx : Nat → Int32} {e : Nat × Nat} {σ : ZS} (h : MXt n tx σ) (hf : MFs n e σ) {Ret : ZS → Prop} (hr : ∀ σ', Fr (fun c => c = 1000004) σ σ' → MFs n e σ' → Ret σ') : wp_X4_blanks σ Ret := by
  obtain ⟨⟨p, hp, e4⟩, h5, h6⟩ := hf
  refine m_blanks h hp e4 (hr _ (Fr.rfl.sI 44 4 _ rfl) ⟨⟨sk n tx p, sk_le hp, zI_self _ _ _ _⟩, ?_, ?_, h6.2⟩)
  · rw [zI_ne _ (.inr (by decide))]; exact h5
  · rw [zI_ne _ (.inr (by decide))]; exact h6.1
theorem m_otherF {n : Nat} {tx : Nat → Int32} {e : Nat × Nat} {σ : ZS} (h : MXt n tx σ) (hf : MFs n e σ) {a b : Int32} {Ret : Int32 → ZS → Prop} (hr : ∀ σ', Fr (fun c => c = 1000004) σ σ' → MFs n e σ' → Ret 0 σ') : wp_X4_other σ a b Ret := by
  unfold wp_X4_other
  refine m_blanksF h hf fun s f hs => nm_e (m_numberF hs.f0 ⟨fun _ => m_wrongF hs.f0 (hr s f hs), fun _ => hr s f hs⟩)
theorem m_other {n : Nat} {tx : Nat → Int32} {σ : ZS} (h : MXt n tx σ) {k mm a : Nat} (hmm : mm ≤ 100) (ha : a < 100) (hk : k ≤ n) (e4 : zI σ 44 4 = nI k) (e5 : zI σ 44 5 = 0) {Ret : Int32 → ZS → Prop} (ok : ∀ v q, numR n tx k 0 mm = .inr (v, q) → v ≠ a → Ret (nI v) (sI σ 44 4 (nI q))) (same : ∀ v q, numR n tx k 0 mm = .inr (v, q) → v = a → ∀ σ', MF n (2, sk n tx k) σ σ' → Ret (nI v) σ') (bad : ∀ e, numR n tx k 0 mm = .inl e → ∀ σ', MF n e σ σ' → Ret 0 σ') : wp_X4_other σ (nI mm - 1) (nI a) Ret := by
  have hn := h.1
  have hsk := sk_le (tx := tx) hk
  unfold wp_X4_other
  refine m_blanks h hk e4 (nm_e ?_)
  rw [zI_self]
  have hs := h.set (j := 4) (by decide) (nI (sk n tx k))
  have e55 : zI (sI σ 44 4 (nI (sk n tx k))) 44 5 = 0 := by rw [zI_ne _ (.inr (by decide))]; exact e5
  refine m_number (lo := 0) hs (by decide) hmm hsk (zI_self _ _ _ _) e55 (fun v q h1 => ?_) (fun e h1 σ' mf => ?_)
  · rw [numR_sk] at h1
    have hv := (numR_ok h1).2
    rw [sI_sI, nI_eq (by omega) (by omega)]
    refine ⟨fun e => ?_, fun e => ok v q h1 e⟩
    unfold wp_X4_wrong
    have hq := (numR_pos hk h1).2
    refine br_t (by rw [zI_ne _ (.inr (by decide))]; exact e5) (nm_e (nm_e (same v q h1 e _ ⟨((Fr.rfl.sI 44 4 _ (.inl rfl)).sI 44 5 _ (.inr (.inl rfl))).sI 44 6 _ (.inr (.inr rfl)), ⟨q, hq, ?_⟩, ?_, zI_self _ _ _ _, by simp, by simp⟩)))
    · rw [zI_ne _ (.inr (by decide)), zI_ne _ (.inr (by decide)), zI_self]
    · rw [zI_ne _ (.inr (by decide)), zI_self]; rfl
  · rw [numR_sk] at h1
    have mf2 : MF n e σ σ' := ⟨(Fr.rfl.sI 44 4 _ (.inl rfl)).trans mf.1, mf.2⟩
    exact ⟨fun _ => m_wrongF mf.f0 (bad e h1 σ' mf2), fun _ => bad e h1 σ' mf2⟩
theorem m_rcF {n : Nat} {P : PT} {e : Nat × Nat} {s : ZS} (hq : MQt P s) (hf : MFs n e s) {x1 x2 x3 : Int32} {Ret : ZS → Prop} (hr : Ret s) : V_X4_readsCorner_28 Ret s x1 x2 x3 0 := by
  have hnc := hq.pw.1.nc
  refine forL (S := ZS) (fun m t y => VL_X4_readsCorner_28 Ret m t x1 x2 x3 y) (fun k t => t = s) P.T.nc ?_ ?_ 0 s (Nat.zero_le _) rfl
  · rintro m t rfl
    simp only [VL_X4_readsCorner_28]
    rw [ix0, hq.m0]
    exact br_f (nI_nlt (Nat.le_refl _) (by omega)) (br_f hf.f0 hr)
  · rintro m k t hk rfl ih
    simp only [VL_X4_readsCorner_28]
    simp only [nI1]
    rw [ix0, hq.m0]
    refine br_t (nI_lt hk (by omega)) ⟨vin (by omega) (by decide), fun _ => ⟨vin (by omega) (by decide), fun _ => m_wrongF hf.f0 (nm_e (ih t rfl)), fun _ => nm_e (ih t rfl)⟩, fun _ => nm_e (ih t rfl)⟩
theorem m_b0 {n : Nat} {tx : Nat → Int32} {P : PT} {σ : ZS} (h : MXt n tx σ) (hq : MQt P σ) {q : Nat} (hqn : q ≤ n) (e4 : zI σ 44 4 = nI q) (e5 : zI σ 44 5 = 0) (hc : P.T.nc < 16) {Ret : ZS → Prop} (ht : BTm n σ (bdy n tx 0 P q) Ret) (hr : BRm σ (bdy n tx 0 P q) Ret) : wp_X4_readsCorner σ Ret := by
  unfold wp_X4_readsCorner
  rw [show (99 : Int32) = nI 100 - 1 from rfl]
  refine m_number (lo := 0) h (by decide) (Nat.le_refl _) hqn e4 e5 (fun x q1 h1 => ?_) fun e he s mf => ?_
  · have hq1 := (numR_pos hqn h1).2
    have h1' := h.set (j := 4) (by decide) (nI q1)
    have hsk := sk_le (tx := tx) hq1
    refine m_blanks h1' hq1 (zI_self _ _ _ _) (nm_e ?_)
    rw [zI_self, sI_sI]
    have h2' := h.set (j := 4) (by decide) (nI (sk n tx q1))
    have e52 : zI (sI σ 44 4 (nI (sk n tx q1))) 44 5 = 0 := by rw [zI_ne _ (.inr (by decide))]; exact e5
    have hx := (numR_ok h1).2
    refine m_number (lo := 0) h2' (by decide) (Nat.le_refl _) hsk (zI_self _ _ _ _) e52 (fun y q2 h2 => ?_) fun e he s mf => ?_
    · rw [numR_sk] at h2
      have hy := (numR_ok h2).2
      have hq2 := (numR_pos hq1 h2).2
      rw [sI_sI]
      have hres : bdy n tx 0 P q = if dupC P.T x y then .inl (2, sk n tx q1) else .inr ((adC P.T x y, P.sg, P.al, P.cl), q2) := by
        unfold bdy; rw [h1]; show pB (numR n tx q1 0 100) _ = _; rw [h2]; rfl
      have f2 : Fr (fun c => c = 1000004 ∨ c = 1000005 ∨ c = 1000006) σ (sI σ 44 4 (nI q2)) := Fr.rfl.sI 44 4 _ (.inl rfl)
      have mq2 := hq.fr f2 (by intro c hc; unfold noQ; omega)
      have e42 : zI (sI σ 44 4 (nI q2)) 44 4 = nI q2 := zI_self _ _ _ _
      have e522 : zI (sI σ 44 4 (nI q2)) 44 5 = 0 := by rw [zI_ne _ (.inr (by decide))]; exact e5
      have f2s : Fr (fun c => c = 1000004) σ (sI σ 44 4 (nI q2)) := Fr.rfl.sI 44 4 _ rfl
      generalize sI σ 44 4 (nI q2) = s2 at f2 mq2 e42 e522 f2s
      refine forL (S := ZS) (fun m t y' => VL_X4_readsCorner_28 Ret m t (nI x) (nI (sk n tx q1)) (nI y) y') (fun k t => MQt P t ∧ Fr (fun c => c = 1000004 ∨ c = 1000005 ∨ c = 1000006) σ t ∧ ((t = s2 ∧ ∀ j, j < k → ¬ (P.T.cx j = nI x ∧ P.T.cy j = nI y)) ∨ (dupC P.T x y = true ∧ MFs n (2, sk n tx q1) t))) P.T.nc ?_ ?_ 0 s2 (Nat.zero_le _) ⟨mq2, f2, .inl ⟨rfl, fun j hj => absurd hj (Nat.not_lt_zero _)⟩⟩
      · rintro m t ⟨mq, ft, hd⟩
        simp only [VL_X4_readsCorner_28]
        rw [ix0, mq.m0, ix_nI (by omega)]
        refine br_f (nI_nlt (Nat.le_refl _) (by omega)) ?_
        rcases hd with ⟨rfl, hno⟩ | ⟨hd, mf⟩
        · have hdup : dupC P.T x y = false := by
            cases k : dupC P.T x y
            · rfl
            · obtain ⟨j, hj, h⟩ := dupC_iff.mp k; exact absurd h (hno j hj)
          rw [hdup] at hres
          refine br_t e522 ⟨vin (by omega) (by decide), nm_e ?_⟩
          have em : zI (sI t (48 + 1 + P.T.nc) 0 (nI x)) 46 0 = nI P.T.nc := by rw [zI_ne _ (.inl (by omega))]; exact mq.m0
          rw [em, ix_nI (by omega), ix1]
          have em2 : zI (sI (sI t (48 + 1 + P.T.nc) 0 (nI x)) (48 + 1 + P.T.nc) 1 (nI y)) 46 0 = nI P.T.nc := by rw [zI_ne _ (.inl (by omega))]; exact em
          refine ⟨vin (by omega) (by decide), nm_e (nm_e ?_)⟩
          rw [em2, nI1]
          have cr : ∀ i, SRs (cd (48 + 1 + P.T.nc) i) := fun i => by unfold SRs cd; rw [if_neg (by omega), if_neg (by omega)]; omega
          refine hr _ _ hres _ ((((f2s.mono f4s).sI _ _ _ (cr _)).sI _ _ _ (cr _)).sI 46 0 _ (.inl rfl)) (mq.adC hc ⟨WF_adC mq.pw.1 hc x y, mq.pw.2⟩) ?_ ?_
          · rw [zI_ne _ (.inl (by decide)), zI_ne _ (.inl (by omega)), zI_ne _ (.inl (by omega))]; exact e42
          · rw [zI_ne _ (.inl (by decide)), zI_ne _ (.inl (by omega)), zI_ne _ (.inl (by omega))]; exact e522
        · rw [hd] at hres
          exact br_f mf.f0 (ht _ hres t (ft.mono f456) mf)
      · rintro m k t hk ⟨mq, ft, hd⟩ ih
        simp only [VL_X4_readsCorner_28]
        simp only [nI1]
        rw [ix0, ix1, mq.m0, ix_nI (by omega), mq.cx k hk, mq.cy k hk]
        refine br_t (nI_lt hk (by omega)) ⟨vin (by omega) (by decide), fun ec => ⟨vin (by omega) (by decide), fun ed => ?_, fun ed => nm_e (ih t ⟨mq, ft, ?_⟩)⟩, fun ec => nm_e (ih t ⟨mq, ft, ?_⟩)⟩
        · have hdup : dupC P.T x y = true := dupC_iff.mpr ⟨k, hk, ec, ed⟩
          rcases hd with ⟨rfl, hno⟩ | ⟨hd, mf⟩
          · unfold wp_X4_wrong
            have fw := (ft.sI 44 5 2 (.inr (.inl rfl))).sI 44 6 (nI (sk n tx q1)) (.inr (.inr rfl))
            refine br_t e522 (nm_e (nm_e (nm_e (ih _ ⟨hq.fr fw (by intro c hc; unfold noQ; omega), fw, .inr ⟨hdup, ⟨q2, hq2, ?_⟩, ?_, zI_self _ _ _ _, by simp, by simp⟩⟩))))
            · rw [zI_ne _ (.inr (by decide)), zI_ne _ (.inr (by decide))]; exact e42
            · rw [zI_ne _ (.inr (by decide)), zI_self]; rfl
          · exact m_wrongF mf.f0 (nm_e (ih t ⟨mq, ft, .inr ⟨hd, mf⟩⟩))
        · rcases hd with ⟨rfl, hno⟩ | hd
          · refine .inl ⟨rfl, fun j hj => ?_⟩
            by_cases ej : j = k
            · rw [ej]; exact fun h => ed h.2
            · exact hno j (by omega)
          · exact .inr hd
        · rcases hd with ⟨rfl, hno⟩ | hd
          · refine .inl ⟨rfl, fun j hj => ?_⟩
            by_cases ej : j = k
            · rw [ej]; exact fun h => ec h.1
            · exact hno j (by omega)
          · exact .inr hd
    · rw [numR_sk] at he
      have fs : Fr (fun c => c = 1000004 ∨ c = 1000005 ∨ c = 1000006) σ s := (Fr.rfl.sI 44 4 _ (.inl rfl)).trans mf.1
      exact m_rcF (hq.fr fs (by intro c hc; unfold noQ; omega)) mf.s (ht e (by unfold bdy; rw [h1]; show pB (numR n tx q1 0 100) _ = _; rw [he]; rfl) s (fs.mono f456) mf.s)
  · have hs := h.fr mf.1 (by intro c hc; omega)
    refine m_blanksF hs mf.s fun s2 f2 mf2 => nm_e (m_numberF mf2.f0 ?_)
    have fs : Fr (fun c => c = 1000004 ∨ c = 1000005 ∨ c = 1000006) σ s2 := mf.1.trans (f2.mono (by intro c hc; omega))
    exact m_rcF (hq.fr fs (by intro c hc; unfold noQ; omega)) mf2 (ht e (by unfold bdy; rw [he]; rfl) s2 (fs.mono f456) mf2)
