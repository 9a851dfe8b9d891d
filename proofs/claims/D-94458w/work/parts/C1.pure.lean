/-! PURE HALF: clauses bodies: the model, II. -/
set_option maxRecDepth 100000
theorem m_b1 {n : Nat} {tx : Nat → Int32} {P : PT} {σ : ZS} (h : MXt n tx σ) (hq : MQt P σ) {q : Nat} (hqn : q ≤ n) (e4 : zI σ 44 4 = nI q) (e5 : zI σ 44 5 = 0) (hc : P.T.ns < 24) {Ret : ZS → Prop} (ht : BTm n σ (bdy n tx 1 P q) Ret) (hr : BRm σ (bdy n tx 1 P q) Ret) : wp_X4_readsStreet σ Ret := by
  have hnc := hq.pw.1.nc
  unfold wp_X4_readsStreet
  rw [ix0, ix1, ix2, ix3, hq.m0]
  -- a fault goes through
  have thr : ∀ e, bdy n tx 1 P q = .inl e → ∀ s, Fr (fun c => c = 1000004 ∨ c = 1000005 ∨ c = 1000006) σ s → MFs n e s → ∀ r1 r3 : Int32, wp_X4_number s 1 99 (fun r5 σ6 => (((zI σ6 44 5) = 0 → (vp_in (zI σ6 46 1) 24 ∧ (∀ σ8 : ZS, σ8 = sI σ6 (82 + 1 + ix (zI σ6 46 1)) 0 r1 → (∀ σ9 : ZS, σ9 = sI σ8 (82 + 1 + ix (zI σ6 46 1)) 1 r3 → (∀ σ10 : ZS, σ10 = sI σ9 (82 + 1 + ix (zI σ6 46 1)) 2 r5 → (∀ σ11 : ZS, σ11 = sI σ10 (82 + 1 + ix (zI σ6 46 1)) 3 0 → (∀ σ12 : ZS, σ12 = sI σ11 46 1 ((zI σ11 46 1) + 1) → (Ret σ12)))))))) ∧ (¬ (zI σ6 44 5) = 0 → (Ret σ6)))) := fun e he s fs mf r1 r3 =>
    m_numberF mf.f0 (br_f mf.f0 (ht e he s (fs.mono f456) mf))
  refine m_number (lo := 0) h (by decide) (by omega) hqn e4 e5 (fun a q1 h1 => ?_) fun e he s mf => ?_
  · have hq1 := (numR_pos hqn h1).2
    have ha := (numR_ok h1).2
    have f1 : Fr (fun c => c = 1000004 ∨ c = 1000005 ∨ c = 1000006) σ (sI σ 44 4 (nI q1)) := Fr.rfl.sI 44 4 _ (.inl rfl)
    have h1' := h.set (j := 4) (by decide) (nI q1)
    have mq1 := hq.fr f1 (by intro c hc; unfold noQ; omega)
    have e51 : zI (sI σ 44 4 (nI q1)) 44 5 = 0 := by rw [zI_ne _ (.inr (by decide))]; exact e5
    rw [mq1.m0]
    refine m_other h1' (by omega) (by omega) hq1 (zI_self _ _ _ _) e51 (fun b q2 h2 hne => ?_) (fun b q2 h2 he s mf => ?_) (fun e he s mf => ?_)
    · have hq2 := (numR_pos hq1 h2).2
      have hb := (numR_ok h2).2
      rw [sI_sI]
      have hres : bdy n tx 1 P q = pB (numR n tx q2 1 100) fun r3 => .inr ((adS P.T a b r3.1, P.sg, P.al, P.cl), r3.2) := by
        unfold bdy; rw [h1]; show pB (numR n tx q1 0 P.T.nc) _ = _; rw [h2]; exact if_neg (fun k => hne k.symm)
      have h2' := h.set (j := 4) (by decide) (nI q2)
      have e52 : zI (sI σ 44 4 (nI q2)) 44 5 = 0 := by rw [zI_ne _ (.inr (by decide))]; exact e5
      rw [show (99 : Int32) = nI 100 - 1 from rfl]
      refine m_number (lo := 1) h2' (by decide) (Nat.le_refl _) hq2 (zI_self _ _ _ _) e52 (fun l q3 h3 => ?_) fun e he s mf => ?_
      · obtain ⟨hl1, hl2⟩ := numR_ok h3
        rw [h3] at hres
        change bdy n tx 1 P q = .inr ((adS P.T a b l, P.sg, P.al, P.cl), q3) at hres
        rw [sI_sI]
        have f3 : Fr (fun c => c = 1000004 ∨ c = 1000005 ∨ c = 1000006) σ (sI σ 44 4 (nI q3)) := Fr.rfl.sI 44 4 _ (.inl rfl)
        have mq3 := hq.fr f3 (by intro c hc; unfold noQ; omega)
        have e43 : zI (sI σ 44 4 (nI q3)) 44 4 = nI q3 := zI_self _ _ _ _
        have e53 : zI (sI σ 44 4 (nI q3)) 44 5 = 0 := by rw [zI_ne _ (.inr (by decide))]; exact e5
        have f3s : Fr (fun c => c = 1000004) σ (sI σ 44 4 (nI q3)) := Fr.rfl.sI 44 4 _ rfl
        generalize sI σ 44 4 (nI q3) = s3 at f3 mq3 e43 e53 f3s
        rw [mq3.m1, ix_nI (by omega)]
        refine br_t e53 ⟨vin (by omega) (by decide), nm_e (nm_e (nm_e (nm_e (nm_e ?_))))⟩
        have em : zI (sI (sI (sI (sI s3 (82 + 1 + P.T.ns) 0 (nI a)) (82 + 1 + P.T.ns) 1 (nI b)) (82 + 1 + P.T.ns) 2 (nI l)) (82 + 1 + P.T.ns) 3 0) 46 1 = nI P.T.ns := by rw [zI_ne _ (.inl (by omega)), zI_ne _ (.inl (by omega)), zI_ne _ (.inl (by omega)), zI_ne _ (.inl (by omega))]; exact mq3.m1
        rw [em, nI1]
        have cr : ∀ i, SRs (cd (82 + 1 + P.T.ns) i) := fun i => by unfold SRs cd; rw [if_neg (by omega), if_neg (by omega)]; omega
        refine hr _ _ hres _ ((((((f3s.mono f4s).sI _ _ _ (cr _)).sI _ _ _ (cr _)).sI _ _ _ (cr _)).sI _ _ _ (cr _)).sI 46 1 _ (.inl rfl)) (mq3.adS hc ⟨WF_adS mq3.pw.1 mq3.pw.2 hc ha hb (fun k => hne k.symm) hl1 hl2, mq3.pw.2⟩) ?_ ?_
        · rw [zI_ne _ (.inl (by decide)), zI_ne _ (.inl (by omega)), zI_ne _ (.inl (by omega)), zI_ne _ (.inl (by omega)), zI_ne _ (.inl (by omega))]; exact e43
        · rw [zI_ne _ (.inl (by decide)), zI_ne _ (.inl (by omega)), zI_ne _ (.inl (by omega)), zI_ne _ (.inl (by omega)), zI_ne _ (.inl (by omega))]; exact e53
      · rw [he] at hres
        exact br_f mf.f0 (ht e hres s (((Fr.rfl.sI 44 4 _ (.inl rfl)).trans mf.1).mono f456) mf.s)
    · refine thr (2, sk n tx q1) ?_ s (f1.trans mf.1) mf.s _ _
      unfold bdy; rw [h1]; show pB (numR n tx q1 0 P.T.nc) _ = _; rw [h2]; exact if_pos he.symm
    · refine thr e ?_ s (f1.trans mf.1) mf.s _ _
      unfold bdy; rw [h1]; show pB (numR n tx q1 0 P.T.nc) _ = _; rw [he]; rfl
  · have hs := h.fr mf.1 (by intro c hc; omega)
    exact m_otherF hs mf.s fun s2 f2 mf2 => thr e (by unfold bdy; rw [he]; rfl) s2 (mf.1.trans (f2.mono (by intro c hc; omega))) mf2 _ _
theorem m_b6 {n : Nat} {tx : Nat → Int32} {P : PT} {σ : ZS} (h : MXt n tx σ) (hq : MQt P σ) {q : Nat} (hqn : q ≤ n) (e4 : zI σ 44 4 = nI q) (e5 : zI σ 44 5 = 0) (hc : P.T.nr < 12) {Ret : ZS → Prop} (ht : BTm n σ (bdy n tx 6 P q) Ret) (hr : BRm σ (bdy n tx 6 P q) Ret) : wp_X4_readsRider σ Ret := by
  have hnc := hq.pw.1.nc
  unfold wp_X4_readsRider
  rw [ix0, ix1, ix2, ix3, hq.m0]
  -- a fault goes through
  have thr : ∀ e, bdy n tx 6 P q = .inl e → ∀ s, Fr (fun c => c = 1000004 ∨ c = 1000005 ∨ c = 1000006) σ s → MFs n e s → ∀ r1 r3 : Int32, wp_X4_number s 0 99 (fun r5 σ6 => (((zI σ6 44 5) = 0 → (vp_in (zI σ6 46 3) 12 ∧ (∀ σ8 : ZS, σ8 = sI σ6 (132 + 1 + ix (zI σ6 46 3)) 0 r1 → (∀ σ9 : ZS, σ9 = sI σ8 (132 + 1 + ix (zI σ6 46 3)) 1 r3 → (∀ σ10 : ZS, σ10 = sI σ9 (132 + 1 + ix (zI σ6 46 3)) 2 r5 → (∀ σ11 : ZS, σ11 = sI σ10 46 3 ((zI σ10 46 3) + 1) → (Ret σ11))))))) ∧ (¬ (zI σ6 44 5) = 0 → (Ret σ6)))) := fun e he s fs mf r1 r3 =>
    m_numberF mf.f0 (br_f mf.f0 (ht e he s (fs.mono f456) mf))
  refine m_number (lo := 0) h (by decide) (by omega) hqn e4 e5 (fun a q1 h1 => ?_) fun e he s mf => ?_
  · have hq1 := (numR_pos hqn h1).2
    have ha := (numR_ok h1).2
    have f1 : Fr (fun c => c = 1000004 ∨ c = 1000005 ∨ c = 1000006) σ (sI σ 44 4 (nI q1)) := Fr.rfl.sI 44 4 _ (.inl rfl)
    have h1' := h.set (j := 4) (by decide) (nI q1)
    have mq1 := hq.fr f1 (by intro c hc; unfold noQ; omega)
    have e51 : zI (sI σ 44 4 (nI q1)) 44 5 = 0 := by rw [zI_ne _ (.inr (by decide))]; exact e5
    rw [mq1.m0]
    refine m_other h1' (by omega) (by omega) hq1 (zI_self _ _ _ _) e51 (fun b q2 h2 hne => ?_) (fun b q2 h2 he s mf => ?_) (fun e he s mf => ?_)
    · have hq2 := (numR_pos hq1 h2).2
      have hb := (numR_ok h2).2
      rw [sI_sI]
      have hres : bdy n tx 6 P q = pB (numR n tx q2 0 100) fun r3 => .inr ((adR P.T a b r3.1, P.sg, P.al, P.cl), r3.2) := by
        unfold bdy; rw [h1]; show pB (numR n tx q1 0 P.T.nc) _ = _; rw [h2]; exact if_neg (fun k => hne k.symm)
      have h2' := h.set (j := 4) (by decide) (nI q2)
      have e52 : zI (sI σ 44 4 (nI q2)) 44 5 = 0 := by rw [zI_ne _ (.inr (by decide))]; exact e5
      rw [show (99 : Int32) = nI 100 - 1 from rfl]
      refine m_number (lo := 0) h2' (by decide) (Nat.le_refl _) hq2 (zI_self _ _ _ _) e52 (fun l q3 h3 => ?_) fun e he s mf => ?_
      · obtain ⟨hl1, hl2⟩ := numR_ok h3
        rw [h3] at hres
        change bdy n tx 6 P q = .inr ((adR P.T a b l, P.sg, P.al, P.cl), q3) at hres
        rw [sI_sI]
        have f3 : Fr (fun c => c = 1000004 ∨ c = 1000005 ∨ c = 1000006) σ (sI σ 44 4 (nI q3)) := Fr.rfl.sI 44 4 _ (.inl rfl)
        have mq3 := hq.fr f3 (by intro c hc; unfold noQ; omega)
        have e43 : zI (sI σ 44 4 (nI q3)) 44 4 = nI q3 := zI_self _ _ _ _
        have e53 : zI (sI σ 44 4 (nI q3)) 44 5 = 0 := by rw [zI_ne _ (.inr (by decide))]; exact e5
        have f3s : Fr (fun c => c = 1000004) σ (sI σ 44 4 (nI q3)) := Fr.rfl.sI 44 4 _ rfl
        generalize sI σ 44 4 (nI q3) = s3 at f3 mq3 e43 e53 f3s
        rw [mq3.m3, ix_nI (by omega)]
        refine br_t e53 ⟨vin (by omega) (by decide), nm_e (nm_e (nm_e (nm_e ?_)))⟩
        have em : zI (sI (sI (sI s3 (132 + 1 + P.T.nr) 0 (nI a)) (132 + 1 + P.T.nr) 1 (nI b)) (132 + 1 + P.T.nr) 2 (nI l)) 46 3 = nI P.T.nr := by rw [zI_ne _ (.inl (by omega)), zI_ne _ (.inl (by omega)), zI_ne _ (.inl (by omega))]; exact mq3.m3
        rw [em, nI1]
        have cr : ∀ i, SRs (cd (132 + 1 + P.T.nr) i) := fun i => by unfold SRs cd; rw [if_neg (by omega), if_neg (by omega)]; omega
        refine hr _ _ hres _ (((((f3s.mono f4s).sI _ _ _ (cr _)).sI _ _ _ (cr _)).sI _ _ _ (cr _)).sI 46 3 _ (.inl rfl)) (mq3.adR hc ⟨WF_adR mq3.pw.1 hc ha hb (fun k => hne k.symm) hl2, mq3.pw.2⟩) ?_ ?_
        · rw [zI_ne _ (.inl (by decide)), zI_ne _ (.inl (by omega)), zI_ne _ (.inl (by omega)), zI_ne _ (.inl (by omega))]; exact e43
        · rw [zI_ne _ (.inl (by decide)), zI_ne _ (.inl (by omega)), zI_ne _ (.inl (by omega)), zI_ne _ (.inl (by omega))]; exact e53
      · rw [he] at hres
        exact br_f mf.f0 (ht e hres s (((Fr.rfl.sI 44 4 _ (.inl rfl)).trans mf.1).mono f456) mf.s)
    · refine thr (2, sk n tx q1) ?_ s (f1.trans mf.1) mf.s _ _
      unfold bdy; rw [h1]; show pB (numR n tx q1 0 P.T.nc) _ = _; rw [h2]; exact if_pos he.symm
    · refine thr e ?_ s (f1.trans mf.1) mf.s _ _
      unfold bdy; rw [h1]; show pB (numR n tx q1 0 P.T.nc) _ = _; rw [he]; rfl
  · have hs := h.fr mf.1 (by intro c hc; omega)
    exact m_otherF hs mf.s fun s2 f2 mf2 => thr e (by unfold bdy; rw [he]; rfl) s2 (mf.1.trans (f2.mono (by intro c hc; omega))) mf2 _ _
theorem m_b2 {n : Nat} {tx : Nat → Int32} {P : PT} {σ : ZS} (h : MXt n tx σ) (hq : MQt P σ) {q : Nat} (hqn : q ≤ n) (e4 : zI σ 44 4 = nI q) (e5 : zI σ 44 5 = 0) {Ret : ZS → Prop} (ht : BTm n σ (bdy n tx 2 P q) Ret) (hr : BRm σ (bdy n tx 2 P q) Ret) : wp_X4_readsOne σ Ret := by
  have hns := hq.pw.1.ns
  unfold wp_X4_readsOne
  rw [ix1, hq.m1]
  refine m_number (lo := 0) h (by decide) (by omega) hqn e4 e5 (fun s q1 h1 => ?_) fun e he s mf => br_f mf.f0 (ht e (by unfold bdy; rw [he]; rfl) s (mf.1.mono f456) mf.s)
  have hs := (numR_ok h1).2
  have f1 : Fr (fun c => c = 1000004 ∨ c = 1000005 ∨ c = 1000006) σ (sI σ 44 4 (nI q1)) := Fr.rfl.sI 44 4 _ (.inl rfl)
  have mq1 := hq.fr f1 (by intro c hc; unfold noQ; omega)
  refine br_t (by rw [zI_ne _ (.inr (by decide))]; exact e5) ⟨vin (by omega) (by decide), nm_e ?_⟩
  rw [ix_nI (by omega), ix3]
  refine hr _ _ (by unfold bdy; rw [h1]; rfl) _ (((Fr.rfl.sI 44 4 _ rfl : Fr (fun c => c = 1000004) σ _).mono f4s).sI _ _ _ (by unfold SRs cd; rw [if_neg (by omega), if_neg (by omega)]; omega)) (mq1.stO hs ⟨WF_stO hq.pw.1 s, hq.pw.2⟩) ?_ ?_
  · rw [zI_ne _ (.inl (by omega)), zI_self]
  · rw [zI_ne _ (.inl (by omega)), zI_ne _ (.inr (by decide))]; exact e5
theorem m_b5 {n : Nat} {tx : Nat → Int32} {P : PT} {σ : ZS} (h : MXt n tx σ) (hq : MQt P σ) {q : Nat} (hqn : q ≤ n) (e4 : zI σ 44 4 = nI q) (e5 : zI σ 44 5 = 0) (hc : cnt (btI P.T.bx) 24 ≠ 10) {Ret : ZS → Prop} (ht : BTm n σ (bdy n tx 5 P q) Ret) (hr : BRm σ (bdy n tx 5 P q) Ret) : wp_X4_readsBox σ Ret := by
  have hnc := hq.pw.1.nc
  unfold wp_X4_readsBox
  rw [ix0, ix2, hq.m0]
  refine m_number (lo := 0) h (by decide) (by omega) hqn e4 e5 (fun c q1 h1 => ?_) fun e he s mf => br_f mf.f0 (ht e (by unfold bdy; rw [he]; rfl) s (mf.1.mono f456) mf.s)
  have hcc := (numR_ok h1).2
  have f1 : Fr (fun c => c = 1000004 ∨ c = 1000005 ∨ c = 1000006) σ (sI σ 44 4 (nI q1)) := Fr.rfl.sI 44 4 _ (.inl rfl)
  have mq1 := hq.fr f1 (by intro c hc; unfold noQ; omega)
  refine br_t (by rw [zI_ne _ (.inr (by decide))]; exact e5) (nm_e ?_)
  rw [mq1.m2]
  refine hr _ _ (by unfold bdy; rw [h1]; rfl) _ (((Fr.rfl.sI 44 4 _ rfl : Fr (fun c => c = 1000004) σ _).mono f4s).sI 46 2 _ (.inl rfl)) (mq1.stB ⟨WF_stB hq.pw.1 hcc hc, hq.pw.2⟩) ?_ ?_
  · rw [zI_ne _ (.inl (by decide)), zI_self]
  · rw [zI_ne _ (.inl (by decide)), zI_ne _ (.inr (by decide))]; exact e5
theorem ps82 (σ : ZS) {t : Nat} (h : t < 24) : kP NS σ 82 t = some (.inl (82 + 1 + t)) ∧ kK NS σ (82 + 1 + t) = (0, 4) := by
  have h2 : ∀ i : Fin 24, Pst 82 i.val = some (82 + 1 + i.val) ∧ Kst (82 + 1 + i.val) = (0, 4) := by decide +kernel
  have h3 := h2 ⟨t, h⟩
  constructor
  · unfold kP; rw [if_pos (by decide), h3.1]
  · unfold kK; rw [if_pos (by show _ < 1239; omega), h3.2]
theorem m_meet82 {P : PT} {σ : ZS} (mt : MQt P σ) {s t : Nat} (hs : s < P.T.ns) (ht : t < P.T.ns) {Ret : Int32 → ZS → Prop} (hr : Ret (b2i (meT P.T s t)) σ) : wp_X4_meet σ 82 (nI s) (nI t) Ret := by
  have w := mt.pw.1
  have hns := w.ns
  have hnc := w.nc
  have := w.sf s hs; have := w.st s hs; have := w.sf t ht; have := w.st t ht
  have k0 : kK NS σ 82 = (4, 24) := rfl
  have v1 : vp_in (nI s) 24 := vin (by omega) (by decide)
  have v2 : vp_in (nI t) 24 := vin (by omega) (by decide)
  have a0 : vp_in 0 4 := vin (n := 0) (by decide) (by decide)
  have a1 : vp_in 1 4 := vin (n := 1) (by decide) (by decide)
  have ks := (ps82 σ (show s < 24 by omega)).2
  have kt := (ps82 σ (show t < 24 by omega)).2
  unfold wp_X4_meet
  unfold meT at hr
  rw [ix_nI (by omega), ix_nI (by omega), (ps82 σ (show s < 24 by omega)).1, (ps82 σ (show t < 24 by omega)).1, zo_in, zo_in, ix0, ix1, mt.sf s hs, mt.st s hs, mt.sf t ht, mt.st t ht, nI_eq (by omega) (by omega), nI_eq (by omega) (by omega), nI_eq (by omega) (by omega), nI_eq (by omega) (by omega)]
  refine ⟨24, k0, v1, rfl, 4, ks, a0, 24, k0, v2, rfl, 4, kt, a0, fun e1 => by simpa [e1, b2i] using hr, fun e1 => ⟨24, k0, v1, rfl, 4, ks, a0, 24, k0, v2, rfl, 4, kt, a1, fun e2 => by simpa [e2, b2i] using hr, fun e2 => ⟨24, k0, v1, rfl, 4, ks, a1, 24, k0, v2, rfl, 4, kt, a0, fun e3 => by simpa [e3, b2i] using hr, fun e3 => ⟨24, k0, v1, rfl, 4, ks, a1, 24, k0, v2, rfl, 4, kt, a1, fun e4 => by simpa [e4, b2i] using hr, fun e4 => by simpa [e1, e2, e3, e4, b2i] using hr⟩⟩⟩⟩
theorem m_b34 {n : Nat} {tx : Nat → Int32} {P : PT} {σ : ZS} (h : MXt n tx σ) (hq : MQt P σ) {q : Nat} (hqn : q ≤ n) (e4 : zI σ 44 4 = nI q) (e5 : zI σ 44 5 = 0) {κ A : Nat} (hκ : (κ = 3 ∧ A = 158) ∨ (κ = 4 ∧ A = 159)) {Ret : ZS → Prop} (ht : BTm n σ (bdy n tx κ P q) Ret) (hr : BRm σ (bdy n tx κ P q) Ret) : wp_X4_readsTurn σ A Ret := by
  have hns := hq.pw.1.ns
  have hbd : ∀ a q1 b q2, numR n tx q 0 P.T.ns = .inr (a, q1) → numR n tx q1 0 P.T.ns = .inr (b, q2) → bdy n tx κ P q = if a = b ∨ meT P.T a b = false then .inl (2, sk n tx q1) else .inr ((P.T, if κ = 3 then orB P.sg a b else P.sg, if κ = 3 then P.al else orB P.al a b, P.cl), q2) := fun a q1 b q2 h1 h2 => by
    rcases hκ with ⟨rfl, -⟩ | ⟨rfl, -⟩
    · unfold bdy; rw [h1]; show pB (numR n tx q1 0 P.T.ns) _ = _; rw [h2]; rfl
    · unfold bdy; rw [h1]; show pB (numR n tx q1 0 P.T.ns) _ = _; rw [h2]; rfl
  have hb1 : ∀ e, numR n tx q 0 P.T.ns = .inl e → bdy n tx κ P q = .inl e := fun e h => by
    rcases hκ with ⟨rfl, -⟩ | ⟨rfl, -⟩ <;> (unfold bdy; rw [h]; rfl)
  have hb2 : ∀ a q1 e, numR n tx q 0 P.T.ns = .inr (a, q1) → numR n tx q1 0 P.T.ns = .inl e → bdy n tx κ P q = .inl e := fun a q1 e h1 h => by
    rcases hκ with ⟨rfl, -⟩ | ⟨rfl, -⟩ <;> (unfold bdy; rw [h1]; show pB (numR n tx q1 0 P.T.ns) _ = _; rw [h]; rfl)
  have kA : ∀ s, kK NS s A = (0, 24) := fun s => by rcases hκ with ⟨-, rfl⟩ | ⟨-, rfl⟩ <;> rfl
  unfold wp_X4_readsTurn
  rw [ix1, hq.m1]
  have thr : ∀ e, bdy n tx κ P q = .inl e → ∀ s, Fr (fun c => c = 1000004 ∨ c = 1000005 ∨ c = 1000006) σ s → MFs n e s → ∀ r1 r2 : Int32, V_X4_readsTurn_64 Ret s A r1 r2 := fun e he s fs mf r1 r2 => by
    unfold V_X4_readsTurn_64
    exact br_f mf.f0 (ht e he s (fs.mono f456) mf)
  refine m_number (lo := 0) h (by decide) (by omega) hqn e4 e5 (fun a q1 h1 => ?_) fun e he s mf => ?_
  · have hq1 := (numR_pos hqn h1).2
    have ha := (numR_ok h1).2
    have hsk := sk_le (tx := tx) hq1
    have h1' := h.set (j := 4) (by decide) (nI q1)
    refine m_blanks h1' hq1 (zI_self _ _ _ _) (nm_e ?_)
    rw [zI_self, sI_sI]
    have f1 : Fr (fun c => c = 1000004 ∨ c = 1000005 ∨ c = 1000006) σ (sI σ 44 4 (nI (sk n tx q1))) := Fr.rfl.sI 44 4 _ (.inl rfl)
    have mq1 := hq.fr f1 (by intro c hc; unfold noQ; omega)
    have h2' := h.set (j := 4) (by decide) (nI (sk n tx q1))
    have e51 : zI (sI σ 44 4 (nI (sk n tx q1))) 44 5 = 0 := by rw [zI_ne _ (.inr (by decide))]; exact e5
    rw [mq1.m1]
    refine m_other h2' (by omega) (by omega) hsk (zI_self _ _ _ _) e51 (fun b q2 h2 hne => ?_) (fun b q2 h2 he s mf => ?_) (fun e he s mf => ?_)
    · rw [numR_sk] at h2
      have hq2 := (numR_pos hq1 h2).2
      have hb := (numR_ok h2).2
      rw [sI_sI]
      have hres := hbd a q1 b q2 h1 h2
      have f2 : Fr (fun c => c = 1000004 ∨ c = 1000005 ∨ c = 1000006) σ (sI σ 44 4 (nI q2)) := Fr.rfl.sI 44 4 _ (.inl rfl)
      have mq2 := hq.fr f2 (by intro c hc; unfold noQ; omega)
      have e42 : zI (sI σ 44 4 (nI q2)) 44 4 = nI q2 := zI_self _ _ _ _
      have e52 : zI (sI σ 44 4 (nI q2)) 44 5 = 0 := by rw [zI_ne _ (.inr (by decide))]; exact e5
      have f2s : Fr (fun c => c = 1000004) σ (sI σ 44 4 (nI q2)) := Fr.rfl.sI 44 4 _ rfl
      generalize sI σ 44 4 (nI q2) = s2 at f2 mq2 e42 e52 f2s
      refine br_t e52 (m_meet82 mq2 ha hb (br0 (fun k => ?_) fun k => ?_))
      · rw [if_pos (.inr k)] at hres
        unfold wp_X4_wrong
        refine br_t e52 (nm_e (nm_e (thr _ hres _ ((f2.sI 44 5 _ (.inr (.inl rfl))).sI 44 6 _ (.inr (.inr rfl))) ⟨⟨q2, hq2, ?_⟩, ?_, zI_self _ _ _ _, by simp, by simp⟩ _ _)))
        · rw [zI_ne _ (.inr (by decide)), zI_ne _ (.inr (by decide))]; exact e42
        · rw [zI_ne _ (.inr (by decide)), zI_self]; rfl
      · rw [if_neg (by rintro (x | x); exact hne x.symm; rw [k] at x; cases x)] at hres
        unfold V_X4_readsTurn_64
        refine br_t e52 ⟨24, kA s2, vin (by omega) (by decide), 24, kA s2, vin (by omega) (by decide), nm_e ?_⟩
        rw [ix_nI (by omega)]
        rcases hκ with ⟨rfl, rfl⟩ | ⟨rfl, rfl⟩
        · rw [mq2.sg a (by omega)]
          refine hr _ _ hres _ ((f2s.mono f4s).sI 158 _ _ (by unfold SRs cd; simp)) (mq2.orS hq.pw) ?_ ?_
          · rw [zI_ne _ (.inl (by decide))]; exact e42
          · rw [zI_ne _ (.inl (by decide))]; exact e52
        · rw [mq2.al a (by omega)]
          refine hr _ _ hres _ ((f2s.mono f4s).sI 159 _ _ (by unfold SRs cd; simp)) (mq2.orA hq.pw) ?_ ?_
          · rw [zI_ne _ (.inl (by decide))]; exact e42
          · rw [zI_ne _ (.inl (by decide))]; exact e52
    · rw [numR_sk] at h2
      rw [sk_sk] at mf
      have hres := hbd a q1 b q2 h1 h2
      rw [if_pos (.inl he.symm)] at hres
      exact br_f mf.f0 (thr _ hres s (f1.trans mf.1) mf.s _ _)
    · rw [numR_sk] at he
      exact br_f mf.f0 (thr e (hb2 a q1 e h1 he) s (f1.trans mf.1) mf.s _ _)
  · have hs := h.fr mf.1 (by intro c hc; omega)
    refine m_blanksF hs mf.s fun s2 f2 mf2 => nm_e ?_
    have fs2 : Fr (fun c => c = 1000004 ∨ c = 1000005 ∨ c = 1000006) σ s2 := mf.1.trans (f2.mono (by intro c hc; omega))
    refine m_otherF (h.fr fs2 (by intro c hc; omega)) mf2 fun s3 f3 mf3 => br_f mf3.f0 (thr e (hb1 e he) s3 (fs2.trans (f3.mono (by intro c hc; omega))) mf3 _ _)
