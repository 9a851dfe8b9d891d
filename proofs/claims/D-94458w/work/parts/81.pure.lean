/-! PURE HALF: signs and allowed turns are changed: the model. -/
set_option maxRecDepth 100000
theorem ps107 (σ : ZS) {t : Nat} (h : t < 24) : kP NS σ 107 t = some (.inl (107 + 1 + t)) ∧ kK NS σ (107 + 1 + t) = (0, 4) := by
  have h2 : ∀ i : Fin 24, Pst 107 i.val = some (107 + 1 + i.val) ∧ Kst (107 + 1 + i.val) = (0, 4) := by decide +kernel
  have h3 := h2 ⟨t, h⟩
  constructor
  · unfold kP; rw [if_pos (by decide), h3.1]
  · unfold kK; rw [if_pos (by show _ < 1239; omega), h3.2]
theorem m_meet {T : Tw} {σ : ZS} (mt : MT T σ) {s t : Nat} (hs : s < T.ns) (ht : t < T.ns) {Ret : Int32 → ZS → Prop} (hr : Ret (b2i (mtB T s t)) σ) : wp_X4_meet σ 107 (nI s) (nI t) Ret := by
  have w := mt.wf
  have hns := w.ns
  have hnc := w.nc
  have := w.sf s hs; have := w.st s hs; have := w.sf t ht; have := w.st t ht
  have k0 : kK NS σ 107 = (4, 24) := rfl
  have v1 : vp_in (nI s) 24 := vin (by omega) (by decide)
  have v2 : vp_in (nI t) 24 := vin (by omega) (by decide)
  have a0 : vp_in 0 4 := vin (n := 0) (by decide) (by decide)
  have a1 : vp_in 1 4 := vin (n := 1) (by decide) (by decide)
  have ks := (ps107 σ (show s < 24 by omega)).2
  have kt := (ps107 σ (show t < 24 by omega)).2
  unfold wp_X4_meet
  unfold mtB at hr
  rw [ix_nI (by omega), ix_nI (by omega), (ps107 σ (show s < 24 by omega)).1, (ps107 σ (show t < 24 by omega)).1, zo_in, zo_in, ix0, ix1, mt.sf s hs, mt.st s hs, mt.sf t ht, mt.st t ht, nI_eq (by omega) (by omega), nI_eq (by omega) (by omega), nI_eq (by omega) (by omega), nI_eq (by omega) (by omega)]
  refine ⟨24, k0, v1, rfl, 4, ks, a0, 24, k0, v2, rfl, 4, kt, a0, fun e1 => by simpa [e1, b2i] using hr, fun e1 => ⟨24, k0, v1, rfl, 4, ks, a0, 24, k0, v2, rfl, 4, kt, a1, fun e2 => by simpa [e2, b2i] using hr, fun e2 => ⟨24, k0, v1, rfl, 4, ks, a1, 24, k0, v2, rfl, 4, kt, a0, fun e3 => by simpa [e3, b2i] using hr, fun e3 => ⟨24, k0, v1, rfl, 4, ks, a1, 24, k0, v2, rfl, 4, kt, a1, fun e4 => by simpa [e4, b2i] using hr, fun e4 => by simpa [e1, e2, e3, e4, b2i] using hr⟩⟩⟩⟩
theorem M_sign {T : Tw} {tm : Nat} {sg al : Nat → Nat → Int32} {nt : Nat} {td : Nat → Int32} {σ : ZS} (mt : MT T σ) (hs : MS tm sg al nt td σ) {a b : Int32} {is : Bool} {Ret : Int32 → ZS → Prop} (hr : PX σ Ret (spChg T tm sg a b is) (MS (nxT tm (chD T tm sg a b is)) (up1 sg (tm + 1) (flR (sg tm) (ix a) (ix b))) (up1 al (tm + 1) (al tm)) nt td)) : wp_X4_sign σ a b (b2i is) Ret := by
  unfold wp_X4_sign wp_X4_changesTo
  refine nm_e ?_
  have htm := hs.1.ht
  have hns := mt.wf.ns
  have mt1 := mt.fr (z_fr σ) SX_MT
  have hz : zI (sI σ 44 0 0) 44 0 = 0 := zI_self _ _ _ _
  have hs1 := hs.z 0
  unfold spChg at hr
  refine m_areStreets mt1 (br0 (fun k => ?_) fun k => ?_)
  · unfold V_X4_changesTo_15
    have e0 : nxT tm (chD T tm sg a b is) = tm := by unfold nxT chD; rw [k]; rfl
    rw [e0] at hr
    exact m_bad1 hz (by decide) (br_f (by decide) (PX.thr hr (c := 1) (sp2_1 k) (by decide) (hold_upM hs)))
  unfold V_X4_changesTo_15
  have k' := k
  simp only [Bool.and_eq_true] at k'
  obtain ⟨i, rfl, hi, ei, -⟩ := inN_N k'.1
  obtain ⟨j, rfl, hj, ej, -⟩ := inN_N k'.2
  have bad : okM T (nI i) (nI j) = false → V_X4_changesTo_40 Ret (sI σ 44 0 0) 160 (nI i) (nI j) (b2i is) := by
    intro km
    unfold V_X4_changesTo_40 V_X4_changesTo_45
    have e0 : nxT tm (chD T tm sg (nI i) (nI j) is) = tm := by unfold nxT chD; rw [km]; simp
    rw [e0] at hr
    exact m_bad1 hz (by decide) (br_f (by decide) (PX.thr hr (c := 2) (sp2_2 k km) (by decide) (hold_upM hs)))
  refine m_bad0 hz (br_t rfl ⟨fun e => bad (by unfold okM; simp [e]), fun e => m_meet mt1 hi hj (br0 (fun km => bad (by unfold okM; rw [ei, ej, km]; simp)) fun km => ?_)⟩)
  have km : okM T (nI i) (nI j) = true := by unfold okM; rw [ei, ej, km]; simp [e]
  rw [sp2_0 k km] at hr
  unfold chD at hr
  rw [k, km, ei, ej] at hr
  have hcv : chV tm (sg tm) (nI i) (nI j) is = if tm = 200 then -1 else if btI (sg tm i) j = is then -2 else nI (tm + 1) := by unfold chV; rw [ei, ej]
  rw [hcv] at hr
  unfold V_X4_changesTo_45
  refine m_bad0 hz (br_t rfl ?_)
  rw [hs1.1.et, show (200 : Int32) = nI 200 from rfl, nI_eq (by omega) (by decide)]
  refine ⟨fun e2 => ?_, fun e2 => ?_⟩
  · have : (true && true && !decide (tm = 200) && !(btI (sg tm i) j == is)) = false := by simp [e2]
    rw [this, if_pos e2] at hr
    exact hr _ _ (z_fr σ) (hold_upM hs1) hz (fun _ => rfl)
  rw [if_neg e2] at hr
  rw [ix_nI (by omega), (ps160 _ (show tm < 201 by omega)).1, zo_in, ei, hs1.1.es tm (Nat.le_refl _) i (by omega), tst _ (by omega)]
  refine ⟨201, rfl, vin (by omega) (by decide), rfl, 24, (ps160 _ (show tm < 201 by omega)).2, vin (by omega) (by decide), ?_⟩
  have fin : V_X4_changesTo_88 Ret (sI σ 44 0 0) 160 (nI i) (nI j) (b2i is) (b2i (btI (sg tm i) j)) := by
    unfold V_X4_changesTo_88
    have eb : (b2i (btI (sg tm i) j) = b2i is) = (btI (sg tm i) j = is) := by cases btI (sg tm i) j <;> cases is <;> simp [b2i]
    rw [eb]
    refine ⟨fun k1 => ?_, fun k1 => m_changes hs1.1 (by omega) fun s f mh => ?_⟩
    · have : (true && true && !decide (tm = 200) && !(btI (sg tm i) j == is)) = false := by simp [k1]
      rw [this, if_pos k1] at hr
      exact hr _ _ (z_fr σ) (hold_upM hs1) hz (fun _ => rfl)
    · have : (true && true && !decide (tm = 200) && !(btI (sg tm i) j == is)) = true := by simp [e2, k1]
      rw [this, if_neg k1] at hr
      have hrow : zI s (160 + 1 + (tm + 1)) i = sg tm i := by rw [mh.es (tm + 1) (Nat.le_refl _) i (by omega)]; unfold up1; rw [if_pos rfl]
      rw [mh.et, ix_nI (by omega), (ps160 _ (show tm + 1 < 201 by omega)).1, zo_in, ei, hrow]
      refine ⟨201, rfl, vin (by omega) (by decide), rfl, 24, (ps160 _ (show tm + 1 < 201 by omega)).2, vin (by omega) (by decide), 24, (ps160 _ (show tm + 1 < 201 by omega)).2, vin (by omega) (by decide), nm_e ?_⟩
      rw [zI_ne _ (.inl (by omega)), mh.et]
      have f2 := (z_fr σ).trans (f.mono (fun c k => k.1))
      refine hr _ _ (f2.sI (160 + 1 + (tm + 1)) i _ (by unfold SX cd; rw [if_neg (by omega), if_neg (by omega)]; omega)) ⟨⟨mh.ht, ?_, fun u hu q hq => ?_, fun u hu q hq => ?_⟩, hs.2.1, ?_, fun q hq => ?_⟩ ?_ (fun _ => rfl)
      · rw [zI_ne _ (.inl (by omega))]; exact mh.et
      · have hu' : u ≤ tm + 1 := hu
        rw [qI_sI]
        unfold up1 flR
        by_cases e1 : u = tm + 1
        · rw [if_pos e1]
          by_cases e3 : q = i
          · rw [if_pos ⟨by rw [e1], e3⟩, if_pos e3, e3]
          · rw [if_neg (fun e => e3 e.2), if_neg e3, mh.es u hu' q hq]; unfold up1; rw [if_pos e1]
        · rw [if_neg (fun e => e1 (by omega)), if_neg e1, mh.es u hu' q hq]; unfold up1; rw [if_neg e1]
      · rw [zI_ne _ (.inl (by have hu' : u ≤ tm + 1 := hu; omega))]; exact mh.ea u hu q hq
      · rw [zI_ne _ (.inl (by omega)), f.1 44 28 (by simp [cd])]; exact hs1.2.2.1
      · rw [zI_ne _ (.inl (by omega)), f.1 1146 q (by simp [cd])]; exact hs1.2.2.2 q hq
      · rw [zI_ne _ (.inl (by omega)), f.1 44 0 (by simp [cd])]; exact hz
  cases is
  · exact br_t rfl fin
  · exact br_f (by decide) fin
theorem M_allow {T : Tw} {tm : Nat} {sg al : Nat → Nat → Int32} {nt : Nat} {td : Nat → Int32} {σ : ZS} (mt : MT T σ) (hs : MS tm sg al nt td σ) {a b : Int32} {is : Bool} {Ret : Int32 → ZS → Prop} (hr : PX σ Ret (spChg T tm al a b is) (MS (nxT tm (chD T tm al a b is)) (up1 sg (tm + 1) (sg tm)) (up1 al (tm + 1) (flR (al tm) (ix a) (ix b))) nt td)) : wp_X4_allow σ a b (b2i is) Ret := by
  unfold wp_X4_allow wp_X4_changesTo
  refine nm_e ?_
  have htm := hs.1.ht
  have hns := mt.wf.ns
  have mt1 := mt.fr (z_fr σ) SX_MT
  have hz : zI (sI σ 44 0 0) 44 0 = 0 := zI_self _ _ _ _
  have hs1 := hs.z 0
  unfold spChg at hr
  refine m_areStreets mt1 (br0 (fun k => ?_) fun k => ?_)
  · unfold V_X4_changesTo_15
    have e0 : nxT tm (chD T tm al a b is) = tm := by unfold nxT chD; rw [k]; rfl
    rw [e0] at hr
    exact m_bad1 hz (by decide) (br_f (by decide) (PX.thr hr (c := 1) (sp2_1 k) (by decide) (hold_upM hs)))
  unfold V_X4_changesTo_15
  have k' := k
  simp only [Bool.and_eq_true] at k'
  obtain ⟨i, rfl, hi, ei, -⟩ := inN_N k'.1
  obtain ⟨j, rfl, hj, ej, -⟩ := inN_N k'.2
  have bad : okM T (nI i) (nI j) = false → V_X4_changesTo_40 Ret (sI σ 44 0 0) 362 (nI i) (nI j) (b2i is) := by
    intro km
    unfold V_X4_changesTo_40 V_X4_changesTo_45
    have e0 : nxT tm (chD T tm al (nI i) (nI j) is) = tm := by unfold nxT chD; rw [km]; simp
    rw [e0] at hr
    exact m_bad1 hz (by decide) (br_f (by decide) (PX.thr hr (c := 2) (sp2_2 k km) (by decide) (hold_upM hs)))
  refine m_bad0 hz (br_t rfl ⟨fun e => bad (by unfold okM; simp [e]), fun e => m_meet mt1 hi hj (br0 (fun km => bad (by unfold okM; rw [ei, ej, km]; simp)) fun km => ?_)⟩)
  have km : okM T (nI i) (nI j) = true := by unfold okM; rw [ei, ej, km]; simp [e]
  rw [sp2_0 k km] at hr
  unfold chD at hr
  rw [k, km, ei, ej] at hr
  have hcv : chV tm (al tm) (nI i) (nI j) is = if tm = 200 then -1 else if btI (al tm i) j = is then -2 else nI (tm + 1) := by unfold chV; rw [ei, ej]
  rw [hcv] at hr
  unfold V_X4_changesTo_45
  refine m_bad0 hz (br_t rfl ?_)
  rw [hs1.1.et, show (200 : Int32) = nI 200 from rfl, nI_eq (by omega) (by decide)]
  refine ⟨fun e2 => ?_, fun e2 => ?_⟩
  · have : (true && true && !decide (tm = 200) && !(btI (al tm i) j == is)) = false := by simp [e2]
    rw [this, if_pos e2] at hr
    exact hr _ _ (z_fr σ) (hold_upM hs1) hz (fun _ => rfl)
  rw [if_neg e2] at hr
  rw [ix_nI (by omega), (ps362 _ (show tm < 201 by omega)).1, zo_in, ei, hs1.1.ea tm (Nat.le_refl _) i (by omega), tst _ (by omega)]
  refine ⟨201, rfl, vin (by omega) (by decide), rfl, 24, (ps362 _ (show tm < 201 by omega)).2, vin (by omega) (by decide), ?_⟩
  have fin : V_X4_changesTo_88 Ret (sI σ 44 0 0) 362 (nI i) (nI j) (b2i is) (b2i (btI (al tm i) j)) := by
    unfold V_X4_changesTo_88
    have eb : (b2i (btI (al tm i) j) = b2i is) = (btI (al tm i) j = is) := by cases btI (al tm i) j <;> cases is <;> simp [b2i]
    rw [eb]
    refine ⟨fun k1 => ?_, fun k1 => m_changes hs1.1 (by omega) fun s f mh => ?_⟩
    · have : (true && true && !decide (tm = 200) && !(btI (al tm i) j == is)) = false := by simp [k1]
      rw [this, if_pos k1] at hr
      exact hr _ _ (z_fr σ) (hold_upM hs1) hz (fun _ => rfl)
    · have : (true && true && !decide (tm = 200) && !(btI (al tm i) j == is)) = true := by simp [e2, k1]
      rw [this, if_neg k1] at hr
      have hrow : zI s (362 + 1 + (tm + 1)) i = al tm i := by rw [mh.ea (tm + 1) (Nat.le_refl _) i (by omega)]; unfold up1; rw [if_pos rfl]
      rw [mh.et, ix_nI (by omega), (ps362 _ (show tm + 1 < 201 by omega)).1, zo_in, ei, hrow]
      refine ⟨201, rfl, vin (by omega) (by decide), rfl, 24, (ps362 _ (show tm + 1 < 201 by omega)).2, vin (by omega) (by decide), 24, (ps362 _ (show tm + 1 < 201 by omega)).2, vin (by omega) (by decide), nm_e ?_⟩
      rw [zI_ne _ (.inl (by omega)), mh.et]
      have f2 := (z_fr σ).trans (f.mono (fun c k => k.1))
      refine hr _ _ (f2.sI (362 + 1 + (tm + 1)) i _ (by unfold SX cd; rw [if_neg (by omega), if_neg (by omega)]; omega)) ⟨⟨mh.ht, ?_, fun u hu q hq => ?_, fun u hu q hq => ?_⟩, hs.2.1, ?_, fun q hq => ?_⟩ ?_ (fun _ => rfl)
      · rw [zI_ne _ (.inl (by omega))]; exact mh.et
      · rw [zI_ne _ (.inl (by have hu' : u ≤ tm + 1 := hu; omega))]; exact mh.es u hu q hq
      · have hu' : u ≤ tm + 1 := hu
        rw [qI_sI]
        unfold up1 flR
        by_cases e1 : u = tm + 1
        · rw [if_pos e1]
          by_cases e3 : q = i
          · rw [if_pos ⟨by rw [e1], e3⟩, if_pos e3, e3]
          · rw [if_neg (fun e => e3 e.2), if_neg e3, mh.ea u hu' q hq]; unfold up1; rw [if_pos e1]
        · rw [if_neg (fun e => e1 (by omega)), if_neg e1, mh.ea u hu' q hq]; unfold up1; rw [if_neg e1]
      · rw [zI_ne _ (.inl (by omega)), f.1 44 28 (by simp [cd])]; exact hs1.2.2.1
      · rw [zI_ne _ (.inl (by omega)), f.1 1146 q (by simp [cd])]; exact hs1.2.2.2 q hq
      · rw [zI_ne _ (.inl (by omega)), f.1 44 0 (by simp [cd])]; exact hz
  cases is
  · exact br_t rfl fin
  · exact br_f (by decide) fin
