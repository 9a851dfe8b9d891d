/-! PURE HALF: questions III: told, street, stands, left. -/
set_option maxRecDepth 100000
theorem inN_gt {x : Int32} {n : Nat} (hn : n < 2 ^ 31) (h : ¬ x < 0) : (nI n < x) = (inN x (n + 1) = false) := by
  obtain ⟨j, hj, e⟩ := nI_of h
  subst e
  rw [inN_nI hj, nI_ltI hn hj]
  apply propext
  simp
  omega
theorem bx_hi {T : Tw} (w : T.WF) {k : Nat} (hk : 16 ≤ k) : btI T.bx k = false := by
  rw [← Bool.not_eq_true]
  intro h
  have := w.bx k h
  have := w.nc
  omega
/-! told -/
def toldV (T : Tw) (tm : Nat) (x : Int32) : Int32 := if x = 0 then nI T.nc else if x = 1 then nI T.ns else if x = 2 then nI (cnt (btI T.bx) 24) else if x = 3 then nI T.nr else if x = 4 then nI T.nl else nI tm
def spTold (T : Tw) (tm : Nat) (x : Int32) : Nat × Int32 := sp1 (inN x 6) (toldV T tm x)
theorem C_told {T : Tw} {d : Ad} {tm : Nat} {sg al : Nat → Nat → Int32} {σ : ZS} (h : CQ T d tm sg al σ) {x : Int32} {Ret : Int32 → ZS → Prop} (hr : PC σ Ret (wd (spTold T tm x))) : wp_X0_told σ x Ret := by
  unfold wp_X0_told wp_X1_told
  obtain ⟨ct, ch, sf, rm⟩ := h
  unfold spTold at hr
  have bad : inN x 6 = false → V_X1_told_13 (fun x3 σ4 => ((∃ x, kK NS σ4 x3 = (12 + 7, x)) ∧ (Ret 1 σ4))) (fun r1 σ2 => ∀ σ6 : ZS, σ6 = sJ σ2 1238 (ix 0) r1.toInt64 → (Ret 0 σ6)) σ x := by
    intro k
    unfold V_X1_told_13 V_X1_told_14
    exact c_need (b := false) rm (fun k => by cases k) fun _ σ' g k2 => ⟨⟨0, k2⟩, hr.thr (c := 1) (sp1_1 k) (by decide) rm.1 sf g⟩
  refine ⟨fun k => bad (inN_neg k), fun k => ?_⟩
  rw [show (5 : Int32) = nI 5 from rfl, inN_gt (by decide) k]
  refine ⟨bad, fun k2 => ?_⟩
  unfold V_X1_told_14
  rw [sp1_0 (by simpa using k2)] at hr
  have ok : ∀ v, v = toldV T tm x → ∀ σ6 : ZS, σ6 = sJ σ 1238 (ix 0) v.toInt64 → Ret 0 σ6 := fun v e => hr.ok rfl sf (Fr.rfl (S := fun _ => False)) (fun _ k => k.elim) (by rw [e]; rfl)
  unfold toldV at ok
  refine c_need (b := true) rm (fun _ => ?_) (fun k => by cases k)
  refine ⟨fun k => c_corners ct (ok _ (by rw [if_pos k])), fun k => ?_⟩
  rw [if_neg k] at ok
  refine ⟨fun k => ?_, fun k => ?_⟩
  · rw [ct.pt, zo_in, ct.p1, zo_in]; exact ⟨rfl, ct.kt, rfl, ct.ls.kl, j_size ct.ls (ok _ (by rw [if_pos k]))⟩
  rw [if_neg k] at ok
  refine ⟨fun k => ?_, fun k => ?_⟩
  · rw [ct.pt, zo_in, ct.bx]
    exact ⟨rfl, ct.kt, c_bitCount (fun j hj => bx_hi ct.wf hj) (ok _ (by rw [if_pos k]))⟩
  rw [if_neg k] at ok
  refine ⟨fun k => ?_, fun k => ?_⟩
  · rw [ct.pt, zo_in, ct.p2, zo_in]; exact ⟨rfl, ct.kt, rfl, ct.lr.kl, j_size ct.lr (ok _ (by rw [if_pos k]))⟩
  rw [if_neg k] at ok
  refine ⟨fun k => ?_, fun k => ?_⟩
  · rw [ct.pt, zo_in, ct.nl]
    exact ⟨rfl, ct.kt, ok _ (by rw [if_pos k])⟩
  rw [if_neg k] at ok
  rw [ch.et]; exact ok _ rfl
theorem M_told {T : Tw} {tm : Nat} {sg al : Nat → Nat → Int32} {σ : ZS} (h : ME T tm sg al σ) (hb : zI σ 44 54 = -1) {x : Int32} {Ret : Int32 → ZS → Prop} (hr : PM σ Ret (spTold T tm x)) : wp_X4_told σ x Ret := by
  unfold wp_X4_told
  refine nm_e ?_
  obtain ⟨h1, hz⟩ := h.z
  unfold spTold at hr
  rw [show wp_X4_in (sI σ 44 0 0) x 0 5 = wp_X4_in (sI σ 44 0 0) x 0 (nI 6 - 1) from rfl]
  refine m_inN (by decide) (br0 (fun k => ?_) fun k => ?_)
  · unfold V_X4_told_20
    exact m_bad1 hz (by decide) (br_f (by decide) (hr.thr (c := 1) (sp1_1 k) (by decide) hb))
  unfold V_X4_told_20
  rw [sp1_0 k] at hr
  have ok : ∀ v, v = toldV T tm x → Ret v (sI σ 44 0 0) := fun v e => hr.ok rfl hb (Fr.rfl (S := fun _ => False)) (fun _ k => k.elim) e
  refine m_bad0 hz (br_t rfl ?_)
  obtain ⟨j, rfl, hj, ej, -⟩ := inN_N k
  refine ⟨fun k => ?_, fun k2 => ?_⟩
  · rw [ix2, h1.mt.m2]; exact m_ones (ok _ (by rw [k]; rfl))
  refine ⟨fun k => ?_, fun k4 => ?_⟩
  · rw [h1.mt.nl]; exact ok _ (by rw [k]; rfl)
  refine ⟨fun k => ?_, fun k5 => ?_⟩
  · rw [h1.mh.et]; exact ok _ (by rw [k]; rfl)
  rw [ej]
  have c : j = 0 ∨ j = 1 ∨ j = 3 := by
    have a2 : j ≠ 2 := fun e => k2 (by rw [e]; rfl)
    have a4 : j ≠ 4 := fun e => k4 (by rw [e]; rfl)
    have a5 : j ≠ 5 := fun e => k5 (by rw [e]; rfl)
    omega
  rcases c with rfl | rfl | rfl
  · exact ⟨vin (by decide) (by decide), by rw [h1.mt.m0]; exact ok _ rfl⟩
  · exact ⟨vin (by decide) (by decide), by rw [h1.mt.m1]; exact ok _ rfl⟩
  · exact ⟨vin (by decide) (by decide), by rw [h1.mt.m3]; exact ok _ rfl⟩
/-! street -/
def strV (T : Tw) (s : Nat) (x : Int32) : Int32 := if x = 0 then nI (T.sf s) else if x = 1 then nI (T.st s) else if x = 2 then nI (T.sl s) else b2i (T.so s)
def spStreet (T : Tw) (s x : Int32) : Nat × Int32 := sp2 (inN s T.ns) (inN x 4) (strV T (ix s) x)
theorem c_streetOf {T : Tw} {d : Ad} {σ : ZS} (h : CT T d σ) (hm : Rm σ) {x : Int32} {Thr : Nat → ZS → Prop} {Ret : ZR → ZS → Prop} (h1 : ∀ s, s < T.ns → x = nI s → inN x T.ns = true → Ret (some (.inl (d.so s))) σ) (h2 : inN x T.ns = false → ∀ σ', Gw (fun _ => False) 1 6 σ σ' → kK NS σ' (zt σ) = (20, 0) → Thr (zt σ) σ') : wp_X1_streetOf σ x Thr Ret := by
  unfold wp_X1_streetOf
  have := h.wf.ns
  refine ⟨fun k => c_thr hm (h2 (inN_neg k)), fun k => ?_⟩
  rw [h.pt, zo_in, h.p1, zo_in]
  refine ⟨rfl, h.kt, rfl, h.ls.kl, j_size h.ls ?_⟩
  rw [inN_lt (by omega) k]
  refine ⟨fun k2 => ?_, fun k2 => c_thr hm (h2 (by simpa using k2))⟩
  obtain ⟨j, rfl, hj, -, -⟩ := inN_N k2
  rw [h.pt, zo_in, h.p1, zo_in]
  exact ⟨rfl, h.kt, rfl, h.ls.kl, j_get h.ls hj ⟨rfl, (h.ls.pi j hj).2.2, h1 j hj rfl k2⟩⟩
theorem C_street {T : Tw} {d : Ad} {tm : Nat} {sg al : Nat → Nat → Int32} {σ : ZS} (h : CQ T d tm sg al σ) {s x : Int32} {Ret : Int32 → ZS → Prop} (hr : PC σ Ret (wd (spStreet T s x))) : wp_X0_street σ s x Ret := by
  unfold wp_X0_street wp_X1_street
  obtain ⟨ct, ch, sf, rm⟩ := h
  unfold spStreet at hr
  refine c_streetOf ct rm (fun j hj e h1 => ⟨rfl, ?_⟩) (fun h1 σ' g k => .inl ⟨⟨0, k⟩, hr.thr (c := 1) (sp2_1 h1) (by decide) rm.1 sf g⟩)
  rw [zo_in]
  have ko := (ct.ls.pi j hj).2.2
  have bad : inN x 4 = false → V_X1_street_19 (fun x3 σ4 => ((∃ x, kK NS σ4 x3 = (13 + 7, x)) ∧ (Ret 1 σ4)) ∨ ((∃ x, kK NS σ4 x3 = (12 + 7, x)) ∧ (Ret 2 σ4))) (fun r1 σ2 => ∀ σ6 : ZS, σ6 = sJ σ2 1238 (ix 0) r1.toInt64 → (Ret 0 σ6)) σ x (d.so j) := by
    intro k
    unfold V_X1_street_19 V_X1_street_20
    exact c_need (b := false) rm (fun k => by cases k) fun _ σ' g k2 => .inr ⟨⟨0, k2⟩, hr.thr (c := 2) (sp2_2 h1 k) (by decide) rm.1 sf g⟩
  refine ⟨fun k => bad (inN_neg k), fun k => ?_⟩
  rw [show (3 : Int32) = nI 3 from rfl, inN_gt (by decide) k]
  refine ⟨bad, fun k2 => ?_⟩
  unfold V_X1_street_20
  rw [sp2_0 h1 (by simpa using k2)] at hr
  have hns := ct.wf.ns
  have ok : ∀ v, v = strV T j x → ∀ σ6 : ZS, σ6 = sJ σ 1238 (ix 0) v.toInt64 → Ret 0 σ6 := fun v e2 => hr.ok rfl sf (Fr.rfl (S := fun _ => False)) (fun _ k => k.elim) (by rw [e2, e]; show _ = (strV T (ix (nI j)) x).toInt64; rw [ix_nI (by omega)])
  unfold strV at ok
  refine c_need (b := true) rm (fun _ => ?_) (fun k => by cases k)
  refine ⟨fun k => ⟨ko, by rw [ct.sf j hj]; exact ok _ (by rw [if_pos k])⟩, fun k => ?_⟩
  rw [if_neg k] at ok
  refine ⟨fun k => ⟨ko, by rw [ct.st j hj]; exact ok _ (by rw [if_pos k])⟩, fun k => ?_⟩
  rw [if_neg k] at ok
  refine ⟨fun k => ⟨ko, by rw [ct.sl j hj]; exact ok _ (by rw [if_pos k])⟩, fun k => ⟨ko, ?_⟩⟩
  rw [if_neg k] at ok
  rw [ct.so j hj]
  exact br0 (fun k => ok _ (by rw [k]; rfl)) fun k => ok _ (by rw [k]; rfl)
theorem M_street {T : Tw} {tm : Nat} {sg al : Nat → Nat → Int32} {σ : ZS} (h : ME T tm sg al σ) (hb : zI σ 44 54 = -1) {s x : Int32} {Ret : Int32 → ZS → Prop} (hr : PM σ Ret (spStreet T s x)) : wp_X4_street σ s x Ret := by
  unfold wp_X4_street
  refine nm_e ?_
  obtain ⟨h1, hz⟩ := h.z
  have hns := h.mt.wf.ns
  unfold spStreet at hr
  refine m_isStreet h1.mt (br0 (fun k => ?_) fun k => ?_)
  · unfold V_X4_street_19
    exact m_bad1 hz (by decide) (br_f (by decide) (hr.thr (c := 1) (sp2_1 k) (by decide) hb))
  unfold V_X4_street_19
  refine m_bad0 hz (br_t rfl ?_)
  rw [show wp_X4_in (sI σ 44 0 0) x 0 3 = wp_X4_in (sI σ 44 0 0) x 0 (nI 4 - 1) from rfl]
  refine m_inN (by decide) (br0 (fun k2 => ?_) fun k2 => ?_)
  · unfold V_X4_street_41
    exact m_bad1 hz (by decide) (br_f (by decide) (hr.thr (c := 2) (sp2_2 k k2) (by decide) hb))
  unfold V_X4_street_41
  rw [sp2_0 k k2] at hr
  obtain ⟨j, rfl, hj, ej, -⟩ := inN_N k
  obtain ⟨y, rfl, hy, ey, -⟩ := inN_N k2
  rw [ej, ey]
  rw [ej] at hr
  refine m_bad0 hz (br_t rfl ⟨vin (by omega) (by decide), vin (by omega) (by decide), ?_⟩)
  have ok : ∀ v, v = strV T j (nI y) → Ret v (sI σ 44 0 0) := fun v e => hr.ok rfl hb (Fr.rfl (S := fun _ => False)) (fun _ k => k.elim) e
  rcases (show y = 0 ∨ y = 1 ∨ y = 2 ∨ y = 3 by omega) with rfl | rfl | rfl | rfl
  · rw [h1.mt.sf j hj]; exact ok _ rfl
  · rw [h1.mt.st j hj]; exact ok _ rfl
  · rw [h1.mt.sl j hj]; exact ok _ rfl
  · rw [h1.mt.so j hj]; exact ok _ rfl
/-! stands -/
def spStands (T : Tw) (tm : Nat) (sg al : Nat → Nat → Int32) (a b t x : Int32) : Nat × Int32 := sp2 (inN a T.ns && inN b T.ns) (inN t (tm + 1) && inN x 2) (b2i (btI ((if x = 0 then sg else al) (ix t) (ix a)) (ix b)))
theorem C_stands {T : Tw} {d : Ad} {tm : Nat} {sg al : Nat → Nat → Int32} {σ : ZS} (h : CQ T d tm sg al σ) {a b t x : Int32} {Ret : Int32 → ZS → Prop} (hr : PC σ Ret (wd (spStands T tm sg al a b t x))) : wp_X0_stands σ a b t x Ret := by
  unfold wp_X0_stands wp_X1_stands
  obtain ⟨ct, ch, sf, rm⟩ := h
  have hns := ct.wf.ns
  unfold spStands at hr
  refine c_streetOf ct rm (fun i hi e1 h1 => c_streetOf ct rm (fun j hj e2 h2 => ?_) (fun h2 σ' g k => .inl ⟨⟨0, k⟩, hr.thr (c := 1) (sp2_1 (by rw [h2, Bool.and_false])) (by decide) rm.1 sf g⟩)) (fun h1 σ' g k => .inl ⟨⟨0, k⟩, hr.thr (c := 1) (sp2_1 (by rw [h1]; rfl)) (by decide) rm.1 sf g⟩)
  have bad : (inN t (tm + 1) && inN x 2) = false → V_X1_stands_35 (fun x3 σ4 => ((∃ x, kK NS σ4 x3 = (13 + 7, x)) ∧ (Ret 1 σ4)) ∨ ((∃ x, kK NS σ4 x3 = (12 + 7, x)) ∧ (Ret 2 σ4))) (fun r1 σ2 => ((r1 = 0 → (∀ σ6 : ZS, σ6 = sJ σ2 1238 (ix 0) 0 → (Ret 0 σ6))) ∧ (¬ r1 = 0 → (∀ σ7 : ZS, σ7 = sJ σ2 1238 (ix 0) 1 → (Ret 0 σ7))))) σ a b t x := by
    intro k
    unfold V_X1_stands_35 V_X1_stands_36
    exact c_need (b := false) rm (fun k => by cases k) fun _ σ' g k2 => .inr ⟨⟨0, k2⟩, hr.thr (c := 2) (sp2_2 (by rw [h1, h2]; rfl) k) (by decide) rm.1 sf g⟩
  have good : inN t (tm + 1) = true → inN x 2 = true → V_X1_stands_31 (fun x3 σ4 => ((∃ x, kK NS σ4 x3 = (13 + 7, x)) ∧ (Ret 1 σ4)) ∨ ((∃ x, kK NS σ4 x3 = (12 + 7, x)) ∧ (Ret 2 σ4))) (fun r1 σ2 => ((r1 = 0 → (∀ σ6 : ZS, σ6 = sJ σ2 1238 (ix 0) 0 → (Ret 0 σ6))) ∧ (¬ r1 = 0 → (∀ σ7 : ZS, σ7 = sJ σ2 1238 (ix 0) 1 → (Ret 0 σ7))))) σ a b t x := by
    intro k1 k2
    unfold V_X1_stands_31 V_X1_stands_36
    rw [sp2_0 (by rw [h1, h2]; rfl) (by rw [k1, k2]; rfl)] at hr
    obtain ⟨w, rfl, hw, ew, -⟩ := inN_N k1
    subst e1 e2
    rw [ew, ix_nI (by omega), ix_nI (by omega)] at hr
    refine c_need (b := true) rm (fun _ => ⟨fun k => ?_, fun k => ?_⟩) (fun k => by cases k)
    · rw [if_pos k] at hr
      exact c_isSigned ch (by omega) (by omega) (by omega) ⟨isB_b _, hr.okB rfl sf (Fr.rfl (S := fun _ => False)) (fun _ k => k.elim) (wide_b _).symm⟩
    · rw [if_neg k] at hr
      exact c_isAllowed ch (by omega) (by omega) (by omega) ⟨isB_b _, hr.okB rfl sf (Fr.rfl (S := fun _ => False)) (fun _ k => k.elim) (wide_b _).symm⟩
  refine c_isTime ch (br0 (fun k => bad (by rw [k]; rfl)) fun k => ⟨fun k2 => good k (by rw [inN2, k2]; rfl), fun k2 => ⟨fun k3 => good k (by rw [inN2, k3]; rfl), fun k3 => bad ?_⟩⟩)
  rw [inN2]; simp [k2, k3]
theorem m_areStreets {T : Tw} {σ : ZS} (h : MT T σ) {x y : Int32} {Ret : Int32 → ZS → Prop} (hr : Ret (b2i (inN x T.ns && inN y T.ns)) σ) : wp_X4_areStreets σ x y Ret := by
  unfold wp_X4_areStreets
  refine m_isStreet h (br0 (fun k => ?_) fun k => m_isStreet h (br0 (fun k2 => ?_) fun k2 => ?_))
  · rw [k] at hr; exact hr
  · rw [k2, Bool.and_false] at hr; exact hr
  · rw [k, k2] at hr; exact hr
theorem ps160 (σ : ZS) {t : Nat} (h : t < 201) : kP NS σ 160 t = some (.inl (160 + 1 + t)) ∧ kK NS σ (160 + 1 + t) = (0, 24) := by
  have h2 : ∀ i : Fin 201, Pst 160 i.val = some (160 + 1 + i.val) ∧ Kst (160 + 1 + i.val) = (0, 24) := by decide +kernel
  have h3 := h2 ⟨t, h⟩
  constructor
  · unfold kP; rw [if_pos (by decide), h3.1]
  · unfold kK; rw [if_pos (by show _ < 1239; omega), h3.2]
theorem ps362 (σ : ZS) {t : Nat} (h : t < 201) : kP NS σ 362 t = some (.inl (362 + 1 + t)) ∧ kK NS σ (362 + 1 + t) = (0, 24) := by
  have h2 : ∀ i : Fin 201, Pst 362 i.val = some (362 + 1 + i.val) ∧ Kst (362 + 1 + i.val) = (0, 24) := by decide +kernel
  have h3 := h2 ⟨t, h⟩
  constructor
  · unfold kP; rw [if_pos (by decide), h3.1]
  · unfold kK; rw [if_pos (by show _ < 1239; omega), h3.2]
theorem M_stands {T : Tw} {tm : Nat} {sg al : Nat → Nat → Int32} {σ : ZS} (h : ME T tm sg al σ) (hb : zI σ 44 54 = -1) {a b t x : Int32} {Ret : Int32 → ZS → Prop} (hr : PM σ Ret (spStands T tm sg al a b t x)) : wp_X4_stands σ a b t x Ret := by
  unfold wp_X4_stands
  refine nm_e ?_
  obtain ⟨h1, hz⟩ := h.z
  have hns := h.mt.wf.ns
  have htm := h.mh.ht
  unfold spStands at hr
  refine m_areStreets h1.mt (br0 (fun k => ?_) fun k => ?_)
  · unfold V_X4_stands_20
    exact m_bad1 hz (by decide) (br_f (by decide) (hr.thr (c := 1) (sp2_1 k) (by decide) hb))
  unfold V_X4_stands_20
  have bad : (inN t (tm + 1) && inN x 2) = false → V_X4_stands_46 Ret (sI σ 44 0 0) a b t x := by
    intro k2
    unfold V_X4_stands_46 V_X4_stands_51
    exact m_bad1 hz (by decide) (br_f (by decide) (hr.thr (c := 2) (sp2_2 k k2) (by decide) hb))
  refine m_bad0 hz (br_t rfl (m_isTime h1 (br0 (fun k2 => bad (by rw [k2]; rfl)) fun k2 => m_in01 (br0 (fun k3 => bad (by rw [k3, Bool.and_false])) fun k3 => ?_))))
  rw [sp2_0 k (by rw [k2, k3]; rfl)] at hr
  simp only [Bool.and_eq_true] at k
  obtain ⟨i, rfl, hi, ei, -⟩ := inN_N k.1
  obtain ⟨j, rfl, hj, ej, -⟩ := inN_N k.2
  obtain ⟨w, rfl, hw, ew, -⟩ := inN_N k2
  rw [ew, ei, ej] at hr
  unfold V_X4_stands_51
  have fin : ∀ (r : Nat) (v : Int32), kK NS (sI σ 44 0 0) r = (4, 201) → kP NS (sI σ 44 0 0) r w = some (.inl (r + 1 + w)) → kK NS (sI σ 44 0 0) (r + 1 + w) = (0, 24) → zI (sI σ 44 0 0) (r + 1 + w) i = v → (∀ y, y = b2i (btI v j) → Ret y (sI σ 44 0 0)) → V_X4_stands_76 Ret (sI σ 44 0 0) (nI i) (nI j) (nI w) r := by
    intro r v q1 q2 q3 q4 q5
    unfold V_X4_stands_76
    rw [ew, ei, q2, zo_in, q4, tst _ (by omega), b2i_1]
    refine ⟨201, q1, vin (by omega) (by decide), rfl, 24, q3, vin (by omega) (by decide), fun k => q5 _ (by rw [k]; rfl), fun k => q5 _ (by rw [Bool.not_eq_true] at k; rw [k]; rfl)⟩
  refine m_bad0 hz (br_t rfl ⟨fun k4 => ?_, fun k4 => ?_⟩)
  · rw [if_pos k4] at hr
    exact fin 160 (sg w i) rfl (ps160 _ (by omega)).1 (ps160 _ (by omega)).2 (h1.mh.es w (by omega) i (by omega)) fun y e => hr.ok rfl hb (Fr.rfl (S := fun _ => False)) (fun _ k => k.elim) e
  · rw [if_neg k4] at hr
    exact fin 362 (al w i) rfl (ps362 _ (by omega)).1 (ps362 _ (by omega)).2 (h1.mh.ea w (by omega) i (by omega)) fun y e => hr.ok rfl hb (Fr.rfl (S := fun _ => False)) (fun _ k => k.elim) e
/-! left -/
def leftV (T : Tw) (x : Int32) : Int32 := if inN x T.nl then 100 * nI (T.lf (ix x)) + nI (T.lt (ix x)) else -1
theorem C_left {T : Tw} {d : Ad} {σ : ZS} (ct : CT T d σ) {x : Int32} {Ret : Int32 → ZS → Prop} (hr : Ret (leftV T x) σ) : wp_X1_left σ x Ret := by
  unfold wp_X1_left
  have hnl := ct.wf.nl
  unfold leftV at hr
  refine ⟨fun k => by rw [inN_neg k] at hr; exact hr, fun k => ?_⟩
  rw [ct.pt, zo_in, ct.nl, inN_lt (by omega) k, ct.p5, ct.p6, zo_in, zo_in]
  refine ⟨rfl, ct.kt, fun k2 => ?_, fun k2 => ?_⟩
  · obtain ⟨j, rfl, hj, ej, -⟩ := inN_N k2
    rw [k2, if_pos rfl, ej] at hr
    rw [ej, ct.lf j hj, ct.lt j hj]
    exact ⟨rfl, ct.kt, rfl, 576, ct.k5, vin (by omega) (by decide), rfl, ct.kt, rfl, 576, ct.k6, vin (by omega) (by decide), hr⟩
  · rw [Bool.not_eq_true] at k2
    rw [k2] at hr; exact hr
theorem M_left {T : Tw} {σ : ZS} (h : MT T (sI σ 44 0 0)) {x : Int32} {Ret : Int32 → ZS → Prop} (hr : Ret (leftV T x) (sI σ 44 0 0)) : wp_X4_left σ x Ret := by
  unfold wp_X4_left
  refine nm_e ?_
  have hnl := h.wf.nl
  unfold leftV at hr
  rw [h.nl]
  refine m_inN (by omega) (br0 (fun k => by rw [k] at hr; exact hr) fun k => ?_)
  rw [k, if_pos rfl] at hr
  obtain ⟨j, rfl, hj, ej, -⟩ := inN_N k
  rw [ej] at hr
  rw [ej, ix0, ix1, h.lf j hj, h.lt j hj]
  exact ⟨vin (by omega) (by decide), vin (by omega) (by decide), hr⟩
