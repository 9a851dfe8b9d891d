/-! PURE HALF: the fewest, the cheapest: the model. -/
set_option maxRecDepth 100000
def inF (c : Nat) : Prop := (564 ≤ c ∧ c < 568) ∨ c = 1147 ∨ (1000033 ≤ c ∧ c < 1000036)
theorem inF_M : ∀ c, inF c → scM c := by intro c hc; unfold inF at hc; unfold scM; omega
theorem m_findSet {T : Tw} {tm : Nat} {sg al : Nat → Nat → Int32} {σ : ZS} (h : ME T tm sg al σ) {t : Nat} (ht : t ≤ tm) {c : Bool} {Ret : ZS → Prop} (hr : ∀ σ', Fr inF σ σ' → zI σ' 44 34 = oI ((lsR T (sg t) (al t) c).map (·.2)) → zI σ' 44 35 = oI ((lsR T (sg t) (al t) c).map (·.1)) → Ret σ') : wp_X4_findSet σ (nI t) (b2i c) Ret := by
  have w := h.mt.wf
  have hn14 := nCd_le T (sg t) (al t)
  have hp : 2 ^ nCd T (sg t) (al t) ≤ 2 ^ 14 := Nat.pow_le_pow_right (by decide) hn14
  have hnl := w.nl
  unfold wp_X4_findSet
  refine m_findLater h ht fun s1 f1 hn1 hl1 => nm_e (nm_e ?_)
  have f2 : Fr inF σ (sI (sI s1 44 34 (-1)) 44 35 (-1)) := ((f1.mono (by intro c hc; unfold inL at hc; unfold inF; omega)).sI 44 34 _ (by unfold inF cd; simp)).sI 44 35 _ (by unfold inF cd; simp)
  have g2 : Fr (fun c => c = 1000034 ∨ c = 1000035) s1 (sI (sI s1 44 34 (-1)) 44 35 (-1)) := (Fr.rfl.sI 44 34 _ (.inl rfl)).sI 44 35 _ (.inr rfl)
  have e34 : zI (sI (sI s1 44 34 (-1)) 44 35 (-1)) 44 34 = -1 := by rw [zI_ne _ (.inr (by decide)), zI_self]
  refine forL (S := ZS) (fun k s x => VL_X4_findSet_17 Ret k s (b2i c) x) (fun S s => Fr inF σ s ∧ NowM (sg t) (al t) s ∧ LatM T (sg t) (al t) s ∧ zI s 44 34 = oI ((srch (opS T (sg t) (al t)) (fun S => byV T (sg t) (al t) c (tb S) (nCd T (sg t) (al t))) S).map (·.2)) ∧ zI s 44 35 = oI ((srch (opS T (sg t) (al t)) (fun S => byV T (sg t) (al t) c (tb S) (nCd T (sg t) (al t))) S).map (·.1))) (2 ^ nCd T (sg t) (al t)) ?_ ?_ 0 _ (Nat.zero_le _) ⟨f2, hn1.fr g2 (by intro c hc; omega), hl1.fr g2 (by intro c hc; omega), e34, zI_self _ _ _ _⟩
  · rintro n s ⟨f, hn, hl, e1, e2⟩
    simp only [VL_X4_findSet_17]
    rw [hl.1, pow_sh _ hn14]
    exact br_f (nI_nlt (Nat.le_refl _) (by omega)) (hr s f e1 e2)
  · rintro n S s hS ⟨f, hn, hl, e1, e2⟩ ih
    have hs := h.fr f inF_M
    have hS14 : S < 2 ^ 14 := by omega
    simp only [VL_X4_findSet_17]
    rw [hl.1, pow_sh _ hn14]
    refine br_t (nI_lt hS (by omega)) ?_
    refine forL1 (fun k s v x => VL_X4_findSet_33 _ Ret k s (b2i c) (nI S) v x) (fun i s' v => s' = s ∧ v = nI (byV T (sg t) (al t) c (tb S) i)) (nCd T (sg t) (al t)) ?_ ?_ 0 s 0 (Nat.zero_le _) ⟨rfl, rfl⟩
    · rintro n2 s' v ⟨rfl, rfl⟩
      simp only [VL_X4_findSet_33]
      simp only [nI1]
      have hbl := by_le w (c := c) (sn := sg t) (an := al t) (tb S) (Nat.le_refl _)
      rw [hl.1]
      refine br_f (nI_nlt (Nat.le_refl _) (by omega)) ?_
      have tries : (∀ b v, srch (opS T (sg t) (al t)) (fun S => byV T (sg t) (al t) c (tb S) (nCd T (sg t) (al t))) S = some (b, v) → byV T (sg t) (al t) c (tb S) (nCd T (sg t) (al t)) < v) → V_X4_findSet_102 (VL_X4_findSet_17 Ret n) Ret s' (b2i c) (nI S) (nI (byV T (sg t) (al t) c (tb S) (nCd T (sg t) (al t)))) 0 := by
        intro hlt
        refine forL (S := ZS) (fun k s x => VL_X4_findSet_102 (VL_X4_findSet_17 Ret n) Ret k s (b2i c) (nI S) (nI (byV T (sg t) (al t) c (tb S) (nCd T (sg t) (al t)))) x) (fun i s2 => Fr (fun c => c = 565) s' s2 ∧ NowM (sg t) (anP T (sg t) (al t) (fun j => tb S j && decide (j < i))) s2) (nCd T (sg t) (al t)) ?_ ?_ 0 s' (Nat.zero_le _) ⟨Fr.rfl, by rw [anP_no fun j _ => by simp]; exact hn⟩
        · rintro n3 s2 ⟨g, hn2⟩
          have ff := f.trans (g.mono (by intro c hc; unfold inF; omega))
          have hs2 := h.fr ff inF_M
          have hl2 := hl.fr g (by intro c hc; omega)
          simp only [VL_X4_findSet_102]
          rw [hl2.1]
          refine br_f (nI_nlt (Nat.le_refl _) (by omega)) ?_
          have eP : anP T (sg t) (al t) (fun j => tb S j && decide (j < nCd T (sg t) (al t))) = anP T (sg t) (al t) (tb S) := anP_congr fun j hj => by simp [hj]
          rw [eP] at hn2
          -- back again
          have back : ∀ s3, Fr inF σ s3 → NowM (sg t) (anP T (sg t) (al t) (tb S)) s3 → LatM T (sg t) (al t) s3 → zI s3 44 34 = oI ((srch (opS T (sg t) (al t)) (fun S => byV T (sg t) (al t) c (tb S) (nCd T (sg t) (al t))) (S + 1)).map (·.2)) → zI s3 44 35 = oI ((srch (opS T (sg t) (al t)) (fun S => byV T (sg t) (al t) c (tb S) (nCd T (sg t) (al t))) (S + 1)).map (·.1)) → V_X4_findSet_159 (VL_X4_findSet_17 Ret n) Ret s3 (b2i c) (nI S) 0 := by
            intro s3 k1 k2 k3 k4 k5
            refine forL (S := ZS) (fun k s x => VL_X4_findSet_159 (VL_X4_findSet_17 Ret n) Ret k s (b2i c) (nI S) x) (fun i s4 => Fr (fun c => c = 565) s3 s4 ∧ NowM (sg t) (anP T (sg t) (al t) (fun j => tb S j && decide (i ≤ j))) s4) (nCd T (sg t) (al t)) ?_ ?_ 0 s3 (Nat.zero_le _) ⟨Fr.rfl, by rw [anP_congr (Q := tb S) fun j _ => by simp]; exact k2⟩
            · rintro n4 s4 ⟨g4, hn4⟩
              have k3' := k3.fr g4 (by intro c hc; omega)
              simp only [VL_X4_findSet_159]
              simp only [nI1]
              rw [k3'.1]
              refine br_f (nI_nlt (Nat.le_refl _) (by omega)) (nm_e (ih s4 ⟨k1.trans (g4.mono (by intro c hc; unfold inF; omega)), ?_, k3', ?_, ?_⟩))
              · rw [anP_no fun j hj => by simp; omega] at hn4; exact hn4
              · rw [g4.1 44 34 (by simp [cd])]; exact k4
              · rw [g4.1 44 35 (by simp [cd])]; exact k5
            · rintro n4 i s4 hi ⟨g4, hn4⟩ ih4
              have k3' := k3.fr g4 (by intro c hc; omega)
              have hs4 := h.fr (k1.trans (g4.mono (by intro c hc; unfold inF; omega))) inF_M
              simp only [VL_X4_findSet_159]
              simp only [nI1]
              rw [k3'.1, tst _ (by omega), bt_tb hS14, b2i_1]
              refine br_t (nI_lt hi (by omega)) ⟨fun kb => ⟨vin (by omega) (by decide), ?_⟩, fun kb => nm_e (ih4 s4 ⟨g4, ?_⟩)⟩
              · rw [ix_nI (by omega), k3'.2 i hi]
                refine m_flipC hs4.mt hn4 hi fun s5 g5 hn5 => nm_e (ih4 s5 ⟨g4.trans g5, ?_⟩)
                rw [anP_congr (Q := fun j => tb S j && decide (i + 1 ≤ j)) fun j hj => ?_] at hn5
                · exact hn5
                · by_cases ej : j = i
                  · subst ej; simp [kb]
                  · simp only [ej, if_false]
                    congr 1
                    rw [Bool.eq_iff_iff]; simp; omega
              · rw [Bool.not_eq_true] at kb
                rw [anP_congr (Q := fun j => tb S j && decide (i + 1 ≤ j)) fun j hj => ?_] at hn4
                · exact hn4
                · by_cases ej : j = i
                  · subst ej; simp [kb]
                  · congr 1
                    rw [Bool.eq_iff_iff]; simp; omega
          refine m_isOpen hs2.mt hn2 fun s3 f3 => ?_
          have ff3 := ff.trans (f3.mono (by intro c hc; unfold inF; omega))
          have hn3 := hn2.fr f3 (by intro c hc; omega)
          have hl3 := hl2.fr f3 (by intro c hc; omega)
          have e34 : zI s3 44 34 = zI s' 44 34 := by rw [f3.1 44 34 (by simp [cd]), g.1 44 34 (by simp [cd])]
          have e35 : zI s3 44 35 = zI s' 44 35 := by rw [f3.1 44 35 (by simp [cd]), g.1 44 35 (by simp [cd])]
          change (b2i (opS T (sg t) (al t) S) = 0 → _) ∧ (¬ b2i (opS T (sg t) (al t) S) = 0 → _)
          refine br0 (fun k => back s3 ff3 hn3 hl3 ?_ ?_) fun k => nm_e (nm_e (back _ ((ff3.sI 44 34 _ (by unfold inF cd; simp)).sI 44 35 _ (by unfold inF cd; simp)) ?_ ?_ ?_ ?_))
          · rw [e34, e1]
            conv => rhs; unfold srch
            cases hsr : srch (opS T (sg t) (al t)) (fun S => byV T (sg t) (al t) c (tb S) (nCd T (sg t) (al t))) S with
            | none => simp only [k]; rfl
            | some q => simp [k]
          · rw [e35, e2]
            conv => rhs; unfold srch
            cases hsr : srch (opS T (sg t) (al t)) (fun S => byV T (sg t) (al t) c (tb S) (nCd T (sg t) (al t))) S with
            | none => simp only [k]; rfl
            | some q => simp [k]
          · exact hn3.fr ((Fr.rfl.sI (S := fun c => c = 1000034 ∨ c = 1000035) 44 34 _ (.inl rfl)).sI 44 35 _ (.inr rfl)) (by intro c hc; omega)
          · exact hl3.fr ((Fr.rfl.sI (S := fun c => c = 1000034 ∨ c = 1000035) 44 34 _ (.inl rfl)).sI 44 35 _ (.inr rfl)) (by intro c hc; omega)
          · rw [zI_ne _ (.inr (by decide)), zI_self]
            conv => rhs; unfold srch
            cases hsr : srch (opS T (sg t) (al t)) (fun S => byV T (sg t) (al t) c (tb S) (nCd T (sg t) (al t))) S with
            | none => simp only [k]; rfl
            | some q =>
              obtain ⟨b, v⟩ := q
              simp only
              rw [if_pos ⟨hlt b v hsr, k⟩]; rfl
          · rw [zI_self]
            conv => rhs; unfold srch
            cases hsr : srch (opS T (sg t) (al t)) (fun S => byV T (sg t) (al t) c (tb S) (nCd T (sg t) (al t))) S with
            | none => simp only [k]; rfl
            | some q =>
              obtain ⟨b, v⟩ := q
              simp only
              rw [if_pos ⟨hlt b v hsr, k⟩]; rfl
        · rintro n3 i s2 hi ⟨g, hn2⟩ ih3
          have hl2 := hl.fr g (by intro c hc; omega)
          have hs2 := h.fr (f.trans (g.mono (by intro c hc; unfold inF; omega))) inF_M
          simp only [VL_X4_findSet_102]
          simp only [nI1]
          rw [hl2.1, tst _ (by omega), bt_tb hS14, b2i_1]
          refine br_t (nI_lt hi (by omega)) ⟨fun kb => ⟨vin (by omega) (by decide), ?_⟩, fun kb => nm_e (ih3 s2 ⟨g, ?_⟩)⟩
          · rw [ix_nI (by omega), hl2.2 i hi]
            refine m_flipC hs2.mt hn2 hi fun s5 g5 hn5 => nm_e (ih3 s5 ⟨g.trans g5, ?_⟩)
            rw [anP_congr (Q := fun j => tb S j && decide (j < i + 1)) fun j hj => ?_] at hn5
            · exact hn5
            · by_cases ej : j = i
              · subst ej; simp [kb]
              · simp only [ej, if_false]
                congr 1
                rw [Bool.eq_iff_iff]; simp; omega
          · rw [Bool.not_eq_true] at kb
            rw [anP_congr (Q := fun j => tb S j && decide (j < i + 1)) fun j hj => ?_] at hn2
            · exact hn2
            · by_cases ej : j = i
              · subst ej; simp [kb]
              · congr 1
                rw [Bool.eq_iff_iff]; simp; omega
      rw [e1]
      cases hsr : srch (opS T (sg t) (al t)) (fun S => byV T (sg t) (al t) c (tb S) (nCd T (sg t) (al t))) S with
      | none => exact br_t rfl (tries fun b v k => by rw [hsr] at k; cases k)
      | some q =>
        obtain ⟨b, v⟩ := q
        have hq := srch_some hsr
        have hbv : v ≤ 20 * 14 := by
          rw [hq.2]
          have := by_le w (c := c) (sn := sg t) (an := al t) (tb b) (Nat.le_refl _)
          omega
        refine br_f (by show ¬ nI v = -1; rw [nI_m1 (by omega)]; exact id) ?_
        show (nI _ < nI v → _) ∧ (¬ nI _ < nI v → _)
        rw [nI_ltI (by omega) (by omega)]
        refine ⟨fun k => tries fun b' v' e => by rw [hsr] at e; cases e; exact k, fun k => nm_e (ih s' ⟨f, hn, hl, ?_, ?_⟩)⟩
        · rw [e1]
          conv => rhs; unfold srch
          rw [hsr]; simp only; rw [if_neg (fun e => k e.1)]
        · rw [e2]
          conv => rhs; unfold srch
          rw [hsr]; simp only; rw [if_neg (fun e => k e.1)]
    · rintro n2 i s' v hi ⟨rfl, rfl⟩ ih2
      simp only [VL_X4_findSet_33]
      simp only [nI1]
      rw [hl.1, tst _ (by omega), bt_tb hS14]
      have hbl := by_le w (c := c) (sn := sg t) (an := al t) (tb S) (Nat.le_of_lt hi)
      have eb : ∀ x : Int32, x = nI (wtV T (sg t) (al t) c i) → nI (byV T (sg t) (al t) c (tb S) i) + b2i (tb S i) * x = nI (byV T (sg t) (al t) c (tb S) (i + 1)) := by
        intro x hx
        subst hx
        show _ = nI (byV T (sg t) (al t) c (tb S) i + (if tb S i then _ else 0))
        cases tb S i
        · show _ + nI 0 * nI _ = _; rw [pk_mul, nI_add, Nat.zero_mul]; rfl
        · show _ + nI 1 * nI _ = _; rw [pk_mul, nI_add, Nat.one_mul]; rfl
      refine br_t (nI_lt hi (by omega)) (br0 (fun kc => nm_e (nm_e (ih2 s' _ ⟨rfl, eb 1 (by unfold wtV; rw [kc]; rfl)⟩))) fun kc => ⟨vin (by omega) (by decide), ?_⟩)
      rw [ix_nI (by omega), hl.2 i hi]
      exact m_costOf hs.mt (cdA_is hi).1 (nm_e (nm_e (ih2 s' _ ⟨rfl, eb _ (by unfold wtV; rw [kc]; rfl)⟩)))
theorem M_ls {T : Tw} {tm : Nat} {sg al : Nat → Nat → Int32} {σ : ZS} (h : ME T tm sg al σ) (hb : zI σ 44 54 = -1) {t x : Int32} {c : Bool} {Ret : Int32 → ZS → Prop} (hr : PM σ Ret (0, lsQ T (sg (ix t)) (al (ix t)) c x)) (h1 : inN t (tm + 1) = true) (h2 : inN x 2 = true) : wp_X4_findSet (sI σ 44 0 0) t (b2i c) (fun σ7 => ((x = 0 → (Ret (zI σ7 44 34) σ7)) ∧ (¬ x = 0 → (Ret (zI σ7 44 35) σ7)))) := by
  obtain ⟨hz, -⟩ := h.z
  obtain ⟨w, rfl, hw, ew, -⟩ := inN_N h1
  rw [ew] at hr
  refine m_findSet hz (t := w) (by omega) fun s f e1 e2 => ?_
  have hS : ∀ c, inF c → SM c ∧ c ≠ 1000000 ∧ c ≠ 1000054 := by intro c hc; unfold inF at hc; unfold SM; omega
  have ok : ∀ v, v = lsQ T (sg w) (al w) c x → Ret v s := fun v e => hr.ok rfl hb f hS e
  unfold lsQ at ok
  rw [inN2] at h2
  refine ⟨fun k => ok _ ?_, fun k => ok _ ?_⟩
  · rw [e1]
    cases hl : lsR T (sg w) (al w) c with
    | none => rfl
    | some q => simp only; rw [k, if_neg (by decide)]; rfl
  · have k1 : x = 1 := by simpa [k] using h2
    rw [e2]
    cases hl : lsR T (sg w) (al w) c with
    | none => rfl
    | some q => simp only; rw [if_pos k1]; rfl
theorem M_fewest {T : Tw} {tm : Nat} {sg al : Nat → Nat → Int32} {σ : ZS} (h : ME T tm sg al σ) (hb : zI σ 44 54 = -1) {t x : Int32} {Ret : Int32 → ZS → Prop} (hr : PM σ Ret (spLs T tm sg al false t x)) : wp_X4_fewest σ t x Ret := by
  unfold wp_X4_fewest
  obtain ⟨h1, hz⟩ := h.z
  unfold spLs at hr
  refine M_tw h (fun k => ?_) fun k k2 => ?_
  · unfold V_X4_fewest_23 V_X4_fewest_28
    exact m_bad1 hz (by decide) (br_f (by decide) (hr.thr (c := 1) (sp1_1 k) (by decide) hb))
  · unfold V_X4_fewest_28
    rw [sp1_0 (by rw [k, k2]; rfl)] at hr
    exact m_bad0 hz (br_t rfl (M_ls (c := false) h hb hr k k2))
theorem M_cheapest {T : Tw} {tm : Nat} {sg al : Nat → Nat → Int32} {σ : ZS} (h : ME T tm sg al σ) (hb : zI σ 44 54 = -1) {t x : Int32} {Ret : Int32 → ZS → Prop} (hr : PM σ Ret (spLs T tm sg al true t x)) : wp_X4_cheapest σ t x Ret := by
  unfold wp_X4_cheapest
  obtain ⟨h1, hz⟩ := h.z
  unfold spLs at hr
  refine M_tw h (fun k => ?_) fun k k2 => ?_
  · unfold V_X4_cheapest_23 V_X4_cheapest_28
    exact m_bad1 hz (by decide) (br_f (by decide) (hr.thr (c := 1) (sp1_1 k) (by decide) hb))
  · unfold V_X4_cheapest_28
    rw [sp1_0 (by rw [k, k2]; rfl)] at hr
    exact m_bad0 hz (br_t rfl (M_ls (c := true) h hb hr k k2))
