/-! PURE HALF: parts, together. -/
set_option maxRecDepth 100000
/-- two arcs lead to each other -/
noncomputable def tgB (T : Tw) (G : Nat → Nat → Bool) (a b : Nat) : Bool := RcB T G a b && RcB T G b a
theorem tg_sym (T : Tw) (G : Nat → Nat → Bool) (a b : Nat) : tgB T G a b = tgB T G b a := by unfold tgB; rw [Bool.and_comm]
theorem tg_refl {T : Tw} {G : Nat → Nat → Bool} {a : Nat} (h : T.isArc a = true) : tgB T G a a = true := by
  unfold tgB; rw [RcB_iff.mpr (.refl h)]; rfl
theorem tg_trans {T : Tw} {G : Nat → Nat → Bool} {a b c : Nat} (h1 : tgB T G a b = true) (h2 : tgB T G b c = true) : tgB T G a c = true := by
  unfold tgB at *
  simp only [Bool.and_eq_true, RcB_iff] at *
  exact ⟨h1.1.trans h2.1, h2.2.trans h1.2⟩
theorem tg_arc {T : Tw} {G : Nat → Nat → Bool} {a b : Nat} (h : tgB T G a b = true) : T.isArc a = true ∧ T.isArc b = true := by
  unfold tgB at h
  simp only [Bool.and_eq_true, RcB_iff] at h
  exact ⟨h.1.arc1, h.1.arc2⟩
/-- the first arc of an arc's part -/
noncomputable def ptF (T : Tw) (G : Nat → Nat → Bool) (a : Nat) : Nat := leastN (fun x => tgB T G x a = true)
theorem pt_is {T : Tw} {G : Nat → Nat → Bool} {a : Nat} (h : T.isArc a = true) : tgB T G (ptF T G a) a = true ∧ (∀ j, j < ptF T G a → ¬ tgB T G j a = true) ∧ ptF T G a ≤ a := by
  obtain ⟨h1, h2⟩ := leastN_is (P := fun x => tgB T G x a = true) ⟨a, tg_refl h⟩
  refine ⟨h1, h2, ?_⟩
  rcases Nat.lt_or_ge a (ptF T G a) with k | k
  · exact absurd (tg_refl h) (h2 a k)
  · exact k
theorem pt_eq {T : Tw} {G : Nat → Nat → Bool} {a b : Nat} (ha : T.isArc a = true) (hb : T.isArc b = true) : (ptF T G a = ptF T G b) ↔ tgB T G a b = true := by
  obtain ⟨a1, a2, -⟩ := pt_is (G := G) ha
  obtain ⟨b1, b2, -⟩ := pt_is (G := G) hb
  constructor
  · intro e
    rw [e] at a1
    rw [tg_sym] at a1
    exact tg_trans a1 b1
  · intro e
    have k1 : ¬ ptF T G a < ptF T G b := fun l => b2 _ l (tg_trans a1 e)
    have k2 : ¬ ptF T G b < ptF T G a := fun l => a2 _ l (tg_trans b1 (by rw [tg_sym]; exact e))
    omega
noncomputable def ptI (T : Tw) (G : Nat → Nat → Bool) (a : Nat) : Int32 := if T.isArc a then nI (ptF T G a) else -1
def inP (c : Nat) : Prop := 22 ≤ c ∧ c < 26
theorem inP_C : ∀ c, inP c → scC c := by intro c hc; unfold inP at hc; unfold scC; omega
theorem c_findParts {e : Ev} {σ : ZS} (h : CE e σ) {t : Nat} (ht : t ≤ e.tm) {Ret : ZS → Prop} (hr : ∀ σ', Fr inP σ σ' → (∀ a, a < 2 * e.T.ns → zI σ' 24 a = ptI e.T (e.G t) a) → Ret σ') : wp_X1_findParts σ (nI t) Ret := by
  have w := h.ct.wf
  have hns := w.ns
  unfold wp_X1_findParts
  refine forL (S := ZS) (fun m s x => VL_X1_findParts_2 Ret m s (nI t) x) (fun i s => Fr inP σ s ∧ (∀ a, a < i → zI s 24 a = -1) ∧ ∀ a b, a < i → b < 2 * e.T.ns → btL (zJ s 25 a) b = RcB e.T (e.G t) a b) (2 * e.T.ns) ?_ ?_ 0 σ (Nat.zero_le _) ⟨Fr.rfl, fun a ha => absurd ha (Nat.not_lt_zero _), fun a b ha => absurd ha (Nat.not_lt_zero _)⟩
  · rintro n s ⟨f, g1, g2⟩
    have hs := h.fr f inP_C
    simp only [VL_X1_findParts_2]
    refine t_arcs hs.ct (br_f (nI_nlt (Nat.le_refl _) (by omega)) ?_)
    refine forL (S := ZS) (fun m s x => VL_X1_findParts_141 Ret m s x) (fun i s => Fr inP σ s ∧ (∀ a, a < 2 * e.T.ns → zI s 24 a = if a < i then ptI e.T (e.G t) a else -1) ∧ ∀ a b, a < 2 * e.T.ns → b < 2 * e.T.ns → btL (zJ s 25 a) b = RcB e.T (e.G t) a b) (2 * e.T.ns) ?_ ?_ 0 s (Nat.zero_le _) ⟨f, fun a ha => by rw [if_neg (by omega)]; exact g1 a ha, g2⟩
    · rintro n s ⟨f, g1, g2⟩
      have hs := h.fr f inP_C
      simp only [VL_X1_findParts_141]
      exact t_arcs hs.ct (br_f (nI_nlt (Nat.le_refl _) (by omega)) (hr s f fun a ha => by rw [g1 a ha, if_pos ha]))
    · rintro n i s hi ⟨f, g1, g2⟩ ih
      have hs := h.fr f inP_C
      simp only [VL_X1_findParts_141]
      simp only [nI1]
      refine t_arcs hs.ct (br_t (nI_lt hi (by omega)) (t_isArcN hs.ct (by omega) (br0 (fun k1 => nm_e (ih s ⟨f, fun a ha => ?_, g2⟩)) fun k1 => ?_)))
      · rw [g1 a ha]
        by_cases ea : a = i
        · subst ea; rw [if_neg (by omega), if_pos (by omega)]; unfold ptI; rw [k1]; rfl
        · by_cases el : a < i
          · rw [if_pos el, if_pos (by omega)]
          · rw [if_neg el, if_neg (by omega)]
      · obtain ⟨p1, p2, p3⟩ := pt_is (G := e.G t) k1
        have together : ∀ x, x < 2 * e.T.ns → ∀ {R : Int32 → ZS → Prop}, R (b2i (tgB e.T (e.G t) x i)) s → wp_X1_areTogether s (nI x) (nI i) R := by
          intro x hx R hR
          unfold wp_X1_areTogether
          rw [ix_nI (by omega), ix_nI (by omega), tstL _ (by omega), tstL _ (by omega), lg_1, lg_1, g2 x i hx hi, g2 i x hi hx]
          unfold tgB at hR
          refine ⟨vin (by omega) (by decide), fun k => ⟨vin (by omega) (by decide), fun k2 => ?_, fun k2 => ?_⟩, fun k => ?_⟩
          · rw [k, k2] at hR; exact hR
          · rw [Bool.not_eq_true] at k2; rw [k, k2] at hR; exact hR
          · rw [Bool.not_eq_true] at k; rw [k] at hR; exact hR
        refine forL (S := ZS) (fun m s x => VL_X1_findParts_168 _ Ret m s (nI i) x) (fun _ s' => s' = s) (ptF e.T (e.G t) i) ?_ ?_ 0 s (Nat.zero_le _) rfl
        · rintro n2 s' rfl
          simp only [VL_X1_findParts_168]
          simp only [nI1]
          refine together _ (by omega) ?_
          rw [p1, ix_nI (by omega)]
          refine br_f (by decide) ⟨vin (by omega) (by decide), nm_e (nm_e (ih _ ⟨f.sI _ _ _ (by unfold inP cd; simp), fun a ha => ?_, g2⟩))⟩
          rw [zI_row]
          by_cases ea : a = i
          · rw [if_pos ea, if_pos (by omega), ea]; unfold ptI; rw [k1]; rfl
          · rw [if_neg ea, g1 a ha]
            by_cases el : a < i
            · rw [if_pos el, if_pos (by omega)]
            · rw [if_neg el, if_neg (by omega)]
        · rintro n2 x s' hx rfl ih2
          simp only [VL_X1_findParts_168]
          simp only [nI1]
          refine together x (by omega) ?_
          have : tgB e.T (e.G t) x i = false := by rw [← Bool.not_eq_true]; exact p2 x hx
          rw [this]
          exact br_t rfl (nm_e (ih2 s' rfl))
  · rintro n i s hi ⟨f, g1, g2⟩ ih
    have hs := h.fr f inP_C
    simp only [VL_X1_findParts_2]
    simp only [nI1]
    refine t_arcs hs.ct (br_t (nI_lt hi (by omega)) ⟨vin (by omega) (by decide), nm_e ⟨vin (by omega) (by decide), nm_e ?_⟩⟩)
    rw [ix_nI (by omega)]
    have f1 : Fr inP σ (sI (sJ s 25 i 0) 24 i (-1)) := (f.sJ 25 i 0 (by unfold inP cd; simp)).sI 24 i _ (by unfold inP cd; simp)
    have a1 : ∀ a, a < i + 1 → zI (sI (sJ s 25 i 0) 24 i (-1)) 24 a = -1 := fun a ha => by
      rw [zI_row]
      by_cases ea : a = i
      · rw [if_pos ea]
      · rw [if_neg ea, qI_sJ]; exact g1 a (by omega)
    have a2 : ∀ a b, a < i → b < 2 * e.T.ns → btL (zJ (sI (sJ s 25 i 0) 24 i (-1)) 25 a) b = RcB e.T (e.G t) a b := fun a b ha hb => by
      rw [qJ_sI, zJ_row, if_neg (by omega)]; exact g2 a b ha hb
    have a3 : zJ (sI (sJ s 25 i 0) 24 i (-1)) 25 i = 0 := by rw [qJ_sI, zJ_row, if_pos rfl]
    generalize sI (sJ s 25 i 0) 24 i (-1) = s1 at f1 a1 a2 a3 ⊢
    have hs1 := h.fr f1 inP_C
    refine t_isArcN hs1.ct (by omega) (br0 (fun k1 => nm_e (ih s1 ⟨f1, a1, fun a b ha hb => ?_⟩)) fun k1 => ?_)
    · by_cases ea : a = i
      · subst ea
        rw [a3, btL_0]; symm
        rw [← Bool.not_eq_true, RcB_iff]
        intro k; rw [k.arc1] at k1; cases k1
      · exact a2 a b (by omega) hb
    refine forL (S := ZS) (fun m s x => VL_X1_findParts_43 _ Ret m s (nI t) (nI i) x) (fun j s2 => Fr inQ s1 s2 ∧ ∀ b, b < j → sn s2 b = decide (b = i)) (2 * e.T.ns) ?_ ?_ 0 s1 (Nat.zero_le _) ⟨Fr.rfl, fun b hb => absurd hb (Nat.not_lt_zero _)⟩
    · rintro n2 s2 ⟨f2, b2⟩
      have ff2 := f1.trans (f2.mono (by intro c hc; unfold inQ at hc; unfold inP; omega))
      have hs2 := h.fr ff2 inP_C
      simp only [VL_X1_findParts_43]
      refine t_arcs hs2.ct (br_f (nI_nlt (Nat.le_refl _) (by omega)) (nm_e ?_))
      rw [ix0]
      have f3 : Fr inQ s1 (sI s2 23 0 (nI i)) := f2.sI _ _ _ (.inr rfl)
      have ff3 := f1.trans (f3.mono (by intro c hc; unfold inQ at hc; unfold inP; omega))
      have hs3 := h.fr ff3 inP_C
      have b3 : ∀ b, b < 2 * e.T.ns → sn (sI s2 23 0 (nI i)) b = decide (b = i) := fun b hb => by rw [sn_ne (by decide)]; exact b2 b hb
      have ec : cnt (sn (sI s2 23 0 (nI i))) (2 * e.T.ns) = 1 := by
        rw [cnt_congr b3, cnt_up (p := fun _ => false) hi (fun x hx => by simp [hx]) rfl (by simp)]
        have : ∀ m, cnt (fun _ => false) m = 0 := by
          intro m
          induction m with
          | zero => rfl
          | succ m ihm => show cnt _ m + 0 = 0; rw [ihm]
        rw [this]
      have Q : Qu e.T (sI s2 23 0 (nI i)) 1 (fun _ => i) := ⟨ec.symm, fun j hj => ⟨by rw [show j = 0 by omega, zI_self], k1⟩, fun b hb => by
        rw [b3 b hb, decide_eq_true_eq]
        exact ⟨fun e1 => ⟨0, by omega, e1.symm⟩, fun ⟨_, _, e1⟩ => e1.symm⟩⟩
      refine c_goesOn hs3 ht Q fun s4 f4 hsn => ?_
      have f4' := f3.trans f4
      have ff4 := f1.trans (f4'.mono (by intro c hc; unfold inQ at hc; unfold inP; omega))
      have hsn' : ∀ b, b < 2 * e.T.ns → sn s4 b = RcB e.T (e.G t) i b := by
        intro b hb
        rw [Bool.eq_iff_iff, hsn b hb, RcB_iff]
        constructor
        · rintro ⟨a, ha, e1, e2⟩
          rw [b3 a ha, decide_eq_true_eq] at e1
          rw [← e1]; exact e2
        · intro e1; exact ⟨i, hi, by rw [b3 i hi]; simp, e1⟩
      refine forL (S := ZS) (fun m s x => VL_X1_findParts_91 _ Ret m s (nI t) (nI i) x) (fun j s5 => Fr (fun c => c = 25) s4 s5 ∧ (∀ a b, a < i → b < 2 * e.T.ns → btL (zJ s5 25 a) b = RcB e.T (e.G t) a b) ∧ ∀ b, b < 2 * e.T.ns → btL (zJ s5 25 i) b = (decide (b < j) && RcB e.T (e.G t) i b)) (2 * e.T.ns) ?_ ?_ 0 s4 (Nat.zero_le _) ⟨Fr.rfl, fun a b ha hb => by rw [f4'.2.1 25 a (by unfold inQ cd; simp)]; exact a2 a b ha hb, fun b hb => by rw [f4'.2.1 25 i (by unfold inQ cd; simp), a3, btL_0]; simp⟩
      · rintro n3 s5 ⟨f5, c1, c2⟩
        have ff5 := ff4.trans (f5.mono (by intro c hc; unfold inP; omega))
        have hs5 := h.fr ff5 inP_C
        simp only [VL_X1_findParts_91]
        simp only [nI1]
        refine t_arcs hs5.ct (br_f (nI_nlt (Nat.le_refl _) (by omega)) (nm_e (ih s5 ⟨ff5, fun a ha => ?_, fun a b ha hb => ?_⟩)))
        · rw [f5.1 24 a (by simp [cd]), f4'.1 24 a (by unfold inQ cd; simp)]; exact a1 a ha
        · by_cases ea : a = i
          · subst ea; rw [c2 b hb]; simp [hb]
          · exact c1 a b (by omega) hb
      · rintro n3 j s5 hj ⟨f5, c1, c2⟩ ih5
        have ff5 := ff4.trans (f5.mono (by intro c hc; unfold inP; omega))
        have hs5 := h.fr ff5 inP_C
        simp only [VL_X1_findParts_91]
        simp only [nI1]
        refine t_arcs hs5.ct (br_t (nI_lt hj (by omega)) ⟨vin (by omega) (by decide), vin (by omega) (by decide), ?_⟩)
        have esn : sn s5 j = RcB e.T (e.G t) i j := by
          have : sn s5 j = sn s4 j := by unfold sn; rw [f5.1 22 j (by simp [cd])]
          rw [this, hsn' j hj]
        rw [ix_nI (by omega), ix_nI (by omega), sn_0, esn]
        refine ⟨fun k5 => ⟨vin (by omega) (by decide), nm_e (nm_e (ih5 _ ⟨f5.sJ _ _ _ rfl, fun a b ha hb => ?_, fun b hb => ?_⟩))⟩, fun k5 => ⟨vin (by omega) (by decide), nm_e (nm_e (ih5 _ ⟨f5.sJ _ _ _ rfl, fun a b ha hb => ?_, fun b hb => ?_⟩))⟩⟩
        · rw [zJ_row, if_neg (by omega)]; exact c1 a b ha hb
        · rw [zJ_row, if_pos rfl, btL_or, btL_0, Bool.or_false, c2 b hb]
          by_cases eb : b = j
          · subst eb; rw [k5]; simp
          · have : decide (b < j + 1) = decide (b < j) := by rw [Bool.eq_iff_iff]; simp; omega
            rw [this]
        · rw [zJ_row, if_neg (by omega)]; exact c1 a b ha hb
        · rw [zJ_row, if_pos rfl, btL_or, btL_one (by omega) (by omega), c2 b hb]
          by_cases eb : b = j
          · subst eb
            have : RcB e.T (e.G t) i b = true := by simpa using k5
            rw [this]; simp
          · have : decide (b < j + 1) = decide (b < j) := by rw [Bool.eq_iff_iff]; simp; omega
            rw [this]; simp [eb]
    · rintro n2 j s2 hj ⟨f2, b2⟩ ih2
      have ff2 := f1.trans (f2.mono (by intro c hc; unfold inQ at hc; unfold inP; omega))
      have hs2 := h.fr ff2 inP_C
      simp only [VL_X1_findParts_43]
      simp only [nI1]
      refine t_arcs hs2.ct (br_t (nI_lt hj (by omega)) ?_)
      rw [nI_eq (by omega) (by omega), ix_nI (by omega), narB0, narB1]
      refine ⟨fun k5 => ⟨vin (by omega) (by decide), nm_e (nm_e (ih2 _ ⟨f2.sI _ _ _ (.inl rfl), fun b hb => ?_⟩))⟩, fun k5 => ⟨vin (by omega) (by decide), nm_e (nm_e (ih2 _ ⟨f2.sI _ _ _ (.inl rfl), fun b hb => ?_⟩))⟩⟩
      · rw [sn_up]
        by_cases eb : b = j
        · rw [if_pos eb, eb]; simp [k5]
        · rw [if_neg eb]; exact b2 b (by omega)
      · rw [sn_up]
        by_cases eb : b = j
        · rw [if_pos eb, eb]; simp [k5]
        · rw [if_neg eb]; exact b2 b (by omega)
/-! together -/
noncomputable def spTog (T : Tw) (tm : Nat) (sg al : Nat → Nat → Int32) (a b t : Int32) : Nat × Int32 := sp2 (T.isArcI a && T.isArcI b) (inN t (tm + 1)) (b2i (tgB T (GT T sg al (ix t)) (ix a) (ix b)))
theorem inP_S : ∀ c, inP c → (20 ≤ c ∧ c < 44) ∨ c = 2000017 ∨ c = 2000030 ∨ c = 2000031 ∨ c = 2000037 ∨ c = 2000038 := by intro c hc; unfold inP at hc; omega
theorem C_together {T : Tw} {d : Ad} {tm : Nat} {sg al : Nat → Nat → Int32} {σ : ZS} (h : CQ T d tm sg al σ) {a b t : Int32} {Ret : Int32 → ZS → Prop} (hr : PC σ Ret (wd (spTog T tm sg al a b t))) : wp_X0_together σ a b t Ret := by
  unfold wp_X0_together wp_X1_together
  have ce := h.ce
  obtain ⟨ct, ch, sf, rm⟩ := h
  have hns := ct.wf.ns
  unfold spTog at hr
  refine c_needArc ct rm (fun h1 => c_needArc ct rm (fun h2 => c_isTime ch (c_need rm (fun h3 => ?_) (fun h3 σ' g k => .inr ⟨⟨0, k⟩, hr.thr (c := 2) ?_ (by decide) rm.1 sf g⟩))) (fun h2 σ' g k => .inl ⟨⟨0, k⟩, hr.thr (c := 1) ?_ (by decide) rm.1 sf g⟩)) (fun h1 σ' g k => .inl ⟨⟨0, k⟩, hr.thr (c := 1) ?_ (by decide) rm.1 sf g⟩)
  · rw [sp2_0 (by rw [h1, h2]; rfl) h3] at hr
    obtain ⟨x, rfl, hx, ax, ex⟩ := isArcI_N h1
    obtain ⟨y, rfl, hy, ay, ey⟩ := isArcI_N h2
    obtain ⟨w, rfl, hw, ew, -⟩ := inN_N h3
    rw [ex, ey, ew] at hr
    refine c_findParts ce (show w ≤ tm by omega) fun s f hp => ?_
    rw [ev0_G] at hp
    change ∀ a, a < 2 * T.ns → zI s 24 a = ptI T (GT T sg al w) a at hp
    rw [ex, ey, hp x hx, hp y hy]
    obtain ⟨-, -, lx⟩ := pt_is (G := GT T sg al w) ax
    obtain ⟨-, -, ly⟩ := pt_is (G := GT T sg al w) ay
    have e1 : (ptI T (GT T sg al w) x = ptI T (GT T sg al w) y) = (tgB T (GT T sg al w) x y = true) := by
      unfold ptI; rw [ax, ay, if_pos rfl, if_pos rfl, nI_eq (by omega) (by omega)]
      exact propext (pt_eq ax ay)
    rw [e1]
    refine ⟨vin (by omega) (by decide), vin (by omega) (by decide), brB rfl (fun k => ?_) fun k => ?_⟩
    · exact hr.okB (b := true) rfl sf f inP_S (by rw [show wd (0, b2i (tgB T (GT T sg al w) x y)) = wd (0, b2i true) by rw [k]]; rfl)
    · exact hr.okB (b := false) rfl sf f inP_S (by rw [show wd (0, b2i (tgB T (GT T sg al w) x y)) = wd (0, b2i false) by rw [k]]; rfl)
  · exact sp2_2 (by rw [h1, h2]; rfl) h3
  · exact sp2_1 (by rw [h2, Bool.and_false])
  · exact sp2_1 (by rw [h1]; rfl)
theorem m_areOne {T : Tw} {σ : ZS} (hns : T.ns ≤ 24) {G : Nat → Nat → Bool} (hm : ReaM T G σ) {a b : Nat} (ha : a < 2 * T.ns) (hb : b < 2 * T.ns) {Ret : Int32 → ZS → Prop} (hr : Ret (b2i (tgB T G a b)) σ) : wp_X4_areOne σ (nI a) (nI b) Ret := by
  unfold wp_X4_areOne
  rw [ix_nI (by omega), ix_nI (by omega), tstU _ (by omega), tstU _ (by omega), lg_1, lg_1, hm a b ha hb, hm b a hb ha]
  unfold tgB at hr
  refine ⟨vin (by omega) (by decide), fun k => ⟨vin (by omega) (by decide), fun k2 => ?_, fun k2 => ?_⟩, fun k => ?_⟩
  · rw [k, k2] at hr; exact hr
  · rw [Bool.not_eq_true] at k2; rw [k, k2] at hr; exact hr
  · rw [Bool.not_eq_true] at k; rw [k] at hr; exact hr
theorem M_together {T : Tw} {tm : Nat} {sg al : Nat → Nat → Int32} {σ : ZS} (h : ME T tm sg al σ) (hb : zI σ 44 54 = -1) {a b t : Int32} {Ret : Int32 → ZS → Prop} (hr : PM σ Ret (spTog T tm sg al a b t)) : wp_X4_together σ a b t Ret := by
  unfold wp_X4_together
  refine nm_e ?_
  obtain ⟨h1, hz⟩ := h.z
  unfold spTog at hr
  have bad : (T.isArcI a && T.isArcI b) = false → V_X4_together_22 Ret (sI σ 44 0 0) a b t := by
    intro k
    unfold V_X4_together_22 V_X4_together_27
    exact m_bad1 hz (by decide) (br_f (by decide) (hr.thr (c := 1) (sp2_1 k) (by decide) hb))
  refine m_isArc h1.mt (br0 (fun k => bad (by rw [k]; rfl)) fun k => m_isArc h1.mt (br0 (fun k2 => bad (by rw [k2, Bool.and_false])) fun k2 => ?_))
  unfold V_X4_together_27
  refine m_bad0 hz (br_t rfl (m_isTime h1 (br0 (fun k3 => ?_) fun k3 => ?_)))
  · unfold V_X4_together_48
    exact m_bad1 hz (by decide) (br_f (by decide) (hr.thr (c := 2) (sp2_2 (by rw [k, k2]; rfl) k3) (by decide) hb))
  · unfold V_X4_together_48
    rw [sp2_0 (by rw [k, k2]; rfl) k3] at hr
    obtain ⟨x, rfl, hx, -, ex⟩ := isArcI_N k
    obtain ⟨y, rfl, hy, -, ey⟩ := isArcI_N k2
    obtain ⟨w, rfl, hw, ew, -⟩ := inN_N k3
    rw [ex, ey, ew] at hr
    refine m_bad0 hz (br_t rfl (m_asks h1 (t := w) (by omega) fun s f hn hf => m_layReaches (h1.fr f (by intro c hc; unfold scM; omega)).mt hf fun s2 f2 hr2 => ?_))
    have ff : Fr (fun c => c = 564 ∨ c = 565 ∨ c = 566 ∨ c = 567) (sI σ 44 0 0) s2 := (f.mono (by intro c hc; omega)).trans (f2.mono (by intro c hc; omega))
    exact m_areOne h.mt.wf.ns hr2 hx hy ⟨isB_b _, hr.ok rfl hb ff (by intro c hc; unfold SM; omega) rfl⟩
