/-! PURE HALF: detours, gains. -/
set_option maxRecDepth 100000
def GF (T : Tw) (a b : Nat) : Bool := !decide (T.turn a b = -1) && !decide (T.turn a b = 0)
theorem GF_pos (T : Tw) (a b : Nat) : (0 < T.turn a b) = (GF T a b = true) := by
  unfold GF
  rcases turn_cases T a b with e | e | e | e | e <;> rw [e] <;> decide
noncomputable def detV (T : Tw) (G : Nat → Nat → Bool) (a b : Nat) : Int32 := match rideV T G a b with
  | none => -1
  | some n => nI n - oI (rideV T (GF T) a b)
noncomputable def spDet (T : Tw) (tm : Nat) (sg al : Nat → Nat → Int32) (a b t : Int32) : Nat × Int32 := sp2 (inN a T.nc && inN b T.nc) (inN t (tm + 1)) (detV T (GT T sg al (ix t)) (ix a) (ix b))
theorem C_detour {T : Tw} {d : Ad} {tm : Nat} {sg al : Nat → Nat → Int32} {σ : ZS} (h : CQ T d tm sg al σ) {a b t : Int32} {Ret : Int32 → ZS → Prop} (hr : PC σ Ret (wd (spDet T tm sg al a b t))) : wp_X0_detour σ a b t Ret := by
  unfold wp_X0_detour wp_X1_detour
  refine C_cct h hr (fun h1 h2 h3 hr => ?_) rfl
  have ce := h.ce
  have sf := h.2.2.1
  have w' := h.1.wf
  obtain ⟨x, rfl, hx, ex, hx2⟩ := inN_N h1
  obtain ⟨y, rfl, hy, ey, hy2⟩ := inN_N h2
  obtain ⟨w, rfl, hw, ew, -⟩ := inN_N h3
  rw [ex, ey, ew] at hr
  refine c_rideOf ce hx2 hy2 (by show w ≤ tm; omega) fun s f _ => ?_
  rw [ev0_G]
  change (oI (rideV T (GT T sg al w) x y) = -1 → _) ∧ (¬ oI (rideV T (GT T sg al w) x y) = -1 → _)
  unfold detV at hr
  cases hv : rideV T (GT T sg al w) x y with
  | none =>
    rw [hv] at hr
    exact br_t rfl (hr.ok rfl sf f (by intro c hc; omega) rfl)
  | some n =>
    have hn := rideV_le w' hv
    rw [hv] at hr
    refine br_f (by show ¬ nI n = -1; rw [nI_m1 (by omega)]; exact id) (nm_e ?_)
    have f2 : Fr (fun c => c = 20 ∨ c = 2000009) σ (sI s 0 9 1) := (f.mono (by intro c hc; omega)).sI 0 9 1 (.inr rfl)
    have ct2 := h.1.fr f2 (by intro c hc; unfold noA; omega)
    have ch2 := h.2.1.fr f2 (by intro c hc; omega)
    have ce2 : CE (Ev.mk T d tm sg al true (fun _ => 0) (fun _ => 0)) (sI s 0 9 1) := ⟨ct2, ch2, zI_self _ _ _ _, fun q hq => by rw [f2.1 18 q (by simp [cd])]; exact sf.ov.em q hq, fun q hq => by rw [f2.1 19 q (by simp [cd])]; exact sf.ov.ee q hq⟩
    refine c_rideOf ce2 hx2 hy2 (show w ≤ tm by omega) fun s3 f3 _ => ?_
    have eG : (Ev.mk T d tm sg al true (fun _ => 0) (fun _ => 0)).G w = GF T := by
      funext p q
      show mayC T true (sg w) (al w) (fun _ => 0) (fun _ => 0) p q = GF T p q
      unfold mayC GF; simp
    rw [eG]
    refine nm_e ?_
    have f3' : Fr (fun c => c = 20 ∨ c = 2000009) σ s3 := f2.trans (f3.mono (by intro c hc; omega))
    have f4 := f3'.sI 0 9 0 (.inr rfl)
    have sf4 : Sf (sI s3 0 9 0) := ⟨⟨zI_self _ _ _ _, fun q hq => by rw [f4.1 18 q (by simp [cd])]; exact sf.ov.em q hq, fun q hq => by rw [f4.1 19 q (by simp [cd])]; exact sf.ov.ee q hq⟩, by rw [f4.1 0 36 (by simp [cd])]; exact sf.bf⟩
    exact hr.ret rfl (f4.mono (by intro c hc; unfold SQ; omega)) sf4 (by show (oI (rideV T (GT T sg al w) x y) - oI (rideV T (GF T) x y)).toInt64 = _; rw [hv]; rfl)
theorem M_detour {T : Tw} {tm : Nat} {sg al : Nat → Nat → Int32} {σ : ZS} (h : ME T tm sg al σ) (hb : zI σ 44 54 = -1) {a b t : Int32} {Ret : Int32 → ZS → Prop} (hr : PM σ Ret (spDet T tm sg al a b t)) : wp_X4_detour σ a b t Ret := by
  unfold wp_X4_detour
  obtain ⟨h1, hz⟩ := h.z
  have w' := h.mt.wf
  have hns := w'.ns
  unfold spDet at hr
  refine M_cct h (fun k => ?_) fun k k2 => ?_
  · unfold V_X4_detour_22 V_X4_detour_27
    exact m_bad1 hz (by decide) (br_f (by decide) (hr.thr (c := 1) (sp2_1 k) (by decide) hb))
  unfold V_X4_detour_27
  refine m_bad0 hz (br_t rfl (m_isTime h1 (br0 (fun k3 => ?_) fun k3 => ?_)))
  · unfold V_X4_detour_48
    exact m_bad1 hz (by decide) (br_f (by decide) (hr.thr (c := 2) (sp2_2 (by rw [k, k2]; rfl) k3) (by decide) hb))
  unfold V_X4_detour_48
  rw [sp2_0 (by rw [k, k2]; rfl) k3] at hr
  obtain ⟨x, rfl, hx, ex, hx2⟩ := inN_N k
  obtain ⟨y, rfl, hy, ey, hy2⟩ := inN_N k2
  obtain ⟨w, rfl, hw, ew, -⟩ := inN_N k3
  rw [ex, ey, ew] at hr
  have hS : ∀ c, (564 ≤ c ∧ c < 569) → SM c ∧ c ≠ 1000000 ∧ c ≠ 1000054 := by intro c hc; unfold SM; omega
  have hM : ∀ c, (564 ≤ c ∧ c < 569) → scM c := by intro c hc; unfold scM; omega
  refine m_bad0 hz (br_t rfl (m_asks h1 (t := w) (by omega) fun s f hn hf => m_rideOf (h1.fr f (by intro c hc; unfold scM; omega)).mt hf hx2 hy2 fun s' f' _ => ?_))
  have ff : Fr (fun c => 564 ≤ c ∧ c < 569) (sI σ 44 0 0) s' := (f.mono (by intro c hc; omega)).trans (f'.mono (by intro c hc; omega))
  change (oI (rideV T (GT T sg al w) x y) = -1 → _) ∧ (¬ oI (rideV T (GT T sg al w) x y) = -1 → _)
  unfold detV at hr
  cases hv : rideV T (GT T sg al w) x y with
  | none =>
    rw [hv] at hr
    exact br_t rfl (hr.ok rfl hb ff hS rfl)
  | some n =>
    have hnl := rideV_le w' hv
    rw [hv] at hr
    refine br_f (by show ¬ nI n = -1; rw [nI_m1 (by omega)]; exact id) ?_
    change V_X4_detour_81 Ret s' (nI x) (nI y) (oI (rideV T (GT T sg al w) x y)) 0
    rw [hv]
    refine forL (S := ZS) (fun k s v => VL_X4_detour_81 Ret k s (nI x) (nI y) (nI n) v) (fun i s => Fr (fun c => 564 ≤ c ∧ c < 569) (sI σ 44 0 0) s ∧ ∀ a b, a < i → b < 2 * T.ns → btL (zJ s 566 a) b = (T.isArc a && T.isArc b && GF T a b)) (2 * T.ns) ?_ ?_ 0 s' (Nat.zero_le _) ⟨ff, fun a b ha => absurd ha (Nat.not_lt_zero _)⟩
    · rintro m s2 ⟨f2, g2⟩
      have hs2 := h1.fr f2 hM
      simp only [VL_X4_detour_81]
      rw [hs2.mt.ltA (by omega)]
      refine br_f (by omega) (m_rideOf hs2.mt (G := GF T) (fun a b ha hb' => g2 a b ha hb') hx2 hy2 fun s3 f3 _ => hr.ok rfl hb (f2.trans (f3.mono (by intro c hc; omega))) hS rfl)
    · rintro m i s2 hi ⟨f2, g2⟩ ih
      have hs2 := h1.fr f2 hM
      simp only [VL_X4_detour_81]
      rw [hs2.mt.ltA (by omega)]
      refine br_t hi ⟨vin (by omega) (by decide), nm_e ?_⟩
      rw [ix_nI (by omega)]
      refine forL (S := ZS) (fun k s v => VL_X4_detour_105 _ Ret k s (nI x) (nI y) (nI n) (nI i) v) (fun j s => Fr (fun c => 564 ≤ c ∧ c < 569) (sI σ 44 0 0) s ∧ (∀ a b, a < i → b < 2 * T.ns → btL (zJ s 566 a) b = (T.isArc a && T.isArc b && GF T a b)) ∧ ∀ b, b < 2 * T.ns → btL (zJ s 566 i) b = (decide (b < j) && (T.isArc i && T.isArc b && GF T i b))) (2 * T.ns) ?_ ?_ 0 _ (Nat.zero_le _) ⟨f2.sJ 566 i 0 (by simp [cd]), fun a b ha hb' => by rw [zJ_row, if_neg (by omega)]; exact g2 a b ha hb', fun b _ => by rw [zJ_row, if_pos rfl, btL_0]; simp⟩
      · rintro m2 s3 ⟨f3, g3, g4⟩
        have hs3 := h1.fr f3 hM
        simp only [VL_X4_detour_105]
        rw [hs3.mt.ltA (by omega)]; simp only [nI1]
        refine br_f (by omega) (nm_e (ih s3 ⟨f3, fun a b ha hb' => ?_⟩))
        by_cases e : a = i
        · subst e; rw [g4 b hb']; simp [hb']
        · exact g3 a b (by omega) hb'
      · rintro m2 j s3 hj ⟨f3, g3, g4⟩ ih2
        have hs3 := h1.fr f3 hM
        simp only [VL_X4_detour_105]
        rw [hs3.mt.ltA (by omega)]; simp only [nI1]
        have skip : (T.isArc i && T.isArc j && GF T i j) = false → VL_X4_detour_105 (VL_X4_detour_81 Ret m) Ret m2 s3 (nI x) (nI y) (nI n) (nI i) (nI (j + 1)) := by
          intro e
          refine ih2 _ ⟨f3, g3, fun b hb' => ?_⟩
          rw [g4 b hb']
          by_cases e2 : b = j
          · subst e2; rw [e]; simp
          · have : decide (b < j + 1) = decide (b < j) := by rw [Bool.eq_iff_iff]; simp; omega
            rw [this]
        refine br_t hj (m_isArcN hs3.mt (by omega) (br0 (fun q1 => nm_e (skip (by simp [q1]))) fun q1 => m_isArcN hs3.mt (by omega) (br0 (fun q2 => nm_e (skip (by simp [q2]))) fun q2 => m_turn hs3.mt hi hj ?_)))
        rw [GF_pos]
        refine ⟨fun q3 => ⟨vin (by omega) (by decide), vin (by omega) (by decide), nm_e (nm_e (ih2 _ ⟨f3.sJ _ _ _ (by simp [cd]), fun a b ha hb' => ?_, fun b hb' => ?_⟩))⟩, fun q3 => nm_e (skip (by simp [q3]))⟩
        · rw [ix_nI (by omega), zJ_row, if_neg (by omega)]; exact g3 a b ha hb'
        · rw [ix_nI (by omega), zJ_row, if_pos rfl, btL_or, btL_one (by omega) (by omega), g4 b hb']
          by_cases e2 : b = j
          · subst e2; simp [q1, q2, q3]
          · have : decide (b < j + 1) = decide (b < j) := by rw [Bool.eq_iff_iff]; simp; omega
            rw [this]; simp [e2]
/-! riders: how many have no ride, how long all rides are -/
noncomputable def rdR (T : Tw) (G : Nat → Nat → Bool) (r : Nat) : Option Nat := rideV T G (T.rf r) (T.rt r)
noncomputable def styN (T : Tw) (G : Nat → Nat → Bool) (n : Nat) : Nat := cnt (fun r => (rdR T G r).isNone) n
noncomputable def farN (T : Tw) (G : Nat → Nat → Bool) (n : Nat) : Nat := sumN (fun r => (rdR T G r).getD 0) n
theorem far_le {T : Tw} (w : T.WF) (G : Nat → Nat → Bool) (n : Nat) : farN T G n ≤ 4851 * n := by
  induction n with
  | zero => exact Nat.le_refl _
  | succ n ih =>
    show farN T G n + (rdR T G n).getD 0 ≤ _
    have : (rdR T G n).getD 0 ≤ 4851 := by
      cases h : rdR T G n with
      | none => exact Nat.zero_le _
      | some k => exact rideV_le w h
    omega
theorem sty_s (T : Tw) (G : Nat → Nat → Bool) (n : Nat) : styN T G (n + 1) = styN T G n + if (rdR T G n).isNone then 1 else 0 := rfl
theorem far_s (T : Tw) (G : Nat → Nat → Bool) (n : Nat) : farN T G (n + 1) = farN T G n + (rdR T G n).getD 0 := rfl
theorem c_staying {e : Ev} {σ : ZS} (h : CE e σ) {t : Nat} (ht : t ≤ e.tm) {Ret : Int32 → ZS → Prop} (hr : ∀ σ', Fr (fun c => c = 20 ∨ c = 2000038) σ σ' → zI σ' 0 38 = nI (farN e.T (e.G t) e.T.nr) → Ret (nI (styN e.T (e.G t) e.T.nr)) σ') : wp_X1_staying σ (nI t) Ret := by
  have w := h.ct.wf
  have hnr := w.nr
  have hnc := w.nc
  unfold wp_X1_staying
  refine nm_e ?_
  refine forL1 (fun k s v x => VL_X1_staying_9 Ret k s (nI t) v x) (fun i s v => Fr (fun c => c = 20 ∨ c = 2000038) σ s ∧ zI s 0 38 = nI (farN e.T (e.G t) i) ∧ v = nI (styN e.T (e.G t) i)) e.T.nr ?_ ?_ 0 _ 0 (Nat.zero_le _) ⟨Fr.rfl.sI 0 38 0 (.inr rfl), zI_self _ _ _ _, rfl⟩
  · rintro n s v ⟨f, h1, rfl⟩
    have ct := (h.fr f (by intro c hc; unfold scC; omega)).ct
    simp only [VL_X1_staying_9]
    rw [ct.pt, zo_in, ct.p2, zo_in]
    exact ⟨rfl, ct.kt, rfl, ct.lr.kl, j_size ct.lr (br_f (nI_nlt (Nat.le_refl _) (by omega)) (hr s f h1))⟩
  · rintro n i s v hi ⟨f, h1, rfl⟩ ih
    have hs := h.fr f (by intro c hc; unfold scC; omega)
    have ct := hs.ct
    have hfl := far_le w (e.G t) i
    have kr := (ct.lr.pi i hi).2.2
    have l1 := w.rf i hi
    have l2 := w.rt i hi
    simp only [VL_X1_staying_9]
    simp only [nI1]
    rw [ct.pt, zo_in, ct.p2, zo_in]
    refine ⟨rfl, ct.kt, rfl, ct.lr.kl, j_size ct.lr (br_t (nI_lt hi (by omega)) ?_)⟩
    rw [ct.pt, zo_in, ct.p2, zo_in]
    refine ⟨rfl, ct.kt, rfl, ct.lr.kl, j_get ct.lr hi ⟨rfl, kr, kr, ?_⟩⟩
    rw [ct.pt, zo_in, ct.p2, zo_in]
    refine ⟨rfl, ct.kt, rfl, ct.lr.kl, j_get ct.lr hi ⟨rfl, kr, kr, ?_⟩⟩
    rw [zo_in, ct.rf i hi, ct.rt i hi]
    refine c_rideOf hs (by omega) (by omega) ht fun s2 f2 _ => ?_
    have ff := f.trans (f2.mono (S' := fun c => c = 20 ∨ c = 2000038) (by intro c hc; omega))
    have h2 : zI s2 0 38 = nI (farN e.T (e.G t) i) := by rw [f2.1 0 38 (by simp [cd])]; exact h1
    change (oI (rdR e.T (e.G t) i) = -1 → _) ∧ (¬ oI (rdR e.T (e.G t) i) = -1 → _)
    cases hv : rdR e.T (e.G t) i with
    | none =>
      refine br_t rfl (nm_e (nm_e (ih s2 _ ⟨ff, ?_, ?_⟩)))
      · rw [h2, far_s, hv]; rfl
      · rw [sty_s, hv]; rfl
    | some q =>
      have hq := rideV_le w hv
      refine br_f (by show ¬ nI q = -1; rw [nI_m1 (by omega)]; exact id) (nm_e (nm_e (ih _ _ ⟨ff.sI 0 38 _ (.inr rfl), ?_, ?_⟩)))
      · rw [zI_self, h2]
        show nI _ + oI (rdR e.T (e.G t) i) = _
        rw [hv]
        show nI _ + nI q = _
        rw [nI_add, far_s, hv]; rfl
      · rw [sty_s, hv]; rfl
def inU (c : Nat) : Prop := c = 566 ∨ c = 568 ∨ c = 1000058 ∨ c = 1000059
theorem inU_M : ∀ c, inU c → scM c := by intro c hc; unfold inU at hc; unfold scM; omega
theorem m_sums {T : Tw} {tm : Nat} {sg al : Nat → Nat → Int32} {σ : ZS} (h : ME T tm sg al σ) {sn an : Nat → Int32} (hn : NowM sn an σ) {Ret : ZS → Prop} (hr : ∀ σ', Fr inU σ σ' → zI σ' 44 58 = nI (T.nr - styN T (mayN T sn an) T.nr) → zI σ' 44 59 = nI (farN T (mayN T sn an) T.nr) → Ret σ') : wp_X4_sums σ Ret := by
  have w := h.mt.wf
  have hnr := w.nr
  have hnc := w.nc
  unfold wp_X4_sums
  refine m_layFollows h.mt hn fun s1 f1 hf1 => nm_e (nm_e ?_)
  have f2 : Fr inU σ (sI (sI s1 44 58 0) 44 59 0) := ((f1.mono (by intro c hc; unfold inU; omega)).sI 44 58 0 (by unfold inU cd; simp)).sI 44 59 0 (by unfold inU cd; simp)
  have hf2 : FolM T (mayN T sn an) (sI (sI s1 44 58 0) 44 59 0) := hf1
  refine forL (S := ZS) (fun k s x => VL_X4_sums_16 Ret k s x) (fun i s => Fr inU σ s ∧ FolM T (mayN T sn an) s ∧ zI s 44 58 = nI (i - styN T (mayN T sn an) i) ∧ zI s 44 59 = nI (farN T (mayN T sn an) i)) T.nr ?_ ?_ 0 _ (Nat.zero_le _) ⟨f2, hf2, by rw [zI_ne _ (.inr (by decide)), zI_self]; rfl, zI_self _ _ _ _⟩
  · rintro n s ⟨f, hf, e1, e2⟩
    have hs := h.fr f inU_M
    simp only [VL_X4_sums_16]
    rw [hs.mt.ltR (by omega)]
    exact br_f (by omega) (hr s f e1 e2)
  · rintro n i s hi ⟨f, hf, e1, e2⟩ ih
    have hs := h.fr f inU_M
    have hfl := far_le w (mayN T sn an) i
    have hsl : styN T (mayN T sn an) i ≤ i := cnt_le _ _
    have l1 := w.rf i hi
    have l2 := w.rt i hi
    simp only [VL_X4_sums_16]
    rw [hs.mt.ltR (by omega), ix_nI (by omega), ix0, ix1, hs.mt.rf i hi, hs.mt.rt i hi]
    refine br_t hi ⟨vin (by omega) (by decide), vin (by omega) (by decide), m_rideOf hs.mt hf (by omega) (by omega) fun s2 f2 _ => ?_⟩
    have ff := f.trans (f2.mono (S' := inU) (by intro c hc; unfold inU; omega))
    have hf2 := hf.fr f2 (by intro c hc; omega)
    have k58 : zI s2 44 58 = nI (i - styN T (mayN T sn an) i) := by rw [f2.1 44 58 (by simp [cd])]; exact e1
    have k59 : zI s2 44 59 = nI (farN T (mayN T sn an) i) := by rw [f2.1 44 59 (by simp [cd])]; exact e2
    change (oI (rdR T (mayN T sn an) i) = -1 → _) ∧ (¬ oI (rdR T (mayN T sn an) i) = -1 → _)
    rw [k58]
    unfold V_X4_sums_62
    simp only [nI1]
    have f3 : ∀ v, Fr inU σ (sI s2 44 58 v) := fun v => ff.sI 44 58 v (by unfold inU cd; simp)
    have h59 : ∀ v, zI (sI s2 44 58 v) 44 59 = nI (farN T (mayN T sn an) i) := fun v => by rw [zI_ne _ (.inr (by decide))]; exact k59
    cases hv : rdR T (mayN T sn an) i with
    | none =>
      refine br_t rfl (nm_e (br_t (by show oI (rdR T (mayN T sn an) i) = -1; rw [hv]; rfl) (nm_e (nm_e (ih _ ⟨(f3 _).sI 44 59 _ (by unfold inU cd; simp), hf2, ?_, ?_⟩)))))
      · rw [zI_ne _ (.inr (by decide)), zI_self, sty_s, hv]
        show nI _ + 0 = _
        rw [n0, nI_add]; congr 1; show _ = i + 1 - (_ + 1); omega
      · rw [zI_self, h59, far_s, hv]; show nI _ + 0 = _; rw [n0, nI_add]; rfl
    | some q =>
      have hq := rideV_le w hv
      refine br_f (by show ¬ nI q = -1; rw [nI_m1 (by omega)]; exact id) (nm_e (br_f (by show ¬ oI (rdR T (mayN T sn an) i) = -1; rw [hv]; show ¬ nI q = -1; rw [nI_m1 (by omega)]; exact id) (nm_e (nm_e (ih _ ⟨(f3 _).sI 44 59 _ (by unfold inU cd; simp), hf2, ?_, ?_⟩)))))
      · rw [zI_ne _ (.inr (by decide)), zI_self, sty_s, hv]
        congr 1; show _ = i + 1 - (_ + 0); omega
      · rw [zI_self, h59, far_s, hv]
        show nI _ + oI (rdR T (mayN T sn an) i) = _
        rw [hv]; show nI _ + nI q = _; rw [nI_add]; rfl
/-! gain -/
def gnF (st fr : Nat → Nat) (val : Nat → Int32) : Nat → Int32 × Nat × Nat → Int32 × Nat × Nat
  | 0, s => s
  | k + 1, s => if (gnF st fr val k s).2.1 < st k ∨ st k = (gnF st fr val k s).2.1 ∧ (gnF st fr val k s).2.2 ≤ fr k then gnF st fr val k s else (val k, st k, fr k)
noncomputable def gnR (T : Tw) (sn an : Nat → Int32) : Int32 × Nat × Nat := gnF (fun i => styN T (mayN T sn (anP T sn an (one1 i))) T.nr) (fun i => farN T (mayN T sn (anP T sn an (one1 i))) T.nr) (fun i => nI (cdA T sn an i)) (nCd T sn an) (-1, styN T (mayN T sn an) T.nr, farN T (mayN T sn an) T.nr)
noncomputable def spGain (T : Tw) (tm : Nat) (sg al : Nat → Nat → Int32) (t x : Int32) : Nat × Int32 := sp1 (inN t (tm + 1) && inN x 2) (if x = 0 then (gnR T (sg (ix t)) (al (ix t))).1 else nI (gnR T (sg (ix t)) (al (ix t))).2.2)

theorem gn_le {st fr : Nat → Nat} {val : Nat → Int32} {n : Nat} {s : Int32 × Nat × Nat} {A B : Nat} (h1 : ∀ k, st k ≤ A) (h2 : ∀ k, fr k ≤ B) (hs : s.2.1 ≤ A ∧ s.2.2 ≤ B) : (gnF st fr val n s).2.1 ≤ A ∧ (gnF st fr val n s).2.2 ≤ B := by
  induction n with
  | zero => exact hs
  | succ n ih =>
    rw [gnF]
    split
    · exact ih
    · exact ⟨h1 n, h2 n⟩
theorem C_gain {T : Tw} {d : Ad} {tm : Nat} {sg al : Nat → Nat → Int32} {σ : ZS} (h : CQ T d tm sg al σ) {t x : Int32} {Ret : Int32 → ZS → Prop} (hr : PC σ Ret (wd (spGain T tm sg al t x))) : wp_X0_gain σ t x Ret := by
  unfold wp_X0_gain wp_X1_gain
  have ce := h.ce
  have ct := h.1
  have ch := h.2.1
  have sf := h.2.2.1
  have w := ct.wf
  have hnl := w.nl
  have hnr := w.nr
  refine C_tw (K := fun σ4 => wp_X1_findCandidates σ4 t (fun r5 σ6 => wp_X1_staying σ6 t (fun r7 σ8 => ∀ y9 : Int32, y9 = zI σ8 0 38 → (V_X1_gain_50 (fun x3 σ4 => ((∃ x, kK NS σ4 x3 = (12 + 7, x)) ∧ (Ret 1 σ4))) (fun r1 σ2 => ∀ σ6 : ZS, σ6 = sJ σ2 1238 (ix 0) r1.toInt64 → (Ret 0 σ6)) σ8 t x r5 (-1) r7 y9 0)))) h hr (fun b k => ?_) fun h1 h2 hr => ?_
  · cases b
    · exact k
    · exact k
  obtain ⟨q, rfl, hq, eq, -⟩ := inN_N h1
  rw [eq] at hr
  have hqt : q ≤ tm := by omega
  generalize hThr : (fun x3 σ4 => ((∃ x, kK NS σ4 x3 = (12 + 7, x)) ∧ (Ret 1 σ4))) = Thr
  generalize hRt : (fun (r1 : Int32) σ2 => ∀ σ6 : ZS, σ6 = sJ σ2 1238 (ix 0) r1.toInt64 → (Ret 0 σ6)) = Rt
  have hn14 := nCd_le T (sg q) (al q)
  have hst : ∀ G, styN T G T.nr ≤ 12 := fun G => Nat.le_trans (cnt_le _ _) hnr
  have hfr : ∀ G, farN T G T.nr ≤ 60000 := fun G => by have := far_le w G T.nr; omega
  have fS : ∀ s, Fr (fun c => c = 18 ∨ c = 20 ∨ c = 26 ∨ c = 2000038) σ s → CT T d s ∧ CH tm sg al s ∧ zI s 0 9 = 0 ∧ (∀ q, q < 24 → zI s 19 q = 0) ∧ zI s 0 36 = -1 := fun s f => ⟨ct.fr f (by intro c hc; unfold noA; omega), ch.fr f (by intro c hc; omega), by rw [f.1 0 9 (by simp [cd])]; exact sf.ov.ef, fun q hq => by rw [f.1 19 q (by simp [cd])]; exact sf.ov.ee q hq, by rw [f.1 0 36 (by simp [cd])]; exact sf.bf⟩
  refine c_findCand ce hqt fun s1 f1 hc1 => ?_
  change ∀ j, j < nCd T (sg q) (al q) → zI s1 26 j = nI (cdA T (sg q) (al q) j) at hc1
  have ce1 := ce.fr f1 (by intro c hc; unfold scC; omega)
  refine c_staying ce1 hqt fun s2 f2 e2 => nm_e ?_
  rw [ev0_G] at e2 ⊢
  change zI s2 0 38 = nI (farN T (mayN T (sg q) (al q)) T.nr) at e2
  rw [e2]
  change V_X1_gain_50 Thr Rt s2 (nI q) x (nI (nCd T (sg q) (al q))) (-1) (nI (styN T (mayN T (sg q) (al q)) T.nr)) (nI (farN T (mayN T (sg q) (al q)) T.nr)) 0
  have ff2 : Fr (fun c => c = 18 ∨ c = 20 ∨ c = 26 ∨ c = 2000038) σ s2 := (f1.mono (by intro c hc; omega)).trans (f2.mono (by intro c hc; omega))
  have hc2 : ∀ j, j < nCd T (sg q) (al q) → zI s2 26 j = nI (cdA T (sg q) (al q) j) := fun j hj => by rw [f2.1 26 j (by simp [cd])]; exact hc1 j hj
  have bnd : ∀ i, (gnF (fun i => styN T (mayN T (sg q) (anP T (sg q) (al q) (one1 i))) T.nr) (fun i => farN T (mayN T (sg q) (anP T (sg q) (al q) (one1 i))) T.nr) (fun i => nI (cdA T (sg q) (al q) i)) i (-1, styN T (mayN T (sg q) (al q)) T.nr, farN T (mayN T (sg q) (al q)) T.nr)).2.1 ≤ 12 ∧ (gnF (fun i => styN T (mayN T (sg q) (anP T (sg q) (al q) (one1 i))) T.nr) (fun i => farN T (mayN T (sg q) (anP T (sg q) (al q) (one1 i))) T.nr) (fun i => nI (cdA T (sg q) (al q) i)) i (-1, styN T (mayN T (sg q) (al q)) T.nr, farN T (mayN T (sg q) (al q)) T.nr)).2.2 ≤ 60000 := fun i => gn_le (fun k => hst _) (fun k => hfr _) ⟨hst _, hfr _⟩
  refine forL (S := ZS × Int32 × Int32 × Int32) (fun k s y => VL_X1_gain_50 Thr Rt k s.1 (nI q) x (nI (nCd T (sg q) (al q))) s.2.1 s.2.2.1 s.2.2.2 y) (fun i s => Fr (fun c => c = 18 ∨ c = 20 ∨ c = 26 ∨ c = 2000038) σ s.1 ∧ (∀ j, j < nCd T (sg q) (al q) → zI s.1 26 j = nI (cdA T (sg q) (al q) j)) ∧ s.2 = ((gnF (fun i => styN T (mayN T (sg q) (anP T (sg q) (al q) (one1 i))) T.nr) (fun i => farN T (mayN T (sg q) (anP T (sg q) (al q) (one1 i))) T.nr) (fun i => nI (cdA T (sg q) (al q) i)) i (-1, styN T (mayN T (sg q) (al q)) T.nr, farN T (mayN T (sg q) (al q)) T.nr)).1, nI (gnF (fun i => styN T (mayN T (sg q) (anP T (sg q) (al q) (one1 i))) T.nr) (fun i => farN T (mayN T (sg q) (anP T (sg q) (al q) (one1 i))) T.nr) (fun i => nI (cdA T (sg q) (al q) i)) i (-1, styN T (mayN T (sg q) (al q)) T.nr, farN T (mayN T (sg q) (al q)) T.nr)).2.1, nI (gnF (fun i => styN T (mayN T (sg q) (anP T (sg q) (al q) (one1 i))) T.nr) (fun i => farN T (mayN T (sg q) (anP T (sg q) (al q) (one1 i))) T.nr) (fun i => nI (cdA T (sg q) (al q) i)) i (-1, styN T (mayN T (sg q) (al q)) T.nr, farN T (mayN T (sg q) (al q)) T.nr)).2.2)) (nCd T (sg q) (al q)) ?_ ?_ 0 (s2, -1, nI (styN T (mayN T (sg q) (al q)) T.nr), nI (farN T (mayN T (sg q) (al q)) T.nr)) (Nat.zero_le _) ⟨ff2, hc2, rfl⟩
  · rintro n ⟨s, v⟩ ⟨f, hc, e3⟩
    dsimp only at f hc e3
    subst e3
    obtain ⟨ct', ch', g9, g19, g36⟩ := fS s f
    simp only [VL_X1_gain_50]
    refine br_f (nI_nlt (Nat.le_refl _) (by omega)) (c_tries (e := ev0 T d tm sg al) ct' hc (x := 0) (fun j hj => by rw [bt_0] at hj; cases hj) fun s' f' hm => ?_)
    have ff := f.trans (f'.mono (S' := fun c => c = 18 ∨ c = 20 ∨ c = 26 ∨ c = 2000038) (by intro c hc; omega))
    have sf' : Sf s' := by
      refine ⟨⟨?_, fun q hq => ?_, fun q hq => ?_⟩, ?_⟩
      · rw [f'.1 0 9 (by simp [cd])]; exact g9
      · rw [hm q hq]; exact moP_no (fun j _ => bt_0 j) q
      · rw [f'.1 19 q (by simp [cd])]; exact g19 q hq
      · rw [f'.1 0 36 (by simp [cd])]; exact g36
    have fq : Fr SQ σ s' := ff.mono (by intro c hc; unfold SQ; omega)
    subst hRt
    refine ⟨fun k => hr.ret rfl fq sf' ?_, fun k => hr.ret rfl fq sf' ?_⟩
    · show _ = Int32.toInt64 (ite _ _ _); rw [if_pos k]; rfl
    · show _ = Int32.toInt64 (ite _ _ _); rw [if_neg k]; rfl
  · rintro n i ⟨s, v⟩ hi ⟨f, hc, e3⟩ ih
    dsimp only at f hc e3
    subst e3
    obtain ⟨ct', ch', g9, g19, g36⟩ := fS s f
    have hb := bnd i
    simp only [VL_X1_gain_50]
    simp only [nI1]
    have hp14 := pow_lt14 hi hn14
    have eb : btI (nI (2 ^ i)) = one1 i := by rw [bt_tb hp14, tb_pow]
    rw [pow_sh i (by omega)]
    refine br_t (nI_lt hi (by omega)) (c_tries (e := ev0 T d tm sg al) ct' hc (x := nI (2 ^ i)) (fun j hj => by rw [eb] at hj; unfold one1 at hj; simp at hj; rw [hj]; exact hi) fun s5 f5 hm5 => ?_)
    have ff5 := f.trans (f5.mono (S' := fun c => c = 18 ∨ c = 20 ∨ c = 26 ∨ c = 2000038) (by intro c hc; omega))
    obtain ⟨ct5, ch5, g95, g195, -⟩ := fS s5 ff5
    have ce5 := ce_try (mo := moP T (sg q) (al q) (btI (nI (2 ^ i)))) (fe := fun _ => 0) ct5 ch5 g95 hm5 g195
    have eG : (Ev.mk T d tm sg al false (moP T (sg q) (al q) (btI (nI (2 ^ i)))) (fun _ => 0)).G q = mayN T (sg q) (anP T (sg q) (al q) (one1 i)) := by
      show mayC T false (sg q) (al q) (moP T (sg q) (al q) (btI (nI (2 ^ i)))) (fun _ => 0) = _
      rw [set_rule, eb]
    refine c_staying ce5 hqt fun s6 f6 e6 => ?_
    rw [eG] at e6 ⊢
    change zI s6 0 38 = nI (farN T (mayN T (sg q) (anP T (sg q) (al q) (one1 i))) T.nr) at e6
    have ff6 := ff5.trans (f6.mono (S' := fun c => c = 18 ∨ c = 20 ∨ c = 26 ∨ c = 2000038) (by intro c hc; omega))
    have c6 : ∀ j, j < nCd T (sg q) (al q) → zI s6 26 j = nI (cdA T (sg q) (al q) j) := fun j hj => by rw [f6.1 26 j (by simp [cd]), f5.1 26 j (by simp [cd])]; exact hc j hj
    unfold V_X1_gain_97
    simp only [nI1]
    rw [e6]
    change (_ < nI (styN T (mayN T (sg q) (anP T (sg q) (al q) (one1 i))) T.nr) → _) ∧ (¬ _ < nI (styN T (mayN T (sg q) (anP T (sg q) (al q) (one1 i))) T.nr) → (nI (styN T (mayN T (sg q) (anP T (sg q) (al q) (one1 i))) T.nr) = _ → _) ∧ (¬ nI (styN T (mayN T (sg q) (anP T (sg q) (al q) (one1 i))) T.nr) = _ → _))
    have a1 := hst (mayN T (sg q) (anP T (sg q) (al q) (one1 i)))
    have a2 := hfr (mayN T (sg q) (anP T (sg q) (al q) (one1 i)))
    have estep := show gnF (fun i => styN T (mayN T (sg q) (anP T (sg q) (al q) (one1 i))) T.nr) (fun i => farN T (mayN T (sg q) (anP T (sg q) (al q) (one1 i))) T.nr) (fun i => nI (cdA T (sg q) (al q) i)) (i + 1) (-1, styN T (mayN T (sg q) (al q)) T.nr, farN T (mayN T (sg q) (al q)) T.nr) = _ from gnF.eq_2 _ _ _ _ _
    generalize gnF (fun i => styN T (mayN T (sg q) (anP T (sg q) (al q) (one1 i))) T.nr) (fun i => farN T (mayN T (sg q) (anP T (sg q) (al q) (one1 i))) T.nr) (fun i => nI (cdA T (sg q) (al q) i)) i (-1, styN T (mayN T (sg q) (al q)) T.nr, farN T (mayN T (sg q) (al q)) T.nr) = X at hb estep ⊢
    rw [nI_ltI (by omega) (by omega), nI_eq (by omega) (by omega), nI_ltI (by omega) (by omega)]
    have take : ¬ (X.2.1 < styN T (mayN T (sg q) (anP T (sg q) (al q) (one1 i))) T.nr ∨ styN T (mayN T (sg q) (anP T (sg q) (al q) (one1 i))) T.nr = X.2.1 ∧ X.2.2 ≤ farN T (mayN T (sg q) (anP T (sg q) (al q) (one1 i))) T.nr) → vp_in (nI i) 14 ∧ (∀ y18 : Int32, y18 = zI s6 26 (ix (nI i)) → (∀ y19 : Int32, y19 = nI (farN T (mayN T (sg q) (anP T (sg q) (al q) (one1 i))) T.nr) → (∀ y20 : Int32, y20 = nI (i + 1) → (VL_X1_gain_50 Thr Rt n s6 (nI q) x (nI (nCd T (sg q) (al q))) y18 (nI (styN T (mayN T (sg q) (anP T (sg q) (al q) (one1 i))) T.nr)) y19 y20)))) := by
      intro kk
      refine ⟨vin (by omega) (by decide), nm_e (nm_e (nm_e ?_))⟩
      rw [ix_nI (by omega), c6 i hi]
      rw [if_neg kk] at estep
      exact ih (s6, nI (cdA T (sg q) (al q) i), nI (styN T (mayN T (sg q) (anP T (sg q) (al q) (one1 i))) T.nr), nI (farN T (mayN T (sg q) (anP T (sg q) (al q) (one1 i))) T.nr)) ⟨ff6, c6, by rw [estep]⟩
    have leave : (X.2.1 < styN T (mayN T (sg q) (anP T (sg q) (al q) (one1 i))) T.nr ∨ styN T (mayN T (sg q) (anP T (sg q) (al q) (one1 i))) T.nr = X.2.1 ∧ X.2.2 ≤ farN T (mayN T (sg q) (anP T (sg q) (al q) (one1 i))) T.nr) → VL_X1_gain_50 Thr Rt n s6 (nI q) x (nI (nCd T (sg q) (al q))) X.1 (nI X.2.1) (nI X.2.2) (nI (i + 1)) := by
      intro kk
      rw [if_pos kk] at estep
      exact ih (s6, X.1, nI X.2.1, nI X.2.2) ⟨ff6, c6, by rw [estep]⟩
    refine ⟨fun k1 => nm_e (leave (.inl k1)), fun k1 => ⟨fun k2 => ⟨fun k3 => take ?_, fun k3 => nm_e (leave (.inr ⟨k2, by omega⟩))⟩, fun k2 => take ?_⟩⟩
    · rintro (e | e) <;> omega
    · rintro (e | e) <;> omega
theorem M_gain {T : Tw} {tm : Nat} {sg al : Nat → Nat → Int32} {σ : ZS} (h : ME T tm sg al σ) (hb : zI σ 44 54 = -1) {t x : Int32} {Ret : Int32 → ZS → Prop} (hr : PM σ Ret (spGain T tm sg al t x)) : wp_X4_gain σ t x Ret := by
  unfold wp_X4_gain
  obtain ⟨h1, hz⟩ := h.z
  have w := h.mt.wf
  have hnl := w.nl
  have hnr := w.nr
  unfold spGain at hr
  refine M_tw h (fun k => ?_) fun k k2 => ?_
  · unfold V_X4_gain_23 V_X4_gain_28
    exact m_bad1 hz (by decide) (br_f (by decide) (hr.thr (c := 1) (sp1_1 k) (by decide) hb))
  unfold V_X4_gain_28
  rw [sp1_0 (by rw [k, k2]; rfl)] at hr
  obtain ⟨q, rfl, hq, eq, -⟩ := inN_N k
  rw [eq] at hr
  have hn14 := nCd_le T (sg q) (al q)
  have hst : ∀ G, styN T G T.nr ≤ T.nr := fun G => cnt_le _ _
  have hfr : ∀ G, farN T G T.nr ≤ 60000 := fun G => by have := far_le w G T.nr; omega
  have inV : ∀ c, (inF c ∨ inU c) → scM c := by intro c hc; unfold inF inU at hc; unfold scM; omega
  refine m_bad0 hz (br_t rfl (m_findLater h1 (t := q) (by omega) fun s1 f1 hn1 hl1 => ?_))
  have fe1 : Fr (fun c => inF c ∨ inU c) (sI σ 44 0 0) s1 := f1.mono (by intro c hc; unfold inL at hc; unfold inF; omega)
  refine m_sums (h1.fr fe1 inV) hn1 fun s2 f2 e58 e59 => nm_e (nm_e ?_)
  rw [e58, e59]
  have fe2 := fe1.trans (f2.mono (fun c k => .inr k))
  have bnd : ∀ i, (gnF (fun i => styN T (mayN T (sg q) (anP T (sg q) (al q) (one1 i))) T.nr) (fun i => farN T (mayN T (sg q) (anP T (sg q) (al q) (one1 i))) T.nr) (fun i => nI (cdA T (sg q) (al q) i)) i (-1, styN T (mayN T (sg q) (al q)) T.nr, farN T (mayN T (sg q) (al q)) T.nr)).2.1 ≤ T.nr ∧ (gnF (fun i => styN T (mayN T (sg q) (anP T (sg q) (al q) (one1 i))) T.nr) (fun i => farN T (mayN T (sg q) (anP T (sg q) (al q) (one1 i))) T.nr) (fun i => nI (cdA T (sg q) (al q) i)) i (-1, styN T (mayN T (sg q) (al q)) T.nr, farN T (mayN T (sg q) (al q)) T.nr)).2.2 ≤ 60000 := fun i => gn_le (fun k => hst _) (fun k => hfr _) ⟨hst _, hfr _⟩
  refine forL (S := ZS × Int32 × Int32 × Int32) (fun k s y => VL_X4_gain_63 Ret k s.1 x s.2.1 s.2.2.1 s.2.2.2 y) (fun i s => Fr (fun c => inF c ∨ inU c) (sI σ 44 0 0) s.1 ∧ NowM (sg q) (al q) s.1 ∧ LatM T (sg q) (al q) s.1 ∧ s.2 = ((gnF (fun i => styN T (mayN T (sg q) (anP T (sg q) (al q) (one1 i))) T.nr) (fun i => farN T (mayN T (sg q) (anP T (sg q) (al q) (one1 i))) T.nr) (fun i => nI (cdA T (sg q) (al q) i)) i (-1, styN T (mayN T (sg q) (al q)) T.nr, farN T (mayN T (sg q) (al q)) T.nr)).1, nI (T.nr - (gnF (fun i => styN T (mayN T (sg q) (anP T (sg q) (al q) (one1 i))) T.nr) (fun i => farN T (mayN T (sg q) (anP T (sg q) (al q) (one1 i))) T.nr) (fun i => nI (cdA T (sg q) (al q) i)) i (-1, styN T (mayN T (sg q) (al q)) T.nr, farN T (mayN T (sg q) (al q)) T.nr)).2.1), nI (gnF (fun i => styN T (mayN T (sg q) (anP T (sg q) (al q) (one1 i))) T.nr) (fun i => farN T (mayN T (sg q) (anP T (sg q) (al q) (one1 i))) T.nr) (fun i => nI (cdA T (sg q) (al q) i)) i (-1, styN T (mayN T (sg q) (al q)) T.nr, farN T (mayN T (sg q) (al q)) T.nr)).2.2)) (nCd T (sg q) (al q)) ?_ ?_ 0 (s2, -1, nI (T.nr - styN T (mayN T (sg q) (al q)) T.nr), nI (farN T (mayN T (sg q) (al q)) T.nr)) (Nat.zero_le _) ⟨fe2, hn1.fr f2 (by intro c hc; unfold inU at hc; omega), hl1.fr f2 (by intro c hc; unfold inU at hc; omega), rfl⟩
  · rintro n ⟨s, v⟩ ⟨f, hn, hl, e3⟩
    dsimp only at f hn hl e3
    subst e3
    simp only [VL_X4_gain_63]
    rw [hl.1]
    have hS : ∀ c, (inF c ∨ inU c) → SM c ∧ c ≠ 1000000 ∧ c ≠ 1000054 := by intro c hc; unfold inF inU at hc; unfold SM; omega
    refine br_f (nI_nlt (Nat.le_refl _) (by omega)) ⟨fun k => hr.ok rfl hb f hS ?_, fun k => hr.ok rfl hb f hS ?_⟩
    · show _ = ite _ _ _; rw [if_pos k]; rfl
    · show _ = ite _ _ _; rw [if_neg k]; rfl
  · rintro n i ⟨s, v⟩ hi ⟨f, hn, hl, e3⟩ ih
    dsimp only at f hn hl e3
    subst e3
    have c1 := (cdA_is hi).1
    have hs := h1.fr f inV
    have hbn := bnd i
    simp only [VL_X4_gain_63]
    simp only [nI1]
    rw [hl.1, ix_nI (by omega), hl.2 i hi]
    have hn' : NowM (sg q) (anP T (sg q) (al q) (fun _ => false)) s := by rw [anP_no fun _ _ => rfl]; exact hn
    refine br_t (nI_lt hi (by omega)) ⟨vin (by omega) (by decide), m_flipC hs.mt hn' hi fun s5 f5 n5 => ?_⟩
    have ff5 := f.trans (f5.mono (S' := fun c => inF c ∨ inU c) (by intro c hc; unfold inF; omega))
    have l5 := hl.fr f5 (by intro c hc; omega)
    rw [anP_congr (Q := one1 i) fun j _ => by unfold one1; by_cases e : j = i <;> simp [e]] at n5
    refine m_sums (h1.fr ff5 inV) n5 fun s6 f6 e58 e59 => ⟨vin (by omega) (by decide), ?_⟩
    have ff6 := ff5.trans (f6.mono (fun c k => .inr k))
    have l6 := l5.fr f6 (by intro c hc; unfold inU at hc; omega)
    have n6 := n5.fr f6 (by intro c hc; unfold inU at hc; omega)
    rw [l6.2 i hi]
    refine m_flipC (h1.fr ff6 inV).mt n6 hi fun s7 f7 n7 => ?_
    have ff7 := ff6.trans (f7.mono (S' := fun c => inF c ∨ inU c) (by intro c hc; unfold inF; omega))
    have l7 := l6.fr f7 (by intro c hc; omega)
    rw [anP_no fun j _ => by unfold one1; by_cases e : j = i <;> simp [e]] at n7
    have k58 : zI s7 44 58 = nI (T.nr - styN T (mayN T (sg q) (anP T (sg q) (al q) (one1 i))) T.nr) := by rw [f7.1 44 58 (by simp [cd])]; exact e58
    have k59 : zI s7 44 59 = nI (farN T (mayN T (sg q) (anP T (sg q) (al q) (one1 i))) T.nr) := by rw [f7.1 44 59 (by simp [cd])]; exact e59
    unfold V_X4_gain_128
    simp only [nI1]
    rw [k58, k59]
    have a1 := hst (mayN T (sg q) (anP T (sg q) (al q) (one1 i)))
    have a2 := hfr (mayN T (sg q) (anP T (sg q) (al q) (one1 i)))
    have estep := show gnF (fun i => styN T (mayN T (sg q) (anP T (sg q) (al q) (one1 i))) T.nr) (fun i => farN T (mayN T (sg q) (anP T (sg q) (al q) (one1 i))) T.nr) (fun i => nI (cdA T (sg q) (al q) i)) (i + 1) (-1, styN T (mayN T (sg q) (al q)) T.nr, farN T (mayN T (sg q) (al q)) T.nr) = _ from gnF.eq_2 _ _ _ _ _
    generalize gnF (fun i => styN T (mayN T (sg q) (anP T (sg q) (al q) (one1 i))) T.nr) (fun i => farN T (mayN T (sg q) (anP T (sg q) (al q) (one1 i))) T.nr) (fun i => nI (cdA T (sg q) (al q) i)) i (-1, styN T (mayN T (sg q) (al q)) T.nr, farN T (mayN T (sg q) (al q)) T.nr) = X at hbn estep ⊢
    rw [nI_ltI (by omega) (by omega), nI_eq (by omega) (by omega), nI_ltI (by omega) (by omega)]
    have take : ¬ (X.2.1 < styN T (mayN T (sg q) (anP T (sg q) (al q) (one1 i))) T.nr ∨ styN T (mayN T (sg q) (anP T (sg q) (al q) (one1 i))) T.nr = X.2.1 ∧ X.2.2 ≤ farN T (mayN T (sg q) (anP T (sg q) (al q) (one1 i))) T.nr) → vp_in (nI i) 14 ∧ (∀ y22 : Int32, y22 = zI s7 1147 (ix (nI i)) → (∀ y23 : Int32, y23 = nI (T.nr - styN T (mayN T (sg q) (anP T (sg q) (al q) (one1 i))) T.nr) → (∀ y24 : Int32, y24 = nI (farN T (mayN T (sg q) (anP T (sg q) (al q) (one1 i))) T.nr) → (∀ y25 : Int32, y25 = nI (i + 1) → (VL_X4_gain_63 Ret n s7 x y22 y23 y24 y25))))) := by
      intro kk
      refine ⟨vin (by omega) (by decide), nm_e (nm_e (nm_e (nm_e ?_)))⟩
      rw [ix_nI (by omega), l7.2 i hi]
      rw [if_neg kk] at estep
      exact ih (s7, nI (cdA T (sg q) (al q) i), nI (T.nr - styN T (mayN T (sg q) (anP T (sg q) (al q) (one1 i))) T.nr), nI (farN T (mayN T (sg q) (anP T (sg q) (al q) (one1 i))) T.nr)) ⟨ff7, n7, l7, by rw [estep]⟩
    have leave : (X.2.1 < styN T (mayN T (sg q) (anP T (sg q) (al q) (one1 i))) T.nr ∨ styN T (mayN T (sg q) (anP T (sg q) (al q) (one1 i))) T.nr = X.2.1 ∧ X.2.2 ≤ farN T (mayN T (sg q) (anP T (sg q) (al q) (one1 i))) T.nr) → VL_X4_gain_63 Ret n s7 x X.1 (nI (T.nr - X.2.1)) (nI X.2.2) (nI (i + 1)) := by
      intro kk
      rw [if_pos kk] at estep
      exact ih (s7, X.1, nI (T.nr - X.2.1), nI X.2.2) ⟨ff7, n7, l7, by rw [estep]⟩
    refine ⟨fun k1 => nm_e (leave (.inl (by omega))), fun k1 => ⟨fun k2 => ⟨fun k3 => take ?_, fun k3 => nm_e (leave (.inr ⟨by omega, by omega⟩))⟩, fun k2 => take ?_⟩⟩
    · rintro (e | e) <;> omega
    · rintro (e | e) <;> omega
