/-! PURE HALF: the baker: the model. -/
set_option maxRecDepth 100000
theorem MT.ag {T : Tw} {σ σ' : ZS} (h : MT T σ) (g : ∀ a i, a < 1239 → zI σ' a i = zI σ a i) : MT T σ' := by
  have w := h.wf
  have := w.nc; have := w.ns; have := w.nr; have := w.nl
  exact ⟨w, by rw [g _ _ (by omega)]; exact h.m0, by rw [g _ _ (by omega)]; exact h.m1, by rw [g _ _ (by omega)]; exact h.m2, by rw [g _ _ (by omega)]; exact h.m3, fun i hi => by rw [g _ _ (by omega)]; exact h.cx i hi, fun i hi => by rw [g _ _ (by omega)]; exact h.cy i hi, fun i hi => by rw [g _ _ (by omega)]; exact h.sf i hi, fun i hi => by rw [g _ _ (by omega)]; exact h.st i hi, fun i hi => by rw [g _ _ (by omega)]; exact h.sl i hi, fun i hi => by rw [g _ _ (by omega)]; exact h.so i hi, fun i hi => by rw [g _ _ (by omega)]; exact h.rf i hi, fun i hi => by rw [g _ _ (by omega)]; exact h.rt i hi, fun i hi => by rw [g _ _ (by omega)]; exact h.rb i hi, by rw [g _ _ (by omega)]; exact h.nl, fun i hi => by rw [g _ _ (by omega)]; exact h.lf i hi, fun i hi => by rw [g _ _ (by omega)]; exact h.lt i hi⟩
theorem Gw.new {S : Nat → Prop} {σ σ7 σ' : ZS} {k : Nat × Nat} {n : Nat} (f : Fr S σ σ7) (hz : zt σ7 < 1000000) (hz2 : 1239 ≤ zt σ7) (f2 : Fr (fun c => S c ∨ c = zt σ7) (sA σ7 k n) σ') : Gw S 1 n σ σ' := by
  have g1 := f.gw
  have g2 := sA_gw S σ7 k n
  have g3 : Gw S 0 0 (sA σ7 k n) σ' ∨ True := .inr trivial
  have e : zt σ7 = zt σ := f.et
  have nq : ∀ a i, a < zt σ → ¬ S (cd a i) → ¬ (S (cd a i) ∨ cd a i = zt σ7) := by
    intro a i ha hn hc
    rcases hc with hc | hc
    · exact hn hc
    · unfold cd at hc
      split at hc
      · omega
      · split at hc <;> omega
  refine ⟨fun a i ha hn => ?_, fun a i ha hn => ?_, fun a i ha hn => ?_, fun a ha => ?_, ?_, ?_, ?_, fun kf a ha => ?_⟩
  · rw [f2.1 a i (nq a i ha hn), g2.i a i (by omega) hn, g1.i a i ha hn]
  · rw [f2.2.1 a i (nq a i ha hn), g2.j a i (by omega) hn, g1.j a i ha hn]
  · rw [f2.ep, g2.p a i (by omega) hn, g1.p a i ha hn]
  · have : zK σ' a = zK (sA σ7 k n) a := by unfold zK; rw [f2.2.2]
    rw [this, g2.kk a (by omega), g1.kk a ha]
  · rw [f2.et, zt_sA']; omega
  · rw [f2.et, zt_sA']; omega
  · rw [f2.en, zn_sA', f.en]; exact Nat.le_refl _
  · rw [f2.et, zt_sA'] at ha
    have : zK σ' a = zK (sA σ7 k n) a := by unfold zK; rw [f2.2.2]
    rw [this]
    exact g2.kf (g1.kf kf) a (by rw [zt_sA']; exact ha)
def RmM (σ : ZS) : Prop := NS ≤ zt σ ∧ zt σ + 1 ≤ NB ∧ zn σ + 24 ≤ SB
theorem any_no {f : Nat → Nat} {s n : Nat} (h : ∀ k, k < n → f k / 2 ≠ s) : anyK f s n = false := by
  induction n with
  | zero => rfl
  | succ n ih => rw [anyK, ih fun k hk => h k (by omega)]; simp; exact h n (by omega)
theorem bk_0 {T : Tw} (w : T.WF) (G : Nat → Nat → Bool) {s : Nat} (hs : T.ns ≤ s) (n : Nat) : bkN T G s n = 0 := by
  unfold bkN
  have : ∀ p, stU T G (p / T.nc) (p % T.nc) s = false := by
    intro p
    unfold stU
    cases hp : pN T G (p / T.nc) (p % T.nc) with
    | none => rfl
    | some m => exact any_no fun k hk => by have := Tw.arc_lt (pA_lt w hp hk); omega
  induction n with
  | zero => rfl
  | succ n ih => show cnt _ n + (if stU T G (n / T.nc) (n % T.nc) s then 1 else 0) = 0; rw [ih, this]; rfl
theorem bk_end {T : Tw} (w : T.WF) (G : Nat → Nat → Bool) (n m : Nat) : bkB (fun s => bkN T G s n) (T.ns + m) = bkB (fun s => bkN T G s n) T.ns := by
  induction m with
  | zero => rfl
  | succ m ih =>
    show bkB (fun s => bkN T G s n) (T.ns + m + 1) = _
    rw [bkB, if_neg (by rw [bk_0 w G (show T.ns ≤ T.ns + m by omega)]; omega), ih]
theorem M_baker {T : Tw} {tm : Nat} {sg al : Nat → Nat → Int32} {σ : ZS} (h : ME T tm sg al σ) (hb : zI σ 44 54 = -1) (rm : RmM σ) {t x : Int32} {Ret : Int32 → ZS → Prop} (hr : PM σ Ret (spBk T tm sg al t x)) : wp_X4_baker σ t x Ret := by
  unfold wp_X4_baker
  obtain ⟨h1, hz⟩ := h.z
  have w := h.mt.wf
  have hns := w.ns
  have hnc := w.nc
  unfold spBk at hr
  refine M_tw h (fun k => ?_) fun k k2 => ?_
  · unfold V_X4_baker_23 V_X4_baker_28
    exact m_bad1 hz (by decide) (br_f (by decide) (hr.thr (c := 1) (sp1_1 k) (by decide) hb))
  unfold V_X4_baker_28
  rw [sp1_0 (by rw [k, k2]; rfl)] at hr
  obtain ⟨q, rfl, hq, eq, -⟩ := inN_N k
  rw [eq] at hr
  have f00 : Fr SM σ (sI σ 44 0 0) := Fr.rfl.sI 44 0 0 (by unfold SM cd; simp)
  refine m_bad0 hz (br_t rfl (m_asks h1 (t := q) (by omega) fun s7 f7 hn hf => ?_))
  change FolM T (GT T sg al q) s7 at hf
  generalize hG : GT T sg al q = G at hf hr
  have hzt : zt s7 = zt σ := by rw [f7.et, f00.et]
  have hzn : zn s7 = zn σ := by rw [f7.en, f00.en]
  have rm1 : 1239 ≤ zt s7 := by rw [hzt]; exact rm.1
  have rm2 : zt s7 + 1 ≤ 160000 := by rw [hzt]; exact rm.2.1
  refine ⟨by rw [hzt, hzn]; exact rm, nm_e ?_⟩
  have f07 : Fr SM σ s7 := f00.trans (f7.mono (by intro c hc; unfold SM; omega))
  have mt9 : MT T (sA s7 (0, 24) 24) := (h1.fr f7 (by intro c hc; unfold scM; omega)).mt.ag fun a i ha => by rw [qI_sA, if_neg (by omega)]
  have fo9 : FolM T G (sA s7 (0, 24) 24) := fun a b ha hb' => by rw [qJ_sA, if_neg (by omega)]; exact hf a b ha hb'
  have k9 : ∀ s, Fr (fun c => c = 568 ∨ c = zt s7) (sA s7 (0, 24) 24) s → kK NS s (zt s7) = (0, 24) := fun s f => by
    rw [f.K]; unfold kK; rw [if_neg (by show ¬ _ < 1239; omega), qK_sA, if_pos rfl]
  have z9 : ∀ j, zI (sA s7 (0, 24) 24) (zt s7) j = 0 := fun j => by rw [qI_sA, if_pos rfl]
  have fM : ∀ c, c = 568 ∨ c = zt s7 → noMT c := by intro c hc; unfold noMT; omega
  have cdX : ∀ i, cd (zt s7) i = zt s7 := fun i => by unfold cd; rw [if_neg (by omega), if_neg (by omega)]
  have fin : ∀ s v, Fr (fun c => c = 568 ∨ c = zt s7) (sA s7 (0, 24) 24) s → v = bkV T G x → Ret v s := by
    intro s v f ev
    have gw := Gw.new (S := SM) f07 (by omega) rm1 (f.mono (by intro c hc; unfold SM; omega))
    refine hr s v gw ?_ ?_ (fun _ => ev)
    · rw [f.1 44 54 (by rw [show cd 44 54 = 1000054 from rfl]; omega), qI_sA, if_neg (by omega), f7.1 44 54 (by simp [cd]), zI_ne _ (.inr (by decide))]; exact hb
    · rw [f.1 44 0 (by rw [show cd 44 0 = 1000000 from rfl]; omega), qI_sA, if_neg (by omega), f7.1 44 0 (by simp [cd])]; exact hz
  generalize hX : zt s7 = X at *
  generalize sA s7 (0, 24) 24 = s9 at *
  have hnn : T.nc * T.nc ≤ 256 := Nat.le_trans (Nat.mul_le_mul hnc hnc) (by decide)
  have hbl : ∀ s n, n ≤ T.nc * T.nc → bkN T G s n ≤ 256 := fun s n hn => Nat.le_trans (cnt_le _ _) (by omega)
  refine forL (S := ZS) (fun m s y => VL_X4_baker_50 Ret m s x X y) (fun c s => Fr (fun c => c = 568 ∨ c = X) s9 s ∧ ∀ j, j < T.ns → zI s X j = nI (bkN T G j c)) (T.nc * T.nc) ?_ ?_ 0 s9 (Nat.zero_le _) ⟨Fr.rfl, fun j hj => z9 j⟩
  · rintro n s ⟨f, g⟩
    have mt := mt9.fr f fM
    simp only [VL_X4_baker_50]
    rw [ix0, mt.m0, pk_mul]
    refine br_f (nI_nlt (Nat.le_refl _) (by omega)) ?_
    refine forL1 (fun m s v y => VL_X4_baker_192 Ret m s x X v y) (fun i s' v => s' = s ∧ v = (if bkN T G (bkB (fun s => bkN T G s (T.nc * T.nc)) i) (T.nc * T.nc) = 0 ∨ i = 0 then -1 else nI (bkB (fun s => bkN T G s (T.nc * T.nc)) i))) T.ns ?_ ?_ 0 s (-1) (Nat.zero_le _) ⟨rfl, by rw [if_pos (.inr rfl)]⟩
    · rintro n2 s' v ⟨rfl, rfl⟩
      simp only [VL_X4_baker_192]
      rw [mt.ltS (by omega)]
      have e24 : bkB (fun s => bkN T G s (T.nc * T.nc)) 24 = bkB (fun s => bkN T G s (T.nc * T.nc)) T.ns := by
        have := bk_end w G (T.nc * T.nc) (24 - T.ns)
        rw [show T.ns + (24 - T.ns) = 24 by omega] at this; exact this
      have hbv : bkV T G x = if x = 1 then nI (bkN T G (bkB (fun s => bkN T G s (T.nc * T.nc)) T.ns) (T.nc * T.nc)) else if bkN T G (bkB (fun s => bkN T G s (T.nc * T.nc)) T.ns) (T.nc * T.nc) = 0 then -1 else nI (bkB (fun s => bkN T G s (T.nc * T.nc)) T.ns) := by unfold bkV; rw [e24]
      have h00 : T.ns = 0 → bkN T G (bkB (fun s => bkN T G s (T.nc * T.nc)) T.ns) (T.nc * T.nc) = 0 := fun e => bk_0 w G (by omega) _
      have hbl' := hbl (bkB (fun s => bkN T G s (T.nc * T.nc)) T.ns) (T.nc * T.nc) (Nat.le_refl _)
      have hif : (bkN T G (bkB (fun s => bkN T G s (T.nc * T.nc)) T.ns) (T.nc * T.nc) = 0 ∨ T.ns = 0) ↔ bkN T G (bkB (fun s => bkN T G s (T.nc * T.nc)) T.ns) (T.nc * T.nc) = 0 := ⟨fun e => e.elim id h00, .inl⟩
      rw [inN2] at k2
      by_cases e0 : bkN T G (bkB (fun s => bkN T G s (T.nc * T.nc)) T.ns) (T.nc * T.nc) = 0
      · rw [if_pos (hif.mpr e0)]
        refine br_f (by omega) ⟨fun k3 => fin s' _ f ?_, fun k3 => br_t rfl (fin s' _ f ?_)⟩
        · rw [hbv, k3, if_neg (by decide), if_pos e0]
        · have k4 : x = 1 := by simpa [k3] using k2
          rw [hbv, if_pos k4, e0]; rfl
      · rw [if_neg (fun e => e0 (hif.mp e))]
        have hpos : 0 < T.ns := by
          rcases Nat.eq_zero_or_pos T.ns with e | e
          · exact absurd (h00 e) e0
          · exact e
        have hlt := bkB_lt (fun s => bkN T G s (T.nc * T.nc)) hpos
        refine br_f (by omega) ⟨fun k3 => fin s' _ f ?_, fun k3 => br_f (by rw [nI_m1 (by omega)]; exact id) ⟨24, k9 s' f, vin (by omega) (by decide), fin s' _ f ?_⟩⟩
        · rw [hbv, k3, if_neg (by decide), if_neg e0]
        · have k4 : x = 1 := by simpa [k3] using k2
          rw [hbv, if_pos k4, ix_nI (by omega), g _ hlt]
    · rintro n2 i s' v hi ⟨rfl, rfl⟩ ih
      have l2 := hbl i (T.nc * T.nc) (Nat.le_refl _)
      have l1 := hbl (bkB (fun s => bkN T G s (T.nc * T.nc)) i) (T.nc * T.nc) (Nat.le_refl _)
      have iv : vp_in (nI i) 24 := vin (by omega) (by decide)
      simp only [VL_X4_baker_192]
      simp only [nI1]
      have estep : bkB (fun s => bkN T G s (T.nc * T.nc)) (i + 1) = if bkN T G (bkB (fun s => bkN T G s (T.nc * T.nc)) i) (T.nc * T.nc) < bkN T G i (T.nc * T.nc) then i else bkB (fun s => bkN T G s (T.nc * T.nc)) i := rfl
      rw [mt.ltS (by omega), ix_nI (by omega), g i hi]
      refine br_t hi ⟨24, k9 s' f, iv, ?_⟩
      rw [n0, nI_ltI (by decide) (by omega)]
      by_cases e0 : bkN T G (bkB (fun s => bkN T G s (T.nc * T.nc)) i) (T.nc * T.nc) = 0 ∨ i = 0
      · rw [if_pos e0]
        refine ⟨fun k3 => br_t rfl (nm_e (ih s' _ ⟨rfl, ?_⟩)), fun k3 => nm_e (ih s' _ ⟨rfl, ?_⟩)⟩
        · rcases Nat.eq_zero_or_pos i with ei | ei
          · subst ei
            have : bkB (fun s => bkN T G s (T.nc * T.nc)) (0 + 1) = 0 := by rw [estep]; show (if bkN T G 0 (T.nc * T.nc) < bkN T G 0 (T.nc * T.nc) then 0 else 0) = 0; rw [if_neg (Nat.lt_irrefl _)]
            rw [this, if_neg (by omega)]
          · have e1 : bkN T G (bkB (fun s => bkN T G s (T.nc * T.nc)) i) (T.nc * T.nc) = 0 := e0.elim id (fun e => by omega)
            have hl : bkN T G (bkB (fun s => bkN T G s (T.nc * T.nc)) i) (T.nc * T.nc) < bkN T G i (T.nc * T.nc) := by omega
            rw [estep, if_pos hl, if_neg (by omega)]
        · have hvi : bkN T G i (T.nc * T.nc) = 0 := by omega
          have hl : ¬ bkN T G (bkB (fun s => bkN T G s (T.nc * T.nc)) i) (T.nc * T.nc) < bkN T G i (T.nc * T.nc) := by omega
          rw [estep, if_neg hl]
          rcases Nat.eq_zero_or_pos i with ei | ei
          · subst ei
            rw [if_pos (.inl (show bkN T G 0 (T.nc * T.nc) = 0 from hvi))]
          · have e1 : bkN T G (bkB (fun s => bkN T G s (T.nc * T.nc)) i) (T.nc * T.nc) = 0 := e0.elim id (fun e => by omega)
            rw [if_pos (.inl e1)]
      · have e1 : ¬ bkN T G (bkB (fun s => bkN T G s (T.nc * T.nc)) i) (T.nc * T.nc) = 0 := fun e => e0 (.inl e)
        have e2 : 0 < i := by
          rcases Nat.eq_zero_or_pos i with ei | ei
          · exact absurd (.inr ei) e0
          · exact ei
        have hlt := bkB_lt (fun s => bkN T G s (T.nc * T.nc)) e2
        rw [if_neg e0]
        refine ⟨fun k3 => br_f (by rw [nI_m1 (by omega)]; exact id) ⟨24, k9 s' f, iv, 24, k9 s' f, vin (by omega) (by decide), ?_⟩, fun k3 => nm_e (ih s' _ ⟨rfl, ?_⟩)⟩
        · rw [ix_nI (by omega), g _ (by omega), nI_ltI (by omega) (by omega)]
          refine ⟨fun k4 => nm_e (ih s' _ ⟨rfl, ?_⟩), fun k4 => nm_e (ih s' _ ⟨rfl, ?_⟩)⟩
          · rw [estep, if_pos k4, if_neg (by omega)]
          · rw [estep, if_neg k4, if_neg (by omega)]
        · have hl : ¬ bkN T G (bkB (fun s => bkN T G s (T.nc * T.nc)) i) (T.nc * T.nc) < bkN T G i (T.nc * T.nc) := by omega
          rw [estep, if_neg hl, if_neg (by omega)]
  · rintro n c s hc ⟨f, g⟩ ih
    have mt := mt9.fr f fM
    have fo := fo9.fr f (by intro c hc; omega)
    have h0 : 0 < T.nc := by
      rcases Nat.eq_zero_or_pos T.nc with e | e
      · rw [e] at hc; omega
      · exact e
    have hdl : c / T.nc < T.nc := Nat.div_lt_of_lt_mul hc
    have hml : c % T.nc < T.nc := Nat.mod_lt _ h0
    have hne : ¬ nI T.nc = 0 := nI_ne0 h0 (by omega)
    simp only [VL_X4_baker_50]
    simp only [nI1]
    rw [ix0, mt.m0, pk_mul, pk_rem (by omega) h0 (by omega), pk_div (by omega) h0 (by omega)]
    refine br_t (nI_lt hc (by omega)) ⟨hne, nm_e ⟨hne, nm_e (m_rideOf mt fo (by omega) (by omega) fun s2 f2 hl => ?_)⟩⟩
    have ff2 := f.trans (f2.mono (S' := fun c => c = 568 ∨ c = X) (fun c k => .inl k))
    have mt2 := mt9.fr ff2 fM
    have fo2 := fo9.fr ff2 (by intro c hc; omega)
    have g2 : ∀ j, j < T.ns → zI s2 X j = nI (bkN T G j c) := fun j hj => by rw [f2.1 X j (by rw [cdX]; omega)]; exact g j hj
    have none' : (∀ s, stU T G (c / T.nc) (c % T.nc) s = false) → VL_X4_baker_50 Ret n s2 x X (nI (c + 1)) := fun e => ih s2 ⟨ff2, fun j hj => by
      show _ = nI (bkN T G j c + (if stU T G (c / T.nc) (c % T.nc) j then 1 else 0)); rw [e, g2 j hj]; rfl⟩
    by_cases hft : c / T.nc = c % T.nc
    · have e1 : rideV T G (c / T.nc) (c % T.nc) = some 0 := by unfold rideV; rw [if_pos hft]
      rw [e1]
      refine br_t (by decide) (nm_e (none' fun s => ?_))
      unfold stU pN; rw [if_pos hft]; rfl
    have hl := hl hft
    have e1 : rideV T G (c / T.nc) (c % T.nc) = (fstA T G (c / T.nc) (c % T.nc)).map (·.2) := by unfold rideV; rw [if_neg hft]
    rw [e1]
    cases hfa : fstA T G (c / T.nc) (c % T.nc) with
    | none =>
      refine br_t (by decide) (nm_e (none' fun s => ?_))
      unfold stU pN; rw [if_neg hft, hfa]; rfl
    | some p =>
      obtain ⟨a, m⟩ := p
      have g3 := (FAr_some hfa).2.2.1
      have hm1 := (Ds_some.mp g3).1.pos w
      have hmle := Ds_le w g3
      have hpn : pN T G (c / T.nc) (c % T.nc) = some (plen T G (c % T.nc) a) := by unfold pN; rw [if_neg hft, hfa]; rfl
      have hpa : ∀ k, pA T G (c / T.nc) (c % T.nc) k = pth T G (c % T.nc) a k := fun k => by unfold pA; rw [hfa]
      obtain ⟨q1, q2, q3, q4⟩ := plen_is w g3
      have hP0 : 0 < plen T G (c % T.nc) a := by unfold plen; omega
      refine br_f (by show ¬ nI m < 1; rw [n1]; exact nI_nlt (by omega) (by omega)) (m_firstArc mt2 hl (by omega) ?_)
      rw [hfa]
      show V_X4_baker_116 _ Ret s2 x X (nI c) (nI (c % T.nc)) 0 (nI a)
      generalize hP : plen T G (c % T.nc) a = P at *
      refine forL1 (fun m s v _ => VL_X4_baker_116 (VL_X4_baker_50 Ret n) Ret m s x X (nI c) (nI (c % T.nc)) v.1 v.2) (fun j s v => s = s2 ∧ (∀ s, s < 32 → btI v.1 s = anyK (pA T G (c / T.nc) (c % T.nc)) s j) ∧ v.2 = if j < P then nI (pth T G (c % T.nc) a j) else -1) P ?_ ?_ 0 s2 ((0 : Int32), nI a) (Nat.zero_le _) ⟨rfl, fun s _ => bt_0 s, by rw [if_pos hP0]; rfl⟩
      · rintro m2 s3 ⟨v1, v2⟩ ⟨rfl, hv, hv2⟩
        dsimp only at hv hv2 ⊢
        rw [if_neg (Nat.lt_irrefl _)] at hv2
        subst hv2
        simp only [VL_X4_baker_116]
        refine br_t trivial ?_
        refine forL (S := ZS) (fun m s y => VL_X4_baker_149 (VL_X4_baker_50 Ret n) Ret m s x X (nI c) v1 y) (fun k s4 => Fr (fun c => c = 568 ∨ c = X) s9 s4 ∧ ∀ j, j < T.ns → zI s4 X j = nI (bkN T G j (if j < k then c + 1 else c))) T.ns ?_ ?_ 0 s3 (Nat.zero_le _) ⟨ff2, fun j hj => by rw [if_neg (by omega)]; exact g2 j hj⟩
        · rintro m3 s4 ⟨f4, g4⟩
          have mt4 := mt9.fr f4 fM
          simp only [VL_X4_baker_149]
          simp only [nI1]
          rw [mt4.ltS (by omega)]
          exact br_f (by omega) (nm_e (ih s4 ⟨f4, fun j hj => by rw [g4 j hj, if_pos hj]⟩))
        · rintro m3 j s4 hj ⟨f4, g4⟩ ih4
          have mt4 := mt9.fr f4 fM
          have jv : vp_in (nI j) 24 := vin (by omega) (by decide)
          simp only [VL_X4_baker_149]
          simp only [nI1]
          rw [mt4.ltS (by omega), ix_nI (by omega), g4 j hj, if_neg (by omega), tst _ (by omega), hv j (by omega)]
          refine br_t hj ⟨24, k9 s4 f4, jv, 24, k9 s4 f4, jv, nm_e (nm_e (ih4 _ ⟨f4.sI X _ _ (.inr (cdX _)), fun j' hj' => ?_⟩))⟩
          rw [zI_row]
          have est : stU T G (c / T.nc) (c % T.nc) j = anyK (pA T G (c / T.nc) (c % T.nc)) j P := by unfold stU; rw [hpn]; rfl
          by_cases ej : j' = j
          · rw [if_pos ej, if_pos (by omega), ej]
            show _ = nI (bkN T G j c + (if stU T G (c / T.nc) (c % T.nc) j then 1 else 0))
            rw [est]
            cases anyK (pA T G (c / T.nc) (c % T.nc)) j P
            · show nI _ + (0 : Int32) = _; rw [n0, nI_add]; rfl
            · show nI _ + (1 : Int32) = _; rw [nI1]; rfl
          · rw [if_neg ej, g4 j' hj']
            by_cases el : j' < j
            · rw [if_pos el, if_pos (by omega)]
            · rw [if_neg el, if_neg (by omega)]
      · rintro m2 j s3 ⟨v1, v2⟩ hj ⟨rfl, hv, hv2⟩ ih3
        dsimp only at hv hv2 ⊢
        rw [if_pos hj] at hv2
        subst hv2
        obtain ⟨dj, hdj⟩ := q4 j hj
        have hN := Tw.arc_lt (Ds_arc hdj)
        simp only [VL_X4_baker_116]
        rw [nI_div2 (by omega)]
        refine br_f (by rw [nI_m1 (by omega)]; exact id) (nm_e (m_nextArc mt2 fo2 (by omega) hl hdj ?_))
        refine ih3 s3 (v1 ||| ((1 : Int32) <<< (nI (pth T G (c % T.nc) a j / 2) &&& 31)), if T.fin (pth T G (c % T.nc) a j) = c % T.nc then -1 else nI (nxA T G (c % T.nc) (pth T G (c % T.nc) a j))) ⟨rfl, fun s hs => ?_, ?_⟩
        · dsimp only
          rw [bt_or, bt_one (by omega) hs, hv s hs, anyK, hpa]
          congr 1
          rw [Bool.eq_iff_iff]; simp; exact eq_comm
        · dsimp only
          by_cases e2 : j + 1 < P
          · rw [if_pos e2, if_neg (q3 j e2)]; rfl
          · have : j = P - 1 := by omega
            rw [if_neg e2, if_pos (by rw [this]; exact q2)]
