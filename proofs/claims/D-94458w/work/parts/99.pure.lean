/-! PURE HALF: cuts: the model. -/
set_option maxRecDepth 100000
/-- the best of the sets below S -/
def cuI (T : Tw) (G : Nat → Nat → Bool) (b S : Nat) : Prop := (b = 0 ∧ ∀ X, X < S → ¬ CSt T G X) ∨ (CSt T G b ∧ b < S ∧ ∀ X, X < S → CSt T G X → lexle b X)
theorem cuI_fin {T : Tw} {G : Nat → Nat → Bool} {b : Nat} (h : cuI T G b (2 ^ T.nc - 1)) : isCut T G b := by
  rcases h with ⟨h1, h2⟩ | ⟨h1, -, h2⟩
  · exact .inl ⟨h1, fun X hX => h2 X hX.2.1 hX⟩
  · exact .inr ⟨h1, fun X hX => h2 X hX.2.1 hX⟩
theorem sub_bits {x : Int32} {X : Nat} (hX : X < 65536) : (x &&& (nI X ^^^ (-1)) = 0) = (∀ k, k < 32 → btI x k = true → tb X k = true) := by
  apply propext
  constructor
  · intro h k hk hx
    have := congrArg (btI · k) h
    simp only [bt_and, bt_xor, bt_m1' k hk, bt_0, bt_tbL (show X < 2 ^ 24 by omega), hx] at this
    cases e : tb X k
    · rw [e] at this; cases this
    · rfl
  · intro h
    refine bt_ext fun k hk => ?_
    rw [bt_and, bt_xor, bt_m1' k hk, bt_0, bt_tbL (show X < 2 ^ 24 by omega)]
    cases e : btI x k
    · rfl
    · rw [h k hk e]; rfl
theorem M_cut {T : Tw} {tm : Nat} {sg al : Nat → Nat → Int32} {σ : ZS} (h : ME T tm sg al σ) (hb : zI σ 44 54 = -1) (rm : RmM σ) {t : Int32} {Ret : Int32 → ZS → Prop} (hr : PM σ Ret (spCut T tm sg al t)) : wp_X4_cut σ t Ret := by
  unfold wp_X4_cut
  refine nm_e ?_
  obtain ⟨h1, hz⟩ := h.z
  have w := h.mt.wf
  have hns := w.ns
  have hnc := w.nc
  unfold spCut at hr
  refine m_isTime h1 (br0 (fun k => ?_) fun k => ?_)
  · unfold V_X4_cut_19
    exact m_bad1 hz (by decide) (br_f (by decide) (hr.thr (c := 1) (sp1_1 k) (by decide) hb))
  unfold V_X4_cut_19
  rw [sp1_0 k] at hr
  obtain ⟨q, rfl, hq, eq, -⟩ := inN_N k
  rw [eq] at hr
  have f00 : Fr SM σ (sI σ 44 0 0) := Fr.rfl.sI 44 0 0 (by unfold SM cd; simp)
  refine m_bad0 hz (br_t rfl (m_asks h1 (t := q) (by omega) fun s6 f6 hn hf => ?_))
  change FolM T (GT T sg al q) s6 at hf
  generalize hG : GT T sg al q = G at hf hr
  have me6 := h1.fr f6 (by intro c hc; unfold scM; omega)
  refine m_layReaches me6.mt hf fun s7 f7 hre => ?_
  have me7 := me6.fr f7 (by intro c hc; unfold scM; omega)
  have hzt : zt s7 = zt σ := by rw [f7.et, f6.et, f00.et]
  have hzn : zn s7 = zn σ := by rw [f7.en, f6.en, f00.en]
  have rm1 : 1239 ≤ zt s7 := by rw [hzt]; exact rm.1
  have rm2 : zt s7 + 1 ≤ 160000 := by rw [hzt]; exact rm.2.1
  have rm3 : zn s7 + 24 ≤ SB := by rw [hzn]; exact rm.2.2
  refine ⟨⟨rm1, rm2, by omega⟩, nm_e ?_⟩
  have f07 : Fr SM σ s7 := (f00.trans (f6.mono (by intro c hc; unfold SM; omega))).trans (f7.mono (by intro c hc; unfold SM; omega))
  have mt9 : MT T (sA s7 (0, 16) 16) := me7.mt.ag fun a i ha => by rw [qI_sA, if_neg (by omega)]
  have re9 : ReaM T G (sA s7 (0, 16) 16) := fun a b ha hb' => by rw [qJ_sA, if_neg (by omega)]; exact hre a b ha hb'
  have k9 : ∀ s, Fr (fun c => c = zt s7) (sA s7 (0, 16) 16) s → kK NS s (zt s7) = (0, 16) := fun s f => by
    rw [f.K]; unfold kK; rw [if_neg (by show ¬ _ < 1239; omega), qK_sA, if_pos rfl]
  have fM : ∀ c, c = zt s7 → noMT c := by intro c hc; unfold noMT; omega
  have cdX : ∀ i, cd (zt s7) i = zt s7 := fun i => by unfold cd; rw [if_neg (by omega), if_neg (by omega)]
  have fin : ∀ s b, Fr (fun c => c = zt s7) (sA s7 (0, 16) 16) s → isCut T G b → Ret (nI b) s := by
    intro s b f eb
    have gw := Gw.new (S := SM) f07 (by omega) rm1 (f.mono (by intro c hc; exact .inr hc))
    refine hr s _ (gw.mono (fun _ k => k) (Nat.le_refl _) (by omega)) ?_ ?_ (fun _ => by rw [cutN_eq eb])
    · rw [f.1 44 54 (by rw [show cd 44 54 = 1000054 from rfl]; omega), qI_sA, if_neg (by omega), f7.1 44 54 (by simp [cd]), f6.1 44 54 (by simp [cd]), zI_ne _ (.inr (by decide))]; exact hb
    · rw [f.1 44 0 (by rw [show cd 44 0 = 1000000 from rfl]; omega), qI_sA, if_neg (by omega), f7.1 44 0 (by simp [cd]), f6.1 44 0 (by simp [cd])]; exact hz
  generalize hX : zt s7 = X at *
  generalize sA s7 (0, 16) 16 = s9 at *
  have h16 : 2 ^ T.nc ≤ 65536 := Nat.pow_le_pow_right (n := 2) (by decide) hnc
  have p1 : 1 ≤ 2 ^ T.nc := Nat.one_le_two_pow
  refine forL (S := ZS) (fun m s y => VL_X4_cut_44 Ret m s X y) (fun c s => Fr (fun c => c = X) s9 s ∧ ∀ j, j < c → zI s X j = rchV T G j) T.nc ?_ ?_ 0 s9 (Nat.zero_le _) ⟨Fr.rfl, fun j hj => absurd hj (Nat.not_lt_zero _)⟩
  · rintro m s ⟨f, g⟩
    have mt := mt9.fr f fM
    simp only [VL_X4_cut_44]
    rw [mt.ltC (by omega)]
    refine br_f (by omega) ?_
    have h0 : CSt T G 0 → False := fun k => by have := k.1; omega
    have start : ∀ b S, 2 ^ T.nc - 1 ≤ S → cuI T G b S → cuI T G b (2 ^ T.nc - 1) := by
      intro b S hS hI
      rcases hI with ⟨i1, i2⟩ | ⟨i1, i2, i3⟩
      · exact .inl ⟨i1, fun X hX => i2 X (by omega)⟩
      · exact .inr ⟨i1, i1.2.1, fun X hX => i3 X (by omega)⟩
    have ini : cuI T G 0 1 := .inl ⟨rfl, fun X hX hC => by have := hC.1; omega⟩
    refine forL1 (fun m s v y => VL_X4_cut_73 Ret m s X v y) (fun S s' v => s' = s ∧ 1 ≤ S ∧ ∃ b, v = nI b ∧ b < 65536 ∧ cuI T G b S) (max 1 (2 ^ T.nc - 1)) ?_ ?_ 1 s 0 (by omega) ⟨rfl, Nat.le_refl _, 0, rfl, by decide, ini⟩
    · rintro m2 s' v ⟨rfl, -, b, rfl, hbl, hI⟩
      simp only [VL_X4_cut_73]
      rw [ix0, mt.m0, pow_sh16 _ hnc, nI_sub1 p1]
      exact br_f (nI_nlt (by omega) (by omega)) (fin s' b f (cuI_fin (start b _ (by omega) hI)))
    · rintro m2 S s' v hS ⟨rfl, hS1, b, rfl, hbl, hI⟩ ih
      have hS2 : S < 2 ^ T.nc - 1 := by omega
      simp only [VL_X4_cut_73]
      rw [ix0, mt.m0, pow_sh16 _ hnc, nI_sub1 p1]
      refine br_t (nI_lt hS2 (by omega)) ?_
      have l1 : pop S ≤ 24 := cnt_le _ _
      have l2 : pop b ≤ 24 := cnt_le _ _
      -- the closing test
      have inner : ∀ ok : Bool, (ok = true → b = 0 ∨ pop S < pop b) → (ok = false → b ≠ 0 ∧ ¬ pop S < pop b) → V_X4_cut_114 (VL_X4_cut_73 Ret m2) Ret s' X (nI b) (nI S) (b2i ok) 0 := by
        intro ok hok1 hok0
        have e165 : ∀ v : Bool, (v = true → ok = true ∧ clsd T G S) → (v = false → ok = false ∨ ¬ clsd T G S) → V_X4_cut_165 (VL_X4_cut_73 Ret m2) Ret s' X (nI b) (nI S) (b2i v) := by
          intro v hv1 hv0
          unfold V_X4_cut_165
          simp only [nI1]
          refine br0 (fun hv => nm_e (ih s' _ ⟨rfl, by omega, b, rfl, hbl, ?_⟩)) fun hv => nm_e (ih s' _ ⟨rfl, by omega, S, rfl, by omega, ?_⟩)
          · have hn : ¬ CSt T G S ∨ (b ≠ 0 ∧ ¬ pop S < pop b) := by
              rcases hv0 hv with k | k
              · exact .inr (hok0 k)
              · exact .inl fun hC => k hC.2.2
            rcases hI with ⟨i1, i2⟩ | ⟨i1, i2, i3⟩
            · refine .inl ⟨i1, fun X hX => ?_⟩
              by_cases e : X = S
              · subst e; exact hn.resolve_right fun k => k.1 i1
              · exact i2 X (by omega)
            · refine .inr ⟨i1, by omega, fun X hX hC => ?_⟩
              by_cases e : X = S
              · subst e
                rcases hn with k | k
                · exact absurd hC k
                · unfold lexle; omega
              · exact i3 X (by omega) hC
          · obtain ⟨k1, k2⟩ := hv1 hv
            have hC : CSt T G S := ⟨by omega, hS2, k2⟩
            refine .inr ⟨hC, by omega, fun X hX hCX => ?_⟩
            by_cases e : X = S
            · subst e; exact .inr ⟨rfl, Nat.le_refl _⟩
            · rcases hI with ⟨i1, i2⟩ | ⟨i1, i2, i3⟩
              · exact absurd hCX (i2 X (by omega))
              · have h3 := i3 X (by omega) hCX
                have h4 := i1.1
                rcases hok1 k1 with k | k
                · omega
                · unfold lexle at h3 ⊢; omega
        refine forL1 (fun m s v y => VL_X4_cut_114 (VL_X4_cut_73 Ret m2) Ret m s X (nI b) (nI S) v y) (fun c s'' v => s'' = s' ∧ ∃ o : Bool, v = b2i o ∧ (o = true → ok = true ∧ ∀ a, a < c → tb S a = true → ∀ k, rcB T G a k = true → tb S k = true) ∧ (o = false → ok = false ∨ ¬ clsd T G S)) T.nc ?_ ?_ 0 s' (b2i ok) (Nat.zero_le _) ⟨rfl, ok, rfl, fun k => ⟨k, fun a ha => absurd ha (Nat.not_lt_zero _)⟩, fun k => .inl k⟩
        · rintro m3 s'' v ⟨rfl, o, rfl, o1, o2⟩
          simp only [VL_X4_cut_114]
          rw [mt.ltC (by omega)]
          exact br_f (by omega) (e165 o (fun k => ⟨(o1 k).1, fun a ha => (o1 k).2 a ha⟩) o2)
        · rintro m3 c s'' v hc ⟨rfl, o, rfl, o1, o2⟩ ih3
          simp only [VL_X4_cut_114]
          simp only [nI1]
          rw [mt.ltC (by omega), tst _ (by omega), bt_tbL (show S < 2 ^ 24 by omega)]
          refine br_t hc (br0 (fun k => e165 o (fun k2 => by rw [k] at k2; cases k2) o2) fun k => ?_)
          obtain ⟨q1, q2⟩ := o1 k
          refine br0 (fun k2 => nm_e (ih3 s'' 1 ⟨rfl, true, rfl, fun _ => ⟨q1, fun a ha ht => ?_⟩, fun k => by cases k⟩)) fun k2 => ⟨16, k9 s'' f, vin (by omega) (by decide), ?_⟩
          · by_cases e : a = c
            · subst e; rw [k2] at ht; cases ht
            · exact q2 a (by omega) ht
          rw [ix_nI (by omega), g c hc, sub_bits (by omega)]
          refine ⟨fun k3 => nm_e (ih3 s'' 1 ⟨rfl, true, rfl, fun _ => ⟨q1, fun a ha ht k4 hk4 => ?_⟩, fun k => by cases k⟩), fun k3 => nm_e (ih3 s'' 0 ⟨rfl, false, rfl, fun k => (by cases k), fun _ => .inr fun hC => k3 fun k4 hk4 hb4 => ?_⟩)⟩
          · by_cases e : a = c
            · subst e
              have hkl := RcC_lt w hc (rcB_iff.mp hk4)
              exact k3 k4 (by omega) (by rw [bt_rchV (by omega)]; exact hk4)
            · exact q2 a (by omega) ht k4 hk4
          · rw [bt_rchV hk4] at hb4
            exact hC c hc k2 k4 hb4
      rw [nI_eq0 (by omega)]
      refine ⟨fun k => inner true (fun _ => .inl k) (fun k => by cases k), fun k => m_ones (m_ones ?_)⟩
      rw [bt_tbL (by omega), bt_tbL (by omega), show cnt (tb S) 24 = pop S from rfl, show cnt (tb b) 24 = pop b from rfl, nI_ltI (by omega) (by omega)]
      exact ⟨fun l => inner true (fun _ => .inr l) (fun k => by cases k), fun l => inner false (fun k => by cases k) (fun _ => ⟨k, l⟩)⟩
  · rintro m c s hc ⟨f, g⟩ ih
    have mt := mt9.fr f fM
    have re : ReaM T G s := re9.fr f (by intro c hc; omega)
    simp only [VL_X4_cut_44]
    simp only [nI1]
    rw [mt.ltC (by omega)]
    refine br_t hc (m_reachOf mt re hc ⟨16, k9 s f, vin (by omega) (by decide), nm_e (nm_e (ih _ ⟨f.sI _ _ _ (cdX _), fun j hj => ?_⟩))⟩)
    rw [ix_nI (by omega), zI_row]
    by_cases e : j = c
    · rw [if_pos e, e]
    · rw [if_neg e]; exact g j (by omega)
