/-! PURE HALF: town, image, restore as calls of the law. -/
set_option maxRecDepth 100000
theorem IMC.gw0 {ni : Nat} {v : Nat → IV} {σ σ' : ZS} {k m : Nat} {S : Nat → Prop} (h : IMC ni v σ) (hz : NS ≤ zt σ) (hzb : zt σ ≤ 160000) (g : Gw S k m σ σ') (hs : ∀ c, S c → c ≠ 17 ∧ (c < 1239 ∨ 200000 ≤ c)) (e : zI σ' 0 4 = 0) : IMC 0 v σ' := by
  have hz : 1239 ≤ zt σ := hz
  have e17 : ∀ i, zP σ' 17 i = zP σ 17 i := fun i => g.p 17 i (by omega) fun k => (hs _ k).1 rfl
  have nD : ∀ a i, 1239 ≤ a → a < zt σ → ¬ S (cd a i) := fun a i h1 h2 k => by
    have := hs _ k
    unfold cd at this
    rw [if_neg (by omega), if_neg (by omega)] at this
    omega
  refine ⟨by decide, e, fun i hi => ?_, fun i j q hi hj => ?_, fun i hi => absurd hi (Nat.not_lt_zero _)⟩
  · rw [e17]
    rcases h.2.2.1 i hi with k | ⟨q, k1, k2⟩
    · exact .inl k
    · exact .inr ⟨q, k1, k2.gw g fun i => nD q i k2.1 (by have := k2.2.1; omega)⟩
  · rw [e17, e17]; exact h.2.2.2.1 i j q hi hj
theorem o_town {k : Nat} {σ : ZS} (h : Iv (k + 1) σ) {K : ZS → Int32 → Prop} {x4 : Int32} (hK : ∀ σ', Iv k σ' → K σ' (x4 + 6)) {Ret : Int32 → ZS → Prop} {V : Prop} (hv : V) {x : Int32} : wp_X0_town σ x (fun r18 σ19 => V ∧ (wp_X4_town σ19 x (fun r21 σ22 => wp_X4_thrown σ22 (fun r23 σ24 => ((r23 = r18 → (((r18 = 0 → ((((lg_cmp (zJ σ24 1238 (ix 0)) r21.toInt64) = 0 → (∀ y26 : Int32, y26 = x4 + 6 → (K σ24 y26))) ∧ (¬ (lg_cmp (zJ σ24 1238 (ix 0)) r21.toInt64) = 0 → (Ret 0 σ24))))) ∧ (¬ r18 = 0 → (∀ y25 : Int32, y25 = x4 + 6 → (K σ24 y25)))))) ∧ (¬ r23 = r18 → (Ret 0 σ24))))))) := by
  obtain ⟨T, ad, w, u, hc, hm, sf, h54, hby, ro⟩ := h
  have hz : 1239 ≤ zt σ := ro.1
  have hzb : zt σ ≤ 160000 := by have := ro.2.2.1; omega
  have tp5 := hc.2.2.1.1
  have rmt : zt σ + 700 ≤ 160000 ∧ zn σ + 13000 ≤ 8000000 := by have a := ro.2.2.1; have b := ro.2.2.2; omega
  have inj : ∀ n n', n ≤ 500 → n' ≤ 500 → nI n = nI n' → n = n' := fun n n' h1 h2 e => by rwa [nI_eq (by omega) (by omega)] at e
  have into : ∀ n, n ≤ u.1.1 → inN (nI n) (u.1.1 + 1) = true := fun n hn => by rw [inN_nI (by omega)]; simp; omega
  refine C_town hc.2.2.1 hby ro.1 ro.2.1 rmt (fun hb σ1 g => ⟨hv, ?_⟩) (fun n e hx hn he σ1 g a1 a2 a3 => ⟨hv, ?_⟩) (fun n P hx hn he σ1 d g ct ch a1 a2 a3 a4 a5 => ⟨hv, ?_⟩)
  · have hc1 := hc.gw ro g fun c hc => hc.elim
    have hm1 := hm.gw ro.1 g fun c hc => hc.elim
    have sf1 := sf.gwS ro.1 g fun c hc => hc.elim
    have h541 : zI σ1 44 54 = -1 := by rw [g.i 44 54 (by omega) id]; exact h54
    have ro1 : RO (2 * k + 1) σ1 := RO.gw (j := 2 * k + 1) ro g (by decide) (by decide)
    refine M_town hm1.2.2.1 hby (fun _ σ2 f e0 => ?_) (fun n e hx hn => ?_) (fun n P hx hn => ?_)
    · have g2 := f.gw
      exact tl_t (c := 1) hK (by decide) ⟨T, ad, w, u, hc1.gw ro1 g2 fun c hc => by unfold noC; omega, hm1.gw ro1.1 g2 fun c hc => by unfold noM noMT noMH noIm; omega, sf1.gwS ro1.1 g2 fun c hc => by unfold noSf; omega, by rw [f.1 44 54 (by unfold cd; simp)]; exact h541, hby, RO.gw (j := 2 * k) ro1 g2 (by decide) (by decide)⟩ e0 (fun h => absurd h (by decide))
    · rw [hx, into n hn] at hb; cases hb
    · rw [hx, into n hn] at hb; cases hb
  · have ro1 : RO (2 * k + 1) σ1 := RO.gw (j := 2 * k + 1) ro g (by decide) (by decide)
    have hm1 := hm.gw ro.1 g fun c hc => by unfold SE at hc; unfold noM noMT noMH noIm; omega
    have sf1 := sf.gwS ro.1 g fun c hc => by unfold SE at hc; unfold noSf; omega
    have h541 : zI σ1 44 54 = -1 := by rw [g.i 44 54 (by omega) (by unfold SE cd; simp)]; exact h54
    have hc1 : CP T ad w ((0, u.1.2), u.2.1, nI e.2) σ1 := ⟨hc.1.gwS ro g fun c hc => by unfold SE at hc; omega, ⟨hc.2.1.1.gwS ro.1 g fun c hc => by unfold SE at hc; omega, hc.2.1.2.gwS ro.1 g fun c hc => by unfold SE at hc; omega⟩, ⟨Nat.zero_le _, a2, fun i hi => absurd hi (Nat.not_lt_zero _)⟩, hc.2.2.2.1.gw ro.1 hzb g fun c hc => by unfold SE at hc; unfold noI; omega, a1⟩
    refine M_town hm1.2.2.1 hby (fun hb => ?_) (fun n' e' hx' hn' he' σ2 f b1 b2 b3 => ?_) (fun n' P' hx' hn' he' => ?_)
    · rw [hx, into n hn] at hb; cases hb
    · have en := inj n n' (by omega) (by omega) (hx.symm.trans hx')
      subst en
      rw [he] at he'; injection he' with ee; subst ee
      have g2 := f.gw
      have iv : Iv k σ2 := ⟨T, ad, w, ((0, u.1.2), u.2.1, nI e.2), hc1.gw ro1 g2 fun c hc => by unfold SMw SRc SRd at hc; unfold noC; omega, ⟨hm1.1.gw ro1.1 g2 fun c hc => by unfold SMw SRc SRd at hc; unfold noMT; omega, ⟨hm1.2.1.1.gw ro1.1 g2 fun c hc => by unfold SMw SRc SRd at hc; unfold noMH; omega, hm1.2.1.2.gwS ro1.1 g2 fun c hc => by unfold SMw SRc SRd at hc; omega⟩, ⟨Nat.zero_le _, b3, fun i hi => absurd hi (Nat.not_lt_zero _)⟩, hm1.2.2.2.1.gw ro1.1 g2 fun c hc => by unfold SMw SRc SRd at hc; unfold noIm; omega, b1⟩, sf1.gwS ro1.1 g2 fun c hc => by unfold SMw SRc SRd at hc; unfold noSf; omega, by rw [f.1 44 54 (by unfold SMw SRc SRd cd; simp)]; exact h541, fun i hi => absurd hi (Nat.not_lt_zero _), RO.gw (j := 2 * k) ro1 g2 (by decide) (by decide)⟩
      exact tl_t (c := 0) hK (by decide) iv b2 fun _ => by rw [f.2.1 1238 0 (by unfold SMw SRc SRd cd; simp)]; exact a3
    · have en := inj n n' (by omega) (by omega) (hx.symm.trans hx')
      subst en
      rw [he] at he'; cases he'
  · have ro1 : RO (2 * k + 1) σ1 := RO.gw (j := 2 * k + 1) ro g (by decide) (by decide)
    have hm1 := hm.gw ro.1 g fun c hc => by unfold STw at hc; unfold noM noMT noMH noIm; omega
    have sf1 := sf.gwS ro.1 g fun c hc => by unfold STw at hc; unfold noSf; omega
    have h541 : zI σ1 44 54 = -1 := by rw [g.i 44 54 (by omega) (by unfold STw cd; simp)]; exact h54
    have hc1 : CP (fT P.T) d (0, fun _ => P.sg, fun _ => P.al, 0, w.2.2.2.2) ((0, u.1.2), (0, u.2.1.2), -1) σ1 := ⟨ct, ⟨ch, ⟨Nat.zero_le _, a1, fun i hi => absurd hi (Nat.not_lt_zero _)⟩⟩, ⟨Nat.zero_le _, a4, fun i hi => absurd hi (Nat.not_lt_zero _)⟩, hc.2.2.2.1.gw0 ro.1 hzb g (fun c hc => by unfold STw at hc; omega) a3, a2⟩
    refine M_town hm1.2.2.1 hby (fun hb => ?_) (fun n' e' hx' hn' he' => ?_) (fun n' P' hx' hn' he' σ2 f mt mh b1 b2 b3 b4 b5 => ?_)
    · rw [hx, into n hn] at hb; cases hb
    · have en := inj n n' (by omega) (by omega) (hx.symm.trans hx')
      subst en
      rw [he] at he'; cases he'
    · have en := inj n n' (by omega) (by omega) (hx.symm.trans hx')
      subst en
      rw [he] at he'; injection he' with ee; subst ee
      have g2 := f.gw
      have iv : Iv k σ2 := ⟨fT P.T, d, (0, fun _ => P.sg, fun _ => P.al, 0, w.2.2.2.2), ((0, u.1.2), (0, u.2.1.2), -1), hc1.gw ro1 g2 fun c hc => by unfold SMt SMw SRc SRd at hc; unfold noC; omega, ⟨mt, ⟨mh, ⟨Nat.zero_le _, b1, fun i hi => absurd hi (Nat.not_lt_zero _)⟩⟩, ⟨Nat.zero_le _, b5, fun i hi => absurd hi (Nat.not_lt_zero _)⟩, ⟨Nat.zero_le _, b2, fun i hi => absurd hi (Nat.not_lt_zero _)⟩, b3⟩, sf1.gwS ro1.1 g2 fun c hc => by unfold SMt SMw SRc SRd at hc; unfold noSf; omega, by rw [f.1 44 54 (by unfold SMt SMw SRc SRd cd; simp)]; exact h541, fun i hi => absurd hi (Nat.not_lt_zero _), RO.gw (j := 2 * k) ro1 g2 (by decide) (by decide)⟩
      exact tl_t (c := 0) hK (by decide) iv b4 fun _ => by rw [f.2.1 1238 0 (by unfold SMt SMw SRc SRd cd; simp)]; exact a5
theorem o_image {k : Nat} {σ : ZS} (h : Iv (k + 1) σ) {K : ZS → Int32 → Prop} {x4 : Int32} (hK : ∀ σ', Iv k σ' → K σ' (x4 + 6)) {Ret : Int32 → ZS → Prop} : wp_X1_image σ (fun r426 σ427 => wp_X4_image σ427 (fun r428 σ429 => ((r426 = r428 → (∀ y430 : Int32, y430 = x4 + 6 → (K σ429 y430))) ∧ (¬ r426 = r428 → (Ret 0 σ429))))) := by
  have h' := h
  obtain ⟨T, ad, w, u, hc, hm, sf, h54, hby, ro⟩ := h
  have hz : 1239 ≤ zt σ := ro.1
  have hzb : zt σ ≤ 160000 := by have := ro.2.2.1; omega
  have rmt : zt σ + 10 ≤ 160000 ∧ zn σ + 9700 ≤ 8000000 := by have a := ro.2.2.1; have b := ro.2.2.2; omega
  refine C_image hc.2.2.2.1 (HC12 hc.2.1.1 hc.2.1.2) ro.1 rmt (fun e => ?_) fun e σ1 g im => ?_
  · exact M_image hm.2.2.2.1 hm.2.1.1 hm.2.1.2 (fun _ σ2 f => eq_t hK (iv_0 h' f)) fun e2 => absurd e (by omega)
  · have hsI : ∀ c, SI σ c → c = 17 ∨ c = 2000004 ∨ (1239 ≤ c ∧ c < 200000) := fun c hc => by
      rcases hc with e | e | ⟨q, hb, e⟩
      · exact .inl e
      · exact .inr (.inl e)
      · have b1 := hb.1; have b2 := hb.2.1; omega
    have ro1 : RO (2 * k + 1) σ1 := RO.gw (j := 2 * k + 1) ro g (by decide) (by decide)
    have hm1 := hm.gw ro.1 g fun c hc => by have := hsI c hc; unfold noM noMT noMH noIm; omega
    have sf1 := sf.gwS ro.1 g fun c hc => by have := hsI c hc; unfold noSf; omega
    have h541 : zI σ1 44 54 = -1 := by rw [g.i 44 54 (by omega) (fun k => by have := hsI _ k; unfold cd at this; simp at this)]; exact h54
    have ct1 : CT T ad σ1 := by
      refine hc.1.gw ro.1 ro.2.1 g (fun a i ha hl hk hs => ?_) (fun k => by have := hsI _ k; omega)
      have ec : cd a i = a := by unfold okA at ha; unfold cd; rw [if_neg (by omega), if_neg (by omega)]
      rw [ec] at hs
      rcases hs with e | e | ⟨q, hb, e1, e2⟩
      · unfold okA at ha; omega
      · unfold okA at ha; omega
      · have b1 := hb.1
        rw [kK_dyn (by omega)] at hk
        obtain ⟨_, _, k3, _, _, _, k7, k8, k9⟩ := hb
        have : a = q ∨ a = q + 1 ∨ a = q + 2 ∨ a = q + 3 := by omega
        rcases this with rfl | rfl | rfl | rfl
        · rw [k3] at hk; exact hk.2.1 rfl
        · rw [k7] at hk; exact hk.2.2.1 rfl
        · rw [k8] at hk; exact hk.2.2.1 rfl
        · rw [k9] at hk; exact hk.2.2.2 rfl
    have hc1 : CP T ad w (u.1, (u.2.1.1 + 1, up u.2.1.2 u.2.1.1 w), u.2.2) σ1 := ⟨ct1, ⟨hc.2.1.1.gwS ro.1 g fun c hc => by have := hsI c hc; omega, hc.2.1.2.gwS ro.1 g fun c hc => by have := hsI c hc; omega⟩, hc.2.2.1.gwS ro.1 g (fun c hc => by have := hsI c hc; omega), im, by rw [g.i 0 3 (by omega) (fun k => by have := hsI _ k; unfold cd at this; simp at this)]; exact hc.2.2.2.2⟩
    refine M_image hm1.2.2.2.1 hm1.2.1.1 hm1.2.1.2 (fun e2 => absurd e (by omega)) fun _ σ2 f im2 => eq_t hK ?_
    have g2 := f.gw
    exact ⟨T, ad, w, (u.1, (u.2.1.1 + 1, up u.2.1.2 u.2.1.1 w), u.2.2), hc1.gw ro1 g2 fun c hc => by unfold SIm at hc; unfold noC; omega, ⟨hm1.1.gw ro1.1 g2 fun c hc => by unfold SIm at hc; unfold noMT; omega, ⟨hm1.2.1.1.gw ro1.1 g2 fun c hc => by unfold SIm at hc; unfold noMH; omega, hm1.2.1.2.gwS ro1.1 g2 fun c hc => by unfold SIm at hc; omega⟩, hm1.2.2.1.gwS ro1.1 g2 (fun c hc => by unfold SIm at hc; omega), im2, by rw [f.1 44 3 (by unfold SIm cd; simp)]; exact hm1.2.2.2.2⟩, sf1.gwS ro1.1 g2 fun c hc => by unfold SIm at hc; unfold noSf; omega, by rw [f.1 44 54 (by unfold SIm cd; simp)]; exact h541, hby, RO.gw (j := 2 * k) ro1 g2 (by decide) (by decide)⟩
theorem o_restore {k : Nat} {σ : ZS} (h : Iv (k + 1) σ) {K : ZS → Int32 → Prop} {x4 : Int32} (hK : ∀ σ', Iv k σ' → K σ' (x4 + 6)) {Ret : Int32 → ZS → Prop} : wp_X1_restore σ (fun r431 σ432 => wp_X4_restore σ432 (fun r433 σ434 => ((r431 = r433 → (∀ y435 : Int32, y435 = x4 + 6 → (K σ434 y435))) ∧ (¬ r431 = r433 → (Ret 0 σ434))))) := by
  have h' := h
  obtain ⟨T, ad, w, u, hc, hm, sf, h54, hby, ro⟩ := h
  have hz : 1239 ≤ zt σ := ro.1
  have hzb : zt σ ≤ 160000 := by have := ro.2.2.1; omega
  refine C_restore hc.2.2.2.1 hzb (fun e => ?_) fun e σ1 f im hw => ?_
  · exact M_restore hm.2.2.2.1 (fun _ σ2 f => eq_t hK (iv_0 h' f)) fun e2 => absurd e (by omega)
  · have g := f.gw
    have ro1 : RO (2 * k + 1) σ1 := RO.gw (j := 2 * k + 1) ro g (by decide) (by decide)
    have hm1 := hm.gw ro.1 g fun c hc => by unfold SRe at hc; unfold noM noMT noMH noIm; omega
    have sf1 := sf.gwS ro.1 g fun c hc => by unfold SRe at hc; unfold noSf; omega
    have h541 : zI σ1 44 54 = -1 := by rw [f.1 44 54 (by unfold SRe cd; simp)]; exact h54
    have hc1 : CP T ad (u.2.1.2 (u.2.1.1 - 1)) (u.1, (u.2.1.1 - 1, u.2.1.2), u.2.2) σ1 := ⟨hc.1.gwS ro g fun c hc => by unfold SRe at hc; omega, hw.ch, hc.2.2.1.gwS ro.1 g (fun c hc => by unfold SRe at hc; omega), im, by rw [f.1 0 3 (by unfold SRe cd; simp)]; exact hc.2.2.2.2⟩
    refine M_restore hm1.2.2.2.1 (fun e2 => absurd e (by omega)) fun _ σ2 f2 im2 mh td => eq_t hK ?_
    have g2 := f2.gw
    exact ⟨T, ad, u.2.1.2 (u.2.1.1 - 1), (u.1, (u.2.1.1 - 1, u.2.1.2), u.2.2), hc1.gw ro1 g2 fun c hc => by unfold SRn SRm at hc; unfold noC; omega, ⟨hm1.1.gw ro1.1 g2 fun c hc => by unfold SRn SRm at hc; unfold noMT; omega, ⟨mh, td⟩, hm1.2.2.1.gwS ro1.1 g2 (fun c hc => by unfold SRn SRm at hc; omega), im2, by rw [f2.1 44 3 (by unfold SRn SRm cd; simp)]; exact hm1.2.2.2.2⟩, sf1.gwS ro1.1 g2 fun c hc => by unfold SRn SRm at hc; unfold noSf; omega, by rw [f2.1 44 54 (by unfold SRn SRm cd; simp)]; exact h541, hby, RO.gw (j := 2 * k) ro1 g2 (by decide) (by decide)⟩
