/-! PURE HALF: one call of the law: the tails. -/
set_option maxRecDepth 100000
abbrev UV : Type := (Nat × (Nat → Int32)) × (Nat × (Nat → IV)) × Int32
theorem SQ_C : ∀ c, SQ c → noC c := by intro c hc; unfold SQ at hc; unfold noC; omega
theorem SQ_M : ∀ c, SQ c → noM c := by intro c hc; unfold SQ at hc; unfold noM noMT noMH noIm; omega
theorem SM_C : ∀ c, SM c → noC c := by intro c hc; unfold SM at hc; unfold noC; omega
theorem SM_M : ∀ c, SM c → noM c := by intro c hc; unfold SM at hc; unfold noM noMT noMH noIm; omega
theorem SM_S : ∀ c, SM c → noSf c := by intro c hc; unfold SM at hc; unfold noSf; omega
theorem le1 (b : Bool) (v : Int32) : (sp1 b v).1 ≤ 2 := by unfold sp1; split <;> simp
theorem le2 (b c : Bool) (v : Int32) : (sp2 b c v).1 ≤ 2 := by
  unfold sp2; split
  · split <;> simp
  · simp
theorem RO.rm {j : Nat} {σ : ZS} (h : RO j σ) : Rm σ := by
  obtain ⟨h1, h2, h3, h4⟩ := h
  exact ⟨h1, by show _ ≤ 160000; omega, by show _ ≤ 8000000; omega⟩
theorem RO.rmM {j : Nat} {σ : ZS} (h : RO j σ) : RmM σ := by
  obtain ⟨h1, h2, h3, h4⟩ := h
  exact ⟨h1, by show _ ≤ 160000; omega, by show _ ≤ 8000000; omega⟩
theorem cmp_self (x : Int64) : lg_cmp x x = 0 := by
  unfold lg_cmp
  rw [if_neg (fun h => absurd h (by rw [gt_iff_lt, Int64.lt_iff_toInt_lt]; omega)), if_pos rfl]
/-- a question is asked of the class -/
theorem pc_t {k : Nat} {T : Tw} {d : Ad} {w : WV} {u : UV} {σ : ZS} (hc : CP T d w u σ) (hm : MP T w u σ) (h54 : zI σ 44 54 = -1) (ro : RO (2 * k + 2) σ) {r : Res} {F : Int32 → ZS → Prop} (h : ∀ σ1, CP T d w u σ1 → MP T w u σ1 → Sf σ1 → zI σ1 44 54 = -1 → RO (2 * k + 1) σ1 → (r.1 = 0 → zJ σ1 1238 0 = r.2) → F (nI r.1) σ1) : PC σ F r := by
  intro σ1 g sf hj
  have hz : 1239 ≤ zt σ := ro.1
  exact h σ1 (hc.gw ro g SQ_C) (hm.gw ro.1 g SQ_M) sf (by rw [g.i 44 54 (by omega) (by unfold SQ cd; simp)]; exact h54) (ro.gw g (by decide) (by decide)) hj
/-- and of the model -/
theorem pm_iv {k : Nat} {T : Tw} {d : Ad} {w : WV} {u : UV} {σ1 : ZS} (hc : CP T d w u σ1) (hm : MP T w u σ1) (sf : Sf σ1) (hby : ∀ i, i < u.1.1 → BY (u.1.2 i)) (ro : RO (2 * k + 1) σ1) {σ2 : ZS} (g : Gw SM 1 24 σ1 σ2) (h54 : zI σ2 44 54 = -1) : Iv k σ2 ∧ zJ σ2 1238 0 = zJ σ1 1238 0 := by
  have hz : 1239 ≤ zt σ1 := ro.1
  exact ⟨⟨T, d, w, u, hc.gw ro g SM_C, hm.gw ro.1 g SM_M, sf.gwS ro.1 g SM_S, h54, hby, ro.gw g (by decide) (by decide)⟩, g.j 1238 0 (by omega) (by unfold SM cd; simp)⟩
theorem tl_t {k : Nat} {K : ZS → Int32 → Prop} {x4 : Int32} (hK : ∀ σ', Iv k σ' → K σ' (x4 + 6)) {Ret : Int32 → ZS → Prop} {c : Nat} (hc : c ≤ 2) {x : Int64} {σ2 : ZS} (iv : Iv k σ2) (h0 : zI σ2 44 0 = nI c) (hj : c = 0 → zJ σ2 1238 0 = x) : wp_X4_thrown σ2 (fun r23 σ24 => ((r23 = nI c → (((nI c = 0 → ((((lg_cmp (zJ σ24 1238 (ix 0)) x) = 0 → (∀ y26 : Int32, y26 = x4 + 6 → (K σ24 y26))) ∧ (¬ (lg_cmp (zJ σ24 1238 (ix 0)) x) = 0 → (Ret 0 σ24))))) ∧ (¬ nI c = 0 → (∀ y25 : Int32, y25 = x4 + 6 → (K σ24 y25)))))) ∧ (¬ r23 = nI c → (Ret 0 σ24)))) := by
  unfold wp_X4_thrown
  rw [h0]
  refine br_t rfl ⟨fun e => ?_, fun _ => nm_e (hK _ iv)⟩
  rw [nI_eq0 (by omega)] at e
  rw [ix0, hj e]
  exact br_t (cmp_self _) (nm_e (hK _ iv))
theorem tl_b {k : Nat} {K : ZS → Int32 → Prop} {x4 : Int32} (hK : ∀ σ', Iv k σ' → K σ' (x4 + 6)) {Ret : Int32 → ZS → Prop} {V : ZS → Int64 → Int64 → Prop} (hV : ∀ σ' x, Iv k σ' → V σ' x x) {c : Nat} (hc : c ≤ 2) {v : Int32} {σ2 : ZS} (iv : Iv k σ2) (h0 : zI σ2 44 0 = nI c) (hv : c = 0 → v = 0 ∨ v = 1) (hj : c = 0 → zJ σ2 1238 0 = v.toInt64) : wp_X4_thrown σ2 (fun r76 σ77 => ((r76 = nI c → (((nI c = 0 → (((v = 0 → (V σ77 0 (zJ σ77 1238 (ix 0)))) ∧ (¬ v = 0 → (V σ77 1 (zJ σ77 1238 (ix 0))))))) ∧ (¬ nI c = 0 → (∀ y78 : Int32, y78 = x4 + 6 → (K σ77 y78)))))) ∧ (¬ r76 = nI c → (Ret 0 σ77)))) := by
  unfold wp_X4_thrown
  rw [h0]
  refine br_t rfl ⟨fun e => ?_, fun _ => nm_e (hK _ iv)⟩
  rw [nI_eq0 (by omega)] at e
  rw [ix0, hj e]
  rcases hv e with rfl | rfl
  · exact ⟨fun _ => hV _ _ iv, fun h => absurd rfl h⟩
  · exact ⟨fun h => absurd h (by decide), fun _ => hV _ _ iv⟩
theorem pm_t {k : Nat} {T : Tw} {d : Ad} {w : WV} {u : UV} {σ1 : ZS} (hc : CP T d w u σ1) (hm : MP T w u σ1) (sf : Sf σ1) (hby : ∀ i, i < u.1.1 → BY (u.1.2 i)) (ro : RO (2 * k + 1) σ1) {r : Nat × Int32} (hr2 : r.1 ≤ 2) (hj : r.1 = 0 → zJ σ1 1238 0 = r.2.toInt64) {K : ZS → Int32 → Prop} {x4 : Int32} (hK : ∀ σ', Iv k σ' → K σ' (x4 + 6)) {Ret : Int32 → ZS → Prop} : PM σ1 (fun r21 σ22 => wp_X4_thrown σ22 (fun r23 σ24 => ((r23 = nI r.1 → (((nI r.1 = 0 → ((((lg_cmp (zJ σ24 1238 (ix 0)) r21.toInt64) = 0 → (∀ y26 : Int32, y26 = x4 + 6 → (K σ24 y26))) ∧ (¬ (lg_cmp (zJ σ24 1238 (ix 0)) r21.toInt64) = 0 → (Ret 0 σ24))))) ∧ (¬ nI r.1 = 0 → (∀ y25 : Int32, y25 = x4 + 6 → (K σ24 y25)))))) ∧ (¬ r23 = nI r.1 → (Ret 0 σ24))))) r := by
  intro σ2 v g h54 h0 hv
  obtain ⟨iv, ej⟩ := pm_iv hc hm sf hby ro g h54
  exact tl_t hK hr2 iv h0 fun e => by rw [ej, hj e, hv e]
theorem pm_j {k : Nat} {T : Tw} {d : Ad} {w : WV} {u : UV} {σ1 : ZS} (hc : CP T d w u σ1) (hm : MP T w u σ1) (sf : Sf σ1) (hby : ∀ i, i < u.1.1 → BY (u.1.2 i)) (ro : RO (2 * k + 1) σ1) {r : Res} (hr2 : r.1 ≤ 2) (hj : r.1 = 0 → zJ σ1 1238 0 = r.2) {K : ZS → Int32 → Prop} {x4 : Int32} (hK : ∀ σ', Iv k σ' → K σ' (x4 + 6)) {Ret : Int32 → ZS → Prop} : PMJ σ1 (fun r21 σ22 => wp_X4_thrown σ22 (fun r23 σ24 => ((r23 = nI r.1 → (((nI r.1 = 0 → ((((lg_cmp (zJ σ24 1238 (ix 0)) r21) = 0 → (∀ y26 : Int32, y26 = x4 + 6 → (K σ24 y26))) ∧ (¬ (lg_cmp (zJ σ24 1238 (ix 0)) r21) = 0 → (Ret 0 σ24))))) ∧ (¬ nI r.1 = 0 → (∀ y25 : Int32, y25 = x4 + 6 → (K σ24 y25)))))) ∧ (¬ r23 = nI r.1 → (Ret 0 σ24))))) r := by
  intro σ2 v g h54 h0 hv
  obtain ⟨iv, ej⟩ := pm_iv hc hm sf hby ro g h54
  exact tl_t hK hr2 iv h0 fun e => by rw [ej, hj e, hv e]
theorem pm_b {k : Nat} {T : Tw} {d : Ad} {w : WV} {u : UV} {σ1 : ZS} (hc : CP T d w u σ1) (hm : MP T w u σ1) (sf : Sf σ1) (hby : ∀ i, i < u.1.1 → BY (u.1.2 i)) (ro : RO (2 * k + 1) σ1) {r : Nat × Int32} (hr2 : r.1 ≤ 2) (hb : r.1 = 0 → r.2 = 0 ∨ r.2 = 1) (hj : r.1 = 0 → zJ σ1 1238 0 = r.2.toInt64) {K : ZS → Int32 → Prop} {x4 : Int32} (hK : ∀ σ', Iv k σ' → K σ' (x4 + 6)) {Ret : Int32 → ZS → Prop} (V : ZS → Int64 → Int64 → Prop) (hV : ∀ σ' x, Iv k σ' → V σ' x x) : PM σ1 (fun r74 σ75 => wp_X4_thrown σ75 (fun r76 σ77 => ((r76 = nI r.1 → (((nI r.1 = 0 → (((r74 = 0 → (V σ77 0 (zJ σ77 1238 (ix 0)))) ∧ (¬ r74 = 0 → (V σ77 1 (zJ σ77 1238 (ix 0))))))) ∧ (¬ nI r.1 = 0 → (∀ y78 : Int32, y78 = x4 + 6 → (K σ77 y78)))))) ∧ (¬ r76 = nI r.1 → (Ret 0 σ77))))) r := by
  intro σ2 v g h54 h0 hv
  obtain ⟨iv, ej⟩ := pm_iv hc hm sf hby ro g h54
  exact tl_b hK hV hr2 iv h0 (fun e => by rw [hv e]; exact hb e) fun e => by rw [ej, hj e, hv e]
theorem b01_2 (b c : Bool) (z : Bool) : (sp2 b c (b2i z)).1 = 0 → (sp2 b c (b2i z)).2 = 0 ∨ (sp2 b c (b2i z)).2 = 1 := by
  unfold sp2; cases b <;> cases c <;> cases z <;> simp [b2i]
/-! changes -/
theorem SW_M : ∀ c, SW c → noM c := by intro c hc; unfold SW at hc; unfold noM noMT noMH noIm; omega
theorem pw_t {k : Nat} {T : Tw} {d : Ad} {w : WV} {u : UV} {σ : ZS} (hc : CP T d w u σ) (hm : MP T w u σ) (sf : Sf σ) (h54 : zI σ 44 54 = -1) (ro : RO (2 * k + 2) σ) {r : Res} (w' : WV) {F : Int32 → ZS → Prop} (h : ∀ σ1, CP T d w' u σ1 → MP T w u σ1 → Sf σ1 → zI σ1 44 54 = -1 → RO (2 * k + 1) σ1 → (r.1 = 0 → zJ σ1 1238 0 = r.2) → F (nI r.1) σ1) : PW σ F r (CS w'.1 w'.2.1 w'.2.2.1 w'.2.2.2.1 w'.2.2.2.2) := by
  intro σ1 g hs hj
  have hz : 1239 ≤ zt σ := ro.1
  have hzb : zt σ ≤ 160000 := by have := ro.2.2.1; omega
  refine h σ1 ⟨hc.1.gwS ro g fun c hc => ?_, hs, hc.2.2.1.gwS ro.1 g fun c hc => ?_, hc.2.2.2.1.gw ro.1 hzb g fun c hc => ?_, ?_⟩ (hm.gw ro.1 g SW_M) (sf.gwS ro.1 g fun c hc => ?_) (by rw [g.i 44 54 (by omega) (by unfold SW cd; simp)]; exact h54) (ro.gw g (by decide) (by decide)) hj
  · unfold SW at hc; omega
  · unfold SW at hc; omega
  · unfold SW at hc; unfold noI; omega
  · rw [g.i 0 3 (by omega) (by unfold SW cd; simp)]; exact hc.2.2.2.2
  · unfold SW at hc; unfold noSf; omega
theorem px_iv {k : Nat} {T : Tw} {d : Ad} {w w' : WV} {u : UV} {σ1 : ZS} (hc : CP T d w' u σ1) (hm : MP T w u σ1) (sf : Sf σ1) (h54 : zI σ1 44 54 = -1) (hby : ∀ i, i < u.1.1 → BY (u.1.2 i)) (ro : RO (2 * k + 1) σ1) {σ2 : ZS} (f : Fr SX σ1 σ2) (hs : MS w'.1 w'.2.1 w'.2.2.1 w'.2.2.2.1 w'.2.2.2.2 σ2) : Iv k σ2 ∧ zJ σ2 1238 0 = zJ σ1 1238 0 := by
  have g := f.gw
  have hz : 1239 ≤ zt σ1 := ro.1
  refine ⟨⟨T, d, w', u, hc.gw ro g fun c hc => ?_, ⟨hm.1.gw ro.1 g fun c hc => ?_, hs, hm.2.2.1.gwS ro.1 g fun c hc => ?_, hm.2.2.2.1.gw ro.1 g fun c hc => ?_, ?_⟩, sf.gwS ro.1 g fun c hc => ?_, ?_, hby, ro.gw g (by decide) (by decide)⟩, g.j 1238 0 (by omega) (by unfold SX cd; simp)⟩
  · unfold SX at hc; unfold noC; omega
  · unfold SX at hc; unfold noMT; omega
  · unfold SX at hc; omega
  · unfold SX at hc; unfold noIm; omega
  · rw [f.1 44 3 (by unfold SX cd; simp)]; exact hm.2.2.2.2
  · unfold SX at hc; unfold noSf; omega
  · rw [f.1 44 54 (by unfold SX cd; simp)]; exact h54
theorem px_t {k : Nat} {T : Tw} {d : Ad} {w w' : WV} {u : UV} {σ1 : ZS} (hc : CP T d w' u σ1) (hm : MP T w u σ1) (sf : Sf σ1) (h54 : zI σ1 44 54 = -1) (hby : ∀ i, i < u.1.1 → BY (u.1.2 i)) (ro : RO (2 * k + 1) σ1) {r : Nat × Int32} (hr2 : r.1 ≤ 2) (hj : r.1 = 0 → zJ σ1 1238 0 = r.2.toInt64) {K : ZS → Int32 → Prop} {x4 : Int32} (hK : ∀ σ', Iv k σ' → K σ' (x4 + 6)) {Ret : Int32 → ZS → Prop} : PX σ1 (fun r21 σ22 => wp_X4_thrown σ22 (fun r23 σ24 => ((r23 = nI r.1 → (((nI r.1 = 0 → ((((lg_cmp (zJ σ24 1238 (ix 0)) r21.toInt64) = 0 → (∀ y26 : Int32, y26 = x4 + 6 → (K σ24 y26))) ∧ (¬ (lg_cmp (zJ σ24 1238 (ix 0)) r21.toInt64) = 0 → (Ret 0 σ24))))) ∧ (¬ nI r.1 = 0 → (∀ y25 : Int32, y25 = x4 + 6 → (K σ24 y25)))))) ∧ (¬ r23 = nI r.1 → (Ret 0 σ24))))) r (MS w'.1 w'.2.1 w'.2.2.1 w'.2.2.2.1 w'.2.2.2.2) := by
  intro σ2 v f hs h0 hv
  obtain ⟨iv, ej⟩ := px_iv hc hm sf h54 hby ro f hs
  exact tl_t hK hr2 iv h0 fun e => by rw [ej, hj e, hv e]
