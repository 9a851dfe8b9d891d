/-! PURE HALF: calls with an effect of their own. -/
set_option maxRecDepth 100000
theorem eq_t {k : Nat} {K : ZS → Int32 → Prop} {x4 : Int32} (hK : ∀ σ', Iv k σ' → K σ' (x4 + 6)) {Ret : Int32 → ZS → Prop} {r : Int32} {σ2 : ZS} (iv : Iv k σ2) : ((r = r → (∀ y16 : Int32, y16 = x4 + 6 → (K σ2 y16))) ∧ (¬ r = r → (Ret 0 σ2))) := br_t rfl (nm_e (hK _ iv))
theorem BY_fd {tp : Nat} {tb : Nat → Int32} (h : ∀ i, i < tp → BY (tb i)) (a b c d e : Int32) : ∀ i, i < fdN tp → BY (fdT tp tb (fdB a b c d e) i) := by
  intro i hi
  unfold fdN at hi; unfold fdT
  by_cases k : 480 < tp
  · rw [if_pos k] at hi ⊢; exact h i hi
  · rw [if_neg k] at hi ⊢
    unfold exN
    by_cases k2 : tp ≤ i ∧ i < tp + 20
    · rw [if_pos k2]; exact BY_of _
    · rw [if_neg k2]; exact h i (by omega)
theorem o_feed {k : Nat} {σ : ZS} (h : Iv (k + 1) σ) {K : ZS → Int32 → Prop} {x4 : Int32} (hK : ∀ σ', Iv k σ' → K σ' (x4 + 6)) {Ret : Int32 → ZS → Prop} {V1 V2 V3 V4 V5 : Prop} (hv1 : V1) (hv2 : V2) (hv3 : V3) (hv4 : V4) (hv5 : V5) {a b c d e : Int32} : wp_X1_feed σ a b c d e (fun r7 σ8 => V1 ∧ (V2 ∧ (V3 ∧ (V4 ∧ (V5 ∧ (wp_X4_feed σ8 a b c d e (fun r14 σ15 => ((r7 = r14 → (∀ y16 : Int32, y16 = x4 + 6 → (K σ15 y16))) ∧ (¬ r7 = r14 → (Ret 0 σ15)))))))))) := by
  obtain ⟨T, ad, w, u, hc, hm, sf, h54, hby, ro⟩ := h
  refine C_feed hc.2.2.1 fun σ1 f tc => ⟨hv1, hv2, hv3, hv4, hv5, ?_⟩
  have g := f.gw
  have hz : 1239 ≤ zt σ := ro.1
  have hzb : zt σ ≤ 160000 := by have := ro.2.2.1; omega
  have ro1 : RO (2 * k + 1) σ1 := RO.gw (j := 2 * k + 1) ro g (by decide) (by decide)
  have hm1 := hm.gw ro.1 g (fun c hc => by unfold SP at hc; unfold noM noMT noMH noIm; omega)
  have hc1 : CP T ad w ((fdN u.1.1, fdT u.1.1 u.1.2 (fdB a b c d e)), u.2) σ1 := ⟨hc.1.gwS ro g fun c hc => by unfold SP at hc; omega, ⟨hc.2.1.1.gwS ro.1 g fun c hc => by unfold SP at hc; omega, hc.2.1.2.gwS ro.1 g fun c hc => by unfold SP at hc; omega⟩, tc, hc.2.2.2.1.gw ro.1 hzb g fun c hc => by unfold SP at hc; unfold noI; omega, by rw [f.1 0 3 (by unfold SP cd; simp)]; exact hc.2.2.2.2⟩
  have sf1 := sf.gwS ro.1 g fun c hc => by unfold SP at hc; unfold noSf; omega
  have h541 : zI σ1 44 54 = -1 := by rw [f.1 44 54 (by unfold SP cd; simp)]; exact h54
  refine M_feed hm1.2.2.1 fun σ2 f2 tm => eq_t hK ?_
  have g2 := f2.gw
  refine ⟨T, ad, w, ((fdN u.1.1, fdT u.1.1 u.1.2 (fdB a b c d e)), u.2), hc1.gw ro1 g2 fun c hc => by unfold SPM at hc; unfold noC; omega, ⟨hm1.1.gw ro1.1 g2 fun c hc => by unfold SPM at hc; unfold noMT; omega, ⟨hm1.2.1.1.gw ro1.1 g2 fun c hc => by unfold SPM at hc; unfold noMH; omega, hm1.2.1.2.gwS ro1.1 g2 fun c hc => by unfold SPM at hc; omega⟩, tm, hm1.2.2.2.1.gw ro1.1 g2 fun c hc => by unfold SPM at hc; unfold noIm; omega, by rw [f2.1 44 3 (by unfold SPM cd; simp)]; exact hm1.2.2.2.2⟩, sf1.gwS ro1.1 g2 fun c hc => by unfold SPM at hc; unfold noSf; omega, by rw [f2.1 44 54 (by unfold SPM cd; simp)]; exact h541, BY_fd hby a b c d e, RO.gw (j := 2 * k) ro1 g2 (by decide) (by decide)⟩
/-- only the model's throw cell is written -/
theorem iv_0 {k : Nat} {σ σ' : ZS} (h : Iv (k + 1) σ) (f : Fr (fun c => c = 1000000) σ σ') : Iv k σ' := by
  obtain ⟨T, ad, w, u, hc, hm, sf, h54, hby, ro⟩ := h
  have g := f.gw
  obtain ⟨r1, r2, r3, r4⟩ := RO.gw (j := 2 * k + 1) ro g (by decide) (by decide)
  exact ⟨T, ad, w, u, hc.gw ro g fun c hc => by unfold noC; omega, hm.gw ro.1 g fun c hc => by unfold noM noMT noMH noIm; omega, sf.gwS ro.1 g fun c hc => by unfold noSf; omega, by rw [f.1 44 54 (by unfold cd; simp)]; exact h54, hby, r1, r2, by omega, by omega⟩
theorem o_fault {k : Nat} {σ : ZS} (h : Iv (k + 1) σ) {K : ZS → Int32 → Prop} {x4 : Int32} (hK : ∀ σ', Iv k σ' → K σ' (x4 + 6)) {Ret : Int32 → ZS → Prop} : wp_X1_fault σ (fun r27 σ28 => wp_X4_fault σ28 (fun r29 σ30 => ((r27 = r29 → (∀ y31 : Int32, y31 = x4 + 6 → (K σ30 y31))) ∧ (¬ r27 = r29 → (Ret 0 σ30))))) := by
  have h' := h
  obtain ⟨T, ad, w, u, hc, hm, sf, h54, hby, ro⟩ := h
  unfold wp_X1_fault wp_X4_fault
  refine nm_e ?_
  rw [zI_ne _ (.inr (by decide)), hc.2.2.2.2, hm.2.2.2.2]
  exact eq_t hK (iv_0 h' (Fr.rfl.sI 44 0 0 rfl))
theorem o_left {k : Nat} {σ : ZS} (h : Iv (k + 1) σ) {K : ZS → Int32 → Prop} {x4 : Int32} (hK : ∀ σ', Iv k σ' → K σ' (x4 + 6)) {Ret : Int32 → ZS → Prop} {V : Prop} (hv : V) {x : Int32} : wp_X1_left σ x (fun r233 σ234 => V ∧ (wp_X4_left σ234 x (fun r236 σ237 => ((r233 = r236 → (∀ y238 : Int32, y238 = x4 + 6 → (K σ237 y238))) ∧ (¬ r233 = r236 → (Ret 0 σ237)))))) := by
  have h' := h
  obtain ⟨T, ad, w, u, hc, hm, sf, h54, hby, ro⟩ := h
  refine C_left hc.1 ⟨hv, M_left (hm.1.fr (Fr.rfl.sI 44 0 0 rfl : Fr (fun c => c = 1000000) σ _) (by intro c hc; unfold noMT; omega)) (eq_t hK (iv_0 h' (Fr.rfl.sI 44 0 0 rfl)))⟩
theorem o_count {k : Nat} {σ : ZS} (h : Iv (k + 1) σ) {K : ZS → Int32 → Prop} {x4 : Int32} (hK : ∀ σ', Iv k σ' → K σ' (x4 + 6)) {Ret : Int32 → ZS → Prop} {V : Prop} (hv : V) {x : Int32} : wp_X1_count σ x (fun r437 σ438 => V ∧ (wp_X4_count σ438 x (fun r440 σ441 => ((r437 = r440 → (∀ y442 : Int32, y442 = x4 + 6 → (K σ441 y442))) ∧ (¬ r437 = r440 → (Ret 0 σ441)))))) := by
  have h' := h
  obtain ⟨T, ad, w, u, hc, hm, sf, h54, hby, ro⟩ := h
  exact C_count hc.2.1.2.2.1 hc.2.2.2.1.2.1 hc.2.2.1.2.1 ⟨hv, M_count hm.2.1.2.2.1 hm.2.2.2.1.2.1 hm.2.2.1.2.1 fun σ2 f => eq_t hK (iv_0 h' f)⟩
theorem o_forget {k : Nat} {σ : ZS} (h : Iv (k + 1) σ) {K : ZS → Int32 → Prop} {x4 : Int32} (hK : ∀ σ', Iv k σ' → K σ' (x4 + 6)) {Ret : Int32 → ZS → Prop} : wp_X1_forget σ (fun r349 σ350 => wp_X4_forget σ350 (fun r351 σ352 => ((r349 = r351 → (∀ y353 : Int32, y353 = x4 + 6 → (K σ352 y353))) ∧ (¬ r349 = r351 → (Ret 0 σ352))))) := by
  obtain ⟨T, ad, w, u, hc, hm, sf, h54, hby, ro⟩ := h
  refine C_forget hc.2.1 fun σ1 f hs => ?_
  have g := f.gw
  have pw := pw_t (k := k) hc hm sf h54 ro (r := (0, zJ σ1 1238 0)) (w.1, w.2.1, w.2.2.1, 0, w.2.2.2.2) (F := fun _ s => s = σ1 → wp_X4_forget s (fun r351 σ352 => ((nI w.2.2.2.1 = r351 → (∀ y353 : Int32, y353 = x4 + 6 → (K σ352 y353))) ∧ (¬ nI w.2.2.2.1 = r351 → (Ret 0 σ352))))) (fun s hc1 hm1 sf1 h541 ro1 _ _ => M_forget hm1.2.1 fun σ2 f2 hs2 => eq_t hK (px_iv (w' := (w.1, w.2.1, w.2.2.1, 0, w.2.2.2.2)) hc1 hm1 sf1 h541 hby ro1 f2 hs2).1)
  exact pw σ1 (g.mono (fun _ k => k) (by omega) (by omega)) hs (fun _ => rfl) rfl
