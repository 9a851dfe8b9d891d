/-! PURE HALF: the law's loop. -/
set_option maxRecDepth 100000
theorem o_tell {k : Nat} {σ : ZS} (h : Iv (k + 1) σ) {K : ZS → Int32 → Prop} {x4 : Int32} (hK : ∀ σ', Iv k σ' → K σ' (x4 + 6)) {Ret : Int32 → ZS → Prop} {V1 : Prop} (hv1 : V1) {a : Int32} : wp_X0_tell σ a (fun r18 σ19 => V1 ∧ (wp_X4_tell σ19 a (fun r21 σ22 => wp_X4_thrown σ22 (fun r23 σ24 => ((r23 = r18 → (((r18 = 0 → ((((lg_cmp (zJ σ24 1238 (ix 0)) r21.toInt64) = 0 → (∀ y26 : Int32, y26 = x4 + 6 → (K σ24 y26))) ∧ (¬ (lg_cmp (zJ σ24 1238 (ix 0)) r21.toInt64) = 0 → (Ret 0 σ24))))) ∧ (¬ r18 = 0 → (∀ y25 : Int32, y25 = x4 + 6 → (K σ24 y25)))))) ∧ (¬ r23 = r18 → (Ret 0 σ24))))))) := by
  obtain ⟨T, ad, w, u, hc, hm, sf, h54, hby, ro⟩ := h
  exact C_tell hc.1 ro.rm hc.2.1 (pw_t hc hm sf h54 ro (w.1, w.2.1, w.2.2.1, tlN T w.2.2.2.1 a, tlD w.2.2.2.1 w.2.2.2.2 a) fun σ1 hc1 hm1 sf1 h541 ro1 hj => ⟨hv1, M_tell hm1.1 hm1.2.1 (px_t (w' := (w.1, w.2.1, w.2.2.1, tlN T w.2.2.2.1 a, tlD w.2.2.2.1 w.2.2.2.2 a)) hc1 hm1 sf1 h541 hby ro1 (le1 _ _) hj hK)⟩)
theorem o_back {k : Nat} {σ : ZS} (h : Iv (k + 1) σ) {K : ZS → Int32 → Prop} {x4 : Int32} (hK : ∀ σ', Iv k σ' → K σ' (x4 + 6)) {Ret : Int32 → ZS → Prop} {V1 : Prop} (hv1 : V1) {a : Int32} : wp_X0_back σ a (fun r18 σ19 => V1 ∧ (wp_X4_back σ19 a (fun r21 σ22 => wp_X4_thrown σ22 (fun r23 σ24 => ((r23 = r18 → (((r18 = 0 → ((((lg_cmp (zJ σ24 1238 (ix 0)) r21.toInt64) = 0 → (∀ y26 : Int32, y26 = x4 + 6 → (K σ24 y26))) ∧ (¬ (lg_cmp (zJ σ24 1238 (ix 0)) r21.toInt64) = 0 → (Ret 0 σ24))))) ∧ (¬ r18 = 0 → (∀ y25 : Int32, y25 = x4 + 6 → (K σ24 y25)))))) ∧ (¬ r23 = r18 → (Ret 0 σ24))))))) := by
  obtain ⟨T, ad, w, u, hc, hm, sf, h54, hby, ro⟩ := h
  exact C_back ro.rm hc.2.1 (pw_t hc hm sf h54 ro (nxT w.1 (chB w.1 a), up1 w.2.1 (w.1 + 1) (w.2.1 (ix a)), up1 w.2.2.1 (w.1 + 1) (w.2.2.1 (ix a)), w.2.2.2.1, w.2.2.2.2) fun σ1 hc1 hm1 sf1 h541 ro1 hj => ⟨hv1, M_back hm1.1 hm1.2.1 (px_t (w' := (nxT w.1 (chB w.1 a), up1 w.2.1 (w.1 + 1) (w.2.1 (ix a)), up1 w.2.2.1 (w.1 + 1) (w.2.2.1 (ix a)), w.2.2.2.1, w.2.2.2.2)) hc1 hm1 sf1 h541 hby ro1 (le1 _ _) hj hK)⟩)
theorem o_sign {k : Nat} {σ : ZS} (h : Iv (k + 1) σ) {K : ZS → Int32 → Prop} {x4 : Int32} (hK : ∀ σ', Iv k σ' → K σ' (x4 + 6)) {Ret : Int32 → ZS → Prop} {V1 V2 V3 : Prop} (hv1 : V1) (hv2 : V2) (hv3 : V3) {a b x : Int32} {is : Bool} (hx : x = 0 ↔ is = false) {w0 : List Int32} : wp_X0_sign σ a b (b2i is) (fun r83 σ84 => V1 ∧ (V2 ∧ (V3 ∧ (((x = 0 → (V_X0_law_693 K w0 Ret σ84 x4 r83 0 b a)) ∧ (¬ x = 0 → (V_X0_law_693 K w0 Ret σ84 x4 r83 1 b a))))))) := by
  obtain ⟨T, ad, w, u, hc, hm, sf, h54, hby, ro⟩ := h
  refine C_sign hc.1 ro.rm hc.2.1 (pw_t hc hm sf h54 ro (nxT w.1 (chD T w.1 w.2.1 a b is), up1 w.2.1 (w.1 + 1) (flR (w.2.1 w.1) (ix a) (ix b)), up1 w.2.2.1 (w.1 + 1) (w.2.2.1 w.1), w.2.2.2.1, w.2.2.2.2) fun σ1 hc1 hm1 sf1 h541 ro1 hj => ⟨hv1, hv2, hv3, ?_⟩)
  have m := M_sign (is := is) hm1.1 hm1.2.1 (px_t (w' := (nxT w.1 (chD T w.1 w.2.1 a b is), up1 w.2.1 (w.1 + 1) (flR (w.2.1 w.1) (ix a) (ix b)), up1 w.2.2.1 (w.1 + 1) (w.2.2.1 w.1), w.2.2.2.1, w.2.2.2.2)) (K := K) (x4 := x4) (Ret := Ret) hc1 hm1 sf1 h541 hby ro1 (le2 _ _ _) hj hK)
  unfold V_X0_law_693
  cases is with
  | false => exact br_t (hx.mpr rfl) m
  | true => exact br_f (fun e => by cases hx.mp e) m
theorem o_allow {k : Nat} {σ : ZS} (h : Iv (k + 1) σ) {K : ZS → Int32 → Prop} {x4 : Int32} (hK : ∀ σ', Iv k σ' → K σ' (x4 + 6)) {Ret : Int32 → ZS → Prop} {V1 V2 V3 : Prop} (hv1 : V1) (hv2 : V2) (hv3 : V3) {a b x : Int32} {is : Bool} (hx : x = 0 ↔ is = false) {w0 : List Int32} : wp_X0_allow σ a b (b2i is) (fun r83 σ84 => V1 ∧ (V2 ∧ (V3 ∧ (((x = 0 → (V_X0_law_789 K w0 Ret σ84 x4 r83 0 b a)) ∧ (¬ x = 0 → (V_X0_law_789 K w0 Ret σ84 x4 r83 1 b a))))))) := by
  obtain ⟨T, ad, w, u, hc, hm, sf, h54, hby, ro⟩ := h
  refine C_allow hc.1 ro.rm hc.2.1 (pw_t hc hm sf h54 ro (nxT w.1 (chD T w.1 w.2.2.1 a b is), up1 w.2.1 (w.1 + 1) (w.2.1 w.1), up1 w.2.2.1 (w.1 + 1) (flR (w.2.2.1 w.1) (ix a) (ix b)), w.2.2.2.1, w.2.2.2.2) fun σ1 hc1 hm1 sf1 h541 ro1 hj => ⟨hv1, hv2, hv3, ?_⟩)
  have m := M_allow (is := is) hm1.1 hm1.2.1 (px_t (w' := (nxT w.1 (chD T w.1 w.2.2.1 a b is), up1 w.2.1 (w.1 + 1) (w.2.1 w.1), up1 w.2.2.1 (w.1 + 1) (flR (w.2.2.1 w.1) (ix a) (ix b)), w.2.2.2.1, w.2.2.2.2)) (K := K) (x4 := x4) (Ret := Ret) hc1 hm1 sf1 h541 hby ro1 (le2 _ _ _) hj hK)
  unfold V_X0_law_789
  cases is with
  | false => exact br_t (hx.mpr rfl) m
  | true => exact br_f (fun e => by cases hx.mp e) m
theorem o_since {k : Nat} {σ : ZS} (h : Iv (k + 1) σ) {K : ZS → Int32 → Prop} {x4 : Int32} (hK : ∀ σ', Iv k σ' → K σ' (x4 + 6)) {Ret : Int32 → ZS → Prop} {V1 V2 V3 V4 : Prop} (hv1 : V1) (hv2 : V2) (hv3 : V3) (hv4 : V4) {a b c x : Int32} {is : Bool} (hx : x = 0 ↔ is = false) {w0 : List Int32} : wp_X0_since σ a b c (b2i is) (fun r83 σ84 => V1 ∧ (V2 ∧ (V3 ∧ (V4 ∧ (((x = 0 → (V_X0_law_1527 K w0 Ret σ84 x4 r83 0 c b a)) ∧ (¬ x = 0 → (V_X0_law_1527 K w0 Ret σ84 x4 r83 1 c b a)))))))) := by
  obtain ⟨T, ad, w, u, hc, hm, sf, h54, hby, ro⟩ := h
  refine C_since ⟨hc.1, hc.2.1.1, sf, ro.rm⟩ (pc_t hc hm h54 ro fun σ1 hc1 hm1 sf1 h541 ro1 hj => ⟨hv1, hv2, hv3, hv4, ?_⟩)
  have m := M_since (is := is) ⟨hm1.1, hm1.2.1.1⟩ h541 (pm_t (K := K) (x4 := x4) (Ret := Ret) hc1 hm1 sf1 hby ro1 (le2 _ _ _) hj hK)
  unfold V_X0_law_1527
  cases is with
  | false => exact br_t (hx.mpr rfl) m
  | true => exact br_f (fun e => by cases hx.mp e) m
theorem iv_w {k : Nat} {σ : ZS} (h : Iv (k + 1) σ) : Iv k σ := by
  obtain ⟨T, ad, w, u, hc, hm, sf, h54, hby, r1, r2, r3, r4⟩ := h
  exact ⟨T, ad, w, u, hc, hm, sf, h54, hby, r1, r2, by omega, by omega⟩
theorem law_loop {w0 : List Int32} {Ret : Int32 → ZS → Prop} (hL : w0.length < 100000) (hr : ∀ σ, Ret 1 σ) : ∀ n i σ, w0.length / 6 - i < n → 6 * i ≤ w0.length → Iv (w0.length / 6 - i) σ → VL_X0_law_23 w0 Ret n σ (nI (6 * i)) := by
  intro n
  induction n with
  | zero => intro i σ h; omega
  | succ n ih =>
    intro i σ hn hi iv
    have en : ((Int32.ofNat w0.length - 6 < nI (6 * i)) = (w0.length < 6 * i + 6)) := by
      show (nI w0.length - 6 < nI (6 * i)) = _
      rcases Nat.lt_or_ge w0.length 6 with l | l
      · have : i = 0 := by omega
        subst this
        have h6 : w0.length = 0 ∨ w0.length = 1 ∨ w0.length = 2 ∨ w0.length = 3 ∨ w0.length = 4 ∨ w0.length = 5 := by omega
        rcases h6 with e | e | e | e | e | e <;> rw [e] <;> decide
      · rw [show (6 : Int32) = nI 6 from rfl, pk_sub l, nI_ltI (by omega) (by omega)]
        apply propext; omega
    rw [VL_X0_law_23]
    dsimp only
    rw [en]
    refine ⟨fun _ => hr σ, fun hlt => ?_⟩
    have h6 : 6 * i + 6 ≤ w0.length := by omega
    have hK : ∀ σ', Iv (w0.length / 6 - (i + 1)) σ' → VL_X0_law_23 w0 Ret n σ' (nI (6 * i) + 6) := fun σ' iv' => by
      rw [show (6 : Int32) = nI 6 from rfl, nI_add, show 6 * i + 6 = 6 * (i + 1) by omega]
      exact ih (i + 1) σ' (by omega) (by omega) iv'
    rw [show w0.length / 6 - i = w0.length / 6 - (i + 1) + 1 by omega] at iv
    have v0 : vp_in (nI (6 * i)) w0.length := vin (by omega) (by omega)
    have v1 : vp_in (nI (6 * i) + 1) w0.length := vpj (j := 1) h6 (by decide) hL
    have v2 : vp_in (nI (6 * i) + 2) w0.length := vpj (j := 2) h6 (by decide) hL
    have v3 : vp_in (nI (6 * i) + 3) w0.length := vpj (j := 3) h6 (by decide) hL
    have v4 : vp_in (nI (6 * i) + 4) w0.length := vpj (j := 4) h6 (by decide) hL
    have v5 : vp_in (nI (6 * i) + 5) w0.length := vpj (j := 5) h6 (by decide) hL
    clear en hn hi
    generalize nI (6 * i) = x4 at *
    generalize w0.length / 6 - (i + 1) = k at *
    refine ⟨v0, ?_⟩
    refine ⟨fun _ => ?_, fun _ => ?_⟩
    · exact ⟨v1, v2, v3, v4, v5, o_feed iv hK v1 v2 v3 v4 v5⟩
    refine ⟨fun _ => ?_, fun _ => ?_⟩
    · exact ⟨v1, o_town iv hK v1⟩
    refine ⟨fun _ => ?_, fun _ => ?_⟩
    · exact o_fault iv hK
    refine ⟨fun _ => ?_, fun _ => ?_⟩
    · exact ⟨v1, o_told iv hK v1⟩
    refine ⟨fun _ => ?_, fun _ => ?_⟩
    · exact ⟨v1, v2, o_street iv hK v1 v2⟩
    refine ⟨fun _ => ?_, fun _ => ?_⟩
    · exact ⟨v1, v2, o_turn iv hK v1 v2⟩
    refine ⟨fun _ => ?_, fun _ => ?_⟩
    · exact ⟨v1, v2, v3, o_may iv hK v1 v2 v3⟩
    refine ⟨fun _ => ?_, fun _ => ?_⟩
    · refine ⟨v1, v2, v3, fun e => ?_, fun e => ?_⟩
      · unfold V_X0_law_660; exact o_sign (is := false) iv hK v1 v2 v3 ⟨fun _ => rfl, fun _ => e⟩
      · unfold V_X0_law_660; exact o_sign (is := true) iv hK v1 v2 v3 ⟨fun h => absurd h e, fun h => by cases h⟩
    refine ⟨fun _ => ?_, fun _ => ?_⟩
    · refine ⟨v1, v2, v3, fun e => ?_, fun e => ?_⟩
      · unfold V_X0_law_756; exact o_allow (is := false) iv hK v1 v2 v3 ⟨fun _ => rfl, fun _ => e⟩
      · unfold V_X0_law_756; exact o_allow (is := true) iv hK v1 v2 v3 ⟨fun h => absurd h e, fun h => by cases h⟩
    refine ⟨fun _ => ?_, fun _ => ?_⟩
    · exact ⟨v1, o_back iv hK v1⟩
    refine ⟨fun _ => ?_, fun _ => ?_⟩
    · exact ⟨v1, v2, v3, v4, o_stands iv hK v1 v2 v3 v4⟩
    refine ⟨fun _ => ?_, fun _ => ?_⟩
    · exact ⟨v1, v2, v3, o_ride iv hK v1 v2 v3⟩
    refine ⟨fun _ => ?_, fun _ => ?_⟩
    · exact ⟨v1, v2, v3, v4, o_step iv hK v1 v2 v3 v4⟩
    refine ⟨fun _ => ?_, fun _ => ?_⟩
    · exact ⟨v1, v2, v3, o_reach iv hK v1 v2 v3⟩
    refine ⟨fun _ => ?_, fun _ => ?_⟩
    · exact ⟨v1, v2, o_parts iv hK v1 v2⟩
    refine ⟨fun _ => ?_, fun _ => ?_⟩
    · exact ⟨v1, v2, v3, o_together iv hK v1 v2 v3⟩
    refine ⟨fun _ => ?_, fun _ => ?_⟩
    · exact ⟨v1, v2, o_open iv hK v1 v2⟩
    refine ⟨fun _ => ?_, fun _ => ?_⟩
    · refine ⟨v1, v2, v3, v4, fun e => ?_, fun e => ?_⟩
      · unfold V_X0_law_1488; exact o_since (is := false) iv hK v1 v2 v3 v4 ⟨fun _ => rfl, fun _ => e⟩
      · unfold V_X0_law_1488; exact o_since (is := true) iv hK v1 v2 v3 v4 ⟨fun h => absurd h e, fun h => by cases h⟩
    refine ⟨fun _ => ?_, fun _ => ?_⟩
    · exact ⟨v1, o_left iv hK v1⟩
    refine ⟨fun _ => ?_, fun _ => ?_⟩
    · exact ⟨v1, o_candidates iv hK v1⟩
    refine ⟨fun _ => ?_, fun _ => ?_⟩
    · exact ⟨v1, v2, o_fewest iv hK v1 v2⟩
    refine ⟨fun _ => ?_, fun _ => ?_⟩
    · exact ⟨v1, v2, o_cheapest iv hK v1 v2⟩
    refine ⟨fun _ => ?_, fun _ => ?_⟩
    · exact ⟨v1, v2, o_exchange iv hK v1 v2⟩
    refine ⟨fun _ => ?_, fun _ => ?_⟩
    · exact ⟨v1, v2, o_round iv hK v1 v2⟩
    refine ⟨fun _ => ?_, fun _ => ?_⟩
    · exact ⟨v1, v2, o_bound iv hK v1 v2⟩
    refine ⟨fun _ => ?_, fun _ => ?_⟩
    · exact ⟨v1, o_home iv hK v1⟩
    refine ⟨fun _ => ?_, fun _ => ?_⟩
    · exact ⟨v1, o_traffic iv hK v1⟩
    refine ⟨fun _ => ?_, fun _ => ?_⟩
    · exact ⟨v1, o_counts iv hK v1⟩
    refine ⟨fun _ => ?_, fun _ => ?_⟩
    · exact ⟨v1, o_tell iv hK v1⟩
    refine ⟨fun _ => ?_, fun _ => ?_⟩
    · exact o_forget iv hK
    refine ⟨fun _ => ?_, fun _ => ?_⟩
    · exact ⟨v1, v2, o_breaks iv hK v1 v2⟩
    refine ⟨fun _ => ?_, fun _ => ?_⟩
    · exact ⟨v1, o_cut iv hK v1⟩
    refine ⟨fun _ => ?_, fun _ => ?_⟩
    · exact ⟨v1, v2, o_sure iv hK v1 v2⟩
    refine ⟨fun _ => ?_, fun _ => ?_⟩
    · exact ⟨v1, v2, v3, o_detour iv hK v1 v2 v3⟩
    refine ⟨fun _ => ?_, fun _ => ?_⟩
    · exact ⟨v1, v2, o_gain iv hK v1 v2⟩
    refine ⟨fun _ => ?_, fun _ => ?_⟩
    · exact ⟨v1, v2, o_baker iv hK v1 v2⟩
    refine ⟨fun _ => ?_, fun _ => ?_⟩
    · exact o_image iv hK
    refine ⟨fun _ => ?_, fun _ => ?_⟩
    · exact o_restore iv hK
    refine ⟨fun _ => ?_, fun _ => ?_⟩
    · exact ⟨v1, o_count iv hK v1⟩
    exact nm_e (hK σ (iv_w iv))
