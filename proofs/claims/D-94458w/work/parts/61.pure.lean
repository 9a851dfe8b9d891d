/-! PURE HALF: questions I: turn, may, ride, step. -/
set_option maxRecDepth 100000
def z0 : Nat → Int32 := fun _ => 0
/-- the class, nothing tried -/
abbrev CQ (T : Tw) (d : Ad) (tm : Nat) (sg al : Nat → Nat → Int32) (σ : ZS) : Prop := CT T d σ ∧ CH tm sg al σ ∧ Sf σ ∧ Rm σ
def ev0 (T : Tw) (d : Ad) (tm : Nat) (sg al : Nat → Nat → Int32) : Ev := Ev.mk T d tm sg al false (fun _ => 0) (fun _ => 0)
theorem CQ.ce {T : Tw} {d : Ad} {tm : Nat} {sg al : Nat → Nat → Int32} {σ : ZS} (h : CQ T d tm sg al σ) : CE (ev0 T d tm sg al) σ := ⟨h.1, h.2.1, h.2.2.1.ov⟩
/-- the rule at a time -/
def GT (T : Tw) (sg al : Nat → Nat → Int32) (t : Nat) : Nat → Nat → Bool := mayN T (sg t) (al t)
theorem ev0_G (T : Tw) (d : Ad) (tm : Nat) (sg al : Nat → Nat → Int32) (t : Nat) : (ev0 T d tm sg al).G t = GT T sg al t := by
  funext a b
  show mayC T false (sg t) (al t) (fun _ => 0) (fun _ => 0) a b = mayN T (sg t) (al t) a b
  exact may_eq (by simp [bt_0])
theorem PC.ok {σ : ZS} {Ret : Int32 → ZS → Prop} {r : Res} (hr : PC σ Ret r) (e : r.1 = 0) (hf : Sf σ) {S : Nat → Prop} {σ' : ZS} (f : Fr S σ σ') (hS : ∀ c, S c → (20 ≤ c ∧ c < 44) ∨ c = 2000017 ∨ c = 2000030 ∨ c = 2000031 ∨ c = 2000037 ∨ c = 2000038) {v : Int64} (ev : v = r.2) : ∀ σ6 : ZS, σ6 = sJ σ' 1238 (ix 0) v → Ret 0 σ6 :=
  hr.ret e (f.mono fun c k => by have := hS c k; unfold SQ; omega) (hf.fr f fun c k => by have := hS c k; omega) ev
theorem PM.thr {σ : ZS} {Ret : Int32 → ZS → Prop} {r : Nat × Int32} (hr : PM σ Ret r) {c : Nat} (e : r.1 = c) (hc : c ≠ 0) (hb : zI σ 44 54 = -1) : Ret 0 (sI (sI σ 44 0 0) 44 0 (nI c)) := by
  have f : Fr SM σ (sI (sI σ 44 0 0) 44 0 (nI c)) := (Fr.rfl.sI 44 0 0 (by unfold SM cd; simp)).sI 44 0 (nI c) (by unfold SM cd; simp)
  refine hr _ 0 (f.gw.mono (fun _ k => k) (by omega) (by omega)) ?_ ?_ (fun k => absurd (e ▸ k) hc)
  · rw [zI_ne _ (.inr (by decide)), zI_ne _ (.inr (by decide))]; exact hb
  · rw [zI_self, e]
theorem PM.ok {σ : ZS} {Ret : Int32 → ZS → Prop} {r : Nat × Int32} (hr : PM σ Ret r) (e : r.1 = 0) (hb : zI σ 44 54 = -1) {S : Nat → Prop} {σ' : ZS} (f : Fr S (sI σ 44 0 0) σ') (hS : ∀ c, S c → SM c ∧ c ≠ 1000000 ∧ c ≠ 1000054) {v : Int32} (ev : v = r.2) : Ret v σ' := by
  have f0 : Fr SM σ (sI σ 44 0 0) := Fr.rfl.sI 44 0 0 (by unfold SM cd; simp)
  refine hr σ' v ((f0.trans (f.mono fun c k => (hS c k).1)).gw.mono (fun _ k => k) (by omega) (by omega)) ?_ ?_ (fun _ => ev)
  · rw [f.1 44 54 fun k => (hS _ k).2.2 rfl, zI_ne _ (.inr (by decide))]; exact hb
  · rw [f.1 44 0 fun k => (hS _ k).2.1 rfl, zI_self, e]; rfl
/-- a result of ints as one of longs -/
def wd (r : Nat × Int32) : Res := (r.1, r.2.toInt64)
theorem th1 {A B : Prop} {σ : ZS} {x k : Nat} (hk : kK NS σ x = (k + 7, 0)) (h : A) : ((∃ y, kK NS σ x = (k + 7, y)) ∧ A) ∨ B := .inl ⟨⟨0, hk⟩, h⟩
theorem th2 {A B : Prop} {σ : ZS} {x k : Nat} (hk : kK NS σ x = (k + 7, 0)) (h : A) : B ∨ ((∃ y, kK NS σ x = (k + 7, y)) ∧ A) := .inr ⟨⟨0, hk⟩, h⟩
/-- guards of the model, two tests and a time -/
def sp2 (b1 b2 : Bool) (v : Int32) : Nat × Int32 := if b1 then (if b2 then (0, v) else (2, 0)) else (1, 0)
theorem sp2_1 {b2 : Bool} {v : Int32} {b1 : Bool} (h : b1 = false) : (sp2 b1 b2 v).1 = 1 := by unfold sp2; rw [h]; rfl
theorem sp2_2 {b2 : Bool} {v : Int32} {b1 : Bool} (h : b1 = true) (h2 : b2 = false) : (sp2 b1 b2 v).1 = 2 := by unfold sp2; rw [h, h2]; rfl
theorem sp2_0 {b2 : Bool} {v : Int32} {b1 : Bool} (h : b1 = true) (h2 : b2 = true) : sp2 b1 b2 v = (0, v) := by unfold sp2; rw [h, h2]; rfl
/-! turn -/
def spTurn (T : Tw) (a b : Int32) : Nat × Int32 := if T.isArcI a && T.isArcI b then (0, T.turn (ix a) (ix b)) else (1, 0)
theorem isArcI_N {T : Tw} {x : Int32} (h : T.isArcI x = true) : ∃ a, x = nI a ∧ a < 2 * T.ns ∧ T.isArc a = true ∧ ix x = a := by
  unfold Tw.isArcI at h
  simp only [Bool.and_eq_true] at h
  obtain ⟨j, hj, e, hj2⟩ := inN_t h.1
  refine ⟨j, e, hj, ?_, ?_⟩
  · rw [e, ix_nI hj2] at h; exact h.2
  · rw [e, ix_nI hj2]
theorem inN_N {x : Int32} {n : Nat} (h : inN x n = true) : ∃ a, x = nI a ∧ a < n ∧ ix x = a ∧ a < 2 ^ 31 := by
  obtain ⟨j, hj, e, hj2⟩ := inN_t h
  exact ⟨j, e, hj, by rw [e, ix_nI hj2], hj2⟩
theorem C_turn {T : Tw} {d : Ad} {tm : Nat} {sg al : Nat → Nat → Int32} {σ : ZS} (h : CQ T d tm sg al σ) {a b : Int32} {Ret : Int32 → ZS → Prop} (hr : PC σ Ret (wd (spTurn T a b))) : wp_X0_turn σ a b Ret := by
  unfold wp_X0_turn wp_X1_turn
  obtain ⟨ct, ch, sf, rm⟩ := h
  refine c_needArc ct rm (fun h1 => c_needArc ct rm (fun h2 => ?_) (fun h2 σ' g k => ⟨⟨0, k⟩, hr.thr (c := 1) ?_ (by decide) rm.1 sf g⟩)) (fun h1 σ' g k => ⟨⟨0, k⟩, hr.thr (c := 1) ?_ (by decide) rm.1 sf g⟩)
  · obtain ⟨x, rfl, hx, -, ex⟩ := isArcI_N h1
    obtain ⟨y, rfl, hy, -, ey⟩ := isArcI_N h2
    rw [ct.pt, zo_in]
    refine ⟨rfl, ct.kt, c_turn ct hx hy (hr.ok (by unfold wd spTurn; rw [h1, h2]; rfl) sf (Fr.rfl (S := fun _ => False)) (fun _ k => k.elim) ?_)⟩
    unfold wd spTurn; rw [h1, h2, ex, ey]; rfl
  · unfold wd spTurn; rw [h1, h2]; rfl
  · unfold wd spTurn; rw [h1]; rfl
theorem ME.z {T : Tw} {tm : Nat} {sg al : Nat → Nat → Int32} {σ : ZS} (h : ME T tm sg al σ) : ME T tm sg al (sI σ 44 0 0) ∧ zI (sI σ 44 0 0) 44 0 = 0 :=
  ⟨h.fr (Fr.rfl.sI (S := fun c => c = 1000000) 44 0 0 rfl) (by intro c hc; unfold scM; omega), zI_self _ _ _ _⟩
theorem M_turn {T : Tw} {tm : Nat} {sg al : Nat → Nat → Int32} {σ : ZS} (h : ME T tm sg al σ) (hb : zI σ 44 54 = -1) {a b : Int32} {Ret : Int32 → ZS → Prop} (hr : PM σ Ret (spTurn T a b)) : wp_X4_turn σ a b Ret := by
  unfold wp_X4_turn
  refine nm_e ?_
  obtain ⟨h1, hz⟩ := h.z
  have bad : (T.isArcI a && T.isArcI b) = false → V_X4_turn_22 Ret (sI σ 44 0 0) a b := by
    intro k
    unfold V_X4_turn_22 V_X4_turn_27
    exact m_bad1 hz (by decide) (br_f (by decide) (hr.thr (c := 1) (by unfold spTurn; rw [k]; rfl) (by decide) hb))
  refine m_isArc h1.mt (br0 (fun k => bad (by rw [k]; rfl)) fun k => m_isArc h1.mt (br0 (fun k2 => bad (by rw [k2, Bool.and_false])) fun k2 => ?_))
  unfold V_X4_turn_27
  obtain ⟨x, rfl, hx, -, ex⟩ := isArcI_N k
  obtain ⟨y, rfl, hy, -, ey⟩ := isArcI_N k2
  refine m_bad0 hz (br_t rfl (m_turn h1.mt hx hy (hr.ok (by unfold spTurn; rw [k, k2]; rfl) hb (Fr.rfl (S := fun _ => False)) (fun _ k => k.elim) ?_)))
  unfold spTurn; rw [k, k2, ex, ey]; rfl
/-! may -/
def spMay (T : Tw) (tm : Nat) (sg al : Nat → Nat → Int32) (a b t : Int32) : Nat × Int32 := sp2 (T.isArcI a && T.isArcI b) (inN t (tm + 1)) (b2i (GT T sg al (ix t) (ix a) (ix b)))
theorem wide_b (b : Bool) : (b2i b).toInt64 = b2j b := by cases b <;> rfl
theorem PC.okB {σ : ZS} {Ret : Int32 → ZS → Prop} {r : Res} (hr : PC σ Ret r) (e : r.1 = 0) (hf : Sf σ) {S : Nat → Prop} {σ' : ZS} (f : Fr S σ σ') (hS : ∀ c, S c → (20 ≤ c ∧ c < 44) ∨ c = 2000017 ∨ c = 2000030 ∨ c = 2000031 ∨ c = 2000037 ∨ c = 2000038) {b : Bool} (ev : b2j b = r.2) : ((b2i b = 0 → (∀ σ6 : ZS, σ6 = sJ σ' 1238 (ix 0) 0 → (Ret 0 σ6))) ∧ (¬ b2i b = 0 → (∀ σ7 : ZS, σ7 = sJ σ' 1238 (ix 0) 1 → (Ret 0 σ7)))) := by
  refine br0 (fun k => ?_) fun k => ?_
  · exact hr.ok e hf f hS (by rw [← ev, k]; rfl)
  · exact hr.ok e hf f hS (by rw [← ev, k]; rfl)
theorem C_may {T : Tw} {d : Ad} {tm : Nat} {sg al : Nat → Nat → Int32} {σ : ZS} (h : CQ T d tm sg al σ) {a b t : Int32} {Ret : Int32 → ZS → Prop} (hr : PC σ Ret (wd (spMay T tm sg al a b t))) : wp_X0_may σ a b t Ret := by
  unfold wp_X0_may wp_X1_may
  have ce := h.ce
  obtain ⟨ct, ch, sf, rm⟩ := h
  unfold spMay at hr
  refine c_needArc ct rm (fun h1 => c_needArc ct rm (fun h2 => c_isTime ch (c_need rm (fun h3 => ?_) (fun h3 σ' g k => .inr ⟨⟨0, k⟩, hr.thr (c := 2) ?_ (by decide) rm.1 sf g⟩))) (fun h2 σ' g k => .inl ⟨⟨0, k⟩, hr.thr (c := 1) ?_ (by decide) rm.1 sf g⟩)) (fun h1 σ' g k => .inl ⟨⟨0, k⟩, hr.thr (c := 1) ?_ (by decide) rm.1 sf g⟩)
  · rw [sp2_0 (by rw [h1, h2]; rfl) h3] at hr
    obtain ⟨x, rfl, hx, -, ex⟩ := isArcI_N h1
    obtain ⟨y, rfl, hy, -, ey⟩ := isArcI_N h2
    obtain ⟨w, rfl, hw, ew, -⟩ := inN_N h3
    refine c_may ce hx hy (by show w ≤ tm; omega) ⟨isB_b _, hr.okB rfl sf (Fr.rfl (S := fun _ => False)) (fun _ k => k.elim) ?_⟩
    rw [ev0_G, ex, ey, ew]; exact (wide_b _).symm
  · exact sp2_2 (by rw [h1, h2]; rfl) h3
  · exact sp2_1 (by rw [h2, Bool.and_false])
  · exact sp2_1 (by rw [h1]; rfl)
theorem M_may {T : Tw} {tm : Nat} {sg al : Nat → Nat → Int32} {σ : ZS} (h : ME T tm sg al σ) (hb : zI σ 44 54 = -1) {a b t : Int32} {Ret : Int32 → ZS → Prop} (hr : PM σ Ret (spMay T tm sg al a b t)) : wp_X4_may σ a b t Ret := by
  unfold wp_X4_may
  refine nm_e ?_
  obtain ⟨h1, hz⟩ := h.z
  unfold spMay at hr
  have bad : (T.isArcI a && T.isArcI b) = false → V_X4_may_22 Ret (sI σ 44 0 0) a b t := by
    intro k
    unfold V_X4_may_22 V_X4_may_27
    exact m_bad1 hz (by decide) (br_f (by decide) (hr.thr (c := 1) (sp2_1 k) (by decide) hb))
  refine m_isArc h1.mt (br0 (fun k => bad (by rw [k]; rfl)) fun k => m_isArc h1.mt (br0 (fun k2 => bad (by rw [k2, Bool.and_false])) fun k2 => ?_))
  unfold V_X4_may_27
  refine m_bad0 hz (br_t rfl (m_isTime h1 (br0 (fun k3 => ?_) fun k3 => ?_)))
  · unfold V_X4_may_48
    exact m_bad1 hz (by decide) (br_f (by decide) (hr.thr (c := 2) (sp2_2 (by rw [k, k2]; rfl) k3) (by decide) hb))
  · unfold V_X4_may_48
    rw [sp2_0 (by rw [k, k2]; rfl) k3] at hr
    obtain ⟨x, rfl, hx, -, ex⟩ := isArcI_N k
    obtain ⟨y, rfl, hy, -, ey⟩ := isArcI_N k2
    obtain ⟨w, rfl, hw, ew, -⟩ := inN_N k3
    refine m_bad0 hz (br_t rfl (m_laysTime h1 (t := w) (by omega) fun s f hn => m_mayNow (h1.fr f (by intro c hc; unfold scM; omega)).mt hn hx hy ⟨isB_b _, hr.ok rfl hb f (by intro c hc; unfold SM; omega) ?_⟩))
    rw [ex, ey, ew]; rfl
/-! two corners and a time: the guards -/
theorem C_cct {T : Tw} {d : Ad} {tm : Nat} {sg al : Nat → Nat → Int32} {σ : ZS} (h : CQ T d tm sg al σ) {a b t : Int32} {v : Int32} {Ret : Int32 → ZS → Prop} (hr : PC σ Ret (wd (sp2 (inN a T.nc && inN b T.nc) (inN t (tm + 1)) v))) {K : ZS → Prop} (hk : inN a T.nc = true → inN b T.nc = true → inN t (tm + 1) = true → PC σ Ret (0, v.toInt64) → K σ) {Thr : Nat → ZS → Prop} (ht : Thr = fun x3 σ4 => ((∃ x, kK NS σ4 x3 = (14 + 7, x)) ∧ (Ret 1 σ4)) ∨ ((∃ x, kK NS σ4 x3 = (12 + 7, x)) ∧ (Ret 2 σ4))) : wp_X1_needCorner σ a (fun x σ => Thr x σ) (fun σ2 => wp_X1_needCorner σ2 b (fun x σ => Thr x σ) (fun σ4 => wp_X1_isTime σ4 t (fun r5 σ6 => wp_X1_need σ6 r5 (fun x σ => Thr x σ) K))) := by
  subst ht
  obtain ⟨ct, ch, sf, rm⟩ := h
  refine c_needCorner ct rm (fun h1 => c_needCorner ct rm (fun h2 => c_isTime ch (c_need rm (fun h3 => ?_) (fun h3 σ' g k => .inr ⟨⟨0, k⟩, hr.thr (c := 2) ?_ (by decide) rm.1 sf g⟩))) (fun h2 σ' g k => .inl ⟨⟨0, k⟩, hr.thr (c := 1) ?_ (by decide) rm.1 sf g⟩)) (fun h1 σ' g k => .inl ⟨⟨0, k⟩, hr.thr (c := 1) ?_ (by decide) rm.1 sf g⟩)
  · rw [sp2_0 (by rw [h1, h2]; rfl) h3] at hr; exact hk h1 h2 h3 hr
  · exact sp2_2 (by rw [h1, h2]; rfl) h3
  · exact sp2_1 (by rw [h2, Bool.and_false])
  · exact sp2_1 (by rw [h1]; rfl)
/-! ride -/
noncomputable def spRide (T : Tw) (tm : Nat) (sg al : Nat → Nat → Int32) (a b t : Int32) : Nat × Int32 := sp2 (inN a T.nc && inN b T.nc) (inN t (tm + 1)) (oI (rideV T (GT T sg al (ix t)) (ix a) (ix b)))
theorem C_ride {T : Tw} {d : Ad} {tm : Nat} {sg al : Nat → Nat → Int32} {σ : ZS} (h : CQ T d tm sg al σ) {a b t : Int32} {Ret : Int32 → ZS → Prop} (hr : PC σ Ret (wd (spRide T tm sg al a b t))) : wp_X0_ride σ a b t Ret := by
  unfold wp_X0_ride wp_X1_ride
  refine C_cct h hr (fun h1 h2 h3 hr => ?_) rfl
  have ce := h.ce
  obtain ⟨x, rfl, hx, ex, hx2⟩ := inN_N h1
  obtain ⟨y, rfl, hy, ey, hy2⟩ := inN_N h2
  obtain ⟨w, rfl, hw, ew, -⟩ := inN_N h3
  refine c_rideOf ce hx2 hy2 (by show w ≤ tm; omega) fun s f _ => hr.ok rfl h.2.2.1 f (by intro c hc; omega) ?_
  rw [ev0_G, ex, ey, ew]; rfl
theorem M_cct {T : Tw} {tm : Nat} {sg al : Nat → Nat → Int32} {σ : ZS} (h : ME T tm sg al σ) {a b : Int32} {V22 V27 : ZS → Prop} (h22 : (inN a T.nc && inN b T.nc) = false → V22 (sI σ 44 0 0)) (h27 : inN a T.nc = true → inN b T.nc = true → V27 (sI σ 44 0 0)) : ∀ σ1 : ZS, σ1 = sI σ 44 0 0 → (wp_X4_isCorner σ1 a (fun r2 σ3 => ((r2 = 0 → V22 σ3) ∧ (¬ r2 = 0 → (wp_X4_isCorner σ3 b (fun r14 σ15 => ((r14 = 0 → V22 σ15) ∧ (¬ r14 = 0 → V27 σ15)))))))) := by
  refine nm_e ?_
  obtain ⟨h1, hz⟩ := h.z
  exact m_isCorner h1.mt (br0 (fun k => h22 (by rw [k]; rfl)) fun k => m_isCorner h1.mt (br0 (fun k2 => h22 (by rw [k2, Bool.and_false])) fun k2 => h27 k k2))
theorem M_ride {T : Tw} {tm : Nat} {sg al : Nat → Nat → Int32} {σ : ZS} (h : ME T tm sg al σ) (hb : zI σ 44 54 = -1) {a b t : Int32} {Ret : Int32 → ZS → Prop} (hr : PM σ Ret (spRide T tm sg al a b t)) : wp_X4_ride σ a b t Ret := by
  unfold wp_X4_ride
  obtain ⟨h1, hz⟩ := h.z
  unfold spRide at hr
  refine M_cct h (fun k => ?_) fun k k2 => ?_
  · unfold V_X4_ride_22 V_X4_ride_27
    exact m_bad1 hz (by decide) (br_f (by decide) (hr.thr (c := 1) (sp2_1 k) (by decide) hb))
  unfold V_X4_ride_27
  refine m_bad0 hz (br_t rfl (m_isTime h1 (br0 (fun k3 => ?_) fun k3 => ?_)))
  · unfold V_X4_ride_48
    exact m_bad1 hz (by decide) (br_f (by decide) (hr.thr (c := 2) (sp2_2 (by rw [k, k2]; rfl) k3) (by decide) hb))
  · unfold V_X4_ride_48
    rw [sp2_0 (by rw [k, k2]; rfl) k3] at hr
    obtain ⟨x, rfl, hx, ex, hx2⟩ := inN_N k
    obtain ⟨y, rfl, hy, ey, hy2⟩ := inN_N k2
    obtain ⟨w, rfl, hw, ew, -⟩ := inN_N k3
    refine m_bad0 hz (br_t rfl (m_asks h1 (t := w) (by omega) fun s f hn hf => m_rideOf (h1.fr f (by intro c hc; unfold scM; omega)).mt hf hx2 hy2 fun s' f' _ => ?_))
    refine hr.ok rfl hb ((f.mono (S' := fun c => c = 564 ∨ c = 565 ∨ c = 566 ∨ c = 568) (by intro c hc; omega)).trans (f'.mono (by intro c hc; omega))) (by intro c hc; unfold SM; omega) ?_
    rw [ex, ey, ew]; rfl
/-! step -/
noncomputable def stepV (T : Tw) (G : Nat → Nat → Bool) (a b : Nat) (k : Int32) : Int32 := match pN T G a b with
  | none => -1
  | some n => if inN k n then nI (pA T G a b (ix k)) else -1
noncomputable def spStep (T : Tw) (tm : Nat) (sg al : Nat → Nat → Int32) (a b t k : Int32) : Nat × Int32 := sp2 (inN a T.nc && inN b T.nc) (inN t (tm + 1)) (stepV T (GT T sg al (ix t)) (ix a) (ix b) k)
theorem C_step {T : Tw} {d : Ad} {tm : Nat} {sg al : Nat → Nat → Int32} {σ : ZS} (h : CQ T d tm sg al σ) {a b t k : Int32} {Ret : Int32 → ZS → Prop} (hr : PC σ Ret (wd (spStep T tm sg al a b t k))) : wp_X0_step σ a b t k Ret := by
  unfold wp_X0_step wp_X1_step
  refine C_cct h hr (fun h1 h2 h3 hr => ?_) rfl
  have ce := h.ce
  have hns := h.1.wf.ns
  obtain ⟨x, rfl, hx, ex, hx2⟩ := inN_N h1
  obtain ⟨y, rfl, hy, ey, hy2⟩ := inN_N h2
  obtain ⟨w, rfl, hw, ew, -⟩ := inN_N h3
  rw [ex, ey, ew] at hr
  refine c_pathOf ce hx2 hy2 (by show w ≤ tm; omega) fun s f hp => ?_
  rw [ev0_G] at hp ⊢
  have hS : ∀ c, c = 20 ∨ c = 21 → (20 ≤ c ∧ c < 44) ∨ c = 2000017 ∨ c = 2000030 ∨ c = 2000031 ∨ c = 2000037 ∨ c = 2000038 := by intro c hc; omega
  have neg : stepV T (GT T sg al w) x y k = -1 → ∀ σ6 : ZS, σ6 = sJ s 1238 (ix 0) (-1 : Int32).toInt64 → Ret 0 σ6 := fun e1 => hr.ok rfl h.2.2.1 f hS (by show _ = (stepV T (GT T sg al w) x y k).toInt64; rw [e1])
  refine ⟨fun k1 => neg ?_, fun k1 => ?_⟩
  · unfold stepV
    cases hp2 : pN T (GT T sg al w) x y with
    | none => rfl
    | some n => show (if _ then _ else _) = _; rw [inN_neg k1]; rfl
  · obtain ⟨j, hj, rfl⟩ := nI_of k1
    show (nI j < oI (pN T (GT T sg al w) x y) → _) ∧ (¬ nI j < oI (pN T (GT T sg al w) x y) → _)
    cases hp2 : pN T (GT T sg al w) x y with
    | none =>
      refine br_f ?_ (neg (by unfold stepV; rw [hp2]))
      show ¬ nI j < -1
      rw [Int32.lt_iff_toInt_lt, nI_toInt hj]
      have : (-1 : Int32).toInt = -1 := by decide
      omega
    | some n =>
      have hn := pN_le h.1.wf hp2
      show (nI j < nI n → _) ∧ (¬ nI j < nI n → _)
      rw [nI_ltI hj (by omega)]
      refine ⟨fun k2 => ⟨vin (by omega) (by decide), hr.ok rfl h.2.2.1 f hS ?_⟩, fun k2 => neg ?_⟩
      · rw [ix_nI hj, hp n j hp2 k2]
        unfold stepV
        rw [hp2]
        simp only
        rw [inN_nI hj, ix_nI hj]
        simp [k2]
        rfl
      · unfold stepV
        rw [hp2]
        simp only
        rw [inN_nI hj]
        simp [k2]
theorem M_step {T : Tw} {tm : Nat} {sg al : Nat → Nat → Int32} {σ : ZS} (h : ME T tm sg al σ) (hb : zI σ 44 54 = -1) {a b t k : Int32} {Ret : Int32 → ZS → Prop} (hr : PM σ Ret (spStep T tm sg al a b t k)) : wp_X4_step σ a b t k Ret := by
  unfold wp_X4_step
  obtain ⟨h1, hz⟩ := h.z
  have hns := h.mt.wf.ns
  have w' := h.mt.wf
  unfold spStep at hr
  refine M_cct h (fun k => ?_) fun k1 k2 => ?_
  · unfold V_X4_step_22 V_X4_step_27
    exact m_bad1 hz (by decide) (br_f (by decide) (hr.thr (c := 1) (sp2_1 k) (by decide) hb))
  unfold V_X4_step_27
  refine m_bad0 hz (br_t rfl (m_isTime h1 (br0 (fun k3 => ?_) fun k3 => ?_)))
  · unfold V_X4_step_48
    exact m_bad1 hz (by decide) (br_f (by decide) (hr.thr (c := 2) (sp2_2 (by rw [k1, k2]; rfl) k3) (by decide) hb))
  unfold V_X4_step_48
  rw [sp2_0 (by rw [k1, k2]; rfl) k3] at hr
  obtain ⟨x, rfl, hx, ex, hx2⟩ := inN_N k1
  obtain ⟨y, rfl, hy, ey, hy2⟩ := inN_N k2
  obtain ⟨w, rfl, hw, ew, -⟩ := inN_N k3
  rw [ex, ey, ew] at hr
  refine m_bad0 hz (br_t rfl (m_asks h1 (t := w) (by omega) fun s f hn hf => ?_))
  have hs := h1.fr f (by intro c hc; unfold scM; omega)
  have hS : ∀ c, c = 564 ∨ c = 565 ∨ c = 566 ∨ c = 568 → SM c ∧ c ≠ 1000000 ∧ c ≠ 1000054 := by intro c hc; unfold SM; omega
  have f1 := f.mono (S' := fun c => c = 564 ∨ c = 565 ∨ c = 566 ∨ c = 568) (by intro c hc; omega)
  refine ⟨fun k4 => hr.ok rfl hb f1 hS ?_, fun k4 => m_rideOf hs.mt hf hx2 hy2 fun s' f' hl => ?_⟩
  · unfold stepV
    cases hp2 : pN T (GT T sg al w) x y with
    | none => rfl
    | some n => simp only; rw [inN_neg k4]; rfl
  have f2 := f1.trans (f'.mono (by intro c hc; omega))
  have hs' := hs.fr f' (by intro c hc; unfold scM; omega)
  have hf' := hf.fr f' (by intro c hc; omega)
  change FolM T (GT T sg al w) s' at hf'
  change x ≠ y → LenM T (GT T sg al w) y s' at hl
  change (oI (rideV T (GT T sg al w) x y) < 1 → _) ∧ (¬ oI (rideV T (GT T sg al w) x y) < 1 → _)
  obtain ⟨kk, hkk, rfl⟩ := nI_of k4
  have e0 : stepV T (GT T sg al w) x y (nI kk) = -1 → Ret (-1) s' := fun e => hr.ok rfl hb f2 hS (by show -1 = stepV T (GT T sg al w) x y (nI kk); rw [e])
  by_cases hxy : x = y
  · have hp2 : pN T (GT T sg al w) x y = some 0 := by unfold pN; rw [if_pos hxy]
    have hr2 : rideV T (GT T sg al w) x y = some 0 := by unfold rideV; rw [if_pos hxy]
    rw [hr2]
    refine br_t (by decide) (e0 ?_)
    unfold stepV; rw [hp2]; simp only; rw [inN_nI hkk]; simp
  · have hl := hl hxy
    cases hfa : fstA T (GT T sg al w) x y with
    | none =>
      have hp2 : pN T (GT T sg al w) x y = none := by unfold pN; rw [if_neg hxy, hfa]; rfl
      have hr2 : rideV T (GT T sg al w) x y = none := by unfold rideV; rw [if_neg hxy, hfa]; rfl
      rw [hr2]
      exact br_t (by decide) (e0 (by unfold stepV; rw [hp2]))
    | some q =>
      obtain ⟨a, n⟩ := q
      have g3 := (FAr_some hfa).2.2.1
      have hp2 : pN T (GT T sg al w) x y = some (plen T (GT T sg al w) y a) := by unfold pN; rw [if_neg hxy, hfa]; rfl
      have hr2 : rideV T (GT T sg al w) x y = some n := by unfold rideV; rw [if_neg hxy, hfa]; rfl
      have hpa : ∀ i, pA T (GT T sg al w) x y i = pth T (GT T sg al w) y a i := by intro i; unfold pA; rw [hfa]
      obtain ⟨q1, q2, q3, q4⟩ := plen_is w' g3
      have hn1 := (Ds_some.mp g3).1.pos w'
      have hnl := Ds_le w' g3
      rw [hr2]
      refine br_f (by show ¬ nI n < 1; rw [n1]; exact nI_nlt (by omega) (by omega)) (m_firstArc hs'.mt hl hx2 ?_)
      rw [hfa]
      have hP0 : 0 < plen T (GT T sg al w) y a := by unfold plen; omega
      have hsv : ∀ i, stepV T (GT T sg al w) x y (nI i) = (if inN (nI i) (plen T (GT T sg al w) y a) then nI (pth T (GT T sg al w) y a (ix (nI i))) else -1) := by
        intro i; unfold stepV; rw [hp2]; simp only; rw [hpa]
      generalize hP : plen T (GT T sg al w) y a = P at *
      refine forL1 (fun n s v x => VL_X4_step_89 Ret n s (nI y) (nI kk) v x) (fun i s v => s = s' ∧ v = if i < P then nI (pth T (GT T sg al w) y a i) else -1) kk ?_ ?_ 0 s' _ (Nat.zero_le _) ⟨rfl, by rw [if_pos hP0]; rfl⟩
      · rintro n2 s2 v ⟨rfl, rfl⟩
        simp only [VL_X4_step_89]
        refine br_f (nI_nlt (Nat.le_refl _) hkk) (hr.ok rfl hb f2 hS ?_)
        show _ = stepV T (GT T sg al w) x y (nI kk)
        rw [hsv, inN_nI hkk, ix_nI hkk]
        by_cases e1 : kk < P <;> simp [e1]
      · rintro n2 i s2 v hi ⟨rfl, rfl⟩ ih
        simp only [VL_X4_step_89]
        simp only [nI1]
        refine br_t (nI_lt hi hkk) ?_
        by_cases e1 : i < P
        · rw [if_pos e1]
          obtain ⟨m, hm⟩ := q4 i e1
          have hN := Tw.arc_lt (Ds_arc hm)
          refine br_f (by rw [nI_m1 (by omega)]; exact id) (m_nextArc hs'.mt hf' hy2 hl hm (nm_e (ih s2 _ ⟨rfl, ?_⟩)))
          by_cases e2 : i + 1 < P
          · rw [if_pos e2, if_neg (q3 i e2)]; rfl
          · have : i = P - 1 := by omega
            rw [if_neg e2, if_pos (by rw [this]; exact q2)]
        · rw [if_neg e1]
          refine br_t rfl (e0 ?_)
          rw [hsv, inN_nI hkk]
          simp; omega
