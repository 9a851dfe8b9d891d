/-! PURE HALF: the left turns of a town: what both sides share; the class. -/
set_option maxRecDepth 100000
abbrev TQ (T : Tw) (d : Ad) (σ : ZS) : Prop := (T.WF) ∧ (∃ m, kK NS σ d.tw = (8, m)) ∧ (kP NS σ d.tw 0 = some (.inl d.lc)) ∧ (kP NS σ d.tw 1 = some (.inl d.ls)) ∧ (LSt σ d.lc d.ec T.nc 13 d.co) ∧ (LSt σ d.ls d.es T.ns 14 d.so) ∧ (∀ i, i < T.nc → zI σ (d.co i) 0 = T.cx i) ∧ (∀ i, i < T.nc → zI σ (d.co i) 1 = T.cy i) ∧ (∀ s, s < T.ns → zI σ (d.so s) 0 = nI (T.sf s)) ∧ (∀ s, s < T.ns → zI σ (d.so s) 1 = nI (T.st s)) ∧ (∀ s, s < T.ns → zI σ (d.so s) 3 = b2i (T.so s))
theorem TQ.wf {T : Tw} {d : Ad} {σ : ZS} (h : TQ T d σ) : T.WF := h.1
theorem TQ.kt {T : Tw} {d : Ad} {σ : ZS} (h : TQ T d σ) : ∃ m, kK NS σ d.tw = (8, m) := h.2.1
theorem TQ.p0 {T : Tw} {d : Ad} {σ : ZS} (h : TQ T d σ) : kP NS σ d.tw 0 = some (.inl d.lc) := h.2.2.1
theorem TQ.p1 {T : Tw} {d : Ad} {σ : ZS} (h : TQ T d σ) : kP NS σ d.tw 1 = some (.inl d.ls) := h.2.2.2.1
theorem TQ.lc {T : Tw} {d : Ad} {σ : ZS} (h : TQ T d σ) : LSt σ d.lc d.ec T.nc 13 d.co := h.2.2.2.2.1
theorem TQ.ls {T : Tw} {d : Ad} {σ : ZS} (h : TQ T d σ) : LSt σ d.ls d.es T.ns 14 d.so := h.2.2.2.2.2.1
theorem TQ.cx {T : Tw} {d : Ad} {σ : ZS} (h : TQ T d σ) : ∀ i, i < T.nc → zI σ (d.co i) 0 = T.cx i := h.2.2.2.2.2.2.1
theorem TQ.cy {T : Tw} {d : Ad} {σ : ZS} (h : TQ T d σ) : ∀ i, i < T.nc → zI σ (d.co i) 1 = T.cy i := h.2.2.2.2.2.2.2.1
theorem TQ.sf {T : Tw} {d : Ad} {σ : ZS} (h : TQ T d σ) : ∀ s, s < T.ns → zI σ (d.so s) 0 = nI (T.sf s) := h.2.2.2.2.2.2.2.2.1
theorem TQ.st {T : Tw} {d : Ad} {σ : ZS} (h : TQ T d σ) : ∀ s, s < T.ns → zI σ (d.so s) 1 = nI (T.st s) := h.2.2.2.2.2.2.2.2.2.1
theorem TQ.so {T : Tw} {d : Ad} {σ : ZS} (h : TQ T d σ) : ∀ s, s < T.ns → zI σ (d.so s) 3 = b2i (T.so s) := h.2.2.2.2.2.2.2.2.2.2
theorem r_arcs {T : Tw} {d : Ad} {σ : ZS} (h : TQ T d σ) {Ret : Int32 → ZS → Prop} (hr : Ret (nI (2 * T.ns)) σ) : wp_X2_arcs σ d.tw Ret := by
  unfold wp_X2_arcs
  rw [h.p1, zo_in]
  refine ⟨h.kt, rfl, h.ls.kl, j_size h.ls ?_⟩
  rw [nI_2mul]; exact hr
theorem r_of {T : Tw} {d : Ad} {σ : ZS} (h : TQ T d σ) {a : Nat} (ha : a < 2 * T.ns) {Ret : ZR → ZS → Prop} (hr : Ret (some (.inl (d.so (a / 2)))) σ) : wp_X2_of σ d.tw (nI a) Ret := by
  unfold wp_X2_of
  have := h.wf.ns
  rw [h.p1, zo_in, nI_div2 (by omega)]
  exact ⟨h.kt, rfl, h.ls.kl, j_get h.ls (by omega) ⟨rfl, (h.ls.pi _ (by omega)).2.2, hr⟩⟩
theorem r_isArc {T : Tw} {d : Ad} {σ : ZS} (h : TQ T d σ) {x : Int32} {Ret : Int32 → ZS → Prop} (hr : Ret (b2i (T.isArcI x)) σ) : wp_X2_isArc σ d.tw x Ret := by
  unfold wp_X2_isArc
  have hns := h.wf.ns
  refine ⟨fun h1 => ?_, fun h1 => ⟨h.kt, r_arcs h ⟨fun h2 => ?_, fun h2 => ?_⟩⟩⟩
  · have : T.isArcI x = false := by
      unfold Tw.isArcI inN
      rw [Int32.lt_iff_toInt_lt] at h1
      have : (0 : Int32).toInt = 0 := rfl
      have : ¬ (0 ≤ x.toInt) := by omega
      simp [this]
    rw [this] at hr; exact hr
  · obtain ⟨j, hj, e⟩ := nI_of h1
    subst e
    rw [T.isArcI_nI hj] at hr
    have hj2 : j < 2 * T.ns := (nI_ltI hj (by omega)).mp h2
    unfold Tw.isArc at hr
    rw [nI_rem2 hj, nI_eq1 (by omega)]
    refine ⟨fun h3 => ⟨h.kt, r_of h hj2 ⟨rfl, (h.ls.pi _ (by omega)).2.2, ?_⟩⟩, fun h3 => ?_⟩
    · rw [zo_in, h.so _ (by omega)]
      refine br0 (fun h4 => ?_) fun h4 => ?_
      · simpa [hj2, h4, b2i] using hr
      · simpa [hj2, h4, h3, b2i] using hr
    · have h5 : j % 2 = 0 := by omega
      simpa [hj2, h5, b2i] using hr
  · have : T.isArcI x = false := by
      obtain ⟨j, hj, e⟩ := nI_of h1
      subst e
      rw [T.isArcI_nI hj]
      have : ¬ j < 2 * T.ns := fun k => h2 (nI_lt k (by omega))
      unfold Tw.isArc; simp [this]
    rw [this] at hr; exact hr
theorem r_isArcN {T : Tw} {d : Ad} {σ : ZS} (h : TQ T d σ) {a : Nat} (ha : a < 2 ^ 31) {Ret : Int32 → ZS → Prop} (hr : Ret (b2i (T.isArc a)) σ) : wp_X2_isArc σ d.tw (nI a) Ret := r_isArc h (by rw [T.isArcI_nI ha]; exact hr)
theorem r_begin {T : Tw} {d : Ad} {σ : ZS} (h : TQ T d σ) {a : Nat} (ha : a < 2 * T.ns) {Ret : Int32 → ZS → Prop} (hr : Ret (nI (T.beg a)) σ) : wp_X2_begin σ d.tw (nI a) Ret := by
  unfold wp_X2_begin
  have := h.wf.ns
  rw [nI_rem2 (by omega), nI_eq0 (by omega)]
  unfold Tw.beg at hr
  refine ⟨fun h3 => ⟨h.kt, r_of h ha ⟨rfl, (h.ls.pi _ (by omega)).2.2, ?_⟩⟩, fun h3 => ⟨h.kt, r_of h ha ⟨rfl, (h.ls.pi _ (by omega)).2.2, ?_⟩⟩⟩
  · rw [zo_in, h.sf _ (by omega)]; rw [if_pos h3] at hr; exact hr
  · rw [zo_in, h.st _ (by omega)]; rw [if_neg h3] at hr; exact hr
theorem r_end {T : Tw} {d : Ad} {σ : ZS} (h : TQ T d σ) {a : Nat} (ha : a < 2 * T.ns) {Ret : Int32 → ZS → Prop} (hr : Ret (nI (T.fin a)) σ) : wp_X2_end σ d.tw (nI a) Ret := by
  unfold wp_X2_end
  have := h.wf.ns
  rw [nI_rem2 (by omega), nI_eq0 (by omega)]
  unfold Tw.fin at hr
  refine ⟨fun h3 => ⟨h.kt, r_of h ha ⟨rfl, (h.ls.pi _ (by omega)).2.2, ?_⟩⟩, fun h3 => ⟨h.kt, r_of h ha ⟨rfl, (h.ls.pi _ (by omega)).2.2, ?_⟩⟩⟩
  · rw [zo_in, h.st _ (by omega)]; rw [if_pos h3] at hr; exact hr
  · rw [zo_in, h.sf _ (by omega)]; rw [if_neg h3] at hr; exact hr
theorem r_turn {T : Tw} {d : Ad} {σ : ZS} (h : TQ T d σ) {a b : Nat} (ha : a < 2 * T.ns) (hb : b < 2 * T.ns) {Ret : Int32 → ZS → Prop} (hr : Ret (T.turn a b) σ) : wp_X2_turn σ d.tw (nI a) (nI b) Ret := by
  unfold wp_X2_turn
  have := h.wf.ns
  have := h.wf.nc
  have hb1 := h.wf.beg hb
  have hf1 := h.wf.fin ha
  have hb2 := h.wf.beg ha
  have hf2 := h.wf.fin hb
  have kc : ∀ i, i < T.nc → ∃ m, kK NS σ (d.co i) = (13, m) := fun i hi => (h.lc.pi i hi).2.2
  refine ⟨h.kt, r_end h ha ⟨h.kt, r_begin h hb ?_⟩⟩
  unfold Tw.turn at hr
  rw [nI_eq (by omega) (by omega)]
  refine ⟨fun h1 => ?_, fun h1 => by rw [if_neg h1] at hr; exact hr⟩
  rw [if_pos h1] at hr
  rw [nI_div2 (by omega), nI_div2 (by omega), nI_eq (by omega) (by omega)]
  refine ⟨fun h2 => by rw [if_pos h2] at hr; exact hr, fun h2 => ?_⟩
  rw [if_neg h2] at hr
  rw [h.p0, zo_in]
  refine ⟨h.kt, rfl, h.kt, r_begin h ha ⟨h.lc.kl, j_get h.lc hb2 ⟨rfl, kc _ hb2, h.kt, ?_⟩⟩⟩
  rw [h.p0, zo_in]
  refine ⟨rfl, h.kt, r_end h ha ⟨h.lc.kl, j_get h.lc hf1 ⟨rfl, kc _ hf1, h.kt, ?_⟩⟩⟩
  rw [h.p0, zo_in]
  refine ⟨rfl, h.kt, r_end h hb ⟨h.lc.kl, j_get h.lc hf2 ⟨rfl, kc _ hf2, ?_⟩⟩⟩
  simp only [zo_in]
  refine ⟨kc _ hf1, kc _ hb2, kc _ hf2, kc _ hf1, kc _ hf1, kc _ hb2, kc _ hf2, kc _ hf1, ?_⟩
  intro y hy
  refine ⟨kc _ hf1, kc _ hb2, kc _ hf2, kc _ hf1, kc _ hf1, kc _ hb2, kc _ hf2, kc _ hf1, ?_⟩
  intro z hz
  rw [h.cx _ hf1, h.cx _ hb2, h.cx _ hf2, h.cy _ hf1, h.cy _ hb2, h.cy _ hf2] at hy hz
  have e1 : T.wx b = T.cx (T.fin b) - T.cx (T.fin a) := by unfold Tw.wx; rw [h1]
  have e2 : T.wy b = T.cy (T.fin b) - T.cy (T.fin a) := by unfold Tw.wy; rw [h1]
  have hy' : y = T.wx a * T.wy b - T.wy a * T.wx b := by rw [hy, e1, e2]; rfl
  have hz' : z = T.wx a * T.wx b + T.wy a * T.wy b := by rw [hz, e1, e2]; rfl
  rw [← hy', ← hz'] at hr
  have t : y = 0 ∨ 0 < y ∨ y < 0 := by
    rw [Int32.lt_iff_toInt_lt, Int32.lt_iff_toInt_lt, ← Int32.toInt_inj]
    have : (0 : Int32).toInt = 0 := rfl
    omega
  have t2 : ¬ (0 < y ∧ y < 0) := by
    rw [Int32.lt_iff_toInt_lt, Int32.lt_iff_toInt_lt]
    omega
  have t3 : 0 < y → y ≠ 0 := fun h e => by subst e; exact absurd h (by decide)
  have t4 : y < 0 → y ≠ 0 := fun h e => by subst e; exact absurd h (by decide)
  refine ⟨fun h3 => ?_, fun h3 => ⟨fun h4 => ?_, fun h4 => ?_⟩⟩
  · rw [if_neg (t3 h3), if_pos h3] at hr; exact hr
  · rw [if_neg (t4 h4), if_neg h3] at hr; exact hr
  · have e : y = 0 := by rcases t with t | t | t; exact t; exact absurd t h3; exact absurd t h4
    rw [if_pos e] at hr
    refine ⟨fun h5 => by rw [if_pos h5] at hr; exact hr, fun h5 => by rw [if_neg h5] at hr; exact hr⟩
def lfK (T : Tw) (s t : Nat) : Nat → Bool
  | 0 => false
  | k + 1 => lfK T s t k || (T.isArc (2 * s + k / 2) && (T.isArc (2 * t + k % 2) && decide (T.turn (2 * s + k / 2) (2 * t + k % 2) = 3)))
def lp (T : Tw) (p : Nat) : Bool := lfK T (p / T.ns) (p % T.ns) 4
noncomputable def fT (T : Tw) : Tw := Tw.mk T.nc T.cx T.cy T.ns T.sf T.st T.sl T.so T.bx T.nr T.rf T.rt T.rb (cnt (lp T) (T.ns * T.ns)) (fun k => nth (lp T) k / T.ns) (fun k => nth (lp T) k % T.ns)
theorem WF_fT {T : Tw} (w : T.WF) : (fT T).WF := by
  have hns := w.ns
  have hb : T.ns * T.ns ≤ 576 := Nat.le_trans (Nat.mul_le_mul hns hns) (by decide)
  have hlt : ∀ k, k < cnt (lp T) (T.ns * T.ns) → nth (lp T) k < T.ns * T.ns := fun k hk => (nth_is hk).1
  have hpos : ∀ k, k < cnt (lp T) (T.ns * T.ns) → 0 < T.ns := fun k hk => by
    rcases Nat.eq_zero_or_pos T.ns with e | e
    · have := hlt k hk; rw [e] at this; omega
    · exact e
  refine ⟨w.nc, w.ns, w.nr, ?_, w.sf, w.st, w.ft, w.sl, w.rf, w.rt, w.rn, w.rb, fun k hk => ?_, fun k hk => ?_, fun k j hk hj h1 h2 => ?_, w.bx, w.bn⟩
  · show cnt (lp T) (T.ns * T.ns) ≤ 576
    have := cnt_le (lp T) (T.ns * T.ns); omega
  · show nth (lp T) k / T.ns < T.ns
    exact Nat.div_lt_of_lt_mul (hlt k hk)
  · show nth (lp T) k % T.ns < T.ns
    exact Nat.mod_lt _ (hpos k hk)
  · have h1 : nth (lp T) k / T.ns = nth (lp T) j / T.ns := h1
    have h2 : nth (lp T) k % T.ns = nth (lp T) j % T.ns := h2
    have e : nth (lp T) k = nth (lp T) j := by
      rw [← Nat.div_add_mod (nth (lp T) k) T.ns, ← Nat.div_add_mod (nth (lp T) j) T.ns, h1, h2]
    have a1 := (nth_is hk).2.2
    have a2 := (nth_is hj).2.2
    rw [← a1, ← a2, e]
theorem lp_at {T : Tw} {s t : Nat} (ht : t < T.ns) : lp T (T.ns * s + t) = lfK T s t 4 := by
  unfold lp
  rw [Nat.mul_add_div (by omega), Nat.div_eq_of_lt ht, Nat.add_zero, Nat.mul_add_mod, Nat.mod_eq_of_lt ht]
theorem lp_dm {T : Tw} {s t : Nat} (ht : t < T.ns) : (T.ns * s + t) / T.ns = s ∧ (T.ns * s + t) % T.ns = t := by
  rw [Nat.mul_add_div (by omega), Nat.div_eq_of_lt ht, Nat.add_zero, Nat.mul_add_mod, Nat.mod_eq_of_lt ht]
  exact ⟨rfl, rfl⟩
/-- left turns laid so far, in two rows and a count -/
def LfC (T : Tw) (d : Ad) (s : ZS) (p : Nat) : Prop := zI s d.tw 8 = nI (cnt (lp T) p) ∧ ∀ j, j < cnt (lp T) p → zI s d.lf j = nI (nth (lp T) j / T.ns) ∧ zI s d.lt j = nI (nth (lp T) j % T.ns)
theorem TQ.of {n : Nat} {tx : Nat → Int32} {R : Nat} {d : Ad} {d3 d4 : Nat} {P : PT} {σ σ' : ZS} (h : RS n tx R d d3 d4 P σ) (f : Fr (fun c => c = d.tw ∨ c = d.lf ∨ c = d.lt) σ σ') : TQ P.T d σ' := by
  obtain ⟨mt, kt⟩ := h.kt
  have k5 := h.k5
  have k6 := h.k6
  have hK : ∀ a, kK NS σ' a = kK NS σ a := fun a => f.K NS a
  have hP : ∀ a i, kP NS σ' a i = kP NS σ a i := fun a i => f.P NS a i
  have ne : ∀ a, 1239 ≤ a → (zK σ a).1 ≠ 8 → (zK σ a).1 ≠ 0 → ∀ i, zI σ' a i = zI σ a i := fun a ha h8 h0 i => f.1 a i (by
    have e : cd a i = a := by unfold cd; rw [if_neg (by omega), if_neg (by omega)]
    rw [e]
    rintro (rfl | rfl | rfl)
    · rw [kt] at h8; exact h8 rfl
    · rw [k5] at h0; exact h0 rfl
    · rw [k6] at h0; exact h0 rfl)
  have lst : ∀ {l e m ki : Nat} {ad : Nat → Nat}, LS2 σ l e m ki ad → LSt σ l e m ki ad → LSt σ' l e m ki ad := by
    rintro l e m ki ad h2 hl
    obtain ⟨x1, x2⟩ := h2.2.2.1
    exact ⟨hl.ol, hl.oe, by rw [hK]; exact hl.kl, by rw [ne l h2.1 (by rw [x2]; simp) (by rw [x2]; simp)]; exact hl.sz, by rw [hP]; exact hl.pe, by rw [hK]; exact hl.ke, fun i hi => by rw [hP, hK]; exact hl.pi i hi⟩
  refine ⟨h.pw.1, by rw [hK]; exact h.kT, by rw [hP]; exact h.P0, by rw [hP]; exact h.P1, lst h.lc h.lcT, lst h.ls h.lsT, fun i hi => ?_, fun i hi => ?_, fun i hi => ?_, fun i hi => ?_, fun i hi => ?_⟩
  · obtain ⟨-, a2, m, a3⟩ := h.lc.2.2.2.2.2.2 i hi
    rw [ne _ a2 (by rw [a3]; simp) (by rw [a3]; simp)]; exact h.cx i hi
  · obtain ⟨-, a2, m, a3⟩ := h.lc.2.2.2.2.2.2 i hi
    rw [ne _ a2 (by rw [a3]; simp) (by rw [a3]; simp)]; exact h.cy i hi
  · obtain ⟨-, a2, m, a3⟩ := h.ls.2.2.2.2.2.2 i hi
    rw [ne _ a2 (by rw [a3]; simp) (by rw [a3]; simp)]; exact h.sf i hi
  · obtain ⟨-, a2, m, a3⟩ := h.ls.2.2.2.2.2.2 i hi
    rw [ne _ a2 (by rw [a3]; simp) (by rw [a3]; simp)]; exact h.st i hi
  · obtain ⟨-, a2, m, a3⟩ := h.ls.2.2.2.2.2.2 i hi
    rw [ne _ a2 (by rw [a3]; simp) (by rw [a3]; simp)]; exact h.so i hi
theorem k2rem : ∀ k, k < 4 → nI k - nI k / 2 * 2 = nI (k % 2) := fun k hk => nI_rem2 (by omega)
theorem c_looks {n : Nat} {tx : Nat → Int32} {R : Nat} {d : Ad} {d3 d4 : Nat} {P : PT} {σ : ZS} (h : RS n tx R d d3 d4 P σ) {Ret : ZS → Prop} (hr : ∀ s, Fr (fun c => c = d.tw ∨ c = d.lf ∨ c = d.lt) σ s → LfC P.T d s (P.T.ns * P.T.ns) → (∀ j, j ≠ 8 → zI s d.tw j = zI σ d.tw j) → Ret s) : wp_X2_looks σ d.tw Ret := by
  have w := h.pw.1
  have hns := w.ns
  have tq := fun s (f : Fr (fun c => c = d.tw ∨ c = d.lf ∨ c = d.lt) σ s) => TQ.of h f
  have o5 := h.o5; have o6 := h.o6; have ot := h.ot
  have n56 := h.n56
  have k5 : ∀ s, Fr (fun c => c = d.tw ∨ c = d.lf ∨ c = d.lt) σ s → kK NS s d.lf = (0, 576) := fun s f => by rw [f.K, kK_dyn o5]; exact h.k5
  have k6 : ∀ s, Fr (fun c => c = d.tw ∨ c = d.lf ∨ c = d.lt) σ s → kK NS s d.lt = (0, 576) := fun s f => by rw [f.K, kK_dyn o6]; exact h.k6
  have p5 : ∀ s, Fr (fun c => c = d.tw ∨ c = d.lf ∨ c = d.lt) σ s → kP NS s d.tw 5 = some (.inl d.lf) := fun s f => by rw [f.P, kP_dyn ot]; exact h.p5
  have p6 : ∀ s, Fr (fun c => c = d.tw ∨ c = d.lf ∨ c = d.lt) σ s → kP NS s d.tw 6 = some (.inl d.lt) := fun s f => by rw [f.P, kP_dyn ot]; exact h.p6
  have nt5 : d.tw ≠ d.lf := by obtain ⟨x, y⟩ := h.kt; rintro e; rw [e, h.k5] at y; cases y
  have nt6 : d.tw ≠ d.lt := by obtain ⟨x, y⟩ := h.kt; rintro e; rw [e, h.k6] at y; cases y
  have c5 : ∀ i, cd d.lf i = d.lf := fun i => by unfold cd; rw [if_neg (by clear h tq; omega), if_neg (by clear h tq; omega)]
  have c6 : ∀ i, cd d.lt i = d.lt := fun i => by unfold cd; rw [if_neg (by clear h tq; omega), if_neg (by clear h tq; omega)]
  have ct : ∀ i, cd d.tw i = d.tw := fun i => by unfold cd; rw [if_neg (by clear h tq; omega), if_neg (by clear h tq; omega)]
  have nl0 := h.nl
  clear h
  unfold wp_X2_looks
  have hb : P.T.ns * P.T.ns ≤ 576 := Nat.le_trans (Nat.mul_le_mul hns hns) (by decide)
  refine forL (S := ZS) (fun m s x => VL_X2_looks_2 Ret m s d.tw x) (fun s1 s => Fr (fun c => c = d.tw ∨ c = d.lf ∨ c = d.lt) σ s ∧ LfC P.T d s (P.T.ns * s1) ∧ (∀ j, j ≠ 8 → zI s d.tw j = zI σ d.tw j)) P.T.ns ?_ ?_ 0 σ (Nat.zero_le _) ⟨Fr.rfl, ⟨nl0, fun j hj => absurd hj (by rw [Nat.mul_zero]; exact Nat.not_lt_zero _)⟩, fun _ _ => rfl⟩
  · rintro m s ⟨f, g, e⟩
    have t := tq s f
    simp only [VL_X2_looks_2]
    rw [t.p1, zo_in]
    exact ⟨t.kt, rfl, t.ls.kl, j_size t.ls (br_f (nI_nlt (Nat.le_refl _) (by omega)) (hr s f g e))⟩
  · rintro m s1 s hs1 ⟨f, g, e⟩ ih
    have t := tq s f
    simp only [VL_X2_looks_2]
    rw [t.p1, zo_in]
    refine ⟨t.kt, rfl, t.ls.kl, j_size t.ls (br_t (nI_lt hs1 (by omega)) ?_)⟩
    have hrow : P.T.ns * s1 + P.T.ns ≤ P.T.ns * P.T.ns := by rw [← Nat.mul_succ]; exact Nat.mul_le_mul_left _ hs1
    refine forL (S := ZS) (fun m' s x => VL_X2_looks_15 (VL_X2_looks_2 Ret m) Ret m' s d.tw (nI s1) x) (fun t1 s => Fr (fun c => c = d.tw ∨ c = d.lf ∨ c = d.lt) σ s ∧ LfC P.T d s (P.T.ns * s1 + t1) ∧ (∀ j, j ≠ 8 → zI s d.tw j = zI σ d.tw j)) P.T.ns ?_ ?_ 0 s (Nat.zero_le _) ⟨f, g, e⟩
    · rintro m' s2 ⟨f2, g2, e2⟩
      have t2 := tq s2 f2
      simp only [VL_X2_looks_15]
      simp only [nI1]
      rw [t2.p1, zo_in]
      exact ⟨t2.kt, rfl, t2.ls.kl, j_size t2.ls (br_f (nI_nlt (Nat.le_refl _) (by omega)) (nm_e (ih s2 ⟨f2, by rw [Nat.mul_succ]; exact g2, e2⟩)))⟩
    · rintro m' t1 s2 ht1 ⟨f2, g2, e2⟩ ih2
      have t2 := tq s2 f2
      simp only [VL_X2_looks_15]
      rw [t2.p1, zo_in]
      refine ⟨t2.kt, rfl, t2.ls.kl, j_size t2.ls (br_t (nI_lt ht1 (by omega)) ?_)⟩
      have hcl : cnt (lp P.T) (P.T.ns * s1 + t1) ≤ P.T.ns * s1 + t1 := cnt_le _ _
      have hstep : cnt (lp P.T) (P.T.ns * s1 + t1 + 1) = cnt (lp P.T) (P.T.ns * s1 + t1) + (if lfK P.T s1 t1 4 then 1 else 0) := by
        rw [← lp_at ht1]; rfl
      refine forL1 (fun m3 s v x => VL_X2_looks_31 (VL_X2_looks_2 Ret m) (VL_X2_looks_15 (VL_X2_looks_2 Ret m) Ret m') Ret m3 s d.tw (nI s1) (nI t1) v x) (fun k s v => s = s2 ∧ v = b2i (lfK P.T s1 t1 k)) 4 ?_ ?_ 0 s2 0 (Nat.zero_le _) ⟨rfl, rfl⟩
      · rintro m3 s v ⟨rfl, rfl⟩
        simp only [VL_X2_looks_31]
        simp only [nI1]
        refine br_f (by decide) (br0 (fun k0 => nm_e (ih2 s ⟨f2, ?_, e2⟩)) fun k1 => ?_)
        · unfold LfC; rw [show P.T.ns * s1 + (t1 + 1) = P.T.ns * s1 + t1 + 1 from rfl, hstep, k0]; exact g2
        rw [k1] at hstep
        have hcs : cnt (lp P.T) (P.T.ns * s1 + t1 + 1) = cnt (lp P.T) (P.T.ns * s1 + t1) + 1 := hstep
        have hlt : cnt (lp P.T) (P.T.ns * s1 + t1) < 576 := by clear tq; omega
        have hnth : nth (lp P.T) (cnt (lp P.T) (P.T.ns * s1 + t1)) = P.T.ns * s1 + t1 := nth_eq (by rw [lp_at ht1]; exact k1)
        rw [p5 s f2, zo_in, g2.1]
        refine ⟨t2.kt, rfl, t2.kt, 576, k5 s f2, vin (by clear tq; omega) (by decide), nm_e ?_⟩
        rw [ix_nI (by clear tq; omega)]
        have fa : Fr (fun c => c = d.tw ∨ c = d.lf ∨ c = d.lt) σ (sI s d.lf (cnt (lp P.T) (P.T.ns * s1 + t1)) (nI s1)) := f2.sI _ _ _ (.inr (.inl (c5 _)))
        have ea : zI (sI s d.lf (cnt (lp P.T) (P.T.ns * s1 + t1)) (nI s1)) d.tw 8 = nI (cnt (lp P.T) (P.T.ns * s1 + t1)) := by rw [zI_ne _ (.inl nt5)]; exact g2.1
        have ta := tq _ fa
        rw [p6 _ fa, zo_in, ea]
        refine ⟨ta.kt, rfl, ta.kt, 576, k6 _ fa, vin (by clear tq; omega) (by decide), nm_e ?_⟩
        rw [ix_nI (by clear tq; omega)]
        have fb := fa.sI d.lt (cnt (lp P.T) (P.T.ns * s1 + t1)) (nI t1) (.inr (.inr (c6 _)))
        have tb' := tq _ fb
        refine ⟨tb'.kt, tb'.kt, nm_e (nm_e (ih2 _ ⟨fb.sI d.tw 8 _ (.inl (ct _)), ?_, fun j hj => ?_⟩))⟩
        · refine ⟨?_, fun j hj => ?_⟩
          · rw [zI_self, zI_ne _ (.inl nt6), ea, nI1]
            show _ = nI (cnt (lp P.T) (P.T.ns * s1 + t1 + 1)); rw [hcs]
          · have hj : j < cnt (lp P.T) (P.T.ns * s1 + t1 + 1) := hj
            rw [hcs] at hj
            rw [zI_ne _ (.inl (Ne.symm nt5)), zI_ne _ (.inl n56), zI_row, zI_ne _ (.inl (Ne.symm nt6)), zI_row]
            by_cases ej : j = cnt (lp P.T) (P.T.ns * s1 + t1)
            · rw [if_pos ej, if_pos ej, ej, hnth, (lp_dm ht1).1, (lp_dm ht1).2]; exact ⟨rfl, rfl⟩
            · rw [if_neg ej, if_neg ej, zI_ne _ (.inl (Ne.symm n56))]; exact g2.2 j (by clear tq; omega)
        · rw [zI_ne _ (.inr hj), zI_ne _ (.inl nt6), zI_ne _ (.inl nt5)]; exact e2 j hj
      · rintro m3 k s v hk ⟨rfl, rfl⟩ ih3
        simp only [VL_X2_looks_31]
        simp only [nI1]
        rw [nI_2mul, nI_2mul, k2rem k hk, nI_div2 (by omega), nI_add, nI_add]
        refine br_t (nI_lt (b := 4) hk (by decide)) (br0 (fun k0 => ⟨t2.kt, r_isArcN t2 (by omega) (br0 (fun k1 => nm_e (ih3 s _ ⟨rfl, ?_⟩)) fun k1 => ⟨t2.kt, r_isArcN t2 (by omega) (br0 (fun k2 => nm_e (ih3 s _ ⟨rfl, ?_⟩)) fun k2 => ⟨t2.kt, r_turn t2 (Tw.arc_lt k1) (Tw.arc_lt k2) ⟨fun k3 => nm_e (ih3 s _ ⟨rfl, ?_⟩), fun k3 => nm_e (ih3 s _ ⟨rfl, ?_⟩)⟩⟩)⟩)⟩) fun k0 => nm_e (ih3 s _ ⟨rfl, ?_⟩))
        · rw [lfK, k0, k1]; rfl
        · rw [lfK, k0, k1, k2]; rfl
        · rw [lfK, k0, k1, k2, k3]; rfl
        · rw [lfK, k0, k1, k2]; simp [k3, b2i]
        · rw [lfK, k0]; rfl
