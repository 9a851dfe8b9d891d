/-! PURE HALF: the town, and how each side holds it; the small methods. -/
set_option maxRecDepth 100000
def Tw : Type := (Nat) × (Nat → Int32) × (Nat → Int32) × (Nat) × (Nat → Nat) × (Nat → Nat) × (Nat → Nat) × (Nat → Bool) × (Int32) × (Nat) × (Nat → Nat) × (Nat → Nat) × (Nat → Nat) × (Nat) × (Nat → Nat) × (Nat → Nat)
def Tw.mk (nc : Nat) (cx : Nat → Int32) (cy : Nat → Int32) (ns : Nat) (sf : Nat → Nat) (st : Nat → Nat) (sl : Nat → Nat) (so : Nat → Bool) (bx : Int32) (nr : Nat) (rf : Nat → Nat) (rt : Nat → Nat) (rb : Nat → Nat) (nl : Nat) (lf : Nat → Nat) (lt : Nat → Nat) : Tw := (nc, cx, cy, ns, sf, st, sl, so, bx, nr, rf, rt, rb, nl, lf, lt)
def Tw.nc (x : Tw) : Nat := x.1
def Tw.cx (x : Tw) : Nat → Int32 := x.2.1
def Tw.cy (x : Tw) : Nat → Int32 := x.2.2.1
def Tw.ns (x : Tw) : Nat := x.2.2.2.1
def Tw.sf (x : Tw) : Nat → Nat := x.2.2.2.2.1
def Tw.st (x : Tw) : Nat → Nat := x.2.2.2.2.2.1
def Tw.sl (x : Tw) : Nat → Nat := x.2.2.2.2.2.2.1
def Tw.so (x : Tw) : Nat → Bool := x.2.2.2.2.2.2.2.1
def Tw.bx (x : Tw) : Int32 := x.2.2.2.2.2.2.2.2.1
def Tw.nr (x : Tw) : Nat := x.2.2.2.2.2.2.2.2.2.1
def Tw.rf (x : Tw) : Nat → Nat := x.2.2.2.2.2.2.2.2.2.2.1
def Tw.rt (x : Tw) : Nat → Nat := x.2.2.2.2.2.2.2.2.2.2.2.1
def Tw.rb (x : Tw) : Nat → Nat := x.2.2.2.2.2.2.2.2.2.2.2.2.1
def Tw.nl (x : Tw) : Nat := x.2.2.2.2.2.2.2.2.2.2.2.2.2.1
def Tw.lf (x : Tw) : Nat → Nat := x.2.2.2.2.2.2.2.2.2.2.2.2.2.2.1
def Tw.lt (x : Tw) : Nat → Nat := x.2.2.2.2.2.2.2.2.2.2.2.2.2.2.2
def Tw.isArc (T : Tw) (a : Nat) : Bool := decide (a < 2 * T.ns) && (decide (a % 2 = 0) || !T.so (a / 2))
def Tw.beg (T : Tw) (a : Nat) : Nat := if a % 2 = 0 then T.sf (a / 2) else T.st (a / 2)
def Tw.fin (T : Tw) (a : Nat) : Nat := if a % 2 = 0 then T.st (a / 2) else T.sf (a / 2)
def Tw.len (T : Tw) (a : Nat) : Nat := T.sl (a / 2)
def Tw.wx (T : Tw) (a : Nat) : Int32 := T.cx (T.fin a) - T.cx (T.beg a)
def Tw.wy (T : Tw) (a : Nat) : Int32 := T.cy (T.fin a) - T.cy (T.beg a)
def Tw.turn (T : Tw) (a b : Nat) : Int32 := if T.fin a = T.beg b then if a / 2 = b / 2 then 0 else if T.wx a * T.wy b - T.wy a * T.wx b = 0 then (if 0 < T.wx a * T.wx b + T.wy a * T.wy b then 2 else 0) else if 0 < T.wx a * T.wy b - T.wy a * T.wx b then 3 else 1 else -1
abbrev Tw.WF (T : Tw) : Prop := (T.nc ≤ 16) ∧ (T.ns ≤ 24) ∧ (T.nr ≤ 12) ∧ (T.nl ≤ 576) ∧ (∀ s, s < T.ns → T.sf s < T.nc) ∧ (∀ s, s < T.ns → T.st s < T.nc) ∧ (∀ s, s < T.ns → T.sf s ≠ T.st s) ∧ (∀ s, s < T.ns → 1 ≤ T.sl s ∧ T.sl s ≤ 99) ∧ (∀ r, r < T.nr → T.rf r < T.nc) ∧ (∀ r, r < T.nr → T.rt r < T.nc) ∧ (∀ r, r < T.nr → T.rf r ≠ T.rt r) ∧ (∀ r, r < T.nr → T.rb r ≤ 99) ∧ (∀ k, k < T.nl → T.lf k < T.ns) ∧ (∀ k, k < T.nl → T.lt k < T.ns) ∧ (∀ k j, k < T.nl → j < T.nl → T.lf k = T.lf j → T.lt k = T.lt j → k = j) ∧ (∀ c, btI T.bx c = true → c < T.nc) ∧ (((List.range 16).filter (btI T.bx)).length ≤ 10)
theorem Tw.WF.nc {T : Tw} (h : Tw.WF T) : T.nc ≤ 16 := h.1
theorem Tw.WF.ns {T : Tw} (h : Tw.WF T) : T.ns ≤ 24 := h.2.1
theorem Tw.WF.nr {T : Tw} (h : Tw.WF T) : T.nr ≤ 12 := h.2.2.1
theorem Tw.WF.nl {T : Tw} (h : Tw.WF T) : T.nl ≤ 576 := h.2.2.2.1
theorem Tw.WF.sf {T : Tw} (h : Tw.WF T) : ∀ s, s < T.ns → T.sf s < T.nc := h.2.2.2.2.1
theorem Tw.WF.st {T : Tw} (h : Tw.WF T) : ∀ s, s < T.ns → T.st s < T.nc := h.2.2.2.2.2.1
theorem Tw.WF.ft {T : Tw} (h : Tw.WF T) : ∀ s, s < T.ns → T.sf s ≠ T.st s := h.2.2.2.2.2.2.1
theorem Tw.WF.sl {T : Tw} (h : Tw.WF T) : ∀ s, s < T.ns → 1 ≤ T.sl s ∧ T.sl s ≤ 99 := h.2.2.2.2.2.2.2.1
theorem Tw.WF.rf {T : Tw} (h : Tw.WF T) : ∀ r, r < T.nr → T.rf r < T.nc := h.2.2.2.2.2.2.2.2.1
theorem Tw.WF.rt {T : Tw} (h : Tw.WF T) : ∀ r, r < T.nr → T.rt r < T.nc := h.2.2.2.2.2.2.2.2.2.1
theorem Tw.WF.rn {T : Tw} (h : Tw.WF T) : ∀ r, r < T.nr → T.rf r ≠ T.rt r := h.2.2.2.2.2.2.2.2.2.2.1
theorem Tw.WF.rb {T : Tw} (h : Tw.WF T) : ∀ r, r < T.nr → T.rb r ≤ 99 := h.2.2.2.2.2.2.2.2.2.2.2.1
theorem Tw.WF.lf {T : Tw} (h : Tw.WF T) : ∀ k, k < T.nl → T.lf k < T.ns := h.2.2.2.2.2.2.2.2.2.2.2.2.1
theorem Tw.WF.lt {T : Tw} (h : Tw.WF T) : ∀ k, k < T.nl → T.lt k < T.ns := h.2.2.2.2.2.2.2.2.2.2.2.2.2.1
theorem Tw.WF.li {T : Tw} (h : Tw.WF T) : ∀ k j, k < T.nl → j < T.nl → T.lf k = T.lf j → T.lt k = T.lt j → k = j := h.2.2.2.2.2.2.2.2.2.2.2.2.2.2.1
theorem Tw.WF.bx {T : Tw} (h : Tw.WF T) : ∀ c, btI T.bx c = true → c < T.nc := h.2.2.2.2.2.2.2.2.2.2.2.2.2.2.2.1
theorem Tw.WF.bn {T : Tw} (h : Tw.WF T) : ((List.range 16).filter (btI T.bx)).length ≤ 10 := h.2.2.2.2.2.2.2.2.2.2.2.2.2.2.2.2
theorem Tw.WF.beg {T : Tw} (h : T.WF) {a : Nat} (ha : a < 2 * T.ns) : T.beg a < T.nc := by
  unfold Tw.beg; split
  · exact h.sf _ (by omega)
  · exact h.st _ (by omega)
theorem Tw.WF.fin {T : Tw} (h : T.WF) {a : Nat} (ha : a < 2 * T.ns) : T.fin a < T.nc := by
  unfold Tw.fin; split
  · exact h.st _ (by omega)
  · exact h.sf _ (by omega)
theorem Tw.WF.len {T : Tw} (h : T.WF) {a : Nat} (ha : a < 2 * T.ns) : 1 ≤ T.len a ∧ T.len a ≤ 99 := h.sl _ (by omega)
theorem Tw.arc_lt {T : Tw} {a : Nat} (h : T.isArc a = true) : a < 2 * T.ns := by
  unfold Tw.isArc at h; simp at h; exact h.1
/-- the model's town -/
abbrev MT (T : Tw) (σ : ZS) : Prop := (T.WF) ∧ (zI σ 47 0 = nI T.nc) ∧ (zI σ 47 1 = nI T.ns) ∧ (zI σ 47 2 = T.bx) ∧ (zI σ 47 3 = nI T.nr) ∧ (∀ i, i < T.nc → zI σ (65 + 1 + i) 0 = T.cx i) ∧ (∀ i, i < T.nc → zI σ (65 + 1 + i) 1 = T.cy i) ∧ (∀ s, s < T.ns → zI σ (107 + 1 + s) 0 = nI (T.sf s)) ∧ (∀ s, s < T.ns → zI σ (107 + 1 + s) 1 = nI (T.st s)) ∧ (∀ s, s < T.ns → zI σ (107 + 1 + s) 2 = nI (T.sl s)) ∧ (∀ s, s < T.ns → zI σ (107 + 1 + s) 3 = b2i (T.so s)) ∧ (∀ r, r < T.nr → zI σ (145 + 1 + r) 0 = nI (T.rf r)) ∧ (∀ r, r < T.nr → zI σ (145 + 1 + r) 1 = nI (T.rt r)) ∧ (∀ r, r < T.nr → zI σ (145 + 1 + r) 2 = nI (T.rb r)) ∧ (zI σ 44 27 = nI T.nl) ∧ (∀ k, k < T.nl → zI σ (569 + 1 + k) 0 = nI (T.lf k)) ∧ (∀ k, k < T.nl → zI σ (569 + 1 + k) 1 = nI (T.lt k))
theorem MT.wf {T : Tw} {σ : ZS} (h : MT T σ) : T.WF := h.1
theorem MT.m0 {T : Tw} {σ : ZS} (h : MT T σ) : zI σ 47 0 = nI T.nc := h.2.1
theorem MT.m1 {T : Tw} {σ : ZS} (h : MT T σ) : zI σ 47 1 = nI T.ns := h.2.2.1
theorem MT.m2 {T : Tw} {σ : ZS} (h : MT T σ) : zI σ 47 2 = T.bx := h.2.2.2.1
theorem MT.m3 {T : Tw} {σ : ZS} (h : MT T σ) : zI σ 47 3 = nI T.nr := h.2.2.2.2.1
theorem MT.cx {T : Tw} {σ : ZS} (h : MT T σ) : ∀ i, i < T.nc → zI σ (65 + 1 + i) 0 = T.cx i := h.2.2.2.2.2.1
theorem MT.cy {T : Tw} {σ : ZS} (h : MT T σ) : ∀ i, i < T.nc → zI σ (65 + 1 + i) 1 = T.cy i := h.2.2.2.2.2.2.1
theorem MT.sf {T : Tw} {σ : ZS} (h : MT T σ) : ∀ s, s < T.ns → zI σ (107 + 1 + s) 0 = nI (T.sf s) := h.2.2.2.2.2.2.2.1
theorem MT.st {T : Tw} {σ : ZS} (h : MT T σ) : ∀ s, s < T.ns → zI σ (107 + 1 + s) 1 = nI (T.st s) := h.2.2.2.2.2.2.2.2.1
theorem MT.sl {T : Tw} {σ : ZS} (h : MT T σ) : ∀ s, s < T.ns → zI σ (107 + 1 + s) 2 = nI (T.sl s) := h.2.2.2.2.2.2.2.2.2.1
theorem MT.so {T : Tw} {σ : ZS} (h : MT T σ) : ∀ s, s < T.ns → zI σ (107 + 1 + s) 3 = b2i (T.so s) := h.2.2.2.2.2.2.2.2.2.2.1
theorem MT.rf {T : Tw} {σ : ZS} (h : MT T σ) : ∀ r, r < T.nr → zI σ (145 + 1 + r) 0 = nI (T.rf r) := h.2.2.2.2.2.2.2.2.2.2.2.1
theorem MT.rt {T : Tw} {σ : ZS} (h : MT T σ) : ∀ r, r < T.nr → zI σ (145 + 1 + r) 1 = nI (T.rt r) := h.2.2.2.2.2.2.2.2.2.2.2.2.1
theorem MT.rb {T : Tw} {σ : ZS} (h : MT T σ) : ∀ r, r < T.nr → zI σ (145 + 1 + r) 2 = nI (T.rb r) := h.2.2.2.2.2.2.2.2.2.2.2.2.2.1
theorem MT.nl {T : Tw} {σ : ZS} (h : MT T σ) : zI σ 44 27 = nI T.nl := h.2.2.2.2.2.2.2.2.2.2.2.2.2.2.1
theorem MT.lf {T : Tw} {σ : ZS} (h : MT T σ) : ∀ k, k < T.nl → zI σ (569 + 1 + k) 0 = nI (T.lf k) := h.2.2.2.2.2.2.2.2.2.2.2.2.2.2.2.1
theorem MT.lt {T : Tw} {σ : ZS} (h : MT T σ) : ∀ k, k < T.nl → zI σ (569 + 1 + k) 1 = nI (T.lt k) := h.2.2.2.2.2.2.2.2.2.2.2.2.2.2.2.2
/-- what is not of the model's town -/
def noMT (c : Nat) : Prop := c ≠ 47 ∧ ¬ (66 ≤ c ∧ c < 82) ∧ ¬ (108 ≤ c ∧ c < 132) ∧ ¬ (146 ≤ c ∧ c < 158) ∧ c ≠ 1000027 ∧ ¬ (570 ≤ c ∧ c < 1146)
theorem MT.fr {T : Tw} {σ σ' : ZS} {S : Nat → Prop} (h : MT T σ) (f : Fr S σ σ') (hs : ∀ c, S c → noMT c) : MT T σ' := by
  have g : ∀ a i, ¬ noMT (cd a i) → zI σ' a i = zI σ a i := fun a i n => f.1 a i fun k => n (hs _ k)
  have w := h.wf
  have := w.nc; have := w.ns; have := w.nr; have := w.nl
  refine ⟨?_, ?_, ?_, ?_, ?_, ?_, ?_, ?_, ?_, ?_, ?_, ?_, ?_, ?_, ?_, ?_, ?_⟩
  · exact h.wf
  · rw [g 47 0 (by unfold noMT cd; simp), h.m0]
  · rw [g 47 1 (by unfold noMT cd; simp), h.m1]
  · rw [g 47 2 (by unfold noMT cd; simp), h.m2]
  · rw [g 47 3 (by unfold noMT cd; simp), h.m3]
  · intro i hi; rw [g _ _ (by unfold noMT cd; rw [if_neg (by omega), if_neg (by omega)]; omega), h.cx i hi]
  · intro i hi; rw [g _ _ (by unfold noMT cd; rw [if_neg (by omega), if_neg (by omega)]; omega), h.cy i hi]
  · intro i hi; rw [g _ _ (by unfold noMT cd; rw [if_neg (by omega), if_neg (by omega)]; omega), h.sf i hi]
  · intro i hi; rw [g _ _ (by unfold noMT cd; rw [if_neg (by omega), if_neg (by omega)]; omega), h.st i hi]
  · intro i hi; rw [g _ _ (by unfold noMT cd; rw [if_neg (by omega), if_neg (by omega)]; omega), h.sl i hi]
  · intro i hi; rw [g _ _ (by unfold noMT cd; rw [if_neg (by omega), if_neg (by omega)]; omega), h.so i hi]
  · intro i hi; rw [g _ _ (by unfold noMT cd; rw [if_neg (by omega), if_neg (by omega)]; omega), h.rf i hi]
  · intro i hi; rw [g _ _ (by unfold noMT cd; rw [if_neg (by omega), if_neg (by omega)]; omega), h.rt i hi]
  · intro i hi; rw [g _ _ (by unfold noMT cd; rw [if_neg (by omega), if_neg (by omega)]; omega), h.rb i hi]
  · rw [g 44 27 (by unfold noMT cd; simp), h.nl]
  · intro i hi; rw [g _ _ (by unfold noMT cd; rw [if_neg (by omega), if_neg (by omega)]; omega), h.lf i hi]
  · intro i hi; rw [g _ _ (by unfold noMT cd; rw [if_neg (by omega), if_neg (by omega)]; omega), h.lt i hi]
/-! the model's small methods -/
theorem vin {n N : Nat} (h : n < N) (hN : N < 2 ^ 31) : vp_in (nI n) N := vp_in_nI h hN
theorem nI_sub1 {a : Nat} (h : 1 ≤ a) : nI a - 1 = nI (a - 1) := by rw [n1]; exact pk_sub h
/-- 'in' of an int -/
theorem m_in {σ : ZS} {x lo hi : Int32} {Ret : Int32 → ZS → Prop} (h : Ret (b2i (decide (¬ x < lo) && decide (¬ hi < x))) σ) : wp_X4_in σ x lo hi Ret := by
  unfold wp_X4_in
  refine ⟨fun h1 => ?_, fun h1 => ⟨fun h2 => ?_, fun h2 => ?_⟩⟩
  · simpa [h1, b2i] using h
  · simpa [h1, h2, b2i] using h
  · simpa [h1, h2, b2i] using h
/-- x is one of 0 .. n - 1 -/
def inN (x : Int32) (n : Nat) : Bool := decide (0 ≤ x.toInt) && decide (x.toInt < n)
theorem inN_nI {a n : Nat} (h : a < 2 ^ 31) : inN (nI a) n = decide (a < n) := by
  unfold inN; rw [nI_toInt h]; simp
theorem inN_t {x : Int32} {n : Nat} (h : inN x n = true) : ∃ j, j < n ∧ x = nI j ∧ j < 2 ^ 31 := by
  unfold inN at h
  simp at h
  obtain ⟨j, hj, e⟩ := nI_of (x := x) (by rw [Int32.lt_iff_toInt_lt]; have : (0 : Int32).toInt = 0 := rfl; omega)
  refine ⟨j, ?_, e, hj⟩
  rw [e, nI_toInt hj] at h; omega
theorem toInt_sub1 {n : Nat} (h : n < 2 ^ 31) : (nI n - 1).toInt = (n : Int) - 1 := by
  rw [n1, Int32.toInt_sub, nI_toInt h, nI_toInt (by decide)]
  rw [Int.bmod_eq_of_le]
  · rfl
  · omega
  · omega
theorem m_inN {σ : ZS} {x : Int32} {n : Nat} {Ret : Int32 → ZS → Prop} (hn : n < 2 ^ 31) (h : Ret (b2i (inN x n)) σ) : wp_X4_in σ x 0 (nI n - 1) Ret := by
  refine m_in ?_
  have e : (decide (¬ x < 0) && decide (¬ nI n - 1 < x)) = inN x n := by
    unfold inN
    rw [Bool.eq_iff_iff]
    simp only [Bool.and_eq_true, decide_eq_true_eq, Int32.lt_iff_toInt_lt, toInt_sub1 hn]
    have : (0 : Int32).toInt = 0 := rfl
    omega
  rw [e]; exact h
def Tw.isArcI (T : Tw) (x : Int32) : Bool := inN x (2 * T.ns) && T.isArc (ix x)
theorem Tw.isArcI_nI (T : Tw) {a : Nat} (h : a < 2 ^ 31) : T.isArcI (nI a) = T.isArc a := by
  unfold Tw.isArcI; rw [inN_nI h, ix_nI h]; unfold Tw.isArc; by_cases h : a < 2 * T.ns <;> simp [h]
theorem m_isArc {T : Tw} {σ : ZS} (h : MT T σ) {x : Int32} {Ret : Int32 → ZS → Prop} (hr : Ret (b2i (T.isArcI x)) σ) : wp_X4_isArc σ x Ret := by
  unfold wp_X4_isArc
  have hns := h.wf.ns
  rw [ix1, h.m1, nI_2mul]
  refine m_inN (by omega) ?_
  cases hi : inN x (2 * T.ns)
  · unfold Tw.isArcI at hr
    rw [hi] at hr
    exact ⟨fun _ => hr, fun h => absurd rfl h⟩
  · obtain ⟨j, hj, e, hj2⟩ := inN_t hi
    subst e
    rw [T.isArcI_nI hj2] at hr
    refine ⟨fun h => absurd h (by decide), fun _ => ?_⟩
    rw [nI_rem2 hj2, nI_div2 hj2]
    unfold Tw.isArc at hr
    rw [nI_eq0 (by omega)]
    refine ⟨fun h1 => ?_, fun h1 => ⟨vin (by omega) (by decide), ?_⟩⟩
    · simpa [hj, h1, b2i] using hr
    · rw [ix_nI (by omega), ix3, h.so _ (by omega)]
      refine br0 (fun h2 => ?_) fun h2 => ?_
      · simpa [hj, h2, b2i] using hr
      · simpa [hj, h2, h1, b2i] using hr
theorem m_isArcN {T : Tw} {σ : ZS} (h : MT T σ) {a : Nat} (ha : a < 2 ^ 31) {Ret : Int32 → ZS → Prop} (hr : Ret (b2i (T.isArc a)) σ) : wp_X4_isArc σ (nI a) Ret := m_isArc h (by rw [T.isArcI_nI ha]; exact hr)
theorem m_begin {T : Tw} {σ : ZS} (h : MT T σ) {a : Nat} (ha : a < 2 * T.ns) {Ret : Int32 → ZS → Prop} (hr : Ret (nI (T.beg a)) σ) : wp_X4_beginOf σ (nI a) Ret := by
  unfold wp_X4_beginOf
  have := h.wf.ns
  rw [nI_rem2 (by omega), nI_div2 (by omega), ix_nI (by omega), ix_nI (by omega)]
  refine ⟨vin (by omega) (by decide), vin (by omega) (by decide), ?_⟩
  unfold Tw.beg at hr
  rcases Nat.mod_two_eq_zero_or_one a with e | e
  · rw [e, h.sf _ (by omega)]; rw [if_pos e] at hr; exact hr
  · rw [e, h.st _ (by omega)]; rw [if_neg (by omega)] at hr; exact hr
theorem m_end {T : Tw} {σ : ZS} (h : MT T σ) {a : Nat} (ha : a < 2 * T.ns) {Ret : Int32 → ZS → Prop} (hr : Ret (nI (T.fin a)) σ) : wp_X4_endOf σ (nI a) Ret := by
  unfold wp_X4_endOf
  have := h.wf.ns
  rw [nI_rem2 (by omega), nI_div2 (by omega), n1, pk_sub (show a % 2 ≤ 1 by omega), ix_nI (by omega), ix_nI (by omega)]
  refine ⟨vin (by omega) (by decide), vin (by omega) (by decide), ?_⟩
  unfold Tw.fin at hr
  rcases Nat.mod_two_eq_zero_or_one a with e | e
  · rw [e, h.st _ (by omega)]; rw [if_pos e] at hr; exact hr
  · rw [e, h.sf _ (by omega)]; rw [if_neg (by omega)] at hr; exact hr
theorem m_long {T : Tw} {σ : ZS} (h : MT T σ) {a : Nat} (ha : a < 2 * T.ns) {Ret : Int32 → ZS → Prop} (hr : Ret (nI (T.len a)) σ) : wp_X4_longOf σ (nI a) Ret := by
  unfold wp_X4_longOf
  have := h.wf.ns
  rw [nI_div2 (by omega), ix_nI (by omega), ix2, h.sl _ (by omega)]
  exact ⟨vin (by omega) (by decide), hr⟩
theorem m_way0 {T : Tw} {σ : ZS} (h : MT T σ) {a : Nat} (ha : a < 2 * T.ns) {Ret : Int32 → ZS → Prop} (hr : Ret (T.wx a) σ) : wp_X4_wayOf σ (nI a) 0 Ret := by
  unfold wp_X4_wayOf
  have := h.wf.nc
  have hb := h.wf.beg ha
  have hf := h.wf.fin ha
  refine m_end h ha ⟨vin (by omega) (by decide), vin (n := 0) (by omega) (by decide), m_begin h ha ⟨vin (by omega) (by decide), vin (n := 0) (by omega) (by decide), ?_⟩⟩
  rw [ix_nI (by omega), ix_nI (by omega), ix0, h.cx _ hb, h.cx _ hf]; exact hr
theorem m_way1 {T : Tw} {σ : ZS} (h : MT T σ) {a : Nat} (ha : a < 2 * T.ns) {Ret : Int32 → ZS → Prop} (hr : Ret (T.wy a) σ) : wp_X4_wayOf σ (nI a) 1 Ret := by
  unfold wp_X4_wayOf
  have := h.wf.nc
  have hb := h.wf.beg ha
  have hf := h.wf.fin ha
  refine m_end h ha ⟨vin (by omega) (by decide), vin (n := 1) (by omega) (by decide), m_begin h ha ⟨vin (by omega) (by decide), vin (n := 1) (by omega) (by decide), ?_⟩⟩
  rw [ix_nI (by omega), ix_nI (by omega), ix1, h.cy _ hb, h.cy _ hf]; exact hr
theorem m_turn {T : Tw} {σ : ZS} (h : MT T σ) {a b : Nat} (ha : a < 2 * T.ns) (hb : b < 2 * T.ns) {Ret : Int32 → ZS → Prop} (hr : Ret (T.turn a b) σ) : wp_X4_turnOf σ (nI a) (nI b) Ret := by
  unfold wp_X4_turnOf
  have := h.wf.ns
  have := h.wf.nc
  have hb1 := h.wf.beg hb
  have hf1 := h.wf.fin ha
  refine m_end h ha (m_begin h hb ?_)
  unfold Tw.turn at hr
  rw [nI_eq (by omega) (by omega)]
  refine ⟨fun h1 => ?_, fun h1 => by rw [if_neg h1] at hr; exact hr⟩
  rw [if_pos h1] at hr
  rw [nI_div2 (by omega), nI_div2 (by omega), nI_eq (by omega) (by omega)]
  refine ⟨fun h2 => by rw [if_pos h2] at hr; exact hr, fun h2 => ?_⟩
  rw [if_neg h2] at hr
  refine m_way0 h ha (m_way1 h hb (m_way1 h ha (m_way0 h hb ?_)))
  intro y hy
  subst hy
  refine ⟨fun h3 => ?_, fun h3 => ?_⟩
  · rw [if_pos h3] at hr
    refine m_way0 h ha (m_way0 h hb (m_way1 h ha (m_way1 h hb ?_)))
    refine ⟨fun h4 => by rw [if_pos h4] at hr; exact hr, fun h4 => by rw [if_neg h4] at hr; exact hr⟩
  · rw [if_neg h3] at hr
    refine ⟨fun h4 => by rw [if_pos h4] at hr; exact hr, fun h4 => by rw [if_neg h4] at hr; exact hr⟩

/-! as it is asked: signs and allowed turns now -/
def mayN (T : Tw) (sn an : Nat → Int32) (a b : Nat) : Bool := (decide (T.turn a b = 1) || decide (T.turn a b = 2) || decide (T.turn a b = 3) && btI (an (a / 2)) (b / 2)) && !btI (sn (a / 2)) (b / 2)
/-- the model's signNow, allowedNow -/
def NowM (sn an : Nat → Int32) (σ : ZS) : Prop := ∀ s, s < 24 → zI σ 564 s = sn s ∧ zI σ 565 s = an s
theorem m_mayNow {T : Tw} {σ : ZS} (h : MT T σ) {sn an : Nat → Int32} (hn : NowM sn an σ) {a b : Nat} (ha : a < 2 * T.ns) (hb : b < 2 * T.ns) {Ret : Int32 → ZS → Prop} (hr : Ret (b2i (mayN T sn an a b)) σ) : wp_X4_mayNow σ (nI a) (nI b) Ret := by
  unfold wp_X4_mayNow
  have hns := h.wf.ns
  refine m_turn h ha hb ?_
  have k44 : (mayN T sn an a b = false) → V_X4_mayNow_44 Ret σ (nI a) (nI b) := by
    intro e
    unfold V_X4_mayNow_44 V_X4_mayNow_45
    rw [e] at hr
    exact ⟨fun _ => hr, fun h => absurd rfl h⟩
  have k40 : (mayN T sn an a b = !btI (sn (a / 2)) (b / 2)) → V_X4_mayNow_40 Ret σ (nI a) (nI b) := by
    intro e
    unfold V_X4_mayNow_40 V_X4_mayNow_45
    refine ⟨fun h => absurd h (by decide), fun _ => ?_⟩
    rw [nI_div2 (by omega), nI_div2 (by omega), ix_nI (by omega), (hn _ (by omega)).1, tst _ (by omega)]
    refine ⟨vin (by omega) (by decide), br0 (fun h1 => ?_) fun h1 => ?_⟩
    · rw [e, h1] at hr; exact hr
    · rw [e, h1] at hr; exact hr
  unfold mayN at k44 k40
  refine ⟨fun h1 => k40 (by simp [h1]), fun h1 => ⟨fun h2 => k40 (by simp [h2]), fun h2 => ⟨fun h3 => ?_, fun h3 => k44 (by simp [h1, h2, h3])⟩⟩⟩
  rw [nI_div2 (by omega), nI_div2 (by omega), ix_nI (by omega), (hn _ (by omega)).2, tst _ (by omega), b2i_1]
  exact ⟨vin (by omega) (by decide), fun h4 => k40 (by simp [h3, h4]), fun h4 => k44 (by simp [h3, h4])⟩
/-! the class's town: where its objects lie -/
def Ad : Type := (Nat) × (Nat) × (Nat) × (Nat → Nat) × (Nat) × (Nat) × (Nat → Nat) × (Nat) × (Nat) × (Nat → Nat) × (Nat) × (Nat)
def Ad.mk (tw : Nat) (lc : Nat) (ec : Nat) (co : Nat → Nat) (ls : Nat) (es : Nat) (so : Nat → Nat) (lr : Nat) (er : Nat) (ro : Nat → Nat) (lf : Nat) (lt : Nat) : Ad := (tw, lc, ec, co, ls, es, so, lr, er, ro, lf, lt)
def Ad.tw (x : Ad) : Nat := x.1
def Ad.lc (x : Ad) : Nat := x.2.1
def Ad.ec (x : Ad) : Nat := x.2.2.1
def Ad.co (x : Ad) : Nat → Nat := x.2.2.2.1
def Ad.ls (x : Ad) : Nat := x.2.2.2.2.1
def Ad.es (x : Ad) : Nat := x.2.2.2.2.2.1
def Ad.so (x : Ad) : Nat → Nat := x.2.2.2.2.2.2.1
def Ad.lr (x : Ad) : Nat := x.2.2.2.2.2.2.2.1
def Ad.er (x : Ad) : Nat := x.2.2.2.2.2.2.2.2.1
def Ad.ro (x : Ad) : Nat → Nat := x.2.2.2.2.2.2.2.2.2.1
def Ad.lf (x : Ad) : Nat := x.2.2.2.2.2.2.2.2.2.2.1
def Ad.lt (x : Ad) : Nat := x.2.2.2.2.2.2.2.2.2.2.2
/-- where an object of a town may lie -/
def okA (p : Nat) : Prop := (1 ≤ p ∧ p < 12) ∨ (1239 ≤ p ∧ p < 200000)
/-- an ArrayList and what it holds -/
abbrev LSt (σ : ZS) (l e n ki : Nat) (ad : Nat → Nat) : Prop := (okA l) ∧ (okA e) ∧ (∃ m, kK NS σ l = (16, m)) ∧ (zI σ l 2 = nI n) ∧ (kP NS σ l 1 = some (.inl e)) ∧ (∃ m, kK NS σ e = (6, m) ∧ n ≤ m ∧ m < 2 ^ 31) ∧ (∀ i, i < n → kP NS σ e i = some (.inl (ad i)) ∧ okA (ad i) ∧ ∃ m, kK NS σ (ad i) = (ki, m))
theorem LSt.ol {σ : ZS} {l e n ki : Nat} {ad : Nat → Nat} (h : LSt σ l e n ki ad) : okA l := h.1
theorem LSt.oe {σ : ZS} {l e n ki : Nat} {ad : Nat → Nat} (h : LSt σ l e n ki ad) : okA e := h.2.1
theorem LSt.kl {σ : ZS} {l e n ki : Nat} {ad : Nat → Nat} (h : LSt σ l e n ki ad) : ∃ m, kK NS σ l = (16, m) := h.2.2.1
theorem LSt.sz {σ : ZS} {l e n ki : Nat} {ad : Nat → Nat} (h : LSt σ l e n ki ad) : zI σ l 2 = nI n := h.2.2.2.1
theorem LSt.pe {σ : ZS} {l e n ki : Nat} {ad : Nat → Nat} (h : LSt σ l e n ki ad) : kP NS σ l 1 = some (.inl e) := h.2.2.2.2.1
theorem LSt.ke {σ : ZS} {l e n ki : Nat} {ad : Nat → Nat} (h : LSt σ l e n ki ad) : ∃ m, kK NS σ e = (6, m) ∧ n ≤ m ∧ m < 2 ^ 31 := h.2.2.2.2.2.1
theorem LSt.pi {σ : ZS} {l e n ki : Nat} {ad : Nat → Nat} (h : LSt σ l e n ki ad) : ∀ i, i < n → kP NS σ e i = some (.inl (ad i)) ∧ okA (ad i) ∧ ∃ m, kK NS σ (ad i) = (ki, m) := h.2.2.2.2.2.2
theorem okA_cd {p i : Nat} (h : okA p) : cd p i = p := by
  unfold okA at h; unfold cd; rw [if_neg (by omega), if_neg (by omega)]
/-- what is not of an object of a town -/
def noA (c : Nat) : Prop := 12 ≤ c ∧ (c < 1239 ∨ 200000 ≤ c)
theorem noA_ok {p i : Nat} (h : okA p) : ¬ noA (cd p i) := by
  rw [okA_cd h]; unfold okA at h; unfold noA; omega
theorem LSt.fr {σ σ' : ZS} {l e n ki : Nat} {ad : Nat → Nat} {S : Nat → Prop} (h : LSt σ l e n ki ad) (f : Fr S σ σ') (hs : ∀ c, S c → noA c) : LSt σ' l e n ki ad := by
  refine ⟨?_, ?_, ?_, ?_, ?_, ?_, ?_⟩
  · exact h.ol
  · exact h.oe
  · rw [f.K]; exact h.kl
  · rw [f.1 _ _ fun k => noA_ok h.ol (hs _ k), h.sz]
  · rw [f.P]; exact h.pe
  · rw [f.K]; exact h.ke
  · intro i hi; rw [f.P, f.K]; exact h.pi i hi
theorem j_size {σ : ZS} {l e n ki : Nat} {ad : Nat → Nat} (h : LSt σ l e n ki ad) {Ret : Int32 → ZS → Prop} (hr : Ret (nI n) σ) : wp_J2_size σ l Ret := by
  unfold wp_J2_size
  rw [h.sz]; exact ⟨h.kl, hr⟩
theorem j_get {σ : ZS} {l e n ki : Nat} {ad : Nat → Nat} (h : LSt σ l e n ki ad) {i : Nat} (hi : i < n) {Ret : ZR → ZS → Prop} (hr : Ret (some (.inl (ad i))) σ) : wp_J2_get σ l (nI i) Ret := by
  obtain ⟨m, hk, hn, hm⟩ := h.ke
  unfold wp_J2_get wp_J17_checkIndex wp_J14_checkIndex wp_J2_elementData
  dsimp only
  rw [h.sz, h.pe, zo_in, ix_nI (by omega), (h.pi i hi).1]
  refine ⟨h.kl, fun h1 => absurd h1 (nI_pos (by omega)), fun _ => ⟨fun _ => ⟨h.kl, h.kl, rfl, m, hk, vin (by omega) hm, hr⟩, fun h2 => h2 (nI_lt hi (by omega))⟩⟩
abbrev CT (T : Tw) (d : Ad) (σ : ZS) : Prop := (T.WF) ∧ (zP σ 0 0 = some (.inl d.tw)) ∧ (okA d.tw) ∧ (∃ m, kK NS σ d.tw = (8, m)) ∧ (kP NS σ d.tw 0 = some (.inl d.lc)) ∧ (kP NS σ d.tw 1 = some (.inl d.ls)) ∧ (kP NS σ d.tw 2 = some (.inl d.lr)) ∧ (kP NS σ d.tw 5 = some (.inl d.lf)) ∧ (kP NS σ d.tw 6 = some (.inl d.lt)) ∧ (kK NS σ d.lf = (0, 576)) ∧ (kK NS σ d.lt = (0, 576)) ∧ (okA d.lf) ∧ (okA d.lt) ∧ (LSt σ d.lc d.ec T.nc 13 d.co) ∧ (LSt σ d.ls d.es T.ns 14 d.so) ∧ (LSt σ d.lr d.er T.nr 15 d.ro) ∧ (zI σ d.tw 7 = T.bx) ∧ (zI σ d.tw 8 = nI T.nl) ∧ (∀ k, k < T.nl → zI σ d.lf k = nI (T.lf k)) ∧ (∀ k, k < T.nl → zI σ d.lt k = nI (T.lt k)) ∧ (∀ i, i < T.nc → zI σ (d.co i) 0 = T.cx i) ∧ (∀ i, i < T.nc → zI σ (d.co i) 1 = T.cy i) ∧ (∀ s, s < T.ns → zI σ (d.so s) 0 = nI (T.sf s)) ∧ (∀ s, s < T.ns → zI σ (d.so s) 1 = nI (T.st s)) ∧ (∀ s, s < T.ns → zI σ (d.so s) 2 = nI (T.sl s)) ∧ (∀ s, s < T.ns → zI σ (d.so s) 3 = b2i (T.so s)) ∧ (∀ r, r < T.nr → zI σ (d.ro r) 0 = nI (T.rf r)) ∧ (∀ r, r < T.nr → zI σ (d.ro r) 1 = nI (T.rt r)) ∧ (∀ r, r < T.nr → zI σ (d.ro r) 2 = nI (T.rb r))
theorem CT.wf {T : Tw} {d : Ad} {σ : ZS} (h : CT T d σ) : T.WF := h.1
theorem CT.pt {T : Tw} {d : Ad} {σ : ZS} (h : CT T d σ) : zP σ 0 0 = some (.inl d.tw) := h.2.1
theorem CT.ot {T : Tw} {d : Ad} {σ : ZS} (h : CT T d σ) : okA d.tw := h.2.2.1
theorem CT.kt {T : Tw} {d : Ad} {σ : ZS} (h : CT T d σ) : ∃ m, kK NS σ d.tw = (8, m) := h.2.2.2.1
theorem CT.p0 {T : Tw} {d : Ad} {σ : ZS} (h : CT T d σ) : kP NS σ d.tw 0 = some (.inl d.lc) := h.2.2.2.2.1
theorem CT.p1 {T : Tw} {d : Ad} {σ : ZS} (h : CT T d σ) : kP NS σ d.tw 1 = some (.inl d.ls) := h.2.2.2.2.2.1
theorem CT.p2 {T : Tw} {d : Ad} {σ : ZS} (h : CT T d σ) : kP NS σ d.tw 2 = some (.inl d.lr) := h.2.2.2.2.2.2.1
theorem CT.p5 {T : Tw} {d : Ad} {σ : ZS} (h : CT T d σ) : kP NS σ d.tw 5 = some (.inl d.lf) := h.2.2.2.2.2.2.2.1
theorem CT.p6 {T : Tw} {d : Ad} {σ : ZS} (h : CT T d σ) : kP NS σ d.tw 6 = some (.inl d.lt) := h.2.2.2.2.2.2.2.2.1
theorem CT.k5 {T : Tw} {d : Ad} {σ : ZS} (h : CT T d σ) : kK NS σ d.lf = (0, 576) := h.2.2.2.2.2.2.2.2.2.1
theorem CT.k6 {T : Tw} {d : Ad} {σ : ZS} (h : CT T d σ) : kK NS σ d.lt = (0, 576) := h.2.2.2.2.2.2.2.2.2.2.1
theorem CT.o5 {T : Tw} {d : Ad} {σ : ZS} (h : CT T d σ) : okA d.lf := h.2.2.2.2.2.2.2.2.2.2.2.1
theorem CT.o6 {T : Tw} {d : Ad} {σ : ZS} (h : CT T d σ) : okA d.lt := h.2.2.2.2.2.2.2.2.2.2.2.2.1
theorem CT.lc {T : Tw} {d : Ad} {σ : ZS} (h : CT T d σ) : LSt σ d.lc d.ec T.nc 13 d.co := h.2.2.2.2.2.2.2.2.2.2.2.2.2.1
theorem CT.ls {T : Tw} {d : Ad} {σ : ZS} (h : CT T d σ) : LSt σ d.ls d.es T.ns 14 d.so := h.2.2.2.2.2.2.2.2.2.2.2.2.2.2.1
theorem CT.lr {T : Tw} {d : Ad} {σ : ZS} (h : CT T d σ) : LSt σ d.lr d.er T.nr 15 d.ro := h.2.2.2.2.2.2.2.2.2.2.2.2.2.2.2.1
theorem CT.bx {T : Tw} {d : Ad} {σ : ZS} (h : CT T d σ) : zI σ d.tw 7 = T.bx := h.2.2.2.2.2.2.2.2.2.2.2.2.2.2.2.2.1
theorem CT.nl {T : Tw} {d : Ad} {σ : ZS} (h : CT T d σ) : zI σ d.tw 8 = nI T.nl := h.2.2.2.2.2.2.2.2.2.2.2.2.2.2.2.2.2.1
theorem CT.lf {T : Tw} {d : Ad} {σ : ZS} (h : CT T d σ) : ∀ k, k < T.nl → zI σ d.lf k = nI (T.lf k) := h.2.2.2.2.2.2.2.2.2.2.2.2.2.2.2.2.2.2.1
theorem CT.lt {T : Tw} {d : Ad} {σ : ZS} (h : CT T d σ) : ∀ k, k < T.nl → zI σ d.lt k = nI (T.lt k) := h.2.2.2.2.2.2.2.2.2.2.2.2.2.2.2.2.2.2.2.1
theorem CT.cx {T : Tw} {d : Ad} {σ : ZS} (h : CT T d σ) : ∀ i, i < T.nc → zI σ (d.co i) 0 = T.cx i := h.2.2.2.2.2.2.2.2.2.2.2.2.2.2.2.2.2.2.2.2.1
theorem CT.cy {T : Tw} {d : Ad} {σ : ZS} (h : CT T d σ) : ∀ i, i < T.nc → zI σ (d.co i) 1 = T.cy i := h.2.2.2.2.2.2.2.2.2.2.2.2.2.2.2.2.2.2.2.2.2.1
theorem CT.sf {T : Tw} {d : Ad} {σ : ZS} (h : CT T d σ) : ∀ s, s < T.ns → zI σ (d.so s) 0 = nI (T.sf s) := h.2.2.2.2.2.2.2.2.2.2.2.2.2.2.2.2.2.2.2.2.2.2.1
theorem CT.st {T : Tw} {d : Ad} {σ : ZS} (h : CT T d σ) : ∀ s, s < T.ns → zI σ (d.so s) 1 = nI (T.st s) := h.2.2.2.2.2.2.2.2.2.2.2.2.2.2.2.2.2.2.2.2.2.2.2.1
theorem CT.sl {T : Tw} {d : Ad} {σ : ZS} (h : CT T d σ) : ∀ s, s < T.ns → zI σ (d.so s) 2 = nI (T.sl s) := h.2.2.2.2.2.2.2.2.2.2.2.2.2.2.2.2.2.2.2.2.2.2.2.2.1
theorem CT.so {T : Tw} {d : Ad} {σ : ZS} (h : CT T d σ) : ∀ s, s < T.ns → zI σ (d.so s) 3 = b2i (T.so s) := h.2.2.2.2.2.2.2.2.2.2.2.2.2.2.2.2.2.2.2.2.2.2.2.2.2.1
theorem CT.rf {T : Tw} {d : Ad} {σ : ZS} (h : CT T d σ) : ∀ r, r < T.nr → zI σ (d.ro r) 0 = nI (T.rf r) := h.2.2.2.2.2.2.2.2.2.2.2.2.2.2.2.2.2.2.2.2.2.2.2.2.2.2.1
theorem CT.rt {T : Tw} {d : Ad} {σ : ZS} (h : CT T d σ) : ∀ r, r < T.nr → zI σ (d.ro r) 1 = nI (T.rt r) := h.2.2.2.2.2.2.2.2.2.2.2.2.2.2.2.2.2.2.2.2.2.2.2.2.2.2.2.1
theorem CT.rb {T : Tw} {d : Ad} {σ : ZS} (h : CT T d σ) : ∀ r, r < T.nr → zI σ (d.ro r) 2 = nI (T.rb r) := h.2.2.2.2.2.2.2.2.2.2.2.2.2.2.2.2.2.2.2.2.2.2.2.2.2.2.2.2
theorem CT.fr {T : Tw} {d : Ad} {σ σ' : ZS} {S : Nat → Prop} (h : CT T d σ) (f : Fr S σ σ') (hs : ∀ c, S c → noA c) : CT T d σ' := by
  have g : ∀ p i, okA p → zI σ' p i = zI σ p i := fun p i o => f.1 p i fun k => noA_ok o (hs _ k)
  exact ⟨h.wf, by rw [f.ep]; exact h.pt, h.ot, by rw [f.K]; exact h.kt, by rw [f.P]; exact h.p0, by rw [f.P]; exact h.p1, by rw [f.P]; exact h.p2, by rw [f.P]; exact h.p5, by rw [f.P]; exact h.p6, by rw [f.K]; exact h.k5, by rw [f.K]; exact h.k6, h.o5, h.o6, h.lc.fr f hs, h.ls.fr f hs, h.lr.fr f hs, by rw [g _ _ h.ot]; exact h.bx, by rw [g _ _ h.ot]; exact h.nl, fun k hk => by rw [g _ _ h.o5]; exact h.lf k hk, fun k hk => by rw [g _ _ h.o6]; exact h.lt k hk, fun k hk => by rw [g _ _ (h.lc.pi k hk).2.1]; exact h.cx k hk, fun k hk => by rw [g _ _ (h.lc.pi k hk).2.1]; exact h.cy k hk, fun k hk => by rw [g _ _ (h.ls.pi k hk).2.1]; exact h.sf k hk, fun k hk => by rw [g _ _ (h.ls.pi k hk).2.1]; exact h.st k hk, fun k hk => by rw [g _ _ (h.ls.pi k hk).2.1]; exact h.sl k hk, fun k hk => by rw [g _ _ (h.ls.pi k hk).2.1]; exact h.so k hk, fun k hk => by rw [g _ _ (h.lr.pi k hk).2.1]; exact h.rf k hk, fun k hk => by rw [g _ _ (h.lr.pi k hk).2.1]; exact h.rt k hk, fun k hk => by rw [g _ _ (h.lr.pi k hk).2.1]; exact h.rb k hk⟩
/-! the class's small methods -/
theorem c_arcs {T : Tw} {d : Ad} {σ : ZS} (h : CT T d σ) {Ret : Int32 → ZS → Prop} (hr : Ret (nI (2 * T.ns)) σ) : wp_X2_arcs σ d.tw Ret := by
  unfold wp_X2_arcs
  rw [h.p1, zo_in]
  refine ⟨h.kt, rfl, h.ls.kl, j_size h.ls ?_⟩
  rw [nI_2mul]; exact hr
theorem c_corners {T : Tw} {d : Ad} {σ : ZS} (h : CT T d σ) {Ret : Int32 → ZS → Prop} (hr : Ret (nI T.nc) σ) : wp_X1_corners σ Ret := by
  unfold wp_X1_corners
  rw [h.pt, zo_in, h.p0, zo_in]
  exact ⟨rfl, h.kt, rfl, h.lc.kl, j_size h.lc hr⟩
theorem c_of {T : Tw} {d : Ad} {σ : ZS} (h : CT T d σ) {a : Nat} (ha : a < 2 * T.ns) {Ret : ZR → ZS → Prop} (hr : Ret (some (.inl (d.so (a / 2)))) σ) : wp_X2_of σ d.tw (nI a) Ret := by
  unfold wp_X2_of
  have := h.wf.ns
  rw [h.p1, zo_in, nI_div2 (by omega)]
  exact ⟨h.kt, rfl, h.ls.kl, j_get h.ls (by omega) ⟨rfl, (h.ls.pi _ (by omega)).2.2, hr⟩⟩
theorem c_isArc {T : Tw} {d : Ad} {σ : ZS} (h : CT T d σ) {x : Int32} {Ret : Int32 → ZS → Prop} (hr : Ret (b2i (T.isArcI x)) σ) : wp_X2_isArc σ d.tw x Ret := by
  unfold wp_X2_isArc
  have hns := h.wf.ns
  refine ⟨fun h1 => ?_, fun h1 => ⟨h.kt, c_arcs h ⟨fun h2 => ?_, fun h2 => ?_⟩⟩⟩
  · have : T.isArcI x = false := by
      unfold Tw.isArcI inN
      rw [Int32.lt_iff_toInt_lt] at h1
      have : (0 : Int32).toInt = 0 := rfl
      have : ¬ (0 ≤ x.toInt) := by omega
      simp [this]
    rw [this] at hr; exact hr
  · obtain ⟨j, hj, e⟩ := nI_of h1
    subst e
    rw [T.isArcI_nI hj] at hr
    have hj2 : j < 2 * T.ns := (nI_ltI hj (by omega)).mp h2
    unfold Tw.isArc at hr
    rw [nI_rem2 hj, nI_eq1 (by omega)]
    refine ⟨fun h3 => ⟨h.kt, c_of h hj2 ⟨rfl, (h.ls.pi _ (by omega)).2.2, ?_⟩⟩, fun h3 => ?_⟩
    · rw [zo_in, h.so _ (by omega)]
      refine br0 (fun h4 => ?_) fun h4 => ?_
      · simpa [hj2, h4, b2i] using hr
      · simpa [hj2, h4, h3, b2i] using hr
    · have h5 : j % 2 = 0 := by omega
      simpa [hj2, h5, b2i] using hr
  · have : T.isArcI x = false := by
      obtain ⟨j, hj, e⟩ := nI_of h1
      subst e
      rw [T.isArcI_nI hj]
      have : ¬ j < 2 * T.ns := fun k => h2 (nI_lt k (by omega))
      unfold Tw.isArc; simp [this]
    rw [this] at hr; exact hr
theorem c_isArcN {T : Tw} {d : Ad} {σ : ZS} (h : CT T d σ) {a : Nat} (ha : a < 2 ^ 31) {Ret : Int32 → ZS → Prop} (hr : Ret (b2i (T.isArc a)) σ) : wp_X2_isArc σ d.tw (nI a) Ret := c_isArc h (by rw [T.isArcI_nI ha]; exact hr)
theorem c_begin {T : Tw} {d : Ad} {σ : ZS} (h : CT T d σ) {a : Nat} (ha : a < 2 * T.ns) {Ret : Int32 → ZS → Prop} (hr : Ret (nI (T.beg a)) σ) : wp_X2_begin σ d.tw (nI a) Ret := by
  unfold wp_X2_begin
  have := h.wf.ns
  rw [nI_rem2 (by omega), nI_eq0 (by omega)]
  unfold Tw.beg at hr
  refine ⟨fun h3 => ⟨h.kt, c_of h ha ⟨rfl, (h.ls.pi _ (by omega)).2.2, ?_⟩⟩, fun h3 => ⟨h.kt, c_of h ha ⟨rfl, (h.ls.pi _ (by omega)).2.2, ?_⟩⟩⟩
  · rw [zo_in, h.sf _ (by omega)]; rw [if_pos h3] at hr; exact hr
  · rw [zo_in, h.st _ (by omega)]; rw [if_neg h3] at hr; exact hr
theorem c_end {T : Tw} {d : Ad} {σ : ZS} (h : CT T d σ) {a : Nat} (ha : a < 2 * T.ns) {Ret : Int32 → ZS → Prop} (hr : Ret (nI (T.fin a)) σ) : wp_X2_end σ d.tw (nI a) Ret := by
  unfold wp_X2_end
  have := h.wf.ns
  rw [nI_rem2 (by omega), nI_eq0 (by omega)]
  unfold Tw.fin at hr
  refine ⟨fun h3 => ⟨h.kt, c_of h ha ⟨rfl, (h.ls.pi _ (by omega)).2.2, ?_⟩⟩, fun h3 => ⟨h.kt, c_of h ha ⟨rfl, (h.ls.pi _ (by omega)).2.2, ?_⟩⟩⟩
  · rw [zo_in, h.st _ (by omega)]; rw [if_pos h3] at hr; exact hr
  · rw [zo_in, h.sf _ (by omega)]; rw [if_neg h3] at hr; exact hr
theorem c_length {T : Tw} {d : Ad} {σ : ZS} (h : CT T d σ) {a : Nat} (ha : a < 2 * T.ns) {Ret : Int32 → ZS → Prop} (hr : Ret (nI (T.len a)) σ) : wp_X2_length σ d.tw (nI a) Ret := by
  unfold wp_X2_length
  exact ⟨h.kt, c_of h ha ⟨rfl, (h.ls.pi _ (by omega)).2.2, by rw [zo_in, h.sl _ (by omega)]; exact hr⟩⟩
theorem c_turn {T : Tw} {d : Ad} {σ : ZS} (h : CT T d σ) {a b : Nat} (ha : a < 2 * T.ns) (hb : b < 2 * T.ns) {Ret : Int32 → ZS → Prop} (hr : Ret (T.turn a b) σ) : wp_X2_turn σ d.tw (nI a) (nI b) Ret := by
  unfold wp_X2_turn
  have := h.wf.ns
  have := h.wf.nc
  have hb1 := h.wf.beg hb
  have hf1 := h.wf.fin ha
  have hb2 := h.wf.beg ha
  have hf2 := h.wf.fin hb
  have kc : ∀ i, i < T.nc → ∃ m, kK NS σ (d.co i) = (13, m) := fun i hi => (h.lc.pi i hi).2.2
  refine ⟨h.kt, c_end h ha ⟨h.kt, c_begin h hb ?_⟩⟩
  unfold Tw.turn at hr
  rw [nI_eq (by omega) (by omega)]
  refine ⟨fun h1 => ?_, fun h1 => by rw [if_neg h1] at hr; exact hr⟩
  rw [if_pos h1] at hr
  rw [nI_div2 (by omega), nI_div2 (by omega), nI_eq (by omega) (by omega)]
  refine ⟨fun h2 => by rw [if_pos h2] at hr; exact hr, fun h2 => ?_⟩
  rw [if_neg h2] at hr
  rw [h.p0, zo_in]
  refine ⟨h.kt, rfl, h.kt, c_begin h ha ⟨h.lc.kl, j_get h.lc hb2 ⟨rfl, kc _ hb2, h.kt, ?_⟩⟩⟩
  rw [h.p0, zo_in]
  refine ⟨rfl, h.kt, c_end h ha ⟨h.lc.kl, j_get h.lc hf1 ⟨rfl, kc _ hf1, h.kt, ?_⟩⟩⟩
  rw [h.p0, zo_in]
  refine ⟨rfl, h.kt, c_end h hb ⟨h.lc.kl, j_get h.lc hf2 ⟨rfl, kc _ hf2, ?_⟩⟩⟩
  simp only [zo_in]
  refine ⟨kc _ hf1, kc _ hb2, kc _ hf2, kc _ hf1, kc _ hf1, kc _ hb2, kc _ hf2, kc _ hf1, ?_⟩
  intro y hy
  refine ⟨kc _ hf1, kc _ hb2, kc _ hf2, kc _ hf1, kc _ hf1, kc _ hb2, kc _ hf2, kc _ hf1, ?_⟩
  intro z hz
  rw [h.cx _ hf1, h.cx _ hb2, h.cx _ hf2, h.cy _ hf1, h.cy _ hb2, h.cy _ hf2] at hy hz
  have e1 : T.wx b = T.cx (T.fin b) - T.cx (T.fin a) := by unfold Tw.wx; rw [h1]
  have e2 : T.wy b = T.cy (T.fin b) - T.cy (T.fin a) := by unfold Tw.wy; rw [h1]
  have hy' : y = T.wx a * T.wy b - T.wy a * T.wx b := by rw [hy, e1, e2]; rfl
  have hz' : z = T.wx a * T.wx b + T.wy a * T.wy b := by rw [hz, e1, e2]; rfl
  rw [← hy', ← hz'] at hr
  have t : y = 0 ∨ 0 < y ∨ y < 0 := by
    rw [Int32.lt_iff_toInt_lt, Int32.lt_iff_toInt_lt, ← Int32.toInt_inj]
    have : (0 : Int32).toInt = 0 := rfl
    omega
  have t2 : ¬ (0 < y ∧ y < 0) := by
    rw [Int32.lt_iff_toInt_lt, Int32.lt_iff_toInt_lt]
    omega
  have t3 : 0 < y → y ≠ 0 := fun h e => by subst e; exact absurd h (by decide)
  have t4 : y < 0 → y ≠ 0 := fun h e => by subst e; exact absurd h (by decide)
  refine ⟨fun h3 => ?_, fun h3 => ⟨fun h4 => ?_, fun h4 => ?_⟩⟩
  · rw [if_neg (t3 h3), if_pos h3] at hr; exact hr
  · rw [if_neg (t4 h4), if_neg h3] at hr; exact hr
  · have e : y = 0 := by rcases t with t | t | t; exact t; exact absurd t h3; exact absurd t h4
    rw [if_pos e] at hr
    refine ⟨fun h5 => by rw [if_pos h5] at hr; exact hr, fun h5 => by rw [if_neg h5] at hr; exact hr⟩
/-! the class: signs and allowed turns at a time, and what is tried -/
def mayC (T : Tw) (fr : Bool) (sn an mo fe : Nat → Int32) (a b : Nat) : Bool := !decide (T.turn a b = -1) && !decide (T.turn a b = 0) && (fr || !btI (sn (a / 2)) (b / 2) && (!decide (T.turn a b = 3) || btI (mo (a / 2)) (b / 2) || btI (an (a / 2)) (b / 2) && !btI (fe (a / 2)) (b / 2)))
/-- the class's history: rows of signs and allowed turns by time -/
abbrev CH (tm : Nat) (sg al : Nat → Nat → Int32) (σ : ZS) : Prop := (tm ≤ 200) ∧ (zI σ 12 3 = nI tm) ∧ (∀ t, t ≤ tm → ∀ s, s < 24 → zI σ 13 (24 * t + s) = sg t s) ∧ (∀ t, t ≤ tm → ∀ s, s < 24 → zI σ 14 (24 * t + s) = al t s)
theorem CH.ht {tm : Nat} {sg al : Nat → Nat → Int32} {σ : ZS} (h : CH tm sg al σ) : tm ≤ 200 := h.1
theorem CH.et {tm : Nat} {sg al : Nat → Nat → Int32} {σ : ZS} (h : CH tm sg al σ) : zI σ 12 3 = nI tm := h.2.1
theorem CH.es {tm : Nat} {sg al : Nat → Nat → Int32} {σ : ZS} (h : CH tm sg al σ) : ∀ t, t ≤ tm → ∀ s, s < 24 → zI σ 13 (24 * t + s) = sg t s := h.2.2.1
theorem CH.ea {tm : Nat} {sg al : Nat → Nat → Int32} {σ : ZS} (h : CH tm sg al σ) : ∀ t, t ≤ tm → ∀ s, s < 24 → zI σ 14 (24 * t + s) = al t s := h.2.2.2
theorem CH.fr {tm : Nat} {sg al : Nat → Nat → Int32} {σ σ' : ZS} {S : Nat → Prop} (h : CH tm sg al σ) (f : Fr S σ σ') (hs : ∀ c, S c → c ≠ 12 ∧ c ≠ 13 ∧ c ≠ 14) : CH tm sg al σ' := by
  refine ⟨h.ht, ?_, fun t ht s hs' => ?_, fun t ht s hs' => ?_⟩
  · rw [f.1 12 3 fun k => (hs _ k).1 rfl, h.et]
  · rw [f.1 13 _ fun k => (hs _ k).2.1 rfl, h.es t ht s hs']
  · rw [f.1 14 _ fun k => (hs _ k).2.2 rfl, h.ea t ht s hs']
theorem k12 (σ : ZS) : kK NS σ 12 = (9, 0) := rfl
theorem k13 (σ : ZS) : kK NS σ 13 = (0, 4824) := rfl
theorem k14 (σ : ZS) : kK NS σ 14 = (0, 4824) := rfl
theorem p120 (σ : ZS) : kP NS σ 12 0 = some (.inl 13) := rfl
theorem p121 (σ : ZS) : kP NS σ 12 1 = some (.inl 14) := rfl
theorem p122 (σ : ZS) : kP NS σ 12 2 = some (.inl 15) := rfl
theorem c_isSigned {tm : Nat} {sg al : Nat → Nat → Int32} {σ : ZS} (h : CH tm sg al σ) {t s k : Nat} (ht : t ≤ tm) (hs : s < 24) (hk : k < 32) {Ret : Int32 → ZS → Prop} (hr : Ret (b2i (btI (sg t s) k)) σ) : wp_X3_isSigned σ 12 (nI t) (nI s) (nI k) Ret := by
  unfold wp_X3_isSigned
  have := h.ht
  rw [p120, zo_in, nI_24mul, nI_add, ix_nI (by omega), h.es t ht s hs, tst _ hk, b2i_1]
  refine ⟨⟨0, k12 σ⟩, rfl, 4824, k13 σ, vin (by omega) (by decide), fun h1 => ?_, fun h1 => ?_⟩
  · rw [h1] at hr; exact hr
  · rw [Bool.not_eq_true] at h1; rw [h1] at hr; exact hr
theorem c_isAllowed {tm : Nat} {sg al : Nat → Nat → Int32} {σ : ZS} (h : CH tm sg al σ) {t s k : Nat} (ht : t ≤ tm) (hs : s < 24) (hk : k < 32) {Ret : Int32 → ZS → Prop} (hr : Ret (b2i (btI (al t s) k)) σ) : wp_X3_isAllowed σ 12 (nI t) (nI s) (nI k) Ret := by
  unfold wp_X3_isAllowed
  have := h.ht
  rw [p121, zo_in, nI_24mul, nI_add, ix_nI (by omega), h.ea t ht s hs, tst _ hk, b2i_1]
  refine ⟨⟨0, k12 σ⟩, rfl, 4824, k14 σ, vin (by omega) (by decide), fun h1 => ?_, fun h1 => ?_⟩
  · rw [h1] at hr; exact hr
  · rw [Bool.not_eq_true] at h1; rw [h1] at hr; exact hr
/-- what is tried -/
abbrev OV (fr : Bool) (mo fe : Nat → Int32) (σ : ZS) : Prop := (zI σ 0 9 = b2i fr) ∧ (∀ s, s < 24 → zI σ 18 s = mo s) ∧ (∀ s, s < 24 → zI σ 19 s = fe s)
theorem OV.ef {fr : Bool} {mo fe : Nat → Int32} {σ : ZS} (h : OV fr mo fe σ) : zI σ 0 9 = b2i fr := h.1
theorem OV.em {fr : Bool} {mo fe : Nat → Int32} {σ : ZS} (h : OV fr mo fe σ) : ∀ s, s < 24 → zI σ 18 s = mo s := h.2.1
theorem OV.ee {fr : Bool} {mo fe : Nat → Int32} {σ : ZS} (h : OV fr mo fe σ) : ∀ s, s < 24 → zI σ 19 s = fe s := h.2.2
theorem OV.frm {fr : Bool} {mo fe : Nat → Int32} {σ σ' : ZS} {S : Nat → Prop} (h : OV fr mo fe σ) (f : Fr S σ σ') (hs : ∀ c, S c → c ≠ 18 ∧ c ≠ 19 ∧ c ≠ 2000009) : OV fr mo fe σ' := by
  refine ⟨?_, fun s hs' => ?_, fun s hs' => ?_⟩
  · rw [f.1 0 9 fun k => (hs _ k).2.2 rfl, h.ef]
  · rw [f.1 18 s fun k => (hs _ k).1 rfl, h.em s hs']
  · rw [f.1 19 s fun k => (hs _ k).2.1 rfl, h.ee s hs']
theorem c_mayRide {T : Tw} {d : Ad} {σ : ZS} (h : CT T d σ) {tm : Nat} {sg al : Nat → Nat → Int32} (hh : CH tm sg al σ) {fr : Bool} {mo fe : Nat → Int32} (ho : OV fr mo fe σ) {a b t : Nat} (ha : a < 2 * T.ns) (hb : b < 2 * T.ns) (ht : t ≤ tm) {Ret : Int32 → ZS → Prop} (hr : Ret (b2i (mayC T fr (sg t) (al t) mo fe a b)) σ) : wp_X1_mayRide σ (nI a) (nI b) (nI t) Ret := by
  unfold wp_X1_mayRide
  have := h.wf.ns
  intro y1 hy1 y2 hy2
  rw [nI_div2 (by omega)] at hy1 hy2
  subst hy1 hy2
  rw [h.pt, zo_in]
  unfold mayC at hr
  refine ⟨rfl, h.kt, c_turn h ha hb ⟨fun h1 => ?_, fun h1 => ⟨fun h2 => ?_, fun h2 => ?_⟩⟩⟩
  · simpa [h1, b2i] using hr
  · simpa [h2, b2i] using hr
  rw [ho.ef]
  refine br0 (fun h3 => ?_) fun h3 => ?_
  · refine c_isSigned hh ht (by omega) (by omega) ?_
    refine br0 (fun h4 => ?_) fun h4 => ?_
    · refine ⟨fun h5 => ⟨vin (by omega) (by decide), ?_⟩, fun h5 => ?_⟩
      · rw [ix_nI (by omega), ho.em _ (by omega), tst _ (by omega), b2i_1]
        refine ⟨fun h6 => ?_, fun h6 => c_isAllowed hh ht (by omega) (by omega) ?_⟩
        · simpa [h1, h2, h3, h4, h5, h6, b2i] using hr
        · refine br0 (fun h7 => ?_) fun h7 => ⟨vin (by omega) (by decide), ?_⟩
          · simpa [h1, h2, h3, h4, h5, h6, h7, b2i] using hr
          · rw [ho.ee _ (by omega), tst _ (by omega)]
            refine br0 (fun h8 => ?_) fun h8 => ?_
            · simpa [h1, h2, h3, h4, h5, h6, h7, h8, b2i] using hr
            · simpa [h1, h2, h3, h4, h5, h6, h7, h8, b2i] using hr
      · simpa [h1, h2, h3, h4, h5, b2i] using hr
    · simpa [h1, h2, h3, h4, b2i] using hr
  · simpa [h1, h2, h3, b2i] using hr
theorem turn_cases (T : Tw) (a b : Nat) : T.turn a b = -1 ∨ T.turn a b = 0 ∨ T.turn a b = 1 ∨ T.turn a b = 2 ∨ T.turn a b = 3 := by
  unfold Tw.turn
  split
  · split
    · simp
    · split
      · split <;> simp
      · split <;> simp
  · simp
/-- both sides' rules agree -/
theorem may_eq {T : Tw} {sn an an' mo fe : Nat → Int32} {a b : Nat} (h : btI (an' (a / 2)) (b / 2) = (btI (mo (a / 2)) (b / 2) || btI (an (a / 2)) (b / 2) && !btI (fe (a / 2)) (b / 2))) : mayC T false sn an mo fe a b = mayN T sn an' a b := by
  unfold mayC mayN
  rw [h]
  rcases turn_cases T a b with e | e | e | e | e <;> rw [e] <;> cases btI (sn (a / 2)) (b / 2) <;> cases btI (mo (a / 2)) (b / 2) <;> cases btI (an (a / 2)) (b / 2) <;> cases btI (fe (a / 2)) (b / 2) <;> rfl
