/-! PURE HALF: bound: least sums over sets; what both sides share. -/
set_option maxRecDepth 100000
/-- the least of some numbers -/
noncomputable def lsO (P : Nat → Prop) : Option Nat := @dite (Option Nat) (∃ n, P n) (Classical.propDecidable _) (fun h => some (Classical.choose (pk_least _ h))) (fun _ => none)
theorem lsO_some {P : Nat → Prop} {n : Nat} : lsO P = some n ↔ P n ∧ ∀ m, P m → n ≤ m := by
  unfold lsO
  split
  · next h =>
    have hc := Classical.choose_spec (pk_least _ h)
    constructor
    · intro e
      simp only [Option.some.injEq] at e
      rw [e] at hc
      exact ⟨hc.1, fun m hm => Nat.le_of_not_lt fun l => hc.2 m l hm⟩
    · rintro ⟨h1, h2⟩
      simp only [Option.some.injEq]
      have a1 := h2 _ hc.1
      have a2 : ¬ n < Classical.choose (pk_least _ h) := fun l => hc.2 n l h1
      omega
  · next h =>
    constructor
    · intro e; cases e
    · rintro ⟨h1, -⟩; exact absurd ⟨n, h1⟩ h
theorem lsO_none {P : Nat → Prop} : lsO P = none ↔ ∀ m, ¬ P m := by
  unfold lsO
  split
  · next h => exact ⟨fun e => (by cases e), fun k => absurd h (fun ⟨n, hn⟩ => k n hn)⟩
  · next h => exact ⟨fun _ m hm => h ⟨m, hm⟩, fun _ => rfl⟩
theorem lsO_congr {P Q : Nat → Prop} (h : ∀ v, P v ↔ Q v) : lsO P = lsO Q := by
  rw [show P = Q from funext fun v => propext (h v)]
def omin (a b : Option Nat) : Option Nat := match a, b with
  | none, b => b
  | a, none => a
  | some x, some y => some (min x y)
def oadd (a b : Option Nat) : Option Nat := match a, b with
  | some x, some y => some (x + y)
  | _, _ => none
theorem lsO_or (P Q : Nat → Prop) : lsO (fun v => P v ∨ Q v) = omin (lsO P) (lsO Q) := by
  cases hp : lsO P with
  | none =>
    have hp := lsO_none.mp hp
    show _ = lsO Q
    exact lsO_congr fun v => ⟨fun h => h.resolve_left (hp v), .inr⟩
  | some x =>
    have hp' := lsO_some.mp hp
    cases hq : lsO Q with
    | none =>
      have hq := lsO_none.mp hq
      show _ = some x
      rw [← hp]
      exact lsO_congr fun v => ⟨fun h => h.resolve_right (hq v), .inl⟩
    | some y =>
      have hq' := lsO_some.mp hq
      show _ = some (min x y)
      rw [lsO_some]
      constructor
      · rcases Nat.le_total x y with l | l
        · rw [Nat.min_eq_left l]; exact .inl hp'.1
        · rw [Nat.min_eq_right l]; exact .inr hq'.1
      · rintro m (h | h)
        · have := hp'.2 m h; omega
        · have := hq'.2 m h; omega
theorem lsO_add (W : Nat → Prop) (o : Option Nat) : lsO (fun v => ∃ m k, W m ∧ o = some k ∧ v = m + k) = oadd (lsO W) o := by
  cases hw : lsO W with
  | none =>
    have hw := lsO_none.mp hw
    show _ = none
    rw [lsO_none]
    rintro m ⟨a, k, h, -, -⟩
    exact hw a h
  | some x =>
    have hw' := lsO_some.mp hw
    cases o with
    | none =>
      show _ = none
      rw [lsO_none]
      rintro m ⟨a, k, -, h, -⟩
      cases h
    | some y =>
      show _ = some (x + y)
      rw [lsO_some]
      constructor
      · exact ⟨x, y, hw'.1, rfl, rfl⟩
      · rintro m ⟨a, k, h, e, rfl⟩
        cases e
        have := hw'.2 a h
        omega
/-- the j-th of some numbers -/
noncomputable def nth (p : Nat → Bool) (j : Nat) : Nat := leastN (fun k => p k = true ∧ cnt p k = j)
theorem nth_eq {p : Nat → Bool} {k : Nat} (h : p k = true) : nth p (cnt p k) = k := by
  refine leastN_eq ⟨h, rfl⟩ fun j hj k2 => ?_
  have h1 : cnt p (j + 1) ≤ cnt p k := cnt_mon hj
  have h2 : cnt p (j + 1) = cnt p j + 1 := by
    show cnt _ j + _ = _; rw [k2.1]; rfl
  omega
theorem nth_is {p : Nat → Bool} {n j : Nat} (h : j < cnt p n) : nth p j < n ∧ p (nth p j) = true ∧ cnt p (nth p j) = j := by
  obtain ⟨k, h1, h2, h3⟩ := cnt_hit h
  have := nth_eq h2
  rw [h3] at this
  rw [this]; exact ⟨h1, h2, h3⟩
/-! bits -/
theorem tb_x (X : Nat) (j k : Nat) : tb (X ^^^ 2 ^ j) k = (tb X k ^^ decide (k = j)) := by
  unfold tb
  rw [Nat.testBit_xor, Nat.testBit_two_pow]
  congr 1
  rw [Bool.eq_iff_iff]; simp [eq_comm]
theorem x_x (X Y : Nat) : X ^^^ Y ^^^ Y = X := by rw [Nat.xor_assoc, Nat.xor_self, Nat.xor_zero]
theorem x_half (X j : Nat) : (X ^^^ 2 ^ (j + 1)) / 2 = X / 2 ^^^ 2 ^ j := by
  apply Nat.eq_of_testBit_eq
  intro i
  rw [Nat.testBit_div_two]
  have h1 := tb_x X (j + 1) (i + 1)
  have h2 := tb_x (X / 2) j i
  unfold tb at h1 h2
  rw [h1, h2, Nat.testBit_div_two]
  congr 1
  simp
theorem x_lt {X j : Nat} (h : tb X j = true) : X ^^^ 2 ^ j < X := by
  induction j generalizing X with
  | zero =>
    have h1 : (X ^^^ 2 ^ 0) / 2 = X / 2 := by
      apply Nat.eq_of_testBit_eq
      intro i
      rw [Nat.testBit_div_two, Nat.testBit_div_two]
      have h1 := tb_x X 0 (i + 1)
      unfold tb at h1
      rw [h1]; simp
    have h2 := tb_x X 0 0
    rw [h] at h2
    unfold tb at h h2
    rw [Nat.testBit_zero] at h h2
    have h4 : X % 2 = 1 := by simpa using h
    generalize X ^^^ 2 ^ 0 = Y at h1 h2 ⊢
    have h3 : ¬ (Y % 2 = 1) := by intro k; rw [k] at h2; simp at h2
    omega
  | succ j ih =>
    have h1 := x_half X j
    have h2 : tb (X / 2) j = true := by unfold tb at h ⊢; rw [Nat.testBit_div_two]; exact h
    have := ih h2
    omega
theorem x_bd {X j n : Nat} (h : X < 2 ^ n) (hj : j < n) : X ^^^ 2 ^ j < 2 ^ n := Nat.xor_lt_two_pow h (Nat.pow_lt_pow_right (by decide) hj)
noncomputable def pop (X : Nat) : Nat := cnt (tb X) 24
theorem pop_x {X j : Nat} (hj : j < 24) (h : tb X j = true) : pop X = pop (X ^^^ 2 ^ j) + 1 := by
  refine cnt_up hj (fun x hx => ?_) ?_ h
  · rw [tb_x]; simp [hx]
  · rw [tb_x, h]; simp
theorem pop_y {X j : Nat} (hj : j < 24) (h : tb X j = false) : pop (X ^^^ 2 ^ j) = pop X + 1 := by
  have h2 : tb (X ^^^ 2 ^ j) j = true := by rw [tb_x, h]; simp
  have := pop_x hj h2
  rw [x_x] at this; exact this
theorem pop_0 : pop 0 = 0 := cnt_cut (m := 0) (Nat.zero_le _) fun x _ _ => by unfold tb; simp
theorem tb_full {n j : Nat} : tb (2 ^ n - 1) j = decide (j < n) := by unfold tb; rw [Nat.testBit_two_pow_sub_one]
theorem pop_full {n : Nat} (h : n ≤ 24) : pop (2 ^ n - 1) = n := by
  unfold pop
  rw [cnt_cut (m := n) h fun x hx _ => by rw [tb_full]; simp; omega]
  exact cnt_full.mpr fun x hx => by rw [tb_full]; simp [hx]
theorem pop_pos {X : Nat} (h : X ≠ 0) (hb : X < 2 ^ 14) : 0 < pop X := by
  obtain ⟨i, hi⟩ := Nat.exists_testBit_of_ne_zero h
  exact cnt_pos (y := i) (Nat.lt_of_lt_of_le (tb_lt hb hi) (by decide)) hi
/-- sums over the ways to give points to others, one behind the other -/
def Wb (B : Nat → Nat → Option Nat) (n : Nat) : Nat → Nat → Nat → Prop
  | 0, X, v => X = 0 ∧ v = 0
  | i + 1, X, v => ∃ j, j < n ∧ tb X j = true ∧ ∃ m k, Wb B n i (X ^^^ 2 ^ j) m ∧ B i j = some k ∧ v = m + k
theorem Wb_le {B : Nat → Nat → Option Nat} {n M : Nat} (hB : ∀ i j k, B i j = some k → k ≤ M) {i X v : Nat} (h : Wb B n i X v) : v ≤ i * M := by
  induction i generalizing X v with
  | zero => obtain ⟨-, rfl⟩ := h; omega
  | succ i ih =>
    obtain ⟨j, -, -, m, k, h1, h2, rfl⟩ := h
    have := ih h1
    have := hB _ _ _ h2
    rw [Nat.succ_mul]; omega
noncomputable def Db (B : Nat → Nat → Option Nat) (n X : Nat) : Option Nat := lsO (Wb B n (pop X) X)
theorem Db_0 (B : Nat → Nat → Option Nat) (n : Nat) : Db B n 0 = some 0 := by
  unfold Db; rw [pop_0, lsO_some]; exact ⟨⟨rfl, rfl⟩, fun m _ => Nat.zero_le _⟩
theorem Db_le {B : Nat → Nat → Option Nat} {n M : Nat} (hB : ∀ i j k, B i j = some k → k ≤ M) {X v : Nat} (h : Db B n X = some v) : v ≤ pop X * M := Wb_le hB (lsO_some.mp h).1
/-! points of a bound -/
def ptB (T : Tw) (c k : Nat) : Bool := decide (k = c) || btI T.bx k
theorem cnt_filter (p : Nat → Bool) (n : Nat) : ((List.range n).filter p).length = cnt p n := by
  induction n with
  | zero => rfl
  | succ n ih =>
    rw [List.range_succ, List.filter_append, List.length_append, ih]
    show _ = cnt p n + _
    congr 1
    cases h : p n <;> simp [h]
theorem bx_cnt {T : Tw} (w : T.WF) : cnt (btI T.bx) 16 ≤ 10 := by have := w.bn; rw [cnt_filter] at this; exact this
theorem cnt_or1 (p : Nat → Bool) (c n : Nat) : cnt (fun k => decide (k = c) || p k) n ≤ cnt p n + 1 := by
  induction n with
  | zero => exact Nat.zero_le _
  | succ n ih =>
    by_cases e : n = c
    · subst e
      have e2 : cnt (fun k => decide (k = n) || p k) n = cnt p n := cnt_congr fun x hx => by simp; omega
      show cnt _ n + _ ≤ cnt p n + _ + 1
      rw [e2]; split <;> split <;> omega
    · show cnt _ n + _ ≤ cnt p n + _ + 1
      simp only [e, decide_false, Bool.false_or]
      omega
theorem pt_cnt {T : Tw} (w : T.WF) {c : Nat} (hc : c < T.nc) : 1 ≤ cnt (ptB T c) T.nc ∧ cnt (ptB T c) T.nc ≤ 11 := by
  refine ⟨cnt_pos hc (by unfold ptB; simp), ?_⟩
  have h1 := cnt_or1 (btI T.bx) c T.nc
  have h2 : cnt (btI T.bx) T.nc ≤ cnt (btI T.bx) 16 := cnt_mon w.nc
  have h3 := bx_cnt w
  have h4 : cnt (ptB T c) T.nc = cnt (fun k => decide (k = c) || btI T.bx k) T.nc := rfl
  omega
noncomputable def btw (T : Tw) (G : Nat → Nat → Bool) (c i j : Nat) : Option Nat := if i = j then none else rideV T G (nth (ptB T c) i) (nth (ptB T c) j)
theorem btw_le {T : Tw} (w : T.WF) {G : Nat → Nat → Bool} {c i j k : Nat} (h : btw T G c i j = some k) : k ≤ 4851 := by
  unfold btw at h
  split at h
  · cases h
  · exact rideV_le w h
noncomputable def bndV (T : Tw) (G : Nat → Nat → Bool) (c : Nat) : Int32 := if cnt (ptB T c) T.nc = 1 then 0 else oI (Db (btw T G c) (cnt (ptB T c) T.nc) (2 ^ cnt (ptB T c) T.nc - 1))
noncomputable def spBnd (T : Tw) (tm : Nat) (sg al : Nat → Nat → Int32) (c t : Int32) : Nat × Int32 := sp2 (inN c T.nc) (inN t (tm + 1)) (bndV T (GT T sg al (ix t)) (ix c))
theorem C_ct {T : Tw} {d : Ad} {tm : Nat} {sg al : Nat → Nat → Int32} {σ : ZS} (h : CQ T d tm sg al σ) {a t : Int32} {v : Int32} {Ret : Int32 → ZS → Prop} (hr : PC σ Ret (wd (sp2 (inN a T.nc) (inN t (tm + 1)) v))) {K : ZS → Prop} (hk : inN a T.nc = true → inN t (tm + 1) = true → PC σ Ret (0, v.toInt64) → K σ) {Thr : Nat → ZS → Prop} (ht : Thr = fun x3 σ4 => ((∃ x, kK NS σ4 x3 = (14 + 7, x)) ∧ (Ret 1 σ4)) ∨ ((∃ x, kK NS σ4 x3 = (12 + 7, x)) ∧ (Ret 2 σ4))) : wp_X1_needCorner σ a (fun x σ => Thr x σ) (fun σ2 => wp_X1_isTime σ2 t (fun r3 σ4 => wp_X1_need σ4 r3 (fun x σ => Thr x σ) K)) := by
  subst ht
  obtain ⟨ct, ch, sf, rm⟩ := h
  refine c_needCorner ct rm (fun h1 => c_isTime ch (c_need rm (fun h3 => ?_) (fun h3 σ' g k => .inr ⟨⟨0, k⟩, hr.thr (c := 2) ?_ (by decide) rm.1 sf g⟩))) (fun h1 σ' g k => .inl ⟨⟨0, k⟩, hr.thr (c := 1) ?_ (by decide) rm.1 sf g⟩)
  · rw [sp2_0 h1 h3] at hr; exact hk h1 h3 hr
  · exact sp2_2 h1 h3
  · exact sp2_1 h1
/-- the least sum, one more way looked at -/
theorem Db_step {B : Nat → Nat → Option Nat} {n X i : Nat} {W : Nat → Prop} {j : Nat} (hW : ∀ v, W v ↔ ∃ j', j' < j ∧ tb X j' = true ∧ ∃ m k, Wb B n i (X ^^^ 2 ^ j') m ∧ B i j' = some k ∧ v = m + k) : lsO (fun v => ∃ j', j' < j + 1 ∧ tb X j' = true ∧ ∃ m k, Wb B n i (X ^^^ 2 ^ j') m ∧ B i j' = some k ∧ v = m + k) = if tb X j then omin (lsO W) (oadd (lsO (Wb B n i (X ^^^ 2 ^ j))) (B i j)) else lsO W := by
  cases h : tb X j
  · rw [if_neg (by simp)]
    refine lsO_congr fun v => ?_
    rw [hW]
    constructor
    · rintro ⟨j', h1, h2, h3⟩
      refine ⟨j', ?_, h2, h3⟩
      rcases Nat.lt_or_ge j' j with l | l
      · exact l
      · rw [show j' = j by omega, h] at h2; cases h2
    · rintro ⟨j', h1, h2⟩; exact ⟨j', by omega, h2⟩
  · rw [if_pos rfl, ← lsO_add, ← lsO_or]
    refine lsO_congr fun v => ?_
    rw [hW]
    constructor
    · rintro ⟨j', h1, h2, h3⟩
      by_cases l : j' < j
      · exact .inl ⟨j', l, h2, h3⟩
      · rw [show j' = j by omega] at h3; exact .inr h3
    · rintro (⟨j', h1, h2⟩ | h3)
      · exact ⟨j', by omega, h2⟩
      · exact ⟨j, by omega, h, h3⟩
theorem fz_min {F a b c : Nat} {o1 o2 o3 : Option Nat} (e1 : a = fz F o1) (e2 : b = fz F o2) (e3 : c = fz F o3) (h1 : ∀ v, o1 = some v → v ≤ F) (h2 : ∀ v, o2 = some v → v < F) (h3 : ∀ v, o3 = some v → v < F) (h23 : ∀ u v, o2 = some u → o3 = some v → u + v < F) : (if b + c < a then b + c else a) = fz F (omin o1 (oadd o2 o3)) := by
  subst e1 e2 e3
  cases o2 with
  | none =>
    have : (omin o1 (oadd none o3)) = o1 := by cases o1 <;> rfl
    rw [this, if_neg]
    show ¬ F + _ < _
    cases o1 with
    | none => show ¬ F + _ < F; omega
    | some v => have := h1 v rfl; show ¬ F + _ < v; omega
  | some u =>
    cases o3 with
    | none =>
      have : (omin o1 (oadd (some u) none)) = o1 := by cases o1 <;> rfl
      rw [this, if_neg]
      show ¬ _ + F < _
      cases o1 with
      | none => show ¬ _ + F < F; omega
      | some v => have := h1 v rfl; show ¬ _ + F < v; omega
    | some v =>
      have := h23 u v rfl rfl
      cases o1 with
      | none => show (if u + v < F then u + v else F) = u + v; rw [if_pos this]
      | some x => show (if u + v < x then u + v else x) = min x (u + v); split <;> omega
