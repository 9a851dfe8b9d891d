/-! PURE HALF: rounds: walks with sets of boxes behind them. -/
set_option maxRecDepth 100000
def bxq (T : Tw) (c k : Nat) : Bool := !decide (k = c) && btI T.bx k
def bxN (T : Tw) (c : Nat) : Nat := cnt (bxq T c) 16
def bxO (T : Tw) (c k : Nat) : Option Nat := if bxq T c k then some (cnt (bxq T c) k) else none
def wth (o : Option Nat) (X : Nat) : Nat := match o with
  | none => X
  | some k => if tb X k then X else X ^^^ 2 ^ k
def wtA (T : Tw) (c X b : Nat) : Nat := wth (bxO T c (T.fin b)) X
theorem bxN_le {T : Tw} (w : T.WF) (c : Nat) : bxN T c ≤ 10 := by
  have h1 : bxN T c ≤ cnt (btI T.bx) 16 := cnt_mono fun x _ h => by unfold bxq at h; simp at h; exact h.2
  have := bx_cnt w
  omega
theorem bxO_lt {T : Tw} {c k j : Nat} (hk : k < 16) (h : bxO T c k = some j) : j < bxN T c := by
  unfold bxO at h
  split at h
  · rename_i hq
    cases h
    have h1 : cnt (bxq T c) (k + 1) ≤ cnt (bxq T c) 16 := cnt_mon hk
    have h2 : cnt (bxq T c) (k + 1) = cnt (bxq T c) k + 1 := by show cnt _ k + _ = _; rw [hq]; rfl
    unfold bxN; omega
  · cases h
theorem wth_le (o : Option Nat) (X : Nat) : X ≤ wth o X := by
  unfold wth
  split
  · exact Nat.le_refl _
  · rename_i k
    split
    · exact Nat.le_refl _
    · rename_i h
      have h : tb X k = false := by simpa using h
      have h2 : tb (X ^^^ 2 ^ k) k = true := by rw [tb_x, h]; simp
      have := x_lt h2
      rw [x_x] at this; omega
theorem wth_lt {o : Option Nat} {X n : Nat} (hX : X < 2 ^ n) (h : ∀ k, o = some k → k < n) : wth o X < 2 ^ n := by
  unfold wth
  split
  · exact hX
  · split
    · exact hX
    · exact x_bd hX (h _ rfl)
theorem wth_pop {o : Option Nat} {X : Nat} (h : ∀ k, o = some k → k < 24) : wth o X = X ∨ pop (wth o X) = pop X + 1 := by
  unfold wth
  split
  · exact .inl rfl
  · split
    · exact .inl rfl
    · rename_i k h2
      exact .inr (pop_y (h _ rfl) (by simpa using h2))
theorem bxO_A {T : Tw} (w : T.WF) {c b : Nat} (hb : T.isArc b = true) {k : Nat} (h : bxO T c (T.fin b) = some k) : k < bxN T c := by
  have := w.fin (Tw.arc_lt hb)
  have := w.nc
  exact bxO_lt (by omega) h
theorem wtA_lt {T : Tw} (w : T.WF) {c X b : Nat} (hX : X < 2 ^ bxN T c) (hb : T.isArc b = true) : wtA T c X b < 2 ^ bxN T c := wth_lt hX fun _ h => bxO_A w hb h
theorem wtA_le (T : Tw) (c X b : Nat) : X ≤ wtA T c X b := wth_le _ _
/-- a walk from a corner by arcs: the boxes behind it, its last arc, its length -/
def Wr (T : Tw) (G : Nat → Nat → Bool) (c X a v : Nat) : Prop := ∀ M : Nat → Nat → Nat → Prop, (∀ a, T.isArc a = true → T.beg a = c → M (wtA T c 0 a) a (T.len a)) → (∀ X a v b, T.isArc b = true → G a b = true → M X a v → M (wtA T c X b) b (v + T.len b)) → M X a v
theorem Wr.first {T : Tw} {G : Nat → Nat → Bool} {c : Nat} (a : Nat) (h1 : T.isArc a = true) (h2 : T.beg a = c) : Wr T G c (wtA T c 0 a) a (T.len a) := fun _ l _ => l a h1 h2
theorem Wr.step {T : Tw} {G : Nat → Nat → Bool} {c : Nat} (X a v b : Nat) (h1 : T.isArc b = true) (h2 : G a b = true) (h : Wr T G c X a v) : Wr T G c (wtA T c X b) b (v + T.len b) := fun M l s => s X a v b h1 h2 (h M l s)
theorem Wr.ind {T : Tw} {G : Nat → Nat → Bool} {c : Nat} {motive : ∀ X a v, Wr T G c X a v → Prop} (first : ∀ a h1 h2, motive _ _ _ (Wr.first a h1 h2)) (step : ∀ X a v b h1 h2 (h : Wr T G c X a v), motive X a v h → motive _ _ _ (Wr.step X a v b h1 h2 h)) {X a v : Nat} (h : Wr T G c X a v) : motive X a v h := by
  have : ∃ h : Wr T G c X a v, motive X a v h := h (fun X a v => ∃ h : Wr T G c X a v, motive X a v h) (fun a h1 h2 => ⟨_, first a h1 h2⟩) (fun X a v b h1 h2 ⟨k, hk⟩ => ⟨_, step X a v b h1 h2 k hk⟩)
  exact this.2
theorem Wr.arc {T : Tw} {G : Nat → Nat → Bool} {c X a v : Nat} (h : Wr T G c X a v) : T.isArc a = true := by
  induction h using Wr.ind with
  | first _ h1 _ => exact h1
  | step _ _ _ _ h1 => exact h1
theorem Wr.lt {T : Tw} (w : T.WF) {G : Nat → Nat → Bool} {c X a v : Nat} (h : Wr T G c X a v) : X < 2 ^ bxN T c := by
  induction h using Wr.ind with
  | first _ h1 _ => exact wtA_lt w Nat.one_le_two_pow h1
  | step _ _ _ _ h1 _ _ ih => exact wtA_lt w ih h1
theorem Wr.inv {T : Tw} {G : Nat → Nat → Bool} {c X a v : Nat} (h : Wr T G c X a v) : v = T.len a ∨ ∃ X' b m, Wr T G c X' b m ∧ G b a = true ∧ X = wtA T c X' a ∧ v = m + T.len a := by
  induction h using Wr.ind with
  | first => exact .inl rfl
  | step X a v b _ h2 h => exact .inr ⟨X, a, v, h, h2, rfl, rfl⟩
theorem Wr_cnt {T : Tw} (w : T.WF) {G : Nat → Nat → Bool} {c : Nat} (v : Nat) : ∀ X a, lsO (Wr T G c X a) = some v → v ≤ 99 * (49 * pop X + cnt (fun b => ltO (lsO (Wr T G c X b)) v) (2 * T.ns) + 1) := by
  have hn := bxN_le w c
  have hns := w.ns
  induction v using Nat.strongRecOn with
  | ind v ih =>
    intro X a h
    obtain ⟨h1, h2⟩ := lsO_some.mp h
    have ha := h1.arc
    have hl := w.len (Tw.arc_lt ha)
    rcases h1.inv with e | ⟨X', b, m, h3, h4, rfl, rfl⟩
    · omega
    · have hm : lsO (Wr T G c X' b) = some m := lsO_some.mpr ⟨h3, fun k hk => by
        have := h2 _ (Wr.step X' b k a ha h4 hk); omega⟩
      have hb := Tw.arc_lt h3.arc
      have i := ih m (by omega) X' b hm
      rcases wth_pop (o := bxO T c (T.fin a)) (X := X') (fun k hk => by have := bxO_A w ha hk; omega) with e | e
      · have e : wtA T c X' a = X' := e
        rw [e]
        have : cnt (fun x => ltO (lsO (Wr T G c X' x)) m) (2 * T.ns) < cnt (fun x => ltO (lsO (Wr T G c X' x)) (m + T.len a)) (2 * T.ns) := by
          refine cnt_lt (y := b) ?_ hb ?_ ?_
          · intro x _ hx
            unfold ltO at hx ⊢
            split at hx
            · exact hx
            · simp at hx ⊢; omega
          · simp only [hm, ltO]; simp; omega
          · simp only [hm, ltO]; simp
        omega
      · have e : pop (wtA T c X' a) = pop X' + 1 := e
        have := cnt_le (fun x => ltO (lsO (Wr T G c X' x)) m) (2 * T.ns)
        omega
theorem Wr_le {T : Tw} (w : T.WF) {G : Nat → Nat → Bool} {c X a v : Nat} (h : lsO (Wr T G c X a) = some v) : v ≤ 53361 := by
  have h1 := Wr_cnt w v X a h
  have h2 := cnt_le (fun x => ltO (lsO (Wr T G c X x)) v) (2 * T.ns)
  have h3 := w.ns
  have h4 := bxN_le w c
  have h5 := pop_le (Wr.lt w (lsO_some.mp h).1) (by omega)
  omega
/-- lengths while they grow less -/
def BR (T : Tw) (G : Nat → Nat → Bool) (c R : Nat) (F : Nat → Nat → Nat) : Prop := (∀ X a, X < 2 ^ bxN T c → a < 2 * T.ns → F X a ≤ R ∧ (F X a = R ∨ Wr T G c X a (F X a))) ∧ (∀ a, T.isArc a = true → T.beg a = c → F (wtA T c 0 a) a ≤ T.len a)
/-- sets below S are done -/
def RX (T : Tw) (G : Nat → Nat → Bool) (c S : Nat) (F : Nat → Nat → Nat) : Prop := ∀ X a b, X < S → X < 2 ^ bxN T c → T.isArc a = true → T.isArc b = true → G a b = true → F (wtA T c X b) b ≤ F X a + T.len b
def UPr (T : Tw) (c : Nat) (F F' : Nat → Nat → Nat) (Y b v : Nat) : Prop := F' Y b = v ∧ v < F Y b ∧ ∀ Y' x, Y' < 2 ^ bxN T c → x < 2 * T.ns → (Y' ≠ Y ∨ x ≠ b) → F' Y' x = F Y' x
theorem UPr.le {T : Tw} {c : Nat} {F F' : Nat → Nat → Nat} {Y b v : Nat} (u : UPr T c F F' Y b v) {X x : Nat} (hX : X < 2 ^ bxN T c) (hx : x < 2 * T.ns) : F' X x ≤ F X x := by
  by_cases e : X = Y ∧ x = b
  · obtain ⟨rfl, rfl⟩ := e
    rw [u.1]; have := u.2.1; omega
  · rw [u.2.2 X x hX hx (by
      rcases Nat.decEq X Y with k | k
      · exact .inl k
      · exact .inr fun k2 => e ⟨k, k2⟩)]
    exact Nat.le_refl _
theorem BR.up {T : Tw} (w : T.WF) {G : Nat → Nat → Bool} {c R : Nat} {F F' : Nat → Nat → Nat} (h : BR T G c R F) {X a b its : Nat} (hb : T.isArc b = true) (hg : G a b = true) (hw : Wr T G c X a its) (u : UPr T c F F' (wtA T c X b) b (its + T.len b)) : BR T G c R F' := by
  refine ⟨fun Y x hY hx => ?_, fun x h1 h2 => ?_⟩
  · by_cases e : Y = wtA T c X b ∧ x = b
    · obtain ⟨rfl, rfl⟩ := e
      rw [u.1]
      refine ⟨?_, .inr (Wr.step X a its x hb hg hw)⟩
      have := u.2.1
      have := (h.1 _ x hY hx).1
      omega
    · rw [u.2.2 Y x hY hx (by
        rcases Nat.decEq Y (wtA T c X b) with k | k
        · exact .inl k
        · exact .inr fun k2 => e ⟨k, k2⟩)]
      exact h.1 Y x hY hx
  · exact Nat.le_trans (u.le (wtA_lt w Nat.one_le_two_pow h1) (Tw.arc_lt h1)) (h.2 x h1 h2)
theorem RX.up {T : Tw} (w : T.WF) {G : Nat → Nat → Bool} {c S : Nat} {F F' : Nat → Nat → Nat} (h : RX T G c S F) {X b v : Nat} (hS : S ≤ X) (u : UPr T c F F' (wtA T c X b) b v) : RX T G c S F' := by
  intro Y x y h1 h2 h3 h4 h5
  have e : F' Y x = F Y x := u.2.2 Y x h2 (Tw.arc_lt h3) (.inl (by have := wtA_le T c X b; omega))
  rw [e]
  exact Nat.le_trans (u.le (wtA_lt w h2 h4) (Tw.arc_lt h4)) (h Y x y h1 h2 h3 h4 h5)
theorem BR.min {T : Tw} (w : T.WF) {G : Nat → Nat → Bool} {c R : Nat} {F : Nat → Nat → Nat} (h : BR T G c R F) (hx : RX T G c (2 ^ bxN T c) F) {X a v : Nat} (hw : Wr T G c X a v) : F X a ≤ v := by
  induction hw using Wr.ind with
  | first a h1 h2 => exact h.2 a h1 h2
  | step X a v b h1 h2 hw ih =>
    have hX := hw.lt w
    have := hx X a b hX hX hw.arc h1 h2
    omega
theorem BR.fin {T : Tw} (w : T.WF) {G : Nat → Nat → Bool} {c R : Nat} {F : Nat → Nat → Nat} (h : BR T G c R F) (hR : 53361 < R) (hx : RX T G c (2 ^ bxN T c) F) {X a : Nat} (hX : X < 2 ^ bxN T c) (ha : a < 2 * T.ns) : F X a = fz R (lsO (Wr T G c X a)) := by
  cases hd : lsO (Wr T G c X a) with
  | none =>
    rcases (h.1 X a hX ha).2 with k | k
    · exact k
    · exact absurd k (lsO_none.mp hd _)
  | some v =>
    have h1 := lsO_some.mp hd
    have h2 := h.min w hx h1.1
    have h3 := Wr_le w hd
    rcases (h.1 X a hX ha).2 with k | k
    · omega
    · have := h1.2 _ k
      show F X a = v
      omega
def Fr0 (T : Tw) (c R X a : Nat) : Nat := if T.isArc a && (decide (T.beg a = c) && decide (X = wtA T c 0 a)) then T.len a else R
theorem BR.zero {T : Tw} (w : T.WF) {G : Nat → Nat → Bool} {c R : Nat} {F : Nat → Nat → Nat} (hR : 99 ≤ R) (h : ∀ X a, X < 2 ^ bxN T c → a < 2 * T.ns → F X a = Fr0 T c R X a) : BR T G c R F := by
  refine ⟨fun X a hX ha => ?_, fun a h1 h2 => ?_⟩
  · rw [h X a hX ha]
    unfold Fr0
    split
    · rename_i k
      simp at k
      have := w.len ha
      refine ⟨by omega, .inr ?_⟩
      rw [k.2.2]
      exact Wr.first a k.1 k.2.1
    · exact ⟨Nat.le_refl _, .inl rfl⟩
  · rw [h _ a (wtA_lt w Nat.one_le_two_pow h1) (Tw.arc_lt h1)]
    unfold Fr0
    rw [if_pos (by simp [h1, h2])]
    exact Nat.le_refl _
theorem RX.zero (T : Tw) (G : Nat → Nat → Bool) (c : Nat) (F : Nat → Nat → Nat) : RX T G c 0 F := fun _ _ _ h => absurd h (Nat.not_lt_zero _)
theorem Fr0_le {T : Tw} (w : T.WF) {c R X a : Nat} (hR : 99 ≤ R) (ha : a < 2 * T.ns) : Fr0 T c R X a ≤ R := by
  unfold Fr0
  have := w.len ha
  split <;> omega
noncomputable def rndP (T : Tw) (G : Nat → Nat → Bool) (c m v : Nat) : Prop := ∃ a, a < m ∧ (T.isArc a && decide (T.fin a = c)) = true ∧ Wr T G c (2 ^ bxN T c - 1) a v
theorem rndP_step (T : Tw) (G : Nat → Nat → Bool) (c m : Nat) : lsO (rndP T G c (m + 1)) = if T.isArc m && decide (T.fin m = c) then omin (lsO (rndP T G c m)) (lsO (Wr T G c (2 ^ bxN T c - 1) m)) else lsO (rndP T G c m) := by
  cases h : T.isArc m && decide (T.fin m = c)
  · rw [if_neg (by simp)]
    refine lsO_congr fun v => ⟨?_, ?_⟩
    · rintro ⟨a, h1, h2, h3⟩
      refine ⟨a, ?_, h2, h3⟩
      rcases Nat.lt_or_ge a m with l | l
      · exact l
      · rw [show a = m by omega, h] at h2; cases h2
    · rintro ⟨a, h1, h2⟩; exact ⟨a, by omega, h2⟩
  · rw [if_pos rfl, ← lsO_or]
    refine lsO_congr fun v => ⟨?_, ?_⟩
    · rintro ⟨a, h1, h2, h3⟩
      by_cases l : a < m
      · exact .inl ⟨a, l, h2, h3⟩
      · rw [show a = m by omega] at h3; exact .inr h3
    · rintro (⟨a, h1, h2⟩ | h3)
      · exact ⟨a, by omega, h2⟩
      · exact ⟨m, by omega, h, h3⟩
theorem rndP_le {T : Tw} (w : T.WF) {G : Nat → Nat → Bool} {c m v : Nat} (h : lsO (rndP T G c m) = some v) : v ≤ 53361 := by
  obtain ⟨⟨a, h1, h2, h3⟩, h4⟩ := lsO_some.mp h
  exact Wr_le w (X := 2 ^ bxN T c - 1) (a := a) (lsO_some.mpr ⟨h3, fun k hk => h4 k ⟨a, h1, h2, hk⟩⟩)
theorem fz_omin {R : Nat} {o1 o2 : Option Nat} (h1 : ∀ v, o1 = some v → v ≤ R) (h2 : ∀ v, o2 = some v → v < R) : (if fz R o2 < fz R o1 then fz R o2 else fz R o1) = fz R (omin o1 o2) := by
  cases o2 with
  | none =>
    have : omin o1 none = o1 := by cases o1 <;> rfl
    rw [this, if_neg]
    have := fz_le h1
    show ¬ R < _; omega
  | some y =>
    have := h2 y rfl
    cases o1 with
    | none => show (if y < R then y else R) = y; rw [if_pos this]
    | some x => show (if y < x then y else x) = min x y; split <;> omega
noncomputable def rndV (T : Tw) (G : Nat → Nat → Bool) (c : Nat) : Int32 := if bxN T c = 0 then 0 else oI (lsO (rndP T G c (2 * T.ns)))
noncomputable def spRnd (T : Tw) (tm : Nat) (sg al : Nat → Nat → Int32) (c t : Int32) : Nat × Int32 := sp2 (inN c T.nc) (inN t (tm + 1)) (rndV T (GT T sg al (ix t)) (ix c))
theorem or_w {X k : Nat} (hX : X < 2 ^ 14) (hk : k < 14) : nI X ||| ((1 : Int32) <<< (nI k &&& 31)) = nI (wth (some k) X) := by
  unfold wth
  dsimp only
  cases h : tb X k
  · rw [if_neg (by simp)]; exact in_bit hX hk h
  · rw [if_pos rfl]
    refine bt_ext fun j hj => ?_
    rw [bt_or, bt_one (by omega) hj, bt_tb hX]
    by_cases e : j = k
    · subst e; rw [h]; rfl
    · simp [e]
