/-! PURE HALF: counts, walks and least lengths. -/
set_option maxRecDepth 100000
def cnt (p : Nat → Bool) : Nat → Nat
  | 0 => 0
  | n + 1 => cnt p n + if p n then 1 else 0
theorem cnt_le (p : Nat → Bool) (n : Nat) : cnt p n ≤ n := by
  induction n with
  | zero => exact Nat.le_refl _
  | succ n ih => unfold cnt; split <;> omega
theorem cnt_mono {p q : Nat → Bool} {n : Nat} (h : ∀ x, x < n → p x = true → q x = true) : cnt p n ≤ cnt q n := by
  induction n with
  | zero => exact Nat.le_refl _
  | succ n ih =>
    have := ih fun x hx => h x (by omega)
    have h2 := h n (by omega)
    unfold cnt
    cases hp : p n
    · simp; omega
    · rw [h2 hp]; simp; omega
theorem cnt_lt {p q : Nat → Bool} {n y : Nat} (h : ∀ x, x < n → p x = true → q x = true) (hy : y < n) (hq : q y = true) (hp : p y = false) : cnt p n < cnt q n := by
  induction n with
  | zero => omega
  | succ n ih =>
    unfold cnt
    by_cases e : y = n
    · subst e
      have := cnt_mono (n := y) fun x hx => h x (by omega)
      rw [hq, hp]; simp; omega
    · have := ih (fun x hx => h x (by omega)) (by omega)
      have h2 := h n (by omega)
      cases hp' : p n
      · simp; omega
      · rw [h2 hp']; simp; omega
theorem cnt_congr {p q : Nat → Bool} {n : Nat} (h : ∀ x, x < n → p x = q x) : cnt p n = cnt q n := by
  induction n with
  | zero => rfl
  | succ n ih => unfold cnt; rw [ih fun x hx => h x (by omega), h n (by omega)]
def sumN (f : Nat → Nat) : Nat → Nat
  | 0 => 0
  | n + 1 => sumN f n + f n
theorem sumN_congr {f g : Nat → Nat} {n : Nat} (h : ∀ x, x < n → f x = g x) : sumN f n = sumN g n := by
  induction n with
  | zero => rfl
  | succ n ih => unfold sumN; rw [ih fun x hx => h x (by omega), h n (by omega)]
theorem sumN_lt {f g : Nat → Nat} {n y : Nat} (hy : y < n) (h : ∀ x, x < n → x ≠ y → f x = g x) (hl : f y < g y) : sumN f n < sumN g n := by
  induction n with
  | zero => omega
  | succ n ih =>
    unfold sumN
    by_cases e : y = n
    · subst e
      rw [sumN_congr (g := g) fun x hx => h x (by omega) (by omega)]; omega
    · have := ih (by omega) fun x hx => h x (by omega)
      rw [h n (by omega) (by omega)]; omega
/-- a walk from an arc's beginning to a corner, and its length -/
def Wk (T : Tw) (G : Nat → Nat → Bool) (to a n : Nat) : Prop := ∀ M : Nat → Nat → Prop, (∀ a, T.isArc a = true → T.fin a = to → M a (T.len a)) → (∀ a b n, T.isArc a = true → T.isArc b = true → G a b = true → M b n → M a (T.len a + n)) → M a n
theorem Wk.last {T : Tw} {G : Nat → Nat → Bool} {to : Nat} (a : Nat) (h1 : T.isArc a = true) (h2 : T.fin a = to) : Wk T G to a (T.len a) := fun _ l _ => l a h1 h2
theorem Wk.step {T : Tw} {G : Nat → Nat → Bool} {to : Nat} (a b n : Nat) (h1 : T.isArc a = true) (h2 : T.isArc b = true) (h3 : G a b = true) (h : Wk T G to b n) : Wk T G to a (T.len a + n) := fun M l s => s a b n h1 h2 h3 (h M l s)
theorem Wk.ind {T : Tw} {G : Nat → Nat → Bool} {to : Nat} {motive : ∀ a n, Wk T G to a n → Prop} (last : ∀ a h1 h2, motive a _ (Wk.last a h1 h2)) (step : ∀ a b n h1 h2 h3 (h : Wk T G to b n), motive b n h → motive a _ (Wk.step a b n h1 h2 h3 h)) {a n : Nat} (h : Wk T G to a n) : motive a n h := by
  have : ∃ h : Wk T G to a n, motive a n h := h (fun a n => ∃ h : Wk T G to a n, motive a n h) (fun a h1 h2 => ⟨_, last a h1 h2⟩) (fun a b n h1 h2 h3 ⟨k, hk⟩ => ⟨_, step a b n h1 h2 h3 k hk⟩)
  exact this.2
theorem Wk.arc {T : Tw} {G : Nat → Nat → Bool} {to a n : Nat} (h : Wk T G to a n) : T.isArc a = true := by
  induction h using Wk.ind with
  | last _ h1 _ => exact h1
  | step _ _ _ h1 => exact h1
theorem Wk.pos {T : Tw} (w : T.WF) {G : Nat → Nat → Bool} {to a n : Nat} (h : Wk T G to a n) : T.len a ≤ n ∧ 1 ≤ n := by
  have := w.len (Tw.arc_lt h.arc)
  induction h using Wk.ind with
  | last => omega
  | step => omega
theorem Wk.congr {T : Tw} {G G' : Nat → Nat → Bool} (hG : ∀ a b, T.isArc a = true → T.isArc b = true → G a b = G' a b) {to a n : Nat} (h : Wk T G to a n) : Wk T G' to a n := by
  induction h using Wk.ind with
  | last a h1 h2 => exact .last a h1 h2
  | step a b n h1 h2 h3 _ ih => exact .step a b n h1 h2 (by rw [← hG a b h1 h2]; exact h3) ih
/-- the least length -/
noncomputable def Ds (T : Tw) (G : Nat → Nat → Bool) (to a : Nat) : Option Nat := @dite (Option Nat) (∃ n, Wk T G to a n) (Classical.propDecidable _) (fun h => some (Classical.choose (pk_least _ h))) (fun _ => none)
theorem Ds_some {T : Tw} {G : Nat → Nat → Bool} {to a n : Nat} : Ds T G to a = some n ↔ Wk T G to a n ∧ ∀ m, Wk T G to a m → n ≤ m := by
  unfold Ds
  split
  · next h =>
    have hc := Classical.choose_spec (pk_least _ h)
    constructor
    · intro e
      simp only [Option.some.injEq] at e
      rw [e] at hc
      exact ⟨hc.1, fun m hm => Nat.le_of_not_lt fun l => hc.2 m l hm⟩
    · rintro ⟨h1, h2⟩
      simp only [Option.some.injEq]
      have a1 := h2 _ hc.1
      have a2 : ¬ n < Classical.choose (pk_least _ h) := fun l => hc.2 n l h1
      omega
  · next h =>
    constructor
    · intro e; cases e
    · rintro ⟨h1, -⟩; exact absurd ⟨n, h1⟩ h
theorem Ds_none {T : Tw} {G : Nat → Nat → Bool} {to a : Nat} : Ds T G to a = none ↔ ∀ m, ¬ Wk T G to a m := by
  unfold Ds
  split
  · next h => exact ⟨fun e => (by cases e), fun k => absurd h (fun ⟨n, hn⟩ => k n hn)⟩
  · next h => exact ⟨fun _ m hm => h ⟨m, hm⟩, fun _ => rfl⟩
theorem Ds_arc {T : Tw} {G : Nat → Nat → Bool} {to a n : Nat} (h : Ds T G to a = some n) : T.isArc a = true := (Ds_some.mp h).1.arc
/-- a least walk ends at once, or goes on by a least one -/
theorem Ds_next {T : Tw} {G : Nat → Nat → Bool} {to a n : Nat} (h : Ds T G to a = some n) : (T.fin a = to ∧ n = T.len a) ∨ ∃ b m, T.isArc b = true ∧ G a b = true ∧ Ds T G to b = some m ∧ n = T.len a + m := by
  obtain ⟨h1, h2⟩ := Ds_some.mp h
  induction h1 using Wk.ind with
  | last _ _ e => exact .inl ⟨e, rfl⟩
  | step a b m ha hb hg hw _ =>
    refine .inr ⟨b, m, hb, hg, Ds_some.mpr ⟨hw, fun k hk => ?_⟩, rfl⟩
    have := h2 _ (.step a b k ha hb hg hk)
    omega
theorem Ds_fin {T : Tw} (w : T.WF) {G : Nat → Nat → Bool} {to a : Nat} (ha : T.isArc a = true) (hf : T.fin a = to) : Ds T G to a = some (T.len a) :=
  Ds_some.mpr ⟨.last a ha hf, fun _ hm => (hm.pos w).1⟩
theorem Ds_step {T : Tw} {G : Nat → Nat → Bool} {to a b m : Nat} (ha : T.isArc a = true) (hb : T.isArc b = true) (hg : G a b = true) (h : Ds T G to b = some m) : ∃ n, Ds T G to a = some n ∧ n ≤ T.len a + m := by
  have hw := Wk.step a b m ha hb hg (Ds_some.mp h).1
  cases hd : Ds T G to a with
  | none => exact absurd hw (Ds_none.mp hd _)
  | some n => exact ⟨n, rfl, (Ds_some.mp hd).2 _ hw⟩
def ltO (o : Option Nat) (n : Nat) : Bool := match o with
  | none => false
  | some m => decide (m < n)
theorem Ds_cnt {T : Tw} (w : T.WF) {G : Nat → Nat → Bool} {to : Nat} (n : Nat) : ∀ a, Ds T G to a = some n → n ≤ 99 * (cnt (fun x => ltO (Ds T G to x) n) (2 * T.ns) + 1) := by
  induction n using Nat.strongRecOn with
  | ind n ih =>
    intro a h
    have ha := Tw.arc_lt (Ds_arc h)
    have hl := w.len ha
    rcases Ds_next h with ⟨-, e⟩ | ⟨b, m, hb, -, hm, e⟩
    · omega
    · have i := ih m (by omega) b hm
      have : cnt (fun x => ltO (Ds T G to x) m) (2 * T.ns) < cnt (fun x => ltO (Ds T G to x) n) (2 * T.ns) := by
        refine cnt_lt (y := b) ?_ (Tw.arc_lt hb) ?_ ?_
        · intro x _ hx
          unfold ltO at hx ⊢
          split at hx
          · exact hx
          · simp at hx ⊢; omega
        · simp only [hm, ltO]; simp; omega
        · simp only [hm, ltO]; simp
      omega
theorem Ds_le {T : Tw} (w : T.WF) {G : Nat → Nat → Bool} {to a n : Nat} (h : Ds T G to a = some n) : n ≤ 4851 := by
  have := Ds_cnt w n a h
  have := cnt_le (fun x => ltO (Ds T G to x) n) (2 * T.ns)
  have := w.ns
  omega
/-- the length, or far -/
def fz (F : Nat) (o : Option Nat) : Nat := match o with
  | none => F
  | some n => n
/-- the model's lengths, while they grow less -/
abbrev BM (T : Tw) (G : Nat → Nat → Bool) (to F : Nat) (L : Nat → Nat) : Prop := (∀ a, a < 2 * T.ns → L a ≤ F) ∧ (∀ a, a < 2 * T.ns → L a = F ∨ Wk T G to a (L a)) ∧ (∀ a, a < 2 * T.ns → T.isArc a = true → T.fin a = to → L a ≤ T.len a)
theorem BM.le {T : Tw} {G : Nat → Nat → Bool} {to F : Nat} {L : Nat → Nat} (h : BM T G to F L) : ∀ a, a < 2 * T.ns → L a ≤ F := h.1
theorem BM.so {T : Tw} {G : Nat → Nat → Bool} {to F : Nat} {L : Nat → Nat} (h : BM T G to F L) : ∀ a, a < 2 * T.ns → L a = F ∨ Wk T G to a (L a) := h.2.1
theorem BM.ba {T : Tw} {G : Nat → Nat → Bool} {to F : Nat} {L : Nat → Nat} (h : BM T G to F L) : ∀ a, a < 2 * T.ns → T.isArc a = true → T.fin a = to → L a ≤ T.len a := h.2.2
theorem BM.up {T : Tw} {G : Nat → Nat → Bool} {to F : Nat} {L L' : Nat → Nat} (h : BM T G to F L) {a b : Nat} (ha : T.isArc a = true) (hb : T.isArc b = true) (hg : G a b = true) (hl : L b + T.len a < L a) (e : L' a = L b + T.len a) (ho : ∀ x, x ≠ a → L' x = L x) : BM T G to F L' := by
  have la := Tw.arc_lt ha
  have lb := Tw.arc_lt hb
  have := h.le a la
  refine ⟨fun x hx => ?_, fun x hx => ?_, fun x hx hx1 hx2 => ?_⟩
  · by_cases e2 : x = a
    · subst e2; omega
    · rw [ho x e2]; exact h.le x hx
  · by_cases e2 : x = a
    · subst e2
      rcases h.so b lb with k | k
      · omega
      · right; rw [e, Nat.add_comm]; exact .step x b _ ha hb hg k
    · rw [ho x e2]; exact h.so x hx
  · by_cases e2 : x = a
    · subst e2
      have := h.ba x hx hx1 hx2
      omega
    · rw [ho x e2]; exact h.ba x hx hx1 hx2
theorem BM.min {T : Tw} {G : Nat → Nat → Bool} {to F : Nat} {L : Nat → Nat} (h : BM T G to F L) (hs : ∀ a b, T.isArc a = true → T.isArc b = true → G a b = true → ¬ L b + T.len a < L a) {a m : Nat} (hw : Wk T G to a m) : L a ≤ m := by
  induction hw using Wk.ind with
  | last a h1 h2 => exact h.ba a (Tw.arc_lt h1) h1 h2
  | step a b n h1 h2 h3 _ ih => have := hs a b h1 h2 h3; omega
theorem BM.fin {T : Tw} (w : T.WF) {G : Nat → Nat → Bool} {to F : Nat} {L : Nat → Nat} (h : BM T G to F L) (hF : 4851 < F) (hs : ∀ a b, T.isArc a = true → T.isArc b = true → G a b = true → ¬ L b + T.len a < L a) (a : Nat) (ha : a < 2 * T.ns) : L a = fz F (Ds T G to a) := by
  cases hd : Ds T G to a with
  | none =>
    rcases h.so a ha with k | k
    · exact k
    · exact absurd k (Ds_none.mp hd _)
  | some n =>
    have h1 := Ds_some.mp hd
    have h2 := h.min hs h1.1
    have h3 := Ds_le w hd
    rcases h.so a ha with k | k
    · omega
    · have := h1.2 _ k
      show L a = n
      omega
/-- the class's: what is left behind an arc -/
abbrev BC (T : Tw) (G : Nat → Nat → Bool) (to F : Nat) (R : Nat → Nat) : Prop := (∀ a, a < 2 * T.ns → R a ≤ F) ∧ (∀ a, a < 2 * T.ns → R a = F ∨ Wk T G to a (T.len a + R a)) ∧ (∀ a, a < 2 * T.ns → T.isArc a = true → T.fin a = to → R a = 0)
theorem BC.le {T : Tw} {G : Nat → Nat → Bool} {to F : Nat} {R : Nat → Nat} (h : BC T G to F R) : ∀ a, a < 2 * T.ns → R a ≤ F := h.1
theorem BC.so {T : Tw} {G : Nat → Nat → Bool} {to F : Nat} {R : Nat → Nat} (h : BC T G to F R) : ∀ a, a < 2 * T.ns → R a = F ∨ Wk T G to a (T.len a + R a) := h.2.1
theorem BC.ba {T : Tw} {G : Nat → Nat → Bool} {to F : Nat} {R : Nat → Nat} (h : BC T G to F R) : ∀ a, a < 2 * T.ns → T.isArc a = true → T.fin a = to → R a = 0 := h.2.2
theorem BC.up {T : Tw} {G : Nat → Nat → Bool} {to F : Nat} {R R' : Nat → Nat} (h : BC T G to F R) {a b : Nat} (ha : T.isArc a = true) (hb : T.isArc b = true) (hg : G a b = true) (hl : R b + T.len b < R a) (e : R' a = R b + T.len b) (ho : ∀ x, x ≠ a → R' x = R x) : BC T G to F R' := by
  have la := Tw.arc_lt ha
  have lb := Tw.arc_lt hb
  have := h.le a la
  refine ⟨fun x hx => ?_, fun x hx => ?_, fun x hx hx1 hx2 => ?_⟩
  · by_cases e2 : x = a
    · subst e2; omega
    · rw [ho x e2]; exact h.le x hx
  · by_cases e2 : x = a
    · subst e2
      rcases h.so b lb with k | k
      · omega
      · right; rw [e, Nat.add_comm (R b)]; exact .step x b _ ha hb hg k
    · rw [ho x e2]; exact h.so x hx
  · by_cases e2 : x = a
    · subst e2
      have := h.ba x hx hx1 hx2
      omega
    · rw [ho x e2]; exact h.ba x hx hx1 hx2
theorem BC.min {T : Tw} {G : Nat → Nat → Bool} {to F : Nat} {R : Nat → Nat} (h : BC T G to F R) (hs : ∀ a b, T.isArc a = true → T.isArc b = true → G a b = true → ¬ R b + T.len b < R a) {a m : Nat} (hw : Wk T G to a m) : T.len a + R a ≤ m := by
  induction hw using Wk.ind with
  | last a h1 h2 => rw [h.ba a (Tw.arc_lt h1) h1 h2]; exact Nat.le_refl _
  | step a b n h1 h2 h3 _ ih => have := hs a b h1 h2 h3; omega
theorem BC.fin {T : Tw} (w : T.WF) {G : Nat → Nat → Bool} {to F : Nat} {R : Nat → Nat} (h : BC T G to F R) (hF : 4851 < F) (hs : ∀ a b, T.isArc a = true → T.isArc b = true → G a b = true → ¬ R b + T.len b < R a) (a : Nat) (ha : a < 2 * T.ns) : (Ds T G to a = none ∧ R a = F) ∨ ∃ n, Ds T G to a = some n ∧ T.len a + R a = n := by
  cases hd : Ds T G to a with
  | none =>
    rcases h.so a ha with k | k
    · exact .inl ⟨rfl, k⟩
    · exact absurd k (Ds_none.mp hd _)
  | some n =>
    have h1 := Ds_some.mp hd
    have h2 := h.min hs h1.1
    have h3 := Ds_le w hd
    rcases h.so a ha with k | k
    · omega
    · have := h1.2 _ k
      exact .inr ⟨n, rfl, by omega⟩
