/-! PURE HALF: who reaches whom, the model's side. -/
set_option maxRecDepth 100000
/-- bits of a test -/
def ob (p : Nat → Bool) : Nat → Int32
  | 0 => 0
  | n + 1 => if p n then ob p n ||| ((1 : Int32) <<< (nI n &&& 31)) else ob p n
theorem bt_ob (p : Nat → Bool) {n : Nat} (hn : n ≤ 32) {k : Nat} (hk : k < 32) : btI (ob p n) k = (decide (k < n) && p k) := by
  induction n with
  | zero => unfold ob; rw [bt_0]; simp
  | succ n ih =>
    have ih := ih (by omega)
    unfold ob
    by_cases e : k = n
    · subst e
      cases hp : p k
      · simp [ih]
      · simp only [if_true]; rw [bt_or, bt_one (by omega) hk]; simp
    · have : decide (k < n + 1) = decide (k < n) := by rw [Bool.eq_iff_iff]; simp; omega
      rw [this]
      split
      · rw [bt_or, bt_one (by omega) hk, ih]; simp [e]
      · exact ih
/-- an arc leads to one -/
def Rc (T : Tw) (G : Nat → Nat → Bool) (a b : Nat) : Prop := ∀ M : Nat → Prop, (T.isArc a = true → M a) → (∀ b c, M b → T.isArc c = true → G b c = true → M c) → T.isArc a = true ∧ M b
theorem Rc.refl {T : Tw} {G : Nat → Nat → Bool} {a : Nat} (h : T.isArc a = true) : Rc T G a a := fun _ r _ => ⟨h, r h⟩
theorem Rc.step {T : Tw} {G : Nat → Nat → Bool} {a : Nat} (b c : Nat) (h : Rc T G a b) (h1 : T.isArc c = true) (h2 : G b c = true) : Rc T G a c := fun M r s => ⟨(h M r s).1, s b c (h M r s).2 h1 h2⟩
theorem Rc.ind {T : Tw} {G : Nat → Nat → Bool} {a : Nat} {motive : ∀ b, Rc T G a b → Prop} (refl : ∀ h, motive a (Rc.refl h)) (step : ∀ b c (h : Rc T G a b) h1 h2, motive b h → motive c (Rc.step b c h h1 h2)) {b : Nat} (h : Rc T G a b) : motive b h := by
  have : ∃ h : Rc T G a b, motive b h := (h (fun b => ∃ h : Rc T G a b, motive b h) (fun h => ⟨_, refl h⟩) (fun b c ⟨k, hk⟩ h1 h2 => ⟨_, step b c k h1 h2 hk⟩)).2
  exact this.2
theorem Rc.arc1 {T : Tw} {G : Nat → Nat → Bool} {a b : Nat} (h : Rc T G a b) : T.isArc a = true := by
  induction h using Rc.ind with
  | refl h => exact h
  | step _ _ _ _ _ ih => exact ih
theorem Rc.arc2 {T : Tw} {G : Nat → Nat → Bool} {a b : Nat} (h : Rc T G a b) : T.isArc b = true := by
  induction h using Rc.ind with
  | refl h => exact h
  | step _ _ _ h1 => exact h1
theorem Rc.trans {T : Tw} {G : Nat → Nat → Bool} {a b c : Nat} (h : Rc T G a b) (h' : Rc T G b c) : Rc T G a c := by
  induction h' using Rc.ind with
  | refl => exact h
  | step x y _ h2 h3 ih => exact .step x y ih h2 h3
noncomputable def RcB (T : Tw) (G : Nat → Nat → Bool) (a b : Nat) : Bool := @decide (Rc T G a b) (Classical.propDecidable _)
theorem RcB_iff {T : Tw} {G : Nat → Nat → Bool} {a b : Nat} : RcB T G a b = true ↔ Rc T G a b := by unfold RcB; simp
/-- paths by arcs under k -/
def Pw (T : Tw) (G : Nat → Nat → Bool) (k a b : Nat) : Prop := ∀ M : Nat → Nat → Prop, (∀ a, T.isArc a = true → M a a) → (∀ a b, T.isArc a = true → T.isArc b = true → G a b = true → M a b) → (∀ a m b, m < k → M a m → M m b → M a b) → M a b
theorem Pw.refl {T : Tw} {G : Nat → Nat → Bool} {k : Nat} (a : Nat) (h : T.isArc a = true) : Pw T G k a a := fun _ r _ _ => r a h
theorem Pw.edge {T : Tw} {G : Nat → Nat → Bool} {k : Nat} (a b : Nat) (h1 : T.isArc a = true) (h2 : T.isArc b = true) (h3 : G a b = true) : Pw T G k a b := fun _ _ e _ => e a b h1 h2 h3
theorem Pw.via {T : Tw} {G : Nat → Nat → Bool} {k : Nat} (a m b : Nat) (hm : m < k) (h1 : Pw T G k a m) (h2 : Pw T G k m b) : Pw T G k a b := fun M r e v => v a m b hm (h1 M r e v) (h2 M r e v)
theorem Pw.ind {T : Tw} {G : Nat → Nat → Bool} {k : Nat} {motive : ∀ a b, Pw T G k a b → Prop} (refl : ∀ a h, motive a a (Pw.refl a h)) (edge : ∀ a b h1 h2 h3, motive a b (Pw.edge a b h1 h2 h3)) (via : ∀ a m b hm (h1 : Pw T G k a m) (h2 : Pw T G k m b), motive a m h1 → motive m b h2 → motive a b (Pw.via a m b hm h1 h2)) {a b : Nat} (h : Pw T G k a b) : motive a b h := by
  have : ∃ h : Pw T G k a b, motive a b h := h (fun a b => ∃ h : Pw T G k a b, motive a b h) (fun a h => ⟨_, refl a h⟩) (fun a b h1 h2 h3 => ⟨_, edge a b h1 h2 h3⟩) (fun a m b hm ⟨k1, g1⟩ ⟨k2, g2⟩ => ⟨_, via a m b hm k1 k2 g1 g2⟩)
  exact this.2
theorem Pw.up {T : Tw} {G : Nat → Nat → Bool} {k a b : Nat} (h : Pw T G (k + 1) a b) : Pw T G k a b ∨ (Pw T G k a k ∧ Pw T G k k b) := by
  induction h using Pw.ind with
  | refl a h => exact .inl (.refl a h)
  | edge a b h1 h2 h3 => exact .inl (.edge a b h1 h2 h3)
  | via a m b hm _ _ ih1 ih2 =>
    by_cases e : m = k
    · subst e
      refine .inr ⟨?_, ?_⟩
      · rcases ih1 with h | h
        · exact h
        · exact h.1
      · rcases ih2 with h | h
        · exact h
        · exact h.2
    · have hm' : m < k := by omega
      rcases ih1 with h1 | ⟨h1, h1'⟩ <;> rcases ih2 with h2 | ⟨h2, h2'⟩
      · exact .inl (.via a m b hm' h1 h2)
      · exact .inr ⟨.via a m k hm' h1 h2, h2'⟩
      · exact .inr ⟨h1, .via k m b hm' h1' h2⟩
      · exact .inr ⟨h1, h2'⟩
theorem Rc.pw {T : Tw} {G : Nat → Nat → Bool} {a b : Nat} (h : Rc T G a b) : Pw T G (2 * T.ns) a b := by
  induction h using Rc.ind with
  | refl h => exact .refl a h
  | step x y h1 h2 h3 ih => exact .via a x y (Tw.arc_lt h1.arc2) ih (.edge x y h1.arc2 h2 h3)
/-- Warshall's rounds -/
def Wm (T : Tw) (G : Nat → Nat → Bool) : Nat → Nat → Nat → Bool
  | 0 => fun a b => T.isArc a && (decide (b = a) || T.isArc b && G a b)
  | k + 1 => fun a b => Wm T G k a b || Wm T G k a k && Wm T G k k b
theorem Wm_sound {T : Tw} {G : Nat → Nat → Bool} {k a b : Nat} (h : Wm T G k a b = true) : Rc T G a b := by
  induction k generalizing a b with
  | zero =>
    unfold Wm at h
    simp only [Bool.and_eq_true, Bool.or_eq_true, decide_eq_true_eq] at h
    rcases h.2 with e | e
    · subst e; exact .refl h.1
    · exact .step a b (.refl h.1) e.1 e.2
  | succ k ih =>
    unfold Wm at h
    simp only [Bool.and_eq_true, Bool.or_eq_true] at h
    rcases h with e | e
    · exact ih e
    · exact (ih e.1).trans (ih e.2)
theorem Wm_compl {T : Tw} {G : Nat → Nat → Bool} {k a b : Nat} (h : Pw T G k a b) : Wm T G k a b = true := by
  induction k generalizing a b with
  | zero =>
    induction h using Pw.ind with
    | refl _ h => unfold Wm; simp [h]
    | edge _ _ h1 h2 h3 => unfold Wm; simp [h1, h2, h3]
    | via _ m _ hm => omega
  | succ k ih =>
    unfold Wm
    rcases h.up with e | e
    · rw [ih e]; rfl
    · rw [ih e.1, ih e.2]; simp
theorem Wm_eq (T : Tw) (G : Nat → Nat → Bool) (a b : Nat) : Wm T G (2 * T.ns) a b = RcB T G a b := by
  rw [Bool.eq_iff_iff, RcB_iff]
  exact ⟨Wm_sound, fun h => Wm_compl h.pw⟩
/-- which can be come to -/
def ReaM (T : Tw) (G : Nat → Nat → Bool) (σ : ZS) : Prop := ∀ a b, a < 2 * T.ns → b < 2 * T.ns → btL (zJ σ 567 a) b = RcB T G a b
theorem ReaM.fr {T : Tw} {G : Nat → Nat → Bool} {σ σ' : ZS} {S : Nat → Prop} (h : ReaM T G σ) (f : Fr S σ σ') (hs : ∀ c, S c → c ≠ 567) : ReaM T G σ' := by
  intro a b ha hb
  rw [f.2.1 567 a fun k => hs _ k rfl, h a b ha hb]
theorem m_layReaches {T : Tw} {σ : ZS} (h : MT T σ) {G : Nat → Nat → Bool} (hf : FolM T G σ) {Ret : ZS → Prop} (hr : ∀ σ', Fr (fun c => c = 567) σ σ' → ReaM T G σ' → Ret σ') : wp_X4_layReaches σ Ret := by
  have hns := h.wf.ns
  have nm : ∀ c, c = 567 → noMT c := by intro c hc; unfold noMT; omega
  unfold wp_X4_layReaches
  refine forL (S := ZS) (fun k s x => VL_X4_layReaches_2 Ret k s x) (fun i s => Fr (fun c => c = 567) σ s ∧ ∀ a b, a < i → b < 2 * T.ns → btL (zJ s 567 a) b = Wm T G 0 a b) (2 * T.ns) ?_ ?_ 0 σ (Nat.zero_le _) ⟨Fr.rfl, fun a b ha => absurd ha (Nat.not_lt_zero _)⟩
  · rintro n s ⟨f, hb⟩
    have hs := h.fr f nm
    simp only [VL_X4_layReaches_2]
    rw [hs.ltA (by omega)]
    refine br_f (by omega) ?_
    refine forL (S := ZS) (fun k s x => VL_X4_layReaches_50 Ret k s x) (fun i s => Fr (fun c => c = 567) σ s ∧ ∀ a b, a < 2 * T.ns → b < 2 * T.ns → btL (zJ s 567 a) b = Wm T G i a b) (2 * T.ns) ?_ ?_ 0 s (Nat.zero_le _) ⟨f, hb⟩
    · rintro n s ⟨f, hb⟩
      have hs := h.fr f nm
      simp only [VL_X4_layReaches_50]
      rw [hs.ltA (by omega)]
      refine br_f (by omega) (hr s f fun a b ha hb' => ?_)
      rw [hb a b ha hb', Wm_eq]
    · rintro n i s hi ⟨f, hb⟩ ih
      have hs := h.fr f nm
      simp only [VL_X4_layReaches_50]
      rw [hs.ltA (by omega)]
      refine br_t hi ?_
      refine forL (S := ZS) (fun k s x => VL_X4_layReaches_64 _ Ret k s (nI i) x) (fun j s => Fr (fun c => c = 567) σ s ∧ ∀ a b, a < 2 * T.ns → b < 2 * T.ns → btL (zJ s 567 a) b = if a < j then Wm T G (i + 1) a b else Wm T G i a b) (2 * T.ns) ?_ ?_ 0 s (Nat.zero_le _) ⟨f, fun a b ha hb' => by rw [if_neg (by omega)]; exact hb a b ha hb'⟩
      · rintro n2 s ⟨f, hb⟩
        have hs := h.fr f nm
        simp only [VL_X4_layReaches_64]
        rw [hs.ltA (by omega)]; simp only [nI1]
        exact br_f (by omega) (nm_e (ih s ⟨f, fun a b ha hb' => by rw [hb a b ha hb', if_pos ha]⟩))
      · rintro n2 j s hj ⟨f, hb⟩ ih2
        have hs := h.fr f nm
        simp only [VL_X4_layReaches_64]
        rw [hs.ltA (by omega)]; simp only [nI1]
        rw [ix_nI (by omega), ix_nI (by omega), tstU _ (by omega), lg_1, hb j i hj hi, if_neg (by omega)]
        refine br_t hj ⟨vin (by omega) (by decide), fun h1 => ⟨vin (by omega) (by decide), vin (by omega) (by decide), vin (by omega) (by decide), nm_e (nm_e (ih2 _ ⟨f.sJ _ _ _ rfl, fun a b ha hb' => ?_⟩))⟩, fun h1 => nm_e (ih2 s ⟨f, fun a b ha hb' => ?_⟩)⟩
        · rw [zJ_row]
          by_cases e : a = j
          · subst e
            rw [if_pos rfl, if_pos (by omega), btL_or, hb a b ha hb', hb i b hi hb', if_neg (by omega)]
            have : (if i < a then Wm T G (i + 1) i b else Wm T G i i b) = Wm T G i i b := by
              split
              · show (Wm T G i i b || Wm T G i i i && Wm T G i i b) = _
                cases Wm T G i i b <;> simp
              · rfl
            rw [this]
            show _ = (Wm T G i a b || Wm T G i a i && Wm T G i i b)
            rw [h1]; simp
          · rw [if_neg e, hb a b ha hb']
            by_cases e2 : a < j
            · rw [if_pos e2, if_pos (by omega)]
            · rw [if_neg e2, if_neg (by omega)]
        · rw [hb a b ha hb']
          by_cases e : a = j
          · subst e
            rw [Bool.not_eq_true] at h1
            rw [if_neg (by omega), if_pos (by omega)]
            show _ = (Wm T G i a b || Wm T G i a i && Wm T G i i b)
            rw [h1]; simp
          · by_cases e2 : a < j
            · rw [if_pos e2, if_pos (by omega)]
            · rw [if_neg e2, if_neg (by omega)]
  · rintro n i s hi ⟨f, hb⟩ ih
    have hs := h.fr f nm
    have hf' := hf.fr f (by intro c hc; omega)
    simp only [VL_X4_layReaches_2]
    rw [hs.ltA (by omega)]; simp only [nI1]
    rw [ix_nI (by omega)]
    refine br_t hi (m_isArcN hs (by omega) (br0 (fun h1 => ⟨vin (by omega) (by decide), nm_e (nm_e (ih _ ⟨f.sJ _ _ _ rfl, fun a b ha hb' => ?_⟩))⟩) fun h1 => ⟨vin (by omega) (by decide), vin (by omega) (by decide), nm_e (nm_e (ih _ ⟨f.sJ _ _ _ rfl, fun a b ha hb' => ?_⟩))⟩))
    · rw [zJ_row]
      by_cases e : a = i
      · subst e; rw [if_pos rfl, btL_0]; unfold Wm; rw [h1]; rfl
      · rw [if_neg e]; exact hb a b (by omega) hb'
    · rw [zJ_row]
      by_cases e : a = i
      · subst e
        rw [if_pos rfl, btL_or, btL_one (by omega) (by omega), hf' a b hi hb']
        unfold Wm; rw [h1]
        cases decide (b = a) <;> simp
      · rw [if_neg e]; exact hb a b (by omega) hb'
/-- a corner leads to one -/
def RcC (T : Tw) (G : Nat → Nat → Bool) (c k : Nat) : Prop := k = c ∨ ∃ a b, frm T c a = true ∧ Rc T G a b ∧ T.fin b = k
noncomputable def rcB (T : Tw) (G : Nat → Nat → Bool) (c k : Nat) : Bool := @decide (RcC T G c k) (Classical.propDecidable _)
theorem rcB_iff {T : Tw} {G : Nat → Nat → Bool} {c k : Nat} : rcB T G c k = true ↔ RcC T G c k := by unfold rcB; simp
/-- the corners a ride leads to -/
noncomputable def rchV (T : Tw) (G : Nat → Nat → Bool) (c : Nat) : Int32 := ob (rcB T G c) 32
theorem bt_rchV {T : Tw} {G : Nat → Nat → Bool} {c k : Nat} (hk : k < 32) : btI (rchV T G c) k = rcB T G c k := by unfold rchV; rw [bt_ob _ (by decide) hk]; simp [hk]
theorem RcC_lt {T : Tw} (w : T.WF) {G : Nat → Nat → Bool} {c k : Nat} (hc : c < T.nc) (h : RcC T G c k) : k < T.nc := by
  rcases h with e | ⟨a, b, -, h2, e⟩
  · omega
  · rw [← e]; exact w.fin (Tw.arc_lt h2.arc2)
theorem m_reachOf {T : Tw} {σ : ZS} (h : MT T σ) {G : Nat → Nat → Bool} (hm : ReaM T G σ) {c : Nat} (hc : c < T.nc) {Ret : Int32 → ZS → Prop} (hr : Ret (rchV T G c) σ) : wp_X4_reachOf σ (nI c) Ret := by
  have hns := h.wf.ns
  have hnc := h.wf.nc
  have w := h.wf
  unfold wp_X4_reachOf
  refine nm_e ?_
  refine forL1 (fun k s v x => VL_X4_reachOf_6 Ret k s (nI c) v x) (fun i s v => s = σ ∧ ∀ k, k < 32 → (btI v k = true ↔ k = c ∨ ∃ a b, a < i ∧ frm T c a = true ∧ Rc T G a b ∧ T.fin b = k)) (2 * T.ns) ?_ ?_ 0 σ _ (Nat.zero_le _) ⟨rfl, fun k hk => ?_⟩
  · rintro n s v ⟨rfl, hv⟩
    simp only [VL_X4_reachOf_6]
    rw [h.ltA (by omega)]
    have : v = rchV T G c := bt_ext fun k hk => by
      rw [bt_rchV hk, Bool.eq_iff_iff, hv k hk, rcB_iff]
      unfold RcC
      constructor
      · rintro (e | ⟨a, b, -, h1, h2, h3⟩)
        · exact .inl e
        · exact .inr ⟨a, b, h1, h2, h3⟩
      · rintro (e | ⟨a, b, h1, h2, h3⟩)
        · exact .inl e
        · exact .inr ⟨a, b, Tw.arc_lt h2.arc1, h1, h2, h3⟩
    rw [this]
    exact br_f (by omega) hr
  · rintro n i s v hi ⟨rfl, hv⟩ ih
    simp only [VL_X4_reachOf_6]
    rw [h.ltA (by omega)]; simp only [nI1]
    have skip : frm T c i = false → VL_X4_reachOf_6 Ret n s (nI c) v (nI (i + 1)) := by
      intro e
      refine ih s v ⟨rfl, fun k hk => ?_⟩
      rw [hv k hk]
      constructor
      · rintro (e1 | ⟨a, b, h1, h2⟩)
        · exact .inl e1
        · exact .inr ⟨a, b, by omega, h2⟩
      · rintro (e1 | ⟨a, b, h1, h2⟩)
        · exact .inl e1
        · refine .inr ⟨a, b, ?_, h2⟩
          by_cases e2 : a = i
          · subst e2; rw [e] at h2; cases h2.1
          · omega
    refine br_t hi (m_isArcN h (by omega) (br0 (fun h1 => nm_e (skip (by unfold frm; rw [h1]; rfl))) fun h1 => m_begin h hi ?_))
    have hb := w.beg hi
    rw [nI_eq (by omega) (by omega)]
    refine ⟨fun h2 => ?_, fun h2 => nm_e (skip (by unfold frm; simp [h2]))⟩
    have hfr : frm T c i = true := by unfold frm; rw [h1, h2]; simp
    refine forL1 (fun k s v x => VL_X4_reachOf_41 _ Ret k s (nI c) v (nI i) x) (fun j s' v => s' = s ∧ ∀ k, k < 32 → (btI v k = true ↔ (k = c ∨ ∃ a b, a < i ∧ frm T c a = true ∧ Rc T G a b ∧ T.fin b = k) ∨ ∃ b, b < j ∧ Rc T G i b ∧ T.fin b = k)) (2 * T.ns) ?_ ?_ 0 s v (Nat.zero_le _) ⟨rfl, fun k hk => ?_⟩
    · rintro n2 s' v' ⟨rfl, hv'⟩
      simp only [VL_X4_reachOf_41]
      rw [h.ltA (by omega)]; simp only [nI1]
      refine br_f (by omega) (nm_e (ih s' v' ⟨rfl, fun k hk => ?_⟩))
      rw [hv' k hk]
      constructor
      · rintro ((e1 | ⟨a, b, g1, g2⟩) | ⟨b, g1, g2, g3⟩)
        · exact .inl e1
        · exact .inr ⟨a, b, by omega, g2⟩
        · exact .inr ⟨i, b, by omega, hfr, g2, g3⟩
      · rintro (e1 | ⟨a, b, g1, g2⟩)
        · exact .inl (.inl e1)
        · by_cases e2 : a = i
          · subst e2; exact .inr ⟨b, Tw.arc_lt g2.2.1.arc2, g2.2.1, g2.2.2⟩
          · exact .inl (.inr ⟨a, b, by omega, g2⟩)
    · rintro n2 j s' v' hj ⟨rfl, hv'⟩ ih2
      simp only [VL_X4_reachOf_41]
      rw [h.ltA (by omega)]; simp only [nI1]
      rw [ix_nI (by omega), tstU _ (by omega), lg_1, hm i j hi hj]
      refine br_t hj ⟨vin (by omega) (by decide), fun h3 => m_end h hj (nm_e (nm_e (ih2 s' _ ⟨rfl, fun k hk => ?_⟩))), fun h3 => nm_e (ih2 s' v' ⟨rfl, fun k hk => ?_⟩)⟩
      · have hfj := w.fin hj
        rw [bt_or, bt_one (by omega) hk, Bool.or_eq_true, hv' k hk, decide_eq_true_eq]
        constructor
        · rintro ((e1 | ⟨b, g1, g2⟩) | e1)
          · exact .inl e1
          · exact .inr ⟨b, by omega, g2⟩
          · exact .inr ⟨j, by omega, RcB_iff.mp h3, e1.symm⟩
        · rintro (e1 | ⟨b, g1, g2⟩)
          · exact .inl (.inl e1)
          · by_cases e2 : b = j
            · subst e2; exact .inr g2.2.symm
            · exact .inl (.inr ⟨b, by omega, g2⟩)
      · rw [hv' k hk]
        constructor
        · rintro (e1 | ⟨b, g1, g2⟩)
          · exact .inl e1
          · exact .inr ⟨b, by omega, g2⟩
        · rintro (e1 | ⟨b, g1, g2⟩)
          · exact .inl e1
          · by_cases e2 : b = j
            · subst e2; exact absurd (RcB_iff.mpr g2.1) h3
            · exact .inr ⟨b, by omega, g2⟩
    · rw [hv k hk]
      constructor
      · exact fun e => .inl e
      · rintro (e | ⟨b, g1, -⟩)
        · exact e
        · omega
  · rw [bt_one (by omega) hk, decide_eq_true_eq]
    constructor
    · exact fun e => .inl e
    · rintro (e | ⟨a, b, g1, -⟩)
      · exact e
      · omega
/-- the corners from which a ride leads to one -/
noncomputable def homV (T : Tw) (G : Nat → Nat → Bool) (c : Nat) : Int32 := ob (fun k => decide (k < T.nc) && rcB T G k c) 32
theorem bt_homV {T : Tw} {G : Nat → Nat → Bool} {c k : Nat} (hk : k < 32) : btI (homV T G c) k = (decide (k < T.nc) && rcB T G k c) := by unfold homV; rw [bt_ob _ (by decide) hk]; simp [hk]
theorem m_homeOf {T : Tw} {σ : ZS} (h : MT T σ) {G : Nat → Nat → Bool} (hm : ReaM T G σ) {c : Nat} (hc : c < T.nc) {Ret : Int32 → ZS → Prop} (hr : Ret (homV T G c) σ) : wp_X4_homeOf σ (nI c) Ret := by
  have hnc := h.wf.nc
  unfold wp_X4_homeOf
  refine forL1 (fun k s v x => VL_X4_homeOf_4 Ret k s (nI c) v x) (fun i s v => s = σ ∧ ∀ k, k < 32 → btI v k = (decide (k < i) && rcB T G k c)) T.nc ?_ ?_ 0 σ 0 (Nat.zero_le _) ⟨rfl, fun k hk => by rw [bt_0]; simp⟩
  · rintro n s v ⟨rfl, hv⟩
    simp only [VL_X4_homeOf_4]
    rw [h.ltC (by omega)]
    have : v = homV T G c := bt_ext fun k hk => by rw [bt_homV hk, hv k hk]
    rw [this]
    exact br_f (by omega) hr
  · rintro n i s v hi ⟨rfl, hv⟩ ih
    simp only [VL_X4_homeOf_4]
    rw [h.ltC (by omega)]; simp only [nI1]
    refine br_t hi (m_reachOf h hm hi ?_)
    rw [tst _ (by omega), bt_rchV (by omega), b2i_1]
    refine ⟨fun h1 => nm_e (nm_e (ih s _ ⟨rfl, fun k hk => ?_⟩)), fun h1 => nm_e (nm_e (ih s _ ⟨rfl, fun k hk => ?_⟩))⟩
    · rw [bt_or, bt_one (by omega) hk, hv k hk]
      by_cases e : k = i
      · subst e; simp [h1]
      · have : decide (k < i + 1) = decide (k < i) := by rw [Bool.eq_iff_iff]; simp; omega
        rw [this]; simp [e]
    · rw [bt_or, bt_0, Bool.or_false, hv k hk]
      by_cases e : k = i
      · subst e; rw [Bool.not_eq_true] at h1; simp [h1]
      · have : decide (k < i + 1) = decide (k < i) := by rw [Bool.eq_iff_iff]; simp; omega
        rw [this]
/-- how many bits -/
theorem m_ones {σ : ZS} {x : Int32} {Ret : Int32 → ZS → Prop} (hr : Ret (nI (cnt (btI x) 24)) σ) : wp_X4_ones σ x Ret := by
  unfold wp_X4_ones
  refine forL1 (fun k s v i => VL_X4_ones_4 Ret k s x v i) (fun i s v => s = σ ∧ v = nI (cnt (btI x) i)) 24 ?_ ?_ 0 σ 0 (Nat.zero_le _) ⟨rfl, rfl⟩
  · rintro n s v ⟨rfl, rfl⟩
    simp only [VL_X4_ones_4]
    exact br_f (by decide) hr
  · rintro n i s v hi ⟨rfl, rfl⟩ ih
    simp only [VL_X4_ones_4]
    refine br_t (by rw [n24]; exact nI_lt hi (by decide)) (nm_e (nm_e ?_))
    rw [tst _ (by omega), nI1]
    refine ih s _ ⟨rfl, ?_⟩
    conv => rhs; unfold cnt
    cases btI x i
    · show _ + (0 : Int32) = nI (_ + 0); rw [n0, nI_add]
    · show _ + (1 : Int32) = nI (_ + 1); rw [nI1]
