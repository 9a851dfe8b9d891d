/-! PURE HALF: a told ride and what it breaks. -/
set_option maxRecDepth 100000
abbrev FW : Type := Option (Nat × Int64)
def mg (acc : FW) (n : Nat) (w : Int64) : FW := match acc with
  | none => some (n, w)
  | some q => if n < q.1 then some (n, w) else if n = q.1 then some (q.1, q.2 + w) else some q
def fdA (f : Nat → FW) : Nat → FW
  | 0 => none
  | a + 1 => match f a with
    | none => fdA f a
    | some q => mg (fdA f a) q.1 q.2
def isLg (T : Tw) (td : Nat → Int32) (k b : Nat) : Bool := T.isArc b && decide (nI (T.beg b) = td k) && decide (nI (T.fin b) = td (k + 1))
def stp (G B : Nat → Nat → Bool) (L : Nat → FW) (b a : Nat) : FW := match L a with
  | none => none
  | some q => if !G a b && B a b then none else some (q.1 + (if G a b then 0 else 1), q.2)
def layF (T : Tw) (G B : Nat → Nat → Bool) (td : Nat → Int32) : Nat → Nat → FW
  | 0 => fun b => if isLg T td 0 b then some (0, 1) else none
  | k + 1 => fun b => if isLg T td (k + 1) b then fdA (stp G B (layF T G B td k) b) (2 * T.ns) else none
def brF (T : Tw) (G B : Nat → Nat → Bool) (td : Nat → Int32) (nt : Nat) : FW := fdA (layF T G B td (nt - 2)) (2 * T.ns)
def fw (F : Nat) (x : FW) : Nat := match x with
  | none => F
  | some q => q.1
def ww (x : FW) : Int64 := match x with
  | none => 0
  | some q => q.2
theorem fd_le {f : Nat → FW} {m : Nat} (h : ∀ a q, f a = some q → q.1 ≤ m) {n : Nat} {q : Nat × Int64} (hq : fdA f n = some q) : q.1 ≤ m := by
  induction n generalizing q with
  | zero => cases hq
  | succ n ih =>
    unfold fdA at hq
    cases hf : f n with
    | none => rw [hf] at hq; exact ih hq
    | some p =>
      rw [hf] at hq
      simp only at hq
      unfold mg at hq
      cases ha : fdA f n with
      | none => rw [ha] at hq; simp only at hq; cases hq; exact h n p hf
      | some r =>
        rw [ha] at hq
        simp only at hq
        have := ih ha
        have := h n p hf
        split at hq
        · cases hq; exact h n p hf
        · have h7 := ih ha
          split at hq
          · cases hq; exact h7
          · cases hq; exact h7
theorem lay_le {T : Tw} {G B : Nat → Nat → Bool} {td : Nat → Int32} {k b : Nat} {q : Nat × Int64} (h : layF T G B td k b = some q) : q.1 ≤ k := by
  induction k generalizing b q with
  | zero =>
    unfold layF at h
    split at h
    · cases h; exact Nat.le_refl _
    · cases h
  | succ k ih =>
    unfold layF at h
    split at h
    · refine fd_le (m := k + 1) (fun a p hp => ?_) h
      unfold stp at hp
      cases hl : layF T G B td k a with
      | none => rw [hl] at hp; cases hp
      | some r =>
        rw [hl] at hp
        simp only at hp
        have := ih hl
        split at hp
        · cases hp
        · cases hp
          show r.1 + _ ≤ _
          split <;> omega
    · cases h
theorem br_le {T : Tw} {G B : Nat → Nat → Bool} {td : Nat → Int32} {nt : Nat} {q : Nat × Int64} (h : brF T G B td nt = some q) : q.1 ≤ nt - 2 := fd_le (fun a p hp => lay_le hp) h
theorem lay_0 (T : Tw) (G B : Nat → Nat → Bool) (td : Nat → Int32) (b : Nat) : layF T G B td 0 b = if isLg T td 0 b then some (0, 1) else none := rfl
theorem lay_s (T : Tw) (G B : Nat → Nat → Bool) (td : Nat → Int32) (k b : Nat) : layF T G B td (k + 1) b = if isLg T td (k + 1) b then fdA (stp G B (layF T G B td k) b) (2 * T.ns) else none := rfl
theorem qI_cI (σ : ZS) (b a sp dp n j : Nat) : zI (cI σ b a sp dp n) a j = va_cpy (zI σ b) (zI σ a) sp dp n j := by
  show (if a = a then _ else _) = _; rw [if_pos rfl]; rfl
theorem zI_cIn (σ : ZS) {b a sp dp n c : Nat} (h : c ≠ a) (j : Nat) : zI (cI σ b a sp dp n) c j = zI σ c j := by
  show (if c = a then _ else _) = _; rw [if_neg h]; rfl
theorem qJ_cI (σ : ZS) (b a sp dp n c j : Nat) : zJ (cI σ b a sp dp n) c j = zJ σ c j := rfl
theorem qI_cJ (σ : ZS) (b a sp dp n c j : Nat) : zI (cJ σ b a sp dp n) c j = zI σ c j := rfl
theorem qJ_cJ (σ : ZS) (b a sp dp n j : Nat) : zJ (cJ σ b a sp dp n) a j = va_cpy (zJ σ b) (zJ σ a) sp dp n j := by
  show (if a = a then _ else _) = _; rw [if_pos rfl]; rfl
theorem j0 (x : Int64) : x + 0 = x := by simp
theorem j00 (x : Int64) : 0 + x = x := by simp
/-! the class -/
abbrev TdC (nt : Nat) (td : Nat → Int32) (σ : ZS) : Prop := nt ≤ 12 ∧ zI σ 12 4 = nI nt ∧ ∀ i, i < nt → zI σ 15 i = td i
theorem TdC.fr {nt : Nat} {td : Nat → Int32} {σ σ' : ZS} {S : Nat → Prop} (h : TdC nt td σ) (f : Fr S σ σ') (hs : ∀ c, S c → c ≠ 12 ∧ c ≠ 15) : TdC nt td σ' :=
  ⟨h.1, by rw [f.1 12 4 fun k => (hs _ k).1 rfl]; exact h.2.1, fun i hi => by rw [f.1 15 i fun k => (hs _ k).2 rfl]; exact h.2.2 i hi⟩
/-- the pair that may not be broken -/
def BnC (T : Tw) (B : Nat → Nat → Bool) (σ : ZS) : Prop := ∀ a b, a < 2 * T.ns → b < 2 * T.ns → ((zI σ 0 36 = nI (a / 2) ∧ zI σ 0 37 = nI (b / 2)) ↔ B a b = true)
theorem BnC.fr {T : Tw} {B : Nat → Nat → Bool} {σ σ' : ZS} {S : Nat → Prop} (h : BnC T B σ) (f : Fr S σ σ') (hs : ∀ c, S c → c ≠ 2000036 ∧ c ≠ 2000037) : BnC T B σ' := by
  intro a b ha hb
  rw [f.1 0 36 fun k => (hs _ k).1 rfl, f.1 0 37 fun k => (hs _ k).2 rfl]
  exact h a b ha hb
def FwC (T : Tw) (L : Nat → FW) (σ : ZS) : Prop := ∀ b, b < 2 * T.ns → zI σ 39 b = nI (fw 1000000 (L b)) ∧ zJ σ 41 b = ww (L b)
def inB (c : Nat) : Prop := 39 ≤ c ∧ c < 43
theorem inB_C : ∀ c, inB c → scC c := by intro c hc; unfold inB at hc; unfold scC; omega
theorem c_isLeg {e : Ev} {σ : ZS} (h : CE e σ) {nt : Nat} {td : Nat → Int32} (ht : TdC nt td σ) {k b : Nat} (hk : k + 1 < nt) (hb : b < 2 * e.T.ns) {Ret : Int32 → ZS → Prop} (hr : Ret (b2i (isLg e.T td k b)) σ) : wp_X1_isLeg σ (nI b) (nI k) Ret := by
  have hns := h.ct.wf.ns
  have h12 := ht.1
  unfold wp_X1_isLeg
  simp only [nI1]
  unfold isLg at hr
  refine t_isArcN h.ct (by omega) (br0 (fun k1 => by rw [k1] at hr; exact hr) fun k1 => t_begin h.ct hb ⟨vin (by omega) (by decide), ?_⟩)
  rw [ix_nI (by omega), ht.2.2 k (by omega)]
  rw [k1] at hr
  refine ⟨fun k2 => t_end h.ct hb ⟨vin (by omega) (by decide), ?_⟩, fun k2 => by simpa [k2, b2i] using hr⟩
  rw [ix_nI (by omega), ht.2.2 (k + 1) hk]
  exact ⟨fun k3 => by simpa [k2, k3, b2i] using hr, fun k3 => by simpa [k2, k3, b2i] using hr⟩
theorem c_leg {e : Ev} {σ : ZS} (h : CE e σ) {nt : Nat} {td : Nat → Int32} (ht : TdC nt td σ) {B : Nat → Nat → Bool} (hB : BnC e.T B σ) {t k : Nat} (htm : t ≤ e.tm) (hk : k + 2 < nt) (hL : FwC e.T (layF e.T (e.G t) B td k) σ) {Ret : ZS → Prop} (hr : ∀ σ', Fr inB σ σ' → FwC e.T (layF e.T (e.G t) B td (k + 1)) σ' → Ret σ') : wp_X1_leg σ (nI (k + 1)) (nI t) Ret := by
  have w := h.ct.wf
  have hns := w.ns
  have h12 := ht.1
  have hLb : ∀ a q, layF e.T (e.G t) B td k a = some q → q.1 ≤ 12 := fun a q hq => by have := lay_le hq; omega
  have hLb' : ∀ b q, layF e.T (e.G t) B td (k + 1) b = some q → q.1 ≤ 12 := fun a q hq => by have := lay_le hq; omega
  unfold wp_X1_leg
  refine forL (S := ZS) (fun m s x => VL_X1_leg_2 Ret m s (nI (k + 1)) (nI t) x) (fun i s => Fr (fun c => c = 40 ∨ c = 42) σ s ∧ ∀ b, b < i → zI s 40 b = nI (fw 1000000 (layF e.T (e.G t) B td (k + 1) b)) ∧ zJ s 42 b = ww (layF e.T (e.G t) B td (k + 1) b)) (2 * e.T.ns) ?_ ?_ 0 σ (Nat.zero_le _) ⟨Fr.rfl, fun b hb => absurd hb (Nat.not_lt_zero _)⟩
  · rintro n s ⟨f, g⟩
    have hs := h.fr f (by intro c hc; unfold scC; omega)
    simp only [VL_X1_leg_2]
    refine t_arcs hs.ct (br_f (nI_nlt (Nat.le_refl _) (by omega)) ⟨⟨by decide, by decide, by decide, by decide, by decide⟩, nm_e ⟨⟨by decide, by decide, by decide, by decide, by decide⟩, nm_e (hr _ (((f.mono (by intro c hc; unfold inB; omega)).cI 40 39 _ _ _ (fun i => by unfold inB cd; simp)).cJ 42 41 _ _ _ (fun i => by unfold inB cd; simp)) fun b hb => ?_)⟩⟩)
    obtain ⟨g1, g2⟩ := g b hb
    have hc : (ix 0 ≤ b ∧ b < ix 0 + ix 48) := ⟨Nat.zero_le _, by show b < 0 + 48; omega⟩
    constructor
    · rw [qI_cJ, qI_cI, pk_cpy_in hc.1 hc.2, show ix 0 + (b - ix 0) = b from by show 0 + (b - 0) = b; omega]
      exact g1
    · rw [qJ_cJ, pk_cpy_in hc.1 hc.2, show ix 0 + (b - ix 0) = b from by show 0 + (b - 0) = b; omega]
      exact g2
  · rintro n i s hi ⟨f, g⟩ ih
    have hs := h.fr f (by intro c hc; unfold scC; omega)
    simp only [VL_X1_leg_2]
    simp only [nI1]
    refine t_arcs hs.ct (br_t (nI_lt hi (by omega)) ⟨vin (by omega) (by decide), nm_e ⟨vin (by omega) (by decide), nm_e ?_⟩⟩)
    rw [ix_nI (by omega)]
    have f1 : Fr (fun c => c = 40 ∨ c = 42) σ (sJ (sI s 40 i 1000000) 42 i 0) := (f.sI _ _ _ (.inl rfl)).sJ _ _ _ (.inr rfl)
    have g1 : ∀ b, b < i → zI (sJ (sI s 40 i 1000000) 42 i 0) 40 b = nI (fw 1000000 (layF e.T (e.G t) B td (k + 1) b)) ∧ zJ (sJ (sI s 40 i 1000000) 42 i 0) 42 b = ww (layF e.T (e.G t) B td (k + 1) b) := fun b hb => by
      rw [qI_sJ, zI_row, if_neg (by omega), zJ_row, if_neg (by omega), qJ_sI]; exact g b hb
    have z1 : zI (sJ (sI s 40 i 1000000) 42 i 0) 40 i = nI 1000000 := by rw [qI_sJ, zI_row, if_pos rfl]; rfl
    have z2 : zJ (sJ (sI s 40 i 1000000) 42 i 0) 42 i = 0 := by rw [zJ_row, if_pos rfl]
    generalize sJ (sI s 40 i 1000000) 42 i 0 = s1 at f1 g1 z1 z2 ⊢
    have hs1 := h.fr f1 (by intro c hc; unfold scC; omega)
    have ht1 := ht.fr f1 (by intro c hc; omega)
    refine c_isLeg hs1 ht1 (k := k + 1) (by omega) hi (br0 (fun k1 => nm_e (ih s1 ⟨f1, fun b hb => ?_⟩)) fun k1 => ?_)
    · by_cases eb : b = i
      · subst eb
        have : layF e.T (e.G t) B td (k + 1) b = none := by rw [lay_s, k1]; rfl
        rw [this, z1, z2]; exact ⟨rfl, rfl⟩
      · exact g1 b (by omega)
    · have hlay : layF e.T (e.G t) B td (k + 1) i = fdA (stp (e.G t) B (layF e.T (e.G t) B td k) i) (2 * e.T.ns) := by rw [lay_s, k1]; rfl
      have hfd : ∀ m q, fdA (stp (e.G t) B (layF e.T (e.G t) B td k) i) m = some q → q.1 ≤ 13 := fun m q hq => fd_le (m := 13) (fun a p hp => by
        unfold stp at hp
        cases hl : layF e.T (e.G t) B td k a with
        | none => rw [hl] at hp; cases hp
        | some r =>
          rw [hl] at hp
          simp only at hp
          have := hLb a r hl
          split at hp
          · cases hp
          · cases hp
            show r.1 + _ ≤ _
            split <;> omega) hq
      refine forL (S := ZS) (fun m s x => VL_X1_leg_44 _ Ret m s (nI (k + 1)) (nI t) (nI i) x) (fun j s => Fr (fun c => c = 40 ∨ c = 42) σ s ∧ (∀ b, b < i → zI s 40 b = nI (fw 1000000 (layF e.T (e.G t) B td (k + 1) b)) ∧ zJ s 42 b = ww (layF e.T (e.G t) B td (k + 1) b)) ∧ zI s 40 i = nI (fw 1000000 (fdA (stp (e.G t) B (layF e.T (e.G t) B td k) i) j)) ∧ zJ s 42 i = ww (fdA (stp (e.G t) B (layF e.T (e.G t) B td k) i) j)) (2 * e.T.ns) ?_ ?_ 0 s1 (Nat.zero_le _) ⟨f1, g1, z1, z2⟩
      · rintro n2 s2 ⟨f2, g2, y1, y2⟩
        have hs2 := h.fr f2 (by intro c hc; unfold scC; omega)
        simp only [VL_X1_leg_44]
        simp only [nI1]
        refine t_arcs hs2.ct (br_f (nI_nlt (Nat.le_refl _) (by omega)) (nm_e (ih s2 ⟨f2, fun b hb => ?_⟩)))
        by_cases eb : b = i
        · subst eb; rw [hlay]; exact ⟨y1, y2⟩
        · exact g2 b (by omega)
      · rintro n2 j s2 hj ⟨f2, g2, y1, y2⟩ ih2
        have hs2 := h.fr f2 (by intro c hc; unfold scC; omega)
        have hB2 := hB.fr f2 (by intro c hc; omega)
        have l39 : zI s2 39 j = nI (fw 1000000 (layF e.T (e.G t) B td k j)) := by rw [f2.1 39 j (by simp [cd])]; exact (hL j hj).1
        have l41 : zJ s2 41 j = ww (layF e.T (e.G t) B td k j) := by rw [f2.2.1 41 j (by simp [cd])]; exact (hL j hj).2
        simp only [VL_X1_leg_44]
        simp only [nI1]
        refine t_arcs hs2.ct (br_t (nI_lt hj (by omega)) (c_may hs2 hj hi htm ⟨vin (by omega) (by decide), ?_⟩))
        rw [ix_nI (by omega), l39]
        have skip : stp (e.G t) B (layF e.T (e.G t) B td k) i j = none → VL_X1_leg_44 (VL_X1_leg_2 Ret n) Ret n2 s2 (nI (k + 1)) (nI t) (nI i) (nI (j + 1)) := by
          intro hk'
          have e1 : fdA (stp (e.G t) B (layF e.T (e.G t) B td k) i) (j + 1) = fdA (stp (e.G t) B (layF e.T (e.G t) B td k) i) j := by rw [fdA, hk']
          exact ih2 s2 ⟨f2, g2, by rw [e1]; exact y1, by rw [e1]; exact y2⟩
        cases hl : layF e.T (e.G t) B td k j with
        | none => exact br_t rfl (nm_e (skip (by unfold stp; rw [hl])))
        | some q =>
          have hq := hLb j q hl
          rw [hl] at l39 l41
          refine br_f (by show ¬ nI q.1 = 1000000; rw [nFarC, nI_eq (by omega) (by decide)]; omega) ?_
          have go : ∀ x5 : Int32, x5 = b2i (e.G t j i) → (!e.G t j i && B j i) = false → V_X1_leg_108 (VL_X1_leg_2 Ret n) (VL_X1_leg_44 (VL_X1_leg_2 Ret n) Ret n2) Ret s2 (nI (k + 1)) (nI t) (nI i) (nI j) x5 := by
            intro x5 hx5 hnb
            subst hx5
            have hst : stp (e.G t) B (layF e.T (e.G t) B td k) i j = some (q.1 + (if e.G t j i then 0 else 1), q.2) := by unfold stp; rw [hl]; simp only; rw [hnb]; rfl
            have v125 : ∀ s0 : Int32, s0 = nI (if e.G t j i then 0 else 1) → V_X1_leg_125 (VL_X1_leg_2 Ret n) (VL_X1_leg_44 (VL_X1_leg_2 Ret n) Ret n2) Ret s2 (nI (k + 1)) (nI t) (nI i) (nI j) s0 (nI q.1) := by
              intro s0 hs0
              subst hs0
              unfold V_X1_leg_125
              refine nm_e ⟨vin (by omega) (by decide), ?_⟩
              rw [nI_add, ix_nI (by omega), y1]
              have hv : q.1 + (if e.G t j i then 0 else 1) ≤ 13 := by split <;> omega
              generalize hvv : q.1 + (if e.G t j i then 0 else 1) = v at hst hv ⊢
              have e1 : fdA (stp (e.G t) B (layF e.T (e.G t) B td k) i) (j + 1) = mg (fdA (stp (e.G t) B (layF e.T (e.G t) B td k) i) j) v q.2 := by rw [fdA, hst]
              have hacc : fw 1000000 (fdA (stp (e.G t) B (layF e.T (e.G t) B td k) i) j) ≤ 1000000 := by
                cases ha : fdA (stp (e.G t) B (layF e.T (e.G t) B td k) i) j with
                | none => exact Nat.le_refl _
                | some r => have := hfd j r ha; show r.1 ≤ _; omega
              rw [nI_ltI (by omega) (by omega)]
              refine ⟨fun k5 => ⟨vin (by omega) (by decide), nm_e ⟨vin (by omega) (by decide), nm_e ?_⟩⟩, fun k5 => ?_⟩
              · unfold V_X1_leg_154
                simp only [nI1]
                rw [ix_nI (by omega), ix_nI (by omega), qI_sJ, zI_row, if_pos rfl, zJ_row, if_pos rfl, zJ_ne _ (.inl (by decide)), qJ_sI, l41]
                refine ⟨vin (by omega) (by decide), vin (by omega) (by decide), br_t rfl ⟨vin (by omega) (by decide), vin (by omega) (by decide), nm_e (nm_e (ih2 _ ⟨((f2.sI _ _ _ (.inl rfl)).sJ _ _ _ (.inr rfl)).sJ _ _ _ (.inr rfl), fun b hb => ?_, ?_, ?_⟩))⟩⟩
                · rw [qI_sJ, qI_sJ, zI_row, if_neg (by omega), zJ_row, if_neg (by omega), zJ_row, if_neg (by omega), qJ_sI]; exact g2 b hb
                · rw [qI_sJ, qI_sJ, zI_row, if_pos rfl, e1]
                  unfold mg
                  cases ha : fdA (stp (e.G t) B (layF e.T (e.G t) B td k) i) j with
                  | none => rfl
                  | some r => rw [ha] at k5; simp only; rw [if_pos (show v < r.1 from k5)]; rfl
                · rw [zJ_row, if_pos rfl, j00, e1]
                  unfold mg
                  cases ha : fdA (stp (e.G t) B (layF e.T (e.G t) B td k) i) j with
                  | none => rfl
                  | some r => rw [ha] at k5; simp only; rw [if_pos (show v < r.1 from k5)]; rfl
              · cases ha : fdA (stp (e.G t) B (layF e.T (e.G t) B td k) i) j with
                | none => rw [ha] at k5; exact absurd (show v < 1000000 by omega) k5
                | some r =>
                  rw [ha] at k5 y1 y2 e1
                  have hr13 := hfd j r ha
                  have k6 : ¬ v < r.1 := k5
                  unfold V_X1_leg_154
                  simp only [nI1]
                  rw [ix_nI (by omega), ix_nI (by omega), y1, y2, l41]
                  refine ⟨vin (by omega) (by decide), vin (by omega) (by decide), ?_⟩
                  show (nI v = nI r.1 → _) ∧ (¬ nI v = nI r.1 → _)
                  rw [nI_eq (by omega) (by omega)]
                  refine ⟨fun k7 => ⟨vin (by omega) (by decide), vin (by omega) (by decide), nm_e (nm_e (ih2 _ ⟨f2.sJ _ _ _ (.inr rfl), fun b hb => ?_, ?_, ?_⟩))⟩, fun k7 => ⟨vin (by omega) (by decide), nm_e (nm_e (ih2 _ ⟨f2.sJ _ _ _ (.inr rfl), fun b hb => ?_, ?_, ?_⟩))⟩⟩
                  · rw [qI_sJ, zJ_row, if_neg (by omega)]; exact g2 b hb
                  · rw [qI_sJ, y1, e1]; unfold mg; simp only; rw [if_neg k6, if_pos k7]; rfl
                  · rw [zJ_row, if_pos rfl, e1]; unfold mg; simp only; rw [if_neg k6, if_pos k7]; rfl
                  · rw [qI_sJ, zJ_row, if_neg (by omega)]; exact g2 b hb
                  · rw [qI_sJ, y1, e1]; unfold mg; simp only; rw [if_neg k6, if_neg k7]
                  · rw [zJ_row, if_pos rfl, j0, e1]; unfold mg; simp only; rw [if_neg k6, if_neg k7]
            unfold V_X1_leg_108
            rw [ix_nI (by omega), l39]
            refine ⟨vin (by omega) (by decide), br0 (fun k5 => v125 1 (by rw [k5]; rfl)) fun k5 => v125 0 (by rw [k5]; rfl)⟩
          have hbn := hB2 j i hj hi
          rw [nI_div2 (by omega), nI_div2 (by omega)]
          refine br0 (fun k4 => ⟨fun k5 => ⟨fun k6 => nm_e (skip ?_), fun k6 => go _ rfl ?_⟩, fun k5 => go _ rfl ?_⟩) fun k4 => go _ rfl (by rw [k4]; rfl)
          · unfold stp; rw [hl]; simp only; rw [k4, hbn.mp ⟨k5, k6⟩]; rfl
          · have : B j i = false := by rw [← Bool.not_eq_true]; exact fun k7 => k6 (hbn.mpr k7).2
            rw [this, Bool.and_false]
          · have : B j i = false := by rw [← Bool.not_eq_true]; exact fun k7 => k5 (hbn.mpr k7).1
            rw [this, Bool.and_false]
/-- what is answered -/
def brQ (x : FW) (wh : Int32) : Int64 := match x with
  | none => -1
  | some q => if wh = 0 then (nI q.1).toInt64 else q.2
theorem c_breaksOf {e : Ev} {σ : ZS} (h : CE e σ) {nt : Nat} {td : Nat → Int32} (ht : TdC nt td σ) {B : Nat → Nat → Bool} (hB : BnC e.T B σ) {t : Nat} (htm : t ≤ e.tm) {x : Int32} {Ret : Int64 → ZS → Prop} (hr : ∀ σ', Fr inB σ σ' → Ret (if nt < 2 then 0 else brQ (brF e.T (e.G t) B td nt) x) σ') : wp_X1_breaksOf σ (nI t) x Ret := by
  have w := h.ct.wf
  have hns := w.ns
  have h12 := ht.1
  unfold wp_X1_breaksOf
  rw [ht.2.1, n2, nI_ltI (by omega) (by decide)]
  refine ⟨fun k => by have := hr σ Fr.rfl; rw [if_pos k] at this; exact this, fun k => ?_⟩
  have hr : ∀ σ', Fr inB σ σ' → Ret (brQ (brF e.T (e.G t) B td nt) x) σ' := fun σ' f => by have := hr σ' f; rw [if_neg k] at this; exact this
  have hLb : ∀ m a q, m + 1 < nt → layF e.T (e.G t) B td m a = some q → q.1 ≤ 12 := fun m a q hm hq => by have := lay_le hq; omega
  have fin : ∀ s, Fr inB σ s → FwC e.T (layF e.T (e.G t) B td (nt - 2)) s → V_X1_breaksOf_111 Ret s x 1000000 0 0 := by
    intro s f g
    have hs := h.fr f inB_C
    have hfd : ∀ m q, fdA (layF e.T (e.G t) B td (nt - 2)) m = some q → q.1 ≤ 12 := fun m q hq => fd_le (fun a p hp => hLb _ a p (by omega) hp) hq
    refine forL2 (fun m s v u y => VL_X1_breaksOf_111 Ret m s x v u y) (fun i s' v u => s' = s ∧ v = nI (fw 1000000 (fdA (layF e.T (e.G t) B td (nt - 2)) i)) ∧ u = ww (fdA (layF e.T (e.G t) B td (nt - 2)) i)) (2 * e.T.ns) ?_ ?_ 0 s 1000000 0 (Nat.zero_le _) ⟨rfl, rfl, rfl⟩
    · rintro n s' v u ⟨rfl, rfl, rfl⟩
      simp only [VL_X1_breaksOf_111]
      refine t_arcs hs.ct (br_f (nI_nlt (Nat.le_refl _) (by omega)) ?_)
      have hr' := hr s' f
      unfold brF at hr'
      cases ha : fdA (layF e.T (e.G t) B td (nt - 2)) (2 * e.T.ns) with
      | none => rw [ha] at hr'; exact br_t rfl hr'
      | some q =>
        have hq := hfd _ q ha
        rw [ha] at hr'
        refine br_f (by show ¬ nI q.1 = 1000000; rw [nFarC, nI_eq (by omega) (by decide)]; omega) ⟨fun k1 => ?_, fun k1 => ?_⟩
        · unfold brQ at hr'; simp only at hr'; rw [if_pos k1] at hr'; exact hr'
        · unfold brQ at hr'; simp only at hr'; rw [if_neg k1] at hr'; exact hr'
    · rintro n i s' v u hi ⟨rfl, rfl, rfl⟩ ih
      obtain ⟨g1, g2⟩ := g i hi
      simp only [VL_X1_breaksOf_111]
      unfold V_X1_breaksOf_145
      simp only [nI1]
      rw [ix_nI (by omega)]
      refine t_arcs hs.ct (br_t (nI_lt hi (by omega)) ⟨vin (by omega) (by decide), ?_⟩)
      rw [g1, g2]
      have iv : vp_in (nI i) 48 := vin (by omega) (by decide)
      cases hl : layF e.T (e.G t) B td (nt - 2) i with
      | none =>
        have e1 : fdA (layF e.T (e.G t) B td (nt - 2)) (i + 1) = fdA (layF e.T (e.G t) B td (nt - 2)) i := by rw [fdA, hl]
        cases ha : fdA (layF e.T (e.G t) B td (nt - 2)) i with
        | none =>
          refine br_f (nI_nlt (Nat.le_refl _) (by decide)) ⟨iv, br_t rfl ⟨iv, nm_e (nm_e (ih s' _ _ ⟨rfl, ?_, ?_⟩))⟩⟩
          · rw [e1, ha]
          · rw [e1, ha]; rfl
        | some r =>
          have hr12 := hfd i r ha
          refine br_f (nI_nlt (show r.1 ≤ 1000000 by omega) (by decide)) ⟨iv, br_f (by show ¬ nI 1000000 = nI r.1; rw [nI_eq (by decide) (by omega)]; omega) (nm_e (nm_e (ih s' _ _ ⟨rfl, ?_, ?_⟩)))⟩
          · rw [e1, ha]
          · rw [e1, ha, j0]
      | some q =>
        have hq := hLb _ i q (by omega) hl
        have e1 : fdA (layF e.T (e.G t) B td (nt - 2)) (i + 1) = mg (fdA (layF e.T (e.G t) B td (nt - 2)) i) q.1 q.2 := by rw [fdA, hl]
        cases ha : fdA (layF e.T (e.G t) B td (nt - 2)) i with
        | none =>
          rw [ha] at e1
          refine br_t (nI_lt (show q.1 < 1000000 by omega) (by decide)) ⟨iv, nm_e ⟨iv, br_t rfl ⟨iv, nm_e (nm_e (ih s' _ _ ⟨rfl, ?_, ?_⟩))⟩⟩⟩
          · rw [e1]; rfl
          · rw [e1, j00]; rfl
        | some r =>
          have hr12 := hfd i r ha
          rw [ha] at e1
          unfold mg at e1
          simp only at e1
          show (nI q.1 < nI r.1 → _) ∧ (¬ nI q.1 < nI r.1 → _ ∧ (nI q.1 = nI r.1 → _) ∧ (¬ nI q.1 = nI r.1 → _))
          rw [nI_ltI (by omega) (by omega), nI_eq (by omega) (by omega)]
          refine ⟨fun k1 => ⟨iv, nm_e ⟨iv, br_t rfl ⟨iv, nm_e (nm_e (ih s' _ _ ⟨rfl, ?_, ?_⟩))⟩⟩⟩, fun k1 => ⟨iv, fun k2 => ⟨iv, nm_e (nm_e (ih s' _ _ ⟨rfl, ?_, ?_⟩))⟩, fun k2 => nm_e (nm_e (ih s' _ _ ⟨rfl, ?_, ?_⟩))⟩⟩
          · rw [e1, if_pos k1]
          · rw [e1, if_pos k1, j00]
          · rw [e1, if_neg k1, if_pos k2]; rfl
          · rw [e1, if_neg k1, if_pos k2]; rfl
          · rw [e1, if_neg k1, if_neg k2]
          · rw [e1, if_neg k1, if_neg k2, j0]
  have legs : ∀ s, Fr inB σ s → FwC e.T (layF e.T (e.G t) B td 0) s → V_X1_breaksOf_76 Ret s (nI t) x 1 := by
    intro s f g
    refine forL (S := ZS) (fun m s y => VL_X1_breaksOf_76 Ret m s (nI t) x y) (fun i s => 1 ≤ i ∧ Fr inB σ s ∧ FwC e.T (layF e.T (e.G t) B td (i - 1)) s) (nt - 1) ?_ ?_ 1 s (by omega) ⟨Nat.le_refl _, f, g⟩
    · rintro n s' ⟨h1, f', g'⟩
      have ht' := ht.fr f' (by intro c hc; unfold inB at hc; omega)
      simp only [VL_X1_breaksOf_76]
      rw [nI1, ht'.2.1]
      exact br_f (nI_nlt (by omega) (by omega)) (fin s' f' g')
    · rintro n i s' hi ⟨h1, f', g'⟩ ih
      have ht' := ht.fr f' (by intro c hc; unfold inB at hc; omega)
      have hB' := hB.fr f' (by intro c hc; unfold inB at hc; omega)
      have hs' := h.fr f' inB_C
      simp only [VL_X1_breaksOf_76]
      simp only [nI1]
      rw [ht'.2.1]
      obtain ⟨i', rfl⟩ : ∃ i', i = i' + 1 := ⟨i - 1, by omega⟩
      refine br_t (nI_lt (by omega) (by omega)) (c_leg hs' ht' hB' htm (by omega) g' fun s2 f2 g2 => nm_e (ih s2 ⟨by omega, f'.trans f2, g2⟩))
  refine forL (S := ZS) (fun m s y => VL_X1_breaksOf_15 Ret m s (nI t) x y) (fun i s => Fr inB σ s ∧ ∀ b, b < i → zI s 39 b = nI (fw 1000000 (layF e.T (e.G t) B td 0 b)) ∧ zJ s 41 b = ww (layF e.T (e.G t) B td 0 b)) (2 * e.T.ns) ?_ ?_ 0 σ (Nat.zero_le _) ⟨Fr.rfl, fun b hb => absurd hb (Nat.not_lt_zero _)⟩
  · rintro n s ⟨f, g⟩
    have hs := h.fr f inB_C
    simp only [VL_X1_breaksOf_15]
    exact t_arcs hs.ct (br_f (nI_nlt (Nat.le_refl _) (by omega)) (legs s f g))
  · rintro n i s hi ⟨f, g⟩ ih
    have hs := h.fr f inB_C
    have ht' := ht.fr f (by intro c hc; unfold inB at hc; omega)
    simp only [VL_X1_breaksOf_15]
    have put : ∀ v : Nat, v = fw 1000000 (layF e.T (e.G t) B td 0 i) → V_X1_breaksOf_47 (VL_X1_breaksOf_15 Ret n) Ret s (nI t) x (nI i) (nI v) (nI i) 39 := by
      intro v hv
      unfold V_X1_breaksOf_47
      simp only [nI1]
      rw [ix_nI (by omega)]
      have f1 := f.sI 39 i (nI v) (by unfold inB cd; simp)
      have hs1 := h.fr f1 inB_C
      have ht1 := ht.fr f1 (by intro c hc; unfold inB at hc; omega)
      have done : ∀ u : Int64, u = ww (layF e.T (e.G t) B td 0 i) → VL_X1_breaksOf_15 Ret n (sJ (sI s 39 i (nI v)) 41 i u) (nI t) x (nI (i + 1)) := by
        intro u hu
        refine ih _ ⟨f1.sJ _ _ _ (by unfold inB cd; simp), fun b hb => ?_⟩
        rw [qI_sJ, zI_row, zJ_row, qJ_sI]
        by_cases eb : b = i
        · rw [if_pos eb, if_pos eb, hv, hu, eb]; exact ⟨rfl, rfl⟩
        · rw [if_neg eb, if_neg eb]; exact g b (by omega)
      refine ⟨48, rfl, vin (by omega) (by decide), nm_e (c_isLeg hs1 ht1 (k := 0) (by omega) hi (br0 (fun k1 => ⟨vin (by omega) (by decide), nm_e (nm_e (done 0 ?_))⟩) fun k1 => ⟨vin (by omega) (by decide), nm_e (nm_e (done 1 ?_))⟩))⟩
      · rw [lay_0, k1]; rfl
      · rw [lay_0, k1]; rfl
    refine t_arcs hs.ct (br_t (nI_lt hi (by omega)) (c_isLeg hs ht' (k := 0) (by omega) hi (br0 (fun k1 => ?_) fun k1 => ?_)))
    · rw [nFarC]; exact put _ (by rw [lay_0, k1]; rfl)
    · rw [n0]; exact put _ (by rw [lay_0, k1]; rfl)
