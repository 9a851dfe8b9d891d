/-! PURE HALF: first arcs, paths. -/
set_option maxRecDepth 100000
noncomputable def leastN (P : Nat → Prop) : Nat := @dite Nat (∃ n, P n) (Classical.propDecidable _) (fun h => Classical.choose (pk_least _ h)) (fun _ => 0)
theorem leastN_is {P : Nat → Prop} (h : ∃ n, P n) : P (leastN P) ∧ ∀ j, j < leastN P → ¬ P j := by
  unfold leastN
  rw [dif_pos h]
  exact Classical.choose_spec (pk_least _ h)
theorem leastN_eq {P : Nat → Prop} {k : Nat} (h : P k) (hl : ∀ j, j < k → ¬ P j) : leastN P = k := by
  obtain ⟨h1, h2⟩ := leastN_is ⟨k, h⟩
  have a1 : ¬ leastN P < k := fun l => hl _ l h1
  have a2 : ¬ k < leastN P := fun l => h2 _ l h
  omega
/-- the first of the least -/
def FAr (D : Nat → Option Nat) (p : Nat → Bool) : Nat → Option (Nat × Nat)
  | 0 => none
  | k + 1 => if p k then (match D k with
    | none => FAr D p k
    | some n => match FAr D p k with
      | none => some (k, n)
      | some (a, m) => if n < m then some (k, n) else some (a, m)) else FAr D p k
theorem FAr_none {D : Nat → Option Nat} {p : Nat → Bool} {k : Nat} (h : FAr D p k = none) : ∀ a, a < k → p a = true → D a = none := by
  induction k with
  | zero => intro a ha; omega
  | succ k ih =>
    intro a ha hp
    unfold FAr at h
    by_cases e : a = k
    · subst e
      rw [hp] at h
      cases hd : D a with
      | none => rfl
      | some n =>
        simp only [hd, if_true] at h
        cases hf : FAr D p a with
        | none => simp [hf] at h
        | some q => simp only [hf] at h; split at h <;> cases h
    · refine ih ?_ a (by omega) hp
      cases hf : FAr D p k with
      | none => rfl
      | some q =>
        exfalso
        simp only [hf] at h
        split at h
        · split at h
          · cases h
          · split at h <;> cases h
        · cases h
theorem FAr_some {D : Nat → Option Nat} {p : Nat → Bool} {k a n : Nat} (h : FAr D p k = some (a, n)) : a < k ∧ p a = true ∧ D a = some n ∧ (∀ b m, b < k → p b = true → D b = some m → n ≤ m) ∧ ∀ b m, b < a → p b = true → D b = some m → n < m := by
  induction k generalizing a n with
  | zero => cases h
  | succ k ih =>
    unfold FAr at h
    by_cases hp : p k = true
    · rw [if_pos hp] at h
      cases hd : D k with
      | none =>
        simp only [hd] at h
        obtain ⟨h1, h2, h3, h4, h5⟩ := ih h
        refine ⟨by omega, h2, h3, fun b m hb hpb hm => ?_, h5⟩
        by_cases e : b = k
        · subst e; rw [hd] at hm; cases hm
        · exact h4 b m (by omega) hpb hm
      | some q =>
        simp only [hd] at h
        cases hf : FAr D p k with
        | none =>
          simp only [hf, Option.some.injEq, Prod.mk.injEq] at h
          obtain ⟨rfl, rfl⟩ := h
          have hn := FAr_none hf
          refine ⟨by omega, hp, hd, fun b m hb hpb hm => ?_, fun b m hb hpb hm => ?_⟩
          · by_cases e : b = k
            · subst e; rw [hd] at hm; cases hm; exact Nat.le_refl _
            · rw [hn b (by omega) hpb] at hm; cases hm
          · rw [hn b (by omega) hpb] at hm; cases hm
        | some r =>
          obtain ⟨a', m'⟩ := r
          obtain ⟨h1, h2, h3, h4, h5⟩ := ih hf
          simp only [hf] at h
          by_cases hl : q < m'
          · rw [if_pos hl] at h
            simp only [Option.some.injEq, Prod.mk.injEq] at h
            obtain ⟨rfl, rfl⟩ := h
            refine ⟨by omega, hp, hd, fun b m hb hpb hm => ?_, fun b m hb hpb hm => ?_⟩
            · by_cases e : b = k
              · subst e; rw [hd] at hm; cases hm; exact Nat.le_refl _
              · have := h4 b m (by omega) hpb hm; omega
            · have := h4 b m (by omega) hpb hm; omega
          · rw [if_neg hl] at h
            simp only [Option.some.injEq, Prod.mk.injEq] at h
            obtain ⟨rfl, rfl⟩ := h
            refine ⟨by omega, h2, h3, fun b m hb hpb hm => ?_, h5⟩
            by_cases e : b = k
            · subst e; rw [hd] at hm; cases hm; omega
            · exact h4 b m (by omega) hpb hm
    · rw [if_neg hp] at h
      obtain ⟨h1, h2, h3, h4, h5⟩ := ih h
      refine ⟨by omega, h2, h3, fun b m hb hpb hm => ?_, h5⟩
      by_cases e : b = k
      · subst e; exact absurd hpb hp
      · exact h4 b m (by omega) hpb hm
/-- arcs from a corner -/
def frm (T : Tw) (c a : Nat) : Bool := T.isArc a && decide (T.beg a = c)
/-- the first arc of the shortest ride, and how long it is -/
noncomputable def fstA (T : Tw) (G : Nat → Nat → Bool) (c to : Nat) : Option (Nat × Nat) := FAr (Ds T G to) (frm T c) (2 * T.ns)
noncomputable def rideV (T : Tw) (G : Nat → Nat → Bool) (c to : Nat) : Option Nat := if c = to then some 0 else (fstA T G c to).map (·.2)
def oI (o : Option Nat) : Int32 := match o with
  | none => -1
  | some n => nI n
theorem rideV_le {T : Tw} (w : T.WF) {G : Nat → Nat → Bool} {c to n : Nat} (h : rideV T G c to = some n) : n ≤ 4851 := by
  unfold rideV at h
  split at h
  · cases h; omega
  · cases hf : fstA T G c to with
    | none => rw [hf] at h; cases h
    | some q =>
      rw [hf] at h
      cases h
      exact Ds_le w (FAr_some (a := q.1) (n := q.2) hf).2.2.1
/-- the next arc behind one on the shortest ride -/
def isNx (T : Tw) (G : Nat → Nat → Bool) (to a b : Nat) : Prop := T.isArc b = true ∧ G a b = true ∧ ∃ m, Ds T G to b = some m ∧ Ds T G to a = some (m + T.len a)
noncomputable def nxA (T : Tw) (G : Nat → Nat → Bool) (to a : Nat) : Nat := leastN (isNx T G to a)
theorem nx_ex {T : Tw} {G : Nat → Nat → Bool} {to a n : Nat} (h : Ds T G to a = some n) (hf : T.fin a ≠ to) : ∃ b, isNx T G to a b := by
  rcases Ds_next h with ⟨k, -⟩ | ⟨b, m, h1, h2, h3, h4⟩
  · exact absurd k hf
  · exact ⟨b, h1, h2, m, h3, by rw [h, h4, Nat.add_comm]⟩
/-- the path behind an arc -/
noncomputable def pth (T : Tw) (G : Nat → Nat → Bool) (to a : Nat) : Nat → Nat
  | 0 => a
  | i + 1 => nxA T G to (pth T G to a i)
theorem pth_sh (T : Tw) (G : Nat → Nat → Bool) (to a i : Nat) : pth T G to (nxA T G to a) i = pth T G to a (i + 1) := by
  induction i with
  | zero => rfl
  | succ i ih => show nxA T G to _ = nxA T G to _; rw [ih]
/-- it comes to its end soon -/
theorem pth_end {T : Tw} (w : T.WF) {G : Nat → Nat → Bool} {to : Nat} (n : Nat) : ∀ a, Ds T G to a = some n → ∃ k, k ≤ cnt (fun x => ltO (Ds T G to x) n) (2 * T.ns) ∧ T.fin (pth T G to a k) = to ∧ (∀ i, i < k → T.fin (pth T G to a i) ≠ to) ∧ ∀ i, i ≤ k → ∃ m, Ds T G to (pth T G to a i) = some m := by
  induction n using Nat.strongRecOn with
  | ind n ih =>
    intro a h
    by_cases hf : T.fin a = to
    · exact ⟨0, Nat.zero_le _, hf, fun i hi => absurd hi (Nat.not_lt_zero _), fun i hi => by rw [Nat.le_zero.mp hi]; exact ⟨n, h⟩⟩
    · obtain ⟨h1, -⟩ := leastN_is (nx_ex h hf)
      obtain ⟨h1, h2, m, h3, h4⟩ := h1
      have hl := w.len (Tw.arc_lt (Ds_arc h))
      rw [h] at h4
      simp only [Option.some.injEq] at h4
      obtain ⟨k, hk, k1, k2, k3⟩ := ih m (by omega) _ h3
      refine ⟨k + 1, ?_, ?_, fun i hi => ?_, fun i hi => ?_⟩
      · have : cnt (fun x => ltO (Ds T G to x) m) (2 * T.ns) < cnt (fun x => ltO (Ds T G to x) n) (2 * T.ns) := by
          refine cnt_lt (y := leastN (isNx T G to a)) ?_ (Tw.arc_lt h1) ?_ ?_
          · intro x _ hx
            unfold ltO at hx ⊢
            split at hx
            · exact hx
            · simp at hx ⊢; omega
          · simp only [h3, ltO]; simp; omega
          · simp only [h3, ltO]; simp
        omega
      · rw [← pth_sh]; exact k1
      · cases i with
        | zero => exact hf
        | succ i => rw [← pth_sh]; exact k2 i (by omega)
      · cases i with
        | zero => exact ⟨n, h⟩
        | succ i => rw [← pth_sh]; exact k3 i (by omega)
theorem cnt_all (n : Nat) : cnt (fun _ => true) n = n := by
  induction n with
  | zero => rfl
  | succ n ih => unfold cnt; rw [ih]; simp
/-- how many arcs a path has -/
noncomputable def plen (T : Tw) (G : Nat → Nat → Bool) (to a : Nat) : Nat := leastN (fun k => T.fin (pth T G to a k) = to) + 1
theorem plen_is {T : Tw} (w : T.WF) {G : Nat → Nat → Bool} {to n a : Nat} (h : Ds T G to a = some n) : plen T G to a ≤ 2 * T.ns ∧ T.fin (pth T G to a (plen T G to a - 1)) = to ∧ (∀ i, i + 1 < plen T G to a → T.fin (pth T G to a i) ≠ to) ∧ ∀ i, i < plen T G to a → ∃ m, Ds T G to (pth T G to a i) = some m := by
  obtain ⟨k, h1, h2, h3, h4⟩ := pth_end w n a h
  have e : leastN (fun k => T.fin (pth T G to a k) = to) = k := leastN_eq h2 h3
  have : cnt (fun x => ltO (Ds T G to x) n) (2 * T.ns) < cnt (fun _ => true) (2 * T.ns) := cnt_lt (y := a) (fun _ _ _ => rfl) (Tw.arc_lt (Ds_arc h)) rfl (by simp only [h, ltO]; simp)
  rw [cnt_all] at this
  unfold plen
  rw [e]
  exact ⟨by omega, h2, fun i hi => h3 i (by omega), fun i hi => h4 i (by omega)⟩
/-! the model's -/
theorem m_firstArc {T : Tw} {σ : ZS} (h : MT T σ) {G : Nat → Nat → Bool} {to : Nat} (hl : LenM T G to σ) {c : Nat} (hc : c < 2 ^ 31) {Ret : Int32 → ZS → Prop} (hr : Ret (oI ((fstA T G c to).map (·.1))) σ) : wp_X4_firstArc σ (nI c) Ret := by
  have hns := h.wf.ns
  have w := h.wf
  have := w.nc
  unfold wp_X4_firstArc
  refine forL1 (fun k s v x => VL_X4_firstArc_4 Ret k s (nI c) v x) (fun i s v => s = σ ∧ v = oI ((FAr (Ds T G to) (frm T c) i).map (·.1))) (2 * T.ns) ?_ ?_ 0 σ (-1) (Nat.zero_le _) ⟨rfl, rfl⟩
  · rintro n s v ⟨rfl, rfl⟩
    simp only [VL_X4_firstArc_4]
    rw [h.ltA (by omega)]
    exact br_f (by omega) hr
  · rintro n i s v hi ⟨rfl, rfl⟩ ih
    simp only [VL_X4_firstArc_4]
    rw [h.ltA (by omega)]; simp only [nI1]
    have skip : ∀ v, v = oI ((FAr (Ds T G to) (frm T c) (i + 1)).map (·.1)) → VL_X4_firstArc_4 Ret n s (nI c) v (nI (i + 1)) := fun v e => ih s v ⟨rfl, e⟩
    refine br_t hi (m_isArcN h (by omega) (br0 (fun h1 => nm_e (skip _ ?_)) fun h1 => ?_))
    · conv => rhs; unfold FAr
      rw [if_neg (by unfold frm; simp [h1])]
    refine m_begin h hi ⟨fun h2 => ⟨vin (by omega) (by decide), ?_⟩, fun h2 => nm_e (skip _ ?_)⟩
    · have hb := w.beg hi
      rw [nI_eq (by omega) hc] at h2
      have hfr : frm T c i = true := by unfold frm; rw [h1, h2]; simp
      rw [ix_nI (by omega), hl i hi]
      cases hd : Ds T G to i with
      | none =>
        refine br_f ?_ (nm_e (skip _ ?_))
        · rw [nFar]; exact nI_nlt (Nat.le_refl _) (by decide)
        · conv => rhs; unfold FAr
          rw [if_pos hfr, hd]
      | some q =>
        have hq := Ds_le w hd
        refine br_t ?_ ?_
        · rw [nFar]; exact nI_lt (by show q < _; omega) (by decide)
        cases hf : FAr (Ds T G to) (frm T c) i with
        | none =>
          refine br_t rfl (nm_e (skip _ ?_))
          conv => rhs; unfold FAr
          rw [if_pos hfr, hd, hf]; rfl
        | some r =>
          obtain ⟨a, m⟩ := r
          obtain ⟨g1, g2, g3, -⟩ := FAr_some hf
          have hm := Ds_le w g3
          refine br_f (by show ¬ nI a = -1; rw [nI_m1 (by omega)]; exact id) ⟨vin (by omega) (by decide), vin (by show a < _; omega) (by decide), ?_⟩
          show (nI q < zI s 568 (ix (nI a)) → _) ∧ (¬ nI q < zI s 568 (ix (nI a)) → _)
          rw [ix_nI (show a < 2 ^ 31 by omega), hl a (by omega), g3]
          show (nI q < nI m → _) ∧ (¬ nI q < nI m → _)
          rw [nI_ltI (by omega) (by omega)]
          refine ⟨fun h5 => nm_e (skip _ ?_), fun h5 => nm_e (skip _ ?_)⟩
          · conv => rhs; unfold FAr
            rw [if_pos hfr, hd, hf]; simp only [if_pos h5]; rfl
          · conv => rhs; unfold FAr
            rw [if_pos hfr, hd, hf]; simp only [if_neg h5]
    · have hb := w.beg hi
      rw [nI_eq (by omega) hc] at h2
      conv => rhs; unfold FAr
      rw [if_neg (by unfold frm; simp [h2])]
theorem m_nextArc {T : Tw} {σ : ZS} (h : MT T σ) {G : Nat → Nat → Bool} (hf : FolM T G σ) {to : Nat} (hto : to < 2 ^ 31) (hl : LenM T G to σ) {a n : Nat} (ha : Ds T G to a = some n) {Ret : Int32 → ZS → Prop} (hr : Ret (if T.fin a = to then -1 else nI (nxA T G to a)) σ) : wp_X4_nextArc σ (nI a) (nI to) Ret := by
  have hns := h.wf.ns
  have w := h.wf
  have := w.nc
  have hA := Tw.arc_lt (Ds_arc ha)
  have hfi := w.fin hA
  unfold wp_X4_nextArc
  refine m_end h hA ?_
  rw [nI_eq (by omega) hto]
  refine ⟨fun h1 => by rw [if_pos h1] at hr; exact hr, fun h1 => ?_⟩
  rw [if_neg h1] at hr
  obtain ⟨hb, hbl⟩ := leastN_is (nx_ex ha h1)
  have hbN := Tw.arc_lt hb.1
  have test : ∀ b, b < 2 * T.ns → T.isArc b = true → G a b = true → (nI (fz 1000000000 (Ds T G to b)) + nI (T.len a) = nI (fz 1000000000 (Ds T G to a))) = isNx T G to a b := by
    intro b hb1 hb2 hb3
    have hla := w.len hA
    have hda := Ds_le w ha
    rw [nI_add, ha]
    cases hd : Ds T G to b with
    | none =>
      apply propext
      show nI (1000000000 + T.len a) = nI n ↔ _
      rw [nI_eq (by omega) (by omega)]
      constructor
      · intro; omega
      · rintro ⟨-, -, m, hm, -⟩; rw [hd] at hm; cases hm
    | some m =>
      have hm := Ds_le w hd
      apply propext
      show nI (m + T.len a) = nI n ↔ _
      rw [nI_eq (by omega) (by omega)]
      constructor
      · intro e; exact ⟨hb2, hb3, m, hd, by rw [ha, e]⟩
      · rintro ⟨-, -, m', hm', e⟩
        rw [hd] at hm'; cases hm'
        rw [ha] at e
        simp only [Option.some.injEq] at e
        exact e.symm
  have ei : ∀ j, j < 2 * T.ns → ix (nI j) = j := fun j hj => ix_nI (by omega)
  refine forL (S := ZS) (fun k s x => VL_X4_nextArc_13 Ret k s (nI a) x) (fun i s => s = σ) (nxA T G to a) ?_ ?_ 0 σ (Nat.zero_le _) rfl
  · rintro n s rfl
    simp only [VL_X4_nextArc_13]
    refine m_isAfter hns hf hA hbN ?_
    have hb' := hb
    obtain ⟨q1, q2, -⟩ := hb
    rw [Ds_arc ha, q1, q2]
    refine br_f (by decide) ⟨vin (by unfold nxA; omega) (by decide), m_long h hA ⟨vin (by omega) (by decide), ?_⟩⟩
    rw [show nxA T G to a = leastN (isNx T G to a) from rfl, ei _ hbN, ei _ hA, hl _ hbN, hl _ hA, test _ hbN q1 q2]
    exact br_t hb' hr
  · rintro n i s hi rfl ih
    simp only [VL_X4_nextArc_13]
    have hi2 : i < 2 * T.ns := by unfold nxA at hi; omega
    simp only [nI1]
    refine m_isAfter hns hf hA hi2 (br0 (fun h2 => nm_e (ih s rfl)) fun h2 => ?_)
    simp only [Bool.and_eq_true] at h2
    refine ⟨vin (by omega) (by decide), m_long h hA ⟨vin (by omega) (by decide), ?_⟩⟩
    rw [ei _ hi2, ei _ hA, hl _ hi2, hl _ hA, test _ hi2 h2.1.2 h2.2]
    exact br_f (hbl i hi) (nm_e (ih s rfl))
theorem m_rideOf {T : Tw} {σ : ZS} (h : MT T σ) {G : Nat → Nat → Bool} (hf : FolM T G σ) {c to : Nat} (hc : c < 2 ^ 31) (hto : to < 2 ^ 31) {Ret : Int32 → ZS → Prop} (hr : ∀ σ', Fr (fun c => c = 568) σ σ' → (c ≠ to → LenM T G to σ') → Ret (oI (rideV T G c to)) σ') : wp_X4_rideOf σ (nI c) (nI to) Ret := by
  unfold wp_X4_rideOf
  rw [nI_eq hc hto]
  refine ⟨fun h1 => ?_, fun h1 => m_layLengths h hf hto fun σ' f hl => ?_⟩
  · have := hr σ Fr.rfl (fun k => absurd h1 k)
    unfold rideV at this; rw [if_pos h1] at this; exact this
  · have hns := h.wf.ns
    have h' := h.fr f (by intro c hc; unfold noMT; omega)
    have hr' := hr σ' f fun _ => hl
    unfold rideV at hr'; rw [if_neg h1] at hr'
    refine m_firstArc h' hl hc ?_
    cases hfa : fstA T G c to with
    | none => rw [hfa] at hr'; exact br_t rfl hr'
    | some q =>
      obtain ⟨a, n⟩ := q
      obtain ⟨g1, g2, g3, -⟩ := FAr_some hfa
      rw [hfa] at hr'
      show (nI a = -1 → _) ∧ (¬ nI a = -1 → vp_in (nI a) 48 ∧ Ret (zI σ' 568 (ix (nI a))) σ')
      rw [nI_m1 (by omega)]
      refine br_f id ⟨vin (by omega) (by decide), ?_⟩
      rw [ix_nI (show a < 2 ^ 31 by omega), hl a (by omega), g3]
      exact hr'
