/-! PURE HALF: rides, the class's side, II. -/
set_option maxRecDepth 100000
def fz2 (F : Nat) (o : Option (Nat × Nat)) : Nat := match o with
  | none => F
  | some q => q.2
theorem rst_add {T : Tw} (w : T.WF) {G : Nat → Nat → Bool} {to a n : Nat} (h : Ds T G to a = some n) : rst T G to a + T.len a = n := by
  unfold rst; rw [h]
  have := ((Ds_some.mp h).1.pos w).1
  show n - _ + _ = n
  omega
theorem rst_none {T : Tw} {G : Nat → Nat → Bool} {to a : Nat} (h : Ds T G to a = none) : rst T G to a = 1000000 := by unfold rst; rw [h]
theorem rst_le {T : Tw} (w : T.WF) (G : Nat → Nat → Bool) (to a : Nat) : rst T G to a ≤ 1000000 := by
  cases h : Ds T G to a with
  | none => rw [rst_none h]; exact Nat.le_refl _
  | some n => have := rst_add w h; have := Ds_le w h; omega
theorem c_lengthFrom {e : Ev} {σ : ZS} (h : CE e σ) {G : Nat → Nat → Bool} {to : Nat} (hl : RestC e.T G to σ) {c : Nat} (hc : c < 2 ^ 31) {Ret : Int32 → ZS → Prop} (hr : Ret (nI (fz2 1000000 (fstA e.T G c to))) σ) : wp_X1_lengthFrom σ (nI c) Ret := by
  have hns := h.ct.wf.ns
  have w := h.ct.wf
  have := w.nc
  unfold wp_X1_lengthFrom
  refine forL1 (fun k s v x => VL_X1_lengthFrom_6 Ret k s (nI c) v x) (fun i s v => s = σ ∧ v = nI (fz2 1000000 (FAr (Ds e.T G to) (frm e.T c) i))) (2 * e.T.ns) ?_ ?_ 0 σ 1000000 (Nat.zero_le _) ⟨rfl, rfl⟩
  · rintro n s v ⟨rfl, rfl⟩
    simp only [VL_X1_lengthFrom_6]
    exact t_arcs h.ct (br_f (fun k => absurd ((nI_ltI (by omega) (by omega)).mp k) (by omega)) hr)
  · rintro n i s v hi ⟨rfl, rfl⟩ ih
    simp only [VL_X1_lengthFrom_6]
    simp only [nI1]
    have skip : ∀ v, v = nI (fz2 1000000 (FAr (Ds e.T G to) (frm e.T c) (i + 1))) → VL_X1_lengthFrom_6 Ret n s (nI c) v (nI (i + 1)) := fun v e => ih s v ⟨rfl, e⟩
    refine t_arcs h.ct (br_t (nI_lt hi (by omega)) (t_isArcN h.ct (by omega) (br0 (fun h1 => nm_e (skip _ ?_)) fun h1 => ?_)))
    · conv => rhs; unfold FAr
      rw [if_neg (by unfold frm; simp [h1])]
    have hb := w.beg hi
    have hle := w.len hi
    refine t_begin h.ct hi ⟨fun h2 => ⟨vin (by omega) (by decide), t_length h.ct hi ?_⟩, fun h2 => nm_e (skip _ ?_)⟩
    · rw [nI_eq (by omega) hc] at h2
      have hfr : frm e.T c i = true := by unfold frm; rw [h1, h2]; simp
      have hrl := rst_le w G to i
      have hfl : fz2 1000000 (FAr (Ds e.T G to) (frm e.T c) i) ≤ 1000000 := by
        cases hf : FAr (Ds e.T G to) (frm e.T c) i with
        | none => exact Nat.le_refl _
        | some q => have := Ds_le w (FAr_some (a := q.1) (n := q.2) hf).2.2.1; show q.2 ≤ _; omega
      rw [ix_nI (by omega), hl i hi, nI_add]
      refine nm_e (nm_e (skip _ ?_))
      conv => rhs; unfold FAr
      rw [if_pos hfr]
      cases hd : Ds e.T G to i with
      | none => rw [rst_none hd, if_neg (nI_nlt (by omega) (by omega))]
      | some q =>
        have ha := rst_add w hd
        have hq := Ds_le w hd
        rw [ha]
        cases hf : FAr (Ds e.T G to) (frm e.T c) i with
        | none => rw [if_pos (nI_lt (by show q < 1000000; omega) (by decide))]; rfl
        | some r =>
          obtain ⟨a, m⟩ := r
          have hm := Ds_le w (FAr_some hf).2.2.1
          show (if nI q < nI m then nI q else nI m) = nI (fz2 1000000 (if q < m then some (i, q) else some (a, m)))
          by_cases h5 : q < m
          · rw [if_pos (nI_lt h5 (by omega)), if_pos h5]; rfl
          · rw [if_neg (nI_nlt (by omega) (by omega)), if_neg h5]; rfl
    · rw [nI_eq (by omega) hc] at h2
      conv => rhs; unfold FAr
      rw [if_neg (by unfold frm; simp [h2])]
theorem c_rideOf {e : Ev} {σ : ZS} (h : CE e σ) {c to t : Nat} (hc : c < 2 ^ 31) (hto : to < 2 ^ 31) (ht : t ≤ e.tm) {Ret : Int32 → ZS → Prop} (hr : ∀ σ', Fr (fun c => c = 20) σ σ' → (c ≠ to → RestC e.T (e.G t) to σ') → Ret (oI (rideV e.T (e.G t) c to)) σ') : wp_X1_rideOf σ (nI c) (nI to) (nI t) Ret := by
  unfold wp_X1_rideOf
  rw [nI_eq hc hto]
  refine ⟨fun h1 => ?_, fun h1 => c_findRest h hto ht fun σ' f hl => ?_⟩
  · have := hr σ Fr.rfl (fun k => absurd h1 k)
    unfold rideV at this; rw [if_pos h1] at this; exact this
  · have h' := h.fr f (by intro c hc; unfold scC; omega)
    have w := h.ct.wf
    have hr' := hr σ' f fun _ => hl
    unfold rideV at hr'; rw [if_neg h1] at hr'
    refine c_lengthFrom h' hl hc ?_
    cases hfa : fstA e.T (e.G t) c to with
    | none =>
      rw [hfa] at hr'
      exact br_f (by rw [nFarC]; exact nI_nlt (Nat.le_refl _) (by decide)) hr'
    | some q =>
      have hq := Ds_le w (FAr_some (a := q.1) (n := q.2) hfa).2.2.1
      rw [hfa] at hr'
      exact br_t (by rw [nFarC]; exact nI_lt (by show q.2 < _; omega) (by decide)) hr'
theorem c_nextArc0 {e : Ev} {σ : ZS} (h : CE e σ) {c to t : Nat} (hc : c < 2 ^ 31) (hl : RestC e.T (e.G t) to σ) {a n : Nat} (hf : fstA e.T (e.G t) c to = some (a, n)) {Ret : Int32 → ZS → Prop} (hr : Ret (nI a) σ) : wp_X1_nextArc σ (nI c) (-1) (nI n) (nI t) Ret := by
  have hns := h.ct.wf.ns
  have w := h.ct.wf
  have := w.nc
  obtain ⟨g1, g2, g3, g4, g5⟩ := FAr_some hf
  have hnl := Ds_le w g3
  unfold wp_X1_nextArc
  have g2' := g2
  unfold frm at g2'
  simp only [Bool.and_eq_true, decide_eq_true_eq] at g2'
  refine forL (S := ZS) (fun k s x => VL_X1_nextArc_3 Ret k s (nI c) (-1) (nI n) (nI t) x) (fun i s => s = σ) a ?_ ?_ 0 σ (Nat.zero_le _) rfl
  · rintro k s rfl
    simp only [VL_X1_nextArc_3]
    have hla := w.len g1
    refine t_arcs h.ct (br_t (nI_lt g1 (by omega)) (t_isArcN h.ct (by omega) ?_))
    rw [g2'.1]
    refine br_f (by decide) (br_t trivial (t_begin h.ct g1 (br_t (by rw [g2'.2]) ?_)))
    unfold V_X1_nextArc_60
    refine ⟨vin (by omega) (by decide), t_length h.ct g1 (br_t ?_ hr)⟩
    rw [ix_nI (by omega), hl a g1, nI_add, rst_add w g3]
  · rintro k i s hi rfl ih
    simp only [VL_X1_nextArc_3]
    simp only [nI1]
    have hi2 : i < 2 * e.T.ns := by omega
    have hla := w.len hi2
    have hbi := w.beg hi2
    refine t_arcs h.ct (br_t (nI_lt hi2 (by omega)) (t_isArcN h.ct (by omega) (br0 (fun h1 => nm_e (ih s rfl)) fun h1 => br_t trivial (t_begin h.ct hi2 ⟨fun h2 => ?_, fun h2 => nm_e (ih s rfl)⟩))))
    unfold V_X1_nextArc_60
    simp only [nI1]
    refine ⟨vin (by omega) (by decide), t_length h.ct hi2 (br_f ?_ (nm_e (ih s rfl)))⟩
    have hrl := rst_le w (e.G t) to i
    rw [nI_eq (by omega) hc] at h2
    rw [ix_nI (by omega), hl i hi2, nI_add, nI_eq (by omega) (by omega)]
    intro e1
    cases hd : Ds e.T (e.G t) to i with
    | none => rw [rst_none hd] at e1; omega
    | some m =>
      have := rst_add w hd
      have := g5 i m hi (by unfold frm; rw [h1, h2]; simp) hd
      omega
theorem c_nextArc1 {e : Ev} {σ : ZS} (h : CE e σ) {c to t : Nat} (ht : t ≤ e.tm) (hl : RestC e.T (e.G t) to σ) {a n : Nat} (ha : Ds e.T (e.G t) to a = some (n + e.T.len a)) (hf : e.T.fin a ≠ to) {Ret : Int32 → ZS → Prop} (hr : Ret (nI (nxA e.T (e.G t) to a)) σ) : wp_X1_nextArc σ (nI c) (nI a) (nI n) (nI t) Ret := by
  have hns := h.ct.wf.ns
  have w := h.ct.wf
  have := w.nc
  have hA := Tw.arc_lt (Ds_arc ha)
  have hnl := Ds_le w ha
  obtain ⟨hb, hbl⟩ := leastN_is (nx_ex ha hf)
  have hbN := Tw.arc_lt hb.1
  unfold wp_X1_nextArc
  have test : ∀ b, b < 2 * e.T.ns → e.T.isArc b = true → e.G t a b = true → (nI (rst e.T (e.G t) to b) + nI (e.T.len b) = nI n) = isNx e.T (e.G t) to a b := by
    intro b hb1 hb2 hb3
    have hlb := w.len hb1
    have hrl := rst_le w (e.G t) to b
    rw [nI_add]
    apply propext
    rw [nI_eq (by omega) (by omega)]
    cases hd : Ds e.T (e.G t) to b with
    | none =>
      rw [rst_none hd]
      constructor
      · intro; omega
      · rintro ⟨-, -, m, hm, -⟩; rw [hd] at hm; cases hm
    | some m =>
      rw [rst_add w hd]
      constructor
      · intro e1; exact ⟨hb2, hb3, m, hd, by rw [ha, e1]⟩
      · rintro ⟨-, -, m', hm', e1⟩
        rw [hd] at hm'; cases hm'
        rw [ha] at e1
        simp only [Option.some.injEq] at e1
        omega
  refine forL (S := ZS) (fun k s x => VL_X1_nextArc_3 Ret k s (nI c) (nI a) (nI n) (nI t) x) (fun i s => s = σ) (nxA e.T (e.G t) to a) ?_ ?_ 0 σ (Nat.zero_le _) rfl
  · rintro k s rfl
    simp only [VL_X1_nextArc_3]
    have hN2 : nxA e.T (e.G t) to a < 2 * e.T.ns := hbN
    have hb' : isNx e.T (e.G t) to a (nxA e.T (e.G t) to a) := hb
    generalize nxA e.T (e.G t) to a = b at hN2 hb' hr ⊢
    refine t_arcs h.ct (br_t (nI_lt hN2 (by omega)) (t_isArcN h.ct (by omega) ?_))
    rw [hb'.1]
    refine br_f (by decide) (br_f (by rw [nI_m1 (by omega)]; exact id) (c_may h hA hN2 ht ?_))
    rw [hb'.2.1]
    refine br_f (by decide) ?_
    unfold V_X1_nextArc_60
    refine ⟨vin (by omega) (by decide), t_length h.ct hN2 (br_t ?_ hr)⟩
    rw [ix_nI (by omega), hl _ hN2, test _ hN2 hb'.1 hb'.2.1]; exact hb'
  · rintro k i s hi rfl ih
    have hi2 : i < 2 * e.T.ns := by unfold nxA at hi; omega
    simp only [VL_X1_nextArc_3]
    simp only [nI1]
    refine t_arcs h.ct (br_t (nI_lt hi2 (by omega)) (t_isArcN h.ct (by omega) (br0 (fun h1 => nm_e (ih s rfl)) fun h1 => br_f (by rw [nI_m1 (by omega)]; exact id) (c_may h hA hi2 ht (br0 (fun h2 => nm_e (ih s rfl)) fun h2 => ?_)))))
    unfold V_X1_nextArc_60
    simp only [nI1]
    refine ⟨vin (by omega) (by decide), t_length h.ct hi2 (br_f ?_ (nm_e (ih s rfl)))⟩
    rw [ix_nI (by omega), hl _ hi2, test _ hi2 h1 h2]; exact hbl i hi
/-- how many arcs the ride has -/
noncomputable def pN (T : Tw) (G : Nat → Nat → Bool) (c to : Nat) : Option Nat := if c = to then some 0 else (fstA T G c to).map (fun q => plen T G to q.1)
/-- its arcs -/
noncomputable def pA (T : Tw) (G : Nat → Nat → Bool) (c to i : Nat) : Nat := match fstA T G c to with
  | none => 0
  | some q => pth T G to q.1 i
theorem pN_le {T : Tw} (w : T.WF) {G : Nat → Nat → Bool} {c to n : Nat} (h : pN T G c to = some n) : n ≤ 2 * T.ns := by
  unfold pN at h
  split at h
  · cases h; omega
  · cases hf : fstA T G c to with
    | none => rw [hf] at h; cases h
    | some q =>
      rw [hf] at h
      cases h
      exact (plen_is w (FAr_some (a := q.1) (n := q.2) hf).2.2.1).1
theorem pA_lt {T : Tw} (w : T.WF) {G : Nat → Nat → Bool} {c to n i : Nat} (h : pN T G c to = some n) (hi : i < n) : T.isArc (pA T G c to i) = true := by
  unfold pN at h
  split at h
  · cases h; omega
  · unfold pA
    cases hf : fstA T G c to with
    | none => rw [hf] at h; cases h
    | some q =>
      rw [hf] at h
      cases h
      obtain ⟨m, hm⟩ := (plen_is w (FAr_some (a := q.1) (n := q.2) hf).2.2.1).2.2.2 i hi
      exact Ds_arc hm
theorem Ds_len {T : Tw} (w : T.WF) {G : Nat → Nat → Bool} {to a n : Nat} (h : Ds T G to a = some n) : T.fin a = to ↔ n = T.len a := by
  constructor
  · intro e; rw [Ds_fin w (Ds_arc h) e] at h; cases h; rfl
  · intro e
    rcases Ds_next h with ⟨k, -⟩ | ⟨b, m, -, -, hm, e2⟩
    · exact k
    · have := (Ds_some.mp hm).1.pos w; omega
theorem c_pathOf {e : Ev} {σ : ZS} (h : CE e σ) {c to t : Nat} (hc : c < 2 ^ 31) (hto : to < 2 ^ 31) (ht : t ≤ e.tm) {Ret : Int32 → ZS → Prop} (hr : ∀ σ', Fr (fun c => c = 20 ∨ c = 21) σ σ' → (∀ n i, pN e.T (e.G t) c to = some n → i < n → zI σ' 21 i = nI (pA e.T (e.G t) c to i)) → Ret (oI (pN e.T (e.G t) c to)) σ') : wp_X1_pathOf σ (nI c) (nI to) (nI t) Ret := by
  have hns := h.ct.wf.ns
  have w := h.ct.wf
  unfold wp_X1_pathOf
  refine c_rideOf h hc hto ht fun s f hl => ?_
  have f' : Fr (fun c => c = 20 ∨ c = 21) σ s := f.mono fun c k => .inl k
  by_cases e1 : c = to
  · have : rideV e.T (e.G t) c to = some 0 := by unfold rideV; rw [if_pos e1]
    rw [this]
    have hp : pN e.T (e.G t) c to = some 0 := by unfold pN; rw [if_pos e1]
    refine br_f (by decide) ⟨1, ?_⟩
    simp only [VL_X1_pathOf_23]
    refine br_f (by decide) ?_
    have := hr s f' fun n i hn hi => by rw [hp] at hn; cases hn; omega
    rw [hp] at this; exact this
  · have hl := hl e1
    cases hf : fstA e.T (e.G t) c to with
    | none =>
      have : rideV e.T (e.G t) c to = none := by unfold rideV; rw [if_neg e1, hf]; rfl
      have hp : pN e.T (e.G t) c to = none := by unfold pN; rw [if_neg e1, hf]; rfl
      rw [this]
      refine br_t rfl ?_
      have := hr s f' fun n i hn hi => by rw [hp] at hn; cases hn
      rw [hp] at this; exact this
    | some q =>
      obtain ⟨a, n⟩ := q
      have g3 := (FAr_some hf).2.2.1
      have : rideV e.T (e.G t) c to = some n := by unfold rideV; rw [if_neg e1, hf]; rfl
      have hp : pN e.T (e.G t) c to = some (plen e.T (e.G t) to a) := by unfold pN; rw [if_neg e1, hf]; rfl
      have hpa : ∀ i, pA e.T (e.G t) c to i = pth e.T (e.G t) to a i := by intro i; unfold pA; rw [hf]
      obtain ⟨q1, q2, q3, q4⟩ := plen_is w g3
      have hnl := Ds_le w g3
      rw [this]
      refine br_f (by show ¬ nI n = -1; rw [nI_m1 (by omega)]; exact id) ?_
      have hn1 := (Ds_some.mp g3).1.pos w
      have h0 : 0 < plen e.T (e.G t) to a := by unfold plen; omega
      rw [hp] at hr
      generalize hP : plen e.T (e.G t) to a = P at *
      refine lp4 (fun k s l i x => VL_X1_pathOf_23 Ret k s (nI c) (nI t) l i x) (fun s l i x => ∃ j, i = nI j ∧ j ≤ P ∧ Fr (fun c => c = 20 ∨ c = 21) σ s ∧ RestC e.T (e.G t) to s ∧ (∀ k, k < j → zI s 21 k = nI (pth e.T (e.G t) to a k)) ∧ ((j = 0 ∧ l = nI n ∧ x = -1) ∨ ∃ j' m, j = j' + 1 ∧ x = nI (pth e.T (e.G t) to a j') ∧ l = nI m ∧ Ds e.T (e.G t) to (pth e.T (e.G t) to a j') = some (m + e.T.len (pth e.T (e.G t) to a j')))) (fun _ _ i _ => P - ix i) ?_ s (nI n) 0 (-1) ⟨0, rfl, Nat.zero_le _, f', hl, fun k hk => absurd hk (Nat.not_lt_zero _), .inl ⟨rfl, rfl, rfl⟩⟩
      rintro k s l i x ⟨j, rfl, hj, f, hl, hpt, hst⟩ ih
      have hs := h.fr f (by intro c hc; unfold scC; omega)
      simp only [VL_X1_pathOf_23]
      have put : ∀ q m, q = pth e.T (e.G t) to a j → l = nI m → Ds e.T (e.G t) to q = some m → j < P → vp_in (nI j) 48 ∧ (∀ σ6 : ZS, σ6 = sI s 21 (ix (nI j)) (nI q) → (∀ y7 : Int32, y7 = nI j + 1 → ((zP σ6 0 0) = some (.inl (zo (zP σ6 0 0))) ∧ ((∃ n12, kK NS σ6 (zo (zP σ6 0 0)) = (8, n12)) ∧ (wp_X2_length σ6 (zo (zP σ6 0 0)) (nI q) (fun r9 σ10 => ∀ y13 : Int32, y13 = l - r9 → (VL_X1_pathOf_23 Ret k σ10 (nI c) (nI t) y13 y7 (nI q)))))))) := by
        intro q m hq hm hd hjP
        have hqN := Tw.arc_lt (Ds_arc hd)
        have hq1 := (Ds_some.mp hd).1.pos w
        refine ⟨vin (by omega) (by decide), nm_e (nm_e ?_)⟩
        rw [ix_nI (by omega), nI1, hm]
        have f2 := f.sI 21 j (nI q) (.inr rfl)
        have hs2 := h.fr f2 (by intro c hc; unfold scC; omega)
        refine t_length hs2.ct hqN (nm_e ?_)
        rw [pk_sub hq1.1]
        refine ih _ _ _ _ ⟨j + 1, rfl, hjP, f2, ?_, ?_, .inr ⟨j, m - e.T.len q, rfl, by rw [hq], rfl, ?_⟩⟩ ?_
        · intro x hx; rw [zI_ne _ (by omega)]; exact hl x hx
        · intro x hx
          rw [zI_row]
          by_cases ex : x = j
          · rw [if_pos ex, hq, ex]
          · rw [if_neg ex]; exact hpt x (by omega)
        · rw [← hq, hd]; congr 1; omega
        · rw [ix_nI (by omega), ix_nI (by omega)]; omega
      rcases hst with ⟨rfl, rfl, rfl⟩ | ⟨j', m, rfl, rfl, rfl, hd⟩
      · refine br_t (by rw [n0]; exact nI_lt (by omega) (by omega)) (c_nextArc0 hs hc hl hf ?_)
        exact put a n rfl rfl g3 h0
      · have hdl := Ds_le w hd
        have hA := Tw.arc_lt (Ds_arc hd)
        by_cases hm : m = 0
        · subst hm
          refine br_f (by decide) ?_
          have hfin : e.T.fin (pth e.T (e.G t) to a j') = to := (Ds_len w hd).mpr (by omega)
          have : j' + 1 = P := by
            have h7 : ¬ j' + 1 < P := fun k => q3 j' k hfin
            omega
          have := hr s f fun n i hn hi => by
            cases hn; rw [hpa]; exact hpt i (by omega)
          rw [← ‹j' + 1 = P›] at this
          exact this
        · have hfin : e.T.fin (pth e.T (e.G t) to a j') ≠ to := fun k => by
            have := (Ds_len w hd).mp k; omega
          have hjP : j' + 1 < P := by
            rcases Nat.lt_or_ge (j' + 1) P with k | k
            · exact k
            · have : j' = P - 1 := by omega
              rw [this] at hfin; exact absurd q2 hfin
          refine br_t (by rw [n0]; exact nI_lt (by omega) (by omega)) (c_nextArc1 hs ht hl hd hfin ?_)
          have hx := (leastN_is (nx_ex hd hfin)).1
          obtain ⟨-, -, m2, hm2, hm3⟩ := hx
          rw [hd] at hm3
          simp only [Option.some.injEq] at hm3
          exact put (nxA e.T (e.G t) to (pth e.T (e.G t) to a j')) m rfl rfl (by show Ds e.T (e.G t) to (leastN _) = _; rw [hm2]; congr 1; omega) hjP
