/-! PURE HALF: who reaches whom, the class's side. -/
set_option maxRecDepth 100000
theorem cnt_up {p q : Nat → Bool} {n y : Nat} (hy : y < n) (h : ∀ x, x ≠ y → q x = p x) (hp : p y = false) (hq : q y = true) : cnt q n = cnt p n + 1 := by
  induction n with
  | zero => omega
  | succ n ih =>
    unfold cnt
    by_cases e : y = n
    · subst e
      rw [cnt_congr (q := p) fun x hx => h x (by omega), hq, hp]; simp
    · rw [ih (by omega), h n (by omega)]; omega
/-- seen arcs -/
def sn (σ : ZS) (b : Nat) : Bool := !decide (zI σ 22 b = 0)
theorem sn_0 {σ : ZS} {b : Nat} : (zI σ 22 b = 0) = (sn σ b = false) := by unfold sn; simp
theorem sn_up {σ : ZS} {i : Nat} {v : Int32} (b : Nat) : sn (sI σ 22 i v) b = if b = i then !decide (v = 0) else sn σ b := by
  unfold sn; rw [zI_row]; split <;> rfl
theorem sn_ne {σ : ZS} {r i : Nat} {v : Int32} (h : r ≠ 22) (b : Nat) : sn (sI σ r i v) b = sn σ b := by
  unfold sn; rw [zI_ne _ (.inl (fun e => h e.symm))]
def inQ (c : Nat) : Prop := c = 22 ∨ c = 23
theorem inQ_sc : ∀ c, inQ c → scC c := by intro c hc; unfold inQ at hc; unfold scC; omega
/-- the queue: distinct seen arcs, how many -/
abbrev Qu (T : Tw) (σ : ZS) (tail : Nat) (q : Nat → Nat) : Prop := (tail = cnt (sn σ) (2 * T.ns)) ∧ (∀ i, i < tail → zI σ 23 i = nI (q i) ∧ T.isArc (q i) = true) ∧ (∀ b, b < 2 * T.ns → (sn σ b = true ↔ ∃ i, i < tail ∧ q i = b))
theorem Qu.ct {T : Tw} {σ : ZS} {tail : Nat} {q : Nat → Nat} (h : Qu T σ tail q) : tail = cnt (sn σ) (2 * T.ns) := h.1
theorem Qu.qs {T : Tw} {σ : ZS} {tail : Nat} {q : Nat → Nat} (h : Qu T σ tail q) : ∀ i, i < tail → zI σ 23 i = nI (q i) ∧ T.isArc (q i) = true := h.2.1
theorem Qu.sq {T : Tw} {σ : ZS} {tail : Nat} {q : Nat → Nat} (h : Qu T σ tail q) : ∀ b, b < 2 * T.ns → (sn σ b = true ↔ ∃ i, i < tail ∧ q i = b) := h.2.2
theorem c_goesOn {e : Ev} {σ : ZS} (h : CE e σ) {t n : Nat} (ht : t ≤ e.tm) {q : Nat → Nat} (hq : Qu e.T σ n q) {Ret : ZS → Prop} (hr : ∀ σ', Fr inQ σ σ' → (∀ b, b < 2 * e.T.ns → (sn σ' b = true ↔ ∃ a, a < 2 * e.T.ns ∧ sn σ a = true ∧ Rc e.T (e.G t) a b)) → Ret σ') : wp_X1_goesOn σ (nI n) (nI t) Ret := by
  have hns := h.ct.wf.ns
  have w := h.ct.wf
  unfold wp_X1_goesOn
  refine lp3 (fun k s x y => VL_X1_goesOn_5 Ret k s (nI t) x y) (fun s x y => ∃ tl hd q, x = nI tl ∧ y = nI hd ∧ hd ≤ tl ∧ Fr inQ σ s ∧ Qu e.T s tl q ∧ (∀ b, b < 2 * e.T.ns → sn σ b = true → sn s b = true) ∧ (∀ b, b < 2 * e.T.ns → sn s b = true → ∃ a, a < 2 * e.T.ns ∧ sn σ a = true ∧ Rc e.T (e.G t) a b) ∧ ∀ i, i < hd → ∀ b, e.T.isArc b = true → e.G t (q i) b = true → sn s b = true) (fun _ _ y => 48 - ix y) ?_ σ (nI n) 0 ⟨n, 0, q, rfl, rfl, Nat.zero_le _, Fr.rfl, hq, fun _ _ k => k, fun b hb k => ⟨b, hb, k, .refl ?_⟩, fun i hi => absurd hi (Nat.not_lt_zero _)⟩
  · rintro k s x y ⟨tl, hd, q, rfl, rfl, hle, f, Q, mo, so, cl⟩ ih
    have hs := h.fr f inQ_sc
    have htl : tl ≤ 2 * e.T.ns := by rw [Q.ct]; exact cnt_le _ _
    simp only [VL_X1_goesOn_5]
    rw [nI_ltI (by omega) (by omega)]
    refine ⟨fun h1 => ?_, fun h1 => hr s f fun b hb => ⟨so b hb, ?_⟩⟩
    · have hqh := Q.qs hd h1
      have hqN := Tw.arc_lt hqh.2
      refine forL1 (fun k s v x => VL_X1_goesOn_14 _ Ret k s (nI t) v (nI hd) x) (fun j s' v => ∃ tl q', v = nI tl ∧ hd < tl ∧ Fr inQ σ s' ∧ Qu e.T s' tl q' ∧ (∀ b, b < 2 * e.T.ns → sn σ b = true → sn s' b = true) ∧ (∀ b, b < 2 * e.T.ns → sn s' b = true → ∃ a, a < 2 * e.T.ns ∧ sn σ a = true ∧ Rc e.T (e.G t) a b) ∧ (∀ i, i < hd → ∀ b, e.T.isArc b = true → e.G t (q' i) b = true → sn s' b = true) ∧ q' hd = q hd ∧ ∀ b, b < j → e.T.isArc b = true → e.G t (q hd) b = true → sn s' b = true) (2 * e.T.ns) ?_ ?_ 0 s (nI tl) (Nat.zero_le _) ⟨tl, q, rfl, h1, f, Q, mo, so, cl, rfl, fun b hb => absurd hb (Nat.not_lt_zero _)⟩
      · rintro n2 s' v ⟨tl', q', rfl, hlt, f', Q', mo', so', cl', eq', cj⟩
        have hs' := h.fr f' inQ_sc
        simp only [VL_X1_goesOn_14]
        simp only [nI1]
        refine t_arcs hs'.ct (br_f (fun k => absurd ((nI_ltI (by omega) (by omega)).mp k) (by omega)) (nm_e (ih _ _ _ ⟨tl', hd + 1, q', rfl, rfl, hlt, f', Q', mo', so', fun i hi b hb hg => ?_⟩ ?_)))
        · by_cases e1 : i = hd
          · subst e1; rw [eq'] at hg; exact cj b (Tw.arc_lt hb) hb hg
          · exact cl' i (by omega) b hb hg
        · rw [ix_nI (by omega), ix_nI (by omega)]; omega
      · rintro n2 j s' v hj ⟨tl', q', rfl, hlt, f', Q', mo', so', cl', eq', cj⟩ ih2
        have hs' := h.fr f' inQ_sc
        have htl' : tl' ≤ 2 * e.T.ns := by rw [Q'.ct]; exact cnt_le _ _
        simp only [VL_X1_goesOn_14]
        simp only [nI1]
        have skip : (e.T.isArc j = true → e.G t (q hd) j = true → sn s' j = true) → VL_X1_goesOn_14 (VL_X1_goesOn_5 Ret k) Ret n2 s' (nI t) (nI tl') (nI hd) (nI (j + 1)) := by
          intro g
          refine ih2 s' _ ⟨tl', q', rfl, hlt, f', Q', mo', so', cl', eq', fun b hb h2 h3 => ?_⟩
          by_cases e1 : b = j
          · subst e1; exact g h2 h3
          · exact cj b (by omega) h2 h3
        refine t_arcs hs'.ct (br_t (nI_lt hj (by omega)) ⟨vin (by omega) (by decide), ?_⟩)
        rw [ix_nI (by omega), sn_0]
        refine ⟨fun h2 => t_isArcN hs'.ct (by omega) (br0 (fun h3 => nm_e (skip fun k => by rw [h3] at k; cases k)) fun h3 => ⟨vin (by omega) (by decide), ?_⟩), fun h2 => nm_e (skip fun _ _ => by simpa using h2)⟩
        have hq' := Q'.qs hd hlt
        rw [ix_nI (by omega), hq'.1, eq']
        refine c_may hs' hqN hj ht (br0 (fun h4 => nm_e (skip fun _ k => by rw [h4] at k; cases k)) fun h4 => ⟨vin (by omega) (by decide), nm_e ⟨?_, nm_e (nm_e (nm_e ?_))⟩⟩)
        · have : tl' < 2 * e.T.ns := by
            rw [Q'.ct]
            have := cnt_lt (p := sn s') (q := fun _ => true) (fun _ _ _ => rfl) hj rfl h2
            rw [cnt_all] at this; exact this
          exact vin (by omega) (by decide)
        · have htl2 : tl' < 2 ^ 31 := by omega
          rw [ix_nI htl2, narB1]
          have f2 := (f'.sI 22 j 1 (.inl rfl)).sI 23 tl' (nI j) (.inr rfl)
          have hsn : ∀ b, sn (sI (sI s' 22 j 1) 23 tl' (nI j)) b = if b = j then true else sn s' b := by
            intro b; rw [sn_ne (by decide), sn_up]; rfl
          have hz : ∀ i, zI (sI (sI s' 22 j 1) 23 tl' (nI j)) 23 i = if i = tl' then nI j else zI s' 23 i := by
            intro i; rw [zI_row]; split
            · rfl
            · rw [zI_ne _ (.inl (by decide))]
          generalize sI (sI s' 22 j 1) 23 tl' (nI j) = s2 at f2 hsn hz ⊢
          have mono : ∀ b, sn s' b = true → sn s2 b = true := by
            intro b k; rw [hsn]; split
            · rfl
            · exact k
          refine ih2 s2 _ ⟨tl' + 1, fun i => if i = tl' then j else q' i, rfl, by omega, f2, ⟨?_, ?_, ?_⟩, fun b hb k => mono b (mo' b hb k), ?_, ?_, ?_, ?_⟩
          · rw [cnt_up (p := sn s') hj (fun x hx => by rw [hsn, if_neg hx]) h2 (by rw [hsn, if_pos rfl]), ← Q'.ct]
          · intro i hi
            dsimp only
            rw [hz]
            by_cases e1 : i = tl'
            · rw [if_pos e1, if_pos e1]; exact ⟨rfl, h3⟩
            · rw [if_neg e1, if_neg e1]; exact Q'.qs i (by omega)
          · intro b hb
            rw [hsn]
            by_cases e1 : b = j
            · rw [if_pos e1]
              exact ⟨fun _ => ⟨tl', by omega, by dsimp only; rw [if_pos rfl, e1]⟩, fun _ => rfl⟩
            · rw [if_neg e1, Q'.sq b hb]
              constructor
              · rintro ⟨i, hi, ei⟩; exact ⟨i, by omega, by dsimp only; rw [if_neg (by omega)]; exact ei⟩
              · rintro ⟨i, hi, ei⟩
                dsimp only at ei
                by_cases e2 : i = tl'
                · rw [if_pos e2] at ei; exact absurd ei.symm e1
                · rw [if_neg e2] at ei; exact ⟨i, by omega, ei⟩
          · intro b hb k
            rw [hsn] at k
            by_cases e1 : b = j
            · subst e1
              obtain ⟨a, g1, g2, g3⟩ := so' (q hd) hqN ((Q'.sq _ hqN).mpr ⟨hd, hlt, eq'⟩)
              exact ⟨a, g1, g2, .step _ _ g3 h3 h4⟩
            · rw [if_neg e1] at k; exact so' b hb k
          · intro i hi b hb hg
            dsimp only at hg
            rw [if_neg (by omega)] at hg
            exact mono b (cl' i hi b hb hg)
          · dsimp only; rw [if_neg (by omega)]; exact eq'
          · intro b hb g1 g2
            rw [hsn]
            by_cases e1 : b = j
            · rw [if_pos e1]
            · rw [if_neg e1]; exact cj b (by omega) g1 g2
    · rintro ⟨a, ha, g1, g2⟩
      have : ∀ b, Rc e.T (e.G t) a b → sn s b = true := by
        intro b g
        induction g using Rc.ind with
        | refl => exact mo a ha g1
        | step x y g3 g4 g5 ih3 =>
          obtain ⟨i, hi, ei⟩ := (Q.sq x (Tw.arc_lt (g3.arc2))).mp ih3
          exact cl i (by omega) y g4 (by rw [ei]; exact g5)
      exact this b g2
  · obtain ⟨i, hi, ei⟩ := (hq.sq b hb).mp k
    rw [← ei]; exact (hq.qs i hi).2

theorem c_reached {e : Ev} {σ : ZS} (h : CE e σ) {t c : Nat} (ht : t ≤ e.tm) (hc : c < e.T.nc) {Ret : Int32 → ZS → Prop} (hr : ∀ σ', Fr inQ σ σ' → Ret (rchV e.T (e.G t) c) σ') : wp_X1_reached σ (nI c) (nI t) Ret := by
  have hns := h.ct.wf.ns
  have w := h.ct.wf
  have hnc := w.nc
  unfold wp_X1_reached
  refine forL1 (fun k s v x => VL_X1_reached_5 Ret k s (nI c) (nI t) v x) (fun i s v => ∃ q, v = nI (cnt (frm e.T c) i) ∧ Fr inQ σ s ∧ (∀ b, b < i → sn s b = frm e.T c b) ∧ (∀ j, j < cnt (frm e.T c) i → zI s 23 j = nI (q j) ∧ q j < i ∧ frm e.T c (q j) = true) ∧ ∀ b, b < i → frm e.T c b = true → ∃ j, j < cnt (frm e.T c) i ∧ q j = b) (2 * e.T.ns) ?_ ?_ 0 σ 0 (Nat.zero_le _) ⟨fun _ => 0, rfl, Fr.rfl, fun b hb => absurd hb (Nat.not_lt_zero _), fun b hb => absurd hb (Nat.not_lt_zero _), fun b hb => absurd hb (Nat.not_lt_zero _)⟩
  · rintro n s v ⟨q, rfl, f, g1, g2, g3⟩
    have hs := h.fr f inQ_sc
    simp only [VL_X1_reached_5]
    refine t_arcs hs.ct (br_f (fun k => absurd ((nI_ltI (by omega) (by omega)).mp k) (by omega)) ?_)
    have Q : Qu e.T s (cnt (frm e.T c) (2 * e.T.ns)) q := ⟨cnt_congr fun b hb => (g1 b hb).symm, fun i hi => ⟨(g2 i hi).1, by have := (g2 i hi).2.2; unfold frm at this; simp only [Bool.and_eq_true] at this; exact this.1⟩, fun b hb => by
      rw [g1 b hb]
      constructor
      · exact g3 b hb
      · rintro ⟨i, hi, ei⟩; rw [← ei]; exact (g2 i hi).2.2⟩
    refine c_goesOn hs ht Q fun s' f' hsn => nm_e ?_
    have ff := f.trans f'
    have hs' := h.fr ff inQ_sc
    refine forL1 (fun k s v x => VL_X1_reached_98 Ret k s v x) (fun i s2 v => s2 = s' ∧ ∀ k, k < 32 → (btI v k = true ↔ k = c ∨ ∃ a b, b < i ∧ frm e.T c a = true ∧ Rc e.T (e.G t) a b ∧ e.T.fin b = k)) (2 * e.T.ns) ?_ ?_ 0 s' _ (Nat.zero_le _) ⟨rfl, fun k hk => ?_⟩
    · rintro n2 s2 v ⟨rfl, hv⟩
      simp only [VL_X1_reached_98]
      have : v = rchV e.T (e.G t) c := bt_ext fun k hk => by
        rw [bt_rchV hk, Bool.eq_iff_iff, hv k hk, rcB_iff]
        unfold RcC
        constructor
        · rintro (e1 | ⟨a, b, -, k2⟩)
          · exact .inl e1
          · exact .inr ⟨a, b, k2⟩
        · rintro (e1 | ⟨a, b, k2⟩)
          · exact .inl e1
          · exact .inr ⟨a, b, Tw.arc_lt k2.2.1.arc2, k2⟩
      rw [this]
      exact t_arcs hs'.ct (br_f (fun k => absurd ((nI_ltI (by omega) (by omega)).mp k) (by omega)) (hr s2 ff))
    · rintro n2 j s2 v hj ⟨rfl, hv⟩ ih
      simp only [VL_X1_reached_98]
      simp only [nI1]
      refine t_arcs hs'.ct (br_t (nI_lt hj (by omega)) ⟨vin (by omega) (by decide), ?_⟩)
      rw [ix_nI (by omega), sn_0]
      refine ⟨fun h1 => nm_e (nm_e (ih s2 _ ⟨rfl, fun k hk => ?_⟩)), fun h1 => t_end hs'.ct hj (nm_e (nm_e (ih s2 _ ⟨rfl, fun k hk => ?_⟩)))⟩
      · rw [bt_or, bt_0, Bool.or_false, hv k hk]
        constructor
        · rintro (e1 | ⟨a, b, k1, k2⟩)
          · exact .inl e1
          · exact .inr ⟨a, b, by omega, k2⟩
        · rintro (e1 | ⟨a, b, k1, k2⟩)
          · exact .inl e1
          · refine .inr ⟨a, b, ?_, k2⟩
            by_cases e2 : b = j
            · subst e2
              have : sn s2 b = true := (hsn b hj).mpr ⟨a, Tw.arc_lt k2.2.1.arc1, by rw [g1 a (Tw.arc_lt k2.2.1.arc1)]; exact k2.1, k2.2.1⟩
              rw [h1] at this; cases this
            · omega
      · have hfj := w.fin hj
        have h1' : sn s2 j = true := by simpa using h1
        rw [bt_or, bt_one (by omega) hk, Bool.or_eq_true, hv k hk, decide_eq_true_eq]
        constructor
        · rintro ((e1 | ⟨a, b, k1, k2⟩) | e1)
          · exact .inl e1
          · exact .inr ⟨a, b, by omega, k2⟩
          · obtain ⟨a, k1, k2, k3⟩ := (hsn j hj).mp h1'
            rw [g1 a k1] at k2
            exact .inr ⟨a, j, by omega, k2, k3, e1.symm⟩
        · rintro (e1 | ⟨a, b, k1, k2⟩)
          · exact .inl (.inl e1)
          · by_cases e2 : b = j
            · subst e2; exact .inr k2.2.2.symm
            · exact .inl (.inr ⟨a, b, by omega, k2⟩)
    · rw [bt_one (by omega) hk, decide_eq_true_eq]
      constructor
      · exact fun e1 => .inl e1
      · rintro (e1 | ⟨a, b, k1, -⟩)
        · exact e1
        · omega
  · rintro n i s v hi ⟨q, rfl, f, g1, g2, g3⟩ ih
    have hs := h.fr f inQ_sc
    have hcn : cnt (frm e.T c) i ≤ i := cnt_le _ _
    simp only [VL_X1_reached_5]
    have put : ∀ x : Int32, x = b2i (frm e.T c i) → V_X1_reached_53 (VL_X1_reached_5 Ret n) Ret s (nI c) (nI t) (nI (cnt (frm e.T c) i)) (nI i) x (nI i) 22 := by
      intro x hx
      unfold V_X1_reached_53
      refine ⟨48, rfl, vin (by omega) (by decide), nm_e ⟨vin (by omega) (by decide), ?_⟩⟩
      rw [ix_nI (by omega), zI_self]
      simp only [nI1]
      have f2 := f.sI 22 i (vp_nar .boolean x) (.inl rfl)
      cases hfr : frm e.T c i
      · rw [hfr] at hx
        subst hx
        rw [show b2i false = 0 from rfl, narB0] at f2 ⊢
        have ec : cnt (frm e.T c) (i + 1) = cnt (frm e.T c) i := by conv => lhs; unfold cnt
                                                                    rw [hfr]; rfl
        refine br_t rfl (nm_e (ih _ _ ⟨q, by rw [ec], f2, fun b hb => ?_, fun j hj => ?_, fun b hb k => ?_⟩))
        · rw [sn_up]
          by_cases e1 : b = i
          · rw [if_pos e1, e1, hfr]; rfl
          · rw [if_neg e1]; exact g1 b (by omega)
        · rw [ec] at hj
          rw [zI_ne _ (.inl (by decide))]
          obtain ⟨k1, k2, k3⟩ := g2 j hj
          exact ⟨k1, by omega, k3⟩
        · by_cases e1 : b = i
          · rw [e1, hfr] at k; cases k
          · rw [ec]; exact g3 b (by omega) k
      · rw [hfr] at hx
        subst hx
        rw [show b2i true = 1 from rfl, narB1] at f2 ⊢
        have ec : cnt (frm e.T c) (i + 1) = cnt (frm e.T c) i + 1 := by conv => lhs; unfold cnt
                                                                        rw [hfr]; rfl
        refine br_f (by decide) ⟨vin (by omega) (by decide), nm_e (nm_e (nm_e ?_))⟩
        rw [ix_nI (by omega)]
        refine ih _ _ ⟨fun j => if j = cnt (frm e.T c) i then i else q j, by rw [ec], f2.sI _ _ _ (.inr rfl), fun b hb => ?_, fun j hj => ?_, fun b hb k => ?_⟩
        · rw [sn_ne (by decide), sn_up]
          by_cases e1 : b = i
          · rw [if_pos e1, e1, hfr]; rfl
          · rw [if_neg e1]; exact g1 b (by omega)
        · rw [ec] at hj
          dsimp only
          rw [zI_row]
          by_cases e1 : j = cnt (frm e.T c) i
          · rw [if_pos e1, if_pos e1]; exact ⟨rfl, by omega, hfr⟩
          · rw [if_neg e1, if_neg e1, zI_ne _ (.inl (by decide))]
            obtain ⟨k1, k2, k3⟩ := g2 j (by omega)
            exact ⟨k1, by omega, k3⟩
        · rw [ec]
          by_cases e1 : b = i
          · exact ⟨cnt (frm e.T c) i, by omega, by dsimp only; rw [if_pos rfl, e1]⟩
          · obtain ⟨j, k1, k2⟩ := g3 b (by omega) k
            exact ⟨j, by omega, by dsimp only; rw [if_neg (by omega)]; exact k2⟩
    have hbi := w.beg hi
    refine t_arcs hs.ct (br_t (nI_lt hi (by omega)) (t_isArcN hs.ct (by omega) (br0 (fun h1 => ?_) fun h1 => t_begin hs.ct hi ?_)))
    · unfold V_X1_reached_52; exact put 0 (by unfold frm; rw [h1]; rfl)
    · rw [nI_eq (by omega) (by omega)]
      refine ⟨fun h2 => put 1 (by unfold frm; rw [h1, h2]; simp [b2i]), fun h2 => ?_⟩
      unfold V_X1_reached_52; exact put 0 (by unfold frm; simp [h2, b2i])
theorem c_homeOf {e : Ev} {σ : ZS} (h : CE e σ) {t c : Nat} (ht : t ≤ e.tm) (hc : c < e.T.nc) {Ret : Int32 → ZS → Prop} (hr : ∀ σ', Fr inQ σ σ' → Ret (homV e.T (e.G t) c) σ') : wp_X1_homeOf σ (nI c) (nI t) Ret := by
  have hnc := h.ct.wf.nc
  unfold wp_X1_homeOf
  refine forL1 (fun k s v x => VL_X1_homeOf_5 Ret k s (nI c) (nI t) v x) (fun i s v => Fr inQ σ s ∧ ∀ k, k < 32 → btI v k = (decide (k < i) && rcB e.T (e.G t) k c)) e.T.nc ?_ ?_ 0 σ 0 (Nat.zero_le _) ⟨Fr.rfl, fun k hk => by rw [bt_0]; simp⟩
  · rintro n s v ⟨f, hv⟩
    have hs := h.fr f inQ_sc
    simp only [VL_X1_homeOf_5]
    have : v = homV e.T (e.G t) c := bt_ext fun k hk => by rw [bt_homV hk, hv k hk]
    rw [this]
    exact c_corners hs.ct (br_f (fun k => absurd ((nI_ltI (by omega) (by omega)).mp k) (by omega)) (hr s f))
  · rintro n i s v hi ⟨f, hv⟩ ih
    have hs := h.fr f inQ_sc
    simp only [VL_X1_homeOf_5]
    simp only [nI1]
    refine c_corners hs.ct (br_t (nI_lt hi (by omega)) (c_reached hs ht hi fun s' f' => ?_))
    rw [tst _ (by omega), bt_rchV (by omega), b2i_1]
    refine ⟨fun h1 => nm_e (nm_e (ih s' _ ⟨f.trans f', fun k hk => ?_⟩)), fun h1 => nm_e (ih s' _ ⟨f.trans f', fun k hk => ?_⟩)⟩
    · rw [bt_or, bt_one (by omega) hk, hv k hk]
      by_cases e1 : k = i
      · subst e1; simp [h1]
      · have : decide (k < i + 1) = decide (k < i) := by rw [Bool.eq_iff_iff]; simp; omega
        rw [this]; simp [e1]
    · rw [hv k hk]
      by_cases e1 : k = i
      · subst e1; rw [Bool.not_eq_true] at h1; simp [h1]
      · have : decide (k < i + 1) = decide (k < i) := by rw [Bool.eq_iff_iff]; simp; omega
        rw [this]
