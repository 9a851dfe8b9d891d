/-! PURE HALF: sets of candidates, tried. -/
set_option maxRecDepth 100000
theorem bt_ob32 (p : Nat → Bool) (k : Nat) : btI (ob p 32) k = (decide (k < 32) && p k) := by
  rcases Nat.lt_or_ge k 32 with h | h
  · rw [bt_ob p (by decide) h]
  · rw [bt_hi _ h]; simp; omega
/-- a turn is among the candidates of a set -/
def hitP (T : Tw) (sn an : Nat → Int32) (P : Nat → Bool) (s k : Nat) : Prop := ∃ j, j < nCd T sn an ∧ P j = true ∧ T.lf (cdA T sn an j) = s ∧ T.lt (cdA T sn an j) = k
noncomputable def hitB (T : Tw) (sn an : Nat → Int32) (P : Nat → Bool) (s k : Nat) : Bool := @decide (hitP T sn an P s k) (Classical.propDecidable _)
theorem hitB_iff {T : Tw} {sn an : Nat → Int32} {P : Nat → Bool} {s k : Nat} : hitB T sn an P s k = true ↔ hitP T sn an P s k := by unfold hitB; simp
noncomputable def moP (T : Tw) (sn an : Nat → Int32) (P : Nat → Bool) (s : Nat) : Int32 := ob (hitB T sn an P s) 32
noncomputable def anP (T : Tw) (sn an : Nat → Int32) (P : Nat → Bool) (s : Nat) : Int32 := ob (fun k => btI (an s) k || hitB T sn an P s k) 32
theorem bt_lt32 {x : Int32} {k : Nat} (h : btI x k = true) : k < 32 := by
  rcases Nat.lt_or_ge k 32 with h2 | h2
  · exact h2
  · rw [bt_hi _ h2] at h; cases h
theorem bt_anP (T : Tw) (sn an : Nat → Int32) (P : Nat → Bool) (s k : Nat) : btI (anP T sn an P s) k = (btI (an s) k || (decide (k < 32) && hitB T sn an P s k)) := by
  unfold anP
  rw [bt_ob32]
  cases h : btI (an s) k
  · simp
  · simp [bt_lt32 h]
theorem bt_moP (T : Tw) (sn an : Nat → Int32) (P : Nat → Bool) (s k : Nat) : btI (moP T sn an P s) k = (decide (k < 32) && hitB T sn an P s k) := by unfold moP; rw [bt_ob32]
theorem hit_no {T : Tw} {sn an : Nat → Int32} {P : Nat → Bool} (h : ∀ j, j < nCd T sn an → P j = false) (s k : Nat) : hitB T sn an P s k = false := by
  rw [← Bool.not_eq_true, hitB_iff]
  rintro ⟨j, h1, h2, -⟩
  rw [h j h1] at h2; cases h2
theorem moP_no {T : Tw} {sn an : Nat → Int32} {P : Nat → Bool} (h : ∀ j, j < nCd T sn an → P j = false) (s : Nat) : moP T sn an P s = 0 := by
  apply bt_ext; intro k _
  rw [bt_moP, hit_no h, bt_0]; simp
theorem anP_no {T : Tw} {sn an : Nat → Int32} {P : Nat → Bool} (h : ∀ j, j < nCd T sn an → P j = false) : anP T sn an P = an := by
  funext s
  apply bt_ext; intro k _
  rw [bt_anP, hit_no h]; simp
theorem hit_congr {T : Tw} {sn an : Nat → Int32} {P Q : Nat → Bool} (h : ∀ j, j < nCd T sn an → P j = Q j) (s k : Nat) : hitB T sn an P s k = hitB T sn an Q s k := by
  rw [Bool.eq_iff_iff, hitB_iff, hitB_iff]
  constructor
  · rintro ⟨j, h1, h2, h3⟩; exact ⟨j, h1, by rw [← h j h1]; exact h2, h3⟩
  · rintro ⟨j, h1, h2, h3⟩; exact ⟨j, h1, by rw [h j h1]; exact h2, h3⟩
theorem anP_congr {T : Tw} {sn an : Nat → Int32} {P Q : Nat → Bool} (h : ∀ j, j < nCd T sn an → P j = Q j) : anP T sn an P = anP T sn an Q := by
  funext s
  apply bt_ext; intro k _
  rw [bt_anP, bt_anP, hit_congr h]
theorem moP_congr {T : Tw} {sn an : Nat → Int32} {P Q : Nat → Bool} (h : ∀ j, j < nCd T sn an → P j = Q j) : moP T sn an P = moP T sn an Q := by
  funext s
  apply bt_ext; intro k _
  rw [bt_moP, bt_moP, hit_congr h]
/-- the class's rule with a set tried is the model's with its turns flipped -/
theorem set_rule (T : Tw) (sn an : Nat → Int32) (P : Nat → Bool) : mayC T false sn an (moP T sn an P) (fun _ => 0) = mayN T sn (anP T sn an P) := by
  funext a b
  refine may_eq ?_
  rw [bt_anP, bt_moP, bt_0]
  cases btI (an (a / 2)) (b / 2) <;> simp
/-- one turn flipped -/
def flipF (T : Tw) (k : Nat) (f : Nat → Int32) (s : Nat) : Int32 := if s = T.lf k then f s ^^^ ((1 : Int32) <<< (nI (T.lt k) &&& 31)) else f s
theorem bt_flip {T : Tw} {k : Nat} (hk : T.lt k < 32) (f : Nat → Int32) (s : Nat) {m : Nat} (hm : m < 32) : btI (flipF T k f s) m = (btI (f s) m ^^ (decide (s = T.lf k) && decide (m = T.lt k))) := by
  unfold flipF
  split
  · next h => rw [bt_xor, bt_one hk hm]; simp [h]
  · next h => simp [h]
theorem flip_P {T : Tw} (w : T.WF) {sn an : Nat → Int32} (P : Nat → Bool) {j : Nat} (hj : j < nCd T sn an) : flipF T (cdA T sn an j) (anP T sn an P) = anP T sn an (fun i => if i = j then !P i else P i) := by
  obtain ⟨c1, c2, -⟩ := cdA_is hj
  have hns := w.ns
  have hlt := w.lt _ c1
  funext s
  apply bt_ext
  intro m hm
  rw [bt_flip (by omega) _ _ hm, bt_anP, bt_anP]
  simp only [hm, decide_true, Bool.true_and]
  by_cases e : s = T.lf (cdA T sn an j) ∧ m = T.lt (cdA T sn an j)
  · obtain ⟨e1, e2⟩ := e
    have ean : btI (an s) m = false := by
      unfold isCd at c2; simp only [Bool.and_eq_true] at c2
      rw [e1, e2]; simpa using c2.1
    have key : ∀ Q : Nat → Bool, hitB T sn an Q s m = Q j := by
      intro Q
      rw [Bool.eq_iff_iff, hitB_iff]
      constructor
      · rintro ⟨i, h1, h2, h3, h4⟩
        have := w.li _ _ (cdA_is h1).1 c1 (by rw [h3, e1]) (by rw [h4, e2])
        rw [← cdA_inj h1 hj this]; exact h2
      · intro h; exact ⟨j, hj, h, e1.symm, e2.symm⟩
    rw [ean, key, key]
    simp [e1, e2]
  · have key : hitB T sn an (fun i => if i = j then !P i else P i) s m = hitB T sn an P s m := by
      rw [Bool.eq_iff_iff, hitB_iff, hitB_iff]
      constructor
      · rintro ⟨i, h1, h2, h3, h4⟩
        refine ⟨i, h1, ?_, h3, h4⟩
        by_cases ei : i = j
        · subst ei; exact absurd ⟨h3.symm, h4.symm⟩ e
        · dsimp only at h2; rw [if_neg ei] at h2; exact h2
      · rintro ⟨i, h1, h2, h3, h4⟩
        refine ⟨i, h1, ?_, h3, h4⟩
        by_cases ei : i = j
        · subst ei; exact absurd ⟨h3.symm, h4.symm⟩ e
        · dsimp only; rw [if_neg ei]; exact h2
    rw [key]
    have : (decide (s = T.lf (cdA T sn an j)) && decide (m = T.lt (cdA T sn an j))) = false := by
      rw [← Bool.not_eq_true]; simp only [Bool.and_eq_true, decide_eq_true_eq]; exact e
    rw [this]; simp
theorem m_flips {T : Tw} {σ : ZS} (h : MT T σ) {sn f : Nat → Int32} (hn : NowM sn f σ) {k : Nat} (hk : k < T.nl) {Ret : ZS → Prop} (hr : ∀ σ', Fr (fun c => c = 565) σ σ' → NowM sn (flipF T k f) σ' → Ret σ') : wp_X4_flips σ (nI k) Ret := by
  have := h.wf.nl; have := h.wf.ns; have hlf := h.wf.lf k hk; have := h.wf.lt k hk
  unfold wp_X4_flips
  rw [ix_nI (by omega), ix0, ix1, h.lf k hk, h.lt k hk]
  refine ⟨vin (by omega) (by decide), nm_e ⟨vin (by omega) (by decide), vin (by omega) (by decide), vin (by omega) (by decide), nm_e (hr _ (Fr.rfl.sI _ _ _ rfl) fun s hs => ?_)⟩⟩
  rw [ix_nI (by omega), zI_ne _ (.inl (by decide)), zI_row]
  refine ⟨(hn s hs).1, ?_⟩
  unfold flipF
  by_cases e : s = T.lf k
  · rw [if_pos e, if_pos e, e, (hn _ (by omega)).2]
  · rw [if_neg e, if_neg e, (hn s hs).2]
/-- a candidate flipped -/
theorem m_flipC {T : Tw} {σ : ZS} (h : MT T σ) {sn an : Nat → Int32} {P : Nat → Bool} (hn : NowM sn (anP T sn an P) σ) {j : Nat} (hj : j < nCd T sn an) {Ret : ZS → Prop} (hr : ∀ σ', Fr (fun c => c = 565) σ σ' → NowM sn (anP T sn an (fun i => if i = j then !P i else P i)) σ' → Ret σ') : wp_X4_flips σ (nI (cdA T sn an j)) Ret :=
  m_flips h hn (cdA_is hj).1 fun s f hn' => hr s f (by rw [flip_P h.wf P hj] at hn'; exact hn')
/-! the class tries a set -/
theorem c_tries {e : Ev} {σ : ZS} (h : CT e.T e.d σ) {sn an : Nat → Int32} (hc : ∀ j, j < nCd e.T sn an → zI σ 26 j = nI (cdA e.T sn an j)) {x : Int32} (hx : ∀ j, btI x j = true → j < nCd e.T sn an) {Ret : ZS → Prop} (hr : ∀ σ', Fr (fun c => c = 18) σ σ' → (∀ s, s < 24 → zI σ' 18 s = moP e.T sn an (btI x) s) → Ret σ') : wp_X1_tries σ x Ret := by
  have w := h.wf
  have hns := w.ns
  have hnl := w.nl
  have h14 : nCd e.T sn an ≤ 14 := by unfold nCd; omega
  unfold wp_X1_tries
  refine forL (S := ZS) (fun k s y => VL_X1_tries_2 Ret k s x y) (fun i s => Fr (fun c => c = 18) σ s ∧ ∀ j, j < i → zI s 18 j = 0) 24 ?_ ?_ 0 σ (Nat.zero_le _) ⟨Fr.rfl, fun j hj => absurd hj (Nat.not_lt_zero _)⟩
  · rintro n s ⟨f, h0⟩
    simp only [VL_X1_tries_2]
    refine br_f (by decide) ?_
    refine forL (S := ZS) (fun k s y => VL_X1_tries_23 Ret k s x y) (fun i s => Fr (fun c => c = 18) σ s ∧ ∀ q, q < 24 → zI s 18 q = moP e.T sn an (fun j => btI x j && decide (j < i)) q) 14 ?_ ?_ 0 s (Nat.zero_le _) ⟨f, fun q hq => by rw [h0 q hq, moP_no fun j _ => by simp]⟩
    · rintro n s ⟨f, h1⟩
      simp only [VL_X1_tries_23]
      refine br_f (by decide) (hr s f fun q hq => ?_)
      rw [h1 q hq, moP_congr (Q := btI x) fun j hj => ?_]
      have : decide (j < 14) = true := by simp; omega
      rw [this, Bool.and_true]
    · rintro n i s hi ⟨f, h1⟩ ih
      have ct := h.fr f (by intro c hc; unfold noA; omega)
      simp only [VL_X1_tries_23]
      simp only [nI1]
      rw [tst _ (by omega), b2i_1]
      refine br_t (by rw [show (14 : Int32) = nI 14 from rfl]; exact nI_lt hi (by decide)) ⟨fun k1 => ?_, fun k1 => nm_e (ih s ⟨f, fun q hq => ?_⟩)⟩
      · have hin := hx i k1
        obtain ⟨c1, c2, -⟩ := cdA_is hin
        have hlf := w.lf _ c1
        have hlt := w.lt _ c1
        rw [ix_nI (by omega), f.1 26 i (show ¬ cd 26 i = 18 by simp [cd]), hc i hin, ct.pt, zo_in, ct.p5, ct.p6, zo_in, zo_in, ix_nI (by omega), ct.lf _ c1, ct.lt _ c1]
        refine ⟨rfl, ct.kt, rfl, vin (by omega) (by decide), 576, ct.k5, vin (by omega) (by decide), nm_e ⟨vin (by omega) (by decide), rfl, ct.kt, rfl, vin (by omega) (by decide), 576, ct.k6, vin (by omega) (by decide), vin (by omega) (by decide), nm_e (nm_e (ih _ ⟨f.sI _ _ _ rfl, fun q hq => ?_⟩))⟩⟩
        rw [ix_nI (by omega), zI_row, h1 q hq, h1 _ (by omega)]
        apply bt_ext
        intro m hm
        rw [bt_moP]
        simp only [hm, decide_true, Bool.true_and]
        have key : hitB e.T sn an (fun j => btI x j && decide (j < i + 1)) q m = (hitB e.T sn an (fun j => btI x j && decide (j < i)) q m || (decide (q = e.T.lf (cdA e.T sn an i)) && decide (m = e.T.lt (cdA e.T sn an i)))) := by
          rw [Bool.eq_iff_iff]
          simp only [Bool.or_eq_true, Bool.and_eq_true, decide_eq_true_eq, hitB_iff]
          constructor
          · rintro ⟨j, g1, g2, g3, g4⟩
            simp only [Bool.and_eq_true, decide_eq_true_eq] at g2
            by_cases ej : j = i
            · subst ej; exact .inr ⟨g3.symm, g4.symm⟩
            · exact .inl ⟨j, g1, by simp only [Bool.and_eq_true, decide_eq_true_eq]; exact ⟨g2.1, by omega⟩, g3, g4⟩
          · rintro (⟨j, g1, g2, g3, g4⟩ | ⟨g1, g2⟩)
            · simp only [Bool.and_eq_true, decide_eq_true_eq] at g2
              exact ⟨j, g1, by simp only [Bool.and_eq_true, decide_eq_true_eq]; exact ⟨g2.1, by omega⟩, g3, g4⟩
            · exact ⟨i, hin, by simp only [Bool.and_eq_true, decide_eq_true_eq]; exact ⟨k1, by omega⟩, g1.symm, g2.symm⟩
        rw [key]
        by_cases eq : q = e.T.lf (cdA e.T sn an i)
        · rw [if_pos eq, bt_or, bt_one (by omega) hm, bt_moP]
          simp [hm, eq]
        · rw [if_neg eq, bt_moP]
          simp [hm, eq]
      · rw [h1 q hq]
        rw [Bool.not_eq_true] at k1
        refine congrFun (moP_congr fun j hj => ?_) q
        by_cases ej : j = i
        · subst ej; rw [k1]; simp
        · have : decide (j < i + 1) = decide (j < i) := by rw [Bool.eq_iff_iff]; simp; omega
          rw [this]
  · rintro n i s hi ⟨f, h0⟩ ih
    simp only [VL_X1_tries_2]
    simp only [nI1]
    refine br_t (by rw [n24]; exact nI_lt hi (by decide)) ⟨vin (by omega) (by decide), nm_e (nm_e (ih _ ⟨f.sI _ _ _ rfl, fun j hj => ?_⟩))⟩
    rw [ix_nI (by omega), zI_row]
    by_cases ej : j = i
    · rw [if_pos ej]
    · rw [if_neg ej]; exact h0 j (by omega)
/-! costs -/
def costV (T : Tw) (k : Nat) : Nat := 1 + (T.sl (T.lf k) + T.sl (T.lt k)) / 10
theorem nI_cost {a b : Nat} (ha : a ≤ 99) (hb : b ≤ 99) : 1 + (nI a + nI b) / 10 = nI (1 + (a + b) / 10) := by
  rw [nI_add, show (10 : Int32) = nI 10 from rfl, pk_div (by omega) (by decide) (by decide), n1, nI_add]
theorem c_costOf {T : Tw} {d : Ad} {σ : ZS} (ct : CT T d σ) {k : Nat} (hk : k < T.nl) {Ret : Int32 → ZS → Prop} (hr : Ret (nI (costV T k)) σ) : wp_X1_costOf σ (nI k) Ret := by
  have w := ct.wf
  have hns := w.ns; have hnl := w.nl
  have hlf := w.lf k hk; have hlt := w.lt k hk
  have l1 := w.sl _ hlf; have l2 := w.sl _ hlt
  unfold wp_X1_costOf
  rw [ct.pt, zo_in, ct.p1, ct.p5, zo_in, zo_in, ix_nI (by omega), ct.lf k hk]
  refine ⟨rfl, ct.kt, rfl, rfl, ct.kt, rfl, 576, ct.k5, vin (by omega) (by decide), ct.ls.kl, j_get ct.ls hlf ⟨rfl, (ct.ls.pi _ hlf).2.2, (ct.ls.pi _ hlf).2.2, ?_⟩⟩
  rw [ct.pt, zo_in, ct.p1, ct.p6, zo_in, zo_in, ct.lt k hk]
  refine ⟨rfl, ct.kt, rfl, rfl, ct.kt, rfl, 576, ct.k6, vin (by omega) (by decide), ct.ls.kl, j_get ct.ls hlt ⟨rfl, (ct.ls.pi _ hlt).2.2, (ct.ls.pi _ hlt).2.2, ?_⟩⟩
  rw [zo_in, zo_in, ct.sl _ hlf, ct.sl _ hlt, nI_cost l1.2 l2.2]
  exact hr
theorem m_costOf {T : Tw} {σ : ZS} (h : MT T σ) {k : Nat} (hk : k < T.nl) {Ret : Int32 → ZS → Prop} (hr : Ret (nI (costV T k)) σ) : wp_X4_costOf σ (nI k) Ret := by
  have w := h.wf
  have hns := w.ns; have hnl := w.nl
  have hlf := w.lf k hk; have hlt := w.lt k hk
  have l1 := w.sl _ hlf; have l2 := w.sl _ hlt
  unfold wp_X4_costOf
  rw [ix_nI (by omega), ix0, ix1, ix2, h.lf k hk, h.lt k hk, ix_nI (by omega), ix_nI (by omega), h.sl _ hlf, h.sl _ hlt, nI_cost l1.2 l2.2]
  exact ⟨vin (by omega) (by decide), vin (by omega) (by decide), vin (by omega) (by decide), vin (by omega) (by decide), hr⟩
/-- what a set counts -/
noncomputable def wtV (T : Tw) (sn an : Nat → Int32) (c : Bool) (j : Nat) : Nat := if c then costV T (cdA T sn an j) else 1
noncomputable def byV (T : Tw) (sn an : Nat → Int32) (c : Bool) (P : Nat → Bool) (n : Nat) : Nat := sumN (fun j => if P j then wtV T sn an c j else 0) n
/-- the search: the best set of those under k, and what it counts -/
def srch (op : Nat → Bool) (bv : Nat → Nat) : Nat → Option (Nat × Nat)
  | 0 => none
  | k + 1 => match srch op bv k with
    | none => if op k then some (k, bv k) else none
    | some (b, v) => if bv k < v ∧ op k = true then some (k, bv k) else some (b, v)
theorem srch_some {op : Nat → Bool} {bv : Nat → Nat} {k b v : Nat} (h : srch op bv k = some (b, v)) : b < k ∧ v = bv b := by
  induction k generalizing b v with
  | zero => cases h
  | succ k ih =>
    unfold srch at h
    cases hs : srch op bv k with
    | none =>
      simp only [hs] at h
      split at h
      · cases h; exact ⟨by omega, rfl⟩
      · cases h
    | some q =>
      obtain ⟨b', v'⟩ := q
      simp only [hs] at h
      split at h
      · cases h; exact ⟨by omega, rfl⟩
      · cases h
        have := ih hs
        exact ⟨by omega, this.2⟩
