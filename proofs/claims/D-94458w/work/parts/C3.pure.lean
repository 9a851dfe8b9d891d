/-! PURE HALF: a town: the model. -/
set_option maxRecDepth 100000
theorem m_copies {A B N M : Nat} (hN : N < 1000) (hM : M < 1000) (h44 : 44 < B) (hAB : A + N ≤ B) (hB : B < 1000) (kA : ∀ s, kK NS s A = (4, N)) (kB : ∀ s, kK NS s B = (4, N)) (pA : ∀ s k, k < N → kP NS s A k = some (.inl (A + 1 + k))) (pB : ∀ s k, k < N → kP NS s B k = some (.inl (B + 1 + k))) (rA : ∀ s k, k < N → kK NS s (A + 1 + k) = (0, M)) (rB : ∀ s k, k < N → kK NS s (B + 1 + k) = (0, M)) {σ : ZS} {Ret : ZS → Prop} (hr : ∀ s, Fr (fun c => B + 1 ≤ c ∧ c < B + 1 + N) σ s → (∀ k j, k < N → j < M → zI s (B + 1 + k) j = zI σ (A + 1 + k) j) → Ret s) : wp_X4_copies σ A B Ret := by
  unfold wp_X4_copies
  refine forL (S := ZS) (fun m s x => VL_X4_copies_2 Ret m s A B x) (fun k s => Fr (fun c => B + 1 ≤ c ∧ c < B + 1 + N) σ s ∧ ∀ r j, r < k → j < M → zI s (B + 1 + r) j = zI σ (A + 1 + r) j) N ?_ ?_ 0 σ (Nat.zero_le _) ⟨Fr.rfl, fun r j h => absurd h (Nat.not_lt_zero _)⟩
  · rintro m s ⟨f, g⟩
    simp only [VL_X4_copies_2]
    exact ⟨N, kA s, br_f (nI_nlt (Nat.le_refl _) (by omega)) (hr s f fun k j => g k j)⟩
  · rintro m k s hk ⟨f, g⟩ ih
    simp only [VL_X4_copies_2]
    refine ⟨N, kA s, br_t (nI_lt hk (by omega)) ?_⟩
    refine forL (S := ZS) (fun m' s x => VL_X4_copies_10 (VL_X4_copies_2 Ret m) Ret m' s A B (nI k) x) (fun j s => Fr (fun c => B + 1 ≤ c ∧ c < B + 1 + N) σ s ∧ (∀ r j, r < k → j < M → zI s (B + 1 + r) j = zI σ (A + 1 + r) j) ∧ ∀ j', j' < j → zI s (B + 1 + k) j' = zI σ (A + 1 + k) j') M ?_ ?_ 0 s (Nat.zero_le _) ⟨f, g, fun j h => absurd h (Nat.not_lt_zero _)⟩
    · rintro m' s2 ⟨f2, g2, e2⟩
      simp only [VL_X4_copies_10]
      simp only [nI1, ix_nI (show k < 2 ^ 31 by omega)]
      rw [pA s2 k hk, zo_in]
      refine ⟨N, kA s2, vin hk (by omega), rfl, M, rA s2 k hk, br_f (nI_nlt (Nat.le_refl _) (by omega)) (nm_e (ih s2 ⟨f2, fun r j h1 h2 => ?_⟩))⟩
      by_cases e : r = k
      · rw [e]; exact e2 j h2
      · exact g2 r j (by omega) h2
    · rintro m' j s2 hj ⟨f2, g2, e2⟩ ih2
      simp only [VL_X4_copies_10]
      simp only [nI1, ix_nI (show k < 2 ^ 31 by omega), ix_nI (show j < 2 ^ 31 by omega)]
      rw [pA s2 k hk, pB s2 k hk, zo_in, zo_in]
      refine ⟨N, kA s2, vin hk (by omega), rfl, M, rA s2 k hk, br_t (nI_lt hj (by omega)) ⟨N, kB s2, vin hk (by omega), rfl, N, kA s2, vin hk (by omega), rfl, M, rA s2 k hk, vin hj (by omega), M, rB s2 k hk, vin hj (by omega), nm_e (nm_e (ih2 _ ⟨f2.sI _ _ _ ?_, fun r j' h1 h2 => ?_, fun j' h1 => ?_⟩))⟩⟩
      · unfold cd; rw [if_neg (by omega), if_neg (by omega)]; omega
      · rw [zI_ne _ (.inl (by omega))]; exact g2 r j' h1 h2
      · rw [zI_row]
        by_cases e : j' = j
        · rw [if_pos e, e]
          refine f2.1 _ _ ?_
          unfold cd
          split
          · omega
          · split <;> omega
        · rw [if_neg e]; exact e2 j' (by omega)
noncomputable def fTc (T : Tw) (c : Nat) : Tw := Tw.mk T.nc T.cx T.cy T.ns T.sf T.st T.sl T.so T.bx T.nr T.rf T.rt T.rb c (fun k => nth (lp T) k / T.ns) (fun k => nth (lp T) k % T.ns)
noncomputable def fTp (T : Tw) (p : Nat) : Tw := fTc T (cnt (lp T) p)
theorem fTp_T (T : Tw) : fTp T (T.ns * T.ns) = fT T := rfl
theorem WF_fTc {T : Tw} (w : T.WF) {c : Nat} (hm : c ≤ cnt (lp T) (T.ns * T.ns)) : (fTc T c).WF ∧ c ≤ 576 := by
  have h := WF_fT w
  have h576 : cnt (lp T) (T.ns * T.ns) ≤ 576 := h.nl
  have hlf : ∀ k, k < cnt (lp T) (T.ns * T.ns) → nth (lp T) k / T.ns < T.ns := h.lf
  have hlt : ∀ k, k < cnt (lp T) (T.ns * T.ns) → nth (lp T) k % T.ns < T.ns := h.lt
  have hli : ∀ k j, k < cnt (lp T) (T.ns * T.ns) → j < cnt (lp T) (T.ns * T.ns) → nth (lp T) k / T.ns = nth (lp T) j / T.ns → nth (lp T) k % T.ns = nth (lp T) j % T.ns → k = j := h.li
  clear h
  generalize cnt (lp T) (T.ns * T.ns) = N at hm h576 hlf hlt hli
  refine ⟨⟨w.nc, w.ns, w.nr, ?_, w.sf, w.st, w.ft, w.sl, w.rf, w.rt, w.rn, w.rb, ?_, ?_, ?_, w.bx, w.bn⟩, Nat.le_trans hm h576⟩
  · show c ≤ 576; exact Nat.le_trans hm h576
  · show ∀ k, k < c → nth (lp T) k / T.ns < T.ns
    exact fun k hk => hlf k (Nat.lt_of_lt_of_le hk hm)
  · show ∀ k, k < c → nth (lp T) k % T.ns < T.ns
    exact fun k hk => hlt k (Nat.lt_of_lt_of_le hk hm)
  · show ∀ k j, k < c → j < c → nth (lp T) k / T.ns = nth (lp T) j / T.ns → nth (lp T) k % T.ns = nth (lp T) j % T.ns → k = j
    exact fun k j hk hj h1 h2 => hli k j (Nat.lt_of_lt_of_le hk hm) (Nat.lt_of_lt_of_le hj hm) h1 h2
theorem MT_next {T : Tw} {c : Nat} {s : ZS} (h : MT (fTc T c) s) (w : T.WF) (hw : (fTc T (c + 1)).WF) (h576 : c + 1 ≤ 576) {p : Nat} (en : nth (lp T) c = p) : MT (fTc T (c + 1)) (sI (sI (sI s (569 + 1 + c) 0 (nI (p / T.ns))) (569 + 1 + c) 1 (nI (p % T.ns))) 44 27 (nI (c + 1))) := by
  have hnc := w.nc; have hns := w.ns; have hnr := w.nr
  have hlf : ∀ k, k < c → zI s (569 + 1 + k) 0 = nI (nth (lp T) k / T.ns) := h.lf
  have hlt : ∀ k, k < c → zI s (569 + 1 + k) 1 = nI (nth (lp T) k % T.ns) := h.lt
  have h0 : zI s 47 0 = nI T.nc := h.m0
  have h1 : zI s 47 1 = nI T.ns := h.m1
  have h2 : zI s 47 2 = T.bx := h.m2
  have h3 : zI s 47 3 = nI T.nr := h.m3
  have h4 : ∀ i, i < T.nc → zI s (65 + 1 + i) 0 = T.cx i := h.cx
  have h5 : ∀ i, i < T.nc → zI s (65 + 1 + i) 1 = T.cy i := h.cy
  have h6 : ∀ i, i < T.ns → zI s (107 + 1 + i) 0 = nI (T.sf i) := h.sf
  have h7 : ∀ i, i < T.ns → zI s (107 + 1 + i) 1 = nI (T.st i) := h.st
  have h8 : ∀ i, i < T.ns → zI s (107 + 1 + i) 2 = nI (T.sl i) := h.sl
  have h9 : ∀ i, i < T.ns → zI s (107 + 1 + i) 3 = b2i (T.so i) := h.so
  have h10 : ∀ i, i < T.nr → zI s (145 + 1 + i) 0 = nI (T.rf i) := h.rf
  have h11 : ∀ i, i < T.nr → zI s (145 + 1 + i) 1 = nI (T.rt i) := h.rt
  have h12 : ∀ i, i < T.nr → zI s (145 + 1 + i) 2 = nI (T.rb i) := h.rb
  clear h
  have q : ∀ a i, a < 570 → a ≠ 44 → zI (sI (sI (sI s (569 + 1 + c) 0 (nI (p / T.ns))) (569 + 1 + c) 1 (nI (p % T.ns))) 44 27 (nI (c + 1))) a i = zI s a i := fun a i ha ha2 => by
    rw [zI_ne _ (.inl ha2), zI_ne _ (.inl (by omega)), zI_ne _ (.inl (by omega))]
  refine ⟨hw, ?_, ?_, ?_, ?_, ?_, ?_, ?_, ?_, ?_, ?_, ?_, ?_, ?_, ?_, ?_, ?_⟩
  · show zI _ 47 0 = nI T.nc; exact (q _ _ (by decide) (by decide)).trans h0
  · show zI _ 47 1 = nI T.ns; exact (q _ _ (by decide) (by decide)).trans h1
  · show zI _ 47 2 = T.bx; exact (q _ _ (by decide) (by decide)).trans h2
  · show zI _ 47 3 = nI T.nr; exact (q _ _ (by decide) (by decide)).trans h3
  · show ∀ i, i < T.nc → zI _ (65 + 1 + i) 0 = T.cx i
    exact fun i hi => (q _ _ (by omega) (by omega)).trans (h4 i hi)
  · show ∀ i, i < T.nc → zI _ (65 + 1 + i) 1 = T.cy i
    exact fun i hi => (q _ _ (by omega) (by omega)).trans (h5 i hi)
  · show ∀ i, i < T.ns → zI _ (107 + 1 + i) 0 = nI (T.sf i)
    exact fun i hi => (q _ _ (by omega) (by omega)).trans (h6 i hi)
  · show ∀ i, i < T.ns → zI _ (107 + 1 + i) 1 = nI (T.st i)
    exact fun i hi => (q _ _ (by omega) (by omega)).trans (h7 i hi)
  · show ∀ i, i < T.ns → zI _ (107 + 1 + i) 2 = nI (T.sl i)
    exact fun i hi => (q _ _ (by omega) (by omega)).trans (h8 i hi)
  · show ∀ i, i < T.ns → zI _ (107 + 1 + i) 3 = b2i (T.so i)
    exact fun i hi => (q _ _ (by omega) (by omega)).trans (h9 i hi)
  · show ∀ i, i < T.nr → zI _ (145 + 1 + i) 0 = nI (T.rf i)
    exact fun i hi => (q _ _ (by omega) (by omega)).trans (h10 i hi)
  · show ∀ i, i < T.nr → zI _ (145 + 1 + i) 1 = nI (T.rt i)
    exact fun i hi => (q _ _ (by omega) (by omega)).trans (h11 i hi)
  · show ∀ i, i < T.nr → zI _ (145 + 1 + i) 2 = nI (T.rb i)
    exact fun i hi => (q _ _ (by omega) (by omega)).trans (h12 i hi)
  · rw [zI_self]; rfl
  · show ∀ k, k < c + 1 → zI _ (569 + 1 + k) 0 = nI (nth (lp T) k / T.ns)
    intro k hk
    rw [zI_ne _ (.inl (by omega)), zI_ne _ (.inr (by decide))]
    by_cases e : k = c
    · rw [e, zI_self, en]
    · rw [zI_ne _ (.inl (by omega))]; exact hlf k (by omega)
  · show ∀ k, k < c + 1 → zI _ (569 + 1 + k) 1 = nI (nth (lp T) k % T.ns)
    intro k hk
    rw [zI_ne _ (.inl (by omega))]
    by_cases e : k = c
    · rw [e, zI_self, en]
    · rw [zI_ne _ (.inl (by omega)), zI_ne _ (.inl (by omega))]; exact hlt k (by omega)
def SLf (c : Nat) : Prop := c = 1000027 ∨ (570 ≤ c ∧ c < 1146)
theorem m_findLefts {T : Tw} (w : T.WF) {σ : ZS} (h : MT (fTp T 0) (sI σ 44 27 0)) {Ret : ZS → Prop} (hr : ∀ s, Fr SLf σ s → MT (fT T) s → Ret s) : wp_X4_findLefts σ Ret := by
  have hns := w.ns
  unfold wp_X4_findLefts
  refine nm_e ?_
  have f0 : Fr SLf σ (sI σ 44 27 0) := Fr.rfl.sI 44 27 0 (.inl rfl)
  generalize sI σ 44 27 0 = σ1 at h f0
  have m1 : ∀ {p : Nat} {s : ZS}, MT (fTp T p) s → zI s 47 (ix 1) = nI T.ns := fun h => by rw [ix1]; exact h.m1
  refine forL (S := ZS) (fun m s x => VL_X4_findLefts_7 Ret m s x) (fun s1 s => Fr SLf σ s ∧ MT (fTp T (T.ns * s1)) s) T.ns ?_ ?_ 0 σ1 (Nat.zero_le _) ⟨f0, h⟩
  · rintro m s ⟨f, g⟩
    simp only [VL_X4_findLefts_7]
    rw [m1 g]
    exact br_f (nI_nlt (Nat.le_refl _) (by omega)) (hr s f g)
  · rintro m s1 s hs1 ⟨f, g⟩ ih
    simp only [VL_X4_findLefts_7]
    rw [m1 g]
    refine br_t (nI_lt hs1 (by omega)) ?_
    have hrow : T.ns * s1 + T.ns ≤ T.ns * T.ns := by rw [← Nat.mul_succ]; exact Nat.mul_le_mul_left _ hs1
    refine forL (S := ZS) (fun m' s x => VL_X4_findLefts_19 (VL_X4_findLefts_7 Ret m) Ret m' s (nI s1) x) (fun t1 s => Fr SLf σ s ∧ MT (fTp T (T.ns * s1 + t1)) s) T.ns ?_ ?_ 0 s (Nat.zero_le _) ⟨f, g⟩
    · rintro m' s2 ⟨f2, g2⟩
      simp only [VL_X4_findLefts_19]
      simp only [nI1]
      rw [m1 g2]
      exact br_f (nI_nlt (Nat.le_refl _) (by omega)) (nm_e (ih s2 ⟨f2, by rw [Nat.mul_succ]; exact g2⟩))
    · rintro m' t1 s2 ht1 ⟨f2, g2⟩ ih2
      simp only [VL_X4_findLefts_19]
      rw [m1 g2]
      refine br_t (nI_lt ht1 (by omega)) ?_
      have hp : T.ns * s1 + t1 < T.ns * T.ns := by omega
      have hwf := WF_fTc w (cnt_mon (p := lp T) (show T.ns * s1 + t1 + 1 ≤ T.ns * T.ns from hp))
      have h576 := hwf.2
      have hstep : cnt (lp T) (T.ns * s1 + t1 + 1) = cnt (lp T) (T.ns * s1 + t1) + (if lfK T s1 t1 4 then 1 else 0) := by
        rw [← lp_at ht1]; rfl
      refine forL1 (fun m3 s v x => VL_X4_findLefts_34 (VL_X4_findLefts_7 Ret m) (VL_X4_findLefts_19 (VL_X4_findLefts_7 Ret m) Ret m') Ret m3 s (nI s1) (nI t1) v x) (fun k s v => s = s2 ∧ v = b2i (lfK T s1 t1 k)) 4 ?_ ?_ 0 s2 0 (Nat.zero_le _) ⟨rfl, rfl⟩
      · rintro m3 s v ⟨rfl, rfl⟩
        simp only [VL_X4_findLefts_34]
        simp only [nI1]
        refine br_f (by decide) (br0 (fun k0 => nm_e (ih2 s ⟨f2, ?_⟩)) fun k1 => ?_)
        · rw [k0] at hstep
          have hstep : cnt (lp T) (T.ns * s1 + t1 + 1) = cnt (lp T) (T.ns * s1 + t1) := hstep
          have e : fTp T (T.ns * s1 + (t1 + 1)) = fTp T (T.ns * s1 + t1) := by
            rw [← Nat.add_assoc]; unfold fTp; rw [hstep]
          rw [e]; exact g2
        have hl : lp T (T.ns * s1 + t1) = true := by rw [lp_at ht1]; exact k1
        rw [k1] at hstep
        have hcs : cnt (lp T) (T.ns * s1 + t1 + 1) = cnt (lp T) (T.ns * s1 + t1) + 1 := hstep
        have hlt : cnt (lp T) (T.ns * s1 + t1) < 576 := by omega
        have eq1 : fTp T (T.ns * s1 + t1 + 1) = fTc T (cnt (lp T) (T.ns * s1 + t1) + 1) := by unfold fTp; rw [hcs]
        have nx := MT_next (c := cnt (lp T) (T.ns * s1 + t1)) g2 w (by rw [← hcs]; exact hwf.1) hlt (nth_eq hl)
        rw [(lp_dm ht1).1, (lp_dm ht1).2, ← eq1] at nx
        have enl : zI s 44 27 = nI (cnt (lp T) (T.ns * s1 + t1)) := g2.nl
        clear eq1 hcs hstep hwf h576
        generalize cnt (lp T) (T.ns * s1 + t1) = c at hlt nx enl
        have e1 : zI (sI s (569 + 1 + c) 0 (nI s1)) 44 27 = nI c := by rw [zI_ne _ (.inl (by omega))]; exact enl
        rw [enl, ix_nI (by omega), ix0]
        refine ⟨vin (by omega) (by decide), nm_e ?_⟩
        rw [e1, ix_nI (by omega), ix1]
        refine ⟨vin (by omega) (by decide), nm_e (nm_e (nm_e ?_))⟩
        have e2 : zI (sI (sI s (569 + 1 + c) 0 (nI s1)) (569 + 1 + c) 1 (nI t1)) 44 27 = nI c := by rw [zI_ne _ (.inl (by omega))]; exact e1
        rw [e2, nI1]
        have cr : ∀ i, SLf (cd (569 + 1 + c) i) := fun i => by unfold SLf cd; rw [if_neg (by omega), if_neg (by omega)]; omega
        exact ih2 _ ⟨((f2.sI _ _ _ (cr _)).sI _ _ _ (cr _)).sI 44 27 _ (.inl rfl), nx⟩
      · rintro m3 k s v hk ⟨rfl, rfl⟩ ih3
        simp only [VL_X4_findLefts_34]
        simp only [nI1]
        rw [nI_2mul, nI_2mul, k2rem k hk, nI_div2 (by omega), nI_add, nI_add]
        refine br_t (nI_lt (b := 4) hk (by decide)) (br0 (fun k0 => m_isArcN g2 (by omega) (br0 (fun k1 => nm_e (ih3 s _ ⟨rfl, ?_⟩)) fun k1 => m_isArcN g2 (by omega) (br0 (fun k2 => nm_e (ih3 s _ ⟨rfl, ?_⟩)) fun k2 => m_turn g2 (Tw.arc_lt k1) (Tw.arc_lt k2) ⟨fun k3 => nm_e (ih3 s _ ⟨rfl, ?_⟩), fun k3 => nm_e (ih3 s _ ⟨rfl, ?_⟩)⟩))) fun k0 => nm_e (ih3 s _ ⟨rfl, ?_⟩))
        · have k1 : T.isArc (2 * s1 + k / 2) = false := k1
          rw [lfK, k0, k1]; rfl
        · have k1 : T.isArc (2 * s1 + k / 2) = true := k1
          have k2 : T.isArc (2 * t1 + k % 2) = false := k2
          rw [lfK, k0, k1, k2]; rfl
        · have k1 : T.isArc (2 * s1 + k / 2) = true := k1
          have k2 : T.isArc (2 * t1 + k % 2) = true := k2
          have k3 : T.turn (2 * s1 + k / 2) (2 * t1 + k % 2) = 3 := k3
          rw [lfK, k0, k1, k2, k3]; rfl
        · have k1 : T.isArc (2 * s1 + k / 2) = true := k1
          have k2 : T.isArc (2 * t1 + k % 2) = true := k2
          have k3 : ¬ T.turn (2 * s1 + k / 2) (2 * t1 + k % 2) = 3 := k3
          rw [lfK, k0, k1, k2]; simp [k3, b2i]
        · rw [lfK, k0]; rfl
