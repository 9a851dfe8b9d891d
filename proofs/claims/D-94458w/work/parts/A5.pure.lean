/-! PURE HALF: lists grow; what was read is laid. -/
set_option maxRecDepth 100000
theorem half_sh : ∀ m, m < 64 → (nI m >>> ((1 : Int32) &&& 31)) = nI (m / 2) := by
  have : ∀ a : Fin 64, (nI a.val >>> ((1 : Int32) &&& 31)) = nI (a.val / 2) := by decide +kernel
  exact fun m hm => this ⟨m, hm⟩
theorem c_add {σ : ZS} {l e m ki q : Nat} {ad : Nat → Nat} (h : LS2 σ l e m ki ad) (hm : m < 24) (hle : l ≠ e) (hki : ki = 13 ∨ ki = 14 ∨ ki = 15) (fr : ∀ a, zt σ ≤ a → zK σ a = (1000, 0)) (hz : 1239 ≤ zt σ) (hq : 1239 ≤ q) (kq : ∃ r, zK σ q = (ki, r)) (rm : zt σ + 1 ≤ 160000 ∧ zn σ + 64 ≤ 8000000) {Ret : ZS → Prop} (hr : ∀ σ' e', (e' = e ∨ e' = zt σ) → Gw (fun c => c = l ∨ c = e) 1 64 σ σ' → LS2 σ' l e' (m + 1) ki (up ad m q) → Ret σ') : wp_J2_add σ l q (fun _ σ5 => Ret σ5) := by
  obtain ⟨h1, h2, ⟨m1, h3⟩, h4, h5, ⟨m2, h6, h7, h8, h9⟩, h10⟩ := h
  obtain ⟨r, kq⟩ := kq
  have lt : ∀ a, (zK σ a).1 ≠ 1000 → a < zt σ := fun a ha => by
    rcases Nat.lt_or_ge a (zt σ) with k | k
    · exact k
    · rw [fr a k] at ha; exact absurd rfl ha
  have ll := lt l (by rw [h3]; simp)
  have le := lt e (by rw [h6]; simp)
  have lq := lt q (by rw [kq]; show ki ≠ 1000; omega)
  have cdl : ∀ i, cd l i = l := fun i => by unfold cd; rw [if_neg (by omega), if_neg (by omega)]
  have cde : ∀ i, cd e i = e := fun i => by unfold cd; rw [if_neg (by omega), if_neg (by omega)]
  have kl : ∀ s : ZS, s.2.2.2.1 = σ.2.2.2.1 → ∃ r, kK NS s l = (16, r) := fun s hs => ⟨m1, by rw [kK_dyn h1]; unfold zK; rw [hs]; exact h3⟩
  unfold wp_J2_add
  refine ⟨kl _ rfl, kl _ rfl, nm_e ⟨kl _ rfl, ?_⟩⟩
  generalize hs0 : sI σ l 0 (zI σ l 0 + 1) = s0
  have s0K : s0.2.2.2 = σ.2.2.2 := by rw [← hs0]; rfl
  have s0P : ∀ a i, zP s0 a i = zP σ a i := fun a i => by rw [← hs0]; rfl
  have s0I : ∀ a i, a ≠ l ∨ i ≠ 0 → zI s0 a i = zI σ a i := fun a i h => by rw [← hs0]; exact zI_ne _ h
  have s0J : ∀ a i, zJ s0 a i = zJ σ a i := fun a i => by rw [← hs0]; rfl
  have zK0 : ∀ a, zK s0 a = zK σ a := fun a => by unfold zK; rw [s0K]
  have zt0 : zt s0 = zt σ := by unfold zt; rw [s0K]
  have zn0 : zn s0 = zn σ := by unfold zn; rw [s0K]
  rw [kP_dyn h1, s0P, h5, zo_in, s0I l 2 (.inr (by decide)), h4]
  have kl0 : ∃ r, kK NS s0 l = (16, r) := ⟨m1, by rw [kK_dyn h1, zK0]; exact h3⟩
  refine ⟨rfl, kl0, kl0, ?_⟩
  unfold wp_J2_add_2
  have ke0 : kK NS s0 e = (6, m2) := by rw [kK_dyn h2, zK0]; exact h6
  -- the last part
  have last : ∀ s e' mm, zK s e' = (6, mm) → m < mm → mm ≤ 64 → 1239 ≤ e' → e' ≠ l → (e' = e ∨ e' = zt σ) → zK s q = (ki, r) → (∃ x, zK s l = (16, x)) → (∀ i, i < m → zP s e' i = some (.inl (ad i))) → zP s l 1 = some (.inl e') → Gw (fun c => c = l ∨ c = e) 1 64 σ s → V_J2_add_2_11 (fun σ12 => Ret σ12) s l q e' (nI m) := by
    intro s e' mm a1 a2 a3 a4 a5 a6 a7 a8 a9 a10 g
    unfold V_J2_add_2_11
    refine ⟨mm, by rw [kK_dyn a4]; exact a1, vin a2 (by omega), ?_, a4, nm_e ⟨?_, nm_e ?_⟩⟩
    · unfold isEl; rw [kK_dyn hq, a7]; exact hki
    · obtain ⟨x, a8⟩ := a8
      exact ⟨x, by rw [kK_dyn h1]; exact a8⟩
    rw [nI1, ix_nI (by omega)]
    have hal : ∀ i, 1239 ≤ ad i ∧ i < m → (zK σ (ad i)).1 = ki → ad i < zt σ := fun i _ hk => lt _ (by rw [hk]; omega)
    refine hr _ e' a6 ?_ ⟨h1, a4, ?_, zI_self _ _ _ _, ?_, ⟨mm, ?_, by omega, by omega, a3⟩, fun i hi => ?_⟩
    · refine ⟨fun a i ha hn => ?_, fun a i ha hn => g.j a i ha hn, fun a i ha hn => ?_, fun a ha => g.kk a ha, g.t1, g.t2, g.n, g.kf⟩
      · rw [zI_ne _ (.inl (by rintro rfl; exact hn (.inl (cdl _))))]; exact g.i a i ha hn
      · show zP (sP s e' m _) a i = _
        rw [zP_ne _ (.inl (by
          rintro rfl
          rcases a6 with a6 | a6
          · exact hn (.inr (by rw [a6]; exact cde _))
          · omega))]
        exact g.p a i ha hn
    · obtain ⟨x, a8⟩ := a8; exact ⟨x, a8⟩
    · show zP (sP s e' m _) l 1 = _; rw [zP_ne _ (.inl (Ne.symm a5))]; exact a10
    · exact a1
    · by_cases ei : i = m
      · subst ei
        rw [up_self]
        exact ⟨by show zP (sP s e' i _) e' i = _; rw [zP_self], hq, r, a7⟩
      · obtain ⟨b1, b2, x, b3⟩ := h10 i (by omega)
        rw [up_ne _ _ ei]
        refine ⟨by show zP (sP s e' m _) e' i = _; rw [zP_ne _ (.inr ei)]; exact a9 i (by omega), b2, x, ?_⟩
        have : ad i < zt σ := lt _ (by rw [b3]; show ki ≠ 1000; omega)
        exact (g.kk _ this).trans b3
  have g0 : Gw (fun c => c = l ∨ c = e) 0 0 σ s0 := by rw [← hs0]; exact (Fr.rfl.sI l 0 _ (.inl (cdl _))).gw
  refine ⟨m2, ke0, ?_⟩
  rw [show Int32.ofNat m2 = nI m2 from rfl, nI_eq (by omega) (by omega)]
  refine ⟨fun ef => ⟨kl0, ?_⟩, fun ef => ?_⟩
  · -- it grows
    subst ef
    unfold wp_J2_grow wp_J2_grow_2
    refine ⟨kl0, kl0, kl0, ?_⟩
    rw [kP_dyn h1, s0P, h5, zo_in, s0I l 2 (.inr (by decide)), h4, nI1]
    refine ⟨rfl, m, ke0, nm_e ?_⟩
    rw [show Int32.ofNat m = nI m from rfl]
    refine br_t (by rw [n0]; exact nI_lt (by omega) (by omega)) ?_
    unfold V_J2_grow_2_20 wp_J11_newLength
    rw [half_sh m (by omega), pk_sub (by omega), show m + 1 - m = 1 by omega]
    obtain ⟨mm, hmm, hmb, hml⟩ : ∃ mm, nI m + (if nI 1 < nI (m / 2) then nI (m / 2) else nI 1) = nI mm ∧ m < mm ∧ mm ≤ 64 := by
      by_cases c : 1 < m / 2
      · rw [if_pos (nI_lt c (by omega)), nI_add]; exact ⟨m + m / 2, rfl, by omega, by omega⟩
      · rw [if_neg (nI_nlt (by omega) (by omega)), nI_add]; exact ⟨m + 1, rfl, by omega, by omega⟩
    rw [hmm]
    refine nm_e (br_t (by rw [n0]; exact nI_lt (by omega) (by omega)) (br_f (nI_nlt (a := 2147483639) (by omega) (by decide)) ⟨kl0, ?_⟩))
    rw [kP_dyn h1, s0P, h5, zo_in]
    unfold wp_J13_copyOf_2 wp_J13_copyOf_3
    rw [ix_nI (by omega), zt0, zn0]
    have zK1 : ∀ a, a < zt σ → zK (sA s0 (6, mm) mm) a = zK σ a := fun a ha => by rw [qK_sA, if_neg (by rw [zt0]; omega), zK0]
    have kz : zK (sA s0 (6, mm) mm) (zt σ) = (6, mm) := by rw [qK_sA, zt0, if_pos rfl]
    have ke1 : kK NS (sA s0 (6, mm) mm) e = (6, m) := by rw [kK_dyn h2, zK1 e le]; exact h6
    refine ⟨rfl, m, ke0, nI_pos (by omega), ⟨hz, by show _ ≤ 160000; omega, by show _ ≤ 8000000; omega⟩, nm_e ?_⟩
    unfold V_J13_copyOf_3_24
    have emin : (if nI mm < Int32.ofNat m then nI mm else Int32.ofNat m) = nI m := by
      rw [show Int32.ofNat m = nI m from rfl, if_neg (nI_nlt (by omega) (by omega))]
    refine ⟨m, ke1, m, ke1, mm, by rw [kK_dyn hz]; exact kz, ?_⟩
    rw [emin, ix_nI (by omega), ix0]
    have pe : ∀ i, i < m → kP NS (sA s0 (6, mm) mm) e i = some (.inl (ad i)) := fun i hi => by
      rw [kP_dyn h2, qP_sA, if_neg (by rw [zt0]; omega), s0P]; exact (h10 i hi).1
    refine ⟨⟨by decide, by decide, nI_pos (by omega), by omega, by omega⟩, hz, fun i hi => ⟨ad i, by rw [Nat.zero_add]; exact pe i hi, ?_⟩, nm_e ?_⟩
    · obtain ⟨b1, b2, x, b3⟩ := h10 i hi
      have : ad i < zt σ := lt _ (by rw [b3]; show ki ≠ 1000; omega)
      unfold isEl; rw [kK_dyn b2, zK1 _ this, b3]; exact hki
    generalize hs2 : cP NS (sA s0 (6, mm) mm) e (zt σ) 0 0 m = s2
    have s2K : ∀ a, zK s2 a = zK (sA s0 (6, mm) mm) a := fun a => by rw [← hs2]; rfl
    have s2P : ∀ a i, a ≠ zt σ → zP s2 a i = zP (sA s0 (6, mm) mm) a i := fun a i ha => by
      rw [← hs2]; show (if a = zt σ then _ else _) = _; rw [if_neg ha]; rfl
    have s2Z : ∀ i, i < m → zP s2 (zt σ) i = some (.inl (ad i)) := fun i hi => by
      rw [← hs2]; show (if zt σ = zt σ then va_cpy _ _ 0 0 m i else _) = _
      rw [if_pos rfl, pk_cpy_in (by omega) (by omega), show 0 + (i - 0) = i by omega]; exact pe i hi
    have kl2 : ∃ r, kK NS s2 l = (16, r) := ⟨m1, by rw [kK_dyn h1, s2K, zK1 l ll]; exact h3⟩
    have zt2 : zt s2 = zt σ + 1 := by rw [← hs2]; show zt s0 + 1 = _; rw [zt0]
    have zn2 : zn s2 = zn σ + mm := by rw [← hs2]; show zn s0 + mm = _; rw [zn0]
    dsimp only
    rw [zo_in]
    refine ⟨rfl, kl2, h1, nm_e ⟨rfl, ?_⟩⟩
    refine last _ (zt σ) mm (by show zK s2 (zt σ) = _; rw [s2K]; exact kz) hmb hml hz (by omega) (.inr rfl) ?_ ⟨m1, ?_⟩ (fun i hi => ?_) ?_ ?_
    · show zK s2 q = _; rw [s2K, zK1 q lq]; exact kq
    · show zK s2 l = _; rw [s2K, zK1 l ll]; exact h3
    · show zP (sP s2 l 1 _) (zt σ) i = _; rw [zP_ne _ (.inl (by omega))]; exact s2Z i hi
    · show zP (sP s2 l 1 _) l 1 = _; rw [zP_self]
    · refine ⟨fun a i ha hn => ?_, fun a i ha hn => ?_, fun a i ha hn => ?_, fun a ha => ?_, ?_, ?_, ?_, fun kf a ha => ?_⟩
      · have : zI (sP s2 l 1 (some (.inl (zt σ)))) a i = zI (sA s0 (6, mm) mm) a i := by rw [← hs2]; rfl
        rw [this, qI_sA, if_neg (by rw [zt0]; omega)]; exact g0.i a i ha hn
      · have : zJ (sP s2 l 1 (some (.inl (zt σ)))) a i = zJ (sA s0 (6, mm) mm) a i := by rw [← hs2]; rfl
        rw [this, qJ_sA, if_neg (by rw [zt0]; omega)]; exact g0.j a i ha hn
      · show zP (sP s2 l 1 _) a i = _
        rw [zP_ne _ (.inl (by rintro rfl; exact hn (.inl (cdl _)))), s2P a i (by omega), qP_sA, if_neg (by rw [zt0]; omega), s0P]
      · show zK s2 a = _; rw [s2K, zK1 a ha]
      · show zt σ ≤ zt s2; omega
      · show zt s2 ≤ _; omega
      · show zn s2 ≤ _; omega
      · have ha : zt s2 ≤ a := ha
        show zK s2 a = _
        rw [s2K, qK_sA, if_neg (by rw [zt0]; omega), zK0]; exact kf a (by omega)
  · exact last s0 e m2 (by rw [zK0]; exact h6) (by omega) h9 h2 (Ne.symm hle) (.inl rfl) (by rw [zK0]; exact kq) ⟨m1, by rw [zK0]; exact h3⟩ (fun i hi => by rw [s0P]; exact (h10 i hi).1) (by rw [s0P]; exact h5) (g0.mono (fun _ k => k) (by omega) (by omega))
