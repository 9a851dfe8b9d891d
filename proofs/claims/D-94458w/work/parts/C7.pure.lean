/-! PURE HALF: image, restore: the class. -/
set_option maxRecDepth 100000
theorem kP17 (σ : ZS) {i : Nat} (hi : i < 3) : kP NS σ 17 i = zP σ 17 i := by
  have : ∀ k : Fin 3, Pst 17 k.1 = none := by decide
  unfold kP; rw [if_pos (show 17 < NS by decide), this ⟨i, hi⟩]
theorem Bk.fr {σ σ' : ZS} {q : Nat} {S : Nat → Prop} (h : Bk σ q) (f : Fr S σ σ') : Bk σ' q := by
  have e : σ'.2.2 = σ.2.2 := f.2.2
  unfold Bk zt zK zP at h ⊢
  rw [e]; exact h
theorem IMC.bk {ni : Nat} {v : Nat → IV} {σ : ZS} (h : IMC ni v σ) {i q : Nat} (hi : i < 3) (hp : zP σ 17 i = some (.inl q)) : Bk σ q := by
  rcases h.2.2.1 i hi with k | ⟨q', k1, k2⟩
  · rw [k] at hp; cases hp
  · rw [hp] at k1; injection k1 with e; injection e with e; rw [e]; exact k2
theorem c_im38 {ni : Nat} {v : Nat → IV} {s : ZS} (h : IMC ni v s) (hn : ni < 3) {q : Nat} (hp : zP s 17 ni = some (.inl q)) (hzz : zt s ≤ 190000) {w : IV} (hw : HC s 12 w) {Ret : Int32 → ZS → Prop} (hr : ∀ σ', Fr (fun c => c = 2000004 ∨ (q ≤ c ∧ c < q + 4)) s σ' → IMC (ni + 1) (up v ni w) σ' → Ret (nI (ni + 1)) σ') : V_X1_image_38 Ret s := by
  have hb := h.bk hn hp
  have hq1 := hb.1
  have hq2 := hb.2.1
  have h04 := h.2.1
  unfold V_X1_image_38
  rw [h04, ix_nI (by omega), kP17 s hn, hp, zo_in]
  refine ⟨vin hn (by decide), rfl, ⟨0, by rw [kK_dyn hq1]; exact hb.2.2.1⟩, c_become hb.st (St12 s) (.inr (by omega)) (.inr hq1) fun σ5 f5 a1 a2 a3 a4 a5 => nm_e ?_⟩
  have e04 : zI σ5 0 4 = nI ni := by rw [f5.1 0 4 (by unfold cd; simp; omega)]; exact h04
  rw [e04, nI1, zI_self]
  have hv : HC σ5 q w := hw.cp a1 a2 a3 a4 a5
  have f8 : Fr (fun c => c = 2000004 ∨ (q ≤ c ∧ c < q + 4)) s (sI σ5 0 4 (nI (ni + 1))) := (f5.mono fun c hc => .inr hc).sI 0 4 _ (.inl rfl)
  have hv8 : HC (sI σ5 0 4 (nI (ni + 1))) q w := hv.eq fun k i hk => zI_ne _ (.inl (by omega))
  refine hr _ f8 ⟨by omega, zI_self _ _ _ _, fun i hi => ?_, fun i j r hi hj => ?_, fun i hi => ?_⟩
  · rw [f8.ep]
    rcases h.2.2.1 i hi with k | ⟨r, k1, k2⟩
    · exact .inl k
    · exact .inr ⟨r, k1, k2.fr f8⟩
  · rw [f8.ep, f8.ep]; exact h.2.2.2.1 i j r hi hj
  · by_cases e : i = ni
    · rw [e, up_self]; exact ⟨q, by rw [f8.ep]; exact hp, hv8⟩
    · rw [up_ne _ _ e]
      obtain ⟨r, k1, k2⟩ := h.2.2.2.2 i (by omega)
      have hbr := h.bk (by omega) k1
      have hne : r ≠ q := by rintro rfl; exact e (h.2.2.2.1 i ni r (by omega) hn k1 hp)
      have hd := hbr.dis hb hne
      have hr1 := hbr.1
      exact ⟨r, by rw [f8.ep]; exact k1, k2.eq fun k j hk => f8.1 _ _ (by
        unfold cd; rw [if_neg (by omega), if_neg (by omega)]; rintro (x | x)
        · have := hbr.2.1; omega
        · omega)⟩
def SI (σ : ZS) (c : Nat) : Prop := c = 17 ∨ c = 2000004 ∨ ∃ q, Bk σ q ∧ q ≤ c ∧ c < q + 4
theorem C_image {ni : Nat} {v : Nat → IV} {σ : ZS} (h : IMC ni v σ) {w : IV} (hw : HC σ 12 w) (hz : NS ≤ zt σ) (rm : zt σ + 10 ≤ 160000 ∧ zn σ + 9700 ≤ 8000000) {Ret : Int32 → ZS → Prop} (h1 : ni = 3 → Ret (-1) σ) (h2 : ni < 3 → ∀ σ', Gw (SI σ) 4 9700 σ σ' → IMC (ni + 1) (up v ni w) σ' → Ret (nI (ni + 1)) σ') : wp_X1_image σ Ret := by
  have hz : 1239 ≤ zt σ := hz
  have h04 := h.2.1
  have h3 := h.1
  unfold wp_X1_image
  rw [h04, show (3 : Int32) = nI 3 from rfl, nI_eq (by omega) (by decide), ix_nI (by omega)]
  refine ⟨fun k => h1 k, fun k => ?_⟩
  have hn : ni < 3 := by omega
  rw [kP17 σ hn]
  refine ⟨vin hn (by decide), fun k0 => ?_, fun k0 => ?_⟩
  · -- a new one
    refine ⟨⟨hz, by show _ ≤ 160000; omega, by show _ ≤ 8000000; omega⟩, nm_e ?_⟩
    have t1 : zt (sA σ (9, 0) 5) = zt σ + 1 := rfl
    have m1 : zn (sA σ (9, 0) 5) = zn σ + 5 := rfl
    have k1 : ∀ b, zK (sA σ (9, 0) 5) b = if b = zt σ then (9, 0) else zK σ b := fun b => rfl
    have i1 : ∀ b i, zI (sA σ (9, 0) 5) b i = if b = zt σ then 0 else zI σ b i := fun b i => rfl
    have j1 : ∀ b i, zJ (sA σ (9, 0) 5) b i = if b = zt σ then 0 else zJ σ b i := fun b i => rfl
    have p1 : ∀ b i, zP (sA σ (9, 0) 5) b i = if b = zt σ then none else zP σ b i := fun b i => rfl
    generalize sA σ (9, 0) 5 = s1 at t1 m1 k1 i1 j1 p1
    unfold wp_X3_init
    refine ⟨⟨by show 1239 ≤ _; omega, by show _ ≤ 160000; omega, by show _ ≤ 8000000; omega⟩, nm_e ⟨⟨0, by rw [kK_dyn hz]; show zK (sA s1 (0, 4824) 4824) _ = _; rw [qK_sA, if_neg (by omega), k1, if_pos rfl]⟩, hz, nm_e ?_⟩⟩
    show (_ ∧ _)
    rw [show sP (sA s1 (0, 4824) 4824) (zt σ) 0 (some (.inl (zt s1))) = na0 s1 (zt σ) 0 4824 from rfl]
    have t2 := T_na0 s1 (zt σ) 0 4824
    have m2 := N_na0 s1 (zt σ) 0 4824
    have k2 := K_na0 s1 (zt σ) 0 4824
    have i2 := I_na0 s1 (zt σ) 0 4824
    have j2 := J_na0 s1 (zt σ) 0 4824
    have p2 := P_na0 s1 (zt σ) 0 4824
    generalize na0 s1 (zt σ) 0 4824 = s2 at t2 m2 k2 i2 j2 p2
    refine ⟨⟨by show 1239 ≤ _; omega, by show _ ≤ 160000; omega, by show _ ≤ 8000000; omega⟩, nm_e ⟨⟨0, by rw [kK_dyn hz]; show zK (sA s2 (0, 4824) 4824) _ = _; rw [qK_sA, if_neg (by omega), k2, if_neg (by omega), k1, if_pos rfl]⟩, hz, nm_e ?_⟩⟩
    show (_ ∧ _)
    rw [show sP (sA s2 (0, 4824) 4824) (zt σ) 1 (some (.inl (zt s2))) = na0 s2 (zt σ) 1 4824 from rfl]
    have t3 := T_na0 s2 (zt σ) 1 4824
    have m3 := N_na0 s2 (zt σ) 1 4824
    have k3 := K_na0 s2 (zt σ) 1 4824
    have i3 := I_na0 s2 (zt σ) 1 4824
    have j3 := J_na0 s2 (zt σ) 1 4824
    have p3 := P_na0 s2 (zt σ) 1 4824
    generalize na0 s2 (zt σ) 1 4824 = s3 at t3 m3 k3 i3 j3 p3
    refine ⟨⟨by show 1239 ≤ _; omega, by show _ ≤ 160000; omega, by show _ ≤ 8000000; omega⟩, nm_e ⟨⟨0, by rw [kK_dyn hz]; show zK (sA s3 (0, 12) 12) _ = _; rw [qK_sA, if_neg (by omega), k3, if_neg (by omega), k2, if_neg (by omega), k1, if_pos rfl]⟩, hz, nm_e ?_⟩⟩
    rw [show sP (sA s3 (0, 12) 12) (zt σ) 2 (some (.inl (zt s3))) = na0 s3 (zt σ) 2 12 from rfl]
    have t4 := T_na0 s3 (zt σ) 2 12
    have m4 := N_na0 s3 (zt σ) 2 12
    have k4 := K_na0 s3 (zt σ) 2 12
    have i4 := I_na0 s3 (zt σ) 2 12
    have j4 := J_na0 s3 (zt σ) 2 12
    have p4 := P_na0 s3 (zt σ) 2 12
    generalize na0 s3 (zt σ) 2 12 = s4 at t4 m4 k4 i4 j4 p4
    refine ⟨vin hn (by decide), ⟨0, by rw [kK_dyn hz, k4, if_neg (by omega), k3, if_neg (by omega), k2, if_neg (by omega), k1, if_pos rfl]⟩, nm_e ?_⟩
    have p5 : ∀ b i, zP (sP s4 17 ni (some (.inl (zt σ)))) b i = if b = 17 ∧ i = ni then some (.inl (zt σ)) else zP s4 b i := fun b i => rfl
    have i5 : ∀ b i, zI (sP s4 17 ni (some (.inl (zt σ)))) b i = zI s4 b i := fun b i => rfl
    have j5 : ∀ b i, zJ (sP s4 17 ni (some (.inl (zt σ)))) b i = zJ s4 b i := fun b i => rfl
    have k5 : ∀ b, zK (sP s4 17 ni (some (.inl (zt σ)))) b = zK s4 b := fun b => rfl
    have t5 : zt (sP s4 17 ni (some (.inl (zt σ)))) = zt s4 := rfl
    have m5 : zn (sP s4 17 ni (some (.inl (zt σ)))) = zn s4 := rfl
    generalize sP s4 17 ni (some (.inl (zt σ))) = s5 at p5 i5 j5 k5 t5 m5
    have gI : ∀ b i, b < zt σ → zI s5 b i = zI σ b i := fun b i hb => by rw [i5, i4, if_neg (by omega), i3, if_neg (by omega), i2, if_neg (by omega), i1, if_neg (by omega)]
    have gJ : ∀ b i, b < zt σ → zJ s5 b i = zJ σ b i := fun b i hb => by rw [j5, j4, if_neg (by omega), j3, if_neg (by omega), j2, if_neg (by omega), j1, if_neg (by omega)]
    have gK : ∀ b, b < zt σ → zK s5 b = zK σ b := fun b hb => by rw [k5, k4, if_neg (by omega), k3, if_neg (by omega), k2, if_neg (by omega), k1, if_neg (by omega)]
    have gP : ∀ b i, b < zt σ → ¬ (b = 17 ∧ i = ni) → zP s5 b i = zP σ b i := fun b i hb hne => by rw [p5, if_neg hne, p4, if_neg (by omega), if_neg (by omega), p3, if_neg (by omega), if_neg (by omega), p2, if_neg (by omega), if_neg (by omega), p1, if_neg (by omega)]
    have hB : Bk s5 (zt σ) := by
      refine ⟨hz, by omega, ?_, ?_, ?_, ?_, ?_, ?_, ?_⟩
      · rw [k5, k4, if_neg (by omega), k3, if_neg (by omega), k2, if_neg (by omega), k1, if_pos rfl]
      · rw [p5, if_neg (by omega), p4, if_neg (by omega), if_neg (by omega), p3, if_neg (by omega), if_neg (by omega), p2, if_pos ⟨rfl, rfl⟩, t1]
      · rw [p5, if_neg (by omega), p4, if_neg (by omega), if_neg (by omega), p3, if_pos ⟨rfl, rfl⟩, t2, t1]
      · rw [p5, if_neg (by omega), p4, if_pos ⟨rfl, rfl⟩, t3, t2, t1]
      · rw [k5, k4, if_neg (by omega), k3, if_neg (by omega), k2, if_pos (by omega)]
      · rw [k5, k4, if_neg (by omega), k3, if_pos (by omega)]
      · rw [k5, k4, if_pos (by omega)]
    have g : Gw (SI σ) 4 9700 σ s5 := by
      refine ⟨fun a i ha _ => gI a i ha, fun a i ha _ => gJ a i ha, fun a i ha hs => gP a i ha fun e => hs (.inl (by rw [e.1]; rfl)), gK, by omega, by omega, by omega, fun hf a ha => ?_⟩
      rw [k5, k4, if_neg (by omega), k3, if_neg (by omega), k2, if_neg (by omega), k1, if_neg (by omega)]; exact hf a (by omega)
    have p17 : zP s5 17 ni = some (.inl (zt σ)) := by rw [p5, if_pos ⟨rfl, rfl⟩]
    have q17 : ∀ i, i ≠ ni → zP s5 17 i = zP σ 17 i := fun i hi => gP 17 i (by omega) fun e => hi e.2
    have bk : ∀ q, Bk σ q → Bk s5 q := fun q hq => by
      obtain ⟨b1, b2, b3, b4, b5, b6, b7, b8, b9⟩ := hq
      refine ⟨b1, by omega, ?_, ?_, ?_, ?_, ?_, ?_, ?_⟩
      · rw [gK _ (by omega)]; exact b3
      · rw [gP _ _ (by omega) (by omega)]; exact b4
      · rw [gP _ _ (by omega) (by omega)]; exact b5
      · rw [gP _ _ (by omega) (by omega)]; exact b6
      · rw [gK _ (by omega)]; exact b7
      · rw [gK _ (by omega)]; exact b8
      · rw [gK _ (by omega)]; exact b9
    have him : IMC ni v s5 := by
      refine ⟨h3, by rw [gI _ _ (by omega)]; exact h04, fun i hi => ?_, fun i j q hi hj hp hp2 => ?_, fun i hi => ?_⟩
      · by_cases e : i = ni
        · rw [e]; exact .inr ⟨_, p17, hB⟩
        · rw [q17 i e]
          rcases h.2.2.1 i hi with k | ⟨q, a, b⟩
          · exact .inl k
          · exact .inr ⟨q, a, bk q b⟩
      · by_cases e : i = ni
        · by_cases e2 : j = ni
          · rw [e, e2]
          · rw [e, p17] at hp; injection hp with hp; injection hp with hp
            rw [q17 j e2] at hp2
            have := (h.bk hj hp2).2.1; omega
        · by_cases e2 : j = ni
          · rw [e2, p17] at hp2; injection hp2 with hp2; injection hp2 with hp2
            rw [q17 i e] at hp
            have := (h.bk hi hp).2.1; omega
          · rw [q17 i e] at hp; rw [q17 j e2] at hp2; exact h.2.2.2.1 i j q hi hj hp hp2
      · obtain ⟨q, a, b⟩ := h.2.2.2.2 i hi
        have hbq := h.bk (by omega) a
        exact ⟨q, by rw [q17 i (by omega)]; exact a, b.eq fun k j hk => gI _ _ (by have := hbq.2.1; omega)⟩
    refine c_im38 him hn p17 (by omega) (hw.eq fun k i hk => gI _ _ (by omega)) fun σ' f' him' => h2 hn σ' (g.fresh f' fun a i ha hs => ?_) him'
    rcases hs with e | e
    · exact .inr (.inl e)
    · exfalso
      unfold cd at e
      split at e
      · omega
      · split at e <;> omega
  · -- it is there
    obtain ⟨q, kq, hb⟩ : ∃ q, zP σ 17 ni = some (.inl q) ∧ Bk σ q := by
      rcases h.2.2.1 ni hn with k | k
      · exact absurd k k0
      · exact k
    refine c_im38 h hn kq (by omega) hw fun σ' f' him' => h2 hn σ' ((f'.mono fun c hc => ?_).gw.mono (fun _ k => k) (by omega) (by omega)) him'
    rcases hc with e | e
    · exact .inr (.inl e)
    · exact .inr (.inr ⟨q, hb, e⟩)
def SRe (c : Nat) : Prop := c = 2000004 ∨ (12 ≤ c ∧ c < 16)
theorem C_restore {ni : Nat} {v : Nat → IV} {σ : ZS} (h : IMC ni v σ) (hz : zt σ ≤ 160000) {Ret : Int32 → ZS → Prop} (h1 : ni = 0 → Ret (-1) σ) (h2 : 1 ≤ ni → ∀ σ', Fr SRe σ σ' → IMC (ni - 1) v σ' → HC σ' 12 (v (ni - 1)) → Ret (nI (ni - 1)) σ') : wp_X1_restore σ Ret := by
  have h04 := h.2.1
  have h3 := h.1
  unfold wp_X1_restore
  rw [h04, nI_eq0 (by omega)]
  refine ⟨fun k => h1 k, fun k => nm_e ?_⟩
  have hn : 1 ≤ ni := by omega
  rw [nI_sub1 hn, zI_self, ix_nI (by omega)]
  obtain ⟨q, kq, hc⟩ := h.2.2.2.2 (ni - 1) (by omega)
  have hb := h.bk (by omega) kq
  have hq1 := hb.1
  have f1 : Fr SRe σ (sI σ 0 4 (nI (ni - 1))) := Fr.rfl.sI 0 4 _ (.inl rfl)
  have e0 : zI (sI σ 0 4 (nI (ni - 1))) 0 4 = nI (ni - 1) := zI_self _ _ _ _
  have hc1 : HC (sI σ 0 4 (nI (ni - 1))) q (v (ni - 1)) := hc.eq fun k i hk => zI_ne _ (.inl (by omega))
  rw [kP17 _ (by omega), f1.ep, kq, zo_in]
  have hb1 := hb.fr f1
  generalize sI σ 0 4 (nI (ni - 1)) = s1 at f1 e0 hc1 hb1
  refine ⟨vin (by omega) (by decide), rfl, c_become (St12 s1) hb1.st (.inl (by omega)) (.inl ⟨by decide, by decide⟩) fun σ5 f5 a1 a2 a3 a4 a5 => ?_⟩
  have e5 : zI σ5 0 4 = nI (ni - 1) := by rw [f5.1 0 4 (by unfold cd; simp)]; exact e0
  have f6 : Fr SRe σ σ5 := f1.trans (f5.mono fun c hc => .inr hc)
  rw [e5]
  refine h2 hn σ5 f6 ⟨by omega, e5, fun i hi => ?_, fun i j r hi hj => ?_, fun i hi => ?_⟩ (hc1.cp a1 a2 a3 a4 a5)
  · rw [f6.ep]
    rcases h.2.2.1 i hi with k | ⟨r, k1, k2⟩
    · exact .inl k
    · exact .inr ⟨r, k1, k2.fr f6⟩
  · rw [f6.ep, f6.ep]; exact h.2.2.2.1 i j r hi hj
  · obtain ⟨r, k1, k2⟩ := h.2.2.2.2 i (by omega)
    have hbr := h.bk (by omega) k1
    have hr1 := hbr.1; have hr2 := hbr.2.1
    exact ⟨r, by rw [f6.ep]; exact k1, k2.eq fun k j hk => f6.1 _ _ (by unfold SRe cd; rw [if_neg (by omega), if_neg (by omega)]; omega)⟩
