/-! PURE HALF: a town: the model's call. -/
set_option maxRecDepth 100000
theorem m_143 {n : Nat} {res : PR PT} {σ : ZS} {Ret : Int32 → ZS → Prop}
    (ht : ∀ e, res = .inl e → ∀ s, Fr SMt σ s → zI s 44 3 = nI e.2 → (∀ j, j < 3 → zI s 44 j = zI σ 44 j) → zI s 44 54 = zI σ 44 54 → Fr SMw σ s → Ret (nI e.1 - 10) s)
    (hr : ∀ P, res = .inr P → ∀ s, Fr SMt σ s → MT (fT P.T) s → MH 0 (fun _ => P.sg) (fun _ => P.al) s → zI s 44 28 = 0 → zI s 44 29 = 0 → zI s 44 3 = -1 → (∀ j, j < 3 → zI s 44 j = zI σ 44 j) → zI s 44 54 = zI σ 44 54 → Ret (nI P.T.nc) s)
    {s : ZS} (f : Fr SRc σ s) (h6 : (∃ e, res = .inl e ∧ MFs n e s) ∨ ∃ P, res = .inr P ∧ MQt P s ∧ zI s 44 5 = 0 ∧ zI s 44 6 = -1) : V_X4_town_143 Ret s := by
  have fw : Fr SMw σ s := f.mono fun c hc => .inl hc
  unfold V_X4_town_143
  refine nm_e ?_
  have f3 : Fr SMw σ (sI s 44 3 (zI s 44 6)) := fw.sI 44 3 _ (.inr (.inr (.inr (.inr rfl))))
  have ek : ∀ j, j < 3 → zI (sI s 44 3 (zI s 44 6)) 44 j = zI σ 44 j := fun j hj => by
    rw [zI_ne _ (.inr (by omega)), f.1 44 j (by unfold SRc SRd cd; rw [if_pos rfl]; omega)]
  have e54 : zI (sI s 44 3 (zI s 44 6)) 44 54 = zI σ 44 54 := by
    rw [zI_ne _ (.inr (by omega)), f.1 44 54 (by unfold SRc SRd cd; rw [if_pos rfl]; omega)]
  have v5 : zI (sI s 44 3 (zI s 44 6)) 44 5 = zI s 44 5 := zI_ne _ (.inr (by decide))
  rw [v5]
  rcases h6 with ⟨e, he, mf⟩ | ⟨P, he, mq, e5, e6⟩
  · refine br_f mf.f0 ?_
    rw [mf.2.1]
    exact ht e he _ (f3.mono fun c hc => .inl hc) (by rw [zI_self]; exact mf.2.2.1) ek e54 f3
  · refine br_t e5 (m_168 (P := P) (mq.fr (Fr.rfl.sI 44 3 _ rfl : Fr (fun c => c = 1000003) s _) (by intro c hc; unfold noQ; omega)) fun s2 f2 mt mh e28 e29 ej ej54 => ?_)
    refine hr P he s2 ((f3.mono fun c hc => .inl hc).trans f2) mt mh e28 e29 ?_ (fun j hj => ?_) ?_
    · rw [ej 3 (by decide), zI_self]; exact e6
    · rw [ej j (by omega)]; exact ek j hj
    · rw [ej54]; exact e54
theorem PT0_q {σ : ZS} (h1 : ∀ i, i < 4 → zI σ 46 i = 0) (h2 : ∀ i, i < 24 → zI σ 158 i = 0) (h3 : ∀ i, i < 24 → zI σ 159 i = 0) : MQt PT0 σ := by
  refine ⟨h1 0 (by decide), h1 1 (by decide), h1 2 (by decide), h1 3 (by decide), ?_, ?_, ?_, ?_, ?_, ?_, ?_, ?_, ?_, h2, h3, WF_0, rfl⟩ <;> exact fun i hi => absurd (show i < 0 from hi) (Nat.not_lt_zero _)
theorem M_town {tp : Nat} {tb : Nat → Int32} {σ : ZS} (htp : TpM tp tb σ) (hby : ∀ i, i < tp → BY (tb i)) {x : Int32} {Ret : Int32 → ZS → Prop}
    (h1 : inN x (tp + 1) = false → ∀ σ', Fr (fun c => c = 1000000) σ σ' → zI σ' 44 0 = 1 → Ret 0 σ')
    (h2 : ∀ n e, x = nI n → n ≤ tp → twR n tb = .inl e → ∀ σ', Fr SMw σ σ' → zI σ' 44 3 = nI e.2 → zI σ' 44 0 = 0 → zI σ' 44 1 = 0 → Ret (nI e.1 - 10) σ')
    (h3 : ∀ n P, x = nI n → n ≤ tp → twR n tb = .inr P → ∀ σ', Fr SMt σ σ' → MT (fT P.T) σ' → MH 0 (fun _ => P.sg) (fun _ => P.al) σ' → zI σ' 44 28 = 0 → zI σ' 44 29 = 0 → zI σ' 44 3 = -1 → zI σ' 44 0 = 0 → zI σ' 44 1 = 0 → Ret (nI P.T.nc) σ') : wp_X4_town σ x Ret := by
  obtain ⟨tp1, tp2, tp3⟩ := htp
  unfold wp_X4_town
  refine nm_e ?_
  have f0 : Fr (fun c => c = 1000000) σ (sI σ 44 0 0) := Fr.rfl.sI 44 0 0 rfl
  have z0 : zI (sI σ 44 0 0) 44 0 = 0 := zI_self _ _ _ _
  have z1 : zI (sI σ 44 0 0) 44 1 = nI tp := by rw [zI_ne _ (.inr (by decide))]; exact tp2
  have tp3' : ∀ i, i < tp → zI (sI σ 44 0 0) 45 i = tb i &&& 255 := fun i hi => by rw [zI_ne _ (.inl (by decide))]; exact tp3 i hi
  generalize sI σ 44 0 0 = σ1 at f0 z0 z1 tp3'
  have bad : inN x (tp + 1) = false → V_X4_town_23 Ret σ1 x 1 := fun h => by
    unfold V_X4_town_23
    exact m_bad1 z0 (by decide) (br_f (by decide) (h1 h _ (f0.sI 44 0 1 rfl) (zI_self _ _ _ _)))
  unfold wp_X4_in
  refine ⟨fun k => br_t rfl (bad (inN_neg k)), fun k => ?_⟩
  obtain ⟨n, hn, rfl⟩ := nI_of k
  rw [z1, nI_ltI (by omega) hn]
  refine ⟨fun k2 => br_t rfl (bad (by rw [inN_nI hn]; simp; omega)), fun k2 => br_f (by decide) ?_⟩
  have hnt : n ≤ tp := by omega
  have h2 := h2 n
  have h3 := h3 n
  unfold V_X4_town_23
  refine m_bad0 z0 (br_t rfl (nm_e (nm_e (nm_e (nm_e (nm_e (nm_e ?_)))))))
  have fA : Fr SMw σ1 (sI (sI (sI (sI (sI (sI σ1 44 1 0) 44 2 (nI n)) 44 4 0) 44 5 0) 44 6 (-1)) 44 7 0) := (((((Fr.rfl.sI 44 1 0 (by unfold SMw SRc SRd cd; simp)).sI 44 2 _ (by unfold SMw SRc SRd cd; simp)).sI 44 4 0 (by unfold SMw SRc SRd cd; simp)).sI 44 5 0 (by unfold SMw SRc SRd cd; simp)).sI 44 6 _ (by unfold SMw SRc SRd cd; simp)).sI 44 7 0 (by unfold SMw SRc SRd cd; simp)
  have a0 : zI (sI (sI (sI (sI (sI (sI σ1 44 1 0) 44 2 (nI n)) 44 4 0) 44 5 0) 44 6 (-1)) 44 7 0) 44 0 = 0 := by
    rw [zI_ne _ (.inr (by decide)), zI_ne _ (.inr (by decide)), zI_ne _ (.inr (by decide)), zI_ne _ (.inr (by decide)), zI_ne _ (.inr (by decide)), zI_ne _ (.inr (by decide))]; exact z0
  have a1 : zI (sI (sI (sI (sI (sI (sI σ1 44 1 0) 44 2 (nI n)) 44 4 0) 44 5 0) 44 6 (-1)) 44 7 0) 44 1 = 0 := by
    rw [zI_ne _ (.inr (by decide)), zI_ne _ (.inr (by decide)), zI_ne _ (.inr (by decide)), zI_ne _ (.inr (by decide)), zI_ne _ (.inr (by decide)), zI_self]
  have a2 : zI (sI (sI (sI (sI (sI (sI σ1 44 1 0) 44 2 (nI n)) 44 4 0) 44 5 0) 44 6 (-1)) 44 7 0) 44 2 = nI n := by
    rw [zI_ne _ (.inr (by decide)), zI_ne _ (.inr (by decide)), zI_ne _ (.inr (by decide)), zI_ne _ (.inr (by decide)), zI_self]
  have a4 : zI (sI (sI (sI (sI (sI (sI σ1 44 1 0) 44 2 (nI n)) 44 4 0) 44 5 0) 44 6 (-1)) 44 7 0) 44 4 = nI 0 := by
    rw [zI_ne _ (.inr (by decide)), zI_ne _ (.inr (by decide)), zI_ne _ (.inr (by decide)), zI_self]; rfl
  have a5 : zI (sI (sI (sI (sI (sI (sI σ1 44 1 0) 44 2 (nI n)) 44 4 0) 44 5 0) 44 6 (-1)) 44 7 0) 44 5 = 0 := by
    rw [zI_ne _ (.inr (by decide)), zI_ne _ (.inr (by decide)), zI_self]
  have a6 : zI (sI (sI (sI (sI (sI (sI σ1 44 1 0) 44 2 (nI n)) 44 4 0) 44 5 0) 44 6 (-1)) 44 7 0) 44 6 = -1 := by
    rw [zI_ne _ (.inr (by decide)), zI_self]
  have a7 : zI (sI (sI (sI (sI (sI (sI σ1 44 1 0) 44 2 (nI n)) 44 4 0) 44 5 0) 44 6 (-1)) 44 7 0) 44 7 = 0 := zI_self _ _ _ _
  have at' : ∀ i, i < tp → zI (sI (sI (sI (sI (sI (sI σ1 44 1 0) 44 2 (nI n)) 44 4 0) 44 5 0) 44 6 (-1)) 44 7 0) 45 i = tb i &&& 255 := fun i hi => by
    rw [zI_ne _ (.inl (by decide)), zI_ne _ (.inl (by decide)), zI_ne _ (.inl (by decide)), zI_ne _ (.inl (by decide)), zI_ne _ (.inl (by decide)), zI_ne _ (.inl (by decide))]; exact tp3' i hi
  generalize sI (sI (sI (sI (sI (sI σ1 44 1 0) 44 2 (nI n)) 44 4 0) 44 5 0) 44 6 (-1)) 44 7 0 = σ2 at fA a0 a1 a2 a4 a5 a6 a7 at'
  have mx : MXt n tb σ2 := ⟨by omega, a2, fun i hi => by
    rw [at' i (by omega), (hby i (by omega)).v.2.1]; unfold ch; rw [if_pos hi], fun i hi => hby i (by omega)⟩
  clear at' z1 tp3' tp3 tp2
  refine forL (S := ZS) (fun m s x => VL_X4_town_64 Ret m s x) (fun k s => Fr (fun c => c = 46) σ2 s ∧ ∀ i, i < k → zI s 46 i = 0) 4 ?_ ?_ 0 σ2 (Nat.zero_le _) ⟨Fr.rfl, fun i hi => absurd hi (Nat.not_lt_zero _)⟩
  · rintro m s3 ⟨f3, g3⟩
    simp only [VL_X4_town_64]
    refine br_f (by decide) ?_
    refine forL (S := ZS) (fun m s x => VL_X4_town_84 Ret m s x) (fun k s => Fr (fun c => c = 46 ∨ c = 158 ∨ c = 159) σ2 s ∧ (∀ i, i < 4 → zI s 46 i = 0) ∧ ∀ i, i < k → zI s 158 i = 0 ∧ zI s 159 i = 0) 24 ?_ ?_ 0 s3 (Nat.zero_le _) ⟨f3.mono fun c hc => .inl hc, g3, fun i hi => absurd hi (Nat.not_lt_zero _)⟩
    · rintro m' s4 ⟨f4, g4, k4⟩
      simp only [VL_X4_town_84]
      refine br_f (by decide) ?_
      have q : ∀ j, zI s4 44 j = zI σ2 44 j := fun j => f4.1 44 j (by unfold cd; rw [if_pos rfl]; omega)
      have mx4 : MXt n tb s4 := mx.fr f4 (by intro c hc; omega)
      refine m_blanks mx4 (Nat.zero_le _) (by rw [q]; exact a4) ?_
      have f5 : Fr SRc σ2 (sI s4 44 4 (nI (sk n tb 0))) := (f4.mono (fun c hc => by unfold SRc SRd; omega)).sI 44 4 _ (by unfold SRc SRd cd; simp)
      have mq5 : MQt PT0 (sI s4 44 4 (nI (sk n tb 0))) := (PT0_q g4 (fun i hi => (k4 i hi).1) (fun i hi => (k4 i hi).2)).fr (Fr.rfl.sI 44 4 _ rfl : Fr (fun c => c = 1000004) s4 _) (by intro c hc; unfold noQ; omega)
      have v : ∀ j, j ≠ 4 → zI (sI s4 44 4 (nI (sk n tb 0))) 44 j = zI σ2 44 j := fun j hj => by rw [zI_ne _ (.inr hj)]; exact q j
      have vv := fun s => @m_143 n (twR n tb) σ2 Ret (fun e he s fs hs ej e54 fw => h2 e rfl hnt he s ((f0.mono (fun c hc => by unfold SMw; omega)).trans (fA.trans fw)) hs (by rw [ej 0 (by decide)]; exact a0) (by rw [ej 1 (by decide)]; exact a1))
        (fun P he s fs mt mh e28 e29 hs ej e54 => h3 P rfl hnt he s ((f0.mono (fun c hc => by unfold SMt SMw; omega)).trans ((fA.mono fun c hc => .inl hc).trans fs)) mt mh e28 e29 hs (by rw [ej 0 (by decide)]; exact a0) (by rw [ej 1 (by decide)]; exact a1)) s
      refine ⟨n + 1 + 1, m_loop (σ0 := σ2) mx (res := twR n tb) (fun e he s fs mf => vv s fs (.inl ⟨e, he, mf⟩)) (fun P he s fs mq e5 e6 => vv s fs (.inr ⟨P, he, mq, e5, e6.trans a6⟩)) (n + 1) (sk n tb 0) PT0 _ (by omega) (sk_le (Nat.zero_le _)) (sk_sk _ _ _) (by decide) f5 mq5 (zI_self _ _ _ _) (by rw [v 5 (by decide)]; exact a5) (by rw [v 7 (by decide)]; exact a7) (v 6 (by decide)) rfl⟩
    · rintro m' k s hk ⟨f, g, k4⟩ ih
      simp only [VL_X4_town_84]
      simp only [nI1, ix_nI (show k < 2 ^ 31 by omega)]
      refine br_t (nI_lt (b := 24) hk (by decide)) ⟨vin hk (by decide), nm_e ⟨vin hk (by decide), nm_e (nm_e (ih _ ⟨(f.sI 158 k 0 (.inr (.inl rfl))).sI 159 k 0 (.inr (.inr rfl)), fun i hi => ?_, fun i hi => ?_⟩))⟩⟩
      · rw [zI_ne _ (.inl (by decide)), zI_ne _ (.inl (by decide))]; exact g i hi
      · rw [zI_ne _ (.inl (by decide)), zI_row, zI_row]
        by_cases e : i = k
        · rw [if_pos e, if_pos e]; exact ⟨rfl, rfl⟩
        · rw [if_neg e, if_neg e, zI_ne _ (.inl (by decide))]; exact k4 i (by omega)
  · rintro m k s hk ⟨f, g⟩ ih
    simp only [VL_X4_town_64]
    simp only [nI1, ix_nI (show k < 2 ^ 31 by omega)]
    refine br_t (nI_lt (b := 4) hk (by decide)) ⟨vin hk (by decide), nm_e (nm_e (ih _ ⟨f.sI 46 k 0 rfl, fun i hi => ?_⟩))⟩
    rw [zI_row]
    by_cases e : i = k
    · rw [if_pos e]
    · rw [if_neg e]; exact g i (by omega)
