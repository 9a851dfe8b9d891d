/-! PURE HALF: image, restore: the model. -/
set_option maxRecDepth 100000
theorem kRow (σ : ZS) {i : Nat} (hi : i < 3) : kK NS σ (1168 + i) = (0, 10000) := by
  have : ∀ k : Fin 3, Kst (1168 + k.1) = (0, 10000) := by decide
  unfold kK; rw [if_pos (show 1168 + i < NS by show 1168 + i < 1239; omega)]; exact this ⟨i, hi⟩
theorem m_puts0 {σ : ZS} {R k : Nat} (kR : ∀ s, kK NS s R = (0, 10000)) (hR : R ≠ 44) (hk : k < 10000) (e : zI σ 44 45 = nI k) {x : Int32} {Ret : Int32 → ZS → Prop} (hr : Ret x (sI (sI σ R k x) 44 45 (nI (k + 1)))) : wp_X4_puts σ R x 0 Ret := by
  unfold wp_X4_puts
  rw [e, ix_nI (by omega)]
  refine br_t rfl ⟨10000, kR _, vin hk (by decide), nm_e ?_⟩
  unfold V_X4_puts_11
  have e2 : zI (sI σ R k x) 44 45 = nI k := by rw [zI_ne _ (.inl (Ne.symm hR))]; exact e
  rw [e2, nI1]
  refine nm_e ?_
  rw [zI_self, nI_sub1 (by omega), Nat.add_sub_cancel, ix_nI (by omega)]
  refine ⟨10000, kR _, vin hk (by decide), ?_⟩
  rw [zI_ne _ (.inl hR), zI_self]; exact hr
theorem m_puts1 {σ : ZS} {R k : Nat} (kR : ∀ s, kK NS s R = (0, 10000)) (hR : R ≠ 44) (hk : k < 10000) (e : zI σ 44 45 = nI k) {x : Int32} {Ret : Int32 → ZS → Prop} (hr : Ret (zI σ R k) (sI σ 44 45 (nI (k + 1)))) : wp_X4_puts σ R x 1 Ret := by
  unfold wp_X4_puts
  refine br_f (by decide) ?_
  unfold V_X4_puts_11
  rw [e, nI1]
  refine nm_e ?_
  rw [zI_self, nI_sub1 (by omega), Nat.add_sub_cancel, ix_nI (by omega)]
  refine ⟨10000, kR _, vin hk (by decide), ?_⟩
  rw [zI_ne _ (.inl hR)]; exact hr
def layI (σ : ZS) (j : Nat) : Int32 := if j = 0 then zI σ 44 19 else if j = 1 then zI σ 44 28 else if j < 14 then zI σ 1146 (j - 2) else if (j - 14) % 2 = 0 then zI σ (160 + 1 + (j - 14) / 48) ((j - 14) % 48 / 2) else zI σ (362 + 1 + (j - 14) / 48) ((j - 14) % 48 / 2)
/-- so far kept -/
def Sv (σ : ZS) (R : Nat) (s : ZS) (k : Nat) : Prop := (∀ a i, a ≠ R → ¬ (a = 44 ∧ i = 45) → zI s a i = zI σ a i) ∧ s.2 = σ.2 ∧ zI s 44 45 = nI k ∧ ∀ j, j < k → zI s R j = layI σ j
theorem Sv.step {σ : ZS} {R : Nat} {s : ZS} {k : Nat} (h : Sv σ R s k) (hR : R ≠ 44) {a i : Nat} (ha : a ≠ R) (hi : ¬ (a = 44 ∧ i = 45)) (hl : layI σ k = zI σ a i) : Sv σ R (sI (sI (sI s R k (zI s a i)) 44 45 (nI (k + 1))) a i (zI s a i)) (k + 1) := by
  obtain ⟨h1, h2, h3, h4⟩ := h
  refine ⟨fun b j hb hj => ?_, h2, ?_, fun j hj => ?_⟩
  · by_cases e : b = a ∧ j = i
    · rw [e.1, e.2, zI_self]; exact h1 a i ha hi
    · rw [zI_ne _ (by by_cases e2 : b = a; exact .inr fun e3 => e ⟨e2, e3⟩; exact .inl e2), zI_ne _ (by by_cases e2 : b = 44; exact .inr fun e3 => hj ⟨e2, e3⟩; exact .inl e2), zI_ne _ (.inl hb)]; exact h1 b j hb hj
  · rw [zI_ne _ (by by_cases e2 : 44 = a; exact .inr fun e3 => hi ⟨e2.symm, e3.symm⟩; exact .inl e2), zI_self]
  · rw [zI_ne _ (.inl (Ne.symm ha)), zI_ne _ (.inl hR), zI_row]
    by_cases e : j = k
    · rw [if_pos e, e, hl]; exact h1 a i ha hi
    · rw [if_neg e]; exact h4 j (by omega)
theorem layI_s {t s : Nat} (hs : s < 24) (σ : ZS) : layI σ (14 + 48 * t + 2 * s) = zI σ (160 + 1 + t) s ∧ layI σ (14 + 48 * t + 2 * s + 1) = zI σ (362 + 1 + t) s := by
  unfold layI
  constructor
  · rw [if_neg (by omega), if_neg (by omega), if_neg (by omega), if_pos (by omega), show (14 + 48 * t + 2 * s - 14) / 48 = t by omega, show (14 + 48 * t + 2 * s - 14) % 48 / 2 = s by omega]
  · rw [if_neg (by omega), if_neg (by omega), if_neg (by omega), if_neg (by omega), show (14 + 48 * t + 2 * s + 1 - 14) / 48 = t by omega, show (14 + 48 * t + 2 * s + 1 - 14) % 48 / 2 = s by omega]
theorem m_save {σ : ZS} {R tm : Nat} (hR : 1168 ≤ R ∧ R < 1171) (kR : ∀ s, kK NS s R = (0, 10000)) (ht : tm ≤ 200) (e19 : zI σ 44 19 = nI tm) {Ret : ZS → Prop} (hr : ∀ s, Sv σ R s (14 + 48 * (tm + 1)) → Ret s) : wp_X4_movesAll σ R 0 Ret := by
  have hR4 : R ≠ 44 := by omega
  unfold wp_X4_movesAll
  refine nm_e ?_
  have s0 : Sv σ R (sI σ 44 45 0) 0 := ⟨fun a i _ hi => zI_ne _ (by by_cases e2 : a = 44; exact .inr fun e3 => hi ⟨e2, e3⟩; exact .inl e2), rfl, zI_self _ _ _ _, fun j hj => absurd hj (Nat.not_lt_zero _)⟩
  generalize sI σ 44 45 0 = σ0 at s0
  refine m_puts0 kR hR4 (by decide) s0.2.2.1 (nm_e ?_)
  have s1 := s0.step hR4 (a := 44) (i := 19) (by omega) (by decide) (by rfl)
  generalize sI (sI (sI σ0 R 0 (zI σ0 44 19)) 44 45 (nI (0 + 1))) 44 19 (zI σ0 44 19) = σ1 at s1
  refine m_puts0 kR hR4 (by decide) s1.2.2.1 (nm_e ?_)
  have s2 := s1.step hR4 (a := 44) (i := 28) (by omega) (by decide) (by rfl)
  generalize sI (sI (sI σ1 R (0 + 1) (zI σ1 44 28)) 44 45 (nI (0 + 1 + 1))) 44 28 (zI σ1 44 28) = σ2 at s2
  refine forL (S := ZS) (fun m s x => VL_X4_movesAll_35 Ret m s R 0 x) (fun k s => Sv σ R s (2 + k)) 12 ?_ ?_ 0 σ2 (Nat.zero_le _) s2
  · intro m s3 s3v
    simp only [VL_X4_movesAll_35]
    refine br_f (by decide) ?_
    refine forL (S := ZS) (fun m s x => VL_X4_movesAll_67 Ret m s R 0 x) (fun t s => Sv σ R s (14 + 48 * t)) (tm + 1) ?_ ?_ 0 s3 (Nat.zero_le _) s3v
    · intro m s4 s4v
      simp only [VL_X4_movesAll_67]
      rw [s4v.1 44 19 (by omega) (by decide), e19]
      exact br_t (nI_lt (by omega) (by omega)) (hr s4 s4v)
    · intro m t s4 ht4 s4v ih
      simp only [VL_X4_movesAll_67]
      rw [s4v.1 44 19 (by omega) (by decide), e19]
      refine br_f (nI_nlt (by omega) (by omega)) ?_
      refine forL (S := ZS) (fun m' s x => VL_X4_movesAll_78 (VL_X4_movesAll_67 Ret m) Ret m' s R 0 (nI t) x) (fun k s => Sv σ R s (14 + 48 * t + 2 * k)) 24 ?_ ?_ 0 s4 (Nat.zero_le _) s4v
      · intro m' s5 s5v
        simp only [VL_X4_movesAll_78]
        simp only [nI1]
        exact br_f (by decide) (nm_e (ih s5 (by rw [show 14 + 48 * (t + 1) = 14 + 48 * t + 2 * 24 by omega]; exact s5v)))
      · intro m' k s5 hk s5v ih2
        have ly := layI_s (t := t) hk σ
        simp only [VL_X4_movesAll_78]
        simp only [nI1, ix_nI (show t < 2 ^ 31 by omega), ix_nI (show k < 2 ^ 31 by omega)]
        refine br_t (nI_lt (b := 24) hk (by decide)) ⟨vin (by omega) (by decide), vin (by omega) (by decide), vin hk (by decide), ?_⟩
        refine m_puts0 kR hR4 (by omega) s5v.2.2.1 ⟨vin hk (by decide), nm_e ?_⟩
        have s6 := s5v.step hR4 (a := 160 + 1 + t) (i := k) (by omega) (by omega) ly.1
        generalize sI (sI (sI s5 R (14 + 48 * t + 2 * k) (zI s5 (160 + 1 + t) k)) 44 45 (nI (14 + 48 * t + 2 * k + 1))) (160 + 1 + t) k (zI s5 (160 + 1 + t) k) = σ6 at s6
        refine ⟨vin (by omega) (by decide), vin (by omega) (by decide), vin hk (by decide), ?_⟩
        refine m_puts0 kR hR4 (by omega) s6.2.2.1 ⟨vin hk (by decide), nm_e (nm_e ?_)⟩
        exact ih2 _ (s6.step hR4 (a := 362 + 1 + t) (i := k) (by omega) (by omega) ly.2)
  · intro m k s3 hk s3v ih
    simp only [VL_X4_movesAll_35]
    simp only [nI1, ix_nI (show k < 2 ^ 31 by omega)]
    refine br_t (nI_lt (b := 12) hk (by decide)) ⟨vin hk (by decide), m_puts0 kR hR4 (by omega) s3v.2.2.1 ⟨vin hk (by decide), nm_e (nm_e ?_)⟩⟩
    refine ih _ (s3v.step hR4 (a := 1146) (i := k) (by omega) (by omega) ?_)
    unfold layI
    rw [if_neg (by omega), if_neg (by omega), if_pos (by omega), show 2 + k - 2 = k by omega]
def HM (σ : ZS) (R : Nat) (v : IV) : Prop := v.1 ≤ 200 ∧ v.2.2.2.1 ≤ 12 ∧ zI σ R 0 = nI v.1 ∧ zI σ R 1 = nI v.2.2.2.1 ∧ (∀ i, i < v.2.2.2.1 → zI σ R (2 + i) = v.2.2.2.2 i) ∧ ∀ t, t ≤ v.1 → ∀ s, s < 24 → zI σ R (14 + 48 * t + 2 * s) = v.2.1 t s ∧ zI σ R (14 + 48 * t + 2 * s + 1) = v.2.2.1 t s
def SRm (c : Nat) : Prop := c = 1000045 ∨ c = 1000019 ∨ c = 1000028 ∨ c = 1146 ∨ (161 ≤ c ∧ c < 362) ∨ (363 ≤ c ∧ c < 564)
theorem m_rest {σ : ZS} {R : Nat} {v : IV} (hR : 1168 ≤ R ∧ R < 1171) (kR : ∀ s, kK NS s R = (0, 10000)) (h : HM σ R v) {Ret : ZS → Prop} (hr : ∀ s, Fr SRm σ s → MH v.1 v.2.1 v.2.2.1 s → TdM v.2.2.2.1 v.2.2.2.2 s → Ret s) : wp_X4_movesAll σ R 1 Ret := by
  obtain ⟨tm, sg, al, nt, td⟩ := v
  obtain ⟨h1, h2, h3, h4, h5, h6⟩ := h
  dsimp only at h1 h2 h3 h4 h5 h6 hr
  have hR4 : R ≠ 44 := by omega
  have cR : ∀ j, ¬ SRm (cd R j) := fun j => by unfold SRm cd; rw [if_neg (by omega), if_neg (by omega)]; omega
  have c4 : ∀ i, cd 44 i = 1000000 + i := fun i => by unfold cd; rw [if_pos rfl]
  unfold wp_X4_movesAll
  refine nm_e ?_
  have f0 : Fr SRm σ (sI σ 44 45 0) := Fr.rfl.sI 44 45 0 (.inl rfl)
  have a0 : zI (sI σ 44 45 0) 44 45 = nI 0 := zI_self _ _ _ _
  generalize sI σ 44 45 0 = s0 at f0 a0
  refine m_puts1 kR hR4 (by decide) a0 (nm_e ?_)
  rw [f0.1 R 0 (cR 0), h3]
  have f1 := (f0.sI 44 45 (nI (0 + 1)) (.inl rfl)).sI 44 19 (nI tm) (.inr (.inl rfl))
  have a1 : zI (sI (sI s0 44 45 (nI (0 + 1))) 44 19 (nI tm)) 44 45 = nI 1 := by rw [zI_ne _ (.inr (by decide)), zI_self]
  have b1 : zI (sI (sI s0 44 45 (nI (0 + 1))) 44 19 (nI tm)) 44 19 = nI tm := zI_self _ _ _ _
  generalize sI (sI s0 44 45 (nI (0 + 1))) 44 19 (nI tm) = s1 at f1 a1 b1
  refine m_puts1 kR hR4 (by decide) a1 (nm_e ?_)
  rw [f1.1 R 1 (cR 1), h4]
  have f2 := (f1.sI 44 45 (nI (1 + 1)) (.inl rfl)).sI 44 28 (nI nt) (.inr (.inr (.inl rfl)))
  have a2 : zI (sI (sI s1 44 45 (nI (1 + 1))) 44 28 (nI nt)) 44 45 = nI 2 := by rw [zI_ne _ (.inr (by decide)), zI_self]
  have b2 : zI (sI (sI s1 44 45 (nI (1 + 1))) 44 28 (nI nt)) 44 19 = nI tm := by rw [zI_ne _ (.inr (by decide)), zI_ne _ (.inr (by decide))]; exact b1
  have d2 : zI (sI (sI s1 44 45 (nI (1 + 1))) 44 28 (nI nt)) 44 28 = nI nt := zI_self _ _ _ _
  generalize sI (sI s1 44 45 (nI (1 + 1))) 44 28 (nI nt) = s2 at f2 a2 b2 d2
  refine forL (S := ZS) (fun m s x => VL_X4_movesAll_35 Ret m s R 1 x) (fun k s => Fr SRm σ s ∧ zI s 44 45 = nI (2 + k) ∧ zI s 44 19 = nI tm ∧ zI s 44 28 = nI nt ∧ ∀ i, i < k → zI s 1146 i = zI σ R (2 + i)) 12 ?_ ?_ 0 s2 (Nat.zero_le _) ⟨f2, a2, b2, d2, fun i hi => absurd hi (Nat.not_lt_zero _)⟩
  · rintro m s3 ⟨f3, a3, b3, d3, g3⟩
    simp only [VL_X4_movesAll_35]
    refine br_f (by decide) ?_
    refine forL (S := ZS) (fun m s x => VL_X4_movesAll_67 Ret m s R 1 x) (fun t s => Fr SRm σ s ∧ zI s 44 45 = nI (14 + 48 * t) ∧ zI s 44 19 = nI tm ∧ zI s 44 28 = nI nt ∧ (∀ i, i < 12 → zI s 1146 i = zI σ R (2 + i)) ∧ ∀ t', t' < t → ∀ k, k < 24 → zI s (160 + 1 + t') k = sg t' k ∧ zI s (362 + 1 + t') k = al t' k) (tm + 1) ?_ ?_ 0 s3 (Nat.zero_le _) ⟨f3, a3, b3, d3, g3, fun t' h' => absurd h' (Nat.not_lt_zero _)⟩
    · rintro m s4 ⟨f4, a4, b4, d4, g4, r4⟩
      simp only [VL_X4_movesAll_67]
      rw [b4]
      refine br_t (nI_lt (by omega) (by omega)) (hr s4 f4 ⟨h1, b4, fun t ht s hs => (r4 t (by omega) s hs).1, fun t ht s hs => (r4 t (by omega) s hs).2⟩ ⟨h2, d4, fun i hi => ?_⟩)
      rw [g4 i (by omega)]; exact h5 i hi
    · rintro m t s4 ht4 ⟨f4, a4, b4, d4, g4, r4⟩ ih
      simp only [VL_X4_movesAll_67]
      rw [b4]
      refine br_f (nI_nlt (by omega) (by omega)) ?_
      refine forL (S := ZS) (fun m' s x => VL_X4_movesAll_78 (VL_X4_movesAll_67 Ret m) Ret m' s R 1 (nI t) x) (fun k s => Fr SRm σ s ∧ zI s 44 45 = nI (14 + 48 * t + 2 * k) ∧ zI s 44 19 = nI tm ∧ zI s 44 28 = nI nt ∧ (∀ i, i < 12 → zI s 1146 i = zI σ R (2 + i)) ∧ (∀ t', t' < t → ∀ k, k < 24 → zI s (160 + 1 + t') k = sg t' k ∧ zI s (362 + 1 + t') k = al t' k) ∧ ∀ k', k' < k → zI s (160 + 1 + t) k' = sg t k' ∧ zI s (362 + 1 + t) k' = al t k') 24 ?_ ?_ 0 s4 (Nat.zero_le _) ⟨f4, a4, b4, d4, g4, r4, fun k' h' => absurd h' (Nat.not_lt_zero _)⟩
      · rintro m' s5 ⟨f5, a5, b5, d5, g5, r5, q5⟩
        simp only [VL_X4_movesAll_78]
        simp only [nI1]
        refine br_f (by decide) (nm_e (ih s5 ⟨f5, by rw [show 14 + 48 * (t + 1) = 14 + 48 * t + 2 * 24 by omega]; exact a5, b5, d5, g5, fun t' h' k hk => ?_⟩))
        by_cases e : t' = t
        · rw [e]; exact q5 k hk
        · exact r5 t' (by omega) k hk
      · rintro m' k s5 hk ⟨f5, a5, b5, d5, g5, r5, q5⟩ ih2
        have hv := h6 t (by omega) k hk
        simp only [VL_X4_movesAll_78]
        simp only [nI1, ix_nI (show t < 2 ^ 31 by omega), ix_nI (show k < 2 ^ 31 by omega)]
        refine br_t (nI_lt (b := 24) hk (by decide)) ⟨vin (by omega) (by decide), vin (by omega) (by decide), vin hk (by decide), ?_⟩
        refine m_puts1 kR hR4 (by omega) a5 ⟨vin hk (by decide), nm_e ?_⟩
        rw [f5.1 R _ (cR _), hv.1]
        have c1 : SRm (cd (160 + 1 + t) k) := by unfold SRm cd; rw [if_neg (by omega), if_neg (by omega)]; omega
        have c2 : SRm (cd (362 + 1 + t) k) := by unfold SRm cd; rw [if_neg (by omega), if_neg (by omega)]; omega
        have f6 := (f5.sI 44 45 (nI (14 + 48 * t + 2 * k + 1)) (.inl rfl)).sI (160 + 1 + t) k (sg t k) c1
        have a6 : zI (sI (sI s5 44 45 (nI (14 + 48 * t + 2 * k + 1))) (160 + 1 + t) k (sg t k)) 44 45 = nI (14 + 48 * t + 2 * k + 1) := by rw [zI_ne _ (.inl (by omega)), zI_self]
        refine ⟨vin (by omega) (by decide), vin (by omega) (by decide), vin hk (by decide), ?_⟩
        refine m_puts1 kR hR4 (by omega) a6 ⟨vin hk (by decide), nm_e (nm_e ?_)⟩
        rw [f6.1 R _ (cR _), hv.2]
        have f7 := (f6.sI 44 45 (nI (14 + 48 * t + 2 * k + 1 + 1)) (.inl rfl)).sI (362 + 1 + t) k (al t k) c2
        have u : ∀ a i, a ≠ 160 + 1 + t → a ≠ 362 + 1 + t → ¬ (a = 44 ∧ i = 45) → zI (sI (sI (sI (sI s5 44 45 (nI (14 + 48 * t + 2 * k + 1))) (160 + 1 + t) k (sg t k)) 44 45 (nI (14 + 48 * t + 2 * k + 1 + 1))) (362 + 1 + t) k (al t k)) a i = zI s5 a i := fun a i e1 e2 e3 => by
          have : a ≠ 44 ∨ i ≠ 45 := by by_cases e4 : a = 44; exact .inr fun e5 => e3 ⟨e4, e5⟩; exact .inl e4
          rw [zI_ne _ (.inl e2), zI_ne _ this, zI_ne _ (.inl e1), zI_ne _ this]
        refine ih2 _ ⟨f7, ?_, ?_, ?_, fun i hi => ?_, fun t' h' k' hk' => ?_, fun k' hk' => ?_⟩
        · rw [zI_ne _ (.inl (by omega)), zI_self]; rfl
        · rw [u _ _ (by omega) (by omega) (by decide)]; exact b5
        · rw [u _ _ (by omega) (by omega) (by decide)]; exact d5
        · rw [u _ _ (by omega) (by omega) (by omega)]; exact g5 i hi
        · rw [u _ _ (by omega) (by omega) (by omega), u _ _ (by omega) (by omega) (by omega)]; exact r5 t' h' k' hk'
        · rw [zI_ne _ (.inl (by omega)), zI_ne _ (.inl (by omega)), zI_row, zI_row, zI_ne _ (.inl (by omega)), zI_ne _ (.inl (by omega)), zI_ne _ (.inl (by omega)), zI_ne _ (.inl (by omega))]
          by_cases e : k' = k
          · rw [if_pos e, if_pos e, e]; exact ⟨rfl, rfl⟩
          · rw [if_neg e, if_neg e]; exact q5 k' (by omega)
  · rintro m k s3 hk ⟨f3, a3, b3, d3, g3⟩ ih
    simp only [VL_X4_movesAll_35]
    simp only [nI1, ix_nI (show k < 2 ^ 31 by omega)]
    refine br_t (nI_lt (b := 12) hk (by decide)) ⟨vin hk (by decide), m_puts1 kR hR4 (by omega) a3 ⟨vin hk (by decide), nm_e (nm_e ?_)⟩⟩
    rw [f3.1 R _ (cR _)]
    refine ih _ ⟨(f3.sI 44 45 _ (.inl rfl)).sI 1146 k _ (.inr (.inr (.inr (.inl rfl)))), ?_, ?_, ?_, fun i hi => ?_⟩
    · rw [zI_ne _ (.inl (by decide)), zI_self]; rfl
    · rw [zI_ne _ (.inl (by decide)), zI_ne _ (.inr (by decide))]; exact b3
    · rw [zI_ne _ (.inl (by decide)), zI_ne _ (.inr (by decide))]; exact d3
    · rw [zI_row, zI_ne _ (.inl (by decide))]
      by_cases e : i = k
      · rw [if_pos e, e]
      · rw [if_neg e]; exact g3 i (by omega)
