/-! PURE HALF: a town: the model, whole. -/
set_option maxRecDepth 100000
/-- codes a town may write in the model -/
def SMw (c : Nat) : Prop := SRc c ∨ c = 1000000 ∨ c = 1000001 ∨ c = 1000002 ∨ c = 1000003
def SMt (c : Nat) : Prop := SMw c ∨ c = 47 ∨ (66 ≤ c ∧ c < 82) ∨ (108 ≤ c ∧ c < 132) ∨ (146 ≤ c ∧ c < 158) ∨ c = 161 ∨ c = 363 ∨ c = 1000019 ∨ c = 1000027 ∨ c = 1000028 ∨ c = 1000029 ∨ (570 ≤ c ∧ c < 1146)
theorem cd2 (a i : Nat) (h : a ≠ 44) : cd a i = a ∨ cd a i = 2000000 + i := by
  unfold cd; rw [if_neg h]; split
  · exact .inr rfl
  · exact .inl rfl
theorem KP1 : (∀ s, kK NS s 48 = (4, 16)) ∧ (∀ s, kK NS s 65 = (4, 16)) ∧ (∀ s k, k < 16 → kP NS s 48 k = some (.inl (48 + 1 + k))) ∧ (∀ s k, k < 16 → kP NS s 65 k = some (.inl (65 + 1 + k))) ∧ (∀ s k, k < 16 → kK NS s (48 + 1 + k) = (0, 2)) ∧ (∀ s k, k < 16 → kK NS s (65 + 1 + k) = (0, 2)) := by
  have p1 : ∀ k : Fin 16, Pst 48 k.1 = some (48 + 1 + k.1) ∧ Pst 65 k.1 = some (65 + 1 + k.1) ∧ Kst (48 + 1 + k.1) = (0, 2) ∧ Kst (65 + 1 + k.1) = (0, 2) := by decide
  have q : ∀ s a i b, a < NS → Pst a i = some b → kP NS s a i = some (.inl b) := fun s a i b h1 h2 => by unfold kP; rw [if_pos h1, h2]
  have r : ∀ s a, a < 1239 → kK NS s a = Kst a := fun s a h1 => by unfold kK; rw [if_pos (show a < NS from h1)]
  exact ⟨fun s => r s _ (by decide), fun s => r s _ (by decide), fun s k hk => q s _ _ _ (by decide) (p1 ⟨k, hk⟩).1, fun s k hk => q s _ _ _ (by decide) (p1 ⟨k, hk⟩).2.1, fun s k hk => by rw [r s _ (by omega)]; exact (p1 ⟨k, hk⟩).2.2.1, fun s k hk => by rw [r s _ (by omega)]; exact (p1 ⟨k, hk⟩).2.2.2⟩
theorem KP2 : (∀ s, kK NS s 82 = (4, 24)) ∧ (∀ s, kK NS s 107 = (4, 24)) ∧ (∀ s k, k < 24 → kP NS s 82 k = some (.inl (82 + 1 + k))) ∧ (∀ s k, k < 24 → kP NS s 107 k = some (.inl (107 + 1 + k))) ∧ (∀ s k, k < 24 → kK NS s (82 + 1 + k) = (0, 4)) ∧ (∀ s k, k < 24 → kK NS s (107 + 1 + k) = (0, 4)) := by
  have p1 : ∀ k : Fin 24, Pst 82 k.1 = some (82 + 1 + k.1) ∧ Pst 107 k.1 = some (107 + 1 + k.1) ∧ Kst (82 + 1 + k.1) = (0, 4) ∧ Kst (107 + 1 + k.1) = (0, 4) := by decide
  have q : ∀ s a i b, a < NS → Pst a i = some b → kP NS s a i = some (.inl b) := fun s a i b h1 h2 => by unfold kP; rw [if_pos h1, h2]
  have r : ∀ s a, a < 1239 → kK NS s a = Kst a := fun s a h1 => by unfold kK; rw [if_pos (show a < NS from h1)]
  exact ⟨fun s => r s _ (by decide), fun s => r s _ (by decide), fun s k hk => q s _ _ _ (by decide) (p1 ⟨k, hk⟩).1, fun s k hk => q s _ _ _ (by decide) (p1 ⟨k, hk⟩).2.1, fun s k hk => by rw [r s _ (by omega)]; exact (p1 ⟨k, hk⟩).2.2.1, fun s k hk => by rw [r s _ (by omega)]; exact (p1 ⟨k, hk⟩).2.2.2⟩
theorem KP3 : (∀ s, kK NS s 132 = (4, 12)) ∧ (∀ s, kK NS s 145 = (4, 12)) ∧ (∀ s k, k < 12 → kP NS s 132 k = some (.inl (132 + 1 + k))) ∧ (∀ s k, k < 12 → kP NS s 145 k = some (.inl (145 + 1 + k))) ∧ (∀ s k, k < 12 → kK NS s (132 + 1 + k) = (0, 3)) ∧ (∀ s k, k < 12 → kK NS s (145 + 1 + k) = (0, 3)) := by
  have p1 : ∀ k : Fin 12, Pst 132 k.1 = some (132 + 1 + k.1) ∧ Pst 145 k.1 = some (145 + 1 + k.1) ∧ Kst (132 + 1 + k.1) = (0, 3) ∧ Kst (145 + 1 + k.1) = (0, 3) := by decide
  have q : ∀ s a i b, a < NS → Pst a i = some b → kP NS s a i = some (.inl b) := fun s a i b h1 h2 => by unfold kP; rw [if_pos h1, h2]
  have r : ∀ s a, a < 1239 → kK NS s a = Kst a := fun s a h1 => by unfold kK; rw [if_pos (show a < NS from h1)]
  exact ⟨fun s => r s _ (by decide), fun s => r s _ (by decide), fun s k hk => q s _ _ _ (by decide) (p1 ⟨k, hk⟩).1, fun s k hk => q s _ _ _ (by decide) (p1 ⟨k, hk⟩).2.1, fun s k hk => by rw [r s _ (by omega)]; exact (p1 ⟨k, hk⟩).2.2.1, fun s k hk => by rw [r s _ (by omega)]; exact (p1 ⟨k, hk⟩).2.2.2⟩
/-- what is laid behind the reading -/
theorem MT_0 {P : PT} {σ s : ZS} (h : MQt P σ) (e47 : ∀ i, i < 4 → zI s 47 i = zI σ 46 i) (ec : ∀ k j, k < 16 → j < 2 → zI s (65 + 1 + k) j = zI σ (48 + 1 + k) j) (es : ∀ k j, k < 24 → j < 4 → zI s (107 + 1 + k) j = zI σ (82 + 1 + k) j) (er : ∀ k j, k < 12 → j < 3 → zI s (145 + 1 + k) j = zI σ (132 + 1 + k) j) : MT (fTc P.T 0) (sI s 44 27 0) := by
  have w := h.pw.1
  have hnc := w.nc; have hns := w.ns; have hnr := w.nr
  have q : ∀ a i, a ≠ 44 → zI (sI s 44 27 0) a i = zI s a i := fun a i ha => zI_ne _ (.inl ha)
  refine ⟨(WF_fTc w (Nat.zero_le _)).1, ?_, ?_, ?_, ?_, ?_, ?_, ?_, ?_, ?_, ?_, ?_, ?_, ?_, ?_, ?_, ?_⟩
  · show zI _ 47 0 = nI P.T.nc; rw [q _ _ (by decide), e47 _ (by decide)]; exact h.m0
  · show zI _ 47 1 = nI P.T.ns; rw [q _ _ (by decide), e47 _ (by decide)]; exact h.m1
  · show zI _ 47 2 = P.T.bx; rw [q _ _ (by decide), e47 _ (by decide)]; exact h.m2
  · show zI _ 47 3 = nI P.T.nr; rw [q _ _ (by decide), e47 _ (by decide)]; exact h.m3
  · show ∀ i, i < P.T.nc → zI _ (65 + 1 + i) 0 = P.T.cx i
    exact fun i hi => by rw [q _ _ (by omega), ec _ _ (by omega) (by decide)]; exact h.cx i hi
  · show ∀ i, i < P.T.nc → zI _ (65 + 1 + i) 1 = P.T.cy i
    exact fun i hi => by rw [q _ _ (by omega), ec _ _ (by omega) (by decide)]; exact h.cy i hi
  · show ∀ i, i < P.T.ns → zI _ (107 + 1 + i) 0 = nI (P.T.sf i)
    exact fun i hi => by rw [q _ _ (by omega), es _ _ (by omega) (by decide)]; exact h.sf i hi
  · show ∀ i, i < P.T.ns → zI _ (107 + 1 + i) 1 = nI (P.T.st i)
    exact fun i hi => by rw [q _ _ (by omega), es _ _ (by omega) (by decide)]; exact h.st i hi
  · show ∀ i, i < P.T.ns → zI _ (107 + 1 + i) 2 = nI (P.T.sl i)
    exact fun i hi => by rw [q _ _ (by omega), es _ _ (by omega) (by decide)]; exact h.sl i hi
  · show ∀ i, i < P.T.ns → zI _ (107 + 1 + i) 3 = b2i (P.T.so i)
    exact fun i hi => by rw [q _ _ (by omega), es _ _ (by omega) (by decide)]; exact h.so i hi
  · show ∀ i, i < P.T.nr → zI _ (145 + 1 + i) 0 = nI (P.T.rf i)
    exact fun i hi => by rw [q _ _ (by omega), er _ _ (by omega) (by decide)]; exact h.rf i hi
  · show ∀ i, i < P.T.nr → zI _ (145 + 1 + i) 1 = nI (P.T.rt i)
    exact fun i hi => by rw [q _ _ (by omega), er _ _ (by omega) (by decide)]; exact h.rt i hi
  · show ∀ i, i < P.T.nr → zI _ (145 + 1 + i) 2 = nI (P.T.rb i)
    exact fun i hi => by rw [q _ _ (by omega), er _ _ (by omega) (by decide)]; exact h.rb i hi
  · exact zI_self _ _ _ _
  · exact fun k hk => absurd (show k < 0 from hk) (Nat.not_lt_zero _)
  · exact fun k hk => absurd (show k < 0 from hk) (Nat.not_lt_zero _)
theorem m_168 {P : PT} {σ : ZS} (h : MQt P σ) {Ret : Int32 → ZS → Prop} (hr : ∀ s, Fr SMt σ s → MT (fT P.T) s → MH 0 (fun _ => P.sg) (fun _ => P.al) s → zI s 44 28 = 0 → zI s 44 29 = 0 → (∀ j, j < 19 → zI s 44 j = zI σ 44 j) → zI s 44 54 = zI σ 44 54 → Ret (nI P.T.nc) s) : V_X4_town_168 Ret σ 0 := by
  have w := h.pw.1
  have hc1 := KP1; have hc2 := KP2; have hc3 := KP3
  refine forL (S := ZS) (fun m s x => VL_X4_town_168 Ret m s x) (fun k s => Fr (fun c => c = 47) σ s ∧ ∀ i, i < k → zI s 47 i = zI σ 46 i) 4 ?_ ?_ 0 σ (Nat.zero_le _) ⟨Fr.rfl, fun i hi => absurd hi (Nat.not_lt_zero _)⟩
  · rintro m s0 ⟨f0, g0⟩
    simp only [VL_X4_town_168]
    refine br_f (by decide) ?_
    refine m_copies (A := 48) (B := 65) (N := 16) (M := 2) (by decide) (by decide) (by decide) (by decide) (by decide) hc1.1 hc1.2.1 hc1.2.2.1 hc1.2.2.2.1 hc1.2.2.2.2.1 hc1.2.2.2.2.2 fun s1 f1 g1 => ?_
    refine m_copies (A := 82) (B := 107) (N := 24) (M := 4) (by decide) (by decide) (by decide) (by decide) (by decide) hc2.1 hc2.2.1 hc2.2.2.1 hc2.2.2.2.1 hc2.2.2.2.2.1 hc2.2.2.2.2.2 fun s2 f2 g2 => ?_
    refine m_copies (A := 132) (B := 145) (N := 12) (M := 3) (by decide) (by decide) (by decide) (by decide) (by decide) hc3.1 hc3.2.1 hc3.2.2.1 hc3.2.2.2.1 hc3.2.2.2.2.1 hc3.2.2.2.2.2 fun s3 f3 g3 => nm_e ?_
    have e3 : Fr (fun c => c = 47 ∨ (66 ≤ c ∧ c < 82) ∨ (108 ≤ c ∧ c < 132) ∨ (146 ≤ c ∧ c < 158)) σ s3 := ((f0.mono (fun c hc => .inl hc)).trans (f1.mono (fun c hc => .inr (.inl hc)))).trans ((f2.mono (fun c hc => .inr (.inr (.inl hc)))).trans (f3.mono (fun c hc => .inr (.inr (.inr hc)))))
    have nc : ∀ (a i : Nat), a ≠ 0 → a ≠ 44 → cd a i = a := fun a i h0 h4 => by unfold cd; rw [if_neg h4, if_neg h0]
    have A1 : ∀ i, i < 4 → zI s3 47 i = zI σ 46 i := fun i hi => by
      rw [f3.1 47 i (by rw [nc _ _ (by decide) (by decide)]; omega), f2.1 47 i (by rw [nc _ _ (by decide) (by decide)]; omega), f1.1 47 i (by rw [nc _ _ (by decide) (by decide)]; omega)]; exact g0 i hi
    have A2 : ∀ k j, k < 16 → j < 2 → zI s3 (65 + 1 + k) j = zI σ (48 + 1 + k) j := fun k j hk hj => by
      rw [f3.1 _ j (by rw [nc _ _ (by omega) (by omega)]; omega), f2.1 _ j (by rw [nc _ _ (by omega) (by omega)]; omega), g1 k j hk hj, f0.1 _ j (by rw [nc _ _ (by omega) (by omega)]; omega)]
    have A3 : ∀ k j, k < 24 → j < 4 → zI s3 (107 + 1 + k) j = zI σ (82 + 1 + k) j := fun k j hk hj => by
      rw [f3.1 _ j (by rw [nc _ _ (by omega) (by omega)]; omega), g2 k j hk hj, f1.1 _ j (by rw [nc _ _ (by omega) (by omega)]; omega), f0.1 _ j (by rw [nc _ _ (by omega) (by omega)]; omega)]
    have A4 : ∀ k j, k < 12 → j < 3 → zI s3 (145 + 1 + k) j = zI σ (132 + 1 + k) j := fun k j hk hj => by
      rw [g3 k j hk hj, f2.1 _ j (by rw [nc _ _ (by omega) (by omega)]; omega), f1.1 _ j (by rw [nc _ _ (by omega) (by omega)]; omega), f0.1 _ j (by rw [nc _ _ (by omega) (by omega)]; omega)]
    clear f0 f1 f2 f3 g0 g1 g2 g3
    have f4 : Fr (fun c => c = 47 ∨ (66 ≤ c ∧ c < 82) ∨ (108 ≤ c ∧ c < 132) ∨ (146 ≤ c ∧ c < 158) ∨ c = 1000019 ∨ c = 161 ∨ c = 363) σ (sI s3 44 19 0) := (e3.mono (fun c hc => by omega)).sI 44 19 0 (.inr (.inr (.inr (.inr (.inl rfl)))))
    have w4 : Fr (fun c => c = 1000019 ∨ c = 161 ∨ c = 363) s3 (sI s3 44 19 0) := Fr.rfl.sI 44 19 0 (.inl rfl)
    have t4 : zI (sI s3 44 19 0) 44 19 = 0 := zI_self _ _ _ _
    generalize sI s3 44 19 0 = s4 at f4 w4 t4
    refine forL (S := ZS) (fun m s x => VL_X4_town_231 Ret m s x) (fun k s => Fr (fun c => c = 161 ∨ c = 363) s4 s ∧ ∀ i, i < k → zI s 161 i = P.sg i ∧ zI s 363 i = P.al i) 24 ?_ ?_ 0 s4 (Nat.zero_le _) ⟨Fr.rfl, fun i hi => absurd hi (Nat.not_lt_zero _)⟩
    · rintro m s5 ⟨f5, g5⟩
      simp only [VL_X4_town_231]
      refine br_f (by decide) (nm_e (nm_e ?_))
      have w5 := w4.trans (f5.mono (fun c hc => .inr hc))
      have v : ∀ a i, a < 570 → a ≠ 44 → a ≠ 161 → a ≠ 363 → zI (sI (sI s5 44 28 0) 44 29 0) a i = zI s3 a i := fun a i h0 h1 h2 h3 => by
        rw [zI_ne _ (.inl h1), zI_ne _ (.inl h1), w5.1 a i (by rcases cd2 a i h1 with e | e <;> rw [e] <;> omega)]
      have mt := MT_0 (s := sI (sI s5 44 28 0) 44 29 0) h (fun i hi => (v 47 i (by decide) (by decide) (by decide) (by decide)).trans (A1 i hi)) (fun k j hk hj => (v _ j (by omega) (by omega) (by omega) (by omega)).trans (A2 k j hk hj)) (fun k j hk hj => (v _ j (by omega) (by omega) (by omega) (by omega)).trans (A3 k j hk hj)) (fun k j hk hj => (v _ j (by omega) (by omega) (by omega) (by omega)).trans (A4 k j hk hj))
      refine m_findLefts w mt fun s6 f6 mt6 => ?_
      have fa : Fr SMt σ s6 := by
        refine ((((f4.mono (fun c hc => ?_)).trans (f5.mono (fun c hc => ?_))).sI 44 28 0 ?_).sI 44 29 0 ?_).trans (f6.mono (fun c hc => ?_))
        · unfold SMt; omega
        · unfold SMt; omega
        · unfold SMt cd; simp
        · unfold SMt cd; simp
        · unfold SLf at hc; unfold SMt; omega
      have u : ∀ a i, a ≠ 44 → a < 570 → zI s6 a i = zI s5 a i := fun a i h1 h2 => by
        rw [f6.1 a i (by unfold SLf; rcases cd2 a i h1 with e | e <;> rw [e] <;> omega), zI_ne _ (.inl h1), zI_ne _ (.inl h1)]
      have u4 : ∀ j, j ≠ 27 → j ≠ 28 → j ≠ 29 → j < 100 → zI s6 44 j = zI s4 44 j := fun j h7 h8 h9 hj => by
        rw [f6.1 44 j (by unfold SLf cd; rw [if_pos rfl]; omega), zI_ne _ (.inr h9), zI_ne _ (.inr h8), f5.1 44 j (by unfold cd; rw [if_pos rfl]; omega)]
      have u5 : ∀ j, j ≠ 19 → j < 100 → zI s4 44 j = zI σ 44 j := fun j h1 hj => f4.1 44 j (by unfold cd; rw [if_pos rfl]; omega)
      have em : zI s6 47 (ix 0) = nI P.T.nc := by rw [ix0]; exact mt6.m0
      rw [em]
      refine hr s6 fa mt6 ⟨by decide, ?_, fun t ht s hs => ?_, fun t ht s hs => ?_⟩ ?_ ?_ (fun j hj => ?_) ?_
      · rw [u4 19 (by decide) (by decide) (by decide) (by decide)]; exact t4
      · have : t = 0 := by omega
        subst this
        rw [u _ _ (by decide) (by decide)]; exact (g5 s hs).1
      · have : t = 0 := by omega
        subst this
        rw [u _ _ (by decide) (by decide)]; exact (g5 s hs).2
      · rw [f6.1 44 28 (by unfold SLf cd; simp), zI_ne _ (.inr (by decide)), zI_self]
      · rw [f6.1 44 29 (by unfold SLf cd; simp), zI_self]
      · rw [u4 j (by omega) (by omega) (by omega) (by omega), u5 j (by omega) (by omega)]
      · rw [u4 54 (by decide) (by decide) (by decide) (by decide), u5 54 (by decide) (by decide)]
    · rintro m k s hk ⟨f, g⟩ ih
      simp only [VL_X4_town_231]
      simp only [nI1, ix_nI (show k < 2 ^ 31 by omega), ix0]
      have e1 : ∀ s', Fr (fun c => c = 161 ∨ c = 363) s4 s' → zI s' 158 k = P.sg k := fun s' f' => by
        rw [f'.1 158 k (by rw [nc _ _ (by decide) (by decide)]; omega), f4.1 158 k (by rw [nc _ _ (by decide) (by decide)]; omega)]; exact h.sg k hk
      have e2 : ∀ s', Fr (fun c => c = 161 ∨ c = 363) s4 s' → zI s' 159 k = P.al k := fun s' f' => by
        rw [f'.1 159 k (by rw [nc _ _ (by decide) (by decide)]; omega), f4.1 159 k (by rw [nc _ _ (by decide) (by decide)]; omega)]; exact h.al k hk
      have fb := f.sI (160 + 1 + 0) k (P.sg k) (.inl rfl)
      rw [e1 s f]
      refine br_t (nI_lt (b := 24) hk (by decide)) ⟨vin hk (by decide), vin hk (by decide), nm_e ⟨vin hk (by decide), vin hk (by decide), nm_e (nm_e ?_)⟩⟩
      rw [e2 _ fb]
      refine ih _ ⟨fb.sI (362 + 1 + 0) k _ (.inr rfl), fun i hi => ?_⟩
      show zI (sI (sI s 161 k (P.sg k)) 363 k (P.al k)) 161 i = _ ∧ zI (sI (sI s 161 k (P.sg k)) 363 k (P.al k)) 363 i = _
      rw [zI_ne _ (.inl (by decide)), zI_row, zI_row]
      by_cases e : i = k
      · rw [if_pos e, if_pos e, e]; exact ⟨rfl, rfl⟩
      · rw [if_neg e, if_neg e, zI_ne _ (.inl (by decide))]; exact g i (by omega)
  · rintro m k s hk ⟨f, g⟩ ih
    simp only [VL_X4_town_168]
    simp only [nI1, ix_nI (show k < 2 ^ 31 by omega)]
    refine br_t (nI_lt (b := 4) hk (by decide)) ⟨vin hk (by decide), vin hk (by decide), nm_e (nm_e (ih _ ⟨f.sI 47 k _ rfl, fun i hi => ?_⟩))⟩
    rw [zI_row, f.1 46 k (by unfold cd; simp)]
    by_cases e : i = k
    · rw [if_pos e, e]
    · rw [if_neg e]; exact g i (by omega)
