/-! PURE HALF: the start: what holds ahead of the first call. -/
set_option maxRecDepth 100000
def AD0 : Ad := Ad.mk 1 2 3 (fun _ => 0) 4 5 (fun _ => 0) 6 7 (fun _ => 0) 10 11
theorem iv_start {s : ZS} {M : Nat} (h : Bs s 1239 [] [(44, 54), (44, 3), (0, 36), (0, 3)] M) (hM : M ≤ 1000000) : Iv 64 s := by
  obtain ⟨h1, h2, h3, h4, h5, h6, h7⟩ := h
  have z0 : ∀ b i, b ≠ 0 → b ≠ 44 → zI s b i = 0 := fun b i a c => by
    rw [h5, if_neg (by simp; omega)]
  have kS : ∀ a, a < 1239 → kK NS s a = Kst a := fun a ha => by unfold kK; rw [if_pos (show a < NS from ha)]
  have pS : ∀ a i b, a < NS → Pst a i = some b → kP NS s a i = some (.inl b) := fun a i b h1 h2 => by unfold kP; rw [if_pos h1, h2]
  have v : ∀ {P : Nat → Prop}, ∀ i, i < 0 → P i := fun i hi => absurd hi (Nat.not_lt_zero _)
  have lst : ∀ l e ki : Nat, okA l → okA e → Kst l = (16, 0) → Kst e = (6, 2) ∨ Kst e = (6, 1) → l < 12 → e < 12 → l ≠ 0 → Pst l 1 = some e → LSt s l e 0 ki (fun _ => 0) := fun l e ki a1 a2 a3 a4 a5 a6 a7 a8 => by
    refine ⟨a1, a2, ⟨0, by rw [kS l (by omega)]; exact a3⟩, z0 l 2 a7 (by omega), pS l 1 e (by show l < 1239; omega) a8, ?_, fun i hi => absurd hi (Nat.not_lt_zero _)⟩
    rcases a4 with a4 | a4
    · exact ⟨2, by rw [kS e (by omega)]; exact a4, by decide, by decide⟩
    · exact ⟨1, by rw [kS e (by omega)]; exact a4, by decide, by decide⟩
  have ok : ∀ a, 1 ≤ a → a < 12 → okA a := fun a h1 h2 => .inl ⟨h1, h2⟩
  have ct : CT T0 (AD0) s := by
    refine ⟨WF_0, ?_, ok _ (by decide) (by decide), ⟨0, (kS 1 (by decide)).trans rfl⟩, pS 1 0 2 (by decide) rfl, pS 1 1 4 (by decide) rfl, pS 1 2 6 (by decide) rfl, pS 1 5 10 (by decide) rfl, pS 1 6 11 (by decide) rfl, (kS 10 (by decide)).trans rfl, (kS 11 (by decide)).trans rfl, ok _ (by decide) (by decide), ok _ (by decide) (by decide), lst 2 3 13 (ok _ (by decide) (by decide)) (ok _ (by decide) (by decide)) rfl (.inl rfl) (by decide) (by decide) (by decide) rfl, lst 4 5 14 (ok _ (by decide) (by decide)) (ok _ (by decide) (by decide)) rfl (.inl rfl) (by decide) (by decide) (by decide) rfl, lst 6 7 15 (ok _ (by decide) (by decide)) (ok _ (by decide) (by decide)) rfl (.inr rfl) (by decide) (by decide) (by decide) rfl, z0 1 7 (by decide) (by decide), z0 1 8 (by decide) (by decide), ?_, ?_, ?_, ?_, ?_, ?_, ?_, ?_, ?_, ?_, ?_⟩
    · rw [h4, if_pos ⟨by decide, rfl⟩]; rfl
    all_goals exact fun i hi => absurd (show i < 0 from hi) (Nat.not_lt_zero _)
  have mt : MT T0 s := by
    refine ⟨WF_0, z0 47 0 (by decide) (by decide), z0 47 1 (by decide) (by decide), z0 47 2 (by decide) (by decide), z0 47 3 (by decide) (by decide), ?_, ?_, ?_, ?_, ?_, ?_, ?_, ?_, ?_, ?_, ?_, ?_⟩
    case refine_10 => rw [h5]; decide
    all_goals exact fun i hi => absurd (show i < 0 from hi) (Nat.not_lt_zero _)
  have e0 : ∀ i, i = 2 ∨ i = 4 ∨ i = 9 → zI s 0 i = 0 := fun i hi => by rw [h5, if_neg (by simp; omega)]
  have e4 : ∀ i, i = 1 ∨ i = 19 ∨ i = 28 ∨ i = 29 → zI s 44 i = 0 := fun i hi => by rw [h5, if_neg (by simp; omega)]
  refine ⟨T0, AD0, (0, fun _ _ => 0, fun _ _ => 0, 0, fun _ => 0), ((0, fun _ => 0), (0, fun _ => (0, fun _ _ => 0, fun _ _ => 0, 0, fun _ => 0)), -1), ⟨ct, ⟨⟨by decide, z0 12 3 (by decide) (by decide), fun t _ k _ => z0 13 _ (by decide) (by decide), fun t _ k _ => z0 14 _ (by decide) (by decide)⟩, ⟨by decide, z0 12 4 (by decide) (by decide), fun i hi => absurd hi (Nat.not_lt_zero _)⟩⟩, ⟨by decide, e0 2 (by decide), fun i hi => absurd hi (Nat.not_lt_zero _)⟩, ⟨by decide, e0 4 (by decide), fun i hi => .inl ?_, fun i j q hi hj hp => ?_, fun i hi => absurd hi (Nat.not_lt_zero _)⟩, ?_⟩, ⟨mt, ⟨⟨by decide, e4 19 (by decide), fun t ht k _ => z0 _ _ (by omega) (by omega), fun t ht k _ => z0 _ _ (by omega) (by omega)⟩, ⟨by decide, e4 28 (by decide), fun i hi => absurd hi (Nat.not_lt_zero _)⟩⟩, ⟨by decide, e4 1 (by decide), fun i hi => absurd hi (Nat.not_lt_zero _)⟩, ⟨by decide, e4 29 (by decide), fun i hi => absurd hi (Nat.not_lt_zero _)⟩, ?_⟩, ⟨⟨e0 9 (by decide), fun k _ => z0 18 k (by decide) (by decide), fun k _ => z0 19 k (by decide) (by decide)⟩, ?_⟩, ?_, fun i hi => absurd hi (Nat.not_lt_zero _), ?_⟩
  · rw [h4]
    have : PRs 17 i = none := rfl
    rw [this]; simp
  · rw [h4] at hp
    have : PRs 17 i = none := rfl
    rw [this] at hp; simp at hp
  · rw [h5]; decide
  · rw [h5]; decide
  · rw [h5]; decide
  · rw [h5]; decide
  · refine ⟨by rw [h1]; exact Nat.le_refl _, fun a ha => ?_, by rw [h1]; decide, by rw [h2]; omega⟩
    rw [h3, if_neg (by omega)]
