/-! PURE HALF: a new reader, a town: the class. -/
set_option maxRecDepth 100000
def rdA0 (z : Nat) : Ad := Ad.mk (z + 1) (z + 2) (z + 3) (fun _ => 0) (z + 4) (z + 5) (fun _ => 0) (z + 6) (z + 7) (fun _ => 0) (z + 10) (z + 11)
def rdS0 (σ : ZS) (x : Int32) : ZS := sI (sP (sP (twS (sA (sA σ (11, 0) 5) (8, 0) 10) (zt σ + 1)) (zt σ) 4 (some (.inl (zt σ + 1)))) (zt σ) 0 (some (.inl 16))) (zt σ) 1 x
theorem rd_K (σ : ZS) (x : Int32) (b : Nat) : zK (rdS0 σ x) b = zK (twS (sA (sA σ (11, 0) 5) (8, 0) 10) (zt σ + 1)) b := rfl
theorem rd_I (σ : ZS) (x : Int32) (b i : Nat) : zI (rdS0 σ x) b i = if b = zt σ ∧ i = 1 then x else zI (twS (sA (sA σ (11, 0) 5) (8, 0) 10) (zt σ + 1)) b i := rfl
theorem rd_P (σ : ZS) (x : Int32) (b i : Nat) : zP (rdS0 σ x) b i = if b = zt σ ∧ i = 0 then some (.inl 16) else if b = zt σ ∧ i = 4 then some (.inl (zt σ + 1)) else zP (twS (sA (sA σ (11, 0) 5) (8, 0) 10) (zt σ + 1)) b i := rfl
theorem c_rd0 {σ : ZS} (hz : 1239 ≤ zt σ) (rm : zt σ + 30 ≤ 160000 ∧ zn σ + 1400 ≤ 8000000) {x : Int32} {Ret : ZS → Prop} (hr : Ret (rdS0 σ x)) : wp_X5_init (sA σ (11, 0) 5) (zt σ) 16 x Ret := by
  unfold wp_X5_init
  have z1 : zt (sA σ (11, 0) 5) = zt σ + 1 := rfl
  have m1 : zn (sA σ (11, 0) 5) = zn σ + 5 := rfl
  have z2 : zt (sA (sA σ (11, 0) 5) (8, 0) 10) = zt σ + 2 := rfl
  have m2 : zn (sA (sA σ (11, 0) 5) (8, 0) 10) = zn σ + 15 := rfl
  rw [z1, m1]
  refine ⟨⟨by show 1239 ≤ _; omega, by show _ ≤ 160000; omega, by show _ ≤ 8000000; omega⟩, nm_e (c_newTown (by omega) (by rw [qK_sA, z1, if_pos rfl]) (by omega) (by omega) ?_)⟩
  have kr : ∃ q, kK NS (twS (sA (sA σ (11, 0) 5) (8, 0) 10) (zt σ + 1)) (zt σ) = (11, q) := ⟨0, by
    rw [kK_dyn hz, twS_K, z2, if_neg (by omega), if_neg (by omega), if_neg (by omega), if_neg (by omega), if_neg (by omega), if_neg (by omega), if_neg (by omega), if_neg (by omega), if_neg (by omega), if_neg (by omega), qK_sA, if_neg (by rw [z1]; omega), qK_sA, if_pos rfl]⟩
  exact ⟨kr, hz, nm_e ⟨kr, hz, nm_e ⟨kr, nm_e hr⟩⟩⟩
theorem rd_RS {σ : ZS} (hz : 1239 ≤ zt σ) (hb : zt σ + 20 ≤ 160000) (fr : ∀ a, zt σ ≤ a → zK σ a = (1000, 0)) {n : Nat} {tx : Nat → Int32} (hn : n ≤ 500) (htp : ∀ i, i < n → zI σ 16 i = tx i) (hby : ∀ i, i < n → BY (tx i)) : RS n tx (zt σ) (rdA0 (zt σ)) (zt σ + 8) (zt σ + 9) PT0 (rdS0 σ (nI n)) := by
  have z1 : zt (sA σ (11, 0) 5) = zt σ + 1 := rfl
  have z2 : zt (sA (sA σ (11, 0) 5) (8, 0) 10) = zt σ + 2 := rfl
  have zE : zt (rdS0 σ (nI n)) = zt σ + 12 := rfl
  have K : ∀ b, zK (rdS0 σ (nI n)) b = if b = zt σ + 11 then (0, 576) else if b = zt σ + 10 then (0, 576) else if b = zt σ + 9 then (0, 24) else if b = zt σ + 8 then (0, 24) else if b = zt σ + 7 then (6, 1) else if b = zt σ + 6 then (16, 0) else if b = zt σ + 5 then (6, 2) else if b = zt σ + 4 then (16, 0) else if b = zt σ + 3 then (6, 2) else if b = zt σ + 2 then (16, 0) else if b = zt σ + 1 then (8, 0) else if b = zt σ then (11, 0) else zK σ b := fun b => rfl
  have I0 : ∀ b i, zt σ ≤ b → b < zt σ + 12 → ¬ (b = zt σ ∧ i = 1) → zI (rdS0 σ (nI n)) b i = 0 := fun b i h1 h2 h3 => by
    rw [rd_I, if_neg h3, twS_I, z2]
    by_cases h : zt σ + 2 ≤ b ∧ b < zt σ + 2 + 10
    · rw [if_pos h]
    · rw [if_neg h, qI_sA, z1]
      by_cases h4 : b = zt σ + 1
      · rw [if_pos h4]
      · rw [if_neg h4, qI_sA, if_pos (by omega)]
  have Pt : ∀ b i, zP (rdS0 σ (nI n)) b i = if b = zt σ ∧ i = 0 then some (.inl 16) else if b = zt σ ∧ i = 4 then some (.inl (zt σ + 1)) else zP (twS (sA (sA σ (11, 0) 5) (8, 0) 10) (zt σ + 1)) b i := fun b i => rfl
  have PT' : ∀ b i, b ≠ zt σ → zP (rdS0 σ (nI n)) b i = zP (twS (sA (sA σ (11, 0) 5) (8, 0) 10) (zt σ + 1)) b i := fun b i h => by
    rw [Pt, if_neg (fun k => h k.1), if_neg (fun k => h k.1)]
  have tP := twS_P (sA (sA σ (11, 0) 5) (8, 0) 10) (t := zt σ + 1) (by rw [z2]; omega)
  have kk : ∀ k, k ≤ 11 → zK (rdS0 σ (nI n)) (zt σ + k) = if k = 11 then (0, 576) else if k = 10 then (0, 576) else if k = 9 then (0, 24) else if k = 8 then (0, 24) else if k = 7 then (6, 1) else if k = 6 then (16, 0) else if k = 5 then (6, 2) else if k = 4 then (16, 0) else if k = 3 then (6, 2) else if k = 2 then (16, 0) else if k = 1 then (8, 0) else if k = 0 then (11, 0) else zK σ (zt σ + k) := fun k _ => by
    rw [K]
    simp only [Nat.add_left_cancel_iff]
    congr 11
    by_cases h : k = 0
    · rw [if_pos (by omega), if_pos h]
    · rw [if_neg (by omega), if_neg h]
  have kR : zK (rdS0 σ (nI n)) (zt σ) = (11, 0) := kk 0 (by decide)
  have lst : ∀ l m ki, (l = 2 ∧ m = 2) ∨ (l = 4 ∧ m = 2) ∨ (l = 6 ∧ m = 1) → LS2 (rdS0 σ (nI n)) (zt σ + l) (zt σ + (l + 1)) 0 ki (fun _ => 0) := fun l m ki h => by
    refine ⟨by omega, by omega, ⟨0, ?_⟩, ?_, ?_, ⟨m, ?_, by omega, by omega, by omega⟩, fun i hi => absurd hi (Nat.not_lt_zero _)⟩
    · rcases h with ⟨rfl, rfl⟩ | ⟨rfl, rfl⟩ | ⟨rfl, rfl⟩ <;> exact kk _ (by decide)
    · exact I0 _ _ (by omega) (by omega) (by omega)
    · rw [PT' _ _ (by omega), tP, z2]
      rcases h with ⟨rfl, rfl⟩ | ⟨rfl, rfl⟩ | ⟨rfl, rfl⟩ <;> simp
    · rcases h with ⟨rfl, rfl⟩ | ⟨rfl, rfl⟩ | ⟨rfl, rfl⟩ <;> exact kk _ (by decide)
  have p : ∀ i, zP (rdS0 σ (nI n)) (zt σ + 1) i = if i = 6 then some (.inl (zt σ + 11)) else if i = 5 then some (.inl (zt σ + 10)) else if i = 4 then some (.inl (zt σ + 9)) else if i = 3 then some (.inl (zt σ + 8)) else if i = 2 then some (.inl (zt σ + 6)) else if i = 1 then some (.inl (zt σ + 4)) else if i = 0 then some (.inl (zt σ + 2)) else none := fun i => by
    rw [PT' _ _ (by omega), tP, z2]
    simp
    intros
    rw [qP_sA, z1, if_pos rfl]
  refine ⟨fun a ha => ?_, by omega, by omega, hz, ⟨0, kR⟩, ?_, ?_, ?_, hn, fun i hi => ?_, hby, ⟨WF_0, rfl⟩, ?_, ⟨0, kk 1 (by decide)⟩, p 0, p 1, p 2, p 3, p 4, p 5, p 6, by omega, by omega, ?_, ?_, kk 8 (by decide), kk 9 (by decide), kk 10 (by decide), kk 11 (by decide), by omega, ?_, lst 2 2 13 (by omega), lst 4 2 14 (by omega), lst 6 1 15 (by omega), ?_, ?_, ?_, ?_, ?_, ?_, fun i j hi => absurd hi (Nat.not_lt_zero _), ?_, ?_, ?_, fun s hs => ?_, fun s hs => ?_, fun i hi => absurd hi (Nat.not_lt_zero _), fun i hi => absurd hi (Nat.not_lt_zero _), fun i hi => absurd hi (Nat.not_lt_zero _), fun i hi => absurd hi (Nat.not_lt_zero _), fun i hi => absurd hi (Nat.not_lt_zero _), fun i hi => absurd hi (Nat.not_lt_zero _), fun i hi => absurd hi (Nat.not_lt_zero _), fun i hi => absurd hi (Nat.not_lt_zero _), fun i hi => absurd hi (Nat.not_lt_zero _)⟩
  · rw [zE] at ha
    rw [K, if_neg (by omega), if_neg (by omega), if_neg (by omega), if_neg (by omega), if_neg (by omega), if_neg (by omega), if_neg (by omega), if_neg (by omega), if_neg (by omega), if_neg (by omega), if_neg (by omega), if_neg (by omega)]
    exact fr a (by omega)
  · rw [Pt, if_pos ⟨rfl, rfl⟩]
  · rw [Pt, if_neg (by omega), if_pos ⟨rfl, rfl⟩]; rfl
  · rw [rd_I, if_pos ⟨rfl, rfl⟩]
  · rw [rd_I, if_neg (by omega), twS_I, z2, if_neg (by omega), qI_sA, if_neg (by rw [z1]; omega), qI_sA, if_neg (by omega)]; exact htp i hi
  · show 1239 ≤ zt σ + 1; omega
  · show 1239 ≤ zt σ + 10; omega
  · show 1239 ≤ zt σ + 11; omega
  · show zt σ + 10 ≠ zt σ + 11; omega
  · show zt σ + 2 ≠ zt σ + 4; omega
  · show zt σ + 2 ≠ zt σ + 6; omega
  · show zt σ + 4 ≠ zt σ + 6; omega
  · show zt σ + 3 ≠ zt σ + 5; omega
  · show zt σ + 3 ≠ zt σ + 7; omega
  · show zt σ + 5 ≠ zt σ + 7; omega
  · exact I0 (zt σ + 1) 7 (by omega) (by omega) (by omega)
  · exact I0 (zt σ + 1) 8 (by omega) (by omega) (by omega)
  · exact I0 (zt σ + 1) 9 (by omega) (by omega) (by omega)
  · exact I0 (zt σ + 8) s (by omega) (by omega) (by omega)
  · exact I0 (zt σ + 9) s (by omega) (by omega) (by omega)
theorem rd_gw (σ : ZS) (x : Int32) : Gw (fun _ => False) 12 1300 σ (rdS0 σ x) := by
  have z1 : zt (sA σ (11, 0) 5) = zt σ + 1 := rfl
  have z2 : zt (sA (sA σ (11, 0) 5) (8, 0) 10) = zt σ + 2 := rfl
  have zE : zt (rdS0 σ x) = zt σ + 12 := rfl
  have zN : zn (rdS0 σ x) = zn σ + 5 + 10 + 3 + 2 + 3 + 2 + 3 + 1 + 24 + 24 + 576 + 576 := rfl
  refine ⟨fun a i ha _ => ?_, fun a i ha _ => ?_, fun a i ha _ => ?_, fun a ha => ?_, by omega, by omega, by omega, fun kf a ha => ?_⟩
  · rw [rd_I, if_neg (by omega), twS_I, z2, if_neg (by omega), qI_sA, if_neg (by rw [z1]; omega), qI_sA, if_neg (by omega)]
  · show zJ (twS (sA (sA σ (11, 0) 5) (8, 0) 10) (zt σ + 1)) a i = _
    rw [twS_J _ _ _ _ (by rw [z2]; omega), qJ_sA, if_neg (by rw [z1]; omega), qJ_sA, if_neg (by omega)]
  · rw [rd_P, if_neg (by omega), if_neg (by omega), twS_P _ (by rw [z2]; omega), z2, if_neg (by omega), if_neg (by omega), if_neg (by omega), if_neg (by omega), if_neg (by omega), if_neg (by omega), if_neg (by omega), if_neg (by omega), if_neg (by omega), if_neg (by omega), if_neg (by omega), qP_sA, if_neg (by rw [z1]; omega), qP_sA, if_neg (by omega)]
  · rw [rd_K, twS_K, z2, if_neg (by omega), if_neg (by omega), if_neg (by omega), if_neg (by omega), if_neg (by omega), if_neg (by omega), if_neg (by omega), if_neg (by omega), if_neg (by omega), if_neg (by omega), qK_sA, if_neg (by rw [z1]; omega), qK_sA, if_neg (by omega)]
  · rw [zE] at ha
    rw [rd_K, twS_K, z2, if_neg (by omega), if_neg (by omega), if_neg (by omega), if_neg (by omega), if_neg (by omega), if_neg (by omega), if_neg (by omega), if_neg (by omega), if_neg (by omega), if_neg (by omega), qK_sA, if_neg (by rw [z1]; omega), qK_sA, if_neg (by omega)]; exact kf a (by omega)
