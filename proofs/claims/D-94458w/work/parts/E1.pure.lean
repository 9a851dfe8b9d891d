/-! PURE HALF: the start: steps of a constructor. -/
set_option maxRecDepth 100000
theorem Bs.k0 {s : ZS} {N M : Nat} {ls l : List (Nat × Nat)} (h : Bs s N ls l M) {a c nn : Nat} (ha : a < N) (e : Kst a = (c, nn)) : ∃ n, kK 0 s a = (c, n) := ⟨nn, by unfold kK; rw [if_neg (Nat.not_lt_zero _), h.2.2.1, if_pos ha, e]⟩
theorem Bs.rm {s : ZS} {N M : Nat} {ls l : List (Nat × Nat)} (h : Bs s N ls l M) {d sl : Nat} (h1 : N + d ≤ 160000) (h2 : M + sl ≤ 8000000) : 0 ≤ zt s ∧ zt s + d ≤ NB ∧ zn s + sl ≤ SB := ⟨Nat.zero_le _, by rw [h.1]; exact h1, by rw [h.2.1]; exact h2⟩
theorem w_arr {s : ZS} {N M a k : Nat} {ls l : List (Nat × Nat)} (h : Bs s N ((a, k) :: ls) l M) {kd len sl c nn j : Nat} (e1 : Kst N = (kd, len)) (e2 : ∀ i, PRs N i = none) (e3 : ∀ i, okL ((a, k) :: ls) N i = true) (e4 : a < N) (e5 : Kst a = (c, nn)) (e6 : k ≤ j) (e7 : ∀ i, i < j → k ≤ i → PRs a i = none) (e8 : PRs a j = some (.inl N)) (e9 : N + 1 ≤ 160000) (e10 : M + sl ≤ 8000000) {K : ZS → Prop} (hk : ∀ s', Bs s' (N + 1) ((a, j + 1) :: ls) l (M + sl) → K s') : (0 ≤ zt s ∧ zt s + 1 ≤ NB ∧ zn s + sl ≤ SB) ∧ (∀ σ2 : ZS, σ2 = sA s (kd, len) sl → ((∃ n, kK 0 σ2 a = (c, n)) ∧ (0 ≤ a ∧ (∀ σ4 : ZS, σ4 = sP σ2 a j (some (.inl (zt s))) → K σ4)))) := by
  refine ⟨h.rm e9 e10, nm_e ?_⟩
  have h2 := (h.aA e1 sl).pop (fun i _ => e2 i) e3
  refine ⟨h2.k0 (by omega) e5, Nat.zero_le _, nm_e ?_⟩
  rw [h.1]
  exact hk _ (h2.aP (by omega) e6 e7 e8)
theorem w_marr {s : ZS} {N M a k : Nat} {ls l : List (Nat × Nat)} (h : Bs s N ((a, k) :: ls) l M) {n m c nn j : Nat} (e1 : Kst N = (4, n)) (e2 : ∀ i, i < n → Kst (N + 1 + i) = (0, m)) (e3 : ∀ i, i < n → PRs N i = some (.inl (N + 1 + i))) (e3' : ∀ i, n ≤ i → PRs N i = none) (e4' : ∀ k, k < n → ∀ i, PRs (N + 1 + k) i = none) (e5' : ∀ b i, N ≤ b → okL ((a, k) :: ls) b i = true) (e4 : a < N) (e5 : Kst a = (c, nn)) (e6 : k ≤ j) (e7 : ∀ i, i < j → k ≤ i → PRs a i = none) (e8 : PRs a j = some (.inl N)) (e9 : N + 1 + n ≤ 160000) (e10 : M + n + n * m ≤ 8000000) {K : ZS → Prop} (hk : ∀ s', Bs s' (N + 1 + n) ((a, j + 1) :: ls) l (M + n + n * m) → K s') : (0 ≤ zt s ∧ zt s + 1 + n ≤ NB ∧ zn s + n + n * m ≤ SB) ∧ (∀ σ2 : ZS, σ2 = mA s n m n → ((∃ n, kK 0 σ2 a = (c, n)) ∧ (0 ≤ a ∧ (∀ σ4 : ZS, σ4 = sP σ2 a j (some (.inl (zt s))) → K σ4)))) := by
  refine ⟨⟨Nat.zero_le _, by rw [h.1]; exact e9, by rw [h.2.1]; exact e10⟩, nm_e ?_⟩
  have h2 := h.aM e1 e2 e3 e3' e4' (fun b i hb _ => e5' b i hb)
  refine ⟨h2.k0 (by omega) e5, Nat.zero_le _, nm_e ?_⟩
  rw [h.1]
  exact hk _ (h2.aP (by omega) e6 e7 e8)
theorem w_list {s : ZS} {N M a k : Nat} {ls l : List (Nat × Nat)} (h : Bs s N ((a, k) :: ls) l M) {cap c nn j : Nat} (hcap : 1 ≤ cap ∧ cap ≤ 2) (e1 : Kst N = (16, 0)) (e1' : Kst (N + 1) = (6, cap)) (e2 : ∀ i, PRs (N + 1) i = none) (e2' : PRs N 0 = none) (e2'' : PRs N 1 = some (.inl (N + 1))) (e2a : ∀ i, 2 ≤ i → PRs N i = none) (e3 : ∀ i, okL ((a, k) :: ls) N i = true) (e3' : ∀ i, okL ((a, k) :: ls) (N + 1) i = true) (e4 : a < N) (e5 : Kst a = (c, nn)) (e6 : k ≤ j) (e7 : ∀ i, i < j → k ≤ i → PRs a i = none) (e8 : PRs a j = some (.inl N)) (e9 : N + 2 ≤ 160000) (e10 : M + 3 + cap ≤ 8000000) {K : ZS → Prop} (hk : ∀ s', Bs s' (N + 2) ((a, j + 1) :: ls) l (M + 3 + cap) → K s') : (0 ≤ zt s ∧ zt s + 1 ≤ NB ∧ zn s + 3 ≤ SB) ∧ (∀ σ2 : ZS, σ2 = sA s (16, 0) 3 → (wp_J2_init 0 σ2 (zt s) (nI cap) (fun σ4 => (∃ n6, kK 0 σ4 a = (c, n6)) ∧ (0 ≤ a ∧ (∀ σ8 : ZS, σ8 = sP σ4 a j (some (.inl (zt s))) → K σ8))))) := by
  refine ⟨h.rm (by omega) (by omega), nm_e ?_⟩
  have h1 := h.aA e1 3
  unfold wp_J2_init wp_J1_init wp_J0_init
  rw [h.1]
  refine ⟨h1.k0 (by omega) e1, nm_e ?_⟩
  have h2 := h1.a0 (a := N) (i := 0) (fun x => by have := h.2.2.2.2.2.2 _ x; simp at this)
  refine br_t (by rw [n0]; exact nI_lt (by omega) (by omega)) ⟨nI_pos (by omega), ?_⟩
  rw [ix_nI (by omega)]
  refine ⟨h2.rm (by omega) (by omega), nm_e ?_⟩
  have h3 := (h2.aA e1' cap).pop (fun i _ => e2 i) (fun i => by rw [okL, if_neg (by omega)]; exact e3' i)
  refine ⟨h3.k0 (by omega) e1, Nat.zero_le _, nm_e ?_⟩
  rw [h2.1]
  have h4 := (h3.aP (a := N) (k := 0) (j := 1) (q := N + 1) (by omega) (by omega) (fun i hi _ => by rw [show i = 0 by omega]; exact e2') e2'').pop e2a e3
  refine ⟨h4.k0 (by omega) e5, Nat.zero_le _, nm_e ?_⟩
  exact hk _ (h4.aP (by omega) e6 e7 e8)
