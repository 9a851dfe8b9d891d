/-! PURE HALF: the start: what the constructors lay. -/
set_option maxRecDepth 100000
def PRs (a i : Nat) : ZR := if a = 0 ∧ i = 0 then some (.inl 1) else match Pst a i with
  | none => none
  | some q => some (.inl q)
/-- objects under way: how many fields are laid -/
def okL : List (Nat × Nat) → Nat → Nat → Bool
  | [], _, _ => true
  | (a, k) :: r, b, i => if b = a then decide (i < k) else okL r b i
def Bs (s : ZS) (N : Nat) (ls l : List (Nat × Nat)) (M : Nat) : Prop := zt s = N ∧ zn s = M ∧ (∀ b, zK s b = if b < N then Kst b else (1000, 0)) ∧ (∀ b i, zP s b i = if b < N ∧ okL ls b i = true then PRs b i else none) ∧ (∀ b i, zI s b i = if (b, i) ∈ l then -1 else 0) ∧ (∀ b i, zJ s b i = 0) ∧ ∀ p ∈ l, p.1 < N
theorem Bs.aA {s : ZS} {N M : Nat} {ls l : List (Nat × Nat)} (h : Bs s N ls l M) {k : Nat × Nat} (e : Kst N = k) (sl : Nat) : Bs (sA s k sl) (N + 1) ((N, 0) :: ls) l (M + sl) := by
  obtain ⟨h1, h2, h3, h4, h5, h6, h7⟩ := h
  refine ⟨by show zt s + 1 = _; rw [h1], by show zn s + sl = _; rw [h2], fun b => ?_, fun b i => ?_, fun b i => ?_, fun b i => ?_, fun p hp => by have := h7 p hp; omega⟩
  · show (if b = zt s then k else zK s b) = _
    rw [h1, h3]
    by_cases c : b = N
    · rw [if_pos c, if_pos (by omega), c, e]
    · rw [if_neg c]
      by_cases c2 : b < N
      · rw [if_pos c2, if_pos (by omega)]
      · rw [if_neg c2, if_neg (by omega)]
  · show (if b = zt s then none else zP s b i) = _
    rw [h1, h4]
    by_cases c : b = N
    · rw [if_pos c, if_neg (by rw [okL, if_pos c]; simp)]
    · rw [if_neg c, okL, if_neg c]
      by_cases c2 : b < N ∧ okL ls b i = true
      · rw [if_pos c2, if_pos ⟨by omega, c2.2⟩]
      · rw [if_neg c2, if_neg (fun x => c2 ⟨by omega, x.2⟩)]
  · show (if b = zt s then 0 else zI s b i) = _
    rw [h1, h5]
    by_cases c : b = N
    · rw [if_pos c, if_neg (fun x => by have := h7 _ x; simp at this; omega)]
    · rw [if_neg c]
  · show (if b = zt s then 0 else zJ s b i) = _
    rw [h6]; split <;> rfl
theorem Bs.pop {s : ZS} {N M a k : Nat} {ls l : List (Nat × Nat)} (h : Bs s N ((a, k) :: ls) l M) (e : ∀ i, k ≤ i → PRs a i = none) (e2 : ∀ i, okL ls a i = true) : Bs s N ls l M := by
  obtain ⟨h1, h2, h3, h4, h5, h6, h7⟩ := h
  refine ⟨h1, h2, h3, fun b i => ?_, h5, h6, h7⟩
  rw [h4, okL]
  by_cases c : b = a
  · rw [if_pos c, c, e2 i]
    by_cases c2 : i < k
    · simp [c2]
    · rw [e i (by omega)]; simp
  · rw [if_neg c]
theorem Bs.aP {s : ZS} {N M a k j q : Nat} {ls l : List (Nat × Nat)} (h : Bs s N ((a, k) :: ls) l M) (ha : a < N) (hk : k ≤ j) (e7 : ∀ i, i < j → k ≤ i → PRs a i = none) (e8 : PRs a j = some (.inl q)) : Bs (sP s a j (some (.inl q))) N ((a, j + 1) :: ls) l M := by
  obtain ⟨h1, h2, h3, h4, h5, h6, h7⟩ := h
  refine ⟨h1, h2, h3, fun b i => ?_, h5, h6, h7⟩
  show (if b = a ∧ i = j then some (.inl q) else zP s b i) = _
  rw [h4, okL, okL]
  by_cases c : b = a
  · subst c
    rw [if_pos rfl, if_pos rfl]
    by_cases c2 : i = j
    · subst c2
      rw [if_pos ⟨rfl, rfl⟩, if_pos ⟨ha, by simp⟩, e8]
    · rw [if_neg (fun x => c2 x.2)]
      by_cases c3 : i < k
      · rw [if_pos ⟨ha, by simp [c3]⟩, if_pos ⟨ha, by simp; omega⟩]
      · rw [if_neg (fun x => c3 (by simpa using x.2))]
        by_cases c4 : i < j
        · rw [if_pos ⟨ha, by simp; omega⟩, e7 i c4 (by omega)]
        · rw [if_neg (fun x => by have := x.2; simp at this; omega)]
  · rw [if_neg (fun x => c x.1), if_neg c, if_neg c]
theorem Bs.aI {s : ZS} {N M : Nat} {ls l : List (Nat × Nat)} (h : Bs s N ls l M) {a i : Nat} (ha : a < N) : Bs (sI s a i (-1)) N ls ((a, i) :: l) M := by
  obtain ⟨h1, h2, h3, h4, h5, h6, h7⟩ := h
  refine ⟨h1, h2, h3, h4, fun b j => ?_, h6, fun p hp => ?_⟩
  · rw [qI_sI, h5]
    by_cases c : b = a ∧ j = i
    · rw [if_pos c, if_pos (by rw [c.1, c.2]; exact List.mem_cons_self)]
    · rw [if_neg c]
      by_cases c2 : (b, j) ∈ l
      · rw [if_pos c2, if_pos (List.mem_cons_of_mem _ c2)]
      · rw [if_neg c2, if_neg (fun x => by
          rcases List.mem_cons.mp x with x | x
          · injection x with x1 x2; exact c ⟨x1, x2⟩
          · exact c2 x)]
  · rcases List.mem_cons.mp hp with x | x
    · rw [x]; exact ha
    · exact h7 p x
theorem Bs.a0 {s : ZS} {N M : Nat} {ls l : List (Nat × Nat)} (h : Bs s N ls l M) {a i : Nat} (ha : (a, i) ∉ l) : Bs (sI s a i 0) N ls l M := by
  obtain ⟨h1, h2, h3, h4, h5, h6, h7⟩ := h
  refine ⟨h1, h2, h3, h4, fun b j => ?_, h6, h7⟩
  rw [qI_sI, h5]
  by_cases c : b = a ∧ j = i
  · rw [if_pos c, if_neg (by rw [c.1, c.2]; exact ha)]
  · rw [if_neg c]
def ZS_mA (s : ZS) (n m k : Nat) : ZS := sP (sA (mA s n m k) (0, m) m) (zt s) k (some (.inl (zt s + 1 + k)))
theorem Bs.aM {s : ZS} {N M : Nat} {ls l : List (Nat × Nat)} (h : Bs s N ls l M) {n m : Nat} (e1 : Kst N = (4, n)) (e2 : ∀ i, i < n → Kst (N + 1 + i) = (0, m)) (e3 : ∀ i, i < n → PRs N i = some (.inl (N + 1 + i))) (e3' : ∀ i, n ≤ i → PRs N i = none) (e4 : ∀ k, k < n → ∀ i, PRs (N + 1 + k) i = none) (e5 : ∀ b i, N ≤ b → b < N + 1 + n → okL ls b i = true) : Bs (mA s n m n) (N + 1 + n) ls l (M + n + n * m) := by
  have key : ∀ k, k ≤ n → Bs (mA s n m k) (N + 1 + k) ((N, k) :: ls) l (M + n + k * m) := by
    intro k
    induction k with
    | zero => intro _; rw [Nat.zero_mul]; exact h.aA e1 n
    | succ k ih =>
      intro hk
      have h1 := ih (by omega)
      have h2 := h1.aA (e2 k (by omega)) m
      have h3 := h2.pop (fun i _ => e4 k (by omega) i) (fun i => by rw [okL, if_neg (by omega)]; exact e5 _ _ (by omega) (by omega))
      have h4 := h3.aP (a := N) (k := k) (j := k) (q := N + 1 + k) (by omega) (Nat.le_refl _) (fun i a b => by omega) (e3 k (by omega))
      rw [show M + n + (k + 1) * m = M + n + k * m + m by rw [Nat.succ_mul]; omega]
      show Bs (ZS_mA s n m k) _ _ _ _
      unfold ZS_mA
      rw [h.1]; exact h4
  exact (key n (Nat.le_refl _)).pop (fun i hi => e3' i hi) (fun i => e5 _ _ (Nat.le_refl _) (by omega))
