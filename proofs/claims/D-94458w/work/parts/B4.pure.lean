/-! PURE HALF: a new reader. -/
set_option maxRecDepth 100000
theorem qK_sI (σ : ZS) (a i : Nat) (v : Int32) (b : Nat) : zK (sI σ a i v) b = zK σ b := rfl
theorem qK_sP (σ : ZS) (a i : Nat) (v : ZR) (b : Nat) : zK (sP σ a i v) b = zK σ b := rfl
theorem qP_sI (σ : ZS) (a i : Nat) (v : Int32) (b j : Nat) : zP (sI σ a i v) b j = zP σ b j := rfl
theorem qI_sP (σ : ZS) (a i : Nat) (v : ZR) (b j : Nat) : zI (sP σ a i v) b j = zI σ b j := rfl
theorem zt_sI' (σ : ZS) (a i : Nat) (v : Int32) : zt (sI σ a i v) = zt σ := rfl
theorem zt_sP' (σ : ZS) (a i : Nat) (v : ZR) : zt (sP σ a i v) = zt σ := rfl
theorem zn_sI' (σ : ZS) (a i : Nat) (v : Int32) : zn (sI σ a i v) = zn σ := rfl
theorem zn_sP' (σ : ZS) (a i : Nat) (v : ZR) : zn (sP σ a i v) = zn σ := rfl
/-- a new list -/
def nlS (s : ZS) (a cap : Nat) : ZS := sP (sA (sI s a 0 0) (6, cap) cap) a 1 (some (.inl (zt s)))
theorem c_newList {s : ZS} {a cap : Nat} (ha : 1239 ≤ a) (ka : zK s a = (16, 0)) (hal : a < zt s) (hc : 1 ≤ cap ∧ cap ≤ 2) (rm : 1239 ≤ zt s ∧ zt s + 1 ≤ 160000 ∧ zn s + 2 ≤ 8000000) {Ret : ZS → Prop} (hr : Ret (nlS s a cap)) : wp_J2_init NS s a (nI cap) Ret := by
  unfold wp_J2_init wp_J1_init wp_J0_init
  refine ⟨⟨0, by rw [kK_dyn ha]; exact ka⟩, nm_e (br_t (by rw [n0]; exact nI_lt (by omega) (by omega)) ⟨nI_pos (by omega), ?_⟩)⟩
  rw [ix_nI (by omega)]
  refine ⟨⟨rm.1, rm.2.1, by show zn s + cap ≤ 8000000; omega⟩, nm_e ⟨⟨0, ?_⟩, ha, nm_e hr⟩⟩
  rw [kK_dyn ha, qK_sA, if_neg (by show ¬ a = zt s; omega)]; exact ka
def nl0 (s : ZS) (t j cap : Nat) : ZS := sP (nlS (sA s (16, 0) 3) (zt s) cap) t j (some (.inl (zt s)))
def na0 (s : ZS) (t j c : Nat) : ZS := sP (sA s (0, c) c) t j (some (.inl (zt s)))
theorem K_nl0 (s : ZS) (t j cap b : Nat) : zK (nl0 s t j cap) b = if b = zt s + 1 then (6, cap) else if b = zt s then (16, 0) else zK s b := rfl
theorem T_nl0 (s : ZS) (t j cap : Nat) : zt (nl0 s t j cap) = zt s + 2 := rfl
theorem N_nl0 (s : ZS) (t j cap : Nat) : zn (nl0 s t j cap) = zn s + 3 + cap := rfl
theorem I_nl0 (s : ZS) (t j cap b i : Nat) : zI (nl0 s t j cap) b i = if b = zt s ∨ b = zt s + 1 then 0 else zI s b i := by
  show (if b = zt s + 1 then 0 else (if b = zt s ∧ i = 0 then 0 else (if b = zt s then 0 else zI s b i))) = _
  repeat' split
  all_goals first | rfl | omega
theorem J_nl0 (s : ZS) (t j cap b i : Nat) : zJ (nl0 s t j cap) b i = if b = zt s + 1 then 0 else if b = zt s then 0 else zJ s b i := rfl
theorem P_nl0 (s : ZS) (t j cap b i : Nat) : zP (nl0 s t j cap) b i = if b = t ∧ i = j then some (.inl (zt s)) else if b = zt s ∧ i = 1 then some (.inl (zt s + 1)) else if b = zt s + 1 then none else if b = zt s then none else zP s b i := rfl
theorem K_na0 (s : ZS) (t j c b : Nat) : zK (na0 s t j c) b = if b = zt s then (0, c) else zK s b := rfl
theorem T_na0 (s : ZS) (t j c : Nat) : zt (na0 s t j c) = zt s + 1 := rfl
theorem N_na0 (s : ZS) (t j c : Nat) : zn (na0 s t j c) = zn s + c := rfl
theorem I_na0 (s : ZS) (t j c b i : Nat) : zI (na0 s t j c) b i = if b = zt s then 0 else zI s b i := rfl
theorem J_na0 (s : ZS) (t j c b i : Nat) : zJ (na0 s t j c) b i = if b = zt s then 0 else zJ s b i := rfl
theorem P_na0 (s : ZS) (t j c b i : Nat) : zP (na0 s t j c) b i = if b = t ∧ i = j then some (.inl (zt s)) else if b = zt s then none else zP s b i := rfl
/-- a list of a new town, then what follows -/
theorem c_nl0 {s : ZS} {t j cap : Nat} (ht : 1239 ≤ t) (kt : zK s t = (8, 0)) (htl : t < zt s) (hc : 1 ≤ cap ∧ cap ≤ 2) (rm : 1239 ≤ zt s ∧ zt s + 2 ≤ 160000 ∧ zn s + 5 ≤ 8000000) {K : ZS → Prop} (hk : K (nl0 s t j cap)) : (NS ≤ zt s ∧ zt s + 1 ≤ NB ∧ zn s + 3 ≤ SB) ∧ (∀ σ2 : ZS, σ2 = sA s (16, 0) 3 → (wp_J2_init NS σ2 (zt s) (nI cap) (fun σ4 => (∃ n6, kK NS σ4 t = (8, n6)) ∧ (NS ≤ t ∧ (∀ σ8 : ZS, σ8 = sP σ4 t j (some (.inl (zt s))) → K σ8))))) := by
  refine ⟨⟨rm.1, by show _ ≤ 160000; omega, by show _ ≤ 8000000; omega⟩, nm_e (c_newList rm.1 (by rw [qK_sA, if_pos rfl]) (by rw [zt_sA']; omega) hc ⟨by rw [zt_sA']; omega, by rw [zt_sA']; omega, by rw [zn_sA']; omega⟩ ⟨⟨0, ?_⟩, ht, nm_e hk⟩)⟩
  rw [kK_dyn ht]
  show (if t = zt s + 1 then (6, cap) else if t = zt s then (16, 0) else zK s t) = _
  rw [if_neg (by omega), if_neg (by omega)]; exact kt
theorem c_na0 {s : ZS} {t j c : Nat} (ht : 1239 ≤ t) (kt : zK s t = (8, 0)) (htl : t < zt s) (rm : 1239 ≤ zt s ∧ zt s + 1 ≤ 160000 ∧ zn s + c ≤ 8000000) {K : ZS → Prop} (hk : K (na0 s t j c)) : (NS ≤ zt s ∧ zt s + 1 ≤ NB ∧ zn s + c ≤ SB) ∧ (∀ σ2 : ZS, σ2 = sA s (0, c) c → ((∃ n6, kK NS σ2 t = (8, n6)) ∧ (NS ≤ t ∧ (∀ σ8 : ZS, σ8 = sP σ2 t j (some (.inl (zt s))) → K σ8)))) := by
  refine ⟨rm, nm_e ⟨⟨0, ?_⟩, ht, nm_e hk⟩⟩
  rw [kK_dyn ht, qK_sA, if_neg (by omega)]; exact kt
/-- a new town -/
def twS (s : ZS) (t : Nat) : ZS := na0 (na0 (na0 (na0 (nl0 (nl0 (nl0 s t 0 2) t 1 2) t 2 1) t 3 24) t 4 24) t 5 576) t 6 576
theorem c_newTown {s : ZS} {t : Nat} (ht : 1239 ≤ t) (kt : zK s t = (8, 0)) (htl : t < zt s) (rm : 1239 ≤ zt s ∧ zt s + 20 ≤ 160000 ∧ zn s + 1300 ≤ 8000000) {Ret : ZS → Prop} (hr : Ret (twS s t)) : wp_X2_init NS s t Ret := by
  unfold wp_X2_init
  refine c_nl0 (cap := 2) ht kt htl (by decide) (by omega) ?_
  have k1 : zK (nl0 s t 0 2) t = (8, 0) := by rw [K_nl0, if_neg (by omega), if_neg (by omega)]; exact kt
  have t1 := T_nl0 s t 0 2
  have n1 := N_nl0 s t 0 2
  refine c_nl0 (cap := 2) ht k1 (by omega) (by decide) (by omega) ?_
  have k2 : zK (nl0 (nl0 s t 0 2) t 1 2) t = (8, 0) := by rw [K_nl0, if_neg (by omega), if_neg (by omega)]; exact k1
  have t2 := T_nl0 (nl0 s t 0 2) t 1 2
  have n2' := N_nl0 (nl0 s t 0 2) t 1 2
  refine c_nl0 (cap := 1) ht k2 (by omega) (by decide) (by omega) ?_
  have k3 : zK (nl0 (nl0 (nl0 s t 0 2) t 1 2) t 2 1) t = (8, 0) := by rw [K_nl0, if_neg (by omega), if_neg (by omega)]; exact k2
  have t3 := T_nl0 (nl0 (nl0 s t 0 2) t 1 2) t 2 1
  have n3' := N_nl0 (nl0 (nl0 s t 0 2) t 1 2) t 2 1
  unfold twS at hr
  generalize nl0 (nl0 (nl0 s t 0 2) t 1 2) t 2 1 = s3 at k3 t3 n3' hr ⊢
  refine c_na0 ht k3 (by omega) (by omega) ?_
  have k4 : zK (na0 s3 t 3 24) t = (8, 0) := by rw [K_na0, if_neg (by omega)]; exact k3
  have t4 := T_na0 s3 t 3 24
  have n4' := N_na0 s3 t 3 24
  refine c_na0 ht k4 (by omega) (by omega) ?_
  have k5 : zK (na0 (na0 s3 t 3 24) t 4 24) t = (8, 0) := by rw [K_na0, if_neg (by omega)]; exact k4
  have t5 := T_na0 (na0 s3 t 3 24) t 4 24
  have n5' := N_na0 (na0 s3 t 3 24) t 4 24
  refine c_na0 ht k5 (by omega) (by omega) ?_
  have k6 : zK (na0 (na0 (na0 s3 t 3 24) t 4 24) t 5 576) t = (8, 0) := by rw [K_na0, if_neg (by omega)]; exact k5
  have t6 := T_na0 (na0 (na0 s3 t 3 24) t 4 24) t 5 576
  have n6' := N_na0 (na0 (na0 s3 t 3 24) t 4 24) t 5 576
  refine c_na0 ht k6 (by omega) (by omega) hr
theorem twS_K (s : ZS) (t b : Nat) : zK (twS s t) b = if b = zt s + 9 then (0, 576) else if b = zt s + 8 then (0, 576) else if b = zt s + 7 then (0, 24) else if b = zt s + 6 then (0, 24) else if b = zt s + 5 then (6, 1) else if b = zt s + 4 then (16, 0) else if b = zt s + 3 then (6, 2) else if b = zt s + 2 then (16, 0) else if b = zt s + 1 then (6, 2) else if b = zt s then (16, 0) else zK s b := rfl
theorem twS_T (s : ZS) (t : Nat) : zt (twS s t) = zt s + 10 := rfl
theorem twS_N (s : ZS) (t : Nat) : zn (twS s t) = zn s + 3 + 2 + 3 + 2 + 3 + 1 + 24 + 24 + 576 + 576 := rfl
theorem twS_I_k (z t b i : Nat) (v : Int32) : (if b = z + 9 then 0 else if b = z + 8 then 0 else if b = z + 7 then 0 else if b = z + 6 then 0 else if b = z + 5 then 0 else if b = z + 4 ∧ i = 0 then 0 else if b = z + 4 then 0 else if b = z + 3 then 0 else if b = z + 2 ∧ i = 0 then 0 else if b = z + 2 then 0 else if b = z + 1 then 0 else if b = z ∧ i = 0 then 0 else if b = z then 0 else v) = (if z ≤ b ∧ b < z + 10 then 0 else v) := by
  by_cases h : z ≤ b ∧ b < z + 10
  · rw [if_pos h]
    rcases (show b = z ∨ b = z + 1 ∨ b = z + 2 ∨ b = z + 3 ∨ b = z + 4 ∨ b = z + 5 ∨ b = z + 6 ∨ b = z + 7 ∨ b = z + 8 ∨ b = z + 9 by omega) with rfl | rfl | rfl | rfl | rfl | rfl | rfl | rfl | rfl | rfl <;> simp
  · rw [if_neg h, if_neg (by omega), if_neg (by omega), if_neg (by omega), if_neg (by omega), if_neg (by omega), if_neg (by omega), if_neg (by omega), if_neg (by omega), if_neg (by omega), if_neg (by omega), if_neg (by omega), if_neg (by omega), if_neg (by omega)]
theorem twS_I (s : ZS) (t b i : Nat) : zI (twS s t) b i = if zt s ≤ b ∧ b < zt s + 10 then 0 else zI s b i := twS_I_k (zt s) t b i (zI s b i)
theorem twS_P_k (z t b i : Nat) (v : ZR) (ht : t < z) : (if b = t ∧ i = 6 then some (.inl (z + 9)) else if b = z + 9 then none else if b = t ∧ i = 5 then some (.inl (z + 8)) else if b = z + 8 then none else if b = t ∧ i = 4 then some (.inl (z + 7)) else if b = z + 7 then none else if b = t ∧ i = 3 then some (.inl (z + 6)) else if b = z + 6 then none else if b = t ∧ i = 2 then some (.inl (z + 4)) else if b = z + 4 ∧ i = 1 then some (.inl (z + 5)) else if b = z + 5 then none else if b = z + 4 then none else if b = t ∧ i = 1 then some (.inl (z + 2)) else if b = z + 2 ∧ i = 1 then some (.inl (z + 3)) else if b = z + 3 then none else if b = z + 2 then none else if b = t ∧ i = 0 then some (.inl (z)) else if b = z ∧ i = 1 then some (.inl (z + 1)) else if b = z + 1 then none else if b = z then none else v) = (if b = t ∧ i = 6 then some (.inl (z + 9)) else if b = t ∧ i = 5 then some (.inl (z + 8)) else if b = t ∧ i = 4 then some (.inl (z + 7)) else if b = t ∧ i = 3 then some (.inl (z + 6)) else if b = t ∧ i = 2 then some (.inl (z + 4)) else if b = t ∧ i = 1 then some (.inl (z + 2)) else if b = t ∧ i = 0 then some (.inl (z)) else if b = z + 4 ∧ i = 1 then some (.inl (z + 5)) else if b = z + 2 ∧ i = 1 then some (.inl (z + 3)) else if b = z ∧ i = 1 then some (.inl (z + 1)) else if z ≤ b ∧ b < z + 10 then none else v) := by
  by_cases h : z ≤ b ∧ b < z + 10
  · have nt : b ≠ t := by omega
    rcases (show b = z ∨ b = z + 1 ∨ b = z + 2 ∨ b = z + 3 ∨ b = z + 4 ∨ b = z + 5 ∨ b = z + 6 ∨ b = z + 7 ∨ b = z + 8 ∨ b = z + 9 by omega) with rfl | rfl | rfl | rfl | rfl | rfl | rfl | rfl | rfl | rfl <;> simp [nt]
  · have n0 : b ≠ z := by omega
    have n1 : b ≠ z + 1 := by omega
    have n2 : b ≠ z + 2 := by omega
    have n3 : b ≠ z + 3 := by omega
    have n4 : b ≠ z + 4 := by omega
    have n5 : b ≠ z + 5 := by omega
    have n6 : b ≠ z + 6 := by omega
    have n7 : b ≠ z + 7 := by omega
    have n8 : b ≠ z + 8 := by omega
    have n9 : b ≠ z + 9 := by omega
    simp only [n0, n1, n2, n3, n4, n5, n6, n7, n8, n9, h, false_and, if_false]
theorem twS_P (s : ZS) {t : Nat} (ht : t < zt s) (b i : Nat) : zP (twS s t) b i = if b = t ∧ i = 6 then some (.inl (zt s + 9)) else if b = t ∧ i = 5 then some (.inl (zt s + 8)) else if b = t ∧ i = 4 then some (.inl (zt s + 7)) else if b = t ∧ i = 3 then some (.inl (zt s + 6)) else if b = t ∧ i = 2 then some (.inl (zt s + 4)) else if b = t ∧ i = 1 then some (.inl (zt s + 2)) else if b = t ∧ i = 0 then some (.inl (zt s)) else if b = zt s + 4 ∧ i = 1 then some (.inl (zt s + 5)) else if b = zt s + 2 ∧ i = 1 then some (.inl (zt s + 3)) else if b = zt s ∧ i = 1 then some (.inl (zt s + 1)) else if zt s ≤ b ∧ b < zt s + 10 then none else zP s b i := twS_P_k (zt s) t b i (zP s b i) ht
theorem twS_J_k (z b : Nat) (v : Int64) (hb : b < z) : (if b = z + 9 then 0 else if b = z + 8 then 0 else if b = z + 7 then 0 else if b = z + 6 then 0 else if b = z + 5 then 0 else if b = z + 4 then 0 else if b = z + 3 then 0 else if b = z + 2 then 0 else if b = z + 1 then 0 else if b = z then 0 else v) = (v) := by
  repeat' split
  all_goals first | rfl | omega
theorem twS_J (s : ZS) (t b i : Nat) (hb : b < zt s) : zJ (twS s t) b i = zJ s b i := twS_J_k (zt s) b (zJ s b i) hb
