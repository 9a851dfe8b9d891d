/-! PURE HALF: images: the class. -/
set_option maxRecDepth 100000
/-- a State object and its three arrays -/
def St (σ : ZS) (A : Nat) : Prop := (∃ m, kK NS σ A = (9, m)) ∧ kP NS σ A 0 = some (.inl (A + 1)) ∧ kP NS σ A 1 = some (.inl (A + 2)) ∧ kP NS σ A 2 = some (.inl (A + 3)) ∧ kK NS σ (A + 1) = (0, 4824) ∧ kK NS σ (A + 2) = (0, 4824) ∧ kK NS σ (A + 3) = (0, 12)
theorem St.fr {σ σ' : ZS} {A : Nat} {S : Nat → Prop} (h : St σ A) (f : Fr S σ σ') : St σ' A := by
  unfold St; rw [f.K, f.P, f.P, f.P, f.K, f.K, f.K]; exact h
theorem St12 (σ : ZS) : St σ 12 := by
  have r : ∀ a, a < 1239 → kK NS σ a = Kst a := fun a h1 => by unfold kK; rw [if_pos (show a < NS from h1)]
  have q : ∀ a i b, a < NS → Pst a i = some b → kP NS σ a i = some (.inl b) := fun a i b h1 h2 => by unfold kP; rw [if_pos h1, h2]
  exact ⟨⟨(Kst 12).2, (r 12 (by decide)).trans rfl⟩, q 12 0 13 (by decide) (by decide), q 12 1 14 (by decide) (by decide), q 12 2 15 (by decide) (by decide), (r 13 (by decide)).trans rfl, (r 14 (by decide)).trans rfl, (r 15 (by decide)).trans rfl⟩
theorem c_become {σ : ZS} {A B : Nat} (hA : St σ A) (hB : St σ B) (dis : A + 4 ≤ B ∨ B + 4 ≤ A) (hA2 : (12 ≤ A ∧ A + 4 ≤ 44) ∨ 1239 ≤ A) {Ret : ZS → Prop} (hr : ∀ σ', Fr (fun c => A ≤ c ∧ c < A + 4) σ σ' → (∀ i, i < 4824 → zI σ' (A + 1) i = zI σ (B + 1) i) → (∀ i, i < 4824 → zI σ' (A + 2) i = zI σ (B + 2) i) → (∀ i, i < 12 → zI σ' (A + 3) i = zI σ (B + 3) i) → zI σ' A 3 = zI σ B 3 → zI σ' A 4 = zI σ B 4 → Ret σ') : wp_X3_become σ A B Ret := by
  have cA : ∀ k i, k < 4 → cd (A + k) i = A + k := fun k i hk => by unfold cd; rw [if_neg (by omega), if_neg (by omega)]
  have f1 : Fr (fun c => A ≤ c ∧ c < A + 4) σ (cI σ (B + 1) (A + 1) 0 0 4824) := Fr.rfl.cI _ _ _ _ _ (fun i => by rw [cA 1 i (by decide)]; omega)
  have A1 := hA.fr f1; have B1 := hB.fr f1
  have f2 : Fr (fun c => A ≤ c ∧ c < A + 4) σ (cI (cI σ (B + 1) (A + 1) 0 0 4824) (B + 2) (A + 2) 0 0 4824) := f1.cI _ _ _ _ _ (fun i => by rw [cA 2 i (by decide)]; omega)
  have A2 := hA.fr f2; have B2 := hB.fr f2
  have f3 : Fr (fun c => A ≤ c ∧ c < A + 4) σ (cI (cI (cI σ (B + 1) (A + 1) 0 0 4824) (B + 2) (A + 2) 0 0 4824) (B + 3) (A + 3) 0 0 12) := f2.cI _ _ _ _ _ (fun i => by rw [cA 3 i (by decide)]; omega)
  have A3 := hA.fr f3; have B3 := hB.fr f3
  have cy : ∀ {s : ZS} {b a n i : Nat}, i < n → zI (cI s b a 0 0 n) a i = zI s b i := fun {s b a n i} hi => by
    rw [qI_cI, pk_cpy_in (Nat.zero_le _) (by omega), Nat.sub_zero, Nat.zero_add]
  have c0 : cd A 3 = A := cA 0 3 (by decide)
  have c4 : cd A 4 = A := cA 0 4 (by decide)
  unfold wp_X3_become
  obtain ⟨hA1, hA2', hA3, hA4, hA5, hA6, hA7⟩ := hA
  obtain ⟨hB1, hB2, hB3, hB4, hB5, hB6, hB7⟩ := hB
  have i1 : ix 0 = 0 := rfl
  have i2 : ix (Int32.ofNat 4824) = 4824 := rfl
  have i3 : ix 12 = 12 := rfl
  rw [hA2', hB2]
  rw [zo_in, zo_in]
  refine ⟨hB1, rfl, hA1, rfl, hA1, rfl, 4824, hA5, 4824, hB5, 4824, hA5, ⟨by decide, by decide, by decide, by decide, by decide⟩, nm_e ?_⟩
  rw [i1, i2, A1.2.2.1, B1.2.2.1]
  rw [zo_in, zo_in]
  refine ⟨B1.1, rfl, A1.1, rfl, A1.1, rfl, 4824, A1.2.2.2.2.2.1, 4824, B1.2.2.2.2.2.1, 4824, A1.2.2.2.2.2.1, ⟨by decide, by decide, by decide, by decide, by decide⟩, nm_e ?_⟩
  rw [i2, A2.2.2.2.1, B2.2.2.2.1]
  rw [zo_in, zo_in]
  refine ⟨B2.1, rfl, A2.1, rfl, 12, B2.2.2.2.2.2.2, 12, A2.2.2.2.2.2.2, ⟨by decide, by decide, by decide, by decide, by decide⟩, nm_e ?_⟩
  rw [i3]
  have n1 : A ≠ A + 1 := by omega
  have vB : ∀ j, zI (cI (cI (cI σ (B + 1) (A + 1) 0 0 4824) (B + 2) (A + 2) 0 0 4824) (B + 3) (A + 3) 0 0 12) B j = zI σ B j := fun j => by
    rw [zI_cIn _ (by omega), zI_cIn _ (by omega), zI_cIn _ (by omega)]
  refine ⟨B3.1, A3.1, nm_e ?_⟩
  rw [vB 3]
  have f4 := f3.sI A 3 (zI σ B 3) (by rw [c0]; omega)
  refine ⟨(by rw [f4.K]; exact hB1), (by rw [f4.K]; exact hA1), nm_e ?_⟩
  have vB4 : zI (sI (cI (cI (cI σ (B + 1) (A + 1) 0 0 4824) (B + 2) (A + 2) 0 0 4824) (B + 3) (A + 3) 0 0 12) A 3 (zI σ B 3)) B 4 = zI σ B 4 := by
    rw [zI_ne _ (.inl (by omega))]; exact vB 4
  rw [vB4]
  refine hr _ (f4.sI A 4 _ (by rw [c4]; omega)) (fun i hi => ?_) (fun i hi => ?_) (fun i hi => ?_) ?_ (zI_self _ _ _ _)
  · rw [zI_ne _ (.inl (by omega)), zI_ne _ (.inl (by omega)), zI_cIn _ (by omega), zI_cIn _ (by omega), cy hi]
  · rw [zI_ne _ (.inl (by omega)), zI_ne _ (.inl (by omega)), zI_cIn _ (by omega), cy hi, zI_cIn _ (by omega)]
  · rw [zI_ne _ (.inl (by omega)), zI_ne _ (.inl (by omega)), cy hi, zI_cIn _ (by omega), zI_cIn _ (by omega)]
  · rw [zI_ne _ (.inr (by decide)), zI_self]
/-- what a State holds: time, signs, allowances, what was told -/
abbrev IV : Type := Nat × (Nat → Nat → Int32) × (Nat → Nat → Int32) × Nat × (Nat → Int32)
def HC (σ : ZS) (A : Nat) (v : IV) : Prop := v.1 ≤ 200 ∧ v.2.2.2.1 ≤ 12 ∧ zI σ A 3 = nI v.1 ∧ zI σ A 4 = nI v.2.2.2.1 ∧ (∀ t, t ≤ v.1 → ∀ s, s < 24 → zI σ (A + 1) (24 * t + s) = v.2.1 t s) ∧ (∀ t, t ≤ v.1 → ∀ s, s < 24 → zI σ (A + 2) (24 * t + s) = v.2.2.1 t s) ∧ ∀ i, i < v.2.2.2.1 → zI σ (A + 3) i = v.2.2.2.2 i
theorem HC12 {σ : ZS} {tm nt : Nat} {sg al : Nat → Nat → Int32} {td : Nat → Int32} (h : CH tm sg al σ) (h2 : TdC nt td σ) : HC σ 12 (tm, sg, al, nt, td) := ⟨h.1, h2.1, h.2.1, h2.2.1, h.2.2.1, h.2.2.2, h2.2.2⟩
theorem HC.ch {σ : ZS} {v : IV} (h : HC σ 12 v) : CH v.1 v.2.1 v.2.2.1 σ ∧ TdC v.2.2.2.1 v.2.2.2.2 σ := ⟨⟨h.1, h.2.2.1, h.2.2.2.2.1, h.2.2.2.2.2.1⟩, ⟨h.2.1, h.2.2.2.1, h.2.2.2.2.2.2⟩⟩
theorem HC.cp {σ σ' : ZS} {A B : Nat} {v : IV} (h : HC σ B v) (h1 : ∀ i, i < 4824 → zI σ' (A + 1) i = zI σ (B + 1) i) (h2 : ∀ i, i < 4824 → zI σ' (A + 2) i = zI σ (B + 2) i) (h3 : ∀ i, i < 12 → zI σ' (A + 3) i = zI σ (B + 3) i) (h4 : zI σ' A 3 = zI σ B 3) (h5 : zI σ' A 4 = zI σ B 4) : HC σ' A v := by
  obtain ⟨a1, a2, a3, a4, a5, a6, a7⟩ := h
  exact ⟨a1, a2, h4.trans a3, h5.trans a4, fun t ht s hs => (h1 _ (by omega)).trans (a5 t ht s hs), fun t ht s hs => (h2 _ (by omega)).trans (a6 t ht s hs), fun i hi => (h3 i (by omega)).trans (a7 i hi)⟩
theorem HC.eq {σ σ' : ZS} {A : Nat} {v : IV} (h : HC σ A v) (e : ∀ k i, k < 4 → zI σ' (A + k) i = zI σ (A + k) i) : HC σ' A v := h.cp (fun i _ => e 1 i (by decide)) (fun i _ => e 2 i (by decide)) (fun i _ => e 3 i (by decide)) (e 0 3 (by decide)) (e 0 4 (by decide))
/-- a block of an image -/
def Bk (σ : ZS) (q : Nat) : Prop := 1239 ≤ q ∧ q + 4 ≤ zt σ ∧ zK σ q = (9, 0) ∧ zP σ q 0 = some (.inl (q + 1)) ∧ zP σ q 1 = some (.inl (q + 2)) ∧ zP σ q 2 = some (.inl (q + 3)) ∧ zK σ (q + 1) = (0, 4824) ∧ zK σ (q + 2) = (0, 4824) ∧ zK σ (q + 3) = (0, 12)
theorem Bk.st {σ : ZS} {q : Nat} (h : Bk σ q) : St σ q := by
  obtain ⟨h1, h2, h3, h4, h5, h6, h7, h8, h9⟩ := h
  unfold St
  rw [kK_dyn h1, kP_dyn h1, kP_dyn h1, kP_dyn h1, kK_dyn (show 1239 ≤ q + 1 by omega), kK_dyn (show 1239 ≤ q + 2 by omega), kK_dyn (show 1239 ≤ q + 3 by omega)]
  exact ⟨⟨0, h3⟩, h4, h5, h6, h7, h8, h9⟩
theorem Bk.dis {σ : ZS} {q r : Nat} (h : Bk σ q) (k : Bk σ r) (ne : q ≠ r) : q + 4 ≤ r ∨ r + 4 ≤ q := by
  have a := h.2.2; have b := k.2.2
  have h1 : r ≠ q + 1 := by rintro rfl; have := b.1.symm.trans a.2.2.2.2.1; simp at this
  have h2 : r ≠ q + 2 := by rintro rfl; have := b.1.symm.trans a.2.2.2.2.2.1; simp at this
  have h3 : r ≠ q + 3 := by rintro rfl; have := b.1.symm.trans a.2.2.2.2.2.2; simp at this
  have h4 : q ≠ r + 1 := by rintro rfl; have := a.1.symm.trans b.2.2.2.2.1; simp at this
  have h5 : q ≠ r + 2 := by rintro rfl; have := a.1.symm.trans b.2.2.2.2.2.1; simp at this
  have h6 : q ≠ r + 3 := by rintro rfl; have := a.1.symm.trans b.2.2.2.2.2.2; simp at this
  omega
/-- the images -/
def IMC (ni : Nat) (v : Nat → IV) (σ : ZS) : Prop := ni ≤ 3 ∧ zI σ 0 4 = nI ni ∧ (∀ i, i < 3 → zP σ 17 i = none ∨ ∃ q, zP σ 17 i = some (.inl q) ∧ Bk σ q) ∧ (∀ i j q, i < 3 → j < 3 → zP σ 17 i = some (.inl q) → zP σ 17 j = some (.inl q) → i = j) ∧ ∀ i, i < ni → ∃ q, zP σ 17 i = some (.inl q) ∧ HC σ q (v i)
theorem Bk.gw {σ σ' : ZS} {q k m : Nat} {S : Nat → Prop} (h : Bk σ q) (g : Gw S k m σ σ') (hs : ∀ i, ¬ S (cd q i)) : Bk σ' q := by
  obtain ⟨h1, h2, h3, h4, h5, h6, h7, h8, h9⟩ := h
  have := g.t1
  refine ⟨h1, by omega, ?_, ?_, ?_, ?_, ?_, ?_, ?_⟩
  · rw [g.kk _ (by omega)]; exact h3
  · rw [g.p _ _ (by omega) (hs 0)]; exact h4
  · rw [g.p _ _ (by omega) (hs 1)]; exact h5
  · rw [g.p _ _ (by omega) (hs 2)]; exact h6
  · rw [g.kk _ (by omega)]; exact h7
  · rw [g.kk _ (by omega)]; exact h8
  · rw [g.kk _ (by omega)]; exact h9
/-- no code of an image -/
def noI (c : Nat) : Prop := c ≠ 17 ∧ c ≠ 2000004 ∧ (c < 1239 ∨ 200000 ≤ c)
theorem IMC.gw {ni : Nat} {v : Nat → IV} {σ σ' : ZS} {k m : Nat} {S : Nat → Prop} (h : IMC ni v σ) (hz : NS ≤ zt σ) (hzb : zt σ ≤ 160000) (g : Gw S k m σ σ') (hs : ∀ c, S c → noI c) : IMC ni v σ' := by
  have hz : 1239 ≤ zt σ := hz
  obtain ⟨h1, h2, h3, h4, h5⟩ := h
  have e17 : ∀ i, zP σ' 17 i = zP σ 17 i := fun i => g.p 17 i (by omega) fun k => (hs _ k).1 rfl
  have nD : ∀ a i, 1239 ≤ a → a < zt σ → ¬ S (cd a i) := fun a i h1 h2 k => by
    have := hs _ k
    unfold noI cd at this
    rw [if_neg (by omega), if_neg (by omega)] at this
    omega
  refine ⟨h1, ?_, fun i hi => ?_, fun i j q hi hj => ?_, fun i hi => ?_⟩
  · rw [g.i 0 4 (by omega) fun k => (hs _ k).2.1 rfl]; exact h2
  · rw [e17]
    rcases h3 i hi with k | ⟨q, k1, k2⟩
    · exact .inl k
    · exact .inr ⟨q, k1, k2.gw g fun i => nD q i k2.1 (by have := k2.2.1; omega)⟩
  · rw [e17, e17]; exact h4 i j q hi hj
  · obtain ⟨q, k1, k2⟩ := h5 i hi
    have hb : Bk σ q := by
      rcases h3 i (by omega) with k | ⟨q', k1', k2'⟩
      · rw [k] at k1; cases k1
      · rw [k1] at k1'; injection k1' with e; injection e with e; rw [e]; exact k2'
    refine ⟨q, by rw [e17]; exact k1, k2.eq fun k i hk => g.i _ _ (by have := hb.2.1; omega) (nD _ _ (by have := hb.1; omega) (by have := hb.2.1; omega))⟩
