/-! PURE HALF: riders' ways; counts. -/
set_option maxRecDepth 100000
noncomputable def pR (T : Tw) (G : Nat → Nat → Bool) (r : Nat) : Option Nat := pN T G (T.rf r) (T.rt r)
noncomputable def wA (T : Tw) (G : Nat → Nat → Bool) (r k : Nat) : Nat := pA T G (T.rf r) (T.rt r) k
theorem pR_pos {T : Tw} (w : T.WF) {G : Nat → Nat → Bool} {r n : Nat} (hr : r < T.nr) (h : pR T G r = some n) : 1 ≤ n ∧ n ≤ 48 := by
  have hns := w.ns
  refine ⟨?_, by have := pN_le w h; omega⟩
  unfold pR pN at h
  rw [if_neg (w.rn r hr)] at h
  cases hf : fstA T G (T.rf r) (T.rt r) with
  | none => rw [hf] at h; cases h
  | some q => rw [hf] at h; cases h; show 1 ≤ plen _ _ _ _; unfold plen; omega
/-- the class's way of a rider -/
def WyC (T : Tw) (G : Nat → Nat → Bool) (σ : ZS) (r : Nat) : Prop := zI σ 33 r = oI (pR T G r) ∧ (∀ n k, pR T G r = some n → k < n → zI σ 32 (48 * r + k) = nI (wA T G r k)) ∧ zI σ 34 r = -1 ∧ zI σ 37 r = -1 ∧ zI σ 38 r = 0
def inY (c : Nat) : Prop := c = 20 ∨ c = 21 ∨ (32 ≤ c ∧ c < 39)
theorem inY_C : ∀ c, inY c → scC c := by intro c hc; unfold inY at hc; unfold scC; omega
theorem WyC.keep {T : Tw} {G : Nat → Nat → Bool} {σ σ' : ZS} {r : Nat} (h : WyC T G σ r) (hr : r < 12) (hn : ∀ n, pR T G r = some n → n ≤ 48) (e33 : zI σ' 33 r = zI σ 33 r) (e32 : ∀ k, k < 48 → zI σ' 32 (48 * r + k) = zI σ 32 (48 * r + k)) (e34 : zI σ' 34 r = zI σ 34 r) (e37 : zI σ' 37 r = zI σ 37 r) (e38 : zI σ' 38 r = zI σ 38 r) : WyC T G σ' r := by
  obtain ⟨h1, h2, h3, h4, h5⟩ := h
  exact ⟨by rw [e33]; exact h1, fun n k hn' hk => by rw [e32 k (by have := hn n hn'; omega)]; exact h2 n k hn' hk, by rw [e34]; exact h3, by rw [e37]; exact h4, by rw [e38]; exact h5⟩
theorem c_findWays {e : Ev} {σ : ZS} (h : CE e σ) {Ret : Int32 → ZS → Prop} (hr : ∀ σ', Fr inY σ σ' → (∀ r, r < e.T.nr → WyC e.T (e.G e.tm) σ' r) → Ret (nI (cnt (fun r => (pR e.T (e.G e.tm) r).isSome) e.T.nr)) σ') : wp_X1_findWays σ Ret := by
  have w := h.ct.wf
  have hnr := w.nr
  have hns := w.ns
  have hnc := w.nc
  have htm := h.ch.ht
  unfold wp_X1_findWays
  refine forL1 (fun m s v x => VL_X1_findWays_4 Ret m s v x) (fun i s v => Fr inY σ s ∧ (∀ r, r < i → WyC e.T (e.G e.tm) s r) ∧ v = nI (cnt (fun r => (pR e.T (e.G e.tm) r).isSome) i)) e.T.nr ?_ ?_ 0 σ 0 (Nat.zero_le _) ⟨Fr.rfl, fun r hr => absurd hr (Nat.not_lt_zero _), rfl⟩
  · rintro n s v ⟨f, g, rfl⟩
    have ct := (h.fr f inY_C).ct
    simp only [VL_X1_findWays_4]
    rw [ct.pt, zo_in, ct.p2, zo_in]
    exact ⟨rfl, ct.kt, rfl, ct.lr.kl, j_size ct.lr (br_f (nI_nlt (Nat.le_refl _) (by omega)) (hr s f g))⟩
  · rintro n i s v hi ⟨f, g, rfl⟩ ih
    have hs := h.fr f inY_C
    have ct := hs.ct
    have kr := (ct.lr.pi i hi).2.2
    have l1 := w.rf i hi
    have l2 := w.rt i hi
    have hcl : cnt (fun r => (pR e.T (e.G e.tm) r).isSome) i ≤ i := cnt_le _ _
    simp only [VL_X1_findWays_4]
    rw [ct.pt, zo_in, ct.p2, zo_in]
    refine ⟨rfl, ct.kt, rfl, ct.lr.kl, j_size ct.lr (br_t (nI_lt hi (by omega)) ?_)⟩
    rw [ct.pt, zo_in, ct.p2, zo_in]
    refine ⟨rfl, ct.kt, rfl, ct.lr.kl, j_get ct.lr hi ⟨rfl, kr, kr, kr, ?_⟩⟩
    rw [zo_in, ct.rf i hi, ct.rt i hi, hs.ch.et]
    refine c_pathOf hs (by omega) (by omega) (Nat.le_refl _) fun s2 f2 hp => ⟨vin (by omega) (by decide), nm_e ?_⟩
    rw [ix_nI (by omega)]
    change ∀ n k, pR e.T (e.G e.tm) i = some n → k < n → zI s2 21 k = nI (wA e.T (e.G e.tm) i k) at hp
    change V_X1_findWays_61 _ Ret (sI s2 33 i (oI (pR e.T (e.G e.tm) i))) _ _ 0
    have hpn : ∀ r n, r < e.T.nr → pR e.T (e.G e.tm) r = some n → n ≤ 48 := fun r n hr hn => (pR_pos w hr hn).2
    have f3 : Fr inY σ (sI s2 33 i (oI (pR e.T (e.G e.tm) i))) := (f.trans (f2.mono (by intro c hc; unfold inY; omega))).sI 33 i _ (by unfold inY cd; simp)
    have g3 : ∀ r, r < i → WyC e.T (e.G e.tm) (sI s2 33 i (oI (pR e.T (e.G e.tm) i))) r := fun r hr => (g r hr).keep (by omega) (fun n => hpn r n (by omega)) (by rw [zI_ne _ (.inr (by omega)), f2.1 33 r (by simp [cd])]) (fun k hk => by rw [zI_ne _ (.inl (by decide)), f2.1 32 _ (by simp [cd])]) (by rw [zI_ne _ (.inl (by decide)), f2.1 34 r (by simp [cd])]) (by rw [zI_ne _ (.inl (by decide)), f2.1 37 r (by simp [cd])]) (by rw [zI_ne _ (.inl (by decide)), f2.1 38 r (by simp [cd])])
    have p3 : ∀ n k, pR e.T (e.G e.tm) i = some n → k < n → zI (sI s2 33 i (oI (pR e.T (e.G e.tm) i))) 21 k = nI (wA e.T (e.G e.tm) i k) := fun n k hn hk => by rw [zI_ne _ (.inl (by decide))]; exact hp n k hn hk
    have e33 : zI (sI s2 33 i (oI (pR e.T (e.G e.tm) i))) 33 i = oI (pR e.T (e.G e.tm) i) := zI_self _ _ _ _
    generalize sI s2 33 i (oI (pR e.T (e.G e.tm) i)) = s3 at f3 g3 p3 e33 ⊢
    have iv : vp_in (nI i) 12 := vin (by omega) (by decide)
    -- the end of the copy
    have fin : ∀ m s4, Fr inY σ s4 → (∀ r, r < i → WyC e.T (e.G e.tm) s4 r) → zI s4 33 i = oI (pR e.T (e.G e.tm) i) → (∀ n k, pR e.T (e.G e.tm) i = some n → k < n → zI s4 32 (48 * i + k) = nI (wA e.T (e.G e.tm) i k)) → ∀ j : Nat, j ≤ 48 → (∀ n, pR e.T (e.G e.tm) i = some n → j = n) → VL_X1_findWays_61 (VL_X1_findWays_4 Ret n) Ret (m + 1) s4 (nI (cnt (fun r => (pR e.T (e.G e.tm) r).isSome) i)) (nI i) (nI j) := by
      intro m s4 f4 g4 e4 w4 j hj48 hj
      simp only [VL_X1_findWays_61]
      simp only [nI1]
      rw [ix_nI (by omega), e4]
      refine ⟨iv, br_f ?_ ⟨iv, nm_e ⟨iv, nm_e ⟨iv, nm_e ⟨iv, ?_⟩⟩⟩⟩⟩
      · cases hq : pR e.T (e.G e.tm) i with
        | none =>
          show ¬ nI j < -1
          rw [Int32.lt_iff_toInt_lt, nI_toInt (by omega)]
          have : (-1 : Int32).toInt = -1 := by decide
          omega
        | some q => rw [hj q hq]; exact nI_nlt (Nat.le_refl _) (by have := hpn i q hi hq; omega)
      · have f5 : Fr inY σ (sI (sI (sI s4 34 i (-1)) 37 i (-1)) 38 i 0) := ((f4.sI 34 i _ (by unfold inY cd; simp)).sI 37 i _ (by unfold inY cd; simp)).sI 38 i _ (by unfold inY cd; simp)
        have x33 : zI (sI (sI (sI s4 34 i (-1)) 37 i (-1)) 38 i 0) 33 i = oI (pR e.T (e.G e.tm) i) := by rw [zI_ne _ (.inl (by decide)), zI_ne _ (.inl (by decide)), zI_ne _ (.inl (by decide))]; exact e4
        have g5 : ∀ r, r < i + 1 → WyC e.T (e.G e.tm) (sI (sI (sI s4 34 i (-1)) 37 i (-1)) 38 i 0) r := by
          intro r hr'
          by_cases er : r = i
          · subst er
            refine ⟨x33, fun n k hn hk => ?_, ?_, ?_, zI_self _ _ _ _⟩
            · rw [zI_ne _ (.inl (by decide)), zI_ne _ (.inl (by decide)), zI_ne _ (.inl (by decide))]; exact w4 n k hn hk
            · rw [zI_ne _ (.inl (by decide)), zI_ne _ (.inl (by decide)), zI_self]
            · rw [zI_ne _ (.inl (by decide)), zI_self]
          · refine (g4 r (by omega)).keep (by omega) (fun n => hpn r n (by omega)) ?_ (fun k hk => ?_) ?_ ?_ ?_
            · rw [zI_ne _ (.inl (by decide)), zI_ne _ (.inl (by decide)), zI_ne _ (.inl (by decide))]
            · rw [zI_ne _ (.inl (by decide)), zI_ne _ (.inl (by decide)), zI_ne _ (.inl (by decide))]
            · rw [zI_ne _ (.inl (by decide)), zI_ne _ (.inl (by decide)), zI_ne _ (.inr (by omega))]
            · rw [zI_ne _ (.inl (by decide)), zI_ne _ (.inr (by omega)), zI_ne _ (.inl (by decide))]
            · rw [zI_ne _ (.inr (by omega)), zI_ne _ (.inl (by decide)), zI_ne _ (.inl (by decide))]
        rw [x33]
        cases hq : pR e.T (e.G e.tm) i with
        | none =>
          refine br_t rfl (nm_e (nm_e (ih _ _ ⟨f5, g5, ?_⟩)))
          show _ + (0 : Int32) = nI (_ + (if (pR e.T (e.G e.tm) i).isSome then 1 else 0))
          rw [hq, n0, nI_add]; rfl
        | some q =>
          refine br_f (by show ¬ nI q = -1; rw [nI_m1 (by have := hpn i q hi hq; omega)]; exact id) (nm_e (nm_e (ih _ _ ⟨f5, g5, ?_⟩)))
          show _ = nI (_ + (if (pR e.T (e.G e.tm) i).isSome then 1 else 0))
          rw [hq]; rfl
    cases hq : pR e.T (e.G e.tm) i with
    | none => exact ⟨1, fin 0 s3 f3 g3 e33 (fun n k hn => by rw [hq] at hn; cases hn) 0 (by omega) (fun n hn => by rw [hq] at hn; cases hn)⟩
    | some q =>
      have hq48 := hpn i q hi hq
      refine forL (S := ZS) (fun m s x => VL_X1_findWays_61 _ Ret m s (nI (cnt (fun r => (pR e.T (e.G e.tm) r).isSome) i)) (nI i) x) (fun j s4 => Fr inY σ s4 ∧ (∀ r, r < i → WyC e.T (e.G e.tm) s4 r) ∧ zI s4 33 i = oI (pR e.T (e.G e.tm) i) ∧ (∀ k, k < q → zI s4 21 k = nI (wA e.T (e.G e.tm) i k)) ∧ ∀ k, k < j → zI s4 32 (48 * i + k) = nI (wA e.T (e.G e.tm) i k)) q ?_ ?_ 0 s3 (Nat.zero_le _) ⟨f3, g3, e33, fun k hk => p3 q k hq hk, fun k hk => absurd hk (Nat.not_lt_zero _)⟩
      · rintro m s4 ⟨f4, g4, e4, -, w4⟩
        exact fin m s4 f4 g4 e4 (fun n k hn hk => by rw [hq] at hn; cases hn; exact w4 k hk) q hq48 (fun n hn => by rw [hq] at hn; cases hn; rfl)
      · rintro m j s4 hj ⟨f4, g4, e4, p4, w4⟩ ih4
        simp only [VL_X1_findWays_61]
        simp only [nI1]
        rw [ix_nI (by omega), ix_nI (by omega), e4, hq, nI_48mul, nI_add, ix_nI (by omega), p4 j hj]
        refine ⟨iv, br_t (nI_lt hj (by omega)) ⟨vin (by omega) (by decide), vin (by omega) (by decide), nm_e (nm_e (ih4 _ ⟨f4.sI 32 _ _ (by unfold inY cd; simp), fun r hr' => ?_, ?_, fun k hk => ?_, fun k hk => ?_⟩))⟩⟩
        · refine (g4 r hr').keep (by omega) (fun n => hpn r n (by omega)) ?_ (fun k hk => ?_) ?_ ?_ ?_
          · rw [zI_ne _ (.inl (by decide))]
          · rw [zI_ne _ (.inr (by omega))]
          · rw [zI_ne _ (.inl (by decide))]
          · rw [zI_ne _ (.inl (by decide))]
          · rw [zI_ne _ (.inl (by decide))]
        · rw [zI_ne _ (.inl (by decide)), e4, hq]
        · rw [zI_ne _ (.inl (by decide))]; exact p4 k hk
        · rw [zI_row]
          by_cases ek : k = j
          · rw [if_pos (by rw [ek]), ek]
          · rw [if_neg (by omega)]; exact w4 k (by omega)
