/-! PURE HALF: numbers, words: the class's reader. -/
set_option maxRecDepth 100000
theorem min_step {x d : Nat} (hd : d ≤ 9) : (if 1000 < 10 * min 1000 x + d then 1000 else 10 * min 1000 x + d) = min 1000 (10 * x + d) := by
  split <;> omega
theorem ex_good {n : Nat} {tx : Nat → Int32} {R : Nat} {d : Ad} {d3 d4 : Nat} {P : PT} {σ s : ZS} {B k m : Nat} (g : Gw (inD B) k m σ s) (hs : RS n tx R d d3 d4 P s) (hB : B ≤ R) (rm : zt s + 1 ≤ 160000 ∧ zn s + 8 ≤ 8000000) {pl : Nat} (hp : zI s R 3 = nI pl) {b : Bool} {Thr : Nat → ZS → Prop} {Ret : ZS → Prop} (ht : b = false → ∀ x σ', EX B (k + 1) (m + 8) σ (2, pl) x σ' → Thr x σ') (hr : b = true → Ret s) : wp_X5_good s R (b2i b) Thr Ret := by
  unfold wp_X5_good
  exact br0 (fun h => c_newW (kd := 2) g hs hB rm hp (ht h)) hr
theorem c_number {n : Nat} {tx : Nat → Int32} {R : Nat} {d : Ad} {d3 d4 : Nat} {P : PT} {σ : ZS} {B : Nat} (hB : 1239 ≤ B ∧ B ≤ R) (hs : RS n tx R d d3 d4 P σ) (rm : zt σ + 1 ≤ 160000 ∧ zn σ + 8 ≤ 8000000) {k lo mm : Nat} (hlo : lo ≤ 1) (hmm : mm ≤ 100) (hk : k ≤ n) (e2 : zI σ R 2 = nI k) {Thr : Nat → ZS → Prop} {Ret : Int32 → ZS → Prop} (ht : ∀ e, numR n tx k lo mm = .inl e → ∀ x σ', EX B 1 8 σ e x σ' → Thr x σ') (hr : ∀ v q, numR n tx k lo mm = .inr (v, q) → Ret (nI v) (psR σ R (sk n tx k) q)) : wp_X5_number σ R (nI lo) (nI mm - 1) Thr Ret := by
  have hn := hs.hn
  have hzb := hs.zb
  have hRl := hs.Rl
  have hsk := sk_le (tx := tx) hk
  unfold wp_X5_number
  refine ⟨hs.k11, c_sign hs hk e2 ?_⟩
  generalize hp : sk n tx k = p at *
  have hs2 := hs.setR (j := 2) (by decide) (nI p)
  have bad : dg (ch n tx p) = false → (∃ n8, kK NS (sI σ R 2 (nI p)) R = (11, n8)) ∧ wp_X5_wrong (sI σ R 2 (nI p)) R (fun r5 σ6 => r5 = some (.inl (zo r5)) ∧ (Thr (zo r5) σ6)) := fun hd => by
    refine ⟨hs2.k11, c_wrong (gw_sI (B := B) hB.2 (by omega) hB.1) hs2 hB.2 rm (zI_self _ _ _ _) (fun x σ' he => ht (1, p) ?_ x σ' (he.mono (by omega) (by omega)))⟩
    unfold numR; rw [hp, hd]; rfl
  by_cases l : p < n
  · obtain ⟨a1, a2, a3⟩ := hs.at l
    rw [if_pos l]
    refine a2.dig (fun hd => bad (by rw [a3]; exact hd)) fun hd _ => ?_
    rw [← a3] at hd
    refine ⟨hs2.k11, hs2.k11, nm_e ?_⟩
    rw [zI_self, sI_comm _ _ (show (2 : Nat) ≠ 3 by decide)]
    change V_X5_number_33 Thr Ret (psR σ R p p) R (nI lo) (nI mm - 1) 0
    have fin : ∀ q, p ≤ q → q ≤ n → dg (ch n tx q) = false → (∀ j, p ≤ j → j < q → dg (ch n tx j) = true) → V_X5_number_111 Thr Ret (psR σ R p q) R (nI lo) (nI mm - 1) (nI (min 1000 (nv n tx p (q - p)))) := by
      intro q h1 h2 h3 h4
      have eq := dq_eq h1 h3 h4
      have hsq := hs.ps p q
      unfold V_X5_number_111
      have hres : numR n tx k lo mm = if lo ≤ nv n tx p (q - p) ∧ nv n tx p (q - p) < mm then .inr (nv n tx p (q - p), q) else .inl (2, p) := by
        unfold numR; rw [hp, hd, if_pos rfl, eq]
      have e1 : (nI mm - 1 < nI (min 1000 (nv n tx p (q - p)))) = (mm ≤ nv n tx p (q - p)) := by
        rw [Int32.lt_iff_toInt_lt, toInt_sub1 (by omega), nI_toInt (by omega)]
        apply propext; omega
      rw [nI_ltI (by omega) (by omega), e1]
      have exx : ∀ x σ', EX B (0 + 1) (0 + 8) σ (2, p) x σ' → numR n tx k lo mm = .inl (2, p) → Thr x σ' := fun x σ' he hq => ht _ hq x σ' (he.mono (by omega) (by omega))
      refine ⟨fun l1 => c_newW (kd := 2) (psR_gw hB.2 (by omega) hB.1) hsq hB.2 rm (psR_3 _ _ _ _) fun x σ' he => exx x σ' he (by rw [hres, if_neg (by omega)]), fun l1 => ⟨fun l2 => c_newW (kd := 2) (psR_gw hB.2 (by omega) hB.1) hsq hB.2 rm (psR_3 _ _ _ _) fun x σ' he => exx x σ' he (by rw [hres, if_neg (by omega)]), fun l2 => ?_⟩⟩
      rw [show min 1000 (nv n tx p (q - p)) = nv n tx p (q - p) by omega]
      exact hr _ _ (by rw [hres, if_pos (by omega)])
    refine lp2 (fun m s v => VL_X5_number_33 Thr Ret m s R (nI lo) (nI mm - 1) v) (fun s v => ∃ q, p ≤ q ∧ q ≤ n ∧ s = psR σ R p q ∧ v = nI (min 1000 (nv n tx p (q - p))) ∧ ∀ j, p ≤ j → j < q → dg (ch n tx j) = true) (fun s v => n - ix (zI s R 2)) ?_ (psR σ R p p) 0 ⟨p, Nat.le_refl _, by omega, rfl, by rw [Nat.sub_self]; rfl, fun j h1 h2 => by omega⟩
    rintro m s v ⟨q, h1, h2, rfl, rfl, h4⟩ ih
    have hsq := hs.ps p q
    have k11 := hsq.k11
    simp only [VL_X5_number_33]
    rw [psR_2, hsq.r1, hsq.r0', zo_in, nI_ltI (by omega) (by omega)]
    refine ⟨k11, k11, fun lq => ⟨k11, rfl, k11, 500, k16 _, vin (by omega) (by decide), ?_⟩, fun lq => fin q h1 h2 (by rw [ch_out (by omega)]; rfl) h4⟩
    obtain ⟨c1, c2, c3⟩ := hsq.at lq
    rw [c1]
    refine ⟨fun x1 => ?_, fun x1 => ⟨k11, rfl, k11, 500, k16 _, vin (by omega) (by decide), ?_⟩⟩
    · have := c2.dig (A := dg (bV (tx q)) = false) (C := True) (fun h => h) (fun _ _ => trivial)
      exact fin q h1 h2 (by rw [c3]; exact this.1 x1) h4
    · refine ⟨fun x2 => ?_, fun x2 => ⟨k11, rfl, k11, 500, k16 _, vin (by omega) (by decide), ?_⟩⟩
      · have := c2.dig (A := dg (bV (tx q)) = false) (C := True) (fun h => h) (fun _ _ => trivial)
        exact fin q h1 h2 (by rw [c3]; exact (this.2 x1).1 x2) h4
      · have := c2.dig (A := False) (C := dg (bV (tx q)) = true ∧ tx q = nI (bV (tx q))) 
        by_cases hdq : dg (bV (tx q)) = true
        · have hx : tx q = nI (bV (tx q)) := (c2.v.2.2.1) (by unfold dg at hdq; simp at hdq; omega)
          have hb : 48 ≤ bV (tx q) ∧ bV (tx q) ≤ 57 := by unfold dg at hdq; simpa using hdq
          have hval : (10 * nI (min 1000 (nv n tx p (q - p))) + tx q) - 48 = nI (10 * min 1000 (nv n tx p (q - p)) + (bV (tx q) - 48)) := by
            rw [hx, show (10 : Int32) = nI 10 from rfl, pk_mul, nI_add, show (48 : Int32) = nI 48 from rfl, pk_sub (by omega)]
            congr 1; rw [← hx]; omega
          rw [hval]
          refine nm_e ⟨k11, k11, nm_e ?_⟩
          rw [nI1]
          have est : sI (psR σ R p q) R 2 (nI (q + 1)) = psR σ R p (q + 1) := by unfold psR; rw [sI_sI]
          rw [est]
          refine ih _ _ ⟨q + 1, by omega, by omega, rfl, ?_, fun j hj1 hj2 => ?_⟩ ?_
          · rw [show q + 1 - p = (q - p) + 1 by omega]
            show _ = nI (min 1000 (10 * nv n tx p (q - p) + (ch n tx (p + (q - p)) - 48)))
            rw [show p + (q - p) = q by omega, c3, ← min_step (by omega), show (1000 : Int32) = nI 1000 from rfl]
            by_cases l3 : 1000 < 10 * min 1000 (nv n tx p (q - p)) + (bV (tx q) - 48)
            · rw [if_pos l3, if_pos (nI_lt l3 (by omega))]
            · rw [if_neg l3, if_neg (nI_nlt (by omega) (by omega))]
          · by_cases ej : j = q
            · rw [ej, c3]; exact hdq
            · exact h4 j hj1 (by omega)
          · show n - ix (zI (psR σ R p (q + 1)) R 2) < n - ix (zI (psR σ R p q) R 2)
            rw [psR_2, psR_2, ix_nI (by omega), ix_nI (by omega)]; omega
        · have hf : dg (bV (tx q)) = false := by simpa using hdq
          have := c2.dig (A := True) (C := False) (fun _ => trivial) (fun h => by rw [hf] at h; cases h)
          exact ((this.2 x1).2 x2).elim
  · rw [if_neg l]
    exact br_t (by decide) (bad (by rw [ch_out (by omega)]; rfl))
theorem RS.LC {n : Nat} {tx : Nat → Int32} {R : Nat} {d : Ad} {d3 d4 : Nat} {P : PT} {σ : ZS} (h : RS n tx R d d3 d4 P σ) {l e m ki : Nat} {ad : Nat → Nat} (hl : LS2 σ l e m ki ad) (hki : ki ≠ 1000) : LSt σ l e m ki ad := by
  obtain ⟨h1, h2, ⟨m1, h3⟩, h4, h5, ⟨m2, h6, h7, h8, h9⟩, h10⟩ := hl
  have hb := h.zb
  have b1 := h.lt (a := l) (by rw [h3]; simp)
  have b2 := h.lt (a := e) (by rw [h6]; simp)
  refine ⟨.inr ⟨h1, by omega⟩, .inr ⟨h2, by omega⟩, ⟨m1, by rw [kK_dyn h1]; exact h3⟩, h4, by rw [kP_dyn h1]; exact h5, ⟨m2, by rw [kK_dyn h2]; exact h6, h7, by omega⟩, fun i hi => ?_⟩
  obtain ⟨a1, a2, q, a3⟩ := h10 i hi
  have b3 := h.lt (a := ad i) (by rw [a3]; exact hki)
  exact ⟨by rw [kP_dyn h2]; exact a1, .inr ⟨a2, by omega⟩, q, by rw [kK_dyn a2]; exact a3⟩
theorem RS.kT {n : Nat} {tx : Nat → Int32} {R : Nat} {d : Ad} {d3 d4 : Nat} {P : PT} {σ : ZS} (h : RS n tx R d d3 d4 P σ) : ∃ m, kK NS σ d.tw = (8, m) := by rw [kK_dyn h.ot]; exact h.kt
theorem RS.P0 {n : Nat} {tx : Nat → Int32} {R : Nat} {d : Ad} {d3 d4 : Nat} {P : PT} {σ : ZS} (h : RS n tx R d d3 d4 P σ) : kP NS σ d.tw 0 = some (.inl d.lc) := by rw [kP_dyn h.ot]; exact h.p0
theorem RS.P1 {n : Nat} {tx : Nat → Int32} {R : Nat} {d : Ad} {d3 d4 : Nat} {P : PT} {σ : ZS} (h : RS n tx R d d3 d4 P σ) : kP NS σ d.tw 1 = some (.inl d.ls) := by rw [kP_dyn h.ot]; exact h.p1
theorem RS.P2 {n : Nat} {tx : Nat → Int32} {R : Nat} {d : Ad} {d3 d4 : Nat} {P : PT} {σ : ZS} (h : RS n tx R d d3 d4 P σ) : kP NS σ d.tw 2 = some (.inl d.lr) := by rw [kP_dyn h.ot]; exact h.p2
theorem RS.P3 {n : Nat} {tx : Nat → Int32} {R : Nat} {d : Ad} {d3 d4 : Nat} {P : PT} {σ : ZS} (h : RS n tx R d d3 d4 P σ) : kP NS σ d.tw 3 = some (.inl d3) := by rw [kP_dyn h.ot]; exact h.p3
theorem RS.P4 {n : Nat} {tx : Nat → Int32} {R : Nat} {d : Ad} {d3 d4 : Nat} {P : PT} {σ : ZS} (h : RS n tx R d d3 d4 P σ) : kP NS σ d.tw 4 = some (.inl d4) := by rw [kP_dyn h.ot]; exact h.p4
theorem RS.lcT {n : Nat} {tx : Nat → Int32} {R : Nat} {d : Ad} {d3 d4 : Nat} {P : PT} {σ : ZS} (h : RS n tx R d d3 d4 P σ) : LSt σ d.lc d.ec P.T.nc 13 d.co := h.LC h.lc (by decide)
theorem RS.lsT {n : Nat} {tx : Nat → Int32} {R : Nat} {d : Ad} {d3 d4 : Nat} {P : PT} {σ : ZS} (h : RS n tx R d d3 d4 P σ) : LSt σ d.ls d.es P.T.ns 14 d.so := h.LC h.ls (by decide)
theorem RS.lrT {n : Nat} {tx : Nat → Int32} {R : Nat} {d : Ad} {d3 d4 : Nat} {P : PT} {σ : ZS} (h : RS n tx R d d3 d4 P σ) : LSt σ d.lr d.er P.T.nr 15 d.ro := h.LC h.lr (by decide)
theorem c_corner5 {n : Nat} {tx : Nat → Int32} {R : Nat} {d : Ad} {d3 d4 : Nat} {P : PT} {σ : ZS} {B : Nat} (hB : 1239 ≤ B ∧ B ≤ R) (hs : RS n tx R d d3 d4 P σ) (rm : zt σ + 1 ≤ 160000 ∧ zn σ + 8 ≤ 8000000) {k : Nat} (hk : k ≤ n) (e2 : zI σ R 2 = nI k) {Thr : Nat → ZS → Prop} {Ret : Int32 → ZS → Prop} (ht : ∀ e, numR n tx k 0 P.T.nc = .inl e → ∀ x σ', EX B 1 8 σ e x σ' → Thr x σ') (hr : ∀ v q, numR n tx k 0 P.T.nc = .inr (v, q) → Ret (nI v) (psR σ R (sk n tx k) q)) : wp_X5_corner σ R Thr Ret := by
  have := hs.pw.1.nc
  unfold wp_X5_corner
  rw [hs.r4', zo_in, hs.P0, zo_in]
  exact ⟨hs.k11, rfl, hs.kT, rfl, hs.lcT.kl, j_size hs.lcT ⟨hs.k11, c_number (lo := 0) hB hs rm (by decide) (by omega) hk e2 ht hr⟩⟩
theorem c_street5 {n : Nat} {tx : Nat → Int32} {R : Nat} {d : Ad} {d3 d4 : Nat} {P : PT} {σ : ZS} {B : Nat} (hB : 1239 ≤ B ∧ B ≤ R) (hs : RS n tx R d d3 d4 P σ) (rm : zt σ + 1 ≤ 160000 ∧ zn σ + 8 ≤ 8000000) {k : Nat} (hk : k ≤ n) (e2 : zI σ R 2 = nI k) {Thr : Nat → ZS → Prop} {Ret : Int32 → ZS → Prop} (ht : ∀ e, numR n tx k 0 P.T.ns = .inl e → ∀ x σ', EX B 1 8 σ e x σ' → Thr x σ') (hr : ∀ v q, numR n tx k 0 P.T.ns = .inr (v, q) → Ret (nI v) (psR σ R (sk n tx k) q)) : wp_X5_street σ R Thr Ret := by
  have := hs.pw.1.ns
  unfold wp_X5_street
  rw [hs.r4', zo_in, hs.P1, zo_in]
  exact ⟨hs.k11, rfl, hs.kT, rfl, hs.lsT.kl, j_size hs.lsT ⟨hs.k11, c_number (lo := 0) hB hs rm (by decide) (by omega) hk e2 ht hr⟩⟩
