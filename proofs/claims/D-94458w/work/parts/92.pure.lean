/-! PURE HALF: bound: the class. -/
set_option maxRecDepth 100000
theorem bt_m1' : ∀ k, k < 32 → btI (-1) k = true := by
  have : ∀ a : Fin 32, btI (-1) a.val = true := by decide +kernel
  exact fun k hk => this ⟨k, hk⟩
theorem out_bit {X j : Nat} (hX : X < 2 ^ 14) (hj : j < 14) (h : tb X j = true) : nI X &&& (((1 : Int32) <<< (nI j &&& 31)) ^^^ (-1)) = nI (X ^^^ 2 ^ j) := by
  refine bt_ext fun k hk => ?_
  rw [bt_and, bt_xor, bt_one (by omega) hk, bt_m1' k hk, bt_tb hX, bt_tb (x_bd hX hj), tb_x]
  by_cases e : k = j
  · subst e; rw [h]; simp
  · simp [e]
theorem in_bit {X j : Nat} (hX : X < 2 ^ 14) (hj : j < 14) (h : tb X j = false) : nI X ||| ((1 : Int32) <<< (nI j &&& 31)) = nI (X ^^^ 2 ^ j) := by
  refine bt_ext fun k hk => ?_
  rw [bt_or, bt_one (by omega) hk, bt_tb hX, bt_tb (x_bd hX hj), tb_x]
  by_cases e : k = j
  · subst e; rw [h]; simp
  · simp [e]
theorem pw14 {X n : Nat} (h : X < 2 ^ n) (hn : n ≤ 14) : X < 2 ^ 14 := Nat.lt_of_lt_of_le h (Nat.pow_le_pow_right (by decide) hn)
theorem pw11 {X n : Nat} (h : X < 2 ^ n) (hn : n ≤ 11) : X < 2048 := Nat.lt_of_lt_of_le h (Nat.pow_le_pow_right (n := 2) (by decide) hn)
theorem pop_le {X n : Nat} (h : X < 2 ^ n) (hn : n ≤ 24) : pop X ≤ n := by
  unfold pop
  rw [cnt_cut (m := n) hn fun x hx _ => by
    cases k : tb X x
    · rfl
    · have := tb_lt h k; omega]
  exact cnt_le _ _
def inBd (c : Nat) : Prop := c = 20 ∨ c = 29 ∨ c = 30 ∨ c = 31
theorem inBd_C : ∀ c, inBd c → scC c := by intro c hc; unfold inBd at hc; unfold scC; omega
theorem fz_le {F : Nat} {o : Option Nat} (h : ∀ v, o = some v → v ≤ F) : fz F o ≤ F := by
  cases o with
  | none => exact Nat.le_refl _
  | some v => exact h v rfl
theorem C_bound {T : Tw} {d : Ad} {tm : Nat} {sg al : Nat → Nat → Int32} {σ : ZS} (h : CQ T d tm sg al σ) {c t : Int32} {Ret : Int32 → ZS → Prop} (hr : PC σ Ret (wd (spBnd T tm sg al c t))) : wp_X0_bound σ c t Ret := by
  unfold wp_X0_bound wp_X1_bound
  refine C_ct h hr (fun h1 h3 hr => ?_) rfl
  have ce := h.ce
  obtain ⟨ct, ch, sf, rm⟩ := h
  have w := ct.wf
  have hnc := w.nc
  obtain ⟨c, rfl, hc, ec, hc2⟩ := inN_N h1
  obtain ⟨t, rfl, ht, et, -⟩ := inN_N h3
  rw [ec, et] at hr
  have ht' : t ≤ tm := by omega
  have ok : ∀ s', Fr inBd σ s' → ∀ v, v = bndV T (GT T sg al t) c → ∀ σ6 : ZS, σ6 = sJ s' 1238 (ix 0) v.toInt64 → Ret 0 σ6 := fun s' f v e => hr.ok rfl sf f (by intro c hc; unfold inBd at hc; omega) (by rw [e])
  generalize hThr : (fun x3 σ4 => ((∃ x, kK NS σ4 x3 = (14 + 7, x)) ∧ (Ret 1 σ4)) ∨ ((∃ x, kK NS σ4 x3 = (12 + 7, x)) ∧ (Ret 2 σ4))) = Thr
  generalize hR : (fun (r1 : Int32) (σ2 : ZS) => ∀ σ6 : ZS, σ6 = sJ σ2 1238 (ix 0) r1.toInt64 → (Ret 0 σ6)) = R
  have ok : ∀ s', Fr inBd σ s' → ∀ v, v = bndV T (GT T sg al t) c → R v s' := fun s' f v e => by rw [← hR]; exact ok s' f v e
  clear hr hThr hR
  obtain ⟨hp1, hp2⟩ := pt_cnt w hc
  unfold bndV at ok
  have hfG := ev0_G T d tm sg al t
  generalize GT T sg al t = G at ok hfG
  have hB : ∀ i j k, btw T G c i j = some k → k ≤ 4851 := fun i j k h => btw_le w h
  generalize hB' : btw T G c = B at ok hB
  have hpt : ∀ j, j < cnt (ptB T c) T.nc → nth (ptB T c) j < T.nc := fun j hj => (nth_is hj).1
  generalize hn : cnt (ptB T c) T.nc = n at ok hp1 hp2 hpt
  have hD : ∀ X v, X < 2 ^ n → Db B n X = some v → v ≤ 53361 := fun X v hX h => by
    have h1 := Db_le hB h
    have h2 := pop_le hX (by omega)
    have : pop X * 4851 ≤ 11 * 4851 := Nat.mul_le_mul_right _ (by omega)
    omega
  -- phase C
  have phC : ∀ s, Fr inBd σ s → n ≠ 1 → (∀ i j, i < n → j < n → zI s 30 (n * i + j) = nI (fz 1000000 (B i j))) → V_X1_bound_166 Thr R s (nI n) 1 := by
    intro s1 f1 hn1 hb1
    refine forL (S := ZS) (fun m s x => VL_X1_bound_166 Thr R m s (nI n) x) (fun X s => Fr inBd σ s ∧ 1 ≤ X ∧ (∀ i j, i < n → j < n → zI s 30 (n * i + j) = nI (fz 1000000 (B i j))) ∧ ∀ Y, 1 ≤ Y → Y < X → zI s 31 Y = nI (fz 1000000 (Db B n Y))) (2 ^ n) ?_ ?_ 1 s1 Nat.one_le_two_pow ⟨f1, Nat.le_refl _, hb1, fun Y h1 h2 => by omega⟩
    · rintro m s ⟨f, -, hb, hl⟩
      simp only [VL_X1_bound_166]
      rw [pow_sh n (by omega)]
      have hpw : 2 ^ n ≤ 2048 := Nat.pow_le_pow_right (n := 2) (by decide) hp2
      have hpp : 1 < 2 ^ n := Nat.one_lt_two_pow (by omega)
      rw [nI_sub1 (by omega)]
      refine br_f (nI_nlt (Nat.le_refl _) (by omega)) ⟨vin (by omega) (by decide), ?_⟩
      rw [ix_nI (by omega), hl _ (by omega) (by omega)]
      rw [if_neg hn1] at ok
      have hDn := fun v => hD (2 ^ n - 1) v (by omega)
      cases hd : Db B n (2 ^ n - 1) with
      | none =>
        rw [hd] at ok
        exact br_f (by decide) (ok s f _ rfl)
      | some v =>
        have hv := hDn v hd
        rw [hd] at ok
        exact br_t (nI_lt (a := v) (b := 1000000) (by omega) (by decide)) ⟨vin (by omega) (by decide), ok s f _ rfl⟩
    · rintro m X s hX ⟨f, hX1, hb, hl⟩ ih
      have hpw : 2 ^ n ≤ 2048 := Nat.pow_le_pow_right (n := 2) (by decide) hp2
      have hX14 := pw14 hX (by omega)
      simp only [VL_X1_bound_166]
      rw [pow_sh n (by omega)]
      refine br_t (nI_lt hX (by omega)) (c_bitCount ?_ (nm_e ⟨vin (by omega) (by decide), nm_e ?_⟩))
      · intro k hk
        rw [bt_tb hX14]
        cases e : tb X k
        · rfl
        · have := tb_lt hX14 e; omega
      rw [bt_tb hX14, ix_nI (by omega)]
      have hpp := pop_pos (X := X) (by omega) hX14
      have hpl := pop_le hX (by omega)
      change V_X1_bound_196 _ Thr R _ (nI n) (nI X) (nI (pop X) - 1) 0
      rw [nI_sub1 (by omega)]
      obtain ⟨i, hi⟩ : ∃ i, pop X = i + 1 := ⟨pop X - 1, by omega⟩
      rw [hi, show i + 1 - 1 = i by omega]
      refine forL (S := ZS) (fun m' s x => VL_X1_bound_196 (VL_X1_bound_166 Thr R m) Thr R m' s (nI n) (nI X) (nI i) x) (fun j s => Fr inBd σ s ∧ (∀ i j, i < n → j < n → zI s 30 (n * i + j) = nI (fz 1000000 (B i j))) ∧ (∀ Y, 1 ≤ Y → Y < X → zI s 31 Y = nI (fz 1000000 (Db B n Y))) ∧ zI s 31 X = nI (fz 1000000 (lsO (fun v => ∃ j', j' < j ∧ tb X j' = true ∧ ∃ m k, Wb B n i (X ^^^ 2 ^ j') m ∧ B i j' = some k ∧ v = m + k)))) n ?_ ?_ 0 _ (Nat.zero_le _) ⟨f.sI 31 X _ (by unfold inBd cd; simp), fun i j h1 h2 => by rw [zI_ne _ (.inl (by decide))]; exact hb i j h1 h2, fun Y h1 h2 => by rw [zI_ne _ (.inr (by omega))]; exact hl Y h1 h2, ?_⟩
      · rintro m' s3 ⟨f3, hb3, hl3, hx3⟩
        simp only [VL_X1_bound_196]
        simp only [nI1]
        refine br_f (nI_nlt (Nat.le_refl _) (by omega)) (nm_e (ih s3 ⟨f3, by omega, hb3, fun Y h1 h2 => ?_⟩))
        by_cases e : Y = X
        · subst e
          rw [hx3]
          congr 2
          unfold Db
          rw [hi]; rfl
        · exact hl3 Y h1 (by omega)
      · rintro m' j s3 hj ⟨f3, hb3, hl3, hx3⟩ ih3
        simp only [VL_X1_bound_196]
        simp only [nI1]
        have hst := @Db_step B n X i _ j (fun v => Iff.rfl)
        rw [tst _ (by omega), bt_tb hX14]
        refine br_t (nI_lt hj (by omega)) (br0 (fun k => nm_e (ih3 s3 ⟨f3, hb3, hl3, ?_⟩)) fun k => ?_)
        · rw [hst, k, if_neg (by simp)]; exact hx3
        rw [out_bit hX14 (by omega) k]
        have hlt := x_lt k
        have hin : n * i + j < 121 := by
          have h1 : n * i ≤ n * (n - 1) := Nat.mul_le_mul_left _ (by omega)
          have h2 : n * (n - 1) + n = n * n := by
            rw [← Nat.mul_succ]; congr 1; omega
          have h3 : n * n ≤ 11 * 11 := Nat.mul_le_mul hp2 hp2
          omega
        have hpx := pop_x (show j < 24 by omega) k
        have hDb : lsO (Wb B n i (X ^^^ 2 ^ j)) = Db B n (X ^^^ 2 ^ j) := by
          unfold Db; rw [show pop (X ^^^ 2 ^ j) = i by omega]
        have hDl := fun v => hD (X ^^^ 2 ^ j) v (by omega)
        have hfm := fz_min (F := 1000000) (o2 := Db B n (X ^^^ 2 ^ j)) (o3 := B i j) (o1 := lsO (fun v => ∃ j', j' < j ∧ tb X j' = true ∧ ∃ m k, Wb B n i (X ^^^ 2 ^ j') m ∧ B i j' = some k ∧ v = m + k)) rfl rfl rfl (fun v hv => by
            obtain ⟨⟨j', h1, h2, m, k, h3, h4, rfl⟩, -⟩ := lsO_some.mp hv
            have := Wb_le hB h3
            have := hB _ _ _ h4
            have : i * 4851 ≤ 11 * 4851 := Nat.mul_le_mul_right _ (by omega)
            omega) (fun v hv => by have := hDl v hv; omega) (fun v hv => by have := hB _ _ _ hv; omega) (fun u v hu hv => by have := hDl u hu; have := hB _ _ _ hv; omega)
        rw [k, if_pos rfl, hDb] at hst
        rw [← hst] at hfm
        have hv1 : lsO (fun v => ∃ j', j' < j ∧ tb X j' = true ∧ ∃ m k, Wb B n i (X ^^^ 2 ^ j') m ∧ B i j' = some k ∧ v = m + k) = none ∨ True := .inr trivial
        have e255 : ∀ s0, s0 = nI (fz 1000000 (Db B n (X ^^^ 2 ^ j))) → V_X1_bound_255 (VL_X1_bound_166 Thr R m) (VL_X1_bound_196 (VL_X1_bound_166 Thr R m) Thr R m') Thr R s3 (nI n) (nI X) (nI i) (nI j) s0 (zI s3 31 X) (nI X) 31 := by
          rintro s0 rfl
          unfold V_X1_bound_255
          rw [pk_mul, nI_add, ix_nI (show X < 2 ^ 31 by omega), ix_nI (show n * i + j < 2 ^ 31 by omega), hb3 i j (by omega) hj, hx3, nI_add]
          have hle : fz 1000000 (Db B n (X ^^^ 2 ^ j)) ≤ 1000000 := fz_le fun v hv => by have := hDl v hv; omega
          have hle2 : fz 1000000 (B i j) ≤ 1000000 := fz_le fun v hv => by have := hB _ _ _ hv; omega
          have hle3 : fz 1000000 (lsO (fun v => ∃ j', j' < j ∧ tb X j' = true ∧ ∃ m k, Wb B n i (X ^^^ 2 ^ j') m ∧ B i j' = some k ∧ v = m + k)) ≤ 1000000 := fz_le fun v hv => by
            obtain ⟨⟨j', h1, h2, m, k, h3, h4, rfl⟩, -⟩ := lsO_some.mp hv
            have := Wb_le hB h3
            have := hB _ _ _ h4
            have : i * 4851 ≤ 11 * 4851 := Nat.mul_le_mul_right _ (by omega)
            omega
          refine ⟨vin hin (by decide), 2048, rfl, vin (by omega) (by decide), nm_e ?_⟩
          simp only [nI1]
          refine nm_e (ih3 _ ⟨f3.sI 31 _ _ (by unfold inBd cd; simp), fun i j h1 h2 => by rw [zI_ne _ (.inl (by decide))]; exact hb3 i j h1 h2, fun Y h1 h2 => ?_, ?_⟩)
          · rw [zI_ne _ (.inr (by omega))]; exact hl3 Y h1 h2
          · rw [zI_self, ← hfm]
            by_cases l : fz 1000000 (Db B n (X ^^^ 2 ^ j)) + fz 1000000 (B i j) < fz 1000000 (lsO (fun v => ∃ j', j' < j ∧ tb X j' = true ∧ ∃ m k, Wb B n i (X ^^^ 2 ^ j') m ∧ B i j' = some k ∧ v = m + k))
            · rw [if_pos l, if_pos (nI_lt l (by omega))]
            · rw [if_neg l, if_neg (nI_nlt (by omega) (by omega))]
        refine nm_e ⟨vin (by omega) (by decide), ?_⟩
        rw [ix_nI (by omega), nI_eq0 (by omega)]
        refine ⟨fun e => e255 0 ?_, fun e => ⟨vin (by omega) (by decide), ?_⟩⟩
        · rw [e, Db_0]; rfl
        · rw [ix_nI (by omega), hl3 _ (by omega) hlt]
          exact e255 _ rfl
      · rw [zI_self]
        have : lsO (fun v => ∃ j', j' < 0 ∧ tb X j' = true ∧ ∃ m k, Wb B n i (X ^^^ 2 ^ j') m ∧ B i j' = some k ∧ v = m + k) = none := lsO_none.mpr (by rintro v ⟨j', h, -⟩; omega)
        rw [this]; rfl
  -- phase A
  refine forL1 (fun m s v x => VL_X1_bound_18 Thr R m s (nI c) (nI t) v x) (fun k s v => Fr inBd σ s ∧ v = nI (cnt (ptB T c) k) ∧ ∀ j, j < cnt (ptB T c) k → zI s 29 j = nI (nth (ptB T c) j)) T.nc ?_ ?_ 0 σ 0 (Nat.zero_le _) ⟨Fr.rfl, rfl, fun j hj => absurd hj (Nat.not_lt_zero _)⟩
  · rintro m s v ⟨f, rfl, g⟩
    have ce1 := ce.fr f inBd_C
    rw [hn] at g
    simp only [VL_X1_bound_18]
    rw [hn]
    refine c_corners ce1.ct (br_f (nI_nlt (Nat.le_refl _) (by show T.nc < _; omega)) ?_)
    rw [nI_eq1 (by omega)]
    refine ⟨fun e => ok s f _ (by rw [if_pos e]), fun e => ?_⟩
    -- phase B
    refine forL (S := ZS) (fun m s x => VL_X1_bound_78 Thr R m s (nI t) (nI n) x) (fun i s => Fr inBd σ s ∧ (∀ j, j < n → zI s 29 j = nI (nth (ptB T c) j)) ∧ ∀ i' j, i' < i → j < n → zI s 30 (n * i' + j) = nI (fz 1000000 (B i' j))) n ?_ ?_ 0 s (Nat.zero_le _) ⟨f, g, fun i' j h => absurd h (Nat.not_lt_zero _)⟩
    · rintro m s2 ⟨f2, -, g2⟩
      simp only [VL_X1_bound_78]
      exact br_f (nI_nlt (Nat.le_refl _) (by omega)) (phC s2 f2 e g2)
    · rintro m i s2 hi ⟨f2, g2, b2⟩ ih2
      simp only [VL_X1_bound_78]
      refine br_t (nI_lt hi (by omega)) ?_
      refine forL (S := ZS) (fun m' s x => VL_X1_bound_87 (VL_X1_bound_78 Thr R m) Thr R m' s (nI t) (nI n) (nI i) x) (fun j s => Fr inBd σ s ∧ (∀ j, j < n → zI s 29 j = nI (nth (ptB T c) j)) ∧ (∀ i' j, i' < i → j < n → zI s 30 (n * i' + j) = nI (fz 1000000 (B i' j))) ∧ ∀ j', j' < j → zI s 30 (n * i + j') = nI (fz 1000000 (B i j'))) n ?_ ?_ 0 s2 (Nat.zero_le _) ⟨f2, g2, b2, fun j h => absurd h (Nat.not_lt_zero _)⟩
      · rintro m' s3 ⟨f3, g3, b3, a3⟩
        simp only [VL_X1_bound_87]
        simp only [nI1]
        refine br_f (nI_nlt (Nat.le_refl _) (by omega)) (nm_e (ih2 s3 ⟨f3, g3, fun i' j h1 h2 => ?_⟩))
        by_cases e : i' = i
        · subst e; exact a3 j h2
        · exact b3 i' j (by omega) h2
      · rintro m' j s3 hj ⟨f3, g3, b3, a3⟩ ih3
        have ce3 := ce.fr f3 inBd_C
        have hnn : n * n ≤ 11 * 11 := Nat.mul_le_mul hp2 hp2
        have hni : n * i + n ≤ n * n := by rw [← Nat.mul_succ]; exact Nat.mul_le_mul_left _ hi
        have k123 : ∀ s4 o, Fr inBd σ s4 → (∀ j, j < n → zI s4 29 j = nI (nth (ptB T c) j)) → (∀ i, zI s4 30 i = zI s3 30 i) → o = B i j → V_X1_bound_123 (VL_X1_bound_78 Thr R m) (VL_X1_bound_87 (VL_X1_bound_78 Thr R m) Thr R m') Thr R s4 (nI t) (nI n) (nI i) (nI j) (oI o) := by
          intro s4 o f4 g4 z30 ho
          unfold V_X1_bound_123
          rw [pk_mul, nI_add, ix_nI (by omega)]
          simp only [nI1]
          have fin : ∀ v, v = nI (fz 1000000 (B i j)) → VL_X1_bound_87 (VL_X1_bound_78 Thr R m) Thr R m' (sI s4 30 (n * i + j) v) (nI t) (nI n) (nI i) (nI (j + 1)) := by
            rintro v rfl
            refine ih3 _ ⟨f4.sI 30 _ _ (by unfold inBd cd; simp), fun j h => by rw [zI_ne _ (.inl (by decide))]; exact g4 j h, fun i' j' h1 h2 => ?_, fun j' h1 => ?_⟩
            · have : n * i' + n ≤ n * i := by rw [← Nat.mul_succ]; exact Nat.mul_le_mul_left _ h1
              rw [zI_ne _ (.inr (by omega)), z30 _]; exact b3 i' j' h1 h2
            · rw [zI_row]
              by_cases e : j' = j
              · subst e; rw [if_pos rfl]
              · rw [if_neg (by omega), z30 _]; exact a3 j' (by omega)
          cases o with
          | none => exact br_t rfl ⟨vin (by omega) (by decide), nm_e (nm_e (fin _ (by rw [← ho]; rfl)))⟩
          | some v =>
            have hv := hB i j v ho.symm
            exact br_f (by show ¬ nI v = -1; rw [nI_m1 (by omega)]; exact id) ⟨vin (by omega) (by decide), nm_e (nm_e (fin _ (by rw [← ho]; rfl)))⟩
        simp only [VL_X1_bound_87]
        refine br_t (nI_lt hj (by omega)) ?_
        rw [nI_eq (by omega) (by omega)]
        refine ⟨fun e => k123 s3 none f3 g3 (fun _ => rfl) (by rw [← hB']; unfold btw; rw [if_pos e]), fun e => ⟨vin (by omega) (by decide), vin (by omega) (by decide), ?_⟩⟩
        rw [ix_nI (by omega), ix_nI (by omega), g3 i hi, g3 j hj]
        have p1 := hpt i hi
        have p2 := hpt j hj
        refine c_rideOf ce3 (by omega) (by omega) ht' fun s4 f4 _ => k123 s4 _ (f3.trans (f4.mono (by intro c hc; unfold inBd; omega))) (fun j h => by rw [f4.1 29 j (by simp [cd])]; exact g3 j h) (fun i => f4.1 30 i (by simp [cd])) ?_
        rw [hfG, ← hB']; unfold btw; rw [if_neg e]; rfl
  · rintro m k s v hk ⟨f, rfl, g⟩ ih
    have ce1 := ce.fr f inBd_C
    have hck : cnt (ptB T c) k ≤ n := by rw [← hn]; exact cnt_mon (by omega)
    simp only [VL_X1_bound_18]
    refine c_corners ce1.ct (br_t (nI_lt hk (by show T.nc < _; omega)) ?_)
    have k51 : ptB T c k = true → V_X1_bound_51 (VL_X1_bound_18 Thr R m) Thr R s (nI c) (nI t) (nI (cnt (ptB T c) k)) (nI k) := by
      intro hp
      have hck2 : cnt (ptB T c) k < n := by
        have h1 : cnt (ptB T c) (k + 1) ≤ cnt (ptB T c) T.nc := cnt_mon hk
        have h2 : cnt (ptB T c) (k + 1) = cnt (ptB T c) k + 1 := by show cnt _ k + _ = _; rw [hp]; rfl
        omega
      unfold V_X1_bound_51
      simp only [nI1]
      refine ⟨vin (by omega) (by decide), nm_e (nm_e (nm_e (ih _ _ ⟨f.sI 29 _ _ (by unfold inBd cd; simp), ?_, fun j hj => ?_⟩)))⟩
      · show nI _ = nI (cnt _ k + _); rw [hp]; rfl
      · have hj : j < cnt (ptB T c) k + (if ptB T c k then 1 else 0) := hj
        rw [hp, if_pos rfl] at hj
        rw [ix_nI (by omega), zI_row]
        by_cases e : j = cnt (ptB T c) k
        · rw [if_pos e, e, nth_eq hp]
        · rw [if_neg e]; exact g j (by omega)
    rw [nI_eq (by omega) (by omega)]
    refine ⟨fun e => k51 (by unfold ptB; simp [e]), fun e => ?_⟩
    have ct1 := ce1.ct
    have ept : zP s 0 0 = some (.inl d.tw) := ct1.pt
    simp only [nI1]
    rw [ept, zo_in]
    have ebx : zI s d.tw 7 = T.bx := ct1.bx
    rw [ebx, tst _ (by omega)]
    refine ⟨rfl, ct1.kt, br0 (fun k2 => nm_e (ih s _ ⟨f, ?_, fun j hj => ?_⟩)) fun k2 => k51 (by unfold ptB; simp [k2])⟩
    · have : ptB T c k = false := by unfold ptB; simp [e, k2]
      show nI _ = nI (cnt _ k + _); rw [this]; rfl
    · have : ptB T c k = false := by unfold ptB; simp [e, k2]
      have hj : j < cnt (ptB T c) k + (if ptB T c k then 1 else 0) := hj
      rw [this] at hj
      exact g j (by simpa using hj)
