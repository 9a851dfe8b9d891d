/-! PURE HALF: bound: the model. -/
set_option maxRecDepth 100000
theorem M_ct {T : Tw} {tm : Nat} {sg al : Nat → Nat → Int32} {σ : ZS} (h : ME T tm sg al σ) {a : Int32} {V19 : ZS → Int32 → Prop} (h1 : inN a T.nc = false → V19 (sI σ 44 0 0) 1) (h2 : inN a T.nc = true → V19 (sI σ 44 0 0) 0) : ∀ σ1 : ZS, σ1 = sI σ 44 0 0 → (wp_X4_isCorner σ1 a (fun r2 σ3 => ((r2 = 0 → V19 σ3 1) ∧ (¬ r2 = 0 → V19 σ3 0)))) := by
  refine nm_e ?_
  obtain ⟨h3, hz⟩ := h.z
  exact m_isCorner h3.mt (br0 h1 h2)
def inBm (c : Nat) : Prop := c = 564 ∨ c = 565 ∨ c = 566 ∨ c = 568 ∨ c = 1220 ∨ (1222 ≤ c ∧ c < 1234)
theorem inBm_M : ∀ c, inBm c → scM c := by intro c hc; unfold inBm at hc; unfold scM; omega
theorem inBm_S : ∀ c, inBm c → SM c ∧ c ≠ 1000000 ∧ c ≠ 1000054 := by intro c hc; unfold inBm at hc; unfold SM; omega
/-- ways to a set by such as are less, or this one by points below b -/
def Qb (B : Nat → Nat → Option Nat) (n S b Y v : Nat) : Prop := ∃ j, j < n ∧ tb Y j = true ∧ (Y ^^^ 2 ^ j < S ∨ (Y ^^^ 2 ^ j = S ∧ j < b)) ∧ ∃ m k, Wb B n (pop Y - 1) (Y ^^^ 2 ^ j) m ∧ B (pop Y - 1) j = some k ∧ v = m + k
theorem Qb_no {B : Nat → Nat → Option Nat} {n S b Y : Nat} (h : Y ≠ S ^^^ 2 ^ b ∨ tb S b = true) (v : Nat) : Qb B n S (b + 1) Y v ↔ Qb B n S b Y v := by
  constructor
  · rintro ⟨j, h1, h2, h3, h4⟩
    refine ⟨j, h1, h2, ?_, h4⟩
    rcases h3 with h3 | ⟨h3, h5⟩
    · exact .inl h3
    · refine .inr ⟨h3, ?_⟩
      rcases Nat.lt_or_ge j b with l | l
      · exact l
      · have e : j = b := by omega
        subst e
        rcases h with h | h
        · exact absurd (by rw [← h3, x_x]) h
        · have := tb_x Y j j
          rw [h3, h, h2] at this
          simp at this
  · rintro ⟨j, h1, h2, h3, h4⟩
    exact ⟨j, h1, h2, by omega, h4⟩
theorem Qb_yes {B : Nat → Nat → Option Nat} {n S b : Nat} (hb : b < n) (hn : n ≤ 24) (h : tb S b = false) (v : Nat) : Qb B n S (b + 1) (S ^^^ 2 ^ b) v ↔ (Qb B n S b (S ^^^ 2 ^ b) v ∨ ∃ m k, Wb B n (pop S) S m ∧ B (pop S) b = some k ∧ v = m + k) := by
  have hp : pop (S ^^^ 2 ^ b) - 1 = pop S := by have := pop_y (show b < 24 by omega) h; omega
  unfold Qb
  rw [hp]
  constructor
  · rintro ⟨j, h1, h2, h3, h4⟩
    by_cases e : j = b
    · subst e
      rw [x_x] at h4
      exact .inr h4
    · exact .inl ⟨j, h1, h2, by omega, h4⟩
  · rintro (⟨j, h1, h2, h3, h4⟩ | h4)
    · exact ⟨j, h1, h2, by omega, h4⟩
    · refine ⟨b, hb, by rw [tb_x, h]; simp, .inr ⟨x_x _ _, by omega⟩, ?_⟩
      rw [x_x]; exact h4
theorem Qb_full {B : Nat → Nat → Option Nat} {n S b : Nat} (hS : S < 2 ^ n) (hn : n ≤ 14) (h0 : S ≠ 0) : lsO (Qb B n S b S) = Db B n S := by
  unfold Db
  refine lsO_congr fun v => ?_
  have hpp := pop_pos h0 (pw14 hS hn)
  unfold Qb
  obtain ⟨i, hi⟩ : ∃ i, pop S = i + 1 := ⟨pop S - 1, by omega⟩
  rw [hi, show i + 1 - 1 = i by omega]
  constructor
  · rintro ⟨j, h1, h2, -, h4⟩; exact ⟨j, h1, h2, h4⟩
  · rintro ⟨j, h1, h2, h4⟩; exact ⟨j, h1, h2, .inl (x_lt h2), h4⟩
theorem Qb_le {B : Nat → Nat → Option Nat} {n S b Y v : Nat} (hB : ∀ i j k, B i j = some k → k ≤ 4851) (hY : Y < 2 ^ n) (hn : n ≤ 11) (h : lsO (Qb B n S b Y) = some v) : v ≤ 60000 := by
  obtain ⟨⟨j, h1, h2, -, m, k, h3, h4, rfl⟩, -⟩ := lsO_some.mp h
  have a1 := Wb_le hB h3
  have a2 := hB _ _ _ h4
  have a3 := pop_le hY (by omega)
  have : (pop Y - 1) * 4851 ≤ 11 * 4851 := Nat.mul_le_mul_right _ (by omega)
  omega
noncomputable def beh (B : Nat → Nat → Option Nat) (n S b Y : Nat) : Option Nat := if Y = 0 then some 0 else lsO (Qb B n S b Y)
theorem M_bound {T : Tw} {tm : Nat} {sg al : Nat → Nat → Int32} {σ : ZS} (h : ME T tm sg al σ) (hb : zI σ 44 54 = -1) {c t : Int32} {Ret : Int32 → ZS → Prop} (hr : PM σ Ret (spBnd T tm sg al c t)) : wp_X4_bound σ c t Ret := by
  unfold wp_X4_bound
  obtain ⟨h1, hz⟩ := h.z
  have w := h.mt.wf
  have hnc := w.nc
  unfold spBnd at hr
  refine M_ct h (V19 := fun s x => V_X4_bound_19 Ret s c t x) (fun k => ?_) fun k => ?_
  · unfold V_X4_bound_19
    exact m_bad1 hz (by decide) (br_f (by decide) (hr.thr (c := 1) (sp2_1 k) (by decide) hb))
  show V_X4_bound_19 Ret (sI σ 44 0 0) c t 0
  unfold V_X4_bound_19
  refine m_bad0 hz (br_t rfl (m_isTime h1 (br0 (fun k3 => ?_) fun k3 => ?_)))
  · unfold V_X4_bound_40
    exact m_bad1 hz (by decide) (br_f (by decide) (hr.thr (c := 2) (sp2_2 k k3) (by decide) hb))
  unfold V_X4_bound_40
  rw [sp2_0 k k3] at hr
  obtain ⟨c, rfl, hc, ec, hc2⟩ := inN_N k
  obtain ⟨t, rfl, ht, et, -⟩ := inN_N k3
  rw [ec, et] at hr
  refine m_bad0 hz (br_t rfl (m_asks h1 (t := t) (by omega) fun s0 f0 hn0 hf0 => nm_e ?_))
  have ok : ∀ s', Fr inBm (sI σ 44 0 0) s' → ∀ v, v = bndV T (GT T sg al t) c → Ret v s' := fun s' f v e => hr.ok rfl hb f inBm_S e
  change FolM T (GT T sg al t) s0 at hf0
  clear hr
  obtain ⟨hp1, hp2⟩ := pt_cnt w hc
  unfold bndV at ok
  generalize GT T sg al t = G at ok hf0
  have hB : ∀ i j k, btw T G c i j = some k → k ≤ 4851 := fun i j k h => btw_le w h
  generalize hB' : btw T G c = B at ok hB
  have hpt : ∀ j, j < cnt (ptB T c) T.nc → nth (ptB T c) j < T.nc := fun j hj => (nth_is hj).1
  generalize hn : cnt (ptB T c) T.nc = n at ok hp1 hp2 hpt
  have hD : ∀ X v, X < 2 ^ n → Db B n X = some v → v ≤ 53361 := fun X v hX h => by
    have h1 := Db_le hB h
    have h2 := pop_le hX (by omega)
    have : pop X * 4851 ≤ 11 * 4851 := Nat.mul_le_mul_right _ (by omega)
    omega
  have hpw : 2 ^ n ≤ 2048 := Nat.pow_le_pow_right (n := 2) (by decide) hp2
  have hpw1 : 1 ≤ 2 ^ n := Nat.one_le_two_pow
  have hbeh : ∀ S b Y v, Y < 2 ^ n → beh B n S b Y = some v → v ≤ 60000 := fun S b Y v hY h => by
    unfold beh at h
    split at h
    · cases h; omega
    · exact Qb_le hB hY hp2 h
  have f0' : Fr inBm (sI σ 44 0 0) s0 := f0.mono (by intro c hc; unfold inBm; omega)
  have hme := fun s (f : Fr inBm (sI σ 44 0 0) s) => h1.fr f inBm_M
  rw [ix2, (hme s0 f0').mt.m2]
  -- phase C
  have phC : ∀ s, Fr inBm (sI σ 44 0 0) s → n ≠ 1 → (∀ i j, i < n → j < n → zI s (1221 + 1 + i) j = nI (fz 1000000000 (B i j))) → V_X4_bound_218 Ret s (nI n) (nI (2 ^ n - 1)) 0 := by
    intro s1 f1 hn1 hb1
    rw [if_neg hn1] at ok
    refine forL (S := ZS) (fun m s x => VL_X4_bound_218 Ret m s (nI n) (nI (2 ^ n - 1)) x) (fun X s => Fr inBm (sI σ 44 0 0) s ∧ (∀ i j, i < n → j < n → zI s (1221 + 1 + i) j = nI (fz 1000000000 (B i j))) ∧ ∀ Y, Y < X → zI s 1233 Y = nI (fz 1000000000 (beh B n 0 0 Y))) (2 ^ n) ?_ ?_ 0 s1 (Nat.zero_le _) ⟨f1, hb1, fun Y h => absurd h (Nat.not_lt_zero _)⟩
    · rintro m s ⟨f, hb, hl⟩
      simp only [VL_X4_bound_218]
      refine br_t (nI_lt (by omega) (by omega)) ?_
      refine forL (S := ZS) (fun m s x => VL_X4_bound_253 Ret m s (nI n) (nI (2 ^ n - 1)) x) (fun S s => Fr inBm (sI σ 44 0 0) s ∧ (∀ i j, i < n → j < n → zI s (1221 + 1 + i) j = nI (fz 1000000000 (B i j))) ∧ ∀ Y, Y < 2 ^ n → zI s 1233 Y = nI (fz 1000000000 (beh B n S 0 Y))) (2 ^ n - 1) ?_ ?_ 0 s (Nat.zero_le _) ⟨f, hb, hl⟩
      · rintro m2 s2 ⟨f2, hb2, hl2⟩
        have hpp : 1 < 2 ^ n := Nat.one_lt_two_pow (by omega)
        simp only [VL_X4_bound_253]
        refine br_f (nI_nlt (Nat.le_refl _) (by omega)) ⟨vin (by omega) (by decide), ?_⟩
        rw [ix_nI (by omega), hl2 _ (by omega)]
        have e : beh B n (2 ^ n - 1) 0 (2 ^ n - 1) = Db B n (2 ^ n - 1) := by
          unfold beh; rw [if_neg (by omega), Qb_full (by omega) (by omega) (by omega)]
        rw [e]
        cases hd : Db B n (2 ^ n - 1) with
        | none =>
          rw [hd] at ok
          exact br_t rfl (ok s2 f2 _ rfl)
        | some v =>
          have hv := hD _ v (by omega) hd
          rw [hd] at ok
          refine br_f ?_ ⟨vin (by omega) (by decide), ok s2 f2 _ rfl⟩
          show ¬ nI v = nI 1000000000
          rw [nI_eq (by omega) (by omega)]; omega
      · rintro m2 S s2 hS ⟨f2, hb2, hl2⟩ ih2
        have hS2 : S < 2 ^ n := by omega
        have hS14 := pw14 hS2 (by omega)
        have hpl := pop_le hS2 (by omega)
        simp only [VL_X4_bound_253]
        refine br_t (nI_lt hS (by omega)) (m_ones ?_)
        rw [bt_tb hS14]
        change V_X4_bound_270 _ Ret s2 (nI n) _ (nI S) (nI (pop S)) 0
        have hDS : beh B n S 0 S = Db B n S := by
          unfold beh
          split
          · rename_i e; rw [e, Db_0]
          · rename_i e; exact Qb_full hS2 (by omega) e
        refine forL (S := ZS) (fun m3 s x => VL_X4_bound_270 (VL_X4_bound_253 Ret m2) Ret m3 s (nI n) (nI (2 ^ n - 1)) (nI S) (nI (pop S)) x) (fun b s => Fr inBm (sI σ 44 0 0) s ∧ (∀ i j, i < n → j < n → zI s (1221 + 1 + i) j = nI (fz 1000000000 (B i j))) ∧ (∀ Y, Y < 2 ^ n → zI s 1233 Y = nI (fz 1000000000 (beh B n S b Y)))) n ?_ ?_ 0 s2 (Nat.zero_le _) ⟨f2, hb2, hl2⟩
        · rintro m3 s3 ⟨f3, hb3, hl3⟩
          simp only [VL_X4_bound_270]
          simp only [nI1]
          refine br_f (nI_nlt (Nat.le_refl _) (by omega)) (nm_e (ih2 s3 ⟨f3, hb3, fun Y hY => ?_⟩))
          rw [hl3 Y hY]
          congr 2
          unfold beh
          split
          · rfl
          · refine lsO_congr fun v => ?_
            unfold Qb
            constructor
            · rintro ⟨j, h1, h2, h3, h4⟩; exact ⟨j, h1, h2, by omega, h4⟩
            · rintro ⟨j, h1, h2, h3, h4⟩; exact ⟨j, h1, h2, by omega, h4⟩
        · rintro m3 b s3 hb' ⟨f3, hb3, hl3⟩ ih3
          have hSb : zI s3 1233 S = nI (fz 1000000000 (Db B n S)) := by
            rw [hl3 S hS2]; congr 2
            rw [← hDS]
            unfold beh
            split
            · rfl
            · rename_i e; rw [Qb_full hS2 (by omega) e, Qb_full hS2 (by omega) e]
          -- nothing new at b
          have non : (tb S b = true ∨ oadd (Db B n S) (B (pop S) b) = none) → VL_X4_bound_270 (VL_X4_bound_253 Ret m2) Ret m3 s3 (nI n) (nI (2 ^ n - 1)) (nI S) (nI (pop S)) (nI (b + 1)) := by
            intro hno
            refine ih3 s3 ⟨f3, hb3, fun Y hY => ?_⟩
            rw [hl3 Y hY]
            congr 2
            unfold beh
            split
            · rfl
            · cases htb : tb S b
              · have hno := hno.resolve_left (by rw [htb]; simp)
                by_cases eY : Y = S ^^^ 2 ^ b
                · subst eY
                  rw [lsO_congr (Qb_yes hb' (by omega) htb), lsO_or, lsO_add]
                  have : lsO (Wb B n (pop S) S) = Db B n S := rfl
                  rw [this, hno]
                  cases lsO (Qb B n S b (S ^^^ 2 ^ b)) <;> rfl
                · rw [lsO_congr (Qb_no (.inl eY))]
              · rw [lsO_congr (Qb_no (.inr htb))]
          simp only [VL_X4_bound_270]
          simp only [nI1]
          rw [tst _ (by omega), bt_tb hS14, b2i_1]
          refine br_t (nI_lt hb' (by omega)) ⟨fun k => nm_e (non (.inl k)), fun k => ?_⟩
          have htb : tb S b = false := by simpa using k
          have hpop : pop S < n := by
            have h1 := pop_y (show b < 24 by omega) htb
            have h2 := pop_le (x_bd hS2 hb') (by omega)
            omega
          rw [in_bit hS14 (by omega) htb, ix_nI (show pop S < 2 ^ 31 by omega), ix_nI (show b < 2 ^ 31 by omega), hb3 _ b hpop hb', ix_nI (show S < 2 ^ 31 by omega), hSb]
          refine ⟨vin (by omega) (by decide), vin (by omega) (by decide), ?_⟩
          cases hBb : B (pop S) b with
          | none => exact br_t rfl (nm_e (non (.inr (by rw [hBb]; cases Db B n S <;> rfl))))
          | some k =>
            have hk := hB _ _ _ hBb
            refine br_f (by show ¬ nI k = nI 1000000000; rw [nI_eq (by omega) (by omega)]; omega) ⟨vin (by omega) (by decide), ?_⟩
            cases hDb : Db B n S with
            | none => exact br_t rfl (nm_e (non (.inr (by rw [hDb]; rfl))))
            | some m =>
              have hm := hD _ _ hS2 hDb
              have hX := x_bd hS2 hb'
              refine br_f (by show ¬ nI m = nI 1000000000; rw [nI_eq (by omega) (by omega)]; omega) ⟨vin (by omega) (by decide), vin (by omega) (by decide), vin (by omega) (by decide), nm_e (nm_e ⟨vin (by omega) (by decide), ?_⟩)⟩
              rw [ix_nI (by omega), hl3 _ hX, show fz 1000000000 (some m) = m from rfl, show fz 1000000000 (some k) = k from rfl, nI_add]
              have hXn : S ^^^ 2 ^ b ≠ 0 := by
                intro e
                have := tb_x S b b
                rw [e, htb] at this
                unfold tb at this
                simp at this
              have hnew : beh B n S (b + 1) (S ^^^ 2 ^ b) = omin (beh B n S b (S ^^^ 2 ^ b)) (oadd (some m) (some k)) := by
                unfold beh
                rw [if_neg hXn, if_neg hXn, lsO_congr (Qb_yes hb' (by omega) htb), lsO_or, lsO_add]
                have : lsO (Wb B n (pop S) S) = Db B n S := rfl
                rw [this, hDb, hBb]
              have hold := hbeh S b (S ^^^ 2 ^ b)
              have hfm := fz_min (F := 1000000000) (o1 := beh B n S b (S ^^^ 2 ^ b)) (o2 := some m) (o3 := some k) rfl rfl rfl (fun v hv => by have := hold v hX hv; omega) (fun v hv => by cases hv; omega) (fun v hv => by cases hv; omega) (fun u v hu hv => by cases hu; cases hv; omega)
              rw [← hnew] at hfm
              change (if m + k < fz 1000000000 (beh B n S b (S ^^^ 2 ^ b)) then m + k else fz 1000000000 (beh B n S b (S ^^^ 2 ^ b))) = _ at hfm
              have hle : fz 1000000000 (beh B n S b (S ^^^ 2 ^ b)) ≤ 1000000000 := fz_le fun v hv => by have := hold v hX hv; omega
              have oth : ∀ Y, Y ≠ S ^^^ 2 ^ b → beh B n S (b + 1) Y = beh B n S b Y := fun Y eY => by
                unfold beh
                split
                · rfl
                · rw [lsO_congr (Qb_no (.inl eY))]
              have fin : ∀ v, v = nI (fz 1000000000 (beh B n S (b + 1) (S ^^^ 2 ^ b))) → VL_X4_bound_270 (VL_X4_bound_253 Ret m2) Ret m3 (sI s3 1233 (S ^^^ 2 ^ b) v) (nI n) (nI (2 ^ n - 1)) (nI S) (nI (pop S)) (nI (b + 1)) := by
                rintro v rfl
                refine ih3 _ ⟨f3.sI 1233 _ _ (by unfold inBm cd; simp), fun i j h1 h2 => by rw [zI_ne _ (.inl (by omega))]; exact hb3 i j h1 h2, fun Y hY => ?_⟩
                rw [zI_row]
                by_cases e : Y = S ^^^ 2 ^ b
                · rw [if_pos e, e]
                · rw [if_neg e, oth Y e]; exact hl3 Y hY
              have iv : vp_in (nI (S ^^^ 2 ^ b)) 2048 := vin (by omega) (by decide)
              refine ⟨fun l => ⟨iv, nm_e (nm_e (fin _ ?_))⟩, fun l => ⟨iv, iv, nm_e (nm_e (fin _ ?_))⟩⟩
              · rw [nI_ltI (by omega) (by omega)] at l
                rw [← hfm, if_pos l]
              · rw [nI_ltI (by omega) (by omega)] at l
                rw [← hfm, if_neg l]
    · rintro m X s hX ⟨f, hb, hl⟩ ih
      have fin : ∀ v, v = nI (fz 1000000000 (beh B n 0 0 X)) → VL_X4_bound_218 Ret m (sI s 1233 X v) (nI n) (nI (2 ^ n - 1)) (nI (X + 1)) := by
        rintro v rfl
        refine ih _ ⟨f.sI 1233 _ _ (by unfold inBm cd; simp), fun i j h1 h2 => by rw [zI_ne _ (.inl (by omega))]; exact hb i j h1 h2, fun Y hY => ?_⟩
        rw [zI_row]
        by_cases e : Y = X
        · rw [if_pos e, e]
        · rw [if_neg e]; exact hl Y (by omega)
      simp only [VL_X4_bound_218]
      simp only [nI1]
      rw [ix_nI (by omega)]
      refine br_f (nI_nlt (by omega) (by omega)) ?_
      rw [nI_eq0 (by omega)]
      refine ⟨fun e => ⟨vin (by omega) (by decide), nm_e (nm_e (fin _ ?_))⟩, fun e => ⟨vin (by omega) (by decide), nm_e (nm_e (fin _ ?_))⟩⟩
      · unfold beh; rw [if_pos e]; rfl
      · unfold beh; rw [if_neg e]
        have : lsO (Qb B n 0 0 X) = none := lsO_none.mpr (by rintro v ⟨j, -, -, h, -⟩; omega)
        rw [this]; rfl
  -- phase A
  have hbits : ∀ k, k < 32 → btI (T.bx ||| ((1 : Int32) <<< (nI c &&& 31))) k = ptB T c k := fun k hk => by
    rw [bt_or, bt_one (by omega) hk]; unfold ptB; rw [Bool.or_comm]
  generalize T.bx ||| ((1 : Int32) <<< (nI c &&& 31)) = bits at hbits
  refine forL1 (fun m s v x => VL_X4_bound_71 Ret m s bits v x) (fun k s v => Fr inBm (sI σ 44 0 0) s ∧ FolM T G s ∧ v = nI (cnt (ptB T c) k) ∧ ∀ j, j < cnt (ptB T c) k → zI s 1220 j = nI (nth (ptB T c) j)) T.nc ?_ ?_ 0 s0 0 (Nat.zero_le _) ⟨f0', hf0, rfl, fun j hj => absurd hj (Nat.not_lt_zero _)⟩
  · rintro m s v ⟨f, hf, rfl, g⟩
    have me := hme s f
    rw [hn] at g
    simp only [VL_X4_bound_71]
    rw [hn, me.mt.ltC (by omega)]
    refine br_f (by omega) ?_
    rw [nI_eq1 (by omega)]
    refine ⟨fun e => ok s f _ (by rw [if_pos e]), fun e => ?_⟩
    -- phase B
    refine forL (S := ZS) (fun m s x => VL_X4_bound_123 Ret m s (nI n) x) (fun i s => Fr inBm (sI σ 44 0 0) s ∧ FolM T G s ∧ (∀ j, j < n → zI s 1220 j = nI (nth (ptB T c) j)) ∧ ∀ i' j, i' < i → j < n → zI s (1221 + 1 + i') j = nI (fz 1000000000 (B i' j))) n ?_ ?_ 0 s (Nat.zero_le _) ⟨f, hf, g, fun i' j h => absurd h (Nat.not_lt_zero _)⟩
    · rintro m s2 ⟨f2, -, -, g2⟩
      simp only [VL_X4_bound_123]
      rw [pow_sh n (by omega), nI_sub1 (by omega)]
      exact br_f (nI_nlt (Nat.le_refl _) (by omega)) (nm_e (phC s2 f2 e g2))
    · rintro m i s2 hi ⟨f2, hf2, g2, b2⟩ ih2
      simp only [VL_X4_bound_123]
      refine br_t (nI_lt hi (by omega)) ?_
      refine forL (S := ZS) (fun m' s x => VL_X4_bound_133 (VL_X4_bound_123 Ret m) Ret m' s (nI n) (nI i) x) (fun j s => Fr inBm (sI σ 44 0 0) s ∧ FolM T G s ∧ (∀ j, j < n → zI s 1220 j = nI (nth (ptB T c) j)) ∧ (∀ i' j, i' < i → j < n → zI s (1221 + 1 + i') j = nI (fz 1000000000 (B i' j))) ∧ ∀ j', j' < j → zI s (1221 + 1 + i) j' = nI (fz 1000000000 (B i j'))) n ?_ ?_ 0 s2 (Nat.zero_le _) ⟨f2, hf2, g2, b2, fun j h => absurd h (Nat.not_lt_zero _)⟩
      · rintro m' s3 ⟨f3, hf3, g3, b3, a3⟩
        simp only [VL_X4_bound_133]
        simp only [nI1]
        refine br_f (nI_nlt (Nat.le_refl _) (by omega)) (nm_e (ih2 s3 ⟨f3, hf3, g3, fun i' j h1 h2 => ?_⟩))
        by_cases e : i' = i
        · subst e; exact a3 j h2
        · exact b3 i' j (by omega) h2
      · rintro m' j s3 hj ⟨f3, hf3, g3, b3, a3⟩ ih3
        have me3 := hme s3 f3
        have k169 : ∀ s4 o, Fr inBm (sI σ 44 0 0) s4 → FolM T G s4 → (∀ j, j < n → zI s4 1220 j = nI (nth (ptB T c) j)) → (∀ a i, 1222 ≤ a → a < 1233 → zI s4 a i = zI s3 a i) → o = B i j → V_X4_bound_169 (VL_X4_bound_123 Ret m) (VL_X4_bound_133 (VL_X4_bound_123 Ret m) Ret m') Ret s4 (nI n) (nI i) (nI j) (oI o) := by
          intro s4 o f4 hf4 g4 z30 ho
          unfold V_X4_bound_169
          rw [ix_nI (show i < 2 ^ 31 by omega), ix_nI (show j < 2 ^ 31 by omega)]
          simp only [nI1]
          have fin : ∀ v, v = nI (fz 1000000000 (B i j)) → VL_X4_bound_133 (VL_X4_bound_123 Ret m) Ret m' (sI s4 (1221 + 1 + i) j v) (nI n) (nI i) (nI (j + 1)) := by
            rintro v rfl
            have f5 : Fr (fun c => 1222 ≤ c ∧ c < 1233) s4 (sI s4 (1221 + 1 + i) j (nI (fz 1000000000 (B i j)))) := Fr.rfl.sI _ _ _ (by unfold cd; rw [if_neg (by omega), if_neg (by omega)]; omega)
            refine ih3 _ ⟨f4.trans (f5.mono (by intro c hc; unfold inBm; omega)), hf4.fr f5 (by intro c hc; omega), fun j h => by rw [zI_ne _ (.inl (by omega))]; exact g4 j h, fun i' j' h1 h2 => ?_, fun j' h1 => ?_⟩
            · rw [zI_ne _ (.inl (by omega)), z30 _ _ (by omega) (by omega)]; exact b3 i' j' h1 h2
            · rw [zI_row]
              by_cases e : j' = j
              · subst e; rw [if_pos rfl]
              · rw [if_neg (by omega), z30 _ _ (by omega) (by omega)]; exact a3 j' (by omega)
          refine ⟨vin (by omega) (by decide), ?_⟩
          cases o with
          | none => exact br_t rfl ⟨vin (by omega) (by decide), nm_e (nm_e (fin _ (by rw [← ho]; rfl)))⟩
          | some v =>
            have hv := hB i j v ho.symm
            exact br_f (by show ¬ nI v = -1; rw [nI_m1 (by omega)]; exact id) ⟨vin (by omega) (by decide), nm_e (nm_e (fin _ (by rw [← ho]; rfl)))⟩
        simp only [VL_X4_bound_133]
        refine br_t (nI_lt hj (by omega)) ?_
        rw [nI_eq (by omega) (by omega)]
        refine ⟨fun e => k169 s3 none f3 hf3 g3 (fun _ _ _ _ => rfl) (by rw [← hB']; unfold btw; rw [if_pos e]), fun e => ⟨vin (by omega) (by decide), vin (by omega) (by decide), ?_⟩⟩
        rw [ix_nI (by omega), ix_nI (by omega), g3 i hi, g3 j hj]
        have p1 := hpt i hi
        have p2 := hpt j hj
        refine m_rideOf me3.mt hf3 (by omega) (by omega) fun s4 f4 _ => k169 s4 _ (f3.trans (f4.mono (by intro c hc; unfold inBm; omega))) (hf3.fr f4 (by intro c hc; omega)) (fun j h => by rw [f4.1 1220 j (by simp [cd])]; exact g3 j h) (fun a i h1 h2 => f4.1 a i (by unfold cd; rw [if_neg (by omega), if_neg (by omega)]; omega)) ?_
        rw [← hB']; unfold btw; rw [if_neg e]
  · rintro m k s v hk ⟨f, hf, rfl, g⟩ ih
    have me := hme s f
    have hck : cnt (ptB T c) k ≤ n := by rw [← hn]; exact cnt_mon (by omega)
    simp only [VL_X4_bound_71]
    simp only [nI1]
    rw [me.mt.ltC (by omega), tst _ (by omega), hbits k (by omega)]
    refine br_t hk (br0 (fun hp => nm_e (ih s _ ⟨f, hf, ?_, fun j hj => ?_⟩)) fun hp => ?_)
    · show nI _ = nI (cnt _ k + _); rw [hp]; rfl
    · have hj : j < cnt (ptB T c) k + (if ptB T c k then 1 else 0) := hj
      rw [hp] at hj
      exact g j (by simpa using hj)
    · have hck2 : cnt (ptB T c) k < n := by
        have h1 : cnt (ptB T c) (k + 1) ≤ cnt (ptB T c) T.nc := cnt_mon hk
        have h2 : cnt (ptB T c) (k + 1) = cnt (ptB T c) k + 1 := by show cnt _ k + _ = _; rw [hp]; rfl
        omega
      have f5 : Fr (fun c => c = 1220) s (sI s 1220 (cnt (ptB T c) k) (nI k)) := Fr.rfl.sI _ _ _ rfl
      rw [ix_nI (by omega)]
      refine ⟨vin (by omega) (by decide), nm_e (nm_e (nm_e (ih _ _ ⟨f.trans (f5.mono (by intro c hc; unfold inBm; omega)), hf.fr f5 (by intro c hc; omega), ?_, fun j hj => ?_⟩)))⟩
      · show nI _ = nI (cnt _ k + _); rw [hp]; rfl
      · have hj : j < cnt (ptB T c) k + (if ptB T c k then 1 else 0) := hj
        rw [hp, if_pos rfl] at hj
        rw [zI_row]
        by_cases e : j = cnt (ptB T c) k
        · rw [if_pos e, e, nth_eq hp]
        · rw [if_neg e]; exact g j (by omega)
