/-! PURE HALF: riders' ways, the model; counts. -/
set_option maxRecDepth 100000
def WyM (T : Tw) (G : Nat → Nat → Bool) (σ : ZS) (r : Nat) : Prop := zI σ 1161 r = nI ((pR T G r).getD 0) ∧ ∀ n k, pR T G r = some n → k < n → zI σ (1148 + 1 + r) k = nI (wA T G r k)
def inZ (c : Nat) : Prop := (564 ≤ c ∧ c < 567) ∨ c = 568 ∨ (1149 ≤ c ∧ c < 1162)
theorem inZ_M : ∀ c, inZ c → scM c := by intro c hc; unfold inZ at hc; unfold scM; omega
theorem m_layRides {T : Tw} {tm : Nat} {sg al : Nat → Nat → Int32} {σ : ZS} (h : ME T tm sg al σ) {Ret : ZS → Prop} (hr : ∀ σ', Fr inZ σ σ' → (∀ r, r < T.nr → WyM T (GT T sg al tm) σ' r) → Ret σ') : wp_X4_layRides σ Ret := by
  have w := h.mt.wf
  have hnr := w.nr
  have hns := w.ns
  have hnc := w.nc
  unfold wp_X4_layRides
  rw [h.mh.et]
  refine m_asks h (Nat.le_refl _) fun s0 f0 hn0 hf0 => ?_
  change FolM T (GT T sg al tm) s0 at hf0
  generalize hG : GT T sg al tm = G at hf0 hr
  refine forL (S := ZS) (fun m s x => VL_X4_layRides_10 Ret m s x) (fun i s => Fr inZ σ s ∧ FolM T G s ∧ ∀ r, r < i → WyM T G s r) T.nr ?_ ?_ 0 s0 (Nat.zero_le _) ⟨f0.mono (by intro c hc; unfold inZ; omega), hf0, fun r hr => absurd hr (Nat.not_lt_zero _)⟩
  · rintro n s ⟨f, -, g⟩
    have hs := h.fr f inZ_M
    simp only [VL_X4_layRides_10]
    rw [hs.mt.ltR (by omega)]
    exact br_f (by omega) (hr s f g)
  · rintro n i s hi ⟨f, hf, g⟩ ih
    have iv : vp_in (nI i) 12 := vin (by omega) (by decide)
    have l1 := w.rf i hi
    have l2 := w.rt i hi
    simp only [VL_X4_layRides_10]
    simp only [nI1]
    rw [(h.fr f inZ_M).mt.ltR (by omega), ix_nI (by omega)]
    refine br_t hi ⟨iv, nm_e ⟨iv, iv, ?_⟩⟩
    have f1 : Fr inZ σ (sI s 1161 i 0) := f.sI 1161 i 0 (by unfold inZ cd; simp)
    have hf1 : FolM T G (sI s 1161 i 0) := hf
    have g1 : ∀ r, r < i → WyM T G (sI s 1161 i 0) r := fun r hr' => ⟨by rw [zI_ne _ (.inr (by omega))]; exact (g r hr').1, fun n k hn hk => by rw [zI_ne _ (.inl (by omega))]; exact (g r hr').2 n k hn hk⟩
    have z1 : zI (sI s 1161 i 0) 1161 i = nI 0 := zI_self _ _ _ _
    generalize sI s 1161 i 0 = s1 at f1 hf1 g1 z1 ⊢
    have hs1 := h.fr f1 inZ_M
    rw [ix0, ix1, hs1.mt.rf i hi, hs1.mt.rt i hi]
    refine m_rideOf hs1.mt hf1 (by omega) (by omega) fun s2 f2 hl => ?_
    have hl := hl (w.rn i hi)
    have ff2 := f1.trans (f2.mono (S' := inZ) (by intro c hc; unfold inZ; omega))
    have hs2 := h.fr ff2 inZ_M
    have hf2 := hf1.fr f2 (by intro c hc; omega)
    have g2 : ∀ r, r < i → WyM T G s2 r := fun r hr' => ⟨by rw [f2.1 1161 r (by simp [cd])]; exact (g1 r hr').1, fun n k hn hk => by rw [f2.1 (1148 + 1 + r) k (by unfold cd; rw [if_neg (by omega), if_neg (by omega)]; omega)]; exact (g1 r hr').2 n k hn hk⟩
    have z2 : zI s2 1161 i = nI 0 := by rw [f2.1 1161 i (by simp [cd])]; exact z1
    have eride : rideV T G (T.rf i) (T.rt i) = (fstA T G (T.rf i) (T.rt i)).map (·.2) := by unfold rideV; rw [if_neg (w.rn i hi)]
    rw [eride]
    cases hfa : fstA T G (T.rf i) (T.rt i) with
    | none =>
      have hp : pR T G i = none := by unfold pR pN; rw [if_neg (w.rn i hi), hfa]; rfl
      refine br_t rfl (nm_e (ih s2 ⟨ff2, hf2, fun r hr' => ?_⟩))
      by_cases er : r = i
      · subst er; exact ⟨by rw [hp]; exact z2, fun n k hn => by rw [hp] at hn; cases hn⟩
      · exact g2 r (by omega)
    | some q =>
      obtain ⟨a, m⟩ := q
      have g3 := (FAr_some hfa).2.2.1
      have hml := Ds_le w g3
      have hp : pR T G i = some (plen T G (T.rt i) a) := by unfold pR pN; rw [if_neg (w.rn i hi), hfa]; rfl
      have hwa : ∀ k, wA T G i k = pth T G (T.rt i) a k := fun k => by unfold wA pA; rw [hfa]
      obtain ⟨q1, q2, q3, q4⟩ := plen_is w g3
      have hP0 : 0 < plen T G (T.rt i) a := by unfold plen; omega
      refine br_f (by show ¬ nI m = -1; rw [nI_m1 (by omega)]; exact id) ⟨iv, ?_⟩
      rw [hs2.mt.rf i hi]
      refine m_firstArc hs2.mt hl (by omega) ?_
      rw [hfa]
      show V_X4_layRides_67 _ Ret s2 (nI i) (nI a)
      generalize hP : plen T G (T.rt i) a = P at *
      refine lp2 (fun k s v => VL_X4_layRides_67 (VL_X4_layRides_10 Ret n) Ret k s (nI i) v) (fun s v => ∃ j, j ≤ P ∧ v = (if j < P then nI (pth T G (T.rt i) a j) else -1) ∧ zI s 1161 i = nI j ∧ Fr inZ σ s ∧ FolM T G s ∧ LenM T G (T.rt i) s ∧ (∀ r, r < i → WyM T G s r) ∧ ∀ k, k < j → zI s (1148 + 1 + i) k = nI (pth T G (T.rt i) a k)) (fun s _ => P - ix (zI s 1161 i)) ?_ s2 (nI a) ⟨0, Nat.zero_le _, by rw [if_pos hP0]; rfl, z2, ff2, hf2, hl, g2, fun k hk => absurd hk (Nat.not_lt_zero _)⟩
      rintro m2 s3 v ⟨j, hj, rfl, ej, f3, hf3, hl3, gg3, w3⟩ ih3
      have hs3 := h.fr f3 inZ_M
      simp only [VL_X4_layRides_67]
      simp only [nI1]
      by_cases hjP : j < P
      · rw [if_pos hjP]
        obtain ⟨dj, hdj⟩ := q4 j hjP
        have hN := Tw.arc_lt (Ds_arc hdj)
        refine br_f (by rw [nI_m1 (by omega)]; exact id) ⟨iv, iv, ?_⟩
        rw [ix_nI (by omega), ej, ix_nI (by omega)]
        refine ⟨vin (by omega) (by decide), nm_e ⟨iv, iv, nm_e ⟨iv, ?_⟩⟩⟩
        have f4 : Fr (fun c => c = 1161 ∨ c = 1148 + 1 + i) s3 (sI (sI s3 (1148 + 1 + i) j (nI (pth T G (T.rt i) a j))) 1161 i (zI (sI s3 (1148 + 1 + i) j (nI (pth T G (T.rt i) a j))) 1161 i + 1)) := (Fr.rfl.sI _ _ _ (.inr (by unfold cd; rw [if_neg (by omega), if_neg (by omega)]))).sI _ _ _ (.inl rfl)
        have z4 : zI (sI (sI s3 (1148 + 1 + i) j (nI (pth T G (T.rt i) a j))) 1161 i (zI (sI s3 (1148 + 1 + i) j (nI (pth T G (T.rt i) a j))) 1161 i + 1)) 1161 i = nI (j + 1) := by rw [zI_self, zI_ne _ (.inl (by omega)), ej, nI1]
        have w4 : ∀ k, k < j + 1 → zI (sI (sI s3 (1148 + 1 + i) j (nI (pth T G (T.rt i) a j))) 1161 i (zI (sI s3 (1148 + 1 + i) j (nI (pth T G (T.rt i) a j))) 1161 i + 1)) (1148 + 1 + i) k = nI (pth T G (T.rt i) a k) := fun k hk => by
          rw [zI_ne _ (.inl (by omega)), zI_row]
          by_cases ek : k = j
          · rw [if_pos ek, ek]
          · rw [if_neg ek]; exact w3 k (by omega)
        have gg4 : ∀ r, r < i → WyM T G (sI (sI s3 (1148 + 1 + i) j (nI (pth T G (T.rt i) a j))) 1161 i (zI (sI s3 (1148 + 1 + i) j (nI (pth T G (T.rt i) a j))) 1161 i + 1)) r := fun r hr' => ⟨by rw [zI_ne _ (.inr (by omega)), zI_ne _ (.inl (by omega))]; exact (gg3 r hr').1, fun n k hn hk => by rw [zI_ne _ (.inl (by omega)), zI_ne _ (.inl (by omega))]; exact (gg3 r hr').2 n k hn hk⟩
        generalize sI (sI s3 (1148 + 1 + i) j (nI (pth T G (T.rt i) a j))) 1161 i (zI (sI s3 (1148 + 1 + i) j (nI (pth T G (T.rt i) a j))) 1161 i + 1) = s4 at f4 z4 w4 gg4 ⊢
        have ff4 := f3.trans (f4.mono (S' := inZ) (by intro c hc; unfold inZ; omega))
        have hs4 := h.fr ff4 inZ_M
        have hf4 := hf3.fr f4 (by intro c hc; omega)
        have hl4 : LenM T G (T.rt i) s4 := fun x hx => by rw [f4.1 568 x (by simp [cd]; omega)]; exact hl3 x hx
        rw [ix1, hs4.mt.rt i hi]
        refine m_nextArc hs4.mt hf4 (by omega) hl4 hdj (ih3 _ _ ⟨j + 1, by omega, ?_, z4, ff4, hf4, hl4, gg4, w4⟩ ?_)
        · by_cases e2 : j + 1 < P
          · rw [if_pos e2, if_neg (q3 j e2)]; rfl
          · have : j = P - 1 := by omega
            rw [if_neg e2, if_pos (by rw [this]; exact q2)]
        · rw [z4, ej, ix_nI (by omega), ix_nI (by omega)]; omega
      · have ejP : j = P := by omega
        rw [if_neg hjP]
        refine br_t rfl (nm_e (ih s3 ⟨f3, hf3, fun r hr' => ?_⟩))
        by_cases er : r = i
        · subst er
          exact ⟨by rw [hp, ej, ejP]; rfl, fun n k hn hk => by rw [hp] at hn; cases hn; rw [hwa]; exact w3 k (by omega)⟩
        · exact gg3 r (by omega)
/-! counts -/
def anyK (f : Nat → Nat) (s : Nat) : Nat → Bool
  | 0 => false
  | k + 1 => anyK f s k || decide (f k / 2 = s)
noncomputable def pasB (T : Tw) (G : Nat → Nat → Bool) (s r : Nat) : Bool := anyK (wA T G r) s ((pR T G r).getD 0)
noncomputable def spCnt (T : Tw) (G : Nat → Nat → Bool) (s : Int32) : Nat × Int32 := sp1 (inN s T.ns) (nI (cnt (pasB T G (ix s)) T.nr))
theorem C_counts {T : Tw} {d : Ad} {tm : Nat} {sg al : Nat → Nat → Int32} {σ : ZS} (h : CQ T d tm sg al σ) {s : Int32} {Ret : Int32 → ZS → Prop} (hr : PC σ Ret (wd (spCnt T (GT T sg al tm) s))) : wp_X0_counts σ s Ret := by
  unfold wp_X0_counts wp_X1_counts
  have ce := h.ce
  obtain ⟨ct, ch, sf, rm⟩ := h
  have w := ct.wf
  have hns := w.ns
  have hnr := w.nr
  unfold spCnt at hr
  refine c_streetOf ct rm (fun st hst est k => ?_) (fun k σ' g k2 => ⟨⟨0, k2⟩, hr.thr (c := 1) (sp1_1 k) (by decide) rm.1 sf g⟩)
  rw [sp1_0 k] at hr
  subst est
  rw [ix_nI (by omega)] at hr
  refine c_findWays ce fun s1 f1 g1 => ?_
  have eG : (ev0 T d tm sg al).G (ev0 T d tm sg al).tm = GT T sg al tm := ev0_G T d tm sg al tm
  rw [eG] at g1
  change ∀ r, r < T.nr → WyC T (GT T sg al tm) s1 r at g1
  generalize GT T sg al tm = G at g1 hr
  have ct1 := ct.fr f1 (by intro c hc; unfold inY at hc; unfold noA; omega)
  have hS : ∀ c, inY c → (20 ≤ c ∧ c < 44) ∨ c = 2000017 ∨ c = 2000030 ∨ c = 2000031 ∨ c = 2000037 ∨ c = 2000038 := by intro c hc; unfold inY at hc; omega
  generalize hThr : (fun x3 σ4 => ((∃ x, kK NS σ4 x3 = (13 + 7, x)) ∧ (Ret 1 σ4))) = Thr
  refine forL1 (fun m s v y => VL_X1_counts_15 Thr (fun r1 σ2 => ∀ σ6 : ZS, σ6 = sJ σ2 1238 (ix 0) r1.toInt64 → (Ret 0 σ6)) m s (nI st) v y) (fun i s v => s = s1 ∧ v = nI (cnt (pasB T G st) i)) T.nr ?_ ?_ 0 s1 0 (Nat.zero_le _) ⟨rfl, rfl⟩
  · rintro n s v ⟨rfl, rfl⟩
    simp only [VL_X1_counts_15]
    rw [ct1.pt, zo_in, ct1.p2, zo_in]
    exact ⟨rfl, ct1.kt, rfl, ct1.lr.kl, j_size ct1.lr (br_f (nI_nlt (Nat.le_refl _) (by omega)) (hr.ok rfl sf f1 hS rfl))⟩
  · rintro n i s v hi ⟨rfl, rfl⟩ ih
    obtain ⟨y1, y2, -⟩ := g1 i hi
    have iv : vp_in (nI i) 12 := vin (by omega) (by decide)
    simp only [VL_X1_counts_15]
    rw [ct1.pt, zo_in, ct1.p2, zo_in]
    refine ⟨rfl, ct1.kt, rfl, ct1.lr.kl, j_size ct1.lr (br_t (nI_lt hi (by omega)) ?_)⟩
    have fin : ∀ m b j, b = pasB T G st i → j ≤ 48 → (∀ q, pR T G i = some q → j = q) → VL_X1_counts_35 (VL_X1_counts_15 Thr (fun r1 σ2 => ∀ σ6 : ZS, σ6 = sJ σ2 1238 (ix 0) r1.toInt64 → (Ret 0 σ6)) n) Thr (fun r1 σ2 => ∀ σ6 : ZS, σ6 = sJ σ2 1238 (ix 0) r1.toInt64 → (Ret 0 σ6)) (m + 1) s (nI st) (nI (cnt (pasB T G st) i)) (nI i) (b2i b) (nI j) := by
      intro m b j hb hj48 hj
      simp only [VL_X1_counts_35]
      simp only [nI1]
      rw [ix_nI (by omega), y1]
      refine ⟨iv, br_f ?_ (br0 (fun k1 => nm_e (nm_e (ih s _ ⟨rfl, ?_⟩))) fun k1 => nm_e (nm_e (ih s _ ⟨rfl, ?_⟩)))⟩
      · cases hq : pR T G i with
        | none =>
          show ¬ nI j < -1
          rw [Int32.lt_iff_toInt_lt, nI_toInt (by omega)]
          have : (-1 : Int32).toInt = -1 := by decide
          omega
        | some q => rw [hj q hq]; exact nI_nlt (Nat.le_refl _) (by have := pR_pos w hi hq; omega)
      · show _ + (0 : Int32) = nI (_ + (if pasB T G st i then 1 else 0)); rw [← hb, k1, n0, nI_add]; rfl
      · show _ = nI (_ + (if pasB T G st i then 1 else 0)); rw [← hb, k1]; rfl
    cases hq : pR T G i with
    | none =>
      have : pasB T G st i = false := by unfold pasB; rw [hq]; rfl
      exact ⟨1, fin 0 false 0 this.symm (by omega) (fun q e => by rw [hq] at e; cases e)⟩
    | some q =>
      have hq48 := pR_pos w hi hq
      have epas : pasB T G st i = anyK (wA T G i) st q := by unfold pasB; rw [hq]; rfl
      refine forL1 (fun m s v y => VL_X1_counts_35 _ Thr (fun r1 σ2 => ∀ σ6 : ZS, σ6 = sJ σ2 1238 (ix 0) r1.toInt64 → (Ret 0 σ6)) m s (nI st) (nI (cnt (pasB T G st) i)) (nI i) v y) (fun j s' v => s' = s ∧ v = b2i (anyK (wA T G i) st j)) q ?_ ?_ 0 s 0 (Nat.zero_le _) ⟨rfl, rfl⟩
      · rintro m s' v ⟨rfl, rfl⟩
        exact fin m _ q epas.symm hq48.2 (fun q' e => by rw [hq] at e; cases e; rfl)
      · rintro m j s' v hj ⟨rfl, rfl⟩ ih2
        have hA := pA_lt w (show pN T G (T.rf i) (T.rt i) = some q from hq) hj
        have hN : wA T G i j < 2 * T.ns := Tw.arc_lt hA
        simp only [VL_X1_counts_35]
        simp only [nI1]
        rw [ix_nI (by omega), y1, hq, nI_48mul, nI_add, ix_nI (by omega), y2 q j hq hj, nI_div2 (by omega), nI_eq (by omega) (by omega)]
        refine ⟨iv, br_t (nI_lt hj (by omega)) (br0 (fun k1 => ⟨vin (by omega) (by decide), fun k2 => nm_e (ih2 s' _ ⟨rfl, ?_⟩), fun k2 => nm_e (ih2 s' _ ⟨rfl, ?_⟩)⟩) fun k1 => nm_e (ih2 s' _ ⟨rfl, ?_⟩))⟩
        · rw [anyK, k1, k2]; simp [b2i]
        · rw [anyK, k1]; simp [k2, b2i]
        · rw [anyK, k1]; rfl
theorem M_counts {T : Tw} {tm : Nat} {sg al : Nat → Nat → Int32} {σ : ZS} (h : ME T tm sg al σ) (hb : zI σ 44 54 = -1) {s : Int32} {Ret : Int32 → ZS → Prop} (hr : PM σ Ret (spCnt T (GT T sg al tm) s)) : wp_X4_counts σ s Ret := by
  unfold wp_X4_counts
  refine nm_e ?_
  obtain ⟨h1, hz⟩ := h.z
  have w := h.mt.wf
  have hns := w.ns
  have hnr := w.nr
  unfold spCnt at hr
  refine m_isStreet h1.mt (br0 (fun k => ?_) fun k => ?_)
  · unfold V_X4_counts_19
    exact m_bad1 hz (by decide) (br_f (by decide) (hr.thr (c := 1) (sp1_1 k) (by decide) hb))
  unfold V_X4_counts_19
  rw [sp1_0 k] at hr
  obtain ⟨st, rfl, hst, est, -⟩ := inN_N k
  rw [est] at hr
  refine m_bad0 hz (br_t rfl (m_layRides h1 fun s1 f1 g1 => ?_))
  generalize GT T sg al tm = G at g1 hr
  have hs1 := h1.fr f1 inZ_M
  have hS : ∀ c, inZ c → SM c ∧ c ≠ 1000000 ∧ c ≠ 1000054 := by intro c hc; unfold inZ at hc; unfold SM; omega
  refine forL1 (fun m s v y => VL_X4_counts_36 Ret m s (nI st) v y) (fun i s v => s = s1 ∧ v = nI (cnt (pasB T G st) i)) T.nr ?_ ?_ 0 s1 0 (Nat.zero_le _) ⟨rfl, rfl⟩
  · rintro n s v ⟨rfl, rfl⟩
    simp only [VL_X4_counts_36]
    rw [hs1.mt.ltR (by omega)]
    exact br_f (by omega) (hr.ok rfl hb f1 hS rfl)
  · rintro n i s v hi ⟨rfl, rfl⟩ ih
    obtain ⟨y1, y2⟩ := g1 i hi
    have iv : vp_in (nI i) 12 := vin (by omega) (by decide)
    have hq48 : (pR T G i).getD 0 ≤ 48 := by
      cases hq : pR T G i with
      | none => exact Nat.zero_le _
      | some q => exact (pR_pos w hi hq).2
    simp only [VL_X4_counts_36]
    rw [hs1.mt.ltR (by omega)]
    refine br_t hi ?_
    refine forL1 (fun m s v y => VL_X4_counts_52 _ Ret m s (nI st) (nI (cnt (pasB T G st) i)) (nI i) v y) (fun j s' v => s' = s ∧ v = b2i (anyK (wA T G i) st j)) ((pR T G i).getD 0) ?_ ?_ 0 s 0 (Nat.zero_le _) ⟨rfl, rfl⟩
    · rintro m s' v ⟨rfl, rfl⟩
      simp only [VL_X4_counts_52]
      simp only [nI1]
      rw [ix_nI (by omega), y1]
      refine ⟨iv, br_f (nI_nlt (Nat.le_refl _) (by omega)) (br0 (fun k1 => nm_e (nm_e (ih s' _ ⟨rfl, ?_⟩))) fun k1 => nm_e (nm_e (ih s' _ ⟨rfl, ?_⟩)))⟩
      · show _ + (0 : Int32) = nI (_ + (if anyK (wA T G i) st ((pR T G i).getD 0) then 1 else 0)); rw [k1, n0, nI_add]; rfl
      · show _ = nI (_ + (if anyK (wA T G i) st ((pR T G i).getD 0) then 1 else 0)); rw [k1]; rfl
    · rintro m j s' v hj ⟨rfl, rfl⟩ ih2
      cases hq : pR T G i with
      | none => rw [hq] at hj; exact absurd hj (Nat.not_lt_zero _)
      | some q =>
        rw [hq] at hj
        have hj : j < q := hj
        have hA := pA_lt w (show pN T G (T.rf i) (T.rt i) = some q from hq) hj
        have hN : wA T G i j < 2 * T.ns := Tw.arc_lt hA
        rw [hq] at hq48
        have hq48 : q ≤ 48 := hq48
        simp only [VL_X4_counts_52]
        simp only [nI1]
        rw [ix_nI (by omega), ix_nI (by omega), y1, hq, y2 q j hq hj, nI_div2 (by omega), nI_eq (by omega) (by omega)]
        refine ⟨iv, br_t (nI_lt hj (by omega)) (br0 (fun k1 => ⟨iv, vin (by omega) (by decide), fun k2 => nm_e (ih2 s' _ ⟨rfl, ?_⟩), fun k2 => nm_e (ih2 s' _ ⟨rfl, ?_⟩)⟩) fun k1 => nm_e (ih2 s' _ ⟨rfl, ?_⟩))⟩
        · rw [anyK, k1, k2]; simp [b2i]
        · rw [anyK, k1]; simp [k2, b2i]
        · rw [anyK, k1]; rfl
