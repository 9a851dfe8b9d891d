/-! PURE HALF: the baker: the class. -/
set_option maxRecDepth 100000
noncomputable def stU (T : Tw) (G : Nat → Nat → Bool) (a b s : Nat) : Bool := anyK (pA T G a b) s ((pN T G a b).getD 0)
/-- on how many of the first n pairs' rides a street lies -/
noncomputable def bkN (T : Tw) (G : Nat → Nat → Bool) (s n : Nat) : Nat := cnt (fun p => stU T G (p / T.nc) (p % T.nc) s) n
def bkB (v : Nat → Nat) : Nat → Nat
  | 0 => 0
  | k + 1 => if v (bkB v k) < v k then k else bkB v k
theorem bkB_lt (v : Nat → Nat) {k : Nat} (h : 0 < k) : bkB v k < k := by
  induction k with
  | zero => omega
  | succ k ih =>
    unfold bkB
    split
    · omega
    · rcases Nat.eq_zero_or_pos k with e | e
      · subst e; show 0 < 1; omega
      · have := ih e; omega
noncomputable def bkV (T : Tw) (G : Nat → Nat → Bool) (x : Int32) : Int32 := if x = 1 then nI (bkN T G (bkB (fun s => bkN T G s (T.nc * T.nc)) 24) (T.nc * T.nc)) else if bkN T G (bkB (fun s => bkN T G s (T.nc * T.nc)) 24) (T.nc * T.nc) = 0 then -1 else nI (bkB (fun s => bkN T G s (T.nc * T.nc)) 24)
noncomputable def spBk (T : Tw) (tm : Nat) (sg al : Nat → Nat → Int32) (t x : Int32) : Nat × Int32 := sp1 (inN t (tm + 1) && inN x 2) (bkV T (GT T sg al (ix t)) x)
def inG (c : Nat) : Prop := c = 20 ∨ c = 21 ∨ c = 43
theorem inG_C : ∀ c, inG c → scC c := by intro c hc; unfold inG at hc; unfold scC; omega
theorem C_baker {T : Tw} {d : Ad} {tm : Nat} {sg al : Nat → Nat → Int32} {σ : ZS} (h : CQ T d tm sg al σ) {t x : Int32} {Ret : Int32 → ZS → Prop} (hr : PC σ Ret (wd (spBk T tm sg al t x))) : wp_X0_baker σ t x Ret := by
  unfold wp_X0_baker wp_X1_baker
  have ce := h.ce
  have sf := h.2.2.1
  have w := h.1.wf
  have hns := w.ns
  have hnc := w.nc
  refine C_tw (V21 := fun σ2 => wp_X1_need σ2 0 _ (fun σ4 => V_X1_baker_27 _ _ σ4 t x 0)) (V17 := fun σ2 => wp_X1_need σ2 1 _ (fun σ4 => V_X1_baker_27 _ _ σ4 t x 0)) (K := fun σ4 => V_X1_baker_27 (fun x3 σ4 => ((∃ x, kK NS σ4 x3 = (12 + 7, x)) ∧ (Ret 1 σ4))) (fun r1 σ2 => ∀ σ6 : ZS, σ6 = sJ σ2 1238 (ix 0) r1.toInt64 → (Ret 0 σ6)) σ4 t x 0) h hr (fun b k => ?_) fun h1 h2 hr => ?_
  · cases b
    · exact k
    · exact k
  obtain ⟨q, rfl, hq, eq, -⟩ := inN_N h1
  rw [eq] at hr
  have hqt : q ≤ tm := by omega
  generalize hThr : (fun x3 σ4 => ((∃ x, kK NS σ4 x3 = (12 + 7, x)) ∧ (Ret 1 σ4))) = Thr
  generalize hG : GT T sg al q = G at hr
  have hG' : (ev0 T d tm sg al).G q = G := by rw [ev0_G, hG]
  have hS : ∀ c, inG c → (20 ≤ c ∧ c < 44) ∨ c = 2000017 ∨ c = 2000030 ∨ c = 2000031 ∨ c = 2000037 ∨ c = 2000038 := by intro c hc; unfold inG at hc; omega
  have hnn : T.nc * T.nc ≤ 256 := Nat.le_trans (Nat.mul_le_mul hnc hnc) (by decide)
  have hbl : ∀ s n, n ≤ T.nc * T.nc → bkN T G s n ≤ 256 := fun s n hn => Nat.le_trans (cnt_le _ _) (by omega)
  refine forL (S := ZS) (fun m s y => VL_X1_baker_27 Thr (fun r1 σ2 => ∀ σ6 : ZS, σ6 = sJ σ2 1238 (ix 0) r1.toInt64 → (Ret 0 σ6)) m s (nI q) x y) (fun i s => Fr inG σ s ∧ ∀ j, j < i → zI s 43 j = 0) 24 ?_ ?_ 0 σ (Nat.zero_le _) ⟨Fr.rfl, fun j hj => absurd hj (Nat.not_lt_zero _)⟩
  · rintro n s ⟨f, g⟩
    simp only [VL_X1_baker_27]
    refine br_f (by decide) ?_
    refine forL (S := ZS) (fun m s y => VL_X1_baker_48 Thr (fun r1 σ2 => ∀ σ6 : ZS, σ6 = sJ σ2 1238 (ix 0) r1.toInt64 → (Ret 0 σ6)) m s (nI q) x y) (fun i s => Fr inG σ s ∧ ∀ j, j < 24 → zI s 43 j = nI (bkN T G j (i * T.nc))) T.nc ?_ ?_ 0 s (Nat.zero_le _) ⟨f, fun j hj => by rw [g j hj, Nat.zero_mul]; rfl⟩
    · rintro n s ⟨f, g⟩
      have hs := ce.fr f inG_C
      simp only [VL_X1_baker_48]
      refine c_corners hs.ct (br_f (nI_nlt (Nat.le_refl _) (by show T.nc < _; omega)) ?_)
      have vb : ∀ j, j < 24 → zI s 43 j = nI (bkN T G j (T.nc * T.nc)) := g
      refine forL1 (fun m s v y => VL_X1_baker_163 Thr (fun r1 σ2 => ∀ σ6 : ZS, σ6 = sJ σ2 1238 (ix 0) r1.toInt64 → (Ret 0 σ6)) m s x v y) (fun i s' v => s' = s ∧ 1 ≤ i ∧ v = nI (bkB (fun s => bkN T G s (T.nc * T.nc)) i)) 24 ?_ ?_ 1 s 0 (by decide) ⟨rfl, Nat.le_refl _, ?_⟩
      · rintro n2 s' v ⟨rfl, -, rfl⟩
        have hb := bkB_lt (fun s => bkN T G s (T.nc * T.nc)) (show 0 < 24 by decide)
        have iv : vp_in (nI (bkB (fun s => bkN T G s (T.nc * T.nc)) 24)) 24 := vin hb (by decide)
        have hle := hbl (bkB (fun s => bkN T G s (T.nc * T.nc)) 24) (T.nc * T.nc) (Nat.le_refl _)
        simp only [VL_X1_baker_163]
        rw [ix_nI (by omega), vb _ hb, nI_eq0 (by omega)]
        refine br_f (by decide) ⟨fun k => ⟨iv, hr.ok rfl sf f hS ?_⟩, fun k => ⟨iv, fun k2 => hr.ok rfl sf f hS ?_, fun k2 => hr.ok rfl sf f hS ?_⟩⟩
        · show _ = (bkV T G x).toInt64; unfold bkV; rw [if_pos k]
        · show _ = (bkV T G x).toInt64; unfold bkV; rw [if_neg k, if_pos k2]
        · show _ = (bkV T G x).toInt64; unfold bkV; rw [if_neg k, if_neg k2]
      · rintro n2 i s' v hi ⟨rfl, h1', rfl⟩ ih
        have hb := bkB_lt (fun s => bkN T G s (T.nc * T.nc)) (show 0 < i by omega)
        have l1 := hbl (bkB (fun s => bkN T G s (T.nc * T.nc)) i) (T.nc * T.nc) (Nat.le_refl _)
        have l2 := hbl i (T.nc * T.nc) (Nat.le_refl _)
        simp only [VL_X1_baker_163]
        simp only [nI1]
        rw [ix_nI (by omega), ix_nI (by omega), vb _ (by omega), vb i hi, nI_ltI (by omega) (by omega)]
        refine br_t (by rw [n24]; exact nI_lt hi (by decide)) ⟨vin (by omega) (by decide), vin (by omega) (by decide), fun k => nm_e (ih s' _ ⟨rfl, by omega, ?_⟩), fun k => nm_e (ih s' _ ⟨rfl, by omega, ?_⟩)⟩
        · rw [bkB, if_pos k]
        · rw [bkB, if_neg k]
      · show (0 : Int32) = nI (bkB _ (0 + 1)); rw [bkB]; split <;> rfl
    · rintro n i s hi ⟨f, g⟩ ih
      have hs := ce.fr f inG_C
      have him : i * T.nc + T.nc ≤ T.nc * T.nc := by rw [← Nat.succ_mul]; exact Nat.mul_le_mul_right _ hi
      simp only [VL_X1_baker_48]
      refine c_corners hs.ct (br_t (nI_lt hi (by show T.nc < _; omega)) ?_)
      refine forL (S := ZS) (fun m s y => VL_X1_baker_59 _ Thr (fun r1 σ2 => ∀ σ6 : ZS, σ6 = sJ σ2 1238 (ix 0) r1.toInt64 → (Ret 0 σ6)) m s (nI q) x (nI i) y) (fun b s => Fr inG σ s ∧ ∀ j, j < 24 → zI s 43 j = nI (bkN T G j (i * T.nc + b))) T.nc ?_ ?_ 0 s (Nat.zero_le _) ⟨f, g⟩
      · rintro n2 s2 ⟨f2, g2⟩
        have hs2 := ce.fr f2 inG_C
        simp only [VL_X1_baker_59]
        simp only [nI1]
        exact c_corners hs2.ct (br_f (nI_nlt (Nat.le_refl _) (by show T.nc < _; omega)) (nm_e (ih s2 ⟨f2, fun j hj => by rw [Nat.succ_mul]; exact g2 j hj⟩)))
      · rintro n2 b s2 hb ⟨f2, g2⟩ ih2
        have hs2 := ce.fr f2 inG_C
        simp only [VL_X1_baker_59]
        refine c_corners hs2.ct (br_t (nI_lt hb (by show T.nc < _; omega)) (c_pathOf hs2 (by omega) (by omega) (show q ≤ tm from hqt) fun s3 f3 hp => ?_))
        rw [hG'] at hp ⊢
        change ∀ n k, pN T G i b = some n → k < n → zI s3 21 k = nI (pA T G i b k) at hp
        change V_X1_baker_84 _ _ Thr _ s3 (nI q) x (nI i) (nI b) (oI (pN T G i b)) 0 0
        have ff3 := f2.trans (f3.mono (S' := inG) (by intro c hc; unfold inG; omega))
        have g3 : ∀ j, j < 24 → zI s3 43 j = nI (bkN T G j (i * T.nc + b)) := fun j hj => by rw [f3.1 43 j (by simp [cd])]; exact g2 j hj
        have e1 : (i * T.nc + b) / T.nc = i := by
          rw [Nat.add_comm, Nat.add_mul_div_right _ _ (by omega), Nat.div_eq_of_lt hb, Nat.zero_add]
        have e2 : (i * T.nc + b) % T.nc = b := by
          rw [Nat.add_comm, Nat.add_mul_mod_self_right, Nat.mod_eq_of_lt hb]
        have add : ∀ bits : Int32, (∀ s, s < 32 → btI bits s = stU T G i b s) → V_X1_baker_116 (VL_X1_baker_48 Thr (fun r1 σ2 => ∀ σ6 : ZS, σ6 = sJ σ2 1238 (ix 0) r1.toInt64 → (Ret 0 σ6)) n) (VL_X1_baker_59 (VL_X1_baker_48 Thr (fun r1 σ2 => ∀ σ6 : ZS, σ6 = sJ σ2 1238 (ix 0) r1.toInt64 → (Ret 0 σ6)) n) Thr (fun r1 σ2 => ∀ σ6 : ZS, σ6 = sJ σ2 1238 (ix 0) r1.toInt64 → (Ret 0 σ6)) n2) Thr (fun r1 σ2 => ∀ σ6 : ZS, σ6 = sJ σ2 1238 (ix 0) r1.toInt64 → (Ret 0 σ6)) s3 (nI q) x (nI i) (nI b) bits 0 := by
          intro bits hbits
          refine forL (S := ZS) (fun m s y => VL_X1_baker_116 (VL_X1_baker_48 Thr (fun r1 σ2 => ∀ σ6 : ZS, σ6 = sJ σ2 1238 (ix 0) r1.toInt64 → (Ret 0 σ6)) n) (VL_X1_baker_59 (VL_X1_baker_48 Thr (fun r1 σ2 => ∀ σ6 : ZS, σ6 = sJ σ2 1238 (ix 0) r1.toInt64 → (Ret 0 σ6)) n) Thr (fun r1 σ2 => ∀ σ6 : ZS, σ6 = sJ σ2 1238 (ix 0) r1.toInt64 → (Ret 0 σ6)) n2) Thr (fun r1 σ2 => ∀ σ6 : ZS, σ6 = sJ σ2 1238 (ix 0) r1.toInt64 → (Ret 0 σ6)) m s (nI q) x (nI i) (nI b) bits y) (fun k s4 => Fr inG σ s4 ∧ ∀ j, j < 24 → zI s4 43 j = nI (bkN T G j (if j < k then i * T.nc + (b + 1) else i * T.nc + b))) 24 ?_ ?_ 0 s3 (Nat.zero_le _) ⟨ff3, fun j hj => by rw [if_neg (by omega)]; exact g3 j hj⟩
          · rintro m s4 ⟨f4, g4⟩
            simp only [VL_X1_baker_116]
            simp only [nI1]
            exact br_f (by decide) (nm_e (ih2 s4 ⟨f4, fun j hj => by rw [g4 j hj, if_pos hj]⟩))
          · rintro m k s4 hk ⟨f4, g4⟩ ih4
            simp only [VL_X1_baker_116]
            simp only [nI1]
            rw [ix_nI (by omega), g4 k hk, if_neg (by omega), tst _ (by omega), hbits k (by omega)]
            refine br_t (by rw [n24]; exact nI_lt hk (by decide)) ⟨vin (by omega) (by decide), vin (by omega) (by decide), nm_e (nm_e (ih4 _ ⟨f4.sI 43 _ _ (by unfold inG cd; simp), fun j hj => ?_⟩))⟩
            rw [zI_row]
            by_cases ej : j = k
            · rw [if_pos ej, if_pos (by omega), ej]
              show _ = nI (bkN T G k (i * T.nc + b) + (if stU T G ((i * T.nc + b) / T.nc) ((i * T.nc + b) % T.nc) k then 1 else 0))
              rw [e1, e2]
              cases stU T G i b k
              · show nI _ + (0 : Int32) = _; rw [n0, nI_add]; rfl
              · show nI _ + (1 : Int32) = _; rw [nI1]; rfl
            · rw [if_neg ej, g4 j hj]
              by_cases el : j < k
              · rw [if_pos el, if_pos (by omega)]
              · rw [if_neg el, if_neg (by omega)]
        cases hpn : pN T G i b with
        | none =>
          refine ⟨1, ?_⟩
          simp only [VL_X1_baker_84]
          refine br_f (by decide) (add 0 fun s hs => ?_)
          rw [bt_0]; unfold stU; rw [hpn]; rfl
        | some nn =>
          have hnn' := pN_le w hpn
          refine forL1 (fun m s v y => VL_X1_baker_84 _ _ Thr (fun r1 σ2 => ∀ σ6 : ZS, σ6 = sJ σ2 1238 (ix 0) r1.toInt64 → (Ret 0 σ6)) m s (nI q) x (nI i) (nI b) (nI nn) v y) (fun k s4 v => s4 = s3 ∧ ∀ s, s < 32 → btI v s = anyK (pA T G i b) s k) nn ?_ ?_ 0 s3 0 (Nat.zero_le _) ⟨rfl, fun s hs => bt_0 s⟩
          · rintro m s4 v ⟨rfl, hv⟩
            simp only [VL_X1_baker_84]
            refine br_f (nI_nlt (Nat.le_refl _) (by omega)) (add v fun s hs => ?_)
            rw [hv s hs]; unfold stU; rw [hpn]; rfl
          · rintro m k s4 v hk ⟨rfl, hv⟩ ih4
            have hA := Tw.arc_lt (pA_lt w hpn hk)
            simp only [VL_X1_baker_84]
            simp only [nI1]
            rw [ix_nI (by omega), hp nn k hpn hk, nI_div2 (by omega)]
            refine br_t (nI_lt hk (by omega)) ⟨vin (by omega) (by decide), nm_e (nm_e (ih4 s4 _ ⟨rfl, fun s hs => ?_⟩))⟩
            rw [bt_or, bt_one (by omega) hs, hv s hs, anyK]
            congr 1
            rw [Bool.eq_iff_iff]; simp; exact eq_comm
  · rintro n i s hi ⟨f, g⟩ ih
    simp only [VL_X1_baker_27]
    simp only [nI1]
    refine br_t (by rw [n24]; exact nI_lt hi (by decide)) ⟨vin (by omega) (by decide), nm_e (nm_e (ih _ ⟨f.sI 43 _ _ (by unfold inG cd; simp), fun j hj => ?_⟩))⟩
    rw [ix_nI (by omega), zI_row]
    by_cases ej : j = i
    · rw [if_pos ej]
    · rw [if_neg ej]; exact g j (by omega)
