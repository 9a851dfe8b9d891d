/-! PURE HALF: the fewest, the cheapest. -/
set_option maxRecDepth 100000
theorem pow_sh : ∀ n, n ≤ 14 → (1 : Int32) <<< (nI n &&& 31) = nI (2 ^ n) := by
  have : ∀ a : Fin 15, (1 : Int32) <<< (nI a.val &&& 31) = nI (2 ^ a.val) := by decide +kernel
  exact fun n hn => this ⟨n, by omega⟩
theorem nCd_le (T : Tw) (sn an : Nat → Int32) : nCd T sn an ≤ 14 := by unfold nCd; omega
theorem wt_le {T : Tw} (w : T.WF) {sn an : Nat → Int32} {c : Bool} {j : Nat} (hj : j < nCd T sn an) : wtV T sn an c j ≤ 20 := by
  unfold wtV costV
  have c1 := (cdA_is hj).1
  have := w.sl _ (w.lf _ c1)
  have := w.sl _ (w.lt _ c1)
  split <;> omega
theorem by_le {T : Tw} (w : T.WF) {sn an : Nat → Int32} {c : Bool} (P : Nat → Bool) {n : Nat} (hn : n ≤ nCd T sn an) : byV T sn an c P n ≤ 20 * n := by
  induction n with
  | zero => exact Nat.le_refl _
  | succ n ih =>
    have h1 := ih (by omega)
    have h2 := wt_le w (c := c) (show n < nCd T sn an by omega)
    show byV T sn an c P n + (if P n then wtV T sn an c n else 0) ≤ _
    split <;> omega
/-- bits of a number -/
def tb (S : Nat) : Nat → Bool := fun j => S.testBit j
theorem bt_tb {S : Nat} (h : S < 2 ^ 14) : btI (nI S) = tb S := by
  funext j
  unfold tb
  rcases Nat.lt_or_ge j 32 with k | k
  · exact bt_nI S j k
  · rw [bt_hi _ k]
    symm
    exact Nat.testBit_lt_two_pow (Nat.lt_of_lt_of_le h (Nat.pow_le_pow_right (show 0 < 2 by decide) (by omega)))
theorem tb_lt {S n j : Nat} (h : S < 2 ^ n) (hj : tb S j = true) : j < n := by
  rcases Nat.lt_or_ge j n with k | k
  · exact k
  · unfold tb at hj
    rw [Nat.testBit_lt_two_pow (Nat.lt_of_lt_of_le h (Nat.pow_le_pow_right (show 0 < 2 by decide) k))] at hj
    cases hj
noncomputable def opS (T : Tw) (sn an : Nat → Int32) (S : Nat) : Bool := opB T (mayN T sn (anP T sn an (tb S)))
noncomputable def lsR (T : Tw) (sn an : Nat → Int32) (c : Bool) : Option (Nat × Nat) := srch (opS T sn an) (fun S => byV T sn an c (tb S) (nCd T sn an)) (2 ^ nCd T sn an)
noncomputable def lsQ (T : Tw) (sn an : Nat → Int32) (c : Bool) (x : Int32) : Int32 := match lsR T sn an c with
  | none => -1
  | some q => if x = 1 then nI q.1 else nI q.2
def inS (c : Nat) : Prop := c = 18 ∨ c = 22 ∨ c = 23 ∨ c = 26 ∨ c = 2000017
theorem inS_A : ∀ c, inS c → noA c := by intro c hc; unfold inS at hc; unfold noA; omega
/-- the class's environment behind a try -/
theorem ce_try {T : Tw} {d : Ad} {tm : Nat} {sg al : Nat → Nat → Int32} {σ : ZS} (ct : CT T d σ) (ch : CH tm sg al σ) {mo fe : Nat → Int32} (h9 : zI σ 0 9 = 0) (hm : ∀ s, s < 24 → zI σ 18 s = mo s) (hf : ∀ s, s < 24 → zI σ 19 s = fe s) : CE (Ev.mk T d tm sg al false mo fe) σ := ⟨ct, ch, h9, hm, hf⟩
theorem c_leastSet {T : Tw} {d : Ad} {tm : Nat} {sg al : Nat → Nat → Int32} {σ : ZS} (h : CQ T d tm sg al σ) {t : Nat} (ht : t ≤ tm) {c : Bool} {Ret : Int32 → ZS → Prop} (hr : ∀ σ', Fr inS σ σ' → Sf σ' → (∀ q, lsR T (sg t) (al t) c = some q → zI σ' 0 17 = nI q.2) → Ret (oI ((lsR T (sg t) (al t) c).map (·.1))) σ') : wp_X1_leastSet σ (nI t) (b2i c) Ret := by
  have ce := h.ce
  obtain ⟨ct, ch, sf, rm⟩ := h
  have w := ct.wf
  have hn14 := nCd_le T (sg t) (al t)
  have hp : 2 ^ nCd T (sg t) (al t) ≤ 2 ^ 14 := Nat.pow_le_pow_right (by decide) hn14
  have hnl := w.nl
  unfold wp_X1_leastSet
  refine c_findCand ce (show t ≤ tm from ht) fun s1 f1 hc1 => nm_e ?_
  change ∀ j, j < nCd T (sg t) (al t) → zI s1 26 j = nI (cdA T (sg t) (al t) j) at hc1
  change V_X1_leastSet_17 Ret _ (nI t) (b2i c) (nI (nCd T (sg t) (al t))) (-1) 0
  have fS : ∀ s, Fr inS σ s → CT T d s ∧ CH tm sg al s ∧ zI s 0 9 = 0 ∧ (∀ q, q < 24 → zI s 19 q = 0) ∧ zI s 0 36 = -1 := fun s f => ⟨ct.fr f inS_A, ch.fr f (by intro c hc; unfold inS at hc; omega), by rw [f.1 0 9 (by unfold inS cd; simp)]; exact sf.ov.ef, fun q hq => by rw [f.1 19 q (by unfold inS cd; simp)]; exact sf.ov.ee q hq, by rw [f.1 0 36 (by unfold inS cd; simp)]; exact sf.bf⟩
  have f2 : Fr inS σ (sI s1 0 17 0) := (f1.mono (by intro c hc; unfold inS; omega)).sI 0 17 0 (by unfold inS cd; simp)
  have hc2 : ∀ j, j < nCd T (sg t) (al t) → zI (sI s1 0 17 0) 26 j = nI (cdA T (sg t) (al t) j) := fun j hj => by rw [zI_ne _ (.inl (by decide))]; exact hc1 j hj
  refine forL1 (fun k s v x => VL_X1_leastSet_17 Ret k s (nI t) (b2i c) (nI (nCd T (sg t) (al t))) v x) (fun S s v => Fr inS σ s ∧ (∀ j, j < nCd T (sg t) (al t) → zI s 26 j = nI (cdA T (sg t) (al t) j)) ∧ v = oI ((srch (opS T (sg t) (al t)) (fun S => byV T (sg t) (al t) c (tb S) (nCd T (sg t) (al t))) S).map (·.1)) ∧ ∀ q, srch (opS T (sg t) (al t)) (fun S => byV T (sg t) (al t) c (tb S) (nCd T (sg t) (al t))) S = some q → zI s 0 17 = nI q.2) (2 ^ nCd T (sg t) (al t)) ?_ ?_ 0 _ (-1) (Nat.zero_le _) ⟨f2, hc2, rfl, fun q hq => by cases hq⟩
  · rintro n s v ⟨f, hc, rfl, hb⟩
    obtain ⟨ct', ch', g9, g19, g36⟩ := fS s f
    simp only [VL_X1_leastSet_17]
    rw [pow_sh _ hn14]
    refine br_f (nI_nlt (Nat.le_refl _) (by omega)) (c_tries (e := ev0 T d tm sg al) ct' hc (x := 0) (fun j hj => by rw [bt_0] at hj; cases hj) fun s' f' hm => ?_)
    have ff := f.trans (f'.mono (by intro c hc; unfold inS; omega))
    refine hr s' ff ⟨⟨?_, fun q hq => ?_, fun q hq => ?_⟩, ?_⟩ fun q hq => ?_
    · rw [f'.1 0 9 (by simp [cd])]; exact g9
    · rw [hm q hq]; exact moP_no (fun j _ => bt_0 j) q
    · rw [f'.1 19 q (by simp [cd])]; exact g19 q hq
    · rw [f'.1 0 36 (by simp [cd])]; exact g36
    · rw [f'.1 0 17 (by simp [cd])]; exact hb q hq
  · rintro n S s v hS ⟨f, hc, rfl, hb⟩ ih
    obtain ⟨ct', ch', g9, g19, g36⟩ := fS s f
    have hS14 : S < 2 ^ 14 := by omega
    simp only [VL_X1_leastSet_17]
    rw [pow_sh _ hn14]
    refine br_t (nI_lt hS (by omega)) ?_
    refine forL1 (fun k s v x => VL_X1_leastSet_31 _ Ret k s (nI t) (b2i c) (nI (nCd T (sg t) (al t))) (oI ((srch (opS T (sg t) (al t)) (fun S => byV T (sg t) (al t) c (tb S) (nCd T (sg t) (al t))) S).map (·.1))) (nI S) v x) (fun i s' v => s' = s ∧ v = nI (byV T (sg t) (al t) c (tb S) i)) (nCd T (sg t) (al t)) ?_ ?_ 0 s 0 (Nat.zero_le _) ⟨rfl, rfl⟩
    · rintro n2 s' v ⟨rfl, rfl⟩
      simp only [VL_X1_leastSet_31]
      simp only [nI1]
      have hbl := by_le w (c := c) (sn := sg t) (an := al t) (tb S) (Nat.le_refl _)
      refine br_f (nI_nlt (Nat.le_refl _) (by omega)) ?_
      -- the set is tried
      have tries : (∀ b v, srch (opS T (sg t) (al t)) (fun S => byV T (sg t) (al t) c (tb S) (nCd T (sg t) (al t))) S = some (b, v) → byV T (sg t) (al t) c (tb S) (nCd T (sg t) (al t)) < v) → V_X1_leastSet_96 (VL_X1_leastSet_17 Ret n) Ret s' (nI t) (b2i c) (nI (nCd T (sg t) (al t))) (oI ((srch (opS T (sg t) (al t)) (fun S => byV T (sg t) (al t) c (tb S) (nCd T (sg t) (al t))) S).map (·.1))) (nI S) (nI (byV T (sg t) (al t) c (tb S) (nCd T (sg t) (al t)))) := by
        intro hlt
        unfold V_X1_leastSet_96
        simp only [nI1]
        refine c_tries (e := ev0 T d tm sg al) ct' hc (x := nI S) (fun j hj => by rw [bt_tb hS14] at hj; exact tb_lt hS hj) fun s2 f2 hm => ?_
        have ff := f.trans (f2.mono (by intro c hc; unfold inS; omega))
        obtain ⟨ct2, ch2, k9, k19, k36⟩ := fS s2 ff
        have ce2 := ce_try (mo := moP T (sg t) (al t) (btI (nI S))) (fe := fun _ => 0) ct2 ch2 k9 hm k19
        refine c_isOpen ce2 (show t ≤ tm from ht) fun s3 f3 => ?_
        have ff3 := ff.trans (f3.mono (by intro c hc; unfold inQ at hc; unfold inS; omega))
        have hc3 : ∀ j, j < nCd T (sg t) (al t) → zI s3 26 j = nI (cdA T (sg t) (al t) j) := fun j hj => by rw [f3.1 26 j (by unfold inQ cd; simp), f2.1 26 j (by simp [cd])]; exact hc j hj
        have eG : opB T ((Ev.mk T d tm sg al false (moP T (sg t) (al t) (btI (nI S))) (fun _ => 0)).G t) = opS T (sg t) (al t) S := by
          show opB T (mayC T false (sg t) (al t) (moP T (sg t) (al t) (btI (nI S))) (fun _ => 0)) = _
          rw [set_rule, bt_tb hS14]; rfl
        change (b2i (opB T ((Ev.mk T d tm sg al false (moP T (sg t) (al t) (btI (nI S))) (fun _ => 0)).G t)) = 0 → _) ∧ (¬ b2i (opB T ((Ev.mk T d tm sg al false (moP T (sg t) (al t) (btI (nI S))) (fun _ => 0)).G t)) = 0 → _)
        rw [eG]
        have h17 : zI s3 0 17 = zI s' 0 17 := by rw [f3.1 0 17 (by unfold inQ cd; simp), f2.1 0 17 (by simp [cd])]
        refine br0 (fun k => nm_e (ih s3 _ ⟨ff3, hc3, ?_, fun q hq => ?_⟩)) fun k => nm_e (nm_e (ih _ _ ⟨ff3.sI 0 17 _ (by unfold inS cd; simp), fun j hj => by rw [zI_ne _ (.inl (by decide))]; exact hc3 j hj, ?_, fun q hq => ?_⟩))
        · conv => rhs; unfold srch
          cases hsr : srch (opS T (sg t) (al t)) (fun S => byV T (sg t) (al t) c (tb S) (nCd T (sg t) (al t))) S with
          | none => simp only [k]; rfl
          | some q => simp [k]
        · unfold srch at hq
          cases hsr : srch (opS T (sg t) (al t)) (fun S => byV T (sg t) (al t) c (tb S) (nCd T (sg t) (al t))) S with
          | none => rw [hsr] at hq; simp only [k] at hq; cases hq
          | some q' =>
            rw [hsr] at hq
            simp [k] at hq
            rw [h17, ← hq]; exact hb q' hsr
        · conv => rhs; unfold srch
          cases hsr : srch (opS T (sg t) (al t)) (fun S => byV T (sg t) (al t) c (tb S) (nCd T (sg t) (al t))) S with
          | none => simp only [k]; rfl
          | some q =>
            obtain ⟨b, v⟩ := q
            simp only
            rw [if_pos ⟨hlt b v hsr, k⟩]; rfl
        · rw [zI_self]
          unfold srch at hq
          cases hsr : srch (opS T (sg t) (al t)) (fun S => byV T (sg t) (al t) c (tb S) (nCd T (sg t) (al t))) S with
          | none => rw [hsr] at hq; simp only [k] at hq; cases hq; rfl
          | some q' =>
            obtain ⟨b, v⟩ := q'
            rw [hsr] at hq
            simp only at hq
            rw [if_pos ⟨hlt b v hsr, k⟩] at hq
            cases hq; rfl
      cases hsr : srch (opS T (sg t) (al t)) (fun S => byV T (sg t) (al t) c (tb S) (nCd T (sg t) (al t))) S with
      | none =>
        rw [hsr] at tries
        exact br_t rfl (tries fun b v k => by cases k)
      | some q =>
        obtain ⟨b, v⟩ := q
        have hq := srch_some hsr
        have hbv : v ≤ 20 * 14 := by
          rw [hq.2]
          have := by_le w (c := c) (sn := sg t) (an := al t) (tb b) (Nat.le_refl _)
          omega
        rw [hsr] at tries
        refine br_f (by show ¬ nI b = -1; rw [nI_m1 (by omega)]; exact id) ?_
        rw [hb _ hsr, nI_ltI (by omega) (by show v < _; omega)]
        refine ⟨fun k => tries fun b' v' e => by cases e; exact k, fun k => nm_e (ih s' _ ⟨f, hc, ?_, fun q' hq' => ?_⟩)⟩
        · conv => rhs; unfold srch
          rw [hsr]; simp only; rw [if_neg (fun e => k e.1)]
        · unfold srch at hq'
          rw [hsr] at hq'; simp only at hq'
          rw [if_neg (fun e => k e.1)] at hq'
          cases hq'; exact hb _ hsr
    · rintro n2 i s' v hi ⟨rfl, rfl⟩ ih2
      simp only [VL_X1_leastSet_31]
      simp only [nI1]
      rw [tst _ (by omega), bt_tb hS14, b2i_1]
      have hbl := by_le w (c := c) (sn := sg t) (an := al t) (tb S) (Nat.le_of_lt hi)
      have hwl := wt_le w (c := c) hi
      refine br_t (nI_lt hi (by omega)) ⟨fun k => ?_, fun k => nm_e (ih2 s' _ ⟨rfl, ?_⟩)⟩
      · have eb : byV T (sg t) (al t) c (tb S) (i + 1) = byV T (sg t) (al t) c (tb S) i + wtV T (sg t) (al t) c i := by
          show byV T (sg t) (al t) c (tb S) i + (if tb S i then _ else 0) = _; rw [k]; rfl
        refine br0 (fun kc => nm_e (nm_e (ih2 s' _ ⟨rfl, ?_⟩))) fun kc => ⟨vin (by omega) (by decide), ?_⟩
        · rw [eb]; unfold wtV; rw [kc]; rfl
        · rw [ix_nI (by omega), hc i hi]
          refine c_costOf ct' (cdA_is hi).1 (nm_e (nm_e (ih2 s' _ ⟨rfl, ?_⟩)))
          rw [eb, nI_add]; unfold wtV; rw [kc]; rfl
      · have eb : byV T (sg t) (al t) c (tb S) (i + 1) = byV T (sg t) (al t) c (tb S) i := by
          show byV T (sg t) (al t) c (tb S) i + (if tb S i then _ else 0) = _
          rw [Bool.not_eq_true] at k; rw [k]; rfl
        rw [eb]
noncomputable def spLs (T : Tw) (tm : Nat) (sg al : Nat → Nat → Int32) (c : Bool) (t x : Int32) : Nat × Int32 := sp1 (inN t (tm + 1) && inN x 2) (lsQ T (sg (ix t)) (al (ix t)) c x)
theorem C_ls {T : Tw} {d : Ad} {tm : Nat} {sg al : Nat → Nat → Int32} {σ : ZS} (h : CQ T d tm sg al σ) {t x : Int32} {c : Bool} {Ret : Int32 → ZS → Prop} (hr : PC σ Ret (0, (lsQ T (sg (ix t)) (al (ix t)) c x).toInt64)) (h1 : inN t (tm + 1) = true) : wp_X1_leastSet σ t (b2i c) (fun r5 σ6 => ((r5 = (-1) → (∀ σ7 : ZS, σ7 = sJ σ6 1238 (ix 0) (-1 : Int32).toInt64 → (Ret 0 σ7))) ∧ (¬ r5 = (-1) → (((x = 1 → (∀ σ7 : ZS, σ7 = sJ σ6 1238 (ix 0) r5.toInt64 → (Ret 0 σ7))) ∧ (¬ x = 1 → (∀ σ7 : ZS, σ7 = sJ σ6 1238 (ix 0) (zI σ6 0 17).toInt64 → (Ret 0 σ7)))))))) := by
  obtain ⟨w, rfl, hw, ew, -⟩ := inN_N h1
  rw [ew] at hr
  have hp : 2 ^ nCd T (sg w) (al w) ≤ 2 ^ 14 := Nat.pow_le_pow_right (by decide) (nCd_le _ _ _)
  refine c_leastSet h (t := w) (by omega) fun s f sf' hb => ?_
  have ok : ∀ v, v = lsQ T (sg w) (al w) c x → ∀ σ7 : ZS, σ7 = sJ s 1238 (ix 0) v.toInt64 → Ret 0 σ7 := fun v e => hr.ret rfl (f.mono (by intro c hc; unfold inS at hc; unfold SQ; omega)) sf' (by rw [e])
  unfold lsQ at ok
  cases hl : lsR T (sg w) (al w) c with
  | none => rw [hl] at ok; exact br_t rfl (ok _ rfl)
  | some q =>
    rw [hl] at ok
    have := srch_some (b := q.1) (v := q.2) hl
    refine br_f (by show ¬ nI q.1 = -1; rw [nI_m1 (by omega)]; exact id) ⟨fun k => ok _ (by simp only; rw [if_pos k]; rfl), fun k => ok _ (by simp only; rw [if_neg k]; exact hb q hl)⟩
theorem C_fewest {T : Tw} {d : Ad} {tm : Nat} {sg al : Nat → Nat → Int32} {σ : ZS} (h : CQ T d tm sg al σ) {t x : Int32} {Ret : Int32 → ZS → Prop} (hr : PC σ Ret (wd (spLs T tm sg al false t x))) : wp_X0_fewest σ t x Ret := by
  unfold wp_X0_fewest wp_X1_fewest
  refine C_tw (K := fun σ4 => wp_X1_leastSet σ4 t (b2i false) (fun r5 σ6 => ((r5 = (-1) → (∀ σ7 : ZS, σ7 = sJ σ6 1238 (ix 0) (-1 : Int32).toInt64 → (Ret 0 σ7))) ∧ (¬ r5 = (-1) → (((x = 1 → (∀ σ7 : ZS, σ7 = sJ σ6 1238 (ix 0) r5.toInt64 → (Ret 0 σ7))) ∧ (¬ x = 1 → (∀ σ7 : ZS, σ7 = sJ σ6 1238 (ix 0) (zI σ6 0 17).toInt64 → (Ret 0 σ7))))))))) h hr (fun b k => ?_) fun h1 h2 hr => C_ls h hr h1
  cases b
  · exact k
  · exact k
theorem C_cheapest {T : Tw} {d : Ad} {tm : Nat} {sg al : Nat → Nat → Int32} {σ : ZS} (h : CQ T d tm sg al σ) {t x : Int32} {Ret : Int32 → ZS → Prop} (hr : PC σ Ret (wd (spLs T tm sg al true t x))) : wp_X0_cheapest σ t x Ret := by
  unfold wp_X0_cheapest wp_X1_cheapest
  refine C_tw (K := fun σ4 => wp_X1_leastSet σ4 t (b2i true) (fun r5 σ6 => ((r5 = (-1) → (∀ σ7 : ZS, σ7 = sJ σ6 1238 (ix 0) (-1 : Int32).toInt64 → (Ret 0 σ7))) ∧ (¬ r5 = (-1) → (((x = 1 → (∀ σ7 : ZS, σ7 = sJ σ6 1238 (ix 0) r5.toInt64 → (Ret 0 σ7))) ∧ (¬ x = 1 → (∀ σ7 : ZS, σ7 = sJ σ6 1238 (ix 0) (zI σ6 0 17).toInt64 → (Ret 0 σ7))))))))) h hr (fun b k => ?_) fun h1 h2 hr => C_ls h hr h1
  cases b
  · exact k
  · exact k
