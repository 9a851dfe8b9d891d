/-! PURE HALF: exchange. -/
set_option maxRecDepth 100000
/-- one candidate alone -/
def one1 (i : Nat) : Nat → Bool := fun j => decide (j = i)
theorem tb_pow {i : Nat} : tb (2 ^ i) = one1 i := by
  funext j
  unfold tb one1
  rw [Nat.testBit_two_pow]
  rw [Bool.eq_iff_iff]; simp
  exact eq_comm
def exI (v : Nat → Nat → Nat) (val : Nat → Nat → Int32) (k : Nat) : Nat → Int32 × Nat → Int32 × Nat
  | 0, s => s
  | i + 1, s => if (exI v val k i s).2 < v k i then (val k i, v k i) else exI v val k i s
def exK (p : Nat → Bool) (v : Nat → Nat → Nat) (val : Nat → Nat → Int32) (n : Nat) : Nat → Int32 × Nat → Int32 × Nat
  | 0, s => s
  | k + 1, s => if p k then exI v val k n (exK p v val n k s) else exK p v val n k s
/-- the turns that may be given back -/
def isGv (T : Tw) (sn an : Nat → Int32) (k : Nat) : Bool := btI (an (T.lf k)) (T.lt k) && !btI (sn (T.lf k)) (T.lt k)
/-- what is allowed when one is given for a candidate -/
noncomputable def exA (T : Tw) (sn an : Nat → Int32) (k i : Nat) : Nat → Int32 := flipF T (cdA T sn an i) (flipF T k an)
noncomputable def exV (T : Tw) (sn an : Nat → Int32) (k i : Nat) : Nat := prV T (mayN T sn (exA T sn an k i))
noncomputable def exL (T : Tw) (sn an : Nat → Int32) (k i : Nat) : Int32 := 1000 * nI k + nI (cdA T sn an i)
noncomputable def exR (T : Tw) (sn an : Nat → Int32) : Int32 × Nat := exK (isGv T sn an) (exV T sn an) (exL T sn an) (nCd T sn an) T.nl (-1, prV T (mayN T sn an))
noncomputable def spEx (T : Tw) (tm : Nat) (sg al : Nat → Nat → Int32) (t x : Int32) : Nat × Int32 := sp1 (inN t (tm + 1) && inN x 2) (if x = 0 then (exR T (sg (ix t)) (al (ix t))).1 else nI (exR T (sg (ix t)) (al (ix t))).2)
/-- one forbidden turn -/
def feK (T : Tw) (k s : Nat) : Int32 := if s = T.lf k then (1 : Int32) <<< (nI (T.lt k) &&& 31) else 0
theorem ex_rule {T : Tw} (w : T.WF) {sn an : Nat → Int32} {k i : Nat} (hk : k < T.nl) (hg : isGv T sn an k = true) (hi : i < nCd T sn an) : mayC T false sn an (moP T sn an (one1 i)) (feK T k) = mayN T sn (exA T sn an k i) := by
  obtain ⟨c1, c2, -⟩ := cdA_is hi
  have hns := w.ns
  have l1 := w.lt k hk
  have l2 := w.lt _ c1
  funext a b
  refine may_eq ?_
  generalize a / 2 = s
  generalize b / 2 = m
  rcases Nat.lt_or_ge m 32 with hm | hm
  · unfold exA
    rw [bt_flip (by omega) _ _ hm, bt_flip (by omega) _ _ hm, bt_moP]
    have hh : hitB T sn an (one1 i) s m = (decide (s = T.lf (cdA T sn an i)) && decide (m = T.lt (cdA T sn an i))) := by
      rw [Bool.eq_iff_iff, hitB_iff]
      simp only [Bool.and_eq_true, decide_eq_true_eq]
      constructor
      · rintro ⟨j, -, h2, h3, h4⟩
        unfold one1 at h2; simp at h2; subst h2
        exact ⟨h3.symm, h4.symm⟩
      · rintro ⟨h3, h4⟩; exact ⟨i, hi, by unfold one1; simp, h3.symm, h4.symm⟩
    have hf : btI (feK T k s) m = (decide (s = T.lf k) && decide (m = T.lt k)) := by
      unfold feK
      split
      · next e => rw [bt_one (by omega) hm]; simp [e]
      · next e => rw [bt_0]; simp [e]
    rw [hh, hf]
    unfold isGv at hg
    unfold isCd at c2
    simp only [Bool.and_eq_true, Bool.not_eq_true'] at hg c2
    simp only [hm, decide_true, Bool.true_and]
    by_cases e1 : s = T.lf (cdA T sn an i) ∧ m = T.lt (cdA T sn an i)
    · obtain ⟨e1, e2⟩ := e1
      have ne : ¬ (s = T.lf k ∧ m = T.lt k) := by
        rintro ⟨e3, e4⟩
        rw [← e1, ← e2] at c2
        rw [← e3, ← e4] at hg
        rw [c2.1] at hg; cases hg.1
      have z : (decide (s = T.lf k) && decide (m = T.lt k)) = false := by
        rw [← Bool.not_eq_true]; simp only [Bool.and_eq_true, decide_eq_true_eq]; exact ne
      have za : btI (an s) m = false := by rw [e1, e2]; exact c2.1
      rw [z, za]; simp [e1, e2]
    · have z : (decide (s = T.lf (cdA T sn an i)) && decide (m = T.lt (cdA T sn an i))) = false := by
        rw [← Bool.not_eq_true]; simp only [Bool.and_eq_true, decide_eq_true_eq]; exact e1
      rw [z]
      by_cases e3 : s = T.lf k ∧ m = T.lt k
      · have za : btI (an s) m = true := by rw [e3.1, e3.2]; exact hg.1
        rw [za]; simp [e3.1, e3.2]
      · have z3 : (decide (s = T.lf k) && decide (m = T.lt k)) = false := by
          rw [← Bool.not_eq_true]; simp only [Bool.and_eq_true, decide_eq_true_eq]; exact e3
        rw [z3]; simp
  · rw [bt_hi _ hm, bt_hi _ hm, bt_hi _ hm]; simp
def inX (c : Nat) : Prop := c = 18 ∨ c = 19 ∨ c = 22 ∨ c = 23 ∨ c = 26
theorem inX_A : ∀ c, inX c → noA c := by intro c hc; unfold inX at hc; unfold noA; omega
theorem pow_lt14 {i n : Nat} (h : i < n) (hn : n ≤ 14) : 2 ^ i < 2 ^ 14 := Nat.pow_lt_pow_right (by decide) (by omega)
theorem C_exchange {T : Tw} {d : Ad} {tm : Nat} {sg al : Nat → Nat → Int32} {σ : ZS} (h : CQ T d tm sg al σ) {t x : Int32} {Ret : Int32 → ZS → Prop} (hr : PC σ Ret (wd (spEx T tm sg al t x))) : wp_X0_exchange σ t x Ret := by
  unfold wp_X0_exchange wp_X1_exchange
  have ce := h.ce
  have ct := h.1
  have ch := h.2.1
  have sf := h.2.2.1
  have w := ct.wf
  have hnl := w.nl
  have hns := w.ns
  refine C_tw (K := fun σ4 => wp_X1_findCandidates σ4 t (fun r5 σ6 => wp_X1_pairs σ6 t (fun r7 σ8 => V_X1_exchange_44 (fun x3 σ4 => ((∃ x, kK NS σ4 x3 = (12 + 7, x)) ∧ (Ret 1 σ4))) (fun r1 σ2 => ∀ σ6 : ZS, σ6 = sJ σ2 1238 (ix 0) r1.toInt64 → (Ret 0 σ6)) σ8 t x r5 (-1) r7 0))) h hr (fun b k => ?_) fun h1 h2 hr => ?_
  · cases b
    · exact k
    · exact k
  obtain ⟨q, rfl, hq, eq, -⟩ := inN_N h1
  rw [eq] at hr
  have hqt : q ≤ tm := by omega
  generalize hThr : (fun x3 σ4 => ((∃ x, kK NS σ4 x3 = (12 + 7, x)) ∧ (Ret 1 σ4))) = Thr
  generalize hRt : (fun (r1 : Int32) σ2 => ∀ σ6 : ZS, σ6 = sJ σ2 1238 (ix 0) r1.toInt64 → (Ret 0 σ6)) = Rt
  have hn14 := nCd_le T (sg q) (al q)
  have fS : ∀ s, Fr inX σ s → CT T d s ∧ CH tm sg al s ∧ zI s 0 9 = 0 ∧ zI s 0 36 = -1 := fun s f => ⟨ct.fr f inX_A, ch.fr f (by intro c hc; unfold inX at hc; omega), by rw [f.1 0 9 (by unfold inX cd; simp)]; exact sf.ov.ef, by rw [f.1 0 36 (by unfold inX cd; simp)]; exact sf.bf⟩
  have hpl : ∀ G, prV T G ≤ 240 := fun G => Nat.le_trans (prV_le w G) (Nat.le_trans (Nat.mul_le_mul w.nc (show T.nc - 1 ≤ 15 by have := w.nc; omega)) (by decide))
  refine c_findCand ce hqt fun s1 f1 hc1 => ?_
  change ∀ j, j < nCd T (sg q) (al q) → zI s1 26 j = nI (cdA T (sg q) (al q) j) at hc1
  have ce1 := ce.fr f1 (by intro c hc; unfold scC; omega)
  refine c_pairs ce1 hqt fun s2 f2 => ?_
  rw [ev0_G]
  change V_X1_exchange_44 Thr Rt s2 (nI q) x (nI (nCd T (sg q) (al q))) (-1) (nI (prV T (GT T sg al q))) 0
  have ff2 : Fr inX σ s2 := (f1.mono (by intro c hc; unfold inX; omega)).trans (f2.mono (by intro c hc; unfold inQ at hc; unfold inX; omega))
  have hc2 : ∀ j, j < nCd T (sg q) (al q) → zI s2 26 j = nI (cdA T (sg q) (al q) j) := fun j hj => by rw [f2.1 26 j (by unfold inQ cd; simp)]; exact hc1 j hj
  have z19 : ∀ s, s < 24 → zI s2 19 s = 0 := fun s hs => by rw [f2.1 19 s (by unfold inQ cd; simp), f1.1 19 s (by simp [cd])]; exact sf.ov.ee s hs
  refine forL2 (fun k s v u y => VL_X1_exchange_44 Thr Rt k s (nI q) x (nI (nCd T (sg q) (al q))) v u y) (fun k s v u => Fr inX σ s ∧ (∀ j, j < nCd T (sg q) (al q) → zI s 26 j = nI (cdA T (sg q) (al q) j)) ∧ (∀ c, c < 24 → zI s 19 c = 0) ∧ v = (exK (isGv T (sg q) (al q)) (exV T (sg q) (al q)) (exL T (sg q) (al q)) (nCd T (sg q) (al q)) k (-1, prV T (mayN T (sg q) (al q)))).1 ∧ u = nI (exK (isGv T (sg q) (al q)) (exV T (sg q) (al q)) (exL T (sg q) (al q)) (nCd T (sg q) (al q)) k (-1, prV T (mayN T (sg q) (al q)))).2 ∧ (exK (isGv T (sg q) (al q)) (exV T (sg q) (al q)) (exL T (sg q) (al q)) (nCd T (sg q) (al q)) k (-1, prV T (mayN T (sg q) (al q)))).2 ≤ 240) T.nl ?_ ?_ 0 s2 (-1) _ (Nat.zero_le _) ⟨ff2, hc2, z19, rfl, rfl, hpl _⟩
  · rintro n s v u ⟨f, hc, z9, rfl, rfl, -⟩
    obtain ⟨ct', ch', g9, g36⟩ := fS s f
    simp only [VL_X1_exchange_44]
    rw [ct'.pt, zo_in, ct'.nl]
    refine ⟨rfl, ct'.kt, br_f (nI_nlt (Nat.le_refl _) (by omega)) (c_tries (e := ev0 T d tm sg al) ct' hc (x := 0) (fun j hj => by rw [bt_0] at hj; cases hj) fun s' f' hm => ?_)⟩
    have ff := f.trans (f'.mono (by intro c hc; unfold inX; omega))
    have sf' : Sf s' := by
      refine ⟨⟨?_, fun q hq => ?_, fun q hq => ?_⟩, ?_⟩
      · rw [f'.1 0 9 (by simp [cd])]; exact g9
      · rw [hm q hq]; exact moP_no (fun j _ => bt_0 j) q
      · rw [f'.1 19 q (by simp [cd])]; exact z9 q hq
      · rw [f'.1 0 36 (by simp [cd])]; exact g36
    have fq : Fr SQ σ s' := ff.mono (by intro c hc; unfold inX at hc; unfold SQ; omega)
    subst hRt
    refine ⟨fun k => hr.ret rfl fq sf' ?_, fun k => hr.ret rfl fq sf' ?_⟩
    · show _ = Int32.toInt64 (ite _ _ _); rw [if_pos k]; rfl
    · show _ = Int32.toInt64 (ite _ _ _); rw [if_neg k]; rfl
  · rintro n k s v u hk ⟨f, hc, z9, rfl, rfl, hle⟩ ih
    obtain ⟨ct', ch', g9, g36⟩ := fS s f
    have hlf := w.lf k hk; have hlt := w.lt k hk
    simp only [VL_X1_exchange_44]
    simp only [nI1]
    rw [ct'.pt, zo_in, ct'.nl, ct'.p5, ct'.p6, zo_in, zo_in, ix_nI (by omega), ct'.lf k hk, ct'.lt k hk]
    refine ⟨rfl, ct'.kt, br_t (nI_lt hk (by omega)) ⟨rfl, ct'.kt, rfl, 576, ct'.k5, vin (by omega) (by decide), nm_e ⟨rfl, ct'.kt, rfl, 576, ct'.k6, vin (by omega) (by decide), nm_e ?_⟩⟩⟩
    generalize hX : exK (isGv T (sg q) (al q)) (exV T (sg q) (al q)) (exL T (sg q) (al q)) (nCd T (sg q) (al q)) k (-1, prV T (mayN T (sg q) (al q))) = X at hle ⊢
    have skip : isGv T (sg q) (al q) k = false → VL_X1_exchange_44 Thr Rt n s (nI q) x (nI (nCd T (sg q) (al q))) X.1 (nI X.2) (nI (k + 1)) := by
      intro kg
      have e1 : exK (isGv T (sg q) (al q)) (exV T (sg q) (al q)) (exL T (sg q) (al q)) (nCd T (sg q) (al q)) (k + 1) (-1, prV T (mayN T (sg q) (al q))) = X := by
        rw [exK, kg, hX]; rfl
      exact ih s _ _ ⟨f, hc, z9, by rw [e1], by rw [e1], by rw [e1]; exact hle⟩
    refine c_isAllowed ch' hqt (by omega) (by omega) (br0 (fun k1 => nm_e (skip (by unfold isGv; rw [k1]; rfl))) fun k1 => c_isSigned ch' hqt (by omega) (by omega) (br0 (fun k2 => ⟨vin (by omega) (by decide), nm_e ?_⟩) fun k2 => nm_e (skip (by unfold isGv; rw [k2]; simp))))
    have kg : isGv T (sg q) (al q) k = true := by unfold isGv; rw [k1, k2]; rfl
    rw [ix_nI (by omega)]
    have f3 : Fr inX σ (sI s 19 (T.lf k) ((1 : Int32) <<< (nI (T.lt k) &&& 31))) := f.sI _ _ _ (by unfold inX cd; simp)
    have h3c : ∀ j, j < nCd T (sg q) (al q) → zI (sI s 19 (T.lf k) ((1 : Int32) <<< (nI (T.lt k) &&& 31))) 26 j = nI (cdA T (sg q) (al q) j) := fun j hj => by rw [zI_ne _ (.inl (by decide))]; exact hc j hj
    have h3f : ∀ c, c < 24 → zI (sI s 19 (T.lf k) ((1 : Int32) <<< (nI (T.lt k) &&& 31))) 19 c = feK T k c := fun c hc' => by
      rw [zI_row]; unfold feK; split
      · rfl
      · exact z9 c hc'
    generalize sI s 19 (T.lf k) ((1 : Int32) <<< (nI (T.lt k) &&& 31)) = s3 at f3 h3c h3f ⊢
    refine forL2 (fun m s v u y => VL_X1_exchange_127 _ Thr Rt m s (nI q) x (nI (nCd T (sg q) (al q))) v u (nI k) (nI (T.lf k)) y) (fun i s v u => Fr inX σ s ∧ (∀ j, j < nCd T (sg q) (al q) → zI s 26 j = nI (cdA T (sg q) (al q) j)) ∧ (∀ c, c < 24 → zI s 19 c = feK T k c) ∧ v = (exI (exV T (sg q) (al q)) (exL T (sg q) (al q)) k i X).1 ∧ u = nI (exI (exV T (sg q) (al q)) (exL T (sg q) (al q)) k i X).2 ∧ (exI (exV T (sg q) (al q)) (exL T (sg q) (al q)) k i X).2 ≤ 240) (nCd T (sg q) (al q)) ?_ ?_ 0 s3 _ _ (Nat.zero_le _) ⟨f3, h3c, h3f, rfl, rfl, hle⟩
    · rintro n2 s4 v u ⟨f4, c4, e4, rfl, rfl, l4⟩
      simp only [VL_X1_exchange_127]
      simp only [nI1]
      refine br_f (nI_nlt (Nat.le_refl _) (by omega)) ⟨vin (by omega) (by decide), nm_e (nm_e ?_)⟩
      rw [ix_nI (by omega)]
      have e1 : exK (isGv T (sg q) (al q)) (exV T (sg q) (al q)) (exL T (sg q) (al q)) (nCd T (sg q) (al q)) (k + 1) (-1, prV T (mayN T (sg q) (al q))) = exI (exV T (sg q) (al q)) (exL T (sg q) (al q)) k (nCd T (sg q) (al q)) X := by
        rw [exK, kg, hX]; rfl
      refine ih _ _ _ ⟨f4.sI 19 _ _ (by unfold inX cd; simp), fun j hj => by rw [zI_ne _ (.inl (by decide))]; exact c4 j hj, fun c hc' => ?_, by rw [e1], by rw [e1], by rw [e1]; exact l4⟩
      rw [zI_row]
      by_cases ec : c = T.lf k
      · rw [if_pos ec]
      · rw [if_neg ec, e4 c hc']; unfold feK; rw [if_neg ec]
    · rintro n2 i s4 v u hi ⟨f4, c4, e4, rfl, rfl, l4⟩ ih2
      obtain ⟨ct4, ch4, g94, -⟩ := fS s4 f4
      simp only [VL_X1_exchange_127]
      simp only [nI1]
      have hp14 := pow_lt14 hi hn14
      have eb : btI (nI (2 ^ i)) = one1 i := by rw [bt_tb hp14, tb_pow]
      rw [pow_sh i (by omega)]
      refine br_t (nI_lt hi (by omega)) (c_tries (e := ev0 T d tm sg al) ct4 c4 (x := nI (2 ^ i)) (fun j hj => by rw [eb] at hj; unfold one1 at hj; simp at hj; rw [hj]; exact hi) fun s5 f5 hm5 => ?_)
      have ff5 := f4.trans (f5.mono (by intro c hc; unfold inX; omega))
      obtain ⟨ct5, ch5, g95, -⟩ := fS s5 ff5
      have ce5 := ce_try (mo := moP T (sg q) (al q) (btI (nI (2 ^ i)))) (fe := feK T k) ct5 ch5 g95 hm5 (fun c hc' => by rw [f5.1 19 c (by simp [cd])]; exact e4 c hc')
      refine c_pairs ce5 hqt fun s6 f6 => ?_
      have eG : prV T ((Ev.mk T d tm sg al false (moP T (sg q) (al q) (btI (nI (2 ^ i)))) (feK T k)).G q) = exV T (sg q) (al q) k i := by
        show prV T (mayC T false (sg q) (al q) (moP T (sg q) (al q) (btI (nI (2 ^ i)))) (feK T k)) = _
        rw [eb, ex_rule w hk kg hi]; rfl
      change (nI _ < nI (prV T ((Ev.mk T d tm sg al false (moP T (sg q) (al q) (btI (nI (2 ^ i)))) (feK T k)).G q)) → _) ∧ (¬ nI _ < nI (prV T ((Ev.mk T d tm sg al false (moP T (sg q) (al q) (btI (nI (2 ^ i)))) (feK T k)).G q)) → _)
      have ff6 := ff5.trans (f6.mono (by intro c hc; unfold inQ at hc; unfold inX; omega))
      have hv := hpl (mayN T (sg q) (exA T (sg q) (al q) k i))
      change exV T (sg q) (al q) k i ≤ 240 at hv
      have c6 : ∀ j, j < nCd T (sg q) (al q) → zI s6 26 j = nI (cdA T (sg q) (al q) j) := fun j hj => by rw [f6.1 26 j (by unfold inQ cd; simp), f5.1 26 j (by simp [cd])]; exact c4 j hj
      have e6 : ∀ c, c < 24 → zI s6 19 c = feK T k c := fun c hc' => by rw [f6.1 19 c (by unfold inQ cd; simp), f5.1 19 c (by simp [cd])]; exact e4 c hc'
      rw [eG, nI_ltI (by omega) (by omega)]
      refine ⟨fun kl => ⟨vin (by omega) (by decide), nm_e (nm_e (ih2 s6 _ _ ⟨ff6, c6, e6, ?_, ?_, ?_⟩))⟩, fun kl => nm_e (ih2 s6 _ _ ⟨ff6, c6, e6, ?_, ?_, ?_⟩)⟩
      · rw [ix_nI (by omega), c6 i hi, exI, if_pos kl]; rfl
      · change nI (prV T ((Ev.mk T d tm sg al false (moP T (sg q) (al q) (btI (nI (2 ^ i)))) (feK T k)).G q)) = _
        rw [eG, exI, if_pos kl]
      · rw [exI, if_pos kl]; exact hv
      · rw [exI, if_neg kl]
      · rw [exI, if_neg kl]
      · rw [exI, if_neg kl]; exact l4
theorem flip2 {T : Tw} (w : T.WF) {k : Nat} (hk : k < T.nl) (f : Nat → Int32) : flipF T k (flipF T k f) = f := by
  have := w.lt k hk; have := w.ns
  funext s
  apply bt_ext
  intro m hm
  rw [bt_flip (by omega) _ _ hm, bt_flip (by omega) _ _ hm]
  cases btI (f s) m <;> cases (decide (s = T.lf k) && decide (m = T.lt k)) <;> rfl
theorem flip_comm {T : Tw} (w : T.WF) {k j : Nat} (hk : k < T.nl) (hj : j < T.nl) (f : Nat → Int32) : flipF T k (flipF T j f) = flipF T j (flipF T k f) := by
  have := w.lt k hk; have := w.lt j hj; have := w.ns
  funext s
  apply bt_ext
  intro m hm
  rw [bt_flip (by omega) _ _ hm, bt_flip (by omega) _ _ hm, bt_flip (by omega) _ _ hm, bt_flip (by omega) _ _ hm]
  cases btI (f s) m <;> cases (decide (s = T.lf k) && decide (m = T.lt k)) <;> cases (decide (s = T.lf j) && decide (m = T.lt j)) <;> rfl
theorem M_exchange {T : Tw} {tm : Nat} {sg al : Nat → Nat → Int32} {σ : ZS} (h : ME T tm sg al σ) (hb : zI σ 44 54 = -1) {t x : Int32} {Ret : Int32 → ZS → Prop} (hr : PM σ Ret (spEx T tm sg al t x)) : wp_X4_exchange σ t x Ret := by
  unfold wp_X4_exchange
  obtain ⟨h1, hz⟩ := h.z
  have w := h.mt.wf
  have hnl := w.nl
  have hns := w.ns
  unfold spEx at hr
  refine M_tw h (fun k => ?_) fun k k2 => ?_
  · unfold V_X4_exchange_23 V_X4_exchange_28
    exact m_bad1 hz (by decide) (br_f (by decide) (hr.thr (c := 1) (sp1_1 k) (by decide) hb))
  unfold V_X4_exchange_28
  rw [sp1_0 (by rw [k, k2]; rfl)] at hr
  obtain ⟨q, rfl, hq, eq, -⟩ := inN_N k
  rw [eq] at hr
  have hn14 := nCd_le T (sg q) (al q)
  have hpl : ∀ G, prV T G ≤ 240 := fun G => Nat.le_trans (prV_le w G) (Nat.le_trans (Nat.mul_le_mul w.nc (show T.nc - 1 ≤ 15 by have := w.nc; omega)) (by decide))
  refine m_bad0 hz (br_t rfl (m_findLater h1 (t := q) (by omega) fun s1 f1 hn1 hl1 => ?_))
  have fe1 : Fr inF (sI σ 44 0 0) s1 := f1.mono (by intro c hc; unfold inL at hc; unfold inF; omega)
  refine m_pairs (h1.fr fe1 inF_M).mt hn1 fun s2 f2 => ?_
  have fe2 := fe1.trans (f2.mono (by intro c hc; unfold inF; omega))
  refine forL2 (fun k s v u y => VL_X4_exchange_53 Ret k s x v u y) (fun k s v u => Fr inF (sI σ 44 0 0) s ∧ NowM (sg q) (al q) s ∧ LatM T (sg q) (al q) s ∧ v = (exK (isGv T (sg q) (al q)) (exV T (sg q) (al q)) (exL T (sg q) (al q)) (nCd T (sg q) (al q)) k (-1, prV T (mayN T (sg q) (al q)))).1 ∧ u = nI (exK (isGv T (sg q) (al q)) (exV T (sg q) (al q)) (exL T (sg q) (al q)) (nCd T (sg q) (al q)) k (-1, prV T (mayN T (sg q) (al q)))).2 ∧ (exK (isGv T (sg q) (al q)) (exV T (sg q) (al q)) (exL T (sg q) (al q)) (nCd T (sg q) (al q)) k (-1, prV T (mayN T (sg q) (al q)))).2 ≤ 240) T.nl ?_ ?_ 0 s2 (-1) _ (Nat.zero_le _) ⟨fe2, hn1.fr f2 (by intro c hc; omega), hl1.fr f2 (by intro c hc; omega), rfl, rfl, hpl _⟩
  · rintro n s v u ⟨f, hn, hl, rfl, rfl, -⟩
    have hs := h1.fr f inF_M
    simp only [VL_X4_exchange_53]
    rw [hs.mt.nl]
    have hS : ∀ c, inF c → SM c ∧ c ≠ 1000000 ∧ c ≠ 1000054 := by intro c hc; unfold inF at hc; unfold SM; omega
    refine br_f (nI_nlt (Nat.le_refl _) (by omega)) ⟨fun k => hr.ok rfl hb f hS ?_, fun k => hr.ok rfl hb f hS ?_⟩
    · show _ = ite _ _ _; rw [if_pos k]; rfl
    · show _ = ite _ _ _; rw [if_neg k]; rfl
  · rintro n k s v u hk ⟨f, hn, hl, rfl, rfl, hle⟩ ih
    have hs := h1.fr f inF_M
    simp only [VL_X4_exchange_53]
    simp only [nI1]
    rw [hs.mt.nl]
    generalize hX : exK (isGv T (sg q) (al q)) (exV T (sg q) (al q)) (exL T (sg q) (al q)) (nCd T (sg q) (al q)) k (-1, prV T (mayN T (sg q) (al q))) = X at hle ⊢
    have skip : isGv T (sg q) (al q) k = false → VL_X4_exchange_53 Ret n s x X.1 (nI X.2) (nI (k + 1)) := by
      intro kg
      have e1 : exK (isGv T (sg q) (al q)) (exV T (sg q) (al q)) (exL T (sg q) (al q)) (nCd T (sg q) (al q)) (k + 1) (-1, prV T (mayN T (sg q) (al q))) = X := by
        rw [exK, kg, hX]; rfl
      exact ih s _ _ ⟨f, hn, hl, by rw [e1], by rw [e1], by rw [e1]; exact hle⟩
    refine br_t (nI_lt hk (by omega)) (m_isAllowed hs.mt hn hk (br0 (fun k1 => nm_e (skip (by unfold isGv; rw [k1]; rfl))) fun k1 => m_isSigned hs.mt hn hk (br0 (fun k2 => ?_) fun k2 => nm_e (skip (by unfold isGv; rw [k2]; simp)))))
    have kg : isGv T (sg q) (al q) k = true := by unfold isGv; rw [k1, k2]; rfl
    refine forL2 (fun m s v u y => VL_X4_exchange_86 _ Ret m s x v u (nI k) y) (fun i s v u => Fr inF (sI σ 44 0 0) s ∧ NowM (sg q) (al q) s ∧ LatM T (sg q) (al q) s ∧ v = (exI (exV T (sg q) (al q)) (exL T (sg q) (al q)) k i X).1 ∧ u = nI (exI (exV T (sg q) (al q)) (exL T (sg q) (al q)) k i X).2 ∧ (exI (exV T (sg q) (al q)) (exL T (sg q) (al q)) k i X).2 ≤ 240) (nCd T (sg q) (al q)) ?_ ?_ 0 s _ _ (Nat.zero_le _) ⟨f, hn, hl, rfl, rfl, hle⟩
    · rintro n2 s4 v u ⟨f4, n4, l4, rfl, rfl, b4⟩
      simp only [VL_X4_exchange_86]
      simp only [nI1]
      rw [l4.1]
      have e1 : exK (isGv T (sg q) (al q)) (exV T (sg q) (al q)) (exL T (sg q) (al q)) (nCd T (sg q) (al q)) (k + 1) (-1, prV T (mayN T (sg q) (al q))) = exI (exV T (sg q) (al q)) (exL T (sg q) (al q)) k (nCd T (sg q) (al q)) X := by
        rw [exK, kg, hX]; rfl
      exact br_f (nI_nlt (Nat.le_refl _) (by omega)) (nm_e (ih s4 _ _ ⟨f4, n4, l4, by rw [e1], by rw [e1], by rw [e1]; exact b4⟩))
    · rintro n2 i s4 v u hi ⟨f4, n4, l4, rfl, rfl, b4⟩ ih2
      have c1 := (cdA_is hi).1
      have hs4 := h1.fr f4 inF_M
      simp only [VL_X4_exchange_86]
      simp only [nI1]
      rw [l4.1]
      have g : ∀ {s s' : ZS}, Fr (fun c => c = 565) s s' → Fr inF s s' := fun f => f.mono (by intro c hc; unfold inF; omega)
      refine br_t (nI_lt hi (by omega)) (m_flips hs4.mt n4 hk fun s5 f5 n5 => ⟨vin (by omega) (by decide), ?_⟩)
      have ff5 := f4.trans (g f5)
      have l5 := l4.fr f5 (by intro c hc; omega)
      rw [ix_nI (by omega), l5.2 i hi]
      refine m_flips (h1.fr ff5 inF_M).mt n5 c1 fun s6 f6 n6 => ?_
      have ff6 := ff5.trans (g f6)
      have l6 := l5.fr f6 (by intro c hc; omega)
      refine m_pairs (h1.fr ff6 inF_M).mt n6 fun s7 f7 => ?_
      have ff7 := ff6.trans (f7.mono (by intro c hc; unfold inF; omega))
      have l7 := l6.fr f7 (by intro c hc; omega)
      have n7 := n6.fr f7 (by intro c hc; omega)
      refine m_flips (h1.fr ff7 inF_M).mt n7 hk fun s8 f8 n8 => ⟨vin (by omega) (by decide), ?_⟩
      have ff8 := ff7.trans (g f8)
      have l8 := l7.fr f8 (by intro c hc; omega)
      rw [l8.2 i hi]
      refine m_flips (h1.fr ff8 inF_M).mt n8 c1 fun s9 f9 n9 => ?_
      have ff9 := ff8.trans (g f9)
      have l9 := l8.fr f9 (by intro c hc; omega)
      rw [flip_comm w c1 hk, flip2 w c1, flip2 w hk] at n9
      change (nI _ < nI (exV T (sg q) (al q) k i) → _) ∧ (¬ nI _ < nI (exV T (sg q) (al q) k i) → _)
      have hv := hpl (mayN T (sg q) (exA T (sg q) (al q) k i))
      change exV T (sg q) (al q) k i ≤ 240 at hv
      rw [nI_ltI (by omega) (by omega)]
      refine ⟨fun kl => ⟨vin (by omega) (by decide), nm_e (nm_e (ih2 s9 _ _ ⟨ff9, n9, l9, ?_, ?_, ?_⟩))⟩, fun kl => nm_e (ih2 s9 _ _ ⟨ff9, n9, l9, ?_, ?_, ?_⟩)⟩
      · rw [l9.2 i hi, exI, if_pos kl]; rfl
      · change nI (exV T (sg q) (al q) k i) = _
        rw [exI, if_pos kl]
      · rw [exI, if_pos kl]; exact hv
      · rw [exI, if_neg kl]
      · rw [exI, if_neg kl]
      · rw [exI, if_neg kl]; exact b4
