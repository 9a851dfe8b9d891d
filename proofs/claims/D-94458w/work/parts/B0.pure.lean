/-! PURE HALF: clauses: the class, III. -/
set_option maxRecDepth 100000
theorem c_b6 {n : Nat} {tx : Nat → Int32} {R : Nat} {d : Ad} {d3 d4 : Nat} {P : PT} {σ : ZS} {B : Nat} (hB : 1239 ≤ B ∧ B ≤ R) (hs : RS n tx R d d3 d4 P σ) (bd : BD B d P.T.ns) (hBz : B ≤ zt σ) (rm : zt σ + 4 ≤ 160000 ∧ zn σ + 120 ≤ 8000000) {q w : Nat} (hq : q ≤ n) (e2 : zI σ R 2 = nI q) (hc : P.T.nr < 12) {Thr : Nat → ZS → Prop} {Ret : ZS → Prop} (ht : BT B σ (bdy n tx 6 P q) Thr) (hr : BRt n tx R d.tw d3 d4 B σ (bdy n tx 6 P q) Ret) : V_X5_clause_543 Thr Ret σ R w (-1) := by
  have hRl := hs.Rl
  have hzb := hs.zb
  have hz := hs.nz
  have hnc := hs.pw.1.nc
  unfold V_X5_clause_543
  refine br_f (by decide) (br_f (by decide) (br_f (by decide) (br_f (by decide) (br_f (by decide) (br_f (by decide) ⟨hs.k11, c_corner5 hB hs (by omega) hq e2 (fun e he x σ' hx => ht e (by unfold bdy; rw [he]; rfl) x σ' (hx.mono (by omega) (by omega))) fun a q1 h1 => ?_⟩)))))
  obtain ⟨-, hq1⟩ := numR_pos hq h1
  have hs1 := hs.ps (sk n tx q) q1
  have g1 : Gw (inD B) 0 0 σ (psR σ R (sk n tx q) q1) := psR_gw hB.2 (by omega) hB.1
  refine ⟨hs1.k11, c_corner5 hB hs1 (by show zt σ + 1 ≤ _ ∧ zn σ + 8 ≤ _; omega) hq1 (psR_2 _ _ _ _) (fun e he x' σ' hx => ht e (by unfold bdy; rw [h1]; show pB (numR n tx q1 0 P.T.nc) _ = _; rw [he]; rfl) x' σ' ((EX.tr g1 hx).mono (by omega) (by omega))) fun b q2 h2 => ?_⟩
  obtain ⟨-, hq2⟩ := numR_pos hq1 h2
  rw [psR_ps]
  have hres : bdy n tx 6 P q = if a = b then .inl (2, sk n tx q1) else pB (numR n tx q2 0 100) fun r3 => .inr ((adR P.T a b r3.1, P.sg, P.al, P.cl), r3.2) := by
    unfold bdy; rw [h1]; show pB (numR n tx q1 0 P.T.nc) _ = _; rw [h2]; rfl
  have ha := (numR_ok h1).2
  have hb := (numR_ok h2).2
  have hs2 := hs.ps (sk n tx q1) q2
  have g2 : Gw (inD B) 0 0 σ (psR σ R (sk n tx q1) q2) := psR_gw hB.2 (by omega) hB.1
  have e3 := psR_3 σ R (sk n tx q1) q2
  have e22 := psR_2 σ R (sk n tx q1) q2
  have ztE : zt (psR σ R (sk n tx q1) q2) = zt σ := rfl
  have znE : zn (psR σ R (sk n tx q1) q2) = zn σ := rfl
  generalize psR σ R (sk n tx q1) q2 = s at hs2 g2 e3 e22 ztE znE
  rw [nI_eq (by omega) (by omega)]
  have v943 : ∀ bb : Bool, bb = !decide (a = b) → V_X5_clause_943 Thr Ret s R (nI a) (nI b) (b2i bb) R := by
    intro bb hbb
    unfold V_X5_clause_943
    refine ⟨hs2.k11, ex_good g2 hs2 hB.2 (by omega) e3 (fun h x' σ' hx' => ht (2, sk n tx q1) ?_ x' σ' (hx'.mono (by omega) (by omega))) fun h => ?_⟩
    · rw [h] at hbb; exact hres.trans (if_pos (by simpa using hbb))
    have hab : a ≠ b := by rw [h] at hbb; simpa using hbb
    rw [if_neg hab] at hres
    rw [hs2.r4', zo_in, hs2.P2, zo_in]
    refine ⟨hs2.k11, rfl, hs2.kT, rfl, ⟨by rw [ztE]; exact hz, by rw [ztE]; show _ ≤ 160000; omega, by rw [znE]; show _ ≤ 8000000; omega⟩, nm_e ?_⟩
    have kq : zK (sA s (15, 0) 3) (zt s) = (15, 0) := by rw [qK_sA, if_pos rfl]
    have hs3 := hs2.gw0 (sA_gw _ s (15, 0) 3) (by rw [zt_sA', ztE]; omega)
    have g3 : Gw (inD B) 1 3 σ (sA s (15, 0) 3) := (g2.trans (gwD (sA_gw _ s (15, 0) 3))).mono (fun _ k => k) (by omega) (by omega)
    have zt3 : zt (sA s (15, 0) 3) = zt σ + 1 := by rw [zt_sA', ztE]
    have zn3 : zn (sA s (15, 0) 3) = zn σ + 3 := by rw [zn_sA', znE]
    have e23 : zI (sA s (15, 0) 3) R 2 = nI q2 := by rw [qI_sA, if_neg (by omega)]; exact e22
    obtain ⟨n1, n2, n3⟩ := hs2.nq (q := zt s) (Nat.le_refl _)
    rw [show (99 : Int32) = nI 100 - 1 from rfl]
    refine ⟨hs3.k11, c_number (lo := 0) hB hs3 (by omega) (by decide) (Nat.le_refl _) hq2 e23 (fun e he x' σ' hx => ht e (by rw [hres, he]; rfl) x' σ' ((EX.tr g3 hx).mono (by omega) (by omega))) fun l q3 h3 => ?_⟩
    obtain ⟨hl1, hl2⟩ := numR_ok h3
    rw [h3] at hres
    change bdy n tx 6 P q = .inr ((adR P.T a b l, P.sg, P.al, P.cl), q3) at hres
    have hs4 := hs3.ps (sk n tx q2) q3
    have g4 : Gw (inD B) 1 3 σ (psR (sA s (15, 0) 3) R (sk n tx q2) q3) := (g3.trans (psR_gw hB.2 (by omega) hB.1)).mono (fun _ k => k) (by omega) (by omega)
    have kq4 : zK (psR (sA s (15, 0) 3) R (sk n tx q2) q3) (zt s) = (15, 0) := kq
    have e24 := psR_2 (sA s (15, 0) 3) R (sk n tx q2) q3
    have zt4 : zt (psR (sA s (15, 0) 3) R (sk n tx q2) q3) = zt σ + 1 := zt3
    have zn4 : zn (psR (sA s (15, 0) 3) R (sk n tx q2) q3) = zn σ + 3 := zn3
    generalize psR (sA s (15, 0) 3) R (sk n tx q2) q3 = s4 at hs4 g4 kq4 e24 zt4 zn4
    have oq : 1239 ≤ zt s := by rw [ztE]; exact hz
    have hk14 : ∀ t : ZS, t.2.2.2 = s4.2.2.2 → zK t (zt s) = (15, 0) := fun t e => by unfold zK; rw [e]; exact kq4
    have kk : ∀ t : ZS, t.2.2.2 = s4.2.2.2 → ∃ r, kK NS t (zt s) = (15, r) := fun t e => ⟨0, by rw [kK_dyn oq]; exact hk14 t e⟩
    have hs5 := ((hs4.setN (q := zt s) oq (.inr (.inr (by rw [kq4]))) n1 n2 n3 0 (nI a)).setN (q := zt s) oq (.inr (.inr (congrArg Prod.fst kq4))) n1 n2 n3 1 (nI b)).setN (q := zt s) oq (.inr (.inr (congrArg Prod.fst kq4))) n1 n2 n3 2 (nI l)
    unfold wp_X9_init
    refine ⟨kk _ rfl, nm_e ⟨kk _ rfl, nm_e ⟨kk _ rfl, nm_e ⟨hs5.lrT.kl, ?_⟩⟩⟩⟩
    have g5 : Gw (inD B) 1 3 σ (sI (sI (sI s4 (zt s) 0 (nI a)) (zt s) 1 (nI b)) (zt s) 2 (nI l)) := (((g4.trans (gw_sI (by omega) (by omega) hB.1)).trans (gw_sI (by omega) (by omega) hB.1)).trans (gw_sI (by omega) (by omega) hB.1)).mono (fun _ k => k) (by omega) (by omega)
    have q0 : zI (sI (sI (sI s4 (zt s) 0 (nI a)) (zt s) 1 (nI b)) (zt s) 2 (nI l)) (zt s) 0 = nI a := by rw [zI_ne _ (.inr (by decide)), zI_ne _ (.inr (by decide)), zI_self]
    have q1' : zI (sI (sI (sI s4 (zt s) 0 (nI a)) (zt s) 1 (nI b)) (zt s) 2 (nI l)) (zt s) 1 = nI b := by rw [zI_ne _ (.inr (by decide)), zI_self]
    have q2' : zI (sI (sI (sI s4 (zt s) 0 (nI a)) (zt s) 1 (nI b)) (zt s) 2 (nI l)) (zt s) 2 = nI l := zI_self _ _ _ _
    have eR : zI (sI (sI (sI s4 (zt s) 0 (nI a)) (zt s) 1 (nI b)) (zt s) 2 (nI l)) R 2 = nI q3 := by rw [zI_ne _ (.inl (by omega)), zI_ne _ (.inl (by omega)), zI_ne _ (.inl (by omega))]; exact e24
    have kq5 : zK (sI (sI (sI s4 (zt s) 0 (nI a)) (zt s) 1 (nI b)) (zt s) 2 (nI l)) (zt s) = (15, 0) := kq4
    have zt5 : zt (sI (sI (sI s4 (zt s) 0 (nI a)) (zt s) 1 (nI b)) (zt s) 2 (nI l)) = zt σ + 1 := zt4
    have zn5 : zn (sI (sI (sI s4 (zt s) 0 (nI a)) (zt s) 1 (nI b)) (zt s) 2 (nI l)) = zn σ + 3 := zn4
    generalize sI (sI (sI s4 (zt s) 0 (nI a)) (zt s) 1 (nI b)) (zt s) 2 (nI l) = s5 at hs5 g5 q0 q1' q2' eR kq5 zt5 zn5
    obtain ⟨b0, b1, b2, b3, b4, b5, b6, b7⟩ := bd
    have lL : d.lr < zt s5 := by obtain ⟨a1, a2⟩ := hs5.lr.2.2.1; exact hs5.lt (by rw [a2]; simp)
    have lE : d.er < zt s5 := by obtain ⟨a1, a2, -⟩ := hs5.lr.2.2.2.2.2.1; exact hs5.lt (by rw [a2]; simp)
    refine c_add hs5.lr (by omega) hs5.le.2.2 (.inr (.inr rfl)) hs5.fr (by omega) (by omega) ⟨0, kq5⟩ (by omega) fun s6 e' he g6 hl => ?_
    have g6D := gw_in g6 b5 b6 (by omega) (by omega)
    have := g6.t2
    refine hr _ _ hres s6 (Ad.mk d.tw d.lc d.ec d.co d.ls d.es d.so d.lr e' (up d.ro P.T.nr (zt s)) d.lf d.lt) (hs5.adR g6 he hl kq5 q0 q1' q2' (by omega) ⟨WF_adR hs.pw.1 hc ha hb hab hl2, hs.pw.2⟩) ?_ rfl ⟨b0, b1, b2, b3, b4, b5, ?_, b7⟩ ((g5.trans g6D).mono (fun _ k => k) (by omega) (by omega))
    · obtain ⟨x1, x2, -⟩ := hs5.lr.2.2.2.2.2.1
      exact hs5.e2 g6 hs5.lr.2.2.1 ⟨x1, x2⟩ eR
    · show B ≤ e'; rcases he with k | k <;> omega
  refine ⟨fun e => v943 false (by simp [e]), fun e => v943 true (by simp [e])⟩
theorem c_meets5 {n : Nat} {tx : Nat → Int32} {R : Nat} {d : Ad} {d3 d4 : Nat} {P : PT} {σ : ZS} (h : RS n tx R d d3 d4 P σ) {s o : Nat} (hs : s < P.T.ns) (ho : o < P.T.ns) {Ret : Int32 → ZS → Prop} (hr : Ret (b2i (meT P.T s o)) σ) : wp_X8_meets σ (d.so s) (d.so o) Ret := by
  have w := h.pw.1
  have hnc := w.nc
  have f1 := w.sf s hs; have f2 := w.sf o ho; have t1 := w.st s hs; have t2 := w.st o ho
  have k1 := (h.lsT.pi s hs).2.2
  have k2 := (h.lsT.pi o ho).2.2
  unfold wp_X8_meets
  rw [h.sf s hs, h.sf o ho, h.st s hs, h.st o ho, nI_eq (by omega) (by omega), nI_eq (by omega) (by omega), nI_eq (by omega) (by omega), nI_eq (by omega) (by omega)]
  unfold meT at hr
  refine ⟨k1, k2, fun a => ?_, fun a => ⟨k1, k2, fun b => ?_, fun b => ⟨k1, k2, fun c => ?_, fun c => ⟨k1, k2, fun e => ?_, fun e => ?_⟩⟩⟩⟩
  · simpa [a, b2i] using hr
  · simpa [a, b, b2i] using hr
  · simpa [a, b, c, b2i] using hr
  · simpa [a, b, c, e, b2i] using hr
  · simpa [a, b, c, e, b2i] using hr
theorem STR.ps {n : Nat} {tx : Nat → Int32} {R : Nat} {d : Ad} {d3 d4 : Nat} {P : PT} {σ : ZS} (h : RS n tx R d d3 d4 P σ) {w v L : Nat} {f : Nat → Nat} (hw : STR σ w v L f) (p q : Nat) : STR (psR σ R p q) w v L f := by
  obtain ⟨mr, kr⟩ := h.kr
  obtain ⟨x, kw⟩ := hw.2.2.2.1
  have nw : w ≠ R := by rintro e; rw [e, kr] at kw; cases kw
  have nv : v ≠ R := by rintro e; have := hw.2.2.2.2.2.1; rw [e, kr] at this; cases this
  refine hw.ag (fun i => ?_) (fun i => ?_) rfl rfl rfl
  · unfold psR; rw [zI_ne _ (.inl nw), zI_ne _ (.inl nw)]
  · unfold psR; rw [zI_ne _ (.inl nv), zI_ne _ (.inl nv)]
theorem c_b34 {n : Nat} {tx : Nat → Int32} {R : Nat} {d : Ad} {d3 d4 : Nat} {P : PT} {σ : ZS} {B : Nat} (hB : 1239 ≤ B ∧ B ≤ R) (hs : RS n tx R d d3 d4 P σ) (bd : BD B d P.T.ns) (h3B : B ≤ d3 ∧ B ≤ d4) (rm : zt σ + 4 ≤ 160000 ∧ zn σ + 120 ≤ 8000000) {q w v L : Nat} {f : Nat → Nat} (hw : STR σ w v L f) (hq : q ≤ n) (e2 : zI σ R 2 = nI q) {κ : Nat} (hκ : (κ = 3 ∧ eqS f L l_no = true) ∨ (κ = 4 ∧ eqS f L l_no = false)) {Thr : Nat → ZS → Prop} {Ret : ZS → Prop} (ht : BT B σ (bdy n tx κ P q) Thr) (hr : BRt n tx R d.tw d3 d4 B σ (bdy n tx κ P q) Ret) : V_X5_clause_788 Thr Ret σ R w := by
  have hRl := hs.Rl
  have hzb := hs.zb
  have hz := hs.nz
  have hns := hs.pw.1.ns
  have hbd : ∀ a q1 b q2, numR n tx q 0 P.T.ns = .inr (a, q1) → numR n tx q1 0 P.T.ns = .inr (b, q2) → bdy n tx κ P q = if a = b ∨ meT P.T a b = false then .inl (2, sk n tx q1) else .inr ((P.T, if κ = 3 then orB P.sg a b else P.sg, if κ = 3 then P.al else orB P.al a b, P.cl), q2) := fun a q1 b q2 h1 h2 => by
    rcases hκ with ⟨rfl, -⟩ | ⟨rfl, -⟩
    · unfold bdy; rw [h1]; show pB (numR n tx q1 0 P.T.ns) _ = _; rw [h2]; rfl
    · unfold bdy; rw [h1]; show pB (numR n tx q1 0 P.T.ns) _ = _; rw [h2]; rfl
  have hb1 : ∀ e, numR n tx q 0 P.T.ns = .inl e → bdy n tx κ P q = .inl e := fun e h => by
    rcases hκ with ⟨rfl, -⟩ | ⟨rfl, -⟩ <;> (unfold bdy; rw [h]; rfl)
  have hb2 : ∀ a q1 e, numR n tx q 0 P.T.ns = .inr (a, q1) → numR n tx q1 0 P.T.ns = .inl e → bdy n tx κ P q = .inl e := fun a q1 e h1 h => by
    rcases hκ with ⟨rfl, -⟩ | ⟨rfl, -⟩ <;> (unfold bdy; rw [h1]; show pB (numR n tx q1 0 P.T.ns) _ = _; rw [h]; rfl)
  unfold V_X5_clause_788
  refine ⟨hs.k11, c_street5 hB hs (by omega) hq e2 (fun e he x σ' hx => ht e (hb1 e he) x σ' (hx.mono (by omega) (by omega))) fun a q1 h1 => ?_⟩
  obtain ⟨-, hq1⟩ := numR_pos hq h1
  have hs1 := hs.ps (sk n tx q) q1
  have g1 : Gw (inD B) 0 0 σ (psR σ R (sk n tx q) q1) := psR_gw hB.2 (by omega) hB.1
  refine ⟨hs1.k11, c_street5 hB hs1 (by show zt σ + 1 ≤ _ ∧ zn σ + 8 ≤ _; omega) hq1 (psR_2 _ _ _ _) (fun e he x' σ' hx => ht e (hb2 a q1 e h1 he) x' σ' ((EX.tr g1 hx).mono (by omega) (by omega))) fun b q2 h2 => ?_⟩
  obtain ⟨-, hq2⟩ := numR_pos hq1 h2
  rw [psR_ps]
  have hres := hbd a q1 b q2 h1 h2
  have ha := (numR_ok h1).2
  have hb := (numR_ok h2).2
  have hs2 := hs.ps (sk n tx q1) q2
  have hw2 := STR.ps hs hw (sk n tx q1) q2
  have g2 : Gw (inD B) 0 0 σ (psR σ R (sk n tx q1) q2) := psR_gw hB.2 (by omega) hB.1
  have e3 := psR_3 σ R (sk n tx q1) q2
  have e22 := psR_2 σ R (sk n tx q1) q2
  have ztE : zt (psR σ R (sk n tx q1) q2) = zt σ := rfl
  have znE : zn (psR σ R (sk n tx q1) q2) = zn σ := rfl
  generalize psR σ R (sk n tx q1) q2 = s at hs2 g2 e3 e22 ztE znE hw2
  obtain ⟨mr, kr⟩ := hs2.kr
  have v849 : ∀ bb : Bool, bb = (!decide (a = b) && meT P.T a b) → V_X5_clause_849 Thr Ret s R w (nI a) (nI b) (b2i bb) R := by
    intro bb hbb
    unfold V_X5_clause_849
    refine ⟨hs2.k11, ex_good g2 hs2 hB.2 (by omega) e3 (fun h x' σ' hx' => ht (2, sk n tx q1) ?_ x' σ' (hx'.mono (by omega) (by omega))) fun h => ⟨hw2.k, c_equals hw2 l_no (by decide) ?_⟩⟩
    · rw [h] at hbb; refine hres.trans (if_pos ?_)
      by_cases e : a = b
      · exact .inl e
      · refine .inr ?_
        cases k : meT P.T a b
        · rfl
        · rw [k] at hbb; simp [e] at hbb
    rw [if_neg (by rw [h] at hbb; intro hc; rcases hc with hc | hc <;> simp [hc] at hbb)] at hres
    rw [hs2.r4', zo_in, hs2.P3, hs2.P4, zo_in, zo_in]
    rcases hκ with ⟨rfl, hno⟩ | ⟨rfl, hno⟩
    · rw [hno]
      have k3 : kK NS s d3 = (0, 24) := by rw [kK_dyn hs2.o3]; exact hs2.k3
      have l3 : d3 < zt s := hs2.lt (by rw [hs2.k3]; simp)
      refine br_f (by decide) ⟨hs2.k11, rfl, hs2.kT, rfl, 24, k3, vin (by omega) (by decide), 24, k3, vin (by omega) (by decide), nm_e ?_⟩
      rw [ix_nI (by omega), hs2.sg a (by omega)]
      refine hr _ _ hres _ d (hs2.orS hs.pw) ?_ rfl bd ((g2.trans (gw_sI h3B.1 (by omega) hB.1)).mono (fun _ k => k) (by omega) (by omega))
      rw [zI_ne _ (.inl (by rintro e; rw [e, hs2.k3] at kr; cases kr))]; exact e22
    · rw [hno]
      have k4 : kK NS s d4 = (0, 24) := by rw [kK_dyn hs2.o4]; exact hs2.k4
      have l4 : d4 < zt s := hs2.lt (by rw [hs2.k4]; simp)
      refine br_t rfl ⟨hs2.k11, rfl, hs2.kT, rfl, 24, k4, vin (by omega) (by decide), 24, k4, vin (by omega) (by decide), nm_e ?_⟩
      rw [ix_nI (by omega), hs2.al a (by omega)]
      refine hr _ _ hres _ d (hs2.orA hs.pw) ?_ rfl bd ((g2.trans (gw_sI h3B.2 (by omega) hB.1)).mono (fun _ k => k) (by omega) (by omega))
      rw [zI_ne _ (.inl (by rintro e; rw [e, hs2.k4] at kr; cases kr))]; exact e22
  rw [nI_eq (by omega) (by omega)]
  refine ⟨fun e => ?_, fun e => ⟨hs2.k11, ?_⟩⟩
  · unfold V_X5_clause_848; exact v849 false (by simp [e])
  rw [hs2.r4', zo_in, hs2.P1, zo_in]
  refine ⟨rfl, hs2.kT, rfl, hs2.lsT.kl, j_get hs2.lsT ha ⟨rfl, (hs2.lsT.pi a ha).2.2, hs2.k11, ?_⟩⟩
  rw [hs2.r4', zo_in, hs2.P1, zo_in]
  refine ⟨rfl, hs2.kT, rfl, hs2.lsT.kl, j_get hs2.lsT hb ⟨rfl, (hs2.lsT.pi b hb).2.2, (hs2.lsT.pi a ha).2.2, ?_⟩⟩
  rw [zo_in, zo_in]
  refine c_meets5 hs2 ha hb (br0 (fun k => ?_) fun k => ?_)
  · unfold V_X5_clause_848; exact v849 false (by simp [k])
  · exact v849 true (by simp [e, k])
