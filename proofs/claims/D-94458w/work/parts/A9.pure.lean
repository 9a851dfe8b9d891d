/-! PURE HALF: clauses: the class, II. -/
set_option maxRecDepth 100000
theorem RS.e2 {n : Nat} {tx : Nat → Int32} {R : Nat} {d : Ad} {d3 d4 : Nat} {P : PT} {σ σ' : ZS} (h : RS n tx R d d3 d4 P σ) {l e k m j : Nat} {v : Int32} (g : Gw (fun c => c = l ∨ c = e) k m σ σ') (kl : ∃ x, zK σ l = (16, x)) (ke : ∃ x, zK σ e = (6, x)) (hv : zI σ R j = v) : zI σ' R j = v := by
  have oR := h.oR
  rw [g.i R j h.Rl ?_]
  · exact hv
  · have k1 : cd R j = R := by unfold cd; rw [if_neg (by omega), if_neg (by omega)]
    obtain ⟨r1, r2⟩ := h.kr
    rw [k1]
    rintro (k | k)
    · obtain ⟨a1, a2⟩ := kl; rw [k, a2] at r2; cases r2
    · obtain ⟨a1, a2⟩ := ke; rw [k, a2] at r2; cases r2
theorem c_b1 {n : Nat} {tx : Nat → Int32} {R : Nat} {d : Ad} {d3 d4 : Nat} {P : PT} {σ : ZS} {B : Nat} (hB : 1239 ≤ B ∧ B ≤ R) (hs : RS n tx R d d3 d4 P σ) (bd : BD B d P.T.ns) (hBz : B ≤ zt σ) (rm : zt σ + 4 ≤ 160000 ∧ zn σ + 120 ≤ 8000000) {q w : Nat} (hq : q ≤ n) (e2 : zI σ R 2 = nI q) (hc : P.T.ns < 24) {Thr : Nat → ZS → Prop} {Ret : ZS → Prop} (ht : BT B σ (bdy n tx 1 P q) Thr) (hr : BRt n tx R d.tw d3 d4 B σ (bdy n tx 1 P q) Ret) : V_X5_clause_543 Thr Ret σ R w 1 := by
  have hRl := hs.Rl
  have hzb := hs.zb
  have hz := hs.nz
  have hnc := hs.pw.1.nc
  unfold V_X5_clause_543
  refine br_f (by decide) (br_t rfl ⟨hs.k11, c_corner5 hB hs (by omega) hq e2 (fun e he x σ' hx => ht e (by unfold bdy; rw [he]; rfl) x σ' (hx.mono (by omega) (by omega))) fun a q1 h1 => ?_⟩)
  obtain ⟨-, hq1⟩ := numR_pos hq h1
  have hs1 := hs.ps (sk n tx q) q1
  have g1 : Gw (inD B) 0 0 σ (psR σ R (sk n tx q) q1) := psR_gw hB.2 (by omega) hB.1
  refine ⟨hs1.k11, c_corner5 hB hs1 (by show zt σ + 1 ≤ _ ∧ zn σ + 8 ≤ _; omega) hq1 (psR_2 _ _ _ _) (fun e he x' σ' hx => ht e (by unfold bdy; rw [h1]; show pB (numR n tx q1 0 P.T.nc) _ = _; rw [he]; rfl) x' σ' ((EX.tr g1 hx).mono (by omega) (by omega))) fun b q2 h2 => ?_⟩
  obtain ⟨-, hq2⟩ := numR_pos hq1 h2
  rw [psR_ps]
  have hres : bdy n tx 1 P q = if a = b then .inl (2, sk n tx q1) else pB (numR n tx q2 1 100) fun r3 => .inr ((adS P.T a b r3.1, P.sg, P.al, P.cl), r3.2) := by
    unfold bdy; rw [h1]; show pB (numR n tx q1 0 P.T.nc) _ = _; rw [h2]; rfl
  have ha := (numR_ok h1).2
  have hb := (numR_ok h2).2
  have hs2 := hs.ps (sk n tx q1) q2
  have g2 : Gw (inD B) 0 0 σ (psR σ R (sk n tx q1) q2) := psR_gw hB.2 (by omega) hB.1
  have e3 := psR_3 σ R (sk n tx q1) q2
  have e22 := psR_2 σ R (sk n tx q1) q2
  have ztE : zt (psR σ R (sk n tx q1) q2) = zt σ := rfl
  have znE : zn (psR σ R (sk n tx q1) q2) = zn σ := rfl
  generalize psR σ R (sk n tx q1) q2 = s at hs2 g2 e3 e22 ztE znE
  rw [nI_eq (by omega) (by omega)]
  have v729 : ∀ bb : Bool, bb = !decide (a = b) → V_X5_clause_729 Thr Ret s R (nI a) (nI b) (b2i bb) R := by
    intro bb hbb
    unfold V_X5_clause_729
    refine ⟨hs2.k11, ex_good g2 hs2 hB.2 (by omega) e3 (fun h x' σ' hx' => ht (2, sk n tx q1) ?_ x' σ' (hx'.mono (by omega) (by omega))) fun h => ?_⟩
    · rw [h] at hbb; exact hres.trans (if_pos (by simpa using hbb))
    have hab : a ≠ b := by rw [h] at hbb; simpa using hbb
    rw [if_neg hab] at hres
    rw [hs2.r4', zo_in, hs2.P1, zo_in]
    refine ⟨hs2.k11, rfl, hs2.kT, rfl, ⟨by rw [ztE]; exact hz, by rw [ztE]; show _ ≤ 160000; omega, by rw [znE]; show _ ≤ 8000000; omega⟩, nm_e ?_⟩
    have kq : zK (sA s (14, 0) 4) (zt s) = (14, 0) := by rw [qK_sA, if_pos rfl]
    have hs3 := hs2.gw0 (sA_gw _ s (14, 0) 4) (by rw [zt_sA', ztE]; omega)
    have g3 : Gw (inD B) 1 4 σ (sA s (14, 0) 4) := (g2.trans (gwD (sA_gw _ s (14, 0) 4))).mono (fun _ k => k) (by omega) (by omega)
    have zt3 : zt (sA s (14, 0) 4) = zt σ + 1 := by rw [zt_sA', ztE]
    have zn3 : zn (sA s (14, 0) 4) = zn σ + 4 := by rw [zn_sA', znE]
    have e23 : zI (sA s (14, 0) 4) R 2 = nI q2 := by rw [qI_sA, if_neg (by omega)]; exact e22
    obtain ⟨n1, n2, n3⟩ := hs2.nq (q := zt s) (Nat.le_refl _)
    have z30 : ∀ j, zI (sA s (14, 0) 4) (zt s) j = 0 := fun j => by rw [qI_sA, if_pos rfl]
    rw [show (99 : Int32) = nI 100 - 1 from rfl]
    refine ⟨hs3.k11, c_number (lo := 1) hB hs3 (by omega) (by decide) (Nat.le_refl _) hq2 e23 (fun e he x' σ' hx => ht e (by rw [hres, he]; rfl) x' σ' ((EX.tr g3 hx).mono (by omega) (by omega))) fun l q3 h3 => ?_⟩
    obtain ⟨hl1, hl2⟩ := numR_ok h3
    rw [h3] at hres
    change bdy n tx 1 P q = .inr ((adS P.T a b l, P.sg, P.al, P.cl), q3) at hres
    have hs4 := hs3.ps (sk n tx q2) q3
    have g4 : Gw (inD B) 1 4 σ (psR (sA s (14, 0) 4) R (sk n tx q2) q3) := (g3.trans (psR_gw hB.2 (by omega) hB.1)).mono (fun _ k => k) (by omega) (by omega)
    have kq4 : zK (psR (sA s (14, 0) 4) R (sk n tx q2) q3) (zt s) = (14, 0) := kq
    have z40 : ∀ j, zI (psR (sA s (14, 0) 4) R (sk n tx q2) q3) (zt s) j = 0 := fun j => by
      unfold psR; rw [zI_ne _ (.inl (by omega)), zI_ne _ (.inl (by omega))]; exact z30 j
    have e24 := psR_2 (sA s (14, 0) 4) R (sk n tx q2) q3
    have zt4 : zt (psR (sA s (14, 0) 4) R (sk n tx q2) q3) = zt σ + 1 := zt3
    have zn4 : zn (psR (sA s (14, 0) 4) R (sk n tx q2) q3) = zn σ + 4 := zn3
    generalize psR (sA s (14, 0) 4) R (sk n tx q2) q3 = s4 at hs4 g4 kq4 z40 e24 zt4 zn4
    have oq : 1239 ≤ zt s := by rw [ztE]; exact hz
    have hk14 : ∀ t : ZS, t.2.2.2 = s4.2.2.2 → zK t (zt s) = (14, 0) := fun t e => by unfold zK; rw [e]; exact kq4
    have kk : ∀ t : ZS, t.2.2.2 = s4.2.2.2 → ∃ r, kK NS t (zt s) = (14, r) := fun t e => ⟨0, by rw [kK_dyn oq]; exact hk14 t e⟩
    have hs5 := ((hs4.setN (q := zt s) oq (.inr (.inl (by rw [kq4]))) n1 n2 n3 0 (nI a)).setN (q := zt s) oq (.inr (.inl (congrArg Prod.fst kq4))) n1 n2 n3 1 (nI b)).setN (q := zt s) oq (.inr (.inl (congrArg Prod.fst kq4))) n1 n2 n3 2 (nI l)
    unfold wp_X8_init
    refine ⟨kk _ rfl, nm_e ⟨kk _ rfl, nm_e ⟨kk _ rfl, nm_e ⟨hs5.lsT.kl, ?_⟩⟩⟩⟩
    have g5 : Gw (inD B) 1 4 σ (sI (sI (sI s4 (zt s) 0 (nI a)) (zt s) 1 (nI b)) (zt s) 2 (nI l)) := (((g4.trans (gw_sI (by omega) (by omega) hB.1)).trans (gw_sI (by omega) (by omega) hB.1)).trans (gw_sI (by omega) (by omega) hB.1)).mono (fun _ k => k) (by omega) (by omega)
    have q0 : zI (sI (sI (sI s4 (zt s) 0 (nI a)) (zt s) 1 (nI b)) (zt s) 2 (nI l)) (zt s) 0 = nI a := by rw [zI_ne _ (.inr (by decide)), zI_ne _ (.inr (by decide)), zI_self]
    have q1' : zI (sI (sI (sI s4 (zt s) 0 (nI a)) (zt s) 1 (nI b)) (zt s) 2 (nI l)) (zt s) 1 = nI b := by rw [zI_ne _ (.inr (by decide)), zI_self]
    have q2' : zI (sI (sI (sI s4 (zt s) 0 (nI a)) (zt s) 1 (nI b)) (zt s) 2 (nI l)) (zt s) 2 = nI l := zI_self _ _ _ _
    have q3' : zI (sI (sI (sI s4 (zt s) 0 (nI a)) (zt s) 1 (nI b)) (zt s) 2 (nI l)) (zt s) 3 = 0 := by rw [zI_ne _ (.inr (by decide)), zI_ne _ (.inr (by decide)), zI_ne _ (.inr (by decide))]; exact z40 3
    have eR : zI (sI (sI (sI s4 (zt s) 0 (nI a)) (zt s) 1 (nI b)) (zt s) 2 (nI l)) R 2 = nI q3 := by rw [zI_ne _ (.inl (by omega)), zI_ne _ (.inl (by omega)), zI_ne _ (.inl (by omega))]; exact e24
    have kq5 : zK (sI (sI (sI s4 (zt s) 0 (nI a)) (zt s) 1 (nI b)) (zt s) 2 (nI l)) (zt s) = (14, 0) := kq4
    have zt5 : zt (sI (sI (sI s4 (zt s) 0 (nI a)) (zt s) 1 (nI b)) (zt s) 2 (nI l)) = zt σ + 1 := zt4
    have zn5 : zn (sI (sI (sI s4 (zt s) 0 (nI a)) (zt s) 1 (nI b)) (zt s) 2 (nI l)) = zn σ + 4 := zn4
    generalize sI (sI (sI s4 (zt s) 0 (nI a)) (zt s) 1 (nI b)) (zt s) 2 (nI l) = s5 at hs5 g5 q0 q1' q2' q3' eR kq5 zt5 zn5
    obtain ⟨b0, b1, b2, b3, b4, b5, b6, b7⟩ := bd
    have lL : d.ls < zt s5 := by obtain ⟨a1, a2⟩ := hs5.ls.2.2.1; exact hs5.lt (by rw [a2]; simp)
    have lE : d.es < zt s5 := by obtain ⟨a1, a2, -⟩ := hs5.ls.2.2.2.2.2.1; exact hs5.lt (by rw [a2]; simp)
    refine c_add hs5.ls (by omega) hs5.le.2.1 (.inr (.inl rfl)) hs5.fr (by omega) (by omega) ⟨0, kq5⟩ (by omega) fun s6 e' he g6 hl => ?_
    have g6D := gw_in g6 b3 b4 (by omega) (by omega)
    have := g6.t2
    refine hr _ _ hres s6 (Ad.mk d.tw d.lc d.ec d.co d.ls e' (up d.so P.T.ns (zt s)) d.lr d.er d.ro d.lf d.lt) (hs5.adS g6 he hl kq5 q0 q1' q2' q3' n2 (by omega) ⟨WF_adS hs.pw.1 hs.pw.2 hc ha hb hab hl1 hl2, hs.pw.2⟩) ?_ rfl ⟨b0, b1, b2, b3, ?_, b5, b6, fun i hi => ?_⟩ ((g5.trans g6D).mono (fun _ k => k) (by omega) (by omega))
    · obtain ⟨x1, x2, -⟩ := hs5.ls.2.2.2.2.2.1
      exact hs5.e2 g6 hs5.ls.2.2.1 ⟨x1, x2⟩ eR
    · show B ≤ e'; rcases he with k | k <;> omega
    · have hi : i < P.T.ns + 1 := hi
      show B ≤ up d.so P.T.ns (zt s) i
      by_cases e : i = P.T.ns
      · rw [e, up_self]; omega
      · rw [up_ne _ _ e]; exact b7 i (by omega)
  refine ⟨fun e => v729 false (by simp [e]), fun e => v729 true (by simp [e])⟩
theorem c_b2 {n : Nat} {tx : Nat → Int32} {R : Nat} {d : Ad} {d3 d4 : Nat} {P : PT} {σ : ZS} {B : Nat} (hB : 1239 ≤ B ∧ B ≤ R) (hs : RS n tx R d d3 d4 P σ) (bd : BD B d P.T.ns) (rm : zt σ + 4 ≤ 160000 ∧ zn σ + 120 ≤ 8000000) {q w : Nat} (hq : q ≤ n) (e2 : zI σ R 2 = nI q) {Thr : Nat → ZS → Prop} {Ret : ZS → Prop} (ht : BT B σ (bdy n tx 2 P q) Thr) (hr : BRt n tx R d.tw d3 d4 B σ (bdy n tx 2 P q) Ret) : V_X5_clause_543 Thr Ret σ R w 2 := by
  have hRl := hs.Rl
  have hzb := hs.zb
  have oR := hs.oR
  unfold V_X5_clause_543
  refine br_f (by decide) (br_f (by decide) (br_t rfl ⟨hs.k11, ?_⟩))
  rw [hs.r4', zo_in, hs.P1, zo_in]
  refine ⟨rfl, hs.kT, rfl, hs.k11, c_street5 hB hs (by omega) hq e2 (fun e he x σ' hx => ht e (by unfold bdy; rw [he]; rfl) x σ' (hx.mono (by omega) (by omega))) fun s q1 h1 => ?_⟩
  have hss := (numR_ok h1).2
  have hs1 := hs.ps (sk n tx q) q1
  have g1 : Gw (inD B) 0 0 σ (psR σ R (sk n tx q) q1) := psR_gw hB.2 (by omega) hB.1
  have k14 := (hs1.lsT.pi s hss).2.2
  refine ⟨hs1.lsT.kl, j_get hs1.lsT hss ⟨rfl, k14, k14, nm_e ?_⟩⟩
  rw [zo_in]
  obtain ⟨-, oa, ma, ka⟩ := hs1.ls.2.2.2.2.2.2 s hss
  have la := hs1.lt (a := d.so s) (by rw [ka]; simp)
  have la : d.so s < zt σ := la
  refine hr (stO P.T s, P.sg, P.al, P.cl) q1 (by unfold bdy; rw [h1]; rfl) _ d (hs1.stO hss ⟨WF_stO hs.pw.1 s, hs.pw.2⟩) ?_ rfl bd ((g1.trans (gw_sI (bd.2.2.2.2.2.2.2 s hss) (by omega) hB.1)).mono (fun _ k => k) (by omega) (by omega))
  rw [zI_ne _ (.inr (by decide))]; exact psR_2 _ _ _ _
theorem c_b5 {n : Nat} {tx : Nat → Int32} {R : Nat} {d : Ad} {d3 d4 : Nat} {P : PT} {σ : ZS} {B : Nat} (hB : 1239 ≤ B ∧ B ≤ R) (hs : RS n tx R d d3 d4 P σ) (bd : BD B d P.T.ns) (rm : zt σ + 4 ≤ 160000 ∧ zn σ + 120 ≤ 8000000) {q w : Nat} (hq : q ≤ n) (e2 : zI σ R 2 = nI q) (hc : cnt (btI P.T.bx) 24 ≠ 10) {Thr : Nat → ZS → Prop} {Ret : ZS → Prop} (ht : BT B σ (bdy n tx 5 P q) Thr) (hr : BRt n tx R d.tw d3 d4 B σ (bdy n tx 5 P q) Ret) : V_X5_clause_543 Thr Ret σ R w 5 := by
  have hRl := hs.Rl
  have hzb := hs.zb
  obtain ⟨mt, kt⟩ := hs.kt
  obtain ⟨mr, kr⟩ := hs.kr
  have lt : d.tw < zt σ := hs.lt (by rw [kt]; simp)
  have hRt : R ≠ d.tw := by rintro e; rw [e, kt] at kr; cases kr
  unfold V_X5_clause_543
  refine br_f (by decide) (br_f (by decide) (br_f (by decide) (br_f (by decide) (br_f (by decide) (br_t rfl ⟨hs.k11, ?_⟩)))))
  rw [hs.r4', zo_in]
  refine ⟨rfl, hs.kT, hs.k11, c_corner5 hB hs (by omega) hq e2 (fun e he x σ' hx => ht e (by unfold bdy; rw [he]; rfl) x σ' (hx.mono (by omega) (by omega))) fun c q1 h1 => ?_⟩
  have hcc := (numR_ok h1).2
  have hs1 := hs.ps (sk n tx q) q1
  have g1 : Gw (inD B) 0 0 σ (psR σ R (sk n tx q) q1) := psR_gw hB.2 (by omega) hB.1
  refine ⟨hs1.kT, nm_e ?_⟩
  rw [hs.bx]
  refine hr (stB P.T c, P.sg, P.al, P.cl) q1 (by unfold bdy; rw [h1]; rfl) _ d (hs1.stB ⟨WF_stB hs.pw.1 hcc hc, hs.pw.2⟩) ?_ rfl bd ((g1.trans (gw_sI bd.1.1 (by omega) hB.1)).mono (fun _ k => k) (by omega) (by omega))
  rw [zI_ne _ (.inl hRt)]; exact psR_2 _ _ _ _
