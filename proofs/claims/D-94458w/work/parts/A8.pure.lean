/-! PURE HALF: clauses: the class. -/
set_option maxRecDepth 100000
theorem RS.setN {n : Nat} {tx : Nat → Int32} {R : Nat} {d : Ad} {d3 d4 : Nat} {P : PT} {σ : ZS} (h : RS n tx R d d3 d4 P σ) {q : Nat} (oq : 1239 ≤ q) (kq : (zK σ q).1 = 13 ∨ (zK σ q).1 = 14 ∨ (zK σ q).1 = 15) (hc : ∀ i, i < P.T.nc → d.co i ≠ q) (hs : ∀ i, i < P.T.ns → d.so i ≠ q) (hr : ∀ i, i < P.T.nr → d.ro i ≠ q) (j : Nat) (x : Int32) : RS n tx R d d3 d4 P (sI σ q j x) := by
  obtain ⟨mr, kr⟩ := h.kr
  obtain ⟨mt, kt⟩ := h.kt
  have ne : ∀ b, (zK σ b).1 ≠ 13 → (zK σ b).1 ≠ 14 → (zK σ b).1 ≠ 15 → ∀ i, zI (sI σ q j x) b i = zI σ b i := fun b h1 h2 h3 i => zI_ne _ (.inl (by rintro rfl; omega))
  have lsq : ∀ {l e m ki : Nat} {ad : Nat → Nat}, LS2 σ l e m ki ad → LS2 (sI σ q j x) l e m ki ad := by
    rintro l e m ki ad ⟨h1, h2, ⟨m1, h3⟩, h4, h5⟩
    exact ⟨h1, h2, ⟨m1, h3⟩, by rw [ne l (by rw [h3]; simp) (by rw [h3]; simp) (by rw [h3]; simp)]; exact h4, h5⟩
  have vt := ne d.tw (by rw [kt]; simp) (by rw [kt]; simp) (by rw [kt]; simp)
  have v3 := ne d3 (by rw [h.k3]; simp) (by rw [h.k3]; simp) (by rw [h.k3]; simp)
  have v4 := ne d4 (by rw [h.k4]; simp) (by rw [h.k4]; simp) (by rw [h.k4]; simp)
  exact ⟨h.fr, h.nz, h.zb, h.oR, h.kr, h.r0, h.r4, by rw [ne R (by rw [kr]; simp) (by rw [kr]; simp) (by rw [kr]; simp)]; exact h.r1, h.hn, fun i hi => by rw [zI_ne _ (.inl (by omega))]; exact h.tp i hi, h.by, h.pw, h.ot, h.kt,
    h.p0, h.p1, h.p2, h.p3, h.p4, h.p5, h.p6, h.o3, h.o4, h.o5, h.o6, h.k3, h.k4, h.k5, h.k6, h.n34, h.n56, lsq h.lc, lsq h.ls, lsq h.lr, h.ncs, h.ncr, h.nsr, h.ecs, h.ecr, h.esr, h.si,
    by rw [vt]; exact h.bx, by rw [vt]; exact h.nl, by rw [vt]; exact h.cl, fun s hs => by rw [v3]; exact h.sg s hs, fun s hs => by rw [v4]; exact h.al s hs,
    fun i hi => by rw [zI_ne _ (.inl (hc i hi))]; exact h.cx i hi, fun i hi => by rw [zI_ne _ (.inl (hc i hi))]; exact h.cy i hi, fun i hi => by rw [zI_ne _ (.inl (hs i hi))]; exact h.sf i hi, fun i hi => by rw [zI_ne _ (.inl (hs i hi))]; exact h.st i hi, fun i hi => by rw [zI_ne _ (.inl (hs i hi))]; exact h.sl i hi, fun i hi => by rw [zI_ne _ (.inl (hs i hi))]; exact h.so i hi,
    fun i hi => by rw [zI_ne _ (.inl (hr i hi))]; exact h.rf i hi, fun i hi => by rw [zI_ne _ (.inl (hr i hi))]; exact h.rt i hi, fun i hi => by rw [zI_ne _ (.inl (hr i hi))]; exact h.rb i hi⟩
theorem RS.nq {n : Nat} {tx : Nat → Int32} {R : Nat} {d : Ad} {d3 d4 : Nat} {P : PT} {σ : ZS} (h : RS n tx R d d3 d4 P σ) {q : Nat} (hq : zt σ ≤ q) : (∀ i, i < P.T.nc → d.co i ≠ q) ∧ (∀ i, i < P.T.ns → d.so i ≠ q) ∧ (∀ i, i < P.T.nr → d.ro i ≠ q) := by
  refine ⟨fun i hi => ?_, fun i hi => ?_, fun i hi => ?_⟩
  · obtain ⟨-, -, m, a3⟩ := h.lc.2.2.2.2.2.2 i hi; have := h.lt (a := d.co i) (by rw [a3]; simp); omega
  · obtain ⟨-, -, m, a3⟩ := h.ls.2.2.2.2.2.2 i hi; have := h.lt (a := d.so i) (by rw [a3]; simp); omega
  · obtain ⟨-, -, m, a3⟩ := h.lr.2.2.2.2.2.2 i hi; have := h.lt (a := d.ro i) (by rw [a3]; simp); omega
theorem gwD {B k m : Nat} {σ σ' : ZS} (g : Gw (fun _ => False) k m σ σ') : Gw (inD B) k m σ σ' := g.mono (fun _ q => q.elim) (Nat.le_refl _) (Nat.le_refl _)
theorem RS.le {n : Nat} {tx : Nat → Int32} {R : Nat} {d : Ad} {d3 d4 : Nat} {P : PT} {σ : ZS} (h : RS n tx R d d3 d4 P σ) : d.lc ≠ d.ec ∧ d.ls ≠ d.es ∧ d.lr ≠ d.er := by
  obtain ⟨a1, b1⟩ := h.lc.2.2.1; obtain ⟨a2, b2, -⟩ := h.lc.2.2.2.2.2.1
  obtain ⟨a3, b3⟩ := h.ls.2.2.1; obtain ⟨a4, b4, -⟩ := h.ls.2.2.2.2.2.1
  obtain ⟨a5, b5⟩ := h.lr.2.2.1; obtain ⟨a6, b6, -⟩ := h.lr.2.2.2.2.2.1
  refine ⟨fun e => ?_, fun e => ?_, fun e => ?_⟩
  · rw [e, b2] at b1; cases b1
  · rw [e, b4] at b3; cases b3
  · rw [e, b6] at b5; cases b5
/-- lists lie at B or behind -/
def BD (B : Nat) (d : Ad) (ns : Nat) : Prop := (B ≤ d.tw ∧ B ≤ d.lf ∧ B ≤ d.lt) ∧ B ≤ d.lc ∧ B ≤ d.ec ∧ B ≤ d.ls ∧ B ≤ d.es ∧ B ≤ d.lr ∧ B ≤ d.er ∧ ∀ i, i < ns → B ≤ d.so i
theorem RS.frw {n : Nat} {tx : Nat → Int32} {R : Nat} {d : Ad} {d3 d4 : Nat} {P : PT} {σ σ' : ZS} (h : RS n tx R d d3 d4 P σ) {w : Nat} (f : Fr (fun c => c = w) σ σ') (ow : 1239 ≤ w) (kw : ∃ q, zK σ w = (18, q)) : RS n tx R d d3 d4 P σ' := by
  obtain ⟨q, kw⟩ := kw
  have hK : ∀ a, zK σ' a = zK σ a := fun a => by unfold zK; rw [f.2.2]
  refine h.ag (fun a ha hl => ⟨fun i => f.1 a i ?_, fun i => f.ep a i, hK a⟩) (fun i => f.1 16 i (by rw [show cd 16 i = 16 from rfl]; omega)) (fun a ha => by rw [f.et] at ha; rw [hK]; exact h.fr a ha) (by rw [f.et]; exact Nat.le_refl _) (by rw [f.et]; exact h.zb)
  unfold cd; rw [if_neg (by omega), if_neg (by omega)]
  rintro rfl
  rw [kw] at hl; unfold live at hl; simp at hl
/-- what is owed when a body was read -/
abbrev BT (B : Nat) (σ : ZS) (res : PR (PT × Nat)) (Thr : Nat → ZS → Prop) : Prop := ∀ e, res = .inl e → ∀ x σ', EX B 4 120 σ e x σ' → Thr x σ'
abbrev BRt (n : Nat) (tx : Nat → Int32) (R : Nat) (tw d3 d4 B : Nat) (σ : ZS) (res : PR (PT × Nat)) (Ret : ZS → Prop) : Prop := ∀ P' q', res = .inr (P', q') → ∀ σ' d', RS n tx R d' d3 d4 P' σ' → zI σ' R 2 = nI q' → d'.tw = tw → BD B d' P'.T.ns → Gw (inD B) 4 120 σ σ' → Ret σ'
theorem gw_in {B l e k m : Nat} {σ σ' : ZS} (g : Gw (fun c => c = l ∨ c = e) k m σ σ') (h1 : B ≤ l) (h2 : B ≤ e) (l1 : l < 1000000) (l2 : e < 1000000) : Gw (inD B) k m σ σ' := g.mono (fun c hc => by unfold inD; rcases hc with rfl | rfl <;> omega) (Nat.le_refl _) (Nat.le_refl _)
theorem c_b0 {n : Nat} {tx : Nat → Int32} {R : Nat} {d : Ad} {d3 d4 : Nat} {P : PT} {σ : ZS} {B : Nat} (hB : 1239 ≤ B ∧ B ≤ R) (hs : RS n tx R d d3 d4 P σ) (bd : BD B d P.T.ns) (hBz : B ≤ zt σ) (rm : zt σ + 4 ≤ 160000 ∧ zn σ + 120 ≤ 8000000) {q w : Nat} (hq : q ≤ n) (e2 : zI σ R 2 = nI q) (hc : P.T.nc < 16) {Thr : Nat → ZS → Prop} {Ret : ZS → Prop} (ht : BT B σ (bdy n tx 0 P q) Thr) (hr : BRt n tx R d.tw d3 d4 B σ (bdy n tx 0 P q) Ret) : V_X5_clause_543 Thr Ret σ R w 0 := by
  have hRl := hs.Rl
  have hzb := hs.zb
  have hz := hs.nz
  unfold V_X5_clause_543
  refine br_t rfl ⟨hs.k11, ?_⟩
  rw [show (99 : Int32) = nI 100 - 1 from rfl]
  refine c_number (lo := 0) hB hs (by omega) (by decide) (Nat.le_refl _) hq e2 (fun e he x σ' hx => ht e (by unfold bdy; rw [he]; rfl) x σ' (hx.mono (by omega) (by omega))) fun x q1 h1 => ?_
  obtain ⟨-, hq1⟩ := numR_pos hq h1
  have hs1 := hs.ps (sk n tx q) q1
  have g1 : Gw (inD B) 0 0 σ (psR σ R (sk n tx q) q1) := psR_gw hB.2 (by omega) hB.1
  refine ⟨hs1.k11, c_number (lo := 0) hB hs1 (by show zt σ + 1 ≤ _ ∧ zn σ + 8 ≤ _; omega) (by decide) (Nat.le_refl _) hq1 (psR_2 _ _ _ _) (fun e he x' σ' hx => ht e (by unfold bdy; rw [h1]; show pB (numR n tx q1 0 100) _ = _; rw [he]; rfl) x' σ' ((EX.tr g1 hx).mono (by omega) (by omega))) fun y q2 h2 => ?_⟩
  rw [psR_ps]
  have hres : bdy n tx 0 P q = if dupC P.T x y then .inl (2, sk n tx q1) else .inr ((adC P.T x y, P.sg, P.al, P.cl), q2) := by
    unfold bdy; rw [h1]; show pB (numR n tx q1 0 100) _ = _; rw [h2]; rfl
  have hx := (numR_ok h1).2
  have hy := (numR_ok h2).2
  have hs2 := hs.ps (sk n tx q1) q2
  have g2 : Gw (inD B) 0 0 σ (psR σ R (sk n tx q1) q2) := psR_gw hB.2 (by omega) hB.1
  have e3 := psR_3 σ R (sk n tx q1) q2
  have e22 := psR_2 σ R (sk n tx q1) q2
  have ztE : zt (psR σ R (sk n tx q1) q2) = zt σ := rfl
  have znE : zn (psR σ R (sk n tx q1) q2) = zn σ := rfl
  generalize psR σ R (sk n tx q1) q2 = s2 at hs2 g2 e3 e22 ztE znE
  refine forL (S := ZS) (fun m s y' => VL_X5_clause_605 Thr Ret m s R (nI x) (nI y) y') (fun k s => s = s2 ∧ ∀ j, j < k → ¬ (P.T.cx j = nI x ∧ P.T.cy j = nI y)) P.T.nc ?_ ?_ 0 s2 (Nat.zero_le _) ⟨rfl, fun j hj => absurd hj (Nat.not_lt_zero _)⟩
  · rintro m s ⟨rfl, hno⟩
    have hdup : dupC P.T x y = false := by
      cases k : dupC P.T x y
      · rfl
      · obtain ⟨j, hj, h⟩ := dupC_iff.mp k; exact absurd h (hno j hj)
    rw [hdup] at hres
    simp only [VL_X5_clause_605]
    rw [hs2.r4', zo_in, hs2.P0, zo_in]
    refine ⟨hs2.k11, rfl, hs2.kT, rfl, hs2.lcT.kl, j_size hs2.lcT (br_f (nI_nlt (Nat.le_refl _) (by omega)) ?_)⟩
    rw [hs2.r4', zo_in, hs2.P0, zo_in]
    refine ⟨hs2.k11, rfl, hs2.kT, rfl, ⟨by rw [ztE]; exact hz, by rw [ztE]; show _ ≤ 160000; omega, by rw [znE]; show _ ≤ 8000000; omega⟩, nm_e ?_⟩
    have kq : zK (sA s (13, 0) 2) (zt s) = (13, 0) := by rw [qK_sA, if_pos rfl]
    have hs3 := hs2.gw0 (sA_gw _ s (13, 0) 2) (by rw [zt_sA', ztE]; omega)
    obtain ⟨n1, n2, n3⟩ := hs2.nq (q := zt s) (Nat.le_refl _)
    have hs4 := (hs3.setN (q := zt s) (by rw [ztE]; exact hz) (.inl (by rw [kq])) n1 n2 n3 0 (nI x)).setN (q := zt s) (by rw [ztE]; exact hz) (.inl (by show (zK (sA s (13, 0) 2) (zt s)).1 = 13; rw [kq])) n1 n2 n3 1 (nI y)
    have kk : ∀ t : ZS, t.2.2.2 = (sA s (13, 0) 2).2.2.2 → ∃ r, kK NS t (zt s) = (13, r) := fun t e => ⟨0, by rw [kK_dyn (by rw [ztE]; exact hz)]; unfold zK; rw [e]; exact kq⟩
    unfold wp_X7_init
    refine ⟨kk _ rfl, nm_e ⟨kk _ rfl, nm_e ⟨hs4.lcT.kl, ?_⟩⟩⟩
    have g4 : Gw (inD B) 1 2 σ (sI (sI (sA s (13, 0) 2) (zt s) 0 (nI x)) (zt s) 1 (nI y)) := ((g2.trans (gwD (sA_gw _ s (13, 0) 2))).trans (gw_sI (by omega) (by omega) hB.1)).trans (gw_sI (by omega) (by omega) hB.1) |>.mono (fun _ k => k) (by omega) (by omega)
    have zt4 : zt (sI (sI (sA s (13, 0) 2) (zt s) 0 (nI x)) (zt s) 1 (nI y)) = zt σ + 1 := by show zt s + 1 = _; rw [ztE]
    have zn4 : zn (sI (sI (sA s (13, 0) 2) (zt s) 0 (nI x)) (zt s) 1 (nI y)) = zn σ + 2 := by show zn s + 2 = _; rw [znE]
    have q0 : zI (sI (sI (sA s (13, 0) 2) (zt s) 0 (nI x)) (zt s) 1 (nI y)) (zt s) 0 = nI x := by rw [zI_ne _ (.inr (by decide)), zI_self]
    have q1' : zI (sI (sI (sA s (13, 0) 2) (zt s) 0 (nI x)) (zt s) 1 (nI y)) (zt s) 1 = nI y := zI_self _ _ _ _
    have eR : zI (sI (sI (sA s (13, 0) 2) (zt s) 0 (nI x)) (zt s) 1 (nI y)) R 2 = nI q2 := by
      rw [zI_ne _ (.inl (by omega)), zI_ne _ (.inl (by omega)), qI_sA, if_neg (by omega)]; exact e22
    have kq4 : zK (sI (sI (sA s (13, 0) 2) (zt s) 0 (nI x)) (zt s) 1 (nI y)) (zt s) = (13, 0) := kq
    generalize sI (sI (sA s (13, 0) 2) (zt s) 0 (nI x)) (zt s) 1 (nI y) = s4 at hs4 g4 zt4 zn4 q0 q1' eR kq4
    obtain ⟨b0, b1, b2, b3, b4, b5, b6, b7⟩ := bd
    have lL : d.lc < zt s4 := by obtain ⟨a1, a2⟩ := hs4.lc.2.2.1; exact hs4.lt (by rw [a2]; simp)
    have lE : d.ec < zt s4 := by obtain ⟨a1, a2, -⟩ := hs4.lc.2.2.2.2.2.1; exact hs4.lt (by rw [a2]; simp)
    refine c_add hs4.lc (by omega) hs4.le.1 (.inl rfl) hs4.fr (by omega) (by omega) ⟨0, kq4⟩ (by omega) fun s5 e' he g5 hl => ?_
    have g5D := gw_in g5 b1 b2 (by omega) (by omega)
    have := g5.t2
    refine hr _ _ hres s5 (Ad.mk d.tw d.lc e' (up d.co P.T.nc (zt s)) d.ls d.es d.so d.lr d.er d.ro d.lf d.lt) (hs4.adC g5 he hl kq4 q0 q1' (by omega) ⟨WF_adC hs.pw.1 hc x y, hs.pw.2⟩) ?_ rfl ⟨b0, b1, ?_, b3, b4, b5, b6, b7⟩ ((g4.trans g5D).mono (fun _ k => k) (by omega) (by omega))
    · rw [g5.i R 2 (by omega) ?_]
      · exact eR
      · have k1 : cd R 2 = R := by unfold cd; rw [if_neg (by omega), if_neg (by omega)]
        obtain ⟨r1, r2⟩ := hs4.kr
        rw [k1]
        rintro (k | k)
        · obtain ⟨a1, a2⟩ := hs4.lc.2.2.1; rw [k, a2] at r2; cases r2
        · obtain ⟨a1, a2, -⟩ := hs4.lc.2.2.2.2.2.1; rw [k, a2] at r2; cases r2
    · show B ≤ e'; rcases he with k | k <;> omega
  · rintro m k s hk ⟨rfl, hno⟩ ih
    simp only [VL_X5_clause_605]
    simp only [nI1]
    rw [hs2.r4', zo_in, hs2.P0, zo_in]
    refine ⟨hs2.k11, rfl, hs2.kT, rfl, hs2.lcT.kl, j_size hs2.lcT (br_t (nI_lt hk (by omega)) ?_)⟩
    rw [hs2.r4', zo_in, hs2.P0, zo_in]
    refine ⟨hs2.k11, rfl, hs2.kT, rfl, hs2.lcT.kl, j_get hs2.lcT hk ?_⟩
    have k13 := (hs2.lcT.pi k hk).2.2
    rw [zo_in, hs2.cx k hk]
    have nxt : ¬ (P.T.cx k = nI x ∧ P.T.cy k = nI y) → VL_X5_clause_605 Thr Ret m s R (nI x) (nI y) (nI (k + 1)) := fun hne => ih s ⟨rfl, fun j hj => by
      by_cases ej : j = k
      · rw [ej]; exact hne
      · exact hno j (by omega)⟩
    have good1 : ∀ b : Bool, b = true → (b = true → ¬ (P.T.cx k = nI x ∧ P.T.cy k = nI y)) → wp_X5_good s R (b2i b) (fun x σ => Thr x σ) (fun σ79 => ∀ y82 : Int32, y82 = nI (k + 1) → VL_X5_clause_605 Thr Ret m σ79 R (nI x) (nI y) y82) := fun b hb hne => ex_good g2 hs2 hB.2 (by omega) e3 (fun h => by rw [hb] at h; cases h) fun _ => nm_e (nxt (hne hb))
    refine ⟨rfl, k13, k13, fun ec => ?_, fun ec => ⟨hs2.k11, good1 true rfl fun _ h => ec h.1⟩⟩
    rw [hs2.r4', zo_in, hs2.P0, zo_in]
    refine ⟨hs2.k11, rfl, hs2.kT, rfl, hs2.lcT.kl, j_get hs2.lcT hk ?_⟩
    rw [zo_in, hs2.cy k hk]
    refine ⟨rfl, k13, k13, fun ed => ⟨hs2.k11, ex_good (b := false) g2 hs2 hB.2 (by omega) e3 (fun _ x' σ' hx' => ht (2, sk n tx q1) ?_ x' σ' (hx'.mono (by omega) (by omega))) (fun h => by cases h)⟩, fun ed => ⟨hs2.k11, good1 true rfl fun _ h => ed h.2⟩⟩
    rw [hres, if_pos (dupC_iff.mpr ⟨k, hk, ec, ed⟩)]
