/-! PURE HALF: a town: the class. -/
set_option maxRecDepth 100000
theorem Gw.inD0 {k m : Nat} {σ s : ZS} (g : Gw (inD (zt σ)) k m σ s) : Gw (fun _ => False) k m σ s := by
  have nd : ∀ a i, a < zt σ → ¬ inD (zt σ) (cd a i) := fun a i ha h => by
    unfold inD cd at h
    split at h
    · omega
    · split at h <;> omega
  exact ⟨fun a i ha _ => g.i a i ha (nd a i ha), fun a i ha _ => g.j a i ha (nd a i ha), fun a i ha _ => g.p a i ha (nd a i ha), g.kk, g.t1, g.t2, g.n, g.kf⟩
theorem CT_of {n : Nat} {tx : Nat → Int32} {R : Nat} {d : Ad} {d3 d4 : Nat} {P : PT} {s s2 σ' : ZS} (h : RS n tx R d d3 d4 P s) (f : Fr (fun c => c = d.tw ∨ c = d.lf ∨ c = d.lt) s s2) (lf : LfC P.T d s2 (P.T.ns * P.T.ns)) (et : ∀ j, j ≠ 8 → zI s2 d.tw j = zI s d.tw j) (eI : ∀ a i, 1239 ≤ a → zI σ' a i = zI s2 a i) (eP : ∀ a i, 1239 ≤ a → zP σ' a i = zP s2 a i) (eK : ∀ a, zK σ' a = zK s2 a) (pt : zP σ' 0 0 = some (.inl d.tw)) : CT (fT P.T) d σ' := by
  obtain ⟨mt, kt⟩ := h.kt
  have zb := h.zb
  have o5 := h.o5; have o6 := h.o6; have ot := h.ot
  have l5 := h.lt (a := d.lf) (by rw [h.k5]; simp)
  have l6 := h.lt (a := d.lt) (by rw [h.k6]; simp)
  have lt := h.lt (a := d.tw) (by rw [kt]; simp)
  have K2 : ∀ a, zK s2 a = zK s a := fun a => by unfold zK; rw [f.2.2]
  have ne : ∀ a, 1239 ≤ a → (zK s a).1 ≠ 8 → (zK s a).1 ≠ 0 → ∀ i, zI σ' a i = zI s a i := fun a ha h8 h0 i => by
    rw [eI a i ha]
    refine f.1 a i ?_
    have e : cd a i = a := by unfold cd; rw [if_neg (by clear h; omega), if_neg (by clear h; omega)]
    rw [e]
    rintro (rfl | rfl | rfl)
    · rw [kt] at h8; exact h8 rfl
    · rw [h.k5] at h0; exact h0 rfl
    · rw [h.k6] at h0; exact h0 rfl
  have kK' : ∀ a, 1239 ≤ a → kK NS σ' a = kK NS s a := fun a ha => by rw [kK_dyn ha, kK_dyn ha, eK, K2]
  have kP' : ∀ a i, 1239 ≤ a → kP NS σ' a i = kP NS s a i := fun a i ha => by rw [kP_dyn ha, kP_dyn ha, eP a i ha, f.ep]
  have lst : ∀ {l e m ki : Nat} {ad : Nat → Nat}, LS2 s l e m ki ad → LSt s l e m ki ad → LSt σ' l e m ki ad := by
    rintro l e m ki ad h2 hl
    obtain ⟨x1, x2⟩ := h2.2.2.1
    exact ⟨hl.ol, hl.oe, by rw [kK' l h2.1]; exact hl.kl, by rw [ne l h2.1 (by rw [x2]; simp) (by rw [x2]; simp)]; exact hl.sz, by rw [kP' l 1 h2.1]; exact hl.pe, by rw [kK' e h2.2.1]; exact hl.ke, fun i hi => by rw [kP' e i h2.2.1, kK' (ad i) (h2.2.2.2.2.2.2 i hi).2.1]; exact hl.pi i hi⟩
  have vt : ∀ j, j ≠ 8 → zI σ' d.tw j = zI s d.tw j := fun j hj => by rw [eI _ _ ot]; exact et j hj
  have vc : ∀ i, i < P.T.nc → ∀ j, zI σ' (d.co i) j = zI s (d.co i) j := fun i hi j => by
    obtain ⟨-, a2, m, a3⟩ := h.lc.2.2.2.2.2.2 i hi
    exact ne _ a2 (by rw [a3]; simp) (by rw [a3]; simp) j
  have vs : ∀ i, i < P.T.ns → ∀ j, zI σ' (d.so i) j = zI s (d.so i) j := fun i hi j => by
    obtain ⟨-, a2, m, a3⟩ := h.ls.2.2.2.2.2.2 i hi
    exact ne _ a2 (by rw [a3]; simp) (by rw [a3]; simp) j
  have vr : ∀ i, i < P.T.nr → ∀ j, zI σ' (d.ro i) j = zI s (d.ro i) j := fun i hi j => by
    obtain ⟨-, a2, m, a3⟩ := h.lr.2.2.2.2.2.2 i hi
    exact ne _ a2 (by rw [a3]; simp) (by rw [a3]; simp) j
  have P5 : kP NS s d.tw 5 = some (.inl d.lf) := by rw [kP_dyn ot]; exact h.p5
  have P6 : kP NS s d.tw 6 = some (.inl d.lt) := by rw [kP_dyn ot]; exact h.p6
  have K5 : kK NS s d.lf = (0, 576) := by rw [kK_dyn o5]; exact h.k5
  have K6 : kK NS s d.lt = (0, 576) := by rw [kK_dyn o6]; exact h.k6
  refine ⟨WF_fT h.pw.1, pt, .inr ⟨ot, by clear h; omega⟩, by rw [kK' _ ot]; exact h.kT, by rw [kP' _ _ ot]; exact h.P0, by rw [kP' _ _ ot]; exact h.P1, by rw [kP' _ _ ot]; exact h.P2, by rw [kP' _ _ ot]; exact P5, by rw [kP' _ _ ot]; exact P6, by rw [kK' _ o5]; exact K5, by rw [kK' _ o6]; exact K6, .inr ⟨o5, by clear h; omega⟩, .inr ⟨o6, by clear h; omega⟩, lst h.lc h.lcT, lst h.ls h.lsT, lst h.lr h.lrT, by rw [vt 7 (by decide)]; exact h.bx, by rw [eI _ _ ot]; exact lf.1, fun k hk => by rw [eI _ _ o5]; exact (lf.2 k hk).1, fun k hk => by rw [eI _ _ o6]; exact (lf.2 k hk).2, fun i hi => (vc i hi 0).trans (h.cx i hi), fun i hi => (vc i hi 1).trans (h.cy i hi), fun i hi => (vs i hi 0).trans (h.sf i hi), fun i hi => (vs i hi 1).trans (h.st i hi), fun i hi => (vs i hi 2).trans (h.sl i hi), fun i hi => (vs i hi 3).trans (h.so i hi), fun i hi => (vr i hi 0).trans (h.rf i hi), fun i hi => (vr i hi 1).trans (h.rt i hi), fun i hi => (vr i hi 2).trans (h.rb i hi)⟩
/-- codes a town may write -/
def STw (c : Nat) : Prop := c = 12 ∨ c = 13 ∨ c = 14 ∨ c = 1238 ∨ c = 2000000 ∨ c = 2000002 ∨ c = 2000003 ∨ c = 2000004
def SE (c : Nat) : Prop := c = 1238 ∨ c = 2000002 ∨ c = 2000003
noncomputable def twR (n : Nat) (tx : Nat → Int32) : PR PT := prs n tx (n + 1) (sk n tx 0) PT0
theorem gw_sI' {S : Nat → Prop} {σ : ZS} {a i : Nat} {x : Int32} (h : S (cd a i)) : Gw S 0 0 σ (sI σ a i x) := (Fr.rfl.sI a i x h).gw
theorem gw_sJ' {S : Nat → Prop} {σ : ZS} {a i : Nat} {x : Int64} (h : S (cd a i)) : Gw S 0 0 σ (sJ σ a i x) := (Fr.rfl.sJ a i x h).gw
theorem gw_cI' {S : Nat → Prop} {σ : ZS} {b a sp dp n : Nat} (h : ∀ i, S (cd a i)) : Gw S 0 0 σ (cI σ b a sp dp n) := (Fr.rfl.cI b a sp dp n h).gw
theorem gw_sP' {S : Nat → Prop} {σ : ZS} {a i : Nat} {x : ZR} (h : S (cd a i)) : Gw S 0 0 σ (sP σ a i x) := by
  refine ⟨fun _ _ _ _ => rfl, fun _ _ _ _ => rfl, fun b j _ hn => ?_, fun _ _ => rfl, Nat.le_refl _, Nat.le_refl _, Nat.le_refl _, fun k a ha => k a ha⟩
  rw [zP_ne]
  by_cases e : b = a
  · refine .inr fun e2 => hn ?_; rw [e, e2]; exact h
  · exact .inl e
theorem C_town {tp : Nat} {tb : Nat → Int32} {σ : ZS} (htp : TpC tp tb σ) (hby : ∀ i, i < tp → BY (tb i)) (hz : NS ≤ zt σ) (fr : ∀ a, zt σ ≤ a → zK σ a = (1000, 0)) (rm : zt σ + 700 ≤ 160000 ∧ zn σ + 13000 ≤ 8000000) {x : Int32} {Ret : Int32 → ZS → Prop}
    (h1 : inN x (tp + 1) = false → ∀ σ', Gw (fun _ => False) 1 6 σ σ' → Ret 1 σ')
    (h2 : ∀ n e, x = nI n → n ≤ tp → twR n tb = .inl e → ∀ σ', Gw SE 600 12000 σ σ' → zI σ' 0 3 = nI e.2 → zI σ' 0 2 = 0 → zJ σ' 1238 0 = (nI e.1 - 10).toInt64 → Ret 0 σ')
    (h3 : ∀ n P, x = nI n → n ≤ tp → twR n tb = .inr P → ∀ σ' d, Gw STw 600 12000 σ σ' → CT (fT P.T) d σ' → CH 0 (fun _ => P.sg) (fun _ => P.al) σ' → zI σ' 12 4 = 0 → zI σ' 0 3 = -1 → zI σ' 0 4 = 0 → zI σ' 0 2 = 0 → zJ σ' 1238 0 = (nI P.T.nc).toInt64 → Ret 0 σ') : wp_X0_town σ x Ret := by
  have hz' : 1239 ≤ zt σ := hz
  obtain ⟨tp1, tp2, tp3⟩ := htp
  unfold wp_X0_town wp_X1_town
  generalize hThr : (fun x3 σ4 => ((∃ x, kK NS σ4 x3 = (12 + 7, x)) ∧ (Ret 1 σ4))) = Thr
  generalize hR : (fun (r1 : Int32) (σ2 : ZS) => ∀ σ6 : ZS, σ6 = sJ σ2 1238 (ix 0) r1.toInt64 → (Ret 0 σ6)) = RR
  have rm0 : Rm σ := ⟨hz, by show _ ≤ 160000; omega, by show _ ≤ 8000000; omega⟩
  have bad : inN x (tp + 1) = false → V_X1_town_17 Thr RR σ x 0 := fun h => by
    unfold V_X1_town_17
    refine c_need (b := false) rm0 (fun k => by cases k) fun _ σ' g k2 => ?_
    rw [← hThr]; exact ⟨⟨0, k2⟩, h1 h σ' g⟩
  refine ⟨fun k => by unfold V_X1_town_16; exact bad (inN_neg k), fun k => ?_⟩
  obtain ⟨n, hn, rfl⟩ := nI_of k
  rw [tp2, nI_ltI (by omega) hn]
  refine ⟨fun k2 => by unfold V_X1_town_16; exact bad (by rw [inN_nI hn]; simp; omega), fun k2 => ?_⟩
  have hnt : n ≤ tp := by omega
  have h2 := h2 n
  have h3 := h3 n
  unfold V_X1_town_17
  refine c_need (b := true) rm0 (fun _ => nm_e ?_) (fun k => by cases k)
  have z3 : zt (sI σ 0 3 (-1)) = zt σ := rfl
  have n3' : zn (sI σ 0 3 (-1)) = zn σ := rfl
  have f3 : Fr SE σ (sI σ 0 3 (-1)) := Fr.rfl.sI 0 3 _ (.inr (.inr rfl))
  have fr3 : ∀ a, zt (sI σ 0 3 (-1)) ≤ a → zK (sI σ 0 3 (-1)) a = (1000, 0) := fr
  have tp3' : ∀ i, i < n → zI (sI σ 0 3 (-1)) 16 i = tb i := fun i hi => by rw [zI_ne _ (.inl (by decide))]; exact tp3 i (by omega)
  have e33 : zI (sI σ 0 3 (-1)) 0 3 = -1 := zI_self _ _ _ _
  refine ⟨⟨hz, by rw [z3]; show _ ≤ 160000; omega, by rw [n3']; show _ ≤ 8000000; omega⟩, nm_e (c_rd0 (σ := sI σ 0 3 (-1)) hz' (by omega) ?_)⟩
  have hs := rd_RS (σ := sI σ 0 3 (-1)) hz' (by omega) fr3 (n := n) (tx := tb) (by omega) tp3' (fun i hi => hby i (by omega))
  have g0 := rd_gw (sI σ 0 3 (-1)) (nI n)
  have z0 : zt (rdS0 (sI σ 0 3 (-1)) (nI n)) = zt σ + 12 := rfl
  have m0 : zn (rdS0 (sI σ 0 3 (-1)) (nI n)) ≤ zn σ + 1300 := g0.n
  have e20 : zI (rdS0 (sI σ 0 3 (-1)) (nI n)) (zt σ) 2 = nI 0 := by
    rw [rd_I, if_neg (by omega), twS_I, if_neg (by show ¬ (zt σ + 2 ≤ zt σ ∧ _); omega), qI_sA, if_neg (by show ¬ zt σ = zt σ + 1; omega), qI_sA, z3, if_pos rfl]; rfl
  rw [z3] at hs ⊢
  generalize rdS0 (sI σ 0 3 (-1)) (nI n) = s0 at hs g0 z0 m0 e20
  generalize sI σ 0 3 (-1) = σ3 at f3 g0 e33 z3 n3' fr3
  have hB : 1239 ≤ zt σ ∧ zt σ ≤ zt σ := ⟨hz', Nat.le_refl _⟩
  have g0D : Gw (inD (zt σ)) 12 1300 σ3 s0 := gwD g0
  have toF : ∀ {k m : Nat} {s : ZS}, Gw (inD (zt σ)) k m σ3 s → Gw (fun _ => False) k m σ3 s := fun {k m s} g => by
    rw [← z3] at g; exact g.inD0
  have hsk0 := sk_le (n := n) (tx := tb) (Nat.zero_le n)
  have rm1 : zt s0 + 600 ≤ 160000 ∧ zn s0 + 10000 ≤ 8000000 := by clear hs; omega
  have bd0 : BD (zt σ) (rdA0 (zt σ)) 0 := ⟨⟨by show _ ≤ zt σ + 1; omega, by show _ ≤ zt σ + 10; omega, by show _ ≤ zt σ + 11; omega⟩, by show _ ≤ zt σ + 2; omega, by show _ ≤ zt σ + 3; omega, by show _ ≤ zt σ + 4; omega, by show _ ≤ zt σ + 5; omega, by show _ ≤ zt σ + 6; omega, by show _ ≤ zt σ + 7; omega, fun i hi => absurd hi (Nat.not_lt_zero _)⟩
  refine ⟨hs.k11, ?_⟩
  unfold wp_X5_reads
  refine ⟨hs.k11, c_sign hs (Nat.zero_le _) e20 ⟨n + 1, ?_⟩⟩
  have hR6 : zt σ < 1000000 := by clear hs; omega
  have hs1 := hs.setR (j := 2) (by decide) (nI (sk n tb 0))
  have g1D : Gw (inD (zt σ)) 0 0 s0 (sI s0 (zt σ) 2 (nI (sk n tb 0))) := gw_sI (Nat.le_refl _) hR6 hz'
  refine c_readsL (tw := zt σ + 1) (σ0 := s0) (res := twR n tb) hB ⟨by omega, by omega⟩ (by clear hs hs1; omega) (by clear hs hs1; omega) rm1 (fun e he y σ13 hx => ?_) (fun P he s d hsP bdP htw gP => ?_) (n + 1) (sk n tb 0) PT0 _ (rdA0 (zt σ)) (by omega) hsk0 (sk_sk _ _ _) (by decide) hs1 bd0 rfl (zI_self _ _ _ _) g1D rfl
  · -- a fault
    obtain ⟨⟨q, ky⟩, y6, y7, gx⟩ := hx
    have gF := toF (g0D.trans gx)
    have hy : y ≠ 0 := by rintro rfl; cases ky
    refine ⟨⟨q, ky⟩, ⟨q, ky⟩, nm_e ⟨⟨q, ky⟩, nm_e (nm_e ?_)⟩⟩
    rw [y7, zI_ne _ (.inl hy), y6, ← hR]
    refine nm_e (h2 e rfl hnt he _ ?_ ?_ ?_ ?_)
    · exact ((((f3.gw.trans (gF.mono (fun _ k => k.elim) (Nat.le_refl _) (Nat.le_refl _))).trans (gw_sI' (.inr (.inr rfl)))).trans (gw_sI' (.inr (.inl rfl)))).trans (gw_sJ' (.inl rfl))).mono (fun _ k => k) (by omega) (by omega)
    · show zI (sI (sI σ13 0 3 (nI e.2)) 0 2 0) 0 3 = _
      rw [zI_ne _ (.inr (by decide)), zI_self]
    · show zI (sI (sI σ13 0 3 (nI e.2)) 0 2 0) 0 2 = _
      rw [zI_self]
    · exact zJ_self _ _ _ _
  · -- it is read
    have kT := hsP.kT
    rw [← htw]
    refine c_looks hsP fun s2 f2 lf2 et2 => ?_
    obtain ⟨mr, kr⟩ := hsP.kr
    have K2 : ∀ a, zK s2 a = zK s a := fun a => by unfold zK; rw [f2.2.2]
    have k11 : ∃ q, kK NS s2 (zt σ) = (11, q) := by rw [f2.K]; exact hsP.k11
    have p4 : kP NS s2 (zt σ) 4 = some (.inl d.tw) := by rw [f2.P]; exact hsP.r4'
    rw [p4]
    have o3 := hsP.o3; have o4 := hsP.o4; have ot := hsP.ot
    have zb := hsP.zb
    have nz := hsP.nz
    have k3 := hsP.k3; have k4 := hsP.k4
    have lt : d.tw < zt s := by obtain ⟨x1, x2⟩ := hsP.kt; exact hsP.lt (by rw [x2]; simp)
    have l5 : d.lf < zt s := hsP.lt (by rw [hsP.k5]; simp)
    have l6 : d.lt < zt s := hsP.lt (by rw [hsP.k6]; simp)
    have o5 := hsP.o5; have o6 := hsP.o6
    have sgP := hsP.sg; have alP := hsP.al
    have nc16 := hsP.pw.1.nc
    have n3t : zt σ + 8 ≠ d.tw := by rintro e; obtain ⟨x1, x2⟩ := hsP.kt; rw [← e, k3] at x2; cases x2
    have n35 : zt σ + 8 ≠ d.lf := by rintro e; have := hsP.k5; rw [← e, k3] at this; cases this
    have n36 : zt σ + 8 ≠ d.lt := by rintro e; have := hsP.k6; rw [← e, k3] at this; cases this
    have n4t : zt σ + 9 ≠ d.tw := by rintro e; obtain ⟨x1, x2⟩ := hsP.kt; rw [← e, k4] at x2; cases x2
    have n45 : zt σ + 9 ≠ d.lf := by rintro e; have := hsP.k5; rw [← e, k4] at this; cases this
    have n46 : zt σ + 9 ≠ d.lt := by rintro e; have := hsP.k6; rw [← e, k4] at this; cases this
    have P3 : ∀ t : ZS, t.2.2 = (sP s2 0 0 (some (.inl d.tw))).2.2 → kP NS t d.tw 3 = some (.inl (zt σ + 8)) := fun t e => by
      rw [kP_dyn ot]; unfold zP; rw [e]; show zP (sP s2 0 0 _) d.tw 3 = _; rw [zP_ne _ (.inl (by clear hsP; omega)), f2.ep]; exact hsP.p3
    have P4 : ∀ t : ZS, t.2.2 = (sP s2 0 0 (some (.inl d.tw))).2.2 → kP NS t d.tw 4 = some (.inl (zt σ + 9)) := fun t e => by
      rw [kP_dyn ot]; unfold zP; rw [e]; show zP (sP s2 0 0 _) d.tw 4 = _; rw [zP_ne _ (.inl (by clear hsP; omega)), f2.ep]; exact hsP.p4
    have Kt : ∀ t : ZS, t.2.2.2 = s2.2.2.2 → ∃ q, kK NS t d.tw = (8, q) := fun t e => by
      rw [kK_dyn ot]; unfold zK; rw [e]; show ∃ q, zK s2 d.tw = (8, q); rw [K2]; exact hsP.kt
    have K3 : ∀ t : ZS, t.2.2.2 = s2.2.2.2 → kK NS t (zt σ + 8) = (0, 24) := fun t e => by
      rw [kK_dyn o3]; unfold zK; rw [e]; show zK s2 _ = _; rw [K2]; exact k3
    have K4 : ∀ t : ZS, t.2.2.2 = s2.2.2.2 → kK NS t (zt σ + 9) = (0, 24) := fun t e => by
      rw [kK_dyn o4]; unfold zK; rw [e]; show zK s2 _ = _; rw [K2]; exact k4
    have i24 : ix 24 = 24 := rfl
    have bt := bdP.1
    have g2D : Gw (inD (zt σ)) 0 0 s s2 := (f2.mono (fun c hc => by
      clear hsP
      unfold inD
      rcases hc with rfl | rfl | rfl
      · exact ⟨bt.1, by omega⟩
      · exact ⟨bt.2.1, by omega⟩
      · exact ⟨bt.2.2, by omega⟩)).gw
    have gF := toF ((g0D.trans gP).trans g2D)
    have gF' : Gw STw 562 11100 σ s2 := ((f3.gw.mono (fun c hc => by unfold SE at hc; unfold STw; omega) (Nat.le_refl _) (Nat.le_refl _)).trans (gF.mono (fun _ k => k.elim) (Nat.le_refl _) (Nat.le_refl _))).mono (fun _ k => k) (by omega) (by omega)
    have e33' : zI s2 0 3 = -1 := by rw [gF.i 0 3 (by clear hsP; omega) id]; exact e33
    refine ⟨k11, rfl, ?_⟩
    rw [zo_in]
    refine nm_e (nm_e (nm_e ⟨Kt _ rfl, ?_⟩))
    rw [P3 (sI (sI (sP s2 0 0 (some (.inl d.tw))) 12 3 0) 12 4 0) rfl, zo_in, i24, ix0]
    refine ⟨rfl, 24, K3 _ rfl, ⟨by decide, by decide, by decide, by decide, by decide⟩, nm_e ⟨Kt _ rfl, ?_⟩⟩
    rw [P4 (cI (sI (sI (sP s2 0 0 (some (.inl d.tw))) 12 3 0) 12 4 0) (zt σ + 8) 13 0 0 24) rfl, zo_in]
    refine ⟨rfl, 24, K4 _ rfl, ⟨by decide, by decide, by decide, by decide, by decide⟩, nm_e (nm_e ?_)⟩
    have q3 : ∀ j, zI s2 (zt σ + 8) j = zI s (zt σ + 8) j := fun j => f2.1 _ _ (by
      clear hsP
      have e : cd (zt σ + 8) j = zt σ + 8 := by unfold cd; rw [if_neg (by omega), if_neg (by omega)]
      rw [e]; rintro (k | k | k)
      · exact n3t k
      · exact n35 k
      · exact n36 k)
    have q4 : ∀ j, zI s2 (zt σ + 9) j = zI s (zt σ + 9) j := fun j => f2.1 _ _ (by
      clear hsP
      have e : cd (zt σ + 9) j = zt σ + 9 := by unfold cd; rw [if_neg (by omega), if_neg (by omega)]
      rw [e]; rintro (k | k | k)
      · exact n4t k
      · exact n45 k
      · exact n46 k)
    have hI1 : ∀ a i, a ≠ 13 → zI (cI (sI (sI (sP s2 0 0 (some (.inl d.tw))) 12 3 0) 12 4 0) (zt σ + 8) 13 0 0 24) a i = zI (sI (sI (sP s2 0 0 (some (.inl d.tw))) 12 3 0) 12 4 0) a i := fun a i ha => zI_cIn _ ha i
    have hI13 : ∀ i, i < 24 → zI (cI (sI (sI (sP s2 0 0 (some (.inl d.tw))) 12 3 0) 12 4 0) (zt σ + 8) 13 0 0 24) 13 i = P.sg i := fun i hi => by
      rw [qI_cI, pk_cpy_in (by omega) (by omega), show 0 + (i - 0) = i by omega]
      show zI (sI (sI (sP s2 0 0 (some (.inl d.tw))) 12 3 0) 12 4 0) (zt σ + 8) i = _
      rw [zI_ne _ (.inl (by clear hsP; omega)), zI_ne _ (.inl (by clear hsP; omega))]
      show zI s2 (zt σ + 8) i = _
      rw [q3]; exact sgP i hi
    have hI0 : ∀ a i, a ≠ 12 → zI (sI (sI (sP s2 0 0 (some (.inl d.tw))) 12 3 0) 12 4 0) a i = zI s2 a i := fun a i ha => by
      rw [zI_ne _ (.inl ha), zI_ne _ (.inl ha)]; rfl
    have g25 : Gw STw 0 0 s2 (cI (sI (sI (sP s2 0 0 (some (.inl d.tw))) 12 3 0) 12 4 0) (zt σ + 8) 13 0 0 24) := (((gw_sP' (S := STw) (by unfold STw cd; simp)).trans (gw_sI' (by unfold STw cd; simp))).trans (gw_sI' (by unfold STw cd; simp))).trans (gw_cI' (fun i => by unfold STw cd; simp))
    have p25 : ∀ a i, zP (cI (sI (sI (sP s2 0 0 (some (.inl d.tw))) 12 3 0) 12 4 0) (zt σ + 8) 13 0 0 24) a i = zP (sP s2 0 0 (some (.inl d.tw))) a i := fun _ _ => rfl
    have k25 : ∀ a, zK (cI (sI (sI (sP s2 0 0 (some (.inl d.tw))) 12 3 0) 12 4 0) (zt σ + 8) 13 0 0 24) a = zK s2 a := fun _ => rfl
    have e123 : zI (sI (sI (sP s2 0 0 (some (.inl d.tw))) 12 3 0) 12 4 0) 12 3 = 0 := by rw [zI_ne _ (.inr (by decide)), zI_self]
    have e124 : zI (sI (sI (sP s2 0 0 (some (.inl d.tw))) 12 3 0) 12 4 0) 12 4 = 0 := zI_self _ _ _ _
    generalize cI (sI (sI (sP s2 0 0 (some (.inl d.tw))) 12 3 0) 12 4 0) (zt σ + 8) 13 0 0 24 = s5 at hI1 hI13 g25 p25 k25
    generalize hs6 : sI (cI s5 (zt σ + 9) 14 0 0 24) 0 4 0 = s6
    have hI6 : ∀ a i, a ≠ 14 → a ≠ 0 → zI s6 a i = zI s5 a i := fun a i h1 h2 => by rw [← hs6, zI_ne _ (.inl h2)]; exact zI_cIn _ h1 i
    have hI614 : ∀ i, i < 24 → zI s6 14 i = P.al i := fun i hi => by
      rw [← hs6, zI_ne _ (.inl (by decide)), qI_cI, pk_cpy_in (by omega) (by omega), show 0 + (i - 0) = i by omega]
      show zI s5 (zt σ + 9) i = _
      rw [hI1 _ _ (by clear hsP; omega), hI0 _ _ (by clear hsP; omega), q4]; exact alP i hi
    have g6 : Gw STw 0 0 s5 s6 := by rw [← hs6]; exact (gw_cI' (fun i => by unfold STw cd; simp)).trans (gw_sI' (by unfold STw cd; simp))
    have e04 : zI s6 0 4 = 0 := by rw [← hs6, zI_self]
    have e03 : zI s6 0 3 = -1 := by rw [← hs6, zI_ne _ (.inr (by decide)), zI_cIn _ (by decide), hI1 _ _ (by decide), hI0 _ _ (by decide)]; exact e33'
    have ct : CT (fT P.T) d s6 := CT_of hsP f2 lf2 et2 (fun a i ha => by rw [hI6 a i (by clear hsP; omega) (by clear hsP; omega), hI1 a i (by clear hsP; omega), hI0 a i (by clear hsP; omega)]) (fun a i ha => by rw [← hs6]; show zP s5 a i = _; rw [p25, zP_ne _ (.inl (by clear hsP; omega))]) (fun a => by rw [← hs6]; exact k25 a) (by rw [← hs6]; show zP s5 0 0 = _; rw [p25, zP_self])
    have c12 : ∀ j, zI s6 12 j = zI s5 12 j := fun j => hI6 12 j (by decide) (by decide)
    refine c_corners ct (nm_e ?_)
    have gAll : Gw STw 562 11100 σ (sI s6 0 2 0) := (((gF'.trans g25).trans g6).trans (gw_sI' (by unfold STw cd; simp))).mono (fun _ k => k) (by omega) (by omega)
    have fa : Fr (fun c => c = 2000002) s6 (sI s6 0 2 0) := Fr.rfl.sI 0 2 0 rfl
    have ct7 : CT (fT P.T) d (sI s6 0 2 0) := ct.fr fa (by clear hsP; intro c hc; unfold noA; omega)
    have fb : Fr (fun c => c = 1238) (sI s6 0 2 0) (sJ (sI s6 0 2 0) 1238 (ix 0) (nI (fT P.T).nc).toInt64) := Fr.rfl.sJ 1238 (ix 0) _ rfl
    have c6 : ∀ a i, a ≠ 0 → zI (sI s6 0 2 0) a i = zI s6 a i := fun a i ha => zI_ne _ (.inl ha)
    rw [← hR]
    refine nm_e (h3 P rfl hnt he _ d ?_ ?_ ⟨by decide, ?_, fun t ht i hi => ?_, fun t ht i hi => ?_⟩ ?_ ?_ ?_ ?_ ?_)
    · exact (gAll.trans (gw_sJ' (by unfold STw cd; simp))).mono (fun _ k => k) (by omega) (by omega)
    · exact ct7.fr fb (by clear hsP; intro c hc; unfold noA; omega)
    · show zI (sI s6 0 2 0) 12 3 = nI 0
      rw [c6 _ _ (by decide), c12, hI1 _ _ (by decide), e123]; rfl
    · have : t = 0 := by clear hsP; omega
      subst this
      show zI (sI s6 0 2 0) 13 (24 * 0 + i) = P.sg i
      rw [c6 _ _ (by decide), hI6 _ _ (by decide) (by decide), show 24 * 0 + i = i by omega]; exact hI13 i hi
    · have : t = 0 := by clear hsP; omega
      subst this
      show zI (sI s6 0 2 0) 14 (24 * 0 + i) = P.al i
      rw [c6 _ _ (by decide), show 24 * 0 + i = i by omega]; exact hI614 i hi
    · show zI (sI s6 0 2 0) 12 4 = 0
      rw [c6 _ _ (by decide), c12, hI1 _ _ (by decide), e124]
    · show zI (sI s6 0 2 0) 0 3 = -1
      rw [zI_ne _ (.inr (by decide))]; exact e03
    · show zI (sI s6 0 2 0) 0 4 = 0
      rw [zI_ne _ (.inr (by decide))]; exact e04
    · show zI (sI s6 0 2 0) 0 2 = 0
      rw [zI_self]
    · exact zJ_self _ _ _ _
