/-! PURE HALF: a clause, a whole text: the class. -/
set_option maxRecDepth 100000
noncomputable def clb (n : Nat) (tx : Nat → Int32) (k : Nat) (P : PT) : PR (PT × Nat) := if kW n tx k = 7 then .inl (1, k) else if flC (kW n tx k) P then .inl (3, k) else bdy n tx (kW n tx k) P (k + wl n tx k)
theorem cla_eq (n : Nat) (tx : Nat → Int32) (k : Nat) (P : PT) : cla n tx k P = pB (clb n tx k P) (semi n tx) := by
  unfold cla clb
  split
  · rfl
  · split <;> rfl
theorem kW_le (n : Nat) (tx : Nat → Int32) (k : Nat) : kW n tx k ≤ 7 := by unfold kW; repeat' split <;> try omega
theorem kW_wl {n : Nat} {tx : Nat → Int32} {k : Nat} (h : kW n tx k ≠ 7) : wl n tx k ≤ 6 := by
  have aux : ∀ l : List Int32, l.length ≤ 6 → eqL n tx k l = true → wl n tx k ≤ 6 := fun l hl he => by have := (eqL_iff.mp he).1; omega
  unfold kW at h
  split at h
  · rename_i e; exact aux _ (by decide) e
  split at h
  · rename_i e; exact aux _ (by decide) e
  split at h
  · rename_i e; exact aux _ (by decide) e
  split at h
  · rename_i e; exact aux _ (by decide) e
  split at h
  · rename_i e; exact aux _ (by decide) e
  split at h
  · rename_i e; exact aux _ (by decide) e
  split at h
  · rename_i e; exact aux _ (by decide) e
  · exact absurd rfl h
theorem kW_3 {n : Nat} {tx : Nat → Int32} {k : Nat} (h : kW n tx k = 3) : eqL n tx k l_no = true := by
  unfold kW at h
  repeat' split at h
  all_goals first | (rename_i e; exact e) | omega
theorem kW_4 {n : Nat} {tx : Nat → Int32} {k : Nat} (h : kW n tx k = 4) : eqL n tx k l_no = false := by
  unfold kW at h
  cases e : eqL n tx k l_no
  · rfl
  · rw [e] at h
    by_cases c0 : eqL n tx k l_corner = true
    · rw [if_pos c0] at h; omega
    rw [if_neg c0] at h
    by_cases c1 : eqL n tx k l_street = true
    · rw [if_pos c1] at h; omega
    rw [if_neg c1] at h
    by_cases c2 : eqL n tx k l_one = true
    · rw [if_pos c2] at h; omega
    rw [if_neg c2, if_pos rfl] at h; omega
theorem len_sh : ∀ L, L ≤ 7 → (Int32.ofNat L >>> ((0 : Int32) &&& 31)) = nI L := by
  have : ∀ a : Fin 8, (Int32.ofNat a.val >>> ((0 : Int32) &&& 31)) = nI a.val := by decide +kernel
  exact fun L hL => this ⟨L, by omega⟩
theorem c_len {s : ZS} {w v L : Nat} {f : Nat → Nat} (h : STR s w v L f) {Ret : Int32 → ZS → Prop} (hr : Ret (nI L) s) : wp_J9_length s w Ret := by
  obtain ⟨h1, h2, h3, h4, h5, h6, h7, h8, h9, h10⟩ := id h
  unfold wp_J9_length wp_J9_coder
  rw [kP_dyn h1, h5, zo_in, h7]
  refine ⟨h.k, rfl, L, by rw [kK_dyn h2]; exact h6, h.k, br_f (by decide) ⟨h.k, narY0, ?_⟩⟩
  show Ret (Int32.ofNat L >>> ((0 : Int32) &&& 31)) s
  rw [len_sh L h8]; exact hr
theorem bx_hi5 {T : Tw} (w : T.WF) : ∀ k, 16 ≤ k → btI T.bx k = false := fun k hk => by
  cases e : btI T.bx k
  · rfl
  · have := w.bx k e; have := w.nc; omega
theorem STR.setR {n : Nat} {tx : Nat → Int32} {R : Nat} {d : Ad} {d3 d4 : Nat} {P : PT} {σ : ZS} (h : RS n tx R d d3 d4 P σ) {w v L : Nat} {f : Nat → Nat} (hw : STR σ w v L f) (j : Nat) (x : Int32) : STR (sI σ R j x) w v L f := by
  obtain ⟨mr, kr⟩ := h.kr
  obtain ⟨y, kw⟩ := hw.2.2.2.1
  have nw : w ≠ R := by rintro e; rw [e, kr] at kw; cases kw
  have nv : v ≠ R := by rintro e; have := hw.2.2.2.2.2.1; rw [e, kr] at this; cases this
  exact hw.ag (fun i => zI_ne _ (.inl nw)) (fun i => zI_ne _ (.inl nv)) rfl rfl rfl
theorem c_bod {n : Nat} {tx : Nat → Int32} {R : Nat} {d : Ad} {d3 d4 : Nat} {P : PT} {σ : ZS} {B : Nat} (hB : 1239 ≤ B ∧ B ≤ R) (hs : RS n tx R d d3 d4 P σ) (bd : BD B d P.T.ns) (h3B : B ≤ d3 ∧ B ≤ d4) (hBz : B ≤ zt σ) (rm : zt σ + 4 ≤ 160000 ∧ zn σ + 120 ≤ 8000000) {q w v L : Nat} {f : Nat → Nat} (hw : STR σ w v L f) (hq : q ≤ n) (e2 : zI σ R 2 = nI q) {κ : Nat} (hκ : κ ≤ 6) (u0 : ¬ (κ = 0 ∧ P.T.nc = 16)) (u1 : ¬ (κ = 1 ∧ P.T.ns = 24)) (u5 : ¬ (κ = 5 ∧ cnt (btI P.T.bx) 24 = 10)) (u6 : ¬ (κ = 6 ∧ P.T.nr = 12)) (h3 : κ = 3 → eqS f L l_no = true) (h4 : κ = 4 → eqS f L l_no = false) {Thr : Nat → ZS → Prop} {Ret : ZS → Prop} (ht : BT B σ (bdy n tx κ P q) Thr) (hr : BRt n tx R d.tw d3 d4 B σ (bdy n tx κ P q) Ret) : V_X5_clause_543 Thr Ret σ R w (sw2 κ) := by
  have wf := hs.pw.1
  have h16 := wf.nc; have h24 := wf.ns; have h12 := wf.nr
  have l0 : κ = 0 → P.T.nc < 16 := fun e => by
    have : ¬ P.T.nc = 16 := fun h => u0 ⟨e, h⟩
    omega
  have l1 : κ = 1 → P.T.ns < 24 := fun e => by
    have : ¬ P.T.ns = 24 := fun h => u1 ⟨e, h⟩
    omega
  have l6 : κ = 6 → P.T.nr < 12 := fun e => by
    have : ¬ P.T.nr = 12 := fun h => u6 ⟨e, h⟩
    omega
  by_cases e0 : κ = 0
  · subst e0; rw [show sw2 0 = 0 from rfl]; exact c_b0 hB hs bd hBz rm hq e2 (l0 rfl) ht hr
  by_cases e1 : κ = 1
  · subst e1; rw [show sw2 1 = 1 from rfl]; exact c_b1 hB hs bd hBz rm hq e2 (l1 rfl) ht hr
  by_cases e2' : κ = 2
  · subst e2'; rw [show sw2 2 = 2 from rfl]; exact c_b2 hB hs bd rm hq e2 ht hr
  by_cases e3 : κ = 3
  · subst e3
    rw [show sw2 3 = 3 from rfl]
    unfold V_X5_clause_543
    exact br_f (by decide) (br_f (by decide) (br_f (by decide) (br_t rfl (c_b34 hB hs bd h3B rm hw hq e2 (.inl ⟨rfl, h3 rfl⟩) ht hr))))
  by_cases e4 : κ = 4
  · subst e4
    rw [show sw2 4 = 4 from rfl]
    unfold V_X5_clause_543
    exact br_f (by decide) (br_f (by decide) (br_f (by decide) (br_f (by decide) (br_t rfl (c_b34 hB hs bd h3B rm hw hq e2 (.inr ⟨rfl, h4 rfl⟩) ht hr)))))
  by_cases e5 : κ = 5
  · subst e5; rw [show sw2 5 = 5 from rfl]; exact c_b5 hB hs bd rm hq e2 (fun h => u5 ⟨rfl, h⟩) ht hr
  have e6 : κ = 6 := by omega
  subst e6; rw [show sw2 6 = -1 from rfl]; exact c_b6 hB hs bd hBz rm hq e2 (l6 rfl) ht hr
theorem c_195 {n : Nat} {tx : Nat → Int32} {R : Nat} {d : Ad} {d3 d4 : Nat} {P : PT} {s1 : ZS} (hs1 : RS n tx R d d3 d4 P s1) {κ w : Nat} (hκ : κ ≤ 7) {b : Bool} (hb : b = decide (P.cl = 60)) {Thr : Nat → ZS → Prop} {Ret : ZS → Prop} (v : κ ≠ 7 → ∀ b : Bool, b = flC κ P → V_X5_clause_360 Thr Ret s1 R w (b2i b)) (h7 : κ = 7 → wp_X5_wrong s1 R (fun r335 σ336 => r335 = some (.inl (zo r335)) ∧ (Thr (zo r335) σ336))) : V_X5_clause_195 Thr Ret s1 R w (b2i b) (sw1 κ) := by
  have wf := hs1.pw.1
  have h16 := wf.nc; have h24 := wf.ns; have h12 := wf.nr
  unfold V_X5_clause_195
  rw [hs1.r4', zo_in, hs1.P0, hs1.P1, hs1.P2, zo_in, zo_in, zo_in]
  by_cases e0 : κ = 0
  · subst e0
    rw [show sw1 0 = 0 from rfl]
    refine br_t rfl (br0 (fun h0 => ⟨hs1.k11, rfl, hs1.kT, rfl, hs1.lcT.kl, j_size hs1.lcT ?_⟩) fun h0 => ?_)
    · rw [h0] at hb
      have h60 : P.cl ≠ 60 := by simpa using hb.symm
      rw [show (16 : Int32) = nI 16 from rfl, nI_eq (by omega) (by decide)]
      exact ⟨fun e => v (by decide) true (by unfold flC; simp [e]), fun e => v (by decide) false (by unfold flC; simp [e, h60])⟩
    · rw [h0] at hb
      have h60 : P.cl = 60 := by simpa using hb.symm
      exact v (by decide) true (by unfold flC; simp [h60])
  by_cases e1 : κ = 1
  · subst e1
    rw [show sw1 1 = 1 from rfl]
    refine br_f (by decide) (br_t rfl (br0 (fun h0 => ⟨hs1.k11, rfl, hs1.kT, rfl, hs1.lsT.kl, j_size hs1.lsT ?_⟩) fun h0 => ?_))
    · rw [h0] at hb
      have h60 : P.cl ≠ 60 := by simpa using hb.symm
      rw [n24, nI_eq (by omega) (by decide)]
      exact ⟨fun e => v (by decide) true (by unfold flC; simp [e]), fun e => v (by decide) false (by unfold flC; simp [e, h60])⟩
    · rw [h0] at hb
      have h60 : P.cl = 60 := by simpa using hb.symm
      exact v (by decide) true (by unfold flC; simp [h60])
  by_cases e2 : κ = 2
  · subst e2
    rw [show sw1 2 = 4 from rfl]
    refine br_f (by decide) (br_f (by decide) (br_f (by decide) (br_f (by decide) (br_t rfl ?_))))
    exact v (by decide) b (by unfold flC; rw [hb]; simp)
  by_cases e3 : κ = 3
  · subst e3
    rw [show sw1 3 = 5 from rfl]
    refine br_f (by decide) (br_f (by decide) (br_f (by decide) (br_f (by decide) (br_f (by decide) (br_t rfl ?_)))))
    exact v (by decide) b (by unfold flC; rw [hb]; simp)
  by_cases e4 : κ = 4
  · subst e4
    rw [show sw1 4 = 6 from rfl]
    refine br_f (by decide) (br_f (by decide) (br_f (by decide) (br_f (by decide) (br_f (by decide) (br_f (by decide) (br_t rfl ?_))))))
    exact v (by decide) b (by unfold flC; rw [hb]; simp)
  by_cases e5 : κ = 5
  · subst e5
    rw [show sw1 5 = 3 from rfl]
    refine br_f (by decide) (br_f (by decide) (br_f (by decide) (br_t rfl (br0 (fun h0 => ⟨hs1.k11, rfl, hs1.kT, ?_⟩) fun h0 => ?_))))
    · rw [h0] at hb
      have h60 : P.cl ≠ 60 := by simpa using hb.symm
      rw [hs1.bx]
      refine c_bitCount (bx_hi5 wf) ?_
      have := cnt_le (btI P.T.bx) 24
      rw [show (10 : Int32) = nI 10 from rfl, nI_eq (by omega) (by decide)]
      exact ⟨fun e => v (by decide) true (by unfold flC; simp [e]), fun e => v (by decide) false (by unfold flC; simp [e, h60])⟩
    · rw [h0] at hb
      have h60 : P.cl = 60 := by simpa using hb.symm
      exact v (by decide) true (by unfold flC; simp [h60])
  by_cases e6 : κ = 6
  · subst e6
    rw [show sw1 6 = 2 from rfl]
    refine br_f (by decide) (br_f (by decide) (br_t rfl (br0 (fun h0 => ⟨hs1.k11, rfl, hs1.kT, rfl, hs1.lrT.kl, j_size hs1.lrT ?_⟩) fun h0 => ?_)))
    · rw [h0] at hb
      have h60 : P.cl ≠ 60 := by simpa using hb.symm
      rw [show (12 : Int32) = nI 12 from rfl, nI_eq (by omega) (by decide)]
      exact ⟨fun e => v (by decide) true (by unfold flC; simp [e]), fun e => v (by decide) false (by unfold flC; simp [e, h60])⟩
    · rw [h0] at hb
      have h60 : P.cl = 60 := by simpa using hb.symm
      exact v (by decide) true (by unfold flC; simp [h60])
  have e7 : κ = 7 := by omega
  subst e7
  rw [show sw1 7 = -1 from rfl]
  refine br_f (by decide) (br_f (by decide) (br_f (by decide) (br_f (by decide) (br_f (by decide) (br_f (by decide) (br_f (by decide) ⟨hs1.k11, ?_⟩))))))
  exact h7 rfl
theorem c_clause {n : Nat} {tx : Nat → Int32} {R : Nat} {d : Ad} {d3 d4 : Nat} {P : PT} {σ : ZS} {B : Nat} (hB : 1239 ≤ B ∧ B ≤ R) (hs : RS n tx R d d3 d4 P σ) (bd : BD B d P.T.ns) (h3B : B ≤ d3 ∧ B ≤ d4) (hBz : B ≤ zt σ) (rm : zt σ + 4 ≤ 160000 ∧ zn σ + 120 ≤ 8000000) (hcl : P.cl ≤ 60) {k w v : Nat} (hw : STR σ w v (min 7 (wl n tx k)) (fun j => ch n tx (k + j))) (hBw : B ≤ w) (hk : k ≤ n) (e2 : zI σ R 2 = nI k) {Thr : Nat → ZS → Prop} {Ret : ZS → Prop} (ht : BT B σ (clb n tx k P) Thr) (hr : BRt n tx R d.tw d3 d4 B σ (clb n tx k P) Ret) : wp_X5_clause σ R w Thr Ret := by
  have hRl := hs.Rl
  have hzb := hs.zb
  have hn := hs.hn
  have oR := hs.oR
  have wf := hs.pw.1
  have h16 := wf.nc; have h24 := wf.ns; have h12 := wf.nr
  obtain ⟨mr, kr⟩ := hs.kr
  obtain ⟨xw, kw⟩ := hw.2.2.2.1
  have nw : R ≠ w := by rintro e; rw [e, kw] at kr; cases kr
  have lw' : w < zt σ := hs.lt (by rw [kw]; simp)
  have hw6 : w < 1000000 := by omega
  have hR6 : R < 1000000 := by omega
  have hn1 : zt σ + 1 ≤ 160000 ∧ zn σ + 8 ≤ 8000000 := by omega
  have inw : ∀ c, c = w → inD B c := fun c hc => by subst hc; exact ⟨hBw, hw6⟩
  have frw : ∀ s', Fr (fun c => c = w) σ s' → Gw (inD B) 0 0 σ s' := fun s' f => (f.mono inw).gw
  have cdR : ∀ j, cd R j = R := fun j => by unfold cd; rw [if_neg (by omega), if_neg (by omega)]
  generalize hf : (fun j => ch n tx (k + j)) = f at hw
  have hκ : kS f (min 7 (wl n tx k)) = kW n tx k := by rw [← hf]; exact kS_W n tx k
  have hno : eqS f (min 7 (wl n tx k)) l_no = eqL n tx k l_no := by rw [← hf]; exact eqS_L (by decide)
  have hκ7 := kW_le n tx k
  have hwl7 := @kW_wl n tx k
  have h3 := @kW_3 n tx k
  have h4 := @kW_4 n tx k
  have hwn := wl_le (tx := tx) hk
  unfold clb at ht hr
  generalize kW n tx k = κ at hκ hκ7 ht hr hwl7 h3 h4
  -- behind the first switch
  have v360 : ∀ s1, Fr (fun c => c = w) σ s1 → STR s1 w v (min 7 (wl n tx k)) f → κ ≠ 7 → ∀ b : Bool, b = flC κ P → V_X5_clause_360 Thr Ret s1 R w (b2i b) := by
    intro s1 f1 hw1 hk7 b hb
    have hs1 := hs.frw f1 hw.1 hw.2.2.2.1
    have e21 : zI s1 R 2 = nI k := by rw [f1.1 R 2 (by rw [cdR]; exact nw)]; exact e2
    have g1 := frw s1 f1
    have zt1 : zt s1 = zt σ := f1.et
    have zn1 : zn s1 = zn σ := f1.en
    rw [if_neg hk7] at ht hr
    have hwl := hwl7 hk7
    unfold V_X5_clause_360
    refine br0 (fun h0 => ?_) fun h0 => ?_
    · rw [← hb, h0, if_neg (by simp)] at ht hr
      rw [h0] at hb
      refine ⟨hs1.k11, hw1.k, c_len hw1 ⟨hs1.k11, nm_e ?_⟩⟩
      rw [e21, show min 7 (wl n tx k) = wl n tx k from Nat.min_eq_right (Nat.le_succ_of_le hwl), nI_add]
      rw [show min 7 (wl n tx k) = wl n tx k from Nat.min_eq_right (Nat.le_succ_of_le hwl)] at hw1 hκ hno
      have hs2 := hs1.setR (j := 2) (by decide) (nI (k + wl n tx k))
      have hw2 := STR.setR hs1 hw1 2 (nI (k + wl n tx k))
      have g2 : Gw (inD B) 0 0 σ (sI s1 R 2 (nI (k + wl n tx k))) := g1.trans (gw_sI hB.2 hR6 hB.1)
      refine c_sw2 hw2 (Q := fun s x => V_X5_clause_543 Thr Ret s R w x) fun s3 f3 hw3 => ?_
      have hs3 := hs2.frw f3 hw2.1 hw2.2.2.2.1
      have e23 : zI s3 R 2 = nI (k + wl n tx k) := by rw [f3.1 R 2 (by rw [cdR]; exact nw)]; exact zI_self _ _ _ _
      have g3 : Gw (inD B) 0 0 σ s3 := g2.trans (f3.mono inw).gw
      have zt3 : zt s3 = zt σ := by rw [f3.et]; exact zt1
      have zn3 : zn s3 = zn σ := by rw [f3.en]; exact zn1
      rw [hκ]
      have ht3 : BT B s3 (bdy n tx κ P (k + wl n tx k)) Thr := fun e he x σ' hx => ht e he x σ' ((EX.tr g3 hx).mono (by decide) (by decide))
      have hr3 : BRt n tx R d.tw d3 d4 B s3 (bdy n tx κ P (k + wl n tx k)) Ret := fun P' q' he σ' d' a1 a2 a3 a4 a5 => hr P' q' he σ' d' a1 a2 a3 a4 ((g3.trans a5).mono (fun _ k => k) (by decide) (by decide))
      have rm3 : zt s3 + 4 ≤ 160000 ∧ zn s3 + 120 ≤ 8000000 := by rw [zt3, zn3]; exact rm
      have hfl : P.cl ≠ 60 ∧ ¬ (κ = 0 ∧ P.T.nc = 16) ∧ ¬ (κ = 1 ∧ P.T.ns = 24) ∧ ¬ (κ = 5 ∧ cnt (btI P.T.bx) 24 = 10) ∧ ¬ (κ = 6 ∧ P.T.nr = 12) := by
        have := hb.symm
        unfold flC at this
        simp only [Bool.or_eq_false_iff, decide_eq_false_iff_not] at this
        exact ⟨this.1.1.1.1, this.1.1.1.2, this.1.1.2, this.1.2, this.2⟩
      obtain ⟨-, u0, u1, u5, u6⟩ := hfl
      exact c_bod hB hs3 bd h3B (by rw [zt3]; exact hBz) rm3 hw3 hwn e23 (Nat.le_of_lt_succ (Nat.lt_of_le_of_ne hκ7 hk7)) u0 u1 u5 u6 (fun h => hno.trans (h3 h)) (fun h => hno.trans (h4 h)) ht3 hr3
    · rw [← hb, h0, if_pos rfl] at ht
      exact c_newW (kd := 3) g1 hs1 hB.2 (by rw [zt1, zn1]; exact hn1) e21 fun x σ' hx => ht (3, k) rfl x σ' (hx.mono (by decide) (by decide))
  -- the first switch
  have v17 : ∀ b : Bool, b = decide (P.cl = 60) → V_X5_clause_17 Thr Ret σ R w (b2i b) := by
    intro b hb
    unfold V_X5_clause_17
    refine c_sw1 hw (Q := fun s x => V_X5_clause_195 Thr Ret s R w (b2i b) x) fun s1 f1 hw1 => ?_
    have hs1 := hs.frw f1 hw.1 hw.2.2.2.1
    have e21 : zI s1 R 2 = nI k := by rw [f1.1 R 2 (by rw [cdR]; exact nw)]; exact e2
    have g1 := frw s1 f1
    have zt1 : zt s1 = zt σ := f1.et
    have zn1 : zn s1 = zn σ := f1.en
    have v := v360 s1 f1 hw1
    rw [hκ]
    exact c_195 hs1 hκ7 hb v fun e7 => c_wrong g1 hs1 hB.2 (by rw [zt1, zn1]; exact hn1) e21 fun x σ' hx => ht (1, k) (if_pos e7) x σ' (hx.mono (by decide) (by decide))
  unfold wp_X5_clause
  rw [hs.r4', zo_in, hs.cl, show (60 : Int32) = nI 60 from rfl, nI_eq (by omega) (by decide)]
  exact ⟨hs.k11, rfl, hs.kT, fun e => v17 true (by simp [e]), fun e => v17 false (by simp [e])⟩
