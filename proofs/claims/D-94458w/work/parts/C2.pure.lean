/-! PURE HALF: clauses, the reading loop: the model. -/
set_option maxRecDepth 100000
def SRc (c : Nat) : Prop := SRd c ∨ c = 1000007
theorem SRd_c : ∀ c, SRd c → SRc c := fun _ h => .inl h
abbrev BTc (n : Nat) (σ : ZS) (res : PR (PT × Nat)) (Ret : ZS → Prop) : Prop := ∀ e, res = .inl e → ∀ σ', Fr SRc σ σ' → MFs n e σ' → Ret σ'
abbrev BRc (σ : ZS) (res : PR (PT × Nat)) (Ret : ZS → Prop) : Prop := ∀ P' q, res = .inr (P', q) → ∀ σ', Fr SRc σ σ' → MQt P' σ' → zI σ' 44 4 = nI q → zI σ' 44 5 = 0 → zI σ' 44 7 = nI P'.cl → zI σ' 44 6 = zI σ 44 6 → Ret σ'
theorem MQt.cl {P : PT} {σ : ZS} (h : MQt P σ) (c : Nat) : MQt (P.T, P.sg, P.al, c) σ := h
theorem bdy_cl {n : Nat} {tx : Nat → Int32} {κ : Nat} {P P' : PT} {q q' : Nat} (hq : q ≤ n) (h : bdy n tx κ P q = .inr (P', q')) : q' ≤ n ∧ P'.cl = P.cl := ⟨(bdy_pos hq h).2.1, (bdy_pos hq h).2.2⟩
theorem m_clause {n : Nat} {tx : Nat → Int32} {P : PT} {σ : ZS} (h : MXt n tx σ) (hq : MQt P σ) {k : Nat} (hk : k ≤ n) (hsk : sk n tx k = k) (e4 : zI σ 44 4 = nI k) (e5 : zI σ 44 5 = 0) (e7 : zI σ 44 7 = nI P.cl) (hcl : P.cl ≤ 60) {Ret : ZS → Prop} (ht : BTc n σ (cla n tx k P) Ret) (hr : BRc σ (cla n tx k P) Ret) : wp_X4_clause σ Ret := by
  have hn := h.1
  have wf := hq.pw.1
  have h16 := wf.nc; have h24 := wf.ns; have h12 := wf.nr
  have hwn := wl_le (tx := tx) hk
  have hκ7 := kW_le n tx k
  unfold wp_X4_clause
  refine m_kindHere h hk hsk e4 e5 ?_
  unfold cla at ht hr
  generalize kW n tx k = κ at ht hr hκ7
  -- a fault is laid
  have lay : ∀ c : Nat, 1 ≤ c → c ≤ 3 → (∀ σ', Fr SRc σ σ' → MFs n (c, k) σ' → Ret σ') → ∀ x1, wp_X4_wrong σ (nI c) (zI σ 44 4) (fun σ39 => V_X4_clause_107 Ret σ39 x1) := fun c h1 h3 hret x1 => by
    unfold wp_X4_wrong
    rw [e4]
    refine br_t e5 (nm_e (nm_e ?_))
    have mf : MFs n (c, k) (sI (sI σ 44 5 (nI c)) 44 6 (nI k)) := by
      refine ⟨⟨k, hk, ?_⟩, ?_, zI_self _ _ _ _, h1, h3⟩
      · rw [zI_ne _ (.inr (by decide)), zI_ne _ (.inr (by decide))]; exact e4
      · rw [zI_ne _ (.inr (by decide)), zI_self]
    unfold V_X4_clause_107
    exact br_f mf.f0 (hret _ (((Fr.rfl.sI 44 5 _ (by unfold SRd cd; simp)).sI 44 6 _ (by unfold SRd cd; simp) : Fr SRd σ _).mono SRd_c) mf)
  by_cases e7' : κ = 7
  · rw [e7']
    exact br_t rfl (lay 1 (by decide) (by decide) (fun σ' f mf => ht (1, k) (if_pos e7') σ' f mf) _)
  rw [if_neg e7'] at ht hr
  have ek : kIw κ = nI κ := by unfold kIw; rw [if_neg e7']
  rw [ek]
  refine br_f (by rw [nI_m1 (by omega)]; exact id) ?_
  have full : flC κ P = true → V_X4_clause_98 Ret σ (nI κ) := fun hf => by
    unfold V_X4_clause_98
    exact lay 3 (by decide) (by decide) (fun σ' f mf => ht (3, k) (if_pos hf) σ' f mf) _
  have go : flC κ P = false → V_X4_clause_107 Ret σ (nI κ) := fun hf => by
    rw [hf, if_neg (by simp)] at ht hr
    have hfl : P.cl ≠ 60 ∧ ¬ (κ = 0 ∧ P.T.nc = 16) ∧ ¬ (κ = 1 ∧ P.T.ns = 24) ∧ ¬ (κ = 5 ∧ cnt (btI P.T.bx) 24 = 10) ∧ ¬ (κ = 6 ∧ P.T.nr = 12) := by
      unfold flC at hf
      simp only [Bool.or_eq_false_iff, decide_eq_false_iff_not] at hf
      exact ⟨hf.1.1.1.1, hf.1.1.1.2, hf.1.1.2, hf.1.2, hf.2⟩
    obtain ⟨-, u0, u1, u5, u6⟩ := hfl
    unfold V_X4_clause_107
    refine br_t e5 (m_skipWord h hk e4 (nm_e ?_))
    have e77 : zI (sI σ 44 4 (nI (k + wl n tx k))) 44 7 = nI P.cl := by rw [zI_ne _ (.inr (by decide))]; exact e7
    rw [e77, nI1]
    have f1 : Fr SRc σ (sI (sI σ 44 4 (nI (k + wl n tx k))) 44 7 (nI (P.cl + 1))) := ((Fr.rfl.sI 44 4 _ (by unfold SRd cd; simp) : Fr SRd σ _).mono SRd_c).sI 44 7 _ (.inr rfl)
    have x1 : MXt n tx (sI (sI σ 44 4 (nI (k + wl n tx k))) 44 7 (nI (P.cl + 1))) := (h.set (by decide) _).set (by decide) _
    have fa : Fr (fun c => c = 1000004 ∨ c = 1000007) σ (sI (sI σ 44 4 (nI (k + wl n tx k))) 44 7 (nI (P.cl + 1))) := (Fr.rfl.sI 44 4 _ (.inl rfl)).sI 44 7 _ (.inr rfl)
    have q1 := hq.fr fa (by intro c hc; unfold noQ; omega)
    have a4 : zI (sI (sI σ 44 4 (nI (k + wl n tx k))) 44 7 (nI (P.cl + 1))) 44 4 = nI (k + wl n tx k) := by rw [zI_ne _ (.inr (by decide)), zI_self]
    have a5 : zI (sI (sI σ 44 4 (nI (k + wl n tx k))) 44 7 (nI (P.cl + 1))) 44 5 = 0 := by rw [zI_ne _ (.inr (by decide)), zI_ne _ (.inr (by decide))]; exact e5
    have a7 : zI (sI (sI σ 44 4 (nI (k + wl n tx k))) 44 7 (nI (P.cl + 1))) 44 7 = nI (P.cl + 1) := zI_self _ _ _ _
    have a6 : zI (sI (sI σ 44 4 (nI (k + wl n tx k))) 44 7 (nI (P.cl + 1))) 44 6 = zI σ 44 6 := by rw [zI_ne _ (.inr (by decide)), zI_ne _ (.inr (by decide))]
    generalize sI (sI σ 44 4 (nI (k + wl n tx k))) 44 7 (nI (P.cl + 1)) = s at f1 x1 q1 a4 a5 a7 a6
    clear fa e77
    -- behind the body
    have hT : BTm n s (bdy n tx κ P (k + wl n tx k)) (fun σ33 => wp_X4_closes σ33 59 (fun σ35 => Ret σ35)) := fun e he σ' f mf => m_closesF mf.f0 (ht e (by rw [he]; rfl) σ' (f1.trans (f.mono SRd_c)) mf)
    have hR : BRm s (bdy n tx κ P (k + wl n tx k)) (fun σ33 => wp_X4_closes σ33 59 (fun σ35 => Ret σ35)) := fun P' q' he σ' fss mq b4 b5 => by
      have f := fss.mono SRs_d
      have b6 : zI σ' 44 6 = zI σ 44 6 := by rw [fss.1 44 6 (by unfold SRs cd; simp)]; exact a6
      obtain ⟨hq', hcl'⟩ := bdy_cl hwn he
      rw [he] at ht hr
      have fn7 : zI σ' 44 7 = nI (P.cl + 1) := by rw [f.1 44 7 (by unfold SRd cd; simp)]; exact a7
      have fx : MXt n tx σ' := x1.fr f (by intro c hc; unfold SRd at hc; omega)
      refine m_closes fx hq' b4 b5 (fun h59 => ?_) (fun h59 s2 mf => ?_)
      · have fz : Fr (fun c => c = 1000004) σ' (sI σ' 44 4 (nI (sk n tx q' + 1))) := Fr.rfl.sI 44 4 _ rfl
        refine hr (P'.T, P'.sg, P'.al, P'.cl + 1) (sk n tx q' + 1) (by show semi n tx (P', q') = _; unfold semi; rw [if_pos h59]) _ ((f1.trans (f.mono SRd_c)).trans (fz.mono (fun c hc => .inl (by unfold SRd; omega)))) ((mq.cl _).fr fz (by intro c hc; unfold noQ; omega)) (zI_self _ _ _ _) ?_ ?_ ?_
        · rw [zI_ne _ (.inr (by decide))]; exact b5
        · rw [zI_ne _ (.inr (by decide)), fn7]; show nI (P.cl + 1) = nI (P'.cl + 1); rw [hcl']
        · rw [zI_ne _ (.inr (by decide))]; exact b6
      · exact ht (1, sk n tx q') (by show semi n tx (P', q') = _; unfold semi; rw [if_neg h59]) s2 ((f1.trans (f.mono SRd_c)).trans ((mf.1.mono f456).mono SRd_c)) mf.s
    clear ht hr
    have l0 : κ = 0 → P.T.nc < 16 := fun e => by
      have : ¬ P.T.nc = 16 := fun h => u0 ⟨e, h⟩
      omega
    have l1 : κ = 1 → P.T.ns < 24 := fun e => by
      have : ¬ P.T.ns = 24 := fun h => u1 ⟨e, h⟩
      omega
    have l6 : κ = 6 → P.T.nr < 12 := fun e => by
      have : ¬ P.T.nr = 12 := fun h => u6 ⟨e, h⟩
      omega
    by_cases c0 : κ = 0
    · subst c0; exact br_t rfl (m_b0 x1 q1 hwn a4 a5 (l0 rfl) hT hR)
    refine br_f (by rw [nI_eq0 (by omega)]; exact c0) ?_
    by_cases c1 : κ = 1
    · subst c1; exact br_t rfl (m_b1 x1 q1 hwn a4 a5 (l1 rfl) hT hR)
    refine br_f (by rw [nI_eq1 (by omega)]; exact c1) ?_
    by_cases c2 : κ = 2
    · subst c2; exact br_t rfl (m_b2 x1 q1 hwn a4 a5 hT hR)
    refine br_f (by rw [n2, nI_eq (by omega) (by decide)]; exact c2) ?_
    by_cases c3 : κ = 3
    · subst c3; exact br_t (by decide) (br_t rfl (m_b34 x1 q1 hwn a4 a5 (.inl ⟨rfl, rfl⟩) hT hR))
    by_cases c4 : κ = 4
    · subst c4; exact br_t (by decide) (br_f (by decide) (m_b34 x1 q1 hwn a4 a5 (.inr ⟨rfl, rfl⟩) hT hR))
    refine br_f (by rw [show (5 : Int32) = nI 5 from rfl, nI_ltI (by omega) (by decide)]; omega) ?_
    by_cases c5 : κ = 5
    · subst c5; exact br_t rfl (m_b5 x1 q1 hwn a4 a5 (fun h => u5 ⟨rfl, h⟩) hT hR)
    refine br_f (by rw [show (5 : Int32) = nI 5 from rfl, nI_eq (by omega) (by decide)]; exact c5) ?_
    have c6 : κ = 6 := by omega
    subst c6
    exact m_b6 x1 q1 hwn a4 a5 (l6 rfl) hT hR
  rw [e7, ix0, show (60 : Int32) = nI 60 from rfl, nI_eq (by omega) (by decide)]
  refine ⟨fun c => full (by unfold flC; simp [c]), fun c => ?_⟩
  rw [hq.m0]
  have v81 : ¬ (κ = 0 ∧ P.T.nc = 16) → ¬ (κ = 1 ∧ P.T.ns = 24) → ¬ (κ = 5 ∧ cnt (btI P.T.bx) 24 = 10) → V_X4_clause_81 Ret σ (nI κ) := fun a0 a1 a5 => by
    unfold V_X4_clause_81
    rw [show (6 : Int32) = nI 6 from rfl, nI_eq (by omega) (by decide), ix3, hq.m3, show (12 : Int32) = nI 12 from rfl, nI_eq (by omega) (by decide)]
    refine ⟨fun k6 => ⟨fun c => full (by unfold flC; simp [k6, c]), fun c' => go ?_⟩, fun k6 => go ?_⟩
    · unfold flC; simp [c, k6, c']
    · unfold flC; simp [c, k6]; exact ⟨⟨fun x y => a0 ⟨x, y⟩, fun x y => a1 ⟨x, y⟩⟩, fun x y => a5 ⟨x, y⟩⟩
  have v62 : ¬ (κ = 0 ∧ P.T.nc = 16) → ¬ (κ = 1 ∧ P.T.ns = 24) → V_X4_clause_62 Ret σ (nI κ) := fun a0 a1 => by
    unfold V_X4_clause_62
    rw [show (5 : Int32) = nI 5 from rfl, nI_eq (by omega) (by decide), ix2, hq.m2]
    refine ⟨fun k5 => m_ones ?_, fun k5 => v81 a0 a1 (fun x => k5 x.1)⟩
    have := cnt_le (btI P.T.bx) 24
    rw [show (10 : Int32) = nI 10 from rfl, nI_eq (by omega) (by decide)]
    exact ⟨fun c => full (by unfold flC; simp [k5, c]), fun c => v81 a0 a1 (fun x => c x.2)⟩
  have v46 : ¬ (κ = 0 ∧ P.T.nc = 16) → V_X4_clause_46 Ret σ (nI κ) := fun a0 => by
    unfold V_X4_clause_46
    rw [nI_eq1 (by omega), ix1, hq.m1, n24, nI_eq (by omega) (by decide)]
    exact ⟨fun k1 => ⟨fun c => full (by unfold flC; simp [k1, c]), fun c => v62 a0 (fun x => c x.2)⟩, fun k1 => v62 a0 (fun x => k1 x.1)⟩
  rw [nI_eq0 (by omega), show (16 : Int32) = nI 16 from rfl, nI_eq (by omega) (by decide)]
  exact ⟨fun k0 => ⟨fun c => full (by unfold flC; simp [k0, c]), fun c => v46 (fun x => c x.2)⟩, fun k0 => v46 (fun x => k0 x.1)⟩
theorem semi_pos {n : Nat} {tx : Nat → Int32} {r : PT × Nat} {P' : PT} {q' : Nat} (hr : r.2 ≤ n) (h : semi n tx r = .inr (P', q')) : r.2 < q' ∧ q' ≤ n ∧ P'.cl = r.1.cl + 1 := by
  unfold semi at h
  split at h
  · rename_i h59
    injection h with h; injection h with e1 e2
    have h1 := (sk_is n tx r.2).1
    have h2 : sk n tx r.2 < n := by
      rcases Nat.lt_or_ge (sk n tx r.2) n with l | l
      · exact l
      · rw [ch_out l] at h59; cases h59
    rw [← e2, ← e1]; exact ⟨by omega, by omega, rfl⟩
  · cases h
theorem cla_pos {n : Nat} {tx : Nat → Int32} {k : Nat} {P P' : PT} {q' : Nat} (hk : k ≤ n) (hcl : P.cl ≤ 60) (h : cla n tx k P = .inr (P', q')) : k < q' ∧ q' ≤ n ∧ P'.cl ≤ 60 := by
  rw [cla_eq] at h
  cases hc : clb n tx k P with
  | inl e => rw [hc] at h; cases h
  | inr r =>
    rw [hc] at h
    obtain ⟨a1, a2, a3, a4⟩ := clb_pos (P' := r.1) (q' := r.2) hk hcl hc
    obtain ⟨b1, b2, b3⟩ := semi_pos a2 h
    exact ⟨by omega, b2, by omega⟩
theorem m_loop {n : Nat} {tx : Nat → Int32} {σ0 : ZS} (h0 : MXt n tx σ0) {Ret : Int32 → ZS → Prop} {res : PR PT} (ht : ∀ e, res = .inl e → ∀ s, Fr SRc σ0 s → MFs n e s → V_X4_town_143 Ret s) (hr : ∀ P, res = .inr P → ∀ s, Fr SRc σ0 s → MQt P s → zI s 44 5 = 0 → zI s 44 6 = zI σ0 44 6 → V_X4_town_143 Ret s) :
    ∀ f k P s, n - k < f → k ≤ n → sk n tx k = k → P.cl ≤ 60 → Fr SRc σ0 s → MQt P s → zI s 44 4 = nI k → zI s 44 5 = 0 → zI s 44 7 = nI P.cl → zI s 44 6 = zI σ0 44 6 → prs n tx f k P = res → VL_X4_town_114 Ret (f + 1) s := by
  have hn := h0.1
  intro f
  induction f with
  | zero => intro k P s hf; omega
  | succ f ih =>
    intro k P s hf hk hsk hcl fs mq e4 e5 e7 e6 er
    have hx : MXt n tx s := h0.fr fs (by intro c hc; unfold SRc SRd at hc; omega)
    rw [VL_X4_town_114]
    dsimp only
    rw [e4, hx.2.1, nI_ltI (by omega) (by omega)]
    refine br_t e5 ⟨fun l => ?_, fun l => hr P (by rw [← er, prs, if_neg l]) s fs mq e5 e6⟩
    rw [prs, if_pos l] at er
    refine m_clause hx mq hk hsk e4 e5 e7 hcl (fun e he s2 f2 mf => ?_) fun P' q' he s2 f2 mq2 b4 b5 b7 b6 => ?_
    · rw [he] at er
      have fs2 := fs.trans f2
      have hx2 : MXt n tx s2 := h0.fr fs2 (by intro c hc; unfold SRc SRd at hc; omega)
      refine m_blanksF hx2 mf fun s3 f3 mf3 => ?_
      rw [VL_X4_town_114]
      dsimp only
      exact br_f mf3.f0 (ht e er.symm s3 (fs2.trans (f3.mono (fun c hc => .inl (by unfold SRd; omega)))) mf3)
    · obtain ⟨p1, p2, p3⟩ := cla_pos hk hcl he
      rw [he] at er
      change prs n tx f (sk n tx q') P' = res at er
      have fs2 := fs.trans f2
      have hx2 : MXt n tx s2 := h0.fr fs2 (by intro c hc; unfold SRc SRd at hc; omega)
      refine m_blanks hx2 p2 b4 ?_
      have fz : Fr (fun c => c = 1000004) s2 (sI s2 44 4 (nI (sk n tx q'))) := Fr.rfl.sI 44 4 _ rfl
      have hs1 := (sk_is n tx q').1
      refine ih (sk n tx q') P' _ (by omega) (sk_le p2) (sk_sk _ _ _) p3 (fs2.trans (fz.mono (fun c hc => .inl (by unfold SRd; omega)))) (mq2.fr fz (by intro c hc; unfold noQ; omega)) (zI_self _ _ _ _) ?_ ?_ ?_ er
      · rw [zI_ne _ (.inr (by decide))]; exact b5
      · rw [zI_ne _ (.inr (by decide))]; exact b7
      · rw [zI_ne _ (.inr (by decide)), b6]; exact e6
