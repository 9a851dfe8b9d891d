/-! PURE HALF: a whole text is read: the class. -/
set_option maxRecDepth 100000
theorem numR_le {n : Nat} {tx : Nat → Int32} {k lo m : Nat} {r : Nat × Nat} (hk : k ≤ n) (h : numR n tx k lo m = .inr r) : k ≤ r.2 ∧ r.2 ≤ n := numR_pos (v := r.1) hk h
theorem bdy_pos {n : Nat} {tx : Nat → Int32} {κ : Nat} {P P' : PT} {q q' : Nat} (hq : q ≤ n) (h : bdy n tx κ P q = .inr (P', q')) : q ≤ q' ∧ q' ≤ n ∧ P'.cl = P.cl := by
  have two : ∀ {m1 m2 : Nat} {F : Nat × Nat → Nat × Nat → PR (PT × Nat)}, (∀ r r2, q ≤ r2.2 → r2.2 ≤ n → F r r2 = .inr (P', q') → q ≤ q' ∧ q' ≤ n ∧ P'.cl = P.cl) → pB (numR n tx q 0 m1) (fun r => pB (numR n tx r.2 0 m2) fun r2 => F r r2) = .inr (P', q') → q ≤ q' ∧ q' ≤ n ∧ P'.cl = P.cl := by
    intro m1 m2 F hF h
    cases h1 : numR n tx q 0 m1 with
    | inl e => rw [h1] at h; cases h
    | inr r =>
      rw [h1] at h
      have p1 := numR_le hq h1
      change pB (numR n tx r.2 0 m2) (fun r2 => F r r2) = _ at h
      cases h2 : numR n tx r.2 0 m2 with
      | inl e => rw [h2] at h; cases h
      | inr r2 =>
        rw [h2] at h
        have p2 := numR_le p1.2 h2
        exact hF r r2 (by omega) p2.2 h
  have one : ∀ {m1 : Nat} {F : Nat × Nat → PT}, (∀ r, (F r).cl = P.cl) → pB (numR n tx q 0 m1) (fun r => .inr (F r, r.2)) = .inr (P', q') → q ≤ q' ∧ q' ≤ n ∧ P'.cl = P.cl := by
    intro m1 F hF h
    cases h1 : numR n tx q 0 m1 with
    | inl e => rw [h1] at h; cases h
    | inr r =>
      rw [h1] at h
      have p1 := numR_le hq h1
      change (Sum.inr (F r, r.2) : PR (PT × Nat)) = _ at h
      injection h with h; injection h with e1 e2
      rw [← e2, ← e1]; exact ⟨p1.1, p1.2, hF r⟩
  have three : ∀ {r2 : Nat × Nat} {lo : Nat} {F : Nat × Nat → PT}, q ≤ r2.2 → r2.2 ≤ n → (∀ r, (F r).cl = P.cl) → pB (numR n tx r2.2 lo 100) (fun r => .inr (F r, r.2)) = .inr (P', q') → q ≤ q' ∧ q' ≤ n ∧ P'.cl = P.cl := by
    intro r2 lo F a1 a2 hF h
    cases h1 : numR n tx r2.2 lo 100 with
    | inl e => rw [h1] at h; cases h
    | inr r =>
      rw [h1] at h
      have p1 := numR_le a2 h1
      change (Sum.inr (F r, r.2) : PR (PT × Nat)) = _ at h
      injection h with h; injection h with e1 e2
      rw [← e2, ← e1]; exact ⟨by omega, p1.2, hF r⟩
  unfold bdy at h
  split at h
  · refine two (fun r r2 a1 a2 h => ?_) h
    split at h
    · cases h
    · injection h with h; injection h with e1 e2; rw [← e2, ← e1]; exact ⟨a1, a2, rfl⟩
  · refine two (fun r r2 a1 a2 h => ?_) h
    split at h
    · cases h
    · exact three (F := fun r3 => (adS P.T r.1 r2.1 r3.1, P.sg, P.al, P.cl)) a1 a2 (fun _ => rfl) h
  · exact one (F := fun r => (stO P.T r.1, P.sg, P.al, P.cl)) (fun _ => rfl) h
  · refine two (fun r r2 a1 a2 h => ?_) h
    split at h
    · cases h
    · injection h with h; injection h with e1 e2; rw [← e2, ← e1]; exact ⟨a1, a2, rfl⟩
  · refine two (fun r r2 a1 a2 h => ?_) h
    split at h
    · cases h
    · injection h with h; injection h with e1 e2; rw [← e2, ← e1]; exact ⟨a1, a2, rfl⟩
  · exact one (F := fun r => (stB P.T r.1, P.sg, P.al, P.cl)) (fun _ => rfl) h
  · refine two (fun r r2 a1 a2 h => ?_) h
    split at h
    · cases h
    · exact three (F := fun r3 => (adR P.T r.1 r2.1 r3.1, P.sg, P.al, P.cl)) a1 a2 (fun _ => rfl) h
theorem clb_pos {n : Nat} {tx : Nat → Int32} {k : Nat} {P P' : PT} {q' : Nat} (hk : k ≤ n) (hcl : P.cl ≤ 60) (h : clb n tx k P = .inr (P', q')) : k ≤ q' ∧ q' ≤ n ∧ P'.cl = P.cl ∧ P.cl < 60 := by
  unfold clb at h
  split at h
  · cases h
  · split at h
    · cases h
    · rename_i hf
      have := bdy_pos (wl_le hk) h
      have h60 : P.cl ≠ 60 := fun e => hf (by unfold flC; simp [e])
      exact ⟨by omega, this.2.1, this.2.2, by omega⟩
/-- what is owed at the end of a text -/
theorem c_readsL {n : Nat} {tx : Nat → Int32} {R : Nat} {d3 d4 tw : Nat} {σ0 : ZS} {B : Nat} (hB : 1239 ≤ B ∧ B ≤ R) (h3B : B ≤ d3 ∧ B ≤ d4) (hBz : B ≤ zt σ0) (hR0 : R < zt σ0) (rm : zt σ0 + 600 ≤ 160000 ∧ zn σ0 + 10000 ≤ 8000000) {Thr : Nat → ZS → Prop} {Ret : ZR → ZS → Prop} {res : PR PT} (ht : ∀ e, res = .inl e → ∀ x σ', EX B 560 9960 σ0 e x σ' → Thr x σ') (hr : ∀ P, res = .inr P → ∀ s d, RS n tx R d d3 d4 P s → BD B d P.T.ns → d.tw = tw → Gw (inD B) 550 9800 σ0 s → wp_X2_looks s tw (fun σ13 => (∃ n17, kK NS σ13 R = (11, n17)) ∧ (Ret (kP NS σ13 R 4) σ13))) :
    ∀ f k P s d, n - k < f → k ≤ n → sk n tx k = k → P.cl ≤ 60 → RS n tx R d d3 d4 P s → BD B d P.T.ns → d.tw = tw → zI s R 2 = nI k → Gw (inD B) (9 * P.cl) (160 * P.cl) σ0 s → prs n tx f k P = res → VL_X5_reads_5 Thr Ret f s R := by
  intro f
  induction f with
  | zero => intro k P s d hf; omega
  | succ f ih =>
    intro k P s d hf hk hsk hcl hs bd htw e2 g er
    have hn := hs.hn
    have k11 := hs.k11
    have ht1 := g.t1
    have ht2 := g.t2
    have htn := g.n
    have hRs : R < zt s := by omega
    have hR6 : R < 1000000 := by omega
    have hBs : B ≤ zt s := by omega
    have rmW : zt s + 4 ≤ 160000 ∧ zn s + 31 ≤ 8000000 := by omega
    have b4 : 9 * P.cl ≤ 540 := by omega
    have b5 : 160 * P.cl ≤ 9600 := by omega
    simp only [VL_X5_reads_5]
    rw [e2, hs.r1, nI_ltI (by omega) (by omega)]
    refine ⟨k11, k11, fun l => ⟨k11, ?_⟩, fun l => ⟨k11, ?_⟩⟩
    · rw [prs, if_pos l] at er
      refine c_word hs hk hsk e2 rmW fun s1 w v g1 hw1 hv1 st => ⟨rfl, ?_⟩
      have z1 := g1.t2
      have z1' := g1.n
      have z1'' := g1.t1
      rw [zo_in]
      have hs1 := hs.gw0 g1 (by omega)
      have e21 : zI s1 R 2 = nI k := by rw [g1.i R 2 hRs id]; exact e2
      have rmC : zt s1 + 4 ≤ 160000 ∧ zn s1 + 120 ≤ 8000000 := by omega
      have hBw : B ≤ w := Nat.le_trans hBs hw1
      have hBz1 : B ≤ zt s1 := Nat.le_trans hBs z1''
      have gg1 : Gw (inD B) (9 * P.cl + 4) (160 * P.cl + 31) σ0 s1 := g.trans (gwD g1)
      have pc := @clb_pos n tx k P
      have kc1 : 9 * P.cl + 4 + 4 ≤ 560 := by omega
      have kc2 : 160 * P.cl + 31 + 120 ≤ 9960 := by omega
      rw [cla_eq] at er
      refine ⟨hs1.k11, c_clause hB hs1 bd h3B hBz1 rmC hcl st hBw hk e21 (fun e he x σ' hx => ht e ?_ x σ' ((EX.tr gg1 hx).mono kc1 kc2)) fun P' q' he s2 d2 hs2 e22 htw2 bd2 g2 => ?_⟩
      · rw [← er, he]; rfl
      obtain ⟨pc1, pc2, pc3, pc4⟩ := pc hk hcl he
      rw [he] at er
      change pB (semi n tx (P', q')) _ = res at er
      have gg2 : Gw (inD B) (9 * P.cl + 4 + 4) (160 * P.cl + 31 + 120) σ0 s2 := gg1.trans g2
      clear hs hs1 st
      have zz1 := gg2.t2
      have zz2 := gg2.n
      have zz3 := gg2.t1
      have rmN : zt s2 + 1 ≤ 160000 ∧ zn s2 + 8 ≤ 8000000 := by omega
      have kc3 : 9 * P.cl + 4 + 4 + 1 ≤ 560 := by omega
      have kc4 : 160 * P.cl + 31 + 120 + 8 ≤ 9960 := by omega
      have hsk2 := sk_le (tx := tx) pc2
      have hsk1 := (sk_is n tx q').1
      have kf1 : n - sk n tx (sk n tx q' + 1) < f := by
        have := (sk_is n tx (sk n tx q' + 1)).1
        omega
      refine ⟨hs2.k11, c_need5 hB hs2 rmN pc2 e22 (fun hne x σ' hx => ht (1, sk n tx q') ?_ x σ' ((EX.tr gg2 hx).mono kc3 kc4)) fun heq => ?_⟩
      · rw [← er]; unfold semi; rw [if_neg hne]; rfl
      have hp1 : sk n tx q' + 1 ≤ n := by
        rcases Nat.lt_or_ge (sk n tx q') n with l2 | l2
        · exact l2
        · rw [ch_out l2] at heq; cases heq
      have er : prs n tx f (sk n tx (sk n tx q' + 1)) (P'.T, P'.sg, P'.al, P'.cl + 1) = res := by
        rw [← er]; unfold semi; rw [if_pos heq]; rfl
      have hs3 := hs2.setR (j := 2) (by decide) (nI (sk n tx q' + 1))
      have e23 : zI (sI s2 R 2 (nI (sk n tx q' + 1))) R 2 = nI (sk n tx q' + 1) := zI_self _ _ _ _
      have gg3 : Gw (inD B) (9 * P.cl + 4 + 4) (160 * P.cl + 31 + 120) σ0 (sI s2 R 2 (nI (sk n tx q' + 1))) := gg2.trans (gw_sI hB.2 hR6 hB.1)
      have ztE : zt (sI s2 R 2 (nI (sk n tx q' + 1))) = zt s2 := rfl
      generalize sI s2 R 2 (nI (sk n tx q' + 1)) = s3 at hs3 e23 gg3 ztE
      have lt3 : d2.tw < 1000000 := by
        obtain ⟨x1, x2⟩ := hs3.kt
        have := hs3.lt (a := d2.tw) (by rw [x2]; simp)
        clear hs2 hs3
        omega
      rw [hs3.r4', zo_in, hs3.cl, nI1]
      refine ⟨hs3.k11, rfl, hs3.kT, hs3.kT, nm_e ?_⟩
      have hs4 := hs3.stC (c := P'.cl + 1) hs3.pw
      have nRt : R ≠ d2.tw := by
        obtain ⟨x1, x2⟩ := hs3.kt
        obtain ⟨y1, y2⟩ := hs3.kr
        rintro e; rw [e, x2] at y2; cases y2
      have e24 : zI (sI s3 d2.tw 9 (nI (P'.cl + 1))) R 2 = nI (sk n tx q' + 1) := by rw [zI_ne _ (.inl nRt)]; exact e23
      have gg4 : Gw (inD B) (9 * P.cl + 4 + 4) (160 * P.cl + 31 + 120) σ0 (sI s3 d2.tw 9 (nI (P'.cl + 1))) := gg3.trans (gw_sI bd2.1.1 lt3 hB.1)
      generalize sI s3 d2.tw 9 (nI (P'.cl + 1)) = s4 at hs4 e24 gg4
      refine ⟨hs4.k11, c_sign hs4 hp1 e24 ?_⟩
      have kc5 : 9 * P.cl + 4 + 4 ≤ 9 * (P'.cl + 1) := by clear hs2 hs3 hs4; omega
      have kc6 : 160 * P.cl + 31 + 120 ≤ 160 * (P'.cl + 1) := by clear hs2 hs3 hs4; omega
      exact ih (sk n tx (sk n tx q' + 1)) (P'.T, P'.sg, P'.al, P'.cl + 1) _ d2 kf1 (sk_le hp1) (sk_sk _ _ _) (by show P'.cl + 1 ≤ 60; clear hs2 hs3 hs4; omega) (hs4.setR (by decide) _) bd2 (htw2.trans htw) (zI_self _ _ _ _) ((gg4.trans (gw_sI hB.2 hR6 hB.1)).mono (fun _ k => k) kc5 kc6) er
    · rw [prs, if_neg l] at er
      have h4 := hs.r4'
      have hT := hs.kT
      have := hr P er.symm s d hs bd htw (g.mono (fun _ k => k) (by omega) (by omega))
      rw [htw] at h4 hT
      rw [h4, zo_in]
      exact ⟨rfl, hT, this⟩
