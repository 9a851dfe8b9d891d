/-! PURE HALF: rounds: the class. -/
set_option maxRecDepth 100000
def BxC (T : Tw) (c : Nat) (s : ZS) : Prop := ∀ k, k < 16 → zI s 28 k = oI (bxO T c k)
theorem BxC.fr {T : Tw} {c : Nat} {s s' : ZS} {S : Nat → Prop} (h : BxC T c s) (f : Fr S s s') (hs : ∀ c, S c → c ≠ 28) : BxC T c s' := fun k hk => by
  rw [f.1 28 k fun k => hs _ k rfl]; exact h k hk
theorem c_findBoxes {T : Tw} {d : Ad} {σ : ZS} (ct : CT T d σ) {c : Nat} (hc : c < T.nc) {Ret : Int32 → ZS → Prop} (hr : ∀ s', Fr (fun c => c = 28) σ s' → BxC T c s' → Ret (nI (bxN T c)) s') : wp_X1_findBoxes σ (nI c) Ret := by
  have hnc := ct.wf.nc
  unfold wp_X1_findBoxes
  refine forL1 (fun m s v x => VL_X1_findBoxes_4 Ret m s (nI c) v x) (fun k s v => Fr (fun c => c = 28) σ s ∧ v = nI (cnt (bxq T c) k) ∧ ∀ j, j < k → zI s 28 j = oI (bxO T c j)) 16 ?_ ?_ 0 σ 0 (Nat.zero_le _) ⟨Fr.rfl, rfl, fun j hj => absurd hj (Nat.not_lt_zero _)⟩
  · rintro m s v ⟨f, rfl, g⟩
    simp only [VL_X1_findBoxes_4]
    exact br_f (by decide) (hr s f g)
  · rintro m k s v hk ⟨f, rfl, g⟩ ih
    simp only [VL_X1_findBoxes_4]
    simp only [nI1]
    refine br_t (nI_lt (b := 16) hk (by decide)) ⟨vin (by omega) (by decide), nm_e ?_⟩
    rw [ix_nI (by omega)]
    have f2 : Fr (fun c => c = 28) σ (sI s 28 k (-1)) := f.sI 28 k _ rfl
    have ct2 := ct.fr f2 (by intro c hc; unfold noA; omega)
    have g2 : ∀ j, j < k → zI (sI s 28 k (-1)) 28 j = oI (bxO T c j) := fun j hj => by rw [zI_ne _ (.inr (by omega))]; exact g j hj
    have non : bxq T c k = false → VL_X1_findBoxes_4 Ret m (sI s 28 k (-1)) (nI c) (nI (cnt (bxq T c) k)) (nI (k + 1)) := by
      intro hq
      refine ih _ _ ⟨f2, ?_, fun j hj => ?_⟩
      · show nI _ = nI (cnt _ k + _); rw [hq]; rfl
      · by_cases e : j = k
        · subst e; rw [zI_self]; unfold bxO; rw [hq]; rfl
        · exact g2 j (by omega)
    rw [nI_eq (by omega) (by omega)]
    refine ⟨fun e => nm_e (non (by unfold bxq; simp [e])), fun e => ?_⟩
    rw [ct2.pt, zo_in, ct2.bx, tst _ (by omega)]
    refine ⟨rfl, ct2.kt, br0 (fun k2 => nm_e (non (by unfold bxq; simp [k2]))) fun k2 => ⟨vin (by omega) (by decide), nm_e (nm_e (nm_e (ih _ _ ⟨f2.sI 28 k _ rfl, ?_, fun j hj => ?_⟩)))⟩⟩
    · have hq : bxq T c k = true := by unfold bxq; simp [e, k2]
      show nI _ = nI (cnt _ k + _); rw [hq]; rfl
    · have hq : bxq T c k = true := by unfold bxq; simp [e, k2]
      rw [zI_row]
      by_cases e : j = k
      · subst e; rw [if_pos rfl]; unfold bxO; rw [hq]; rfl
      · rw [if_neg e]; exact g2 j (by omega)
theorem c_with {T : Tw} {d : Ad} {s : ZS} (ct : CT T d s) {c X b : Nat} (hb : BxC T c s) (hX : X < 2 ^ bxN T c) (ha : T.isArc b = true) {Ret : Int32 → ZS → Prop} (hr : Ret (nI (wtA T c X b)) s) : wp_X1_with s (nI X) (nI b) Ret := by
  unfold wp_X1_with
  have w := ct.wf
  have hnc := w.nc
  have hfin := w.fin (Tw.arc_lt ha)
  have hn := bxN_le w c
  refine t_end ct (Tw.arc_lt ha) ⟨vin (by omega) (by decide), nm_e ?_⟩
  rw [ix_nI (by omega), hb _ (by omega)]
  unfold wtA at hr
  cases hO : bxO T c (T.fin b) with
  | none => rw [hO] at hr; exact br_t rfl hr
  | some k =>
    rw [hO] at hr
    have hk := bxO_A w ha hO
    refine br_f (by show ¬ nI k = -1; rw [nI_m1 (by omega)]; exact id) ?_
    rw [show oI (some k) = nI k from rfl, or_w (pw14 hX (by omega)) (by omega)]
    exact hr
def FC (s : ZS) (X a : Nat) : Nat := rd s 27 (48 * X + a)
theorem FC_up {T : Tw} (w : T.WF) {s : ZS} {c Y b v : Nat} (hv : v < 2 ^ 31) (hb : b < 2 * T.ns) (hl : v < FC s Y b) : UPr T c (FC s) (FC (sI s 27 (48 * Y + b) (nI v))) Y b v := by
  have := w.ns
  refine ⟨?_, hl, fun Y' x _ hx hne => ?_⟩
  · unfold FC; rw [rd_up hv, if_pos rfl]
  · unfold FC; rw [rd_up hv, if_neg (by omega)]
theorem c_goesRound {e : Ev} {σ : ZS} (h : CE e σ) {t c S : Nat} (ht : t ≤ e.tm) (hS : S < 2 ^ bxN e.T c) (hbx : BxC e.T c σ) (hm : Sm σ 27 (48 * 2 ^ bxN e.T c) 1000000) (hB : BR e.T (e.G t) c 1000000 (FC σ)) (hX : RX e.T (e.G t) c S (FC σ)) {Ret : ZS → Prop} (hr : ∀ s', Fr (fun c => c = 27) σ s' → Sm s' 27 (48 * 2 ^ bxN e.T c) 1000000 → BR e.T (e.G t) c 1000000 (FC s') → RX e.T (e.G t) c (S + 1) (FC s') → Ret s') : wp_X1_goesRound σ (nI S) (nI t) Ret := by
  have w := h.ct.wf
  have hns := w.ns
  have hn := bxN_le w c
  have hpw : 2 ^ bxN e.T c ≤ 1024 := Nat.pow_le_pow_right (n := 2) (by decide) hn
  have nm : ∀ c, c = 27 → scC c := by intro c hc; unfold scC; omega
  unfold wp_X1_goesRound
  refine lp2 (fun k s x => VL_X1_goesRound_2 Ret k s (nI S) (nI t) x) (fun s x => Fr (fun c => c = 27) σ s ∧ Sm s 27 (48 * 2 ^ bxN e.T c) 1000000 ∧ BR e.T (e.G t) c 1000000 (FC s) ∧ RX e.T (e.G t) c S (FC s) ∧ (x = 0 → ∀ a b, e.T.isArc a = true → e.T.isArc b = true → e.G t a b = true → FC s (wtA e.T c S b) b ≤ FC s S a + e.T.len b)) (fun s x => 2 * sumN (rd s 27) (48 * 2 ^ bxN e.T c) + if x = 0 then 0 else 1) ?_ σ 1 ⟨Fr.rfl, hm, hB, hX, fun e => absurd e (by decide)⟩
  rintro n s x ⟨f, m, b, rx, st⟩ ih
  simp only [VL_X1_goesRound_2]
  refine ⟨fun h0 => hr s f m b fun X a b' hXS hX2 ha hb hg => ?_, fun h0 => ?_⟩
  · by_cases e : X = S
    · subst e; exact st h0 a b' ha hb hg
    · exact rx X a b' (by omega) hX2 ha hb hg
  rw [if_neg h0] at ih
  refine forL1 (fun k s v x => VL_X1_goesRound_11 _ Ret k s (nI S) (nI t) v x) (fun i s' v' => Fr (fun c => c = 27) σ s' ∧ Sm s' 27 (48 * 2 ^ bxN e.T c) 1000000 ∧ BR e.T (e.G t) c 1000000 (FC s') ∧ RX e.T (e.G t) c S (FC s') ∧ ((v' = 0 ∧ sumN (rd s' 27) (48 * 2 ^ bxN e.T c) = sumN (rd s 27) (48 * 2 ^ bxN e.T c) ∧ ∀ a b, a < i → e.T.isArc a = true → e.T.isArc b = true → e.G t a b = true → FC s' (wtA e.T c S b) b ≤ FC s' S a + e.T.len b) ∨ (v' = 1 ∧ sumN (rd s' 27) (48 * 2 ^ bxN e.T c) < sumN (rd s 27) (48 * 2 ^ bxN e.T c)))) (2 * e.T.ns) ?_ ?_ 0 s 0 (Nat.zero_le _) ⟨f, m, b, rx, .inl ⟨rfl, rfl, fun a _ ha => absurd ha (Nat.not_lt_zero _)⟩⟩
  · rintro n2 s' x' ⟨f', m', b', rx', c'⟩
    have hs' := h.fr f' nm
    simp only [VL_X1_goesRound_11]
    refine t_arcs hs'.ct (br_f (fun k => absurd ((nI_ltI (by omega) (by omega)).mp k) (by omega)) (ih _ _ ⟨f', m', b', rx', fun e => ?_⟩ ?_))
    · rcases c' with ⟨-, -, k⟩ | ⟨k, -⟩
      · exact fun a b ha => k a b (Tw.arc_lt ha) ha
      · rw [k] at e; exact absurd e (by decide)
    · rcases c' with ⟨k, k2, -⟩ | ⟨k, k2⟩
      · rw [k]; simp; omega
      · rw [k]; simp; omega
  rintro n2 i s' x' hi ⟨f', m', b', rx', c'⟩ ih2
  have hs' := h.fr f' nm
  have hq : 48 * S + i < 48 * 2 ^ bxN e.T c := by omega
  obtain ⟨eq, bq⟩ := m' _ hq
  simp only [VL_X1_goesRound_11]
  simp only [nI1]
  refine t_arcs hs'.ct (br_t (nI_lt hi (by omega)) ?_)
  rw [nI_48mul, nI_add, ix_nI (by omega), eq]
  refine ⟨vin (by omega) (by decide), nm_e ?_⟩
  have hbq := b'.1 S i hS hi
  have hle : ∀ Y x, Y < 2 ^ bxN e.T c → x < 2 * e.T.ns → FC s' Y x ≤ 1000000 := fun Y x h1 h2 => (b'.1 Y x h1 h2).1
  change FC s' S i ≤ 1000000 ∧ (FC s' S i = 1000000 ∨ _) at hbq
  rw [show (1000000 : Int32) = nI 1000000 from rfl, nI_eq (by omega) (by omega)]
  refine ⟨fun e1 => nm_e (ih2 s' x' ⟨f', m', b', rx', ?_⟩), fun e1 => ?_⟩
  · have e1 : FC s' S i = 1000000 := e1
    rcases c' with ⟨k, k2, k3⟩ | k
    · refine .inl ⟨k, k2, fun a b ha h2 h3 h4 => ?_⟩
      by_cases e2 : a = i
      · subst e2
        have := hle (wtA e.T c S b) b (wtA_lt w hS h3) (Tw.arc_lt h3)
        omega
      · exact k3 a b (by omega) h2 h3 h4
    · exact .inr k
  have hW : Wr e.T (e.G t) c S i (FC s' S i) := hbq.2.resolve_left e1
  change V_X1_goesRound_51 _ _ Ret s' (nI S) (nI t) x' (nI i) (nI (FC s' S i)) 0
  have hits := hbq.1
  generalize hI : FC s' S i = its at hW hits e1
  refine forL1 (fun k s v x => VL_X1_goesRound_51 _ _ Ret k s (nI S) (nI t) v (nI i) (nI its) x) (fun j s3 v' => Fr (fun c => c = 27) σ s3 ∧ Sm s3 27 (48 * 2 ^ bxN e.T c) 1000000 ∧ BR e.T (e.G t) c 1000000 (FC s3) ∧ RX e.T (e.G t) c S (FC s3) ∧ ((v' = 0 ∧ sumN (rd s3 27) (48 * 2 ^ bxN e.T c) = sumN (rd s 27) (48 * 2 ^ bxN e.T c) ∧ FC s3 S i = its ∧ ∀ a b, (a < i ∨ a = i ∧ b < j) → e.T.isArc a = true → e.T.isArc b = true → e.G t a b = true → FC s3 (wtA e.T c S b) b ≤ FC s3 S a + e.T.len b) ∨ (v' = 1 ∧ sumN (rd s3 27) (48 * 2 ^ bxN e.T c) < sumN (rd s 27) (48 * 2 ^ bxN e.T c)))) (2 * e.T.ns) ?_ ?_ 0 s' x' (Nat.zero_le _) ⟨f', m', b', rx', ?_⟩
  · rintro n3 s3 x3 ⟨f3, m3, b3, rx3, c3⟩
    have hs3 := h.fr f3 nm
    simp only [VL_X1_goesRound_51]
    simp only [nI1]
    refine t_arcs hs3.ct (br_f (fun k => absurd ((nI_ltI (by omega) (by omega)).mp k) (by omega)) (nm_e (ih2 s3 x3 ⟨f3, m3, b3, rx3, ?_⟩)))
    rcases c3 with ⟨k, k2, -, k3⟩ | k
    · exact .inl ⟨k, k2, fun a b ha h1 h2 => k3 a b (by have := Tw.arc_lt h2; omega) h1 h2⟩
    · exact .inr k
  · rintro n3 j s3 x3 hj ⟨f3, m3, b3, rx3, c3⟩ ih3
    have hs3 := h.fr f3 nm
    simp only [VL_X1_goesRound_51]
    simp only [nI1]
    have skip : (e.T.isArc j = true → e.G t i j = true → FC s3 (wtA e.T c S j) j ≤ its + e.T.len j) → VL_X1_goesRound_51 (VL_X1_goesRound_2 Ret n) (VL_X1_goesRound_11 (VL_X1_goesRound_2 Ret n) Ret n2) Ret n3 s3 (nI S) (nI t) x3 (nI i) (nI its) (nI (j + 1)) := by
      intro hk
      refine ih3 s3 x3 ⟨f3, m3, b3, rx3, ?_⟩
      rcases c3 with ⟨k, k2, kI, k3⟩ | k
      · refine .inl ⟨k, k2, kI, fun a b ha h1 h2 h3 => ?_⟩
        by_cases e2 : a = i ∧ b = j
        · obtain ⟨rfl, rfl⟩ := e2; rw [kI]; exact hk h2 h3
        · exact k3 a b (by omega) h1 h2 h3
      · exact .inr k
    refine t_arcs hs3.ct (br_t (nI_lt hj (by omega)) (t_isArcN hs3.ct (by omega) (br0 (fun h2 => nm_e (skip fun k => by rw [h2] at k; cases k)) fun h2 => c_may hs3 hi hj ht (br0 (fun h3 => nm_e (skip fun _ k => by rw [h3] at k; cases k)) fun h3 => ?_))))
    have hw := wtA_lt w (c := c) hS h2
    have hl := w.len hj
    have hq2 : 48 * wtA e.T c S j + j < 48 * 2 ^ bxN e.T c := by omega
    obtain ⟨ej, bj⟩ := m3 _ hq2
    refine c_with hs3.ct (hbx.fr f3 (by intro c hc; omega)) hS h2 (nm_e (t_length hs3.ct hj ?_))
    rw [nI_48mul, nI_add, ix_nI (by omega), ej, nI_add, nI_ltI (by omega) (by omega)]
    refine ⟨vin (by omega) (by decide), fun h4 => t_length hs3.ct hj ⟨vin (by omega) (by decide), nm_e (nm_e ?_)⟩, fun h4 => nm_e (skip fun _ _ => ?_)⟩
    · rw [nI_add]
      have u := FC_up w (c := c) (s := s3) (Y := wtA e.T c S j) (b := j) (v := its + e.T.len j) (by omega) hj h4
      refine ih3 _ 1 ⟨f3.sI _ _ _ rfl, m3.up (by omega) (by omega), b3.up w h2 h3 hW u, rx3.up w (Nat.le_refl _) u, .inr ⟨rfl, ?_⟩⟩
      have hrd := rd_up (σ := s3) (r := 27) (i := 48 * wtA e.T c S j + j) (v := its + e.T.len j) (by omega)
      have : sumN (rd (sI s3 27 (48 * wtA e.T c S j + j) (nI (its + e.T.len j))) 27) (48 * 2 ^ bxN e.T c) < sumN (rd s3 27) (48 * 2 ^ bxN e.T c) := by
        refine sumN_lt hq2 (fun x _ hx => by rw [hrd, if_neg hx]) ?_
        rw [hrd, if_pos rfl]; exact h4
      rcases c3 with ⟨-, k2, -⟩ | ⟨-, k⟩ <;> omega
    · show rd s3 27 _ ≤ _; omega
  · rcases c' with ⟨k, k2, k3⟩ | k
    · exact .inl ⟨k, k2, hI, fun a b ha h1 h2 h3 => k3 a b (by omega) h1 h2 h3⟩
    · exact .inr k
def inRn (c : Nat) : Prop := c = 27 ∨ c = 28
theorem inRn_C : ∀ c, inRn c → scC c := by intro c hc; unfold inRn at hc; unfold scC; omega
theorem sh48 : ∀ n, n ≤ 10 → (48 : Int32) <<< (nI n &&& 31) = nI (48 * 2 ^ n) := by
  have : ∀ a : Fin 11, (48 : Int32) <<< (nI a.val &&& 31) = nI (48 * 2 ^ a.val) := by decide +kernel
  exact fun n hn => this ⟨n, by omega⟩
theorem C_round {T : Tw} {d : Ad} {tm : Nat} {sg al : Nat → Nat → Int32} {σ : ZS} (h : CQ T d tm sg al σ) {c t : Int32} {Ret : Int32 → ZS → Prop} (hr : PC σ Ret (wd (spRnd T tm sg al c t))) : wp_X0_round σ c t Ret := by
  unfold wp_X0_round wp_X1_round
  refine C_ct h hr (fun h1 h3 hr => ?_) rfl
  have ce := h.ce
  obtain ⟨ct, ch, sf, rm⟩ := h
  have w := ct.wf
  have hnc := w.nc
  have hns := w.ns
  obtain ⟨c, rfl, hc, ec, hc2⟩ := inN_N h1
  obtain ⟨t, rfl, ht, et, -⟩ := inN_N h3
  rw [ec, et] at hr
  have ht' : t ≤ tm := by omega
  have hn := bxN_le w c
  have hpw : 2 ^ bxN T c ≤ 1024 := Nat.pow_le_pow_right (n := 2) (by decide) hn
  have ok : ∀ s', Fr inRn σ s' → ∀ v, v = rndV T (GT T sg al t) c → ∀ σ6 : ZS, σ6 = sJ s' 1238 (ix 0) v.toInt64 → Ret 0 σ6 := fun s' f v e => hr.ok rfl sf f (by intro c hc; unfold inRn at hc; omega) (by rw [e])
  generalize hThr : (fun x3 σ4 => ((∃ x, kK NS σ4 x3 = (14 + 7, x)) ∧ (Ret 1 σ4)) ∨ ((∃ x, kK NS σ4 x3 = (12 + 7, x)) ∧ (Ret 2 σ4))) = Thr
  generalize hR : (fun (r1 : Int32) (σ2 : ZS) => ∀ σ6 : ZS, σ6 = sJ σ2 1238 (ix 0) r1.toInt64 → (Ret 0 σ6)) = R
  have ok : ∀ s', Fr inRn σ s' → ∀ v, v = rndV T (GT T sg al t) c → R v s' := fun s' f v e => by rw [← hR]; exact ok s' f v e
  clear hr hThr hR
  unfold rndV at ok
  have hfG := ev0_G T d tm sg al t
  generalize GT T sg al t = G at ok hfG
  refine c_findBoxes ct hc fun s1 f1 bx1 => ?_
  have f1' : Fr inRn σ s1 := f1.mono (by intro c hc; unfold inRn; omega)
  rw [nI_eq0 (by omega)]
  refine ⟨fun e => ok s1 f1' _ (by rw [if_pos e]), fun e0 => ?_⟩
  rw [if_neg e0] at ok
  -- sets
  have sets : ∀ s, Fr inRn σ s → BxC T c s → Sm s 27 (48 * 2 ^ bxN T c) 1000000 → BR T G c 1000000 (FC s) → V_X1_round_150 Thr R s (nI c) (nI t) (nI (bxN T c)) 0 := by
    intro s2 f2 bx2 m2 b2
    refine forL (S := ZS) (fun m s x => VL_X1_round_150 Thr R m s (nI c) (nI t) (nI (bxN T c)) x) (fun S s => Fr inRn σ s ∧ BxC T c s ∧ Sm s 27 (48 * 2 ^ bxN T c) 1000000 ∧ BR T G c 1000000 (FC s) ∧ RX T G c S (FC s)) (2 ^ bxN T c) ?_ ?_ 0 s2 (Nat.zero_le _) ⟨f2, bx2, m2, b2, RX.zero _ _ _ _⟩
    · rintro m s ⟨f, bx, mm, bb, rx⟩
      have ces := ce.fr f inRn_C
      have ct' : CT T d s := ces.ct
      simp only [VL_X1_round_150]
      rw [pow_sh _ (by omega)]
      refine br_f (nI_nlt (Nat.le_refl _) (by omega)) ?_
      refine forL1 (fun m s v x => VL_X1_round_179 Thr R m s (nI c) (nI (bxN T c)) v x) (fun a s' v => s' = s ∧ v = nI (fz 1000000 (lsO (rndP T G c a)))) (2 * T.ns) ?_ ?_ 0 s 1000000 (Nat.zero_le _) ⟨rfl, ?_⟩
      · rintro m' s' v ⟨rfl, rfl⟩
        simp only [VL_X1_round_179]
        refine t_arcs ct' (br_f (nI_nlt (Nat.le_refl _) (by omega)) ?_)
        cases hd : lsO (rndP T G c (2 * T.ns)) with
        | none => rw [hd] at ok; exact br_f (by decide) (ok s' f _ rfl)
        | some v =>
          have := rndP_le w hd
          rw [hd] at ok
          exact br_t (nI_lt (a := v) (b := 1000000) (by omega) (by decide)) (ok s' f _ rfl)
      · rintro m' a s' v ha ⟨rfl, rfl⟩ ih
        have hst := rndP_step T G c a
        have p1 : 1 ≤ 2 ^ bxN T c := Nat.one_le_two_pow
        simp only [VL_X1_round_179]
        simp only [nI1]
        refine t_arcs ct' (br_t (nI_lt ha (by omega)) (t_isArcN ct' (by omega) (br0 (fun k => nm_e (ih s' _ ⟨rfl, ?_⟩)) fun k => t_end ct' ha ?_)))
        · rw [hst, k]; rfl
        have hfin := w.fin ha
        rw [nI_eq (by omega) (by omega)]
        refine ⟨fun k2 => ?_, fun k2 => nm_e (ih s' _ ⟨rfl, ?_⟩)⟩
        · rw [pow_sh _ (by omega), nI_sub1 (by omega), nI_48mul, nI_add, ix_nI (by omega)]
          obtain ⟨eq, bq⟩ := mm (48 * (2 ^ bxN T c - 1) + a) (by omega)
          have hfn := bb.fin w (by omega) rx (show 2 ^ bxN T c - 1 < 2 ^ bxN T c by omega) ha
          change rd s' 27 (48 * (2 ^ bxN T c - 1) + a) = _ at hfn
          have hom := fz_omin (R := 1000000) (o1 := lsO (rndP T G c a)) (o2 := lsO (Wr T G c (2 ^ bxN T c - 1) a)) (fun v hv => by have := rndP_le w hv; omega) (fun v hv => by have := Wr_le w hv; omega)
          have hl1 : fz 1000000 (lsO (rndP T G c a)) ≤ 1000000 := fz_le fun v hv => by have := rndP_le w hv; omega
          refine ⟨vin (by omega) (by decide), nm_e (nm_e (ih s' _ ⟨rfl, ?_⟩))⟩
          have hst2 : lsO (rndP T G c (a + 1)) = omin (lsO (rndP T G c a)) (lsO (Wr T G c (2 ^ bxN T c - 1) a)) := by rw [hst, if_pos (by simp [k, k2])]
          rw [hst2, ← hom, eq, hfn]
          rw [hfn] at bq
          by_cases l : fz 1000000 (lsO (Wr T G c (2 ^ bxN T c - 1) a)) < fz 1000000 (lsO (rndP T G c a))
          · rw [if_pos l, if_pos (nI_lt l (by omega))]
          · rw [if_neg l, if_neg (nI_nlt (by omega) (by omega))]
        · rw [hst, k]; simp [k2]
      · have : lsO (rndP T G c 0) = none := lsO_none.mpr (by rintro v ⟨a, h, -⟩; omega)
        rw [this]; rfl
    · rintro m S s hS ⟨f, bx, mm, bb, rx⟩ ih
      have ces := ce.fr f inRn_C
      simp only [VL_X1_round_150]
      simp only [nI1]
      rw [pow_sh _ (by omega)]
      refine br_t (nI_lt hS (by omega)) (c_goesRound (c := c) ces ht' hS bx mm (by rw [hfG]; exact bb) (by rw [hfG]; exact rx) fun s' f' m' b' rx' => nm_e (ih s' ⟨f.trans (f'.mono (by intro c hc; unfold inRn; omega)), bx.fr f' (by intro c hc; omega), m', ?_, ?_⟩))
      · rw [hfG] at b'; exact b'
      · rw [hfG] at rx'; exact rx'
  -- starts
  have starts : ∀ s, Fr inRn σ s → BxC T c s → (∀ q, q < 48 * 2 ^ bxN T c → zI s 27 q = nI 1000000) → V_X1_round_56 Thr R s (nI c) (nI t) (nI (bxN T c)) 0 := by
    intro s2 f2 bx2 m2
    refine forL (S := ZS) (fun m s x => VL_X1_round_56 Thr R m s (nI c) (nI t) (nI (bxN T c)) x) (fun a s => Fr inRn σ s ∧ BxC T c s ∧ (∀ X x, X < 2 ^ bxN T c → x < 48 → zI s 27 (48 * X + x) = nI (if x < a then Fr0 T c 1000000 X x else 1000000))) (2 * T.ns) ?_ ?_ 0 s2 (Nat.zero_le _) ⟨f2, bx2, fun X x h1 h2 => by rw [if_neg (by omega)]; exact m2 _ (by omega)⟩
    · rintro m s ⟨f, bx, g⟩
      have ct' : CT T d s := (ce.fr f inRn_C).ct
      simp only [VL_X1_round_56]
      have er : ∀ X x, X < 2 ^ bxN T c → x < 48 → rd s 27 (48 * X + x) = if x < 2 * T.ns then Fr0 T c 1000000 X x else 1000000 := fun X x h1 h2 => rd_of (g X x h1 h2) (by
        split
        · rename_i l; have := Fr0_le w (c := c) (R := 1000000) (X := X) (by omega) l; omega
        · omega)
      refine t_arcs ct' (br_f (nI_nlt (Nat.le_refl _) (by omega)) (sets s f bx (fun q hq => ?_) (BR.zero w (by omega) fun X a hX ha => ?_)))
      · have e1 : 48 * (q / 48) + q % 48 = q := by omega
        have h1 : q / 48 < 2 ^ bxN T c := by omega
        have := er (q / 48) (q % 48) h1 (by omega)
        have g1 := g (q / 48) (q % 48) h1 (by omega)
        rw [e1] at this g1
        rw [this]
        refine ⟨g1, ?_⟩
        split
        · rename_i l; exact Fr0_le w (by omega) l
        · omega
      · unfold FC
        rw [er X a hX (by omega), if_pos ha]
    · rintro m a s ha ⟨f, bx, g⟩ ih
      have ct' : CT T d s := (ce.fr f inRn_C).ct
      simp only [VL_X1_round_56]
      simp only [nI1]
      have skip : (∀ X, Fr0 T c 1000000 X a = 1000000) → VL_X1_round_56 Thr R m s (nI c) (nI t) (nI (bxN T c)) (nI (a + 1)) := fun hF => ih s ⟨f, bx, fun X x h1 h2 => by
        rw [g X x h1 h2]
        congr 1
        by_cases e : x = a
        · subst e; rw [if_neg (by omega), if_pos (by omega), hF]
        · by_cases l : x < a
          · rw [if_pos l, if_pos (by omega)]
          · rw [if_neg l, if_neg (by omega)]⟩
      refine t_arcs ct' (br_t (nI_lt ha (by omega)) (t_isArcN ct' (by omega) (br0 (fun k => nm_e (skip fun X => by unfold Fr0; rw [k]; rfl)) fun k => t_begin ct' ha ?_)))
      have hbeg := w.beg ha
      have hl := w.len ha
      rw [nI_eq (by omega) (by omega)]
      refine ⟨fun k2 => ?_, fun k2 => nm_e (skip fun X => by unfold Fr0; simp [k2])⟩
      have hz : (0 : Nat) < 2 ^ bxN T c := Nat.one_le_two_pow
      have hw := wtA_lt w (c := c) hz k
      have iv : vp_in (nI (48 * wtA T c 0 a + a)) 49152 := vin (by omega) (by decide)
      rw [n0]
      refine c_with ct' bx hz k (c_with ct' bx hz k ?_)
      rw [nI_48mul, nI_add, ix_nI (by omega), g _ a hw (by omega), if_neg (by omega)]
      refine ⟨iv, t_length ct' ha ⟨iv, nm_e (nm_e (ih _ ⟨f.sI 27 _ _ (by unfold inRn cd; simp), fun j hj => by rw [zI_ne _ (.inl (by decide))]; exact bx j hj, fun X x h1 h2 => ?_⟩))⟩⟩
      rw [if_pos (nI_lt (by omega) (by omega)), zI_row]
      by_cases e : X = wtA T c 0 a ∧ x = a
      · obtain ⟨rfl, rfl⟩ := e
        rw [if_pos rfl, if_pos (by omega)]
        unfold Fr0
        rw [if_pos (by simp [k, k2])]
      · rw [if_neg (by omega), g X x h1 h2]
        congr 1
        by_cases e2 : x = a
        · subst e2
          have hne : X ≠ wtA T c 0 x := fun k => e ⟨k, rfl⟩
          rw [if_neg (by omega), if_pos (by omega)]
          unfold Fr0
          rw [if_neg (by simp [hne])]
        · by_cases l : x < a
          · rw [if_pos l, if_pos (by omega)]
          · rw [if_neg l, if_neg (by omega)]
  refine forL (S := ZS) (fun m s x => VL_X1_round_28 Thr R m s (nI c) (nI t) (nI (bxN T c)) x) (fun q s => Fr inRn σ s ∧ BxC T c s ∧ ∀ q', q' < q → zI s 27 q' = nI 1000000) (48 * 2 ^ bxN T c) ?_ ?_ 0 s1 (Nat.zero_le _) ⟨f1', bx1, fun q' h => absurd h (Nat.not_lt_zero _)⟩
  · rintro m s ⟨f, bx, g⟩
    simp only [VL_X1_round_28]
    rw [sh48 _ hn]
    exact br_f (nI_nlt (Nat.le_refl _) (by omega)) (starts s f bx g)
  · rintro m q s hq ⟨f, bx, g⟩ ih
    simp only [VL_X1_round_28]
    simp only [nI1]
    rw [sh48 _ hn, ix_nI (by omega)]
    refine br_t (nI_lt hq (by omega)) ⟨vin (by omega) (by decide), nm_e (nm_e (ih _ ⟨f.sI 27 _ _ (by unfold inRn cd; simp), fun j hj => by rw [zI_ne _ (.inl (by decide))]; exact bx j hj, fun q' h => ?_⟩))⟩
    rw [zI_row]
    by_cases e : q' = q
    · rw [if_pos e]; rfl
    · rw [if_neg e]; exact g q' (by omega)
