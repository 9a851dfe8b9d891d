/-! PURE HALF: cuts: the least sets that hold all that comes of them; the class. -/
set_option maxRecDepth 100000
theorem bt_tbL {X : Nat} (h : X < 2 ^ 24) : btI (nI X) = tb X := by
  funext j
  unfold tb
  rcases Nat.lt_or_ge j 32 with k | k
  · exact bt_nI X j k
  · rw [bt_hi _ k]
    symm
    exact Nat.testBit_lt_two_pow (Nat.lt_of_lt_of_le h (Nat.pow_le_pow_right (show 0 < 2 by decide) (by omega)))
theorem pow_sh16 : ∀ n, n ≤ 16 → (1 : Int32) <<< (nI n &&& 31) = nI (2 ^ n) := by
  have : ∀ a : Fin 17, (1 : Int32) <<< (nI a.val &&& 31) = nI (2 ^ a.val) := by decide +kernel
  exact fun n hn => this ⟨n, by omega⟩
/-- what comes of a corner -/
def Clo (T : Tw) (G : Nat → Nat → Bool) (c k : Nat) : Prop := ∀ M : Nat → Prop, M c → (∀ a b, M a → a < T.nc → rcB T G a b = true → M b) → M k
theorem Clo.refl (T : Tw) (G : Nat → Nat → Bool) (c : Nat) : Clo T G c c := fun _ h _ => h
theorem Clo.step {T : Tw} {G : Nat → Nat → Bool} {c a b : Nat} (h : Clo T G c a) (ha : a < T.nc) (hb : rcB T G a b = true) : Clo T G c b := fun M h0 hs => hs a b (h M h0 hs) ha hb
theorem Clo.lt {T : Tw} (w : T.WF) {G : Nat → Nat → Bool} {c k : Nat} (hc : c < T.nc) (h : Clo T G c k) : k < T.nc := h (· < T.nc) hc fun _ _ _ ha hb => RcC_lt w ha (rcB_iff.mp hb)
noncomputable def cloB (T : Tw) (G : Nat → Nat → Bool) (c k : Nat) : Bool := @decide (Clo T G c k) (Classical.propDecidable _)
theorem cloB_iff {T : Tw} {G : Nat → Nat → Bool} {c k : Nat} : cloB T G c k = true ↔ Clo T G c k := by unfold cloB; simp
noncomputable def cloV (T : Tw) (G : Nat → Nat → Bool) (c : Nat) : Int32 := ob (cloB T G c) 32
theorem bt_cloV {T : Tw} {G : Nat → Nat → Bool} {c k : Nat} (hk : k < 32) : btI (cloV T G c) k = cloB T G c k := by unfold cloV; rw [bt_ob _ (by decide) hk]; simp [hk]
noncomputable def cloN (T : Tw) (G : Nat → Nat → Bool) (c : Nat) : Nat := (cloV T G c).toBitVec.toNat
theorem clo_hi {T : Tw} (w : T.WF) {G : Nat → Nat → Bool} {c : Nat} (hc : c < T.nc) {k : Nat} (hk : T.nc ≤ k) : btI (cloV T G c) k = false := by
  rcases Nat.lt_or_ge k 32 with l | l
  · rw [bt_cloV l]
    cases h : cloB T G c k
    · rfl
    · have := (cloB_iff.mp h).lt w hc; omega
  · exact bt_hi _ l
theorem cloN_lt {T : Tw} (w : T.WF) {G : Nat → Nat → Bool} {c : Nat} (hc : c < T.nc) : cloN T G c < 2 ^ T.nc := bt_small fun _ hk => clo_hi w hc hk
theorem cloV_eq (T : Tw) (G : Nat → Nat → Bool) (c : Nat) : cloV T G c = nI (cloN T G c) := nI_of_bt _
theorem pw24 {T : Tw} (w : T.WF) {X : Nat} (h : X < 2 ^ T.nc) : X < 65536 := Nat.lt_of_lt_of_le h (Nat.pow_le_pow_right (n := 2) (by decide) w.nc)
theorem tb_clo {T : Tw} (w : T.WF) {G : Nat → Nat → Bool} {c : Nat} (hc : c < T.nc) {k : Nat} : tb (cloN T G c) k = true ↔ Clo T G c k := by
  have h := pw24 w (cloN_lt w (G := G) hc)
  rw [← bt_tbL (by omega), ← cloV_eq]
  rcases Nat.lt_or_ge k 32 with l | l
  · rw [bt_cloV l]; exact cloB_iff
  · rw [bt_hi _ l]
    constructor
    · intro k; cases k
    · intro k; have := k.lt w hc; have := w.nc; omega
def clsd (T : Tw) (G : Nat → Nat → Bool) (X : Nat) : Prop := ∀ c, c < T.nc → tb X c = true → ∀ k, rcB T G c k = true → tb X k = true
def CSt (T : Tw) (G : Nat → Nat → Bool) (X : Nat) : Prop := 0 < X ∧ X < 2 ^ T.nc - 1 ∧ clsd T G X
def lexle (a b : Nat) : Prop := pop a < pop b ∨ (pop a = pop b ∧ a ≤ b)
def isCut (T : Tw) (G : Nat → Nat → Bool) (b : Nat) : Prop := (b = 0 ∧ ∀ X, ¬ CSt T G X) ∨ (CSt T G b ∧ ∀ X, CSt T G X → lexle b X)
theorem lexle_anti {a b : Nat} (h1 : lexle a b) (h2 : lexle b a) : a = b := by unfold lexle at h1 h2; omega
theorem lexle_trans {a b c : Nat} (h1 : lexle a b) (h2 : lexle b c) : lexle a c := by unfold lexle at h1 h2 ⊢; omega
theorem isCut_uniq {T : Tw} {G : Nat → Nat → Bool} {a b : Nat} (h1 : isCut T G a) (h2 : isCut T G b) : a = b := by
  rcases h1 with ⟨rfl, h1⟩ | ⟨h1, h1'⟩
  · rcases h2 with ⟨rfl, -⟩ | ⟨h2, -⟩
    · rfl
    · exact absurd h2 (h1 _)
  · rcases h2 with ⟨rfl, h2⟩ | ⟨h2, h2'⟩
    · exact absurd h1 (h2 _)
    · exact lexle_anti (h1' _ h2) (h2' _ h1)
noncomputable def cutN (T : Tw) (G : Nat → Nat → Bool) : Nat := leastN (isCut T G)
theorem cutN_eq {T : Tw} {G : Nat → Nat → Bool} {b : Nat} (h : isCut T G b) : cutN T G = b := leastN_eq h fun j hj k => by have := isCut_uniq h k; omega
theorem pop_sub {X Y : Nat} (h : ∀ k, tb X k = true → tb Y k = true) : pop X ≤ pop Y := cnt_mono fun x _ hx => h x hx
theorem pop_same {X Y : Nat} (_ : X < 65536) (hY : Y < 65536) (h : ∀ k, tb X k = true → tb Y k = true) (e : pop X = pop Y) : X = Y := by
  apply Nat.eq_of_testBit_eq
  intro k
  show tb X k = tb Y k
  cases h1 : tb X k
  · cases h2 : tb Y k
    · rfl
    · have hk : k < 16 := tb_lt (n := 16) hY h2
      have : pop X < pop Y := cnt_lt (fun x _ hx => h x hx) (show k < 24 by omega) h2 h1
      omega
  · rw [h k h1]
theorem clo_in {T : Tw} {G : Nat → Nat → Bool} {X c : Nat} (h : clsd T G X) (hc : tb X c = true) {k : Nat} (hk : Clo T G c k) : tb X k = true := hk (fun k => tb X k = true) hc fun a b ha hl hb => h a hl ha b hb
theorem clo_cls {T : Tw} (w : T.WF) {G : Nat → Nat → Bool} {c : Nat} (hc : c < T.nc) : clsd T G (cloN T G c) := fun _ ha h _ hk => (tb_clo w hc).mpr (((tb_clo w hc).mp h).step ha hk)
theorem clo_pos {T : Tw} (w : T.WF) {G : Nat → Nat → Bool} {c : Nat} (hc : c < T.nc) : 0 < cloN T G c := by
  rcases Nat.eq_zero_or_pos (cloN T G c) with e | e
  · have := (tb_clo w hc).mpr (Clo.refl T G c)
    rw [e, tb_0] at this; cases this
  · exact e
theorem clo_CS {T : Tw} (w : T.WF) {G : Nat → Nat → Bool} {c : Nat} (hc : c < T.nc) (h : cloN T G c ≠ 2 ^ T.nc - 1) : CSt T G (cloN T G c) := by
  have := cloN_lt w (G := G) hc
  exact ⟨clo_pos w hc, by omega, clo_cls w hc⟩
/-- below each such set lies what comes of one of its corners -/
theorem CS_clo {T : Tw} (w : T.WF) {G : Nat → Nat → Bool} {X : Nat} (h : CSt T G X) : ∃ c, c < T.nc ∧ cloN T G c ≠ 2 ^ T.nc - 1 ∧ lexle (cloN T G c) X := by
  obtain ⟨h1, h2, h3⟩ := h
  obtain ⟨c, hcb⟩ := Nat.exists_testBit_of_ne_zero (show X ≠ 0 by omega)
  have hX : X < 2 ^ T.nc := by omega
  have hc : c < T.nc := tb_lt hX hcb
  have sub : ∀ k, tb (cloN T G c) k = true → tb X k = true := fun k hk => clo_in h3 hcb ((tb_clo w hc).mp hk)
  have hX16 := pw24 w hX
  have hC16 := pw24 w (cloN_lt w (G := G) hc)
  have hp := pop_sub sub
  refine ⟨c, hc, fun e => ?_, ?_⟩
  · have : X = cloN T G c := by
      apply Nat.eq_of_testBit_eq
      intro k
      show tb X k = tb (cloN T G c) k
      cases h1 : tb X k
      · cases h2 : tb (cloN T G c) k
        · rfl
        · rw [sub k h2] at h1; cases h1
      · rw [e, tb_full]; have := tb_lt hX h1; simp [this]
    omega
  · by_cases e : pop (cloN T G c) = pop X
    · rw [pop_same hC16 hX16 sub e]; exact .inr ⟨rfl, Nat.le_refl _⟩
    · exact .inl (by omega)
/-- the class finds it among what comes of single corners -/
def ctI (T : Tw) (G : Nat → Nat → Bool) (b m : Nat) : Prop := (b = 0 ∧ ∀ c, c < m → cloN T G c = 2 ^ T.nc - 1) ∨ (CSt T G b ∧ ∀ c, c < m → cloN T G c ≠ 2 ^ T.nc - 1 → lexle b (cloN T G c))
theorem ctI_fin {T : Tw} (w : T.WF) {G : Nat → Nat → Bool} {b : Nat} (h : ctI T G b T.nc) : isCut T G b := by
  rcases h with ⟨h1, h2⟩ | ⟨h1, h2⟩
  · refine .inl ⟨h1, fun X hX => ?_⟩
    obtain ⟨c, hc, h3, -⟩ := CS_clo w hX
    exact h3 (h2 c hc)
  · refine .inr ⟨h1, fun X hX => ?_⟩
    obtain ⟨c, hc, h3, h4⟩ := CS_clo w hX
    exact lexle_trans (h2 c hc h3) h4
theorem c_comesOf {e : Ev} {σ : ZS} (h : CE e σ) {t c : Nat} (ht : t ≤ e.tm) (hc : c < e.T.nc) {Ret : Int32 → ZS → Prop} (hr : ∀ σ', Fr inQ σ σ' → Ret (cloV e.T (e.G t) c) σ') : wp_X1_comesOf σ (nI c) (nI t) Ret := by
  have w := h.ct.wf
  have hnc := w.nc
  unfold wp_X1_comesOf
  refine nm_e ?_
  refine lp3 (fun k s x y => VL_X1_comesOf_7 Ret k s (nI t) x y) (fun s x y => Fr inQ σ s ∧ (∀ k, k < 32 → btI x k = true → btI y k = true) ∧ (∀ k, k < 32 → btI y k = true → Clo e.T (e.G t) c k) ∧ btI y c = true ∧ (∀ a b, a < e.T.nc → btI x a = true → rcB e.T (e.G t) a b = true → btI y b = true)) (fun s x y => 24 - cnt (btI x) 24) ?_ σ 0 ((1 : Int32) <<< (nI c &&& 31)) ⟨Fr.rfl, fun k _ hk => (by rw [bt_0] at hk; cases hk), fun k hk h => ?_, ?_, fun a b _ hk => (by rw [bt_0] at hk; cases hk)⟩
  · rintro n s x y ⟨f, h1, h2, h3, h4⟩ ih
    simp only [VL_X1_comesOf_7]
    refine ⟨fun e1 => ?_, fun e1 => ?_⟩
    · subst e1
      have : y = cloV e.T (e.G t) c := by
        refine bt_ext fun k hk => ?_
        rw [bt_cloV hk]
        cases hb : cloB e.T (e.G t) c k
        · cases hy : btI y k
          · rfl
          · rw [cloB_iff.mpr (h2 k hk hy)] at hb; cases hb
        · exact cloB_iff.mp hb (fun k => btI y k = true) h3 fun a b ha hl hb => h4 a b hl ha hb
      rw [this]; exact hr s f
    · have hlt : cnt (btI x) 24 < cnt (btI y) 24 := by
        have : ∃ k, k < 32 ∧ btI y k = true ∧ btI x k = false := by
          apply Classical.byContradiction
          intro hn
          apply e1
          refine bt_ext fun k hk => ?_
          cases hx : btI x k
          · cases hy : btI y k
            · rfl
            · exact absurd ⟨k, hk, hy, hx⟩ hn
          · exact h1 k hk hx
        obtain ⟨k, hk, hy, hx⟩ := this
        have hk2 := (h2 k hk hy).lt w hc
        exact cnt_lt (fun x hx' hx2 => h1 x (by omega) hx2) (show k < 24 by omega) hy hx
      have hle := cnt_le (btI y) 24
      refine forL1 (fun m s v x => VL_X1_comesOf_19 _ Ret m s (nI t) y v x) (fun i s v => Fr inQ σ s ∧ (∀ k, k < 32 → btI y k = true → btI v k = true) ∧ (∀ k, k < 32 → btI v k = true → Clo e.T (e.G t) c k) ∧ (∀ a b, a < i → a < e.T.nc → btI y a = true → rcB e.T (e.G t) a b = true → btI v b = true)) e.T.nc ?_ ?_ 0 s y (Nat.zero_le _) ⟨f, fun _ _ k => k, h2, fun a b ha => absurd ha (Nat.not_lt_zero _)⟩
      · rintro m s2 v ⟨f2, g1, g2, g3⟩
        have ce2 := h.fr f2 inQ_sc
        simp only [VL_X1_comesOf_19]
        refine c_corners ce2.ct (br_f (nI_nlt (Nat.le_refl _) (by omega)) (ih s2 y v ⟨f2, g1, g2, g1 c (by omega) h3, fun a b ha => g3 a b ha ha⟩ ?_))
        omega
      · rintro m i s2 v hi ⟨f2, g1, g2, g3⟩ ih2
        have ce2 := h.fr f2 inQ_sc
        simp only [VL_X1_comesOf_19]
        simp only [nI1]
        rw [tst _ (by omega), b2i_1]
        refine c_corners ce2.ct (br_t (nI_lt hi (by omega)) ⟨fun hb => c_reached ce2 ht hi fun s3 f3 => nm_e (nm_e (ih2 s3 _ ⟨f2.trans f3, ?_, ?_, ?_⟩)), fun hb => nm_e (ih2 s2 v ⟨f2, g1, g2, fun a b ha hl hya hr => ?_⟩)⟩)
        · intro k hk hy; rw [bt_or, g1 k hk hy]; rfl
        · intro k hk hv
          rw [bt_or, bt_rchV hk] at hv
          rcases Bool.or_eq_true_iff.mp hv with hv | hv
          · exact g2 k hk hv
          · exact (g2 i (by omega) (g1 i (by omega) hb)).step hi hv
        · intro a b ha hl hya hr
          have hbl := RcC_lt w hl (rcB_iff.mp hr)
          rw [bt_or, bt_rchV (by omega)]
          by_cases ea : a = i
          · subst ea; rw [hr, Bool.or_true]
          · rw [g3 a b (by omega) hl hya hr]; rfl
        · by_cases ea : a = i
          · subst ea; exact absurd hya hb
          · exact g3 a b (by omega) hl hya hr
  · rw [bt_one (by omega) hk] at h
    have : k = c := by simpa using h
    rw [this]; exact Clo.refl _ _ _
  · rw [bt_one (by omega) (by omega)]; simp
noncomputable def spCut (T : Tw) (tm : Nat) (sg al : Nat → Nat → Int32) (t : Int32) : Nat × Int32 := sp1 (inN t (tm + 1)) (nI (cutN T (GT T sg al (ix t))))
theorem inQ_A : ∀ c, inQ c → noA c := by intro c hc; unfold inQ at hc; unfold noA; omega
theorem C_cut {T : Tw} {d : Ad} {tm : Nat} {sg al : Nat → Nat → Int32} {σ : ZS} (h : CQ T d tm sg al σ) {t : Int32} {Ret : Int32 → ZS → Prop} (hr : PC σ Ret (wd (spCut T tm sg al t))) : wp_X0_cut σ t Ret := by
  unfold wp_X0_cut wp_X1_cut
  have ce := h.ce
  obtain ⟨ct, ch, sf, rm⟩ := h
  have w := ct.wf
  have hnc := w.nc
  unfold spCut at hr
  refine c_isTime ch (c_need rm (fun k => ?_) fun k σ' g k2 => ⟨⟨0, k2⟩, hr.thr (c := 1) (sp1_1 k) (by decide) rm.1 sf g⟩)
  rw [sp1_0 k] at hr
  obtain ⟨t, rfl, ht, et, -⟩ := inN_N k
  rw [et] at hr
  have ok : ∀ s', Fr inQ σ s' → ∀ b, isCut T (GT T sg al t) b → ∀ σ6 : ZS, σ6 = sJ s' 1238 (ix 0) (nI b).toInt64 → Ret 0 σ6 := fun s' f b e => hr.ok rfl sf f inQ_S (by rw [cutN_eq e]; rfl)
  have hfG := ev0_G T d tm sg al t
  generalize GT T sg al t = G at ok hfG
  generalize (fun x3 σ4 => ((∃ x, kK NS σ4 x3 = (12 + 7, x)) ∧ (Ret 1 σ4))) = Thr
  have h16 : 2 ^ T.nc ≤ 65536 := Nat.pow_le_pow_right (n := 2) (by decide) hnc
  have p1 : 1 ≤ 2 ^ T.nc := Nat.one_le_two_pow
  have hbc : ∀ X, X < 65536 → ∀ k, 16 ≤ k → btI (nI X) k = false := fun X hX k hk => by
    rw [bt_tbL (by omega)]
    cases e : tb X k
    · rfl
    · have := tb_lt (n := 16) hX e; omega
  refine forL1 (fun m s v x => VL_X1_cut_12 Thr (fun r1 σ2 => ∀ σ6 : ZS, σ6 = sJ σ2 1238 (ix 0) r1.toInt64 → (Ret 0 σ6)) m s (nI t) v x) (fun c s v => Fr inQ σ s ∧ ∃ b, v = nI b ∧ b < 65536 ∧ ctI T G b c) T.nc ?_ ?_ 0 σ 0 (Nat.zero_le _) ⟨Fr.rfl, 0, rfl, by decide, .inl ⟨rfl, fun c hc => absurd hc (Nat.not_lt_zero _)⟩⟩
  · rintro m s v ⟨f, b, rfl, hb, hI⟩
    have ct' : CT T d s := ct.fr f inQ_A
    simp only [VL_X1_cut_12]
    exact c_corners ct' (br_f (nI_nlt (Nat.le_refl _) (by omega)) (ok s f b (ctI_fin w hI)))
  · rintro m c s v hc ⟨f, b, rfl, hb, hI⟩ ih
    have ce' := ce.fr f inQ_sc
    have ct' : CT T d s := ct.fr f inQ_A
    simp only [VL_X1_cut_12]
    simp only [nI1]
    refine c_corners ct' (br_t (nI_lt hc (by omega)) (c_comesOf ce' (t := t) (by show t ≤ tm; omega) hc fun s2 f2 => ?_))
    rw [hfG]
    change wp_X1_corners s2 _
    have ct2 : CT T d s2 := ct'.fr f2 inQ_A
    have hX := cloN_lt w (G := G) hc
    refine c_corners ct2 ?_
    change (cloV T G c = _ → _) ∧ _
    rw [show cloV (ev0 T d tm sg al).T G c = cloV T G c from rfl, cloV_eq, pow_sh16 _ hnc, nI_sub1 p1, nI_eq (by omega) (by omega)]
    have f' := f.trans f2
    have put : cloN T G c ≠ 2 ^ T.nc - 1 → (b = 0 ∨ lexle (cloN T G c) b) → VL_X1_cut_12 Thr (fun r1 σ2 => ∀ σ6 : ZS, σ6 = sJ σ2 1238 (ix 0) r1.toInt64 → (Ret 0 σ6)) m s2 (nI t) (nI (cloN T G c)) (nI (c + 1)) := fun hne ho => by
      refine ih s2 _ ⟨f', _, rfl, by omega, .inr ⟨clo_CS w hc hne, fun c' hc' hne' => ?_⟩⟩
      by_cases e : c' = c
      · subst e; exact .inr ⟨rfl, Nat.le_refl _⟩
      · rcases hI with ⟨hb0, hI⟩ | ⟨hCS, hI⟩
        · exact absurd (hI c' (by omega)) hne'
        · rcases ho with ho | ho
          · have := hCS.1; omega
          · exact lexle_trans ho (hI c' (by omega) hne')
    have keep : (cloN T G c = 2 ^ T.nc - 1 ∨ (b ≠ 0 ∧ lexle b (cloN T G c))) → VL_X1_cut_12 Thr (fun r1 σ2 => ∀ σ6 : ZS, σ6 = sJ σ2 1238 (ix 0) r1.toInt64 → (Ret 0 σ6)) m s2 (nI t) (nI b) (nI (c + 1)) := fun ho => by
      refine ih s2 _ ⟨f', b, rfl, hb, ?_⟩
      rcases hI with ⟨hb0, hI⟩ | ⟨hCS, hI⟩
      · rcases ho with ho | ho
        · refine .inl ⟨hb0, fun c' hc' => ?_⟩
          by_cases e : c' = c
          · subst e; exact ho
          · exact hI c' (by omega)
        · exact absurd hb0 ho.1
      · refine .inr ⟨hCS, fun c' hc' hne' => ?_⟩
        by_cases e : c' = c
        · subst e
          rcases ho with ho | ho
          · exact absurd ho hne'
          · exact ho.2
        · exact hI c' (by omega) hne'
    refine ⟨fun e => nm_e (keep (.inl e)), fun e => c_bitCount (hbc _ (by omega)) (c_bitCount (hbc _ hb) ?_)⟩
    rw [bt_tbL (by omega), bt_tbL (by omega)]
    rw [show cnt (tb (cloN T G c)) 24 = pop (cloN T G c) from rfl, show cnt (tb b) 24 = pop b from rfl]
    have l1 : pop (cloN T G c) ≤ 24 := cnt_le _ _
    have l2 : pop b ≤ 24 := cnt_le _ _
    rw [nI_eq0 (by omega), nI_ltI (by omega) (by omega), nI_eq (by omega) (by omega), nI_ltI (by omega) (by omega)]
    refine ⟨fun hb0 => nm_e (put e (.inl hb0)), fun hb0 => ⟨fun hl => nm_e (put e (.inr (.inl hl))), fun hl => ⟨fun heq => ⟨fun hlt => nm_e (put e (.inr (.inr ⟨heq, by omega⟩))), fun hlt => nm_e (keep (.inr ⟨hb0, .inr ⟨by omega, by omega⟩⟩))⟩, fun heq => nm_e (keep (.inr ⟨hb0, .inl (by omega)⟩))⟩⟩⟩
