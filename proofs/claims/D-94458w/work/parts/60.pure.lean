/-! PURE HALF: growth, guards, answers. -/
set_option maxRecDepth 100000
/-- σ' is σ but in S, with at most k cells and m slots more -/
abbrev Gw (S : Nat → Prop) (k m : Nat) (σ σ' : ZS) : Prop := (∀ a i, a < zt σ → ¬ S (cd a i) → zI σ' a i = zI σ a i) ∧ (∀ a i, a < zt σ → ¬ S (cd a i) → zJ σ' a i = zJ σ a i) ∧ (∀ a i, a < zt σ → ¬ S (cd a i) → zP σ' a i = zP σ a i) ∧ (∀ a, a < zt σ → zK σ' a = zK σ a) ∧ (zt σ ≤ zt σ') ∧ (zt σ' ≤ zt σ + k) ∧ (zn σ' ≤ zn σ + m) ∧ ((∀ a, zt σ ≤ a → zK σ a = (1000, 0)) → ∀ a, zt σ' ≤ a → zK σ' a = (1000, 0))
theorem Gw.i {S : Nat → Prop} {k m : Nat} {σ σ' : ZS} (h : Gw S k m σ σ') : ∀ a i, a < zt σ → ¬ S (cd a i) → zI σ' a i = zI σ a i := h.1
theorem Gw.j {S : Nat → Prop} {k m : Nat} {σ σ' : ZS} (h : Gw S k m σ σ') : ∀ a i, a < zt σ → ¬ S (cd a i) → zJ σ' a i = zJ σ a i := h.2.1
theorem Gw.p {S : Nat → Prop} {k m : Nat} {σ σ' : ZS} (h : Gw S k m σ σ') : ∀ a i, a < zt σ → ¬ S (cd a i) → zP σ' a i = zP σ a i := h.2.2.1
theorem Gw.kk {S : Nat → Prop} {k m : Nat} {σ σ' : ZS} (h : Gw S k m σ σ') : ∀ a, a < zt σ → zK σ' a = zK σ a := h.2.2.2.1
theorem Gw.t1 {S : Nat → Prop} {k m : Nat} {σ σ' : ZS} (h : Gw S k m σ σ') : zt σ ≤ zt σ' := h.2.2.2.2.1
theorem Gw.t2 {S : Nat → Prop} {k m : Nat} {σ σ' : ZS} (h : Gw S k m σ σ') : zt σ' ≤ zt σ + k := h.2.2.2.2.2.1
theorem Gw.n {S : Nat → Prop} {k m : Nat} {σ σ' : ZS} (h : Gw S k m σ σ') : zn σ' ≤ zn σ + m := h.2.2.2.2.2.2.1
theorem Gw.kf {S : Nat → Prop} {k m : Nat} {σ σ' : ZS} (h : Gw S k m σ σ') : (∀ a, zt σ ≤ a → zK σ a = (1000, 0)) → ∀ a, zt σ' ≤ a → zK σ' a = (1000, 0) := h.2.2.2.2.2.2.2
theorem Fr.gw {S : Nat → Prop} {σ σ' : ZS} (h : Fr S σ σ') : Gw S 0 0 σ σ' := by
  refine ⟨?_, ?_, ?_, ?_, ?_, ?_, ?_, ?_⟩
  · exact fun a i _ n => h.1 a i n
  · exact fun a i _ n => h.2.1 a i n
  · exact fun a i _ _ => h.ep a i
  · exact fun a _ => by unfold zK; rw [h.2.2]
  · exact by rw [h.et]; exact Nat.le_refl _
  · exact by rw [h.et]; exact Nat.le_refl _
  · exact by rw [h.en]; exact Nat.le_refl _
  · exact fun k a ha => by
      rw [h.et] at ha
      have : zK σ' a = zK σ a := by unfold zK; rw [h.2.2]
      rw [this]; exact k a ha
theorem Gw.mono {S S' : Nat → Prop} {k k' m m' : Nat} {σ σ' : ZS} (h : Gw S k m σ σ') (hs : ∀ c, S c → S' c) (hk : k ≤ k') (hm : m ≤ m') : Gw S' k' m' σ σ' := by
  refine ⟨?_, ?_, ?_, ?_, ?_, ?_, ?_, ?_⟩
  · exact fun a i l n => h.i a i l fun k => n (hs _ k)
  · exact fun a i l n => h.j a i l fun k => n (hs _ k)
  · exact fun a i l n => h.p a i l fun k => n (hs _ k)
  · exact h.kk
  · exact h.t1
  · exact by have := h.t2; omega
  · exact by have := h.n; omega
  · exact h.kf
theorem Gw.trans {S : Nat → Prop} {k k' m m' : Nat} {σ σ' σ'' : ZS} (h : Gw S k m σ σ') (h' : Gw S k' m' σ' σ'') : Gw S (k + k') (m + m') σ σ'' := by
  refine ⟨?_, ?_, ?_, ?_, ?_, ?_, ?_, ?_⟩
  · exact fun a i l n => (h'.i a i (by have := h.t1; omega) n).trans (h.i a i l n)
  · exact fun a i l n => (h'.j a i (by have := h.t1; omega) n).trans (h.j a i l n)
  · exact fun a i l n => (h'.p a i (by have := h.t1; omega) n).trans (h.p a i l n)
  · exact fun a l => (h'.kk a (by have := h.t1; omega)).trans (h.kk a l)
  · exact by have := h.t1; have := h'.t1; omega
  · exact by have := h.t2; have := h'.t2; omega
  · exact by have := h.n; have := h'.n; omega
  · exact fun k => h'.kf (h.kf k)
/-- room for one exception -/
def Rm (σ : ZS) : Prop := NS ≤ zt σ ∧ zt σ + 1 ≤ NB ∧ zn σ + 6 ≤ SB
theorem Rm.fr {S : Nat → Prop} {σ σ' : ZS} (h : Rm σ) (f : Fr S σ σ') : Rm σ' := by unfold Rm; rw [f.et, f.en]; exact h
theorem qI_sA (σ : ZS) (k : Nat × Nat) (n a i : Nat) : zI (sA σ k n) a i = if a = zt σ then 0 else zI σ a i := rfl
theorem qJ_sA (σ : ZS) (k : Nat × Nat) (n a i : Nat) : zJ (sA σ k n) a i = if a = zt σ then 0 else zJ σ a i := rfl
theorem qP_sA (σ : ZS) (k : Nat × Nat) (n a i : Nat) : zP (sA σ k n) a i = if a = zt σ then none else zP σ a i := rfl
theorem qK_sA (σ : ZS) (k : Nat × Nat) (n a : Nat) : zK (sA σ k n) a = if a = zt σ then k else zK σ a := rfl
theorem zt_sA' (σ : ZS) (k : Nat × Nat) (n : Nat) : zt (sA σ k n) = zt σ + 1 := rfl
theorem zn_sA' (σ : ZS) (k : Nat × Nat) (n : Nat) : zn (sA σ k n) = zn σ + n := rfl
theorem sA_gw (S : Nat → Prop) (σ : ZS) (k : Nat × Nat) (n : Nat) : Gw S 1 n σ (sA σ k n) := by
  refine ⟨?_, ?_, ?_, ?_, ?_, ?_, ?_, ?_⟩
  · exact fun a i l _ => by rw [qI_sA, if_neg (by omega)]
  · exact fun a i l _ => by rw [qJ_sA, if_neg (by omega)]
  · exact fun a i l _ => by rw [qP_sA, if_neg (by omega)]
  · exact fun a l => by rw [qK_sA, if_neg (by omega)]
  · exact by rw [zt_sA']; omega
  · exact by rw [zt_sA']; omega
  · exact by rw [zn_sA']; omega
  · exact fun kf a ha => by rw [zt_sA'] at ha; rw [qK_sA, if_neg (by omega)]; exact kf a (by omega)
theorem exc_gw (S : Nat → Prop) {σ σ2 : ZS} {k : Nat × Nat} {n : Nat} (h : exc (sA σ k n) (zt σ) σ2) : Gw S 1 n σ σ2 := by
  refine ⟨?_, ?_, ?_, ?_, ?_, ?_, ?_, ?_⟩
  · exact fun a i l _ => by
      have : zI σ2 a i = zI (sA σ k n) a i := by unfold zI; rw [h.1]
      rw [this, qI_sA, if_neg (by omega)]
  · exact fun a i l _ => by
      have : zJ σ2 a i = zJ (sA σ k n) a i := by unfold zJ; rw [h.2.1]
      rw [this, qJ_sA, if_neg (by omega)]
  · exact fun a i l _ => by rw [h.2.2.1 a i (by omega), qP_sA, if_neg (by omega)]
  · exact fun a l => by
      have : zK σ2 a = zK (sA σ k n) a := by unfold zK; rw [h.2.2.2]
      rw [this, qK_sA, if_neg (by omega)]
  · exact by
      have : zt σ2 = zt (sA σ k n) := by unfold zt; rw [h.2.2.2]
      rw [this, zt_sA']; omega
  · exact by
      have : zt σ2 = zt (sA σ k n) := by unfold zt; rw [h.2.2.2]
      rw [this, zt_sA']; omega
  · exact by
      have : zn σ2 = zn (sA σ k n) := by unfold zn; rw [h.2.2.2]
      rw [this, zn_sA']; omega
  · exact fun kf a ha => by
      have e : zt σ2 = zt (sA σ k n) := by unfold zt; rw [h.2.2.2]
      rw [e, zt_sA'] at ha
      have : zK σ2 a = zK (sA σ k n) a := by unfold zK; rw [h.2.2.2]
      rw [this, qK_sA, if_neg (by omega)]; exact kf a (by omega)
theorem exc_k {σ σ2 : ZS} {k : Nat × Nat} {n : Nat} (hs : NS ≤ zt σ) (h : exc (sA σ k n) (zt σ) σ2) : kK NS σ2 (zt σ) = k := by
  have : zK σ2 (zt σ) = zK (sA σ k n) (zt σ) := by unfold zK; rw [h.2.2.2]
  unfold kK
  rw [if_neg (by omega), this, qK_sA, if_pos rfl]
/-- a throw -/
theorem c_thr {σ : ZS} {k : Nat} {Thr : Nat → ZS → Prop} (hm : Rm σ) (h : ∀ σ', Gw (fun _ => False) 1 6 σ σ' → kK NS σ' (zt σ) = (k, 0) → Thr (zt σ) σ') : (NS ≤ zt σ ∧ zt σ + 1 ≤ NB ∧ zn σ + 6 ≤ SB) ∧ (∀ σ2 : ZS, exc (sA σ (k, 0) 6) (zt σ) σ2 → Thr (zt σ) σ2) :=
  ⟨hm, fun σ2 e => h σ2 (exc_gw _ e) (exc_k hm.1 e)⟩
theorem c_need {σ : ZS} {b : Bool} {Thr : Nat → ZS → Prop} {Ret : ZS → Prop} (hm : Rm σ) (h1 : b = true → Ret σ) (h2 : b = false → ∀ σ', Gw (fun _ => False) 1 6 σ σ' → kK NS σ' (zt σ) = (19, 0) → Thr (zt σ) σ') : wp_X1_need σ (b2i b) Thr Ret := by
  unfold wp_X1_need
  exact br0 (fun h => c_thr hm (h2 h)) h1
theorem inN_neg {x : Int32} {n : Nat} (h : x < 0) : inN x n = false := by
  unfold inN
  rw [Int32.lt_iff_toInt_lt] at h
  have : (0 : Int32).toInt = 0 := rfl
  have : ¬ (0 ≤ x.toInt) := by omega
  simp [this]
theorem inN_lt {x : Int32} {n : Nat} (hn : n < 2 ^ 31) (h : ¬ x < 0) : (x < nI n) = (inN x n = true) := by
  obtain ⟨j, hj, e⟩ := nI_of h
  subst e
  rw [inN_nI hj, decide_eq_true_eq]
  exact propext (nI_ltI hj hn)
theorem c_needCorner {T : Tw} {d : Ad} {σ : ZS} (h : CT T d σ) (hm : Rm σ) {x : Int32} {Thr : Nat → ZS → Prop} {Ret : ZS → Prop} (h1 : inN x T.nc = true → Ret σ) (h2 : inN x T.nc = false → ∀ σ', Gw (fun _ => False) 1 6 σ σ' → kK NS σ' (zt σ) = (21, 0) → Thr (zt σ) σ') : wp_X1_needCorner σ x Thr Ret := by
  unfold wp_X1_needCorner
  have := h.wf.nc
  refine ⟨fun k => c_thr hm (h2 (inN_neg k)), fun k => c_corners h ?_⟩
  rw [inN_lt (by omega) k]
  exact ⟨h1, fun k2 => c_thr hm (h2 (by simpa using k2))⟩
theorem c_needArc {T : Tw} {d : Ad} {σ : ZS} (h : CT T d σ) (hm : Rm σ) {x : Int32} {Thr : Nat → ZS → Prop} {Ret : ZS → Prop} (h1 : T.isArcI x = true → Ret σ) (h2 : T.isArcI x = false → ∀ σ', Gw (fun _ => False) 1 6 σ σ' → kK NS σ' (zt σ) = (20, 0) → Thr (zt σ) σ') : wp_X1_needArc σ x Thr Ret := by
  unfold wp_X1_needArc
  exact t_isArc h (br0 (fun k => c_thr hm (h2 k)) h1)
theorem c_isTime {tm : Nat} {sg al : Nat → Nat → Int32} {σ : ZS} (h : CH tm sg al σ) {x : Int32} {Ret : Int32 → ZS → Prop} (hr : Ret (b2i (inN x (tm + 1))) σ) : wp_X1_isTime σ x Ret := by
  unfold wp_X1_isTime
  have := h.ht
  rw [h.et]
  refine ⟨fun k => ?_, fun k => ?_⟩
  · rw [inN_neg k] at hr; exact hr
  · obtain ⟨j, hj, e⟩ := nI_of k
    subst e
    rw [inN_nI hj] at hr
    rw [nI_ltI (by omega) hj]
    refine ⟨fun k2 => ?_, fun k2 => ?_⟩
    · have : decide (j < tm + 1) = false := by simp; omega
      rw [this] at hr; exact hr
    · have : decide (j < tm + 1) = true := by simp; omega
      rw [this] at hr; exact hr
/-- the model's history -/
abbrev MH (tm : Nat) (sg al : Nat → Nat → Int32) (σ : ZS) : Prop := (tm ≤ 200) ∧ (zI σ 44 19 = nI tm) ∧ (∀ t, t ≤ tm → ∀ s, s < 24 → zI σ (160 + 1 + t) s = sg t s) ∧ (∀ t, t ≤ tm → ∀ s, s < 24 → zI σ (362 + 1 + t) s = al t s)
theorem MH.ht {tm : Nat} {sg al : Nat → Nat → Int32} {σ : ZS} (h : MH tm sg al σ) : tm ≤ 200 := h.1
theorem MH.et {tm : Nat} {sg al : Nat → Nat → Int32} {σ : ZS} (h : MH tm sg al σ) : zI σ 44 19 = nI tm := h.2.1
theorem MH.es {tm : Nat} {sg al : Nat → Nat → Int32} {σ : ZS} (h : MH tm sg al σ) : ∀ t, t ≤ tm → ∀ s, s < 24 → zI σ (160 + 1 + t) s = sg t s := h.2.2.1
theorem MH.ea {tm : Nat} {sg al : Nat → Nat → Int32} {σ : ZS} (h : MH tm sg al σ) : ∀ t, t ≤ tm → ∀ s, s < 24 → zI σ (362 + 1 + t) s = al t s := h.2.2.2
def noMH (c : Nat) : Prop := c ≠ 1000019 ∧ ¬ (161 ≤ c ∧ c < 362) ∧ ¬ (363 ≤ c ∧ c < 564)
theorem MH.fr {tm : Nat} {sg al : Nat → Nat → Int32} {σ σ' : ZS} {S : Nat → Prop} (h : MH tm sg al σ) (f : Fr S σ σ') (hs : ∀ c, S c → noMH c) : MH tm sg al σ' := by
  have g : ∀ a i, ¬ noMH (cd a i) → zI σ' a i = zI σ a i := fun a i n => f.1 a i fun k => n (hs _ k)
  have := h.ht
  refine ⟨h.ht, ?_, fun t ht s hs' => ?_, fun t ht s hs' => ?_⟩
  · rw [g 44 19 (by unfold noMH cd; simp), h.et]
  · rw [g _ _ (by unfold noMH cd; rw [if_neg (by omega), if_neg (by omega)]; omega), h.es t ht s hs']
  · rw [g _ _ (by unfold noMH cd; rw [if_neg (by omega), if_neg (by omega)]; omega), h.ea t ht s hs']
/-- what the model's questions look at -/
abbrev ME (T : Tw) (tm : Nat) (sg al : Nat → Nat → Int32) (σ : ZS) : Prop := (MT T σ) ∧ (MH tm sg al σ)
theorem ME.mt {T : Tw} {tm : Nat} {sg al : Nat → Nat → Int32} {σ : ZS} (h : ME T tm sg al σ) : MT T σ := h.1
theorem ME.mh {T : Tw} {tm : Nat} {sg al : Nat → Nat → Int32} {σ : ZS} (h : ME T tm sg al σ) : MH tm sg al σ := h.2
/-- the model's scratch -/
def scM (c : Nat) : Prop := (564 ≤ c ∧ c < 569) ∨ (1146 ≤ c ∧ c < 1000000) ∨ (1000000 ≤ c ∧ c ≠ 1000019 ∧ c ≠ 1000027) ∨ c < 47
theorem ME.fr {T : Tw} {tm : Nat} {sg al : Nat → Nat → Int32} {σ σ' : ZS} {S : Nat → Prop} (h : ME T tm sg al σ) (f : Fr S σ σ') (hs : ∀ c, S c → scM c) : ME T tm sg al σ' :=
  ⟨h.mt.fr f fun c k => by have := hs c k; unfold scM at this; unfold noMT; omega, h.mh.fr f fun c k => by have := hs c k; unfold scM at this; unfold noMH; omega⟩
theorem m_isTime {T : Tw} {tm : Nat} {sg al : Nat → Nat → Int32} {σ : ZS} (h : ME T tm sg al σ) {x : Int32} {Ret : Int32 → ZS → Prop} (hr : Ret (b2i (inN x (tm + 1))) σ) : wp_X4_isTime σ x Ret := by
  unfold wp_X4_isTime
  have := h.mh.ht
  have e : zI σ 44 19 = nI (tm + 1) - 1 := by rw [h.mh.et, n1, pk_sub (by omega)]; rfl
  rw [e]
  refine m_inN (by omega) ⟨?_, hr⟩
  cases inN x (tm + 1)
  · exact isB0
  · exact isB1
theorem m_isCorner {T : Tw} {σ : ZS} (h : MT T σ) {x : Int32} {Ret : Int32 → ZS → Prop} (hr : Ret (b2i (inN x T.nc)) σ) : wp_X4_isCorner σ x Ret := by
  unfold wp_X4_isCorner
  have := h.wf.nc
  rw [ix0, h.m0]
  refine m_inN (by omega) ⟨?_, hr⟩
  cases inN x T.nc
  · exact isB0
  · exact isB1
theorem m_isStreet {T : Tw} {σ : ZS} (h : MT T σ) {x : Int32} {Ret : Int32 → ZS → Prop} (hr : Ret (b2i (inN x T.ns)) σ) : wp_X4_isStreet σ x Ret := by
  unfold wp_X4_isStreet
  have := h.wf.ns
  rw [ix1, h.m1]
  refine m_inN (by omega) ⟨?_, hr⟩
  cases inN x T.ns
  · exact isB0
  · exact isB1
theorem isB_b (b : Bool) : isB (b2i b) := by cases b; exact isB0; exact isB1
theorem m_bad {σ : ZS} {b : Bool} {c : Int32} {Ret : Int32 → ZS → Prop} (h0 : zI σ 44 0 = 0) (hc : c ≠ 0) (h1 : b = false → Ret 0 σ) (h2 : b = true → Ret 1 (sI σ 44 0 c)) : wp_X4_bad σ (b2i b) c Ret := by
  unfold wp_X4_bad
  refine br0 (fun k => br_t h0 (h1 k)) fun k => br_t h0 (nm_e ?_)
  rw [zI_self]
  exact br_f hc (h2 k)
theorem m_bad0 {σ : ZS} {c : Int32} {Ret : Int32 → ZS → Prop} (h0 : zI σ 44 0 = 0) (h1 : Ret 0 σ) : wp_X4_bad σ 0 c Ret := by
  unfold wp_X4_bad
  exact br_t rfl (br_t h0 h1)
theorem m_bad1 {σ : ZS} {c : Int32} {Ret : Int32 → ZS → Prop} (h0 : zI σ 44 0 = 0) (hc : c ≠ 0) (h2 : Ret 1 (sI σ 44 0 c)) : wp_X4_bad σ 1 c Ret := by
  unfold wp_X4_bad
  refine br_f (by decide) (br_t h0 (nm_e ?_))
  rw [zI_self]
  exact br_f hc h2
theorem m_laysTime {T : Tw} {tm : Nat} {sg al : Nat → Nat → Int32} {σ : ZS} (h : ME T tm sg al σ) {t : Nat} (ht : t ≤ tm) {Ret : ZS → Prop} (hr : ∀ σ', Fr (fun c => c = 564 ∨ c = 565) σ σ' → NowM (sg t) (al t) σ' → Ret σ') : wp_X4_laysTime σ (nI t) Ret := by
  have h2 := h.mh.ht
  unfold wp_X4_laysTime
  refine forL (S := ZS) (fun k s x => VL_X4_laysTime_2 Ret k s (nI t) x) (fun i s => Fr (fun c => c = 564 ∨ c = 565) σ s ∧ ∀ j, j < i → zI s 564 j = sg t j ∧ zI s 565 j = al t j) 24 ?_ ?_ 0 σ (Nat.zero_le _) ⟨Fr.rfl, fun j hj => absurd hj (Nat.not_lt_zero _)⟩
  · rintro n s ⟨f, g⟩
    simp only [VL_X4_laysTime_2]
    exact br_f (by decide) (hr s f g)
  · rintro n i s hi ⟨f, g⟩ ih
    simp only [VL_X4_laysTime_2]
    simp only [nI1]
    have hs := h.fr f (by intro c hc; unfold scM; omega)
    refine br_t (by rw [n24]; exact nI_lt hi (by decide)) ⟨vin (by omega) (by decide), vin (by omega) (by decide), vin (by omega) (by decide), nm_e ⟨vin (by omega) (by decide), vin (by omega) (by decide), vin (by omega) (by decide), nm_e (nm_e (ih _ ⟨(f.sI _ _ _ (.inl rfl)).sI _ _ _ (.inr rfl), fun j hj => ?_⟩))⟩⟩
    rw [ix_nI (by omega), ix_nI (by omega)]
    have e1 : zI (sI s 564 i (zI s (160 + 1 + t) i)) (362 + 1 + t) i = al t i := by
      rw [zI_ne _ (.inl (by omega)), hs.mh.ea t ht i hi]
    rw [e1, hs.mh.es t ht i hi, zI_ne _ (.inl (show 564 ≠ 565 by decide)), zI_row, zI_row, zI_ne _ (.inl (show 565 ≠ 564 by decide))]
    by_cases e : j = i
    · rw [if_pos e, if_pos e, e]; exact ⟨rfl, rfl⟩
    · rw [if_neg e, if_neg e]; exact g j (by omega)
theorem m_asks {T : Tw} {tm : Nat} {sg al : Nat → Nat → Int32} {σ : ZS} (h : ME T tm sg al σ) {t : Nat} (ht : t ≤ tm) {Ret : ZS → Prop} (hr : ∀ σ', Fr (fun c => c = 564 ∨ c = 565 ∨ c = 566) σ σ' → NowM (sg t) (al t) σ' → FolM T (mayN T (sg t) (al t)) σ' → Ret σ') : wp_X4_asks σ (nI t) Ret := by
  unfold wp_X4_asks
  refine m_laysTime h ht fun s f hn => m_layFollows (h.fr f (by intro c hc; unfold scM; omega)).mt hn fun s' f' hf => hr s' ((f.mono (by intro c hc; omega)).trans (f'.mono (by intro c hc; omega))) (hn.fr f' (by intro c hc; omega)) hf
/-- answers: a code and, if it is 0, a value -/
abbrev Res : Type := Nat × Int64
/-- codes the class's questions may write -/
def SQ (c : Nat) : Prop := (18 ≤ c ∧ c < 44) ∨ c = 1238 ∨ c = 2000009 ∨ c = 2000017 ∨ c = 2000030 ∨ c = 2000031 ∨ c = 2000036 ∨ c = 2000037 ∨ c = 2000038
/-- codes the model's may write -/
def SM (c : Nat) : Prop := (564 ≤ c ∧ c < 569) ∨ (1147 ≤ c ∧ c < 1167) ∨ (1171 ≤ c ∧ c < 1238) ∨ c = 1000000 ∨ (1000033 ≤ c ∧ c < 1000036) ∨ c = 1000043 ∨ (1000054 ≤ c ∧ c < 1000060)
/-- nothing is tried -/
abbrev Sf (σ : ZS) : Prop := (OV false (fun _ => 0) (fun _ => 0) σ) ∧ (zI σ 0 36 = -1)
theorem Sf.ov {σ : ZS} (h : Sf σ) : OV false (fun _ => 0) (fun _ => 0) σ := h.1
theorem Sf.bf {σ : ZS} (h : Sf σ) : zI σ 0 36 = -1 := h.2
theorem Sf.fr {σ σ' : ZS} {S : Nat → Prop} (h : Sf σ) (f : Fr S σ σ') (hs : ∀ c, S c → c ≠ 18 ∧ c ≠ 19 ∧ c ≠ 2000009 ∧ c ≠ 2000036) : Sf σ' :=
  ⟨h.ov.frm f fun c k => ⟨(hs c k).1, (hs c k).2.1, (hs c k).2.2.1⟩, by rw [f.1 0 36 fun k => (hs _ k).2.2.2 rfl, h.bf]⟩
theorem Sf.gw {σ σ' : ZS} {k m : Nat} (h : Sf σ) (hz : NS ≤ zt σ) (g : Gw (fun _ => False) k m σ σ') : Sf σ' := by
  have hz : 1239 ≤ zt σ := hz
  refine ⟨⟨?_, fun s hs => ?_, fun s hs => ?_⟩, ?_⟩
  · rw [g.i 0 9 (by omega) id]; exact h.ov.ef
  · rw [g.i 18 s (by omega) id]; exact h.ov.em s hs
  · rw [g.i 19 s (by omega) id]; exact h.ov.ee s hs
  · rw [g.i 0 36 (by omega) id]; exact h.bf
/-- the class's answer -/
def PC (σ : ZS) (Ret : Int32 → ZS → Prop) (r : Res) : Prop := ∀ σ', Gw SQ 1 6 σ σ' → Sf σ' → (r.1 = 0 → zJ σ' 1238 0 = r.2) → Ret (nI r.1) σ'
/-- the model's answer -/
def PM (σ : ZS) (Ret : Int32 → ZS → Prop) (r : Nat × Int32) : Prop := ∀ σ' v, Gw SM 1 24 σ σ' → zI σ' 44 54 = -1 → zI σ' 44 0 = nI r.1 → (r.1 = 0 → v = r.2) → Ret v σ'
theorem PC.thr {σ : ZS} {Ret : Int32 → ZS → Prop} {r : Res} (hr : PC σ Ret r) {c : Nat} (e : r.1 = c) (hc : c ≠ 0) (hz : NS ≤ zt σ) (hf : Sf σ) {σ' : ZS} (g : Gw (fun _ => False) 1 6 σ σ') : Ret (nI c) σ' := by
  have := hr σ' (g.mono (fun _ k => k.elim) (Nat.le_refl _) (Nat.le_refl _)) (hf.gw hz g) (fun k => absurd (e ▸ k) hc)
  rw [e] at this; exact this
theorem PC.ret {σ : ZS} {Ret : Int32 → ZS → Prop} {r : Res} (hr : PC σ Ret r) (e : r.1 = 0) {σ' : ZS} (f : Fr SQ σ σ') (hf : Sf σ') {v : Int64} (ev : v = r.2) : ∀ σ6 : ZS, σ6 = sJ σ' 1238 (ix 0) v → Ret 0 σ6 := by
  rintro σ6 rfl
  have f2 := f.sJ 1238 (ix 0) v (.inr (.inl rfl))
  have := hr _ (f2.gw.mono (fun _ k => k) (by omega) (by omega)) ⟨⟨hf.ov.ef, hf.ov.em, hf.ov.ee⟩, hf.bf⟩ (fun _ => by rw [← ev]; exact zJ_self _ _ _ _)
  rw [e] at this; exact this
