/-! PURE HALF: questions II: reach, open, since. -/
set_option maxRecDepth 100000
theorem cnt_pos {p : Nat → Bool} {n y : Nat} (hy : y < n) (h : p y = true) : 1 ≤ cnt p n := by
  have := cnt_lt (p := fun _ => false) (q := p) (n := n) (y := y) (fun _ _ k => by cases k) hy h rfl
  omega
theorem cnt_cut {p : Nat → Bool} {m n : Nat} (hm : m ≤ n) (h : ∀ x, m ≤ x → x < n → p x = false) : cnt p n = cnt p m := by
  induction n with
  | zero => have : m = 0 := by omega
            rw [this]
  | succ n ih =>
    by_cases e : m = n + 1
    · rw [e]
    · show cnt p n + (if p n then 1 else 0) = _
      rw [h n (by omega) (by omega), ih (by omega) fun x h1 h2 => h x h1 (by omega)]; rfl
theorem cnt_full {p : Nat → Bool} {n : Nat} : cnt p n = n ↔ ∀ x, x < n → p x = true := by
  induction n with
  | zero => exact ⟨fun _ x hx => by omega, fun _ => rfl⟩
  | succ n ih =>
    unfold cnt
    have := cnt_le p n
    constructor
    · intro h x hx
      cases hp : p n
      · rw [hp] at h; simp at h; omega
      · rw [hp] at h; simp at h
        by_cases e : x = n
        · rw [e]; exact hp
        · exact ih.mp h x (by omega)
    · intro h
      rw [ih.mpr fun x hx => h x (by omega), h n (by omega)]; rfl
theorem sumN_full {f : Nat → Nat} {n m : Nat} (hf : ∀ x, x < n → f x ≤ m) : sumN f n ≤ n * m ∧ (sumN f n = n * m ↔ ∀ x, x < n → f x = m) := by
  induction n with
  | zero => exact ⟨by simp [sumN], ⟨fun _ x hx => by omega, fun _ => by simp [sumN]⟩⟩
  | succ n ih =>
    obtain ⟨h1, h2⟩ := ih fun x hx => hf x (by omega)
    have h3 := hf n (by omega)
    unfold sumN
    rw [Nat.succ_mul]
    refine ⟨by omega, fun h x hx => ?_, fun h => ?_⟩
    · by_cases e : x = n
      · rw [e]; omega
      · exact h2.mp (by omega) x (by omega)
    · rw [h2.mpr fun x hx => h x (by omega), h n (by omega)]
/-- how many corners a ride leads to -/
noncomputable def rcn (T : Tw) (G : Nat → Nat → Bool) (c : Nat) : Nat := cnt (btI (rchV T G c)) 24
theorem rch_hi {T : Tw} (w : T.WF) {G : Nat → Nat → Bool} {c : Nat} (hc : c < T.nc) {k : Nat} (hk : T.nc ≤ k) : btI (rchV T G c) k = false := by
  rcases Nat.lt_or_ge k 32 with h | h
  · rw [bt_rchV h, ← Bool.not_eq_true]
    intro e
    have := RcC_lt w hc (rcB_iff.mp e)
    omega
  · exact bt_hi _ h
theorem rcn_eq {T : Tw} (w : T.WF) {G : Nat → Nat → Bool} {c : Nat} (hc : c < T.nc) : rcn T G c = cnt (rcB T G c) T.nc := by
  have := w.nc
  unfold rcn
  rw [cnt_cut (m := T.nc) (by omega) fun x h1 _ => rch_hi w hc h1]
  exact cnt_congr fun x hx => bt_rchV (by omega)
theorem rcn_le {T : Tw} (w : T.WF) {G : Nat → Nat → Bool} {c : Nat} (hc : c < T.nc) : 1 ≤ rcn T G c ∧ rcn T G c ≤ T.nc := by
  rw [rcn_eq w hc]
  exact ⟨cnt_pos hc (rcB_iff.mpr (.inl rfl)), cnt_le _ _⟩
/-- how many pairs of corners have a ride -/
noncomputable def prV (T : Tw) (G : Nat → Nat → Bool) : Nat := sumN (fun c => rcn T G c - 1) T.nc
noncomputable def opB (T : Tw) (G : Nat → Nat → Bool) : Bool := decide (prV T G = T.nc * (T.nc - 1))
theorem prV_le {T : Tw} (w : T.WF) (G : Nat → Nat → Bool) : prV T G ≤ T.nc * (T.nc - 1) := (sumN_full (m := T.nc - 1) fun x hx => by have := rcn_le w (G := G) hx; omega).1
theorem opB_iff {T : Tw} (w : T.WF) {G : Nat → Nat → Bool} : opB T G = true ↔ ∀ c, c < T.nc → ∀ k, k < T.nc → rcB T G c k = true := by
  unfold opB
  rw [decide_eq_true_eq]
  unfold prV
  rw [(sumN_full (m := T.nc - 1) fun x hx => by have := rcn_le w (G := G) hx; omega).2]
  constructor
  · intro h c hc
    have h1 := h c hc
    have h2 := rcn_le w (G := G) hc
    exact cnt_full.mp (by rw [← rcn_eq w hc]; omega)
  · intro h c hc
    have := cnt_full.mpr (h c hc)
    rw [rcn_eq w hc, this]
theorem full_bits : ∀ n, n ≤ 16 → ∀ k, k < 32 → btI (((1 : Int32) <<< (nI n &&& 31)) - 1) k = decide (k < n) := by
  have : ∀ a : Fin 17, ∀ b : Fin 32, btI (((1 : Int32) <<< (nI a.val &&& 31)) - 1) b.val = decide (b.val < a.val) := by decide +kernel
  exact fun n hn k hk => this ⟨n, by omega⟩ ⟨k, hk⟩
theorem rch_full {T : Tw} (w : T.WF) {G : Nat → Nat → Bool} {c : Nat} (hc : c < T.nc) : (rchV T G c = ((1 : Int32) <<< (nI T.nc &&& 31)) - 1) ↔ ∀ k, k < T.nc → rcB T G c k = true := by
  have := w.nc
  constructor
  · intro e k hk
    rw [← bt_rchV (by omega), e, full_bits _ (by omega) _ (by omega)]; simp [hk]
  · intro h
    apply bt_ext
    intro k hk
    rw [full_bits _ (by omega) k hk]
    by_cases e : k < T.nc
    · rw [bt_rchV hk, h k e]; simp [e]
    · rw [rch_hi w hc (by omega)]; simp [e]
theorem c_isOpen {e : Ev} {σ : ZS} (h : CE e σ) {t : Nat} (ht : t ≤ e.tm) {Ret : Int32 → ZS → Prop} (hr : ∀ σ', Fr inQ σ σ' → Ret (b2i (opB e.T (e.G t))) σ') : wp_X1_isOpen σ (nI t) Ret := by
  have hnc := h.ct.wf.nc
  have w := h.ct.wf
  unfold wp_X1_isOpen
  refine forL (S := ZS) (fun k s x => VL_X1_isOpen_2 Ret k s (nI t) x) (fun i s => Fr inQ σ s ∧ ∀ c, c < i → ∀ k, k < e.T.nc → rcB e.T (e.G t) c k = true) e.T.nc ?_ ?_ 0 σ (Nat.zero_le _) ⟨Fr.rfl, fun c hc => absurd hc (Nat.not_lt_zero _)⟩
  · rintro n s ⟨f, g⟩
    have hs := h.fr f inQ_sc
    simp only [VL_X1_isOpen_2]
    refine c_corners hs.ct (br_f (nI_nlt (Nat.le_refl _) (by omega)) ?_)
    have := hr s f
    rw [(opB_iff w).mpr g] at this; exact this
  · rintro n i s hi ⟨f, g⟩ ih
    have hs := h.fr f inQ_sc
    simp only [VL_X1_isOpen_2]
    simp only [nI1]
    refine c_corners hs.ct (br_t (nI_lt hi (by omega)) (c_reached hs ht hi fun s' f' => ?_))
    have ff := f.trans f'
    have hs' := h.fr ff inQ_sc
    refine c_corners hs'.ct ⟨fun k => nm_e (ih s' ⟨ff, fun c hc => ?_⟩), fun k => ?_⟩
    · by_cases e1 : c = i
      · rw [e1]; exact (rch_full w hi).mp k
      · exact g c (by omega)
    · have := hr s' ff
      have e2 : opB e.T (e.G t) = false := by
        rw [← Bool.not_eq_true]
        intro k2
        exact k ((rch_full w hi).mpr ((opB_iff w).mp k2 i hi))
      rw [e2] at this; exact this
theorem c_pairs {e : Ev} {σ : ZS} (h : CE e σ) {t : Nat} (ht : t ≤ e.tm) {Ret : Int32 → ZS → Prop} (hr : ∀ σ', Fr inQ σ σ' → Ret (nI (prV e.T (e.G t))) σ') : wp_X1_pairs σ (nI t) Ret := by
  have hnc := h.ct.wf.nc
  have w := h.ct.wf
  unfold wp_X1_pairs
  refine forL1 (fun k s v x => VL_X1_pairs_4 Ret k s (nI t) v x) (fun i s v => Fr inQ σ s ∧ v = nI (sumN (fun c => rcn e.T (e.G t) c - 1) i)) e.T.nc ?_ ?_ 0 σ 0 (Nat.zero_le _) ⟨Fr.rfl, rfl⟩
  · rintro n s v ⟨f, rfl⟩
    have hs := h.fr f inQ_sc
    simp only [VL_X1_pairs_4]
    exact c_corners hs.ct (br_f (nI_nlt (Nat.le_refl _) (by omega)) (hr s f))
  · rintro n i s v hi ⟨f, rfl⟩ ih
    have hs := h.fr f inQ_sc
    simp only [VL_X1_pairs_4]
    simp only [nI1]
    have hl := rcn_le w (G := e.G t) hi
    refine c_corners hs.ct (br_t (nI_lt hi (by omega)) (c_reached hs ht hi fun s' f' => c_bitCount (fun k hk => rch_hi w hi (by omega)) (nm_e (nm_e (ih s' _ ⟨f.trans f', ?_⟩)))))
    show _ + (nI (rcn e.T (e.G t) i) - 1) = nI (_ + (rcn e.T (e.G t) i - 1))
    rw [nI_sub1 hl.1, nI_add]
theorem m_pairs {T : Tw} {σ : ZS} (h : MT T σ) {sn an : Nat → Int32} (hn : NowM sn an σ) {Ret : Int32 → ZS → Prop} (hr : ∀ σ', Fr (fun c => c = 566 ∨ c = 567) σ σ' → Ret (nI (prV T (mayN T sn an))) σ') : wp_X4_pairs σ Ret := by
  have hnc := h.wf.nc
  have w := h.wf
  unfold wp_X4_pairs
  refine m_layFollows h hn fun s1 f1 hf1 => m_layReaches (h.fr f1 (by intro c hc; unfold noMT; omega)) hf1 fun s2 f2 hr2 => ?_
  have ff : Fr (fun c => c = 566 ∨ c = 567) σ s2 := (f1.mono (by intro c hc; omega)).trans (f2.mono (by intro c hc; omega))
  have h2 := h.fr ff (by intro c hc; unfold noMT; omega)
  refine forL1 (fun k s v x => VL_X4_pairs_12 Ret k s v x) (fun i s v => s = s2 ∧ v = nI (sumN (fun c => rcn T (mayN T sn an) c - 1) i)) T.nc ?_ ?_ 0 s2 0 (Nat.zero_le _) ⟨rfl, rfl⟩
  · rintro n s v ⟨rfl, rfl⟩
    simp only [VL_X4_pairs_12]
    rw [h2.ltC (by omega)]
    exact br_f (by omega) (hr s ff)
  · rintro n i s v hi ⟨rfl, rfl⟩ ih
    simp only [VL_X4_pairs_12]
    rw [h2.ltC (by omega)]
    simp only [nI1]
    have hl := rcn_le w (G := mayN T sn an) hi
    refine br_t hi (m_reachOf h2 hr2 hi (m_ones (nm_e (nm_e (ih s _ ⟨rfl, ?_⟩)))))
    show _ + (nI (rcn T (mayN T sn an) i) - 1) = nI (_ + (rcn T (mayN T sn an) i - 1))
    rw [nI_sub1 hl.1, nI_add]
theorem m_full {T : Tw} {σ : ZS} (h : MT T σ) (G : Nat → Nat → Bool) : (nI (prV T G) = zI σ 47 (ix 0) * (zI σ 47 (ix 0) - 1)) = (opB T G = true) := by
  have hnc := h.wf.nc
  have hp := prV_le h.wf G
  rw [ix0, h.m0]
  unfold opB
  rw [decide_eq_true_eq]
  rcases Nat.eq_zero_or_pos T.nc with e | e
  · have e2 : prV T G = 0 := by rw [e] at hp; simpa using hp
    rw [e2, e]; apply propext; constructor <;> intro <;> rfl
  · rw [nI_sub1 e, pk_mul]
    have : T.nc * (T.nc - 1) ≤ 16 * 15 := Nat.mul_le_mul hnc (by omega)
    exact propext (nI_eq (by omega) (by omega))
theorem m_isOpen {T : Tw} {σ : ZS} (h : MT T σ) {sn an : Nat → Int32} (hn : NowM sn an σ) {Ret : Int32 → ZS → Prop} (hr : ∀ σ', Fr (fun c => c = 566 ∨ c = 567) σ σ' → Ret (b2i (opB T (mayN T sn an))) σ') : wp_X4_isOpen σ Ret := by
  unfold wp_X4_isOpen
  refine m_pairs h hn fun s f => ?_
  have hs := h.fr f (by intro c hc; unfold noMT; omega)
  have := hr s f
  rw [m_full hs]
  refine brB rfl (fun k => ?_) fun k => ?_
  · rw [k] at this; exact this
  · rw [k] at this; exact this
/-! a time and a choice of two: the guards -/
def sp1 (b : Bool) (v : Int32) : Nat × Int32 := if b then (0, v) else (1, 0)
theorem sp1_1 {v : Int32} {b : Bool} (h : b = false) : (sp1 b v).1 = 1 := by unfold sp1; rw [h]; rfl
theorem sp1_0 {v : Int32} {b : Bool} (h : b = true) : sp1 b v = (0, v) := by unfold sp1; rw [h]; rfl
theorem m_in01 {σ : ZS} {x : Int32} {Ret : Int32 → ZS → Prop} (h : Ret (b2i (inN x 2)) σ) : wp_X4_in σ x 0 1 Ret := by
  have : (1 : Int32) = nI 2 - 1 := by decide
  rw [this]; exact m_inN (by decide) h
theorem inN2 {x : Int32} : inN x 2 = (decide (x = 0) || decide (x = 1)) := by
  rw [Bool.eq_iff_iff]
  constructor
  · intro h
    obtain ⟨j, e, hj, -, -⟩ := inN_N h
    subst e
    rcases (show j = 0 ∨ j = 1 by omega) with rfl | rfl
    · decide
    · decide
  · intro h
    simp only [Bool.or_eq_true, decide_eq_true_eq] at h
    rcases h with rfl | rfl
    · decide
    · decide
/-- the class's guard of a time and a choice -/
theorem C_tw {T : Tw} {d : Ad} {tm : Nat} {sg al : Nat → Nat → Int32} {σ : ZS} (h : CQ T d tm sg al σ) {t x : Int32} {v : Int32} {Ret : Int32 → ZS → Prop} (hr : PC σ Ret (wd (sp1 (inN t (tm + 1) && inN x 2) v))) {V21 V17 : ZS → Prop} {K : ZS → Prop} (h22 : ∀ b : Bool, wp_X1_need σ (b2i b) (fun x3 σ4 => ((∃ x, kK NS σ4 x3 = (12 + 7, x)) ∧ (Ret 1 σ4))) K → (if b then V17 σ else V21 σ)) (hk : inN t (tm + 1) = true → inN x 2 = true → PC σ Ret (0, v.toInt64) → K σ) : wp_X1_isTime σ t (fun r1 σ2 => ((r1 = 0 → (V21 σ2)) ∧ (¬ r1 = 0 → (((x = 0 → (V17 σ2)) ∧ (¬ x = 0 → (((x = 1 → (V17 σ2)) ∧ (¬ x = 1 → (V21 σ2)))))))))) := by
  obtain ⟨ct, ch, sf, rm⟩ := h
  have bad : (inN t (tm + 1) && inN x 2) = false → V21 σ := fun k => h22 false (c_need rm (fun k => by cases k) fun _ σ' g k2 => ⟨⟨0, k2⟩, hr.thr (c := 1) (sp1_1 k) (by decide) rm.1 sf g⟩)
  have good : inN t (tm + 1) = true → inN x 2 = true → V17 σ := fun k1 k2 => h22 true (c_need rm (fun _ => hk k1 k2 (by rw [sp1_0 (by rw [k1, k2]; rfl)] at hr; exact hr)) (fun k => by cases k))
  refine c_isTime ch (br0 (fun k => bad (by rw [k]; rfl)) fun k => ⟨fun k2 => good k (by rw [inN2, k2]; rfl), fun k2 => ⟨fun k3 => good k (by rw [inN2, k3]; rfl), fun k3 => bad ?_⟩⟩)
  rw [inN2]; simp [k2, k3]
/-! open -/
noncomputable def spOpen (T : Tw) (tm : Nat) (sg al : Nat → Nat → Int32) (t x : Int32) : Nat × Int32 := sp1 (inN t (tm + 1) && inN x 2) (if x = 1 then nI (prV T (GT T sg al (ix t))) else b2i (opB T (GT T sg al (ix t))))
theorem inQ_S : ∀ c, inQ c → (20 ≤ c ∧ c < 44) ∨ c = 2000017 ∨ c = 2000030 ∨ c = 2000031 ∨ c = 2000037 ∨ c = 2000038 := by intro c hc; unfold inQ at hc; omega
theorem C_open {T : Tw} {d : Ad} {tm : Nat} {sg al : Nat → Nat → Int32} {σ : ZS} (h : CQ T d tm sg al σ) {t x : Int32} {Ret : Int32 → ZS → Prop} (hr : PC σ Ret (wd (spOpen T tm sg al t x))) : wp_X0_open σ t x Ret := by
  unfold wp_X0_open wp_X1_open
  have ce := h.ce
  refine C_tw (K := fun σ4 => ((x = 1 → (wp_X1_pairs σ4 t (fun r7 σ8 => ∀ σ6 : ZS, σ6 = sJ σ8 1238 (ix 0) r7.toInt64 → (Ret 0 σ6)))) ∧ (¬ x = 1 → (wp_X1_isOpen σ4 t (fun r5 σ6 => ((r5 = 0 → (∀ σ7 : ZS, σ7 = sJ σ6 1238 (ix 0) (0 : Int32).toInt64 → (Ret 0 σ7))) ∧ (¬ r5 = 0 → (∀ σ7 : ZS, σ7 = sJ σ6 1238 (ix 0) (1 : Int32).toInt64 → (Ret 0 σ7))))))))) h hr (fun b k => ?_) fun h1 h2 hr => ?_
  · cases b
    · exact k
    · exact k
  · obtain ⟨w, rfl, hw, ew, -⟩ := inN_N h1
    rw [ew] at hr
    refine ⟨fun k => c_pairs ce (by show w ≤ tm; omega) fun s f => hr.ok rfl h.2.2.1 f inQ_S ?_, fun k => c_isOpen ce (by show w ≤ tm; omega) fun s f => ?_⟩
    · rw [ev0_G]; show _ = Int32.toInt64 _; rw [if_pos k]; rfl
    · rw [ev0_G]
      rw [if_neg k] at hr
      refine br0 (fun k2 => hr.ok rfl h.2.2.1 f inQ_S ?_) fun k2 => hr.ok rfl h.2.2.1 f inQ_S ?_
      · show _ = Int32.toInt64 _; rw [show opB T (GT T sg al w) = false from k2]; rfl
      · show _ = Int32.toInt64 _; rw [show opB T (GT T sg al w) = true from k2]; rfl
/-- the model's guard of a time and a choice -/
theorem M_tw {T : Tw} {tm : Nat} {sg al : Nat → Nat → Int32} {σ : ZS} (h : ME T tm sg al σ) {t x : Int32} {V23 V28 : ZS → Prop} (h23 : (inN t (tm + 1) && inN x 2) = false → V23 (sI σ 44 0 0)) (h28 : inN t (tm + 1) = true → inN x 2 = true → V28 (sI σ 44 0 0)) : ∀ σ1 : ZS, σ1 = sI σ 44 0 0 → (wp_X4_isTime σ1 t (fun r2 σ3 => ((r2 = 0 → (V23 σ3)) ∧ (¬ r2 = 0 → (wp_X4_in σ3 x 0 1 (fun r25 σ26 => ((r25 = 0 → (V23 σ26)) ∧ (¬ r25 = 0 → (V28 σ26))))))))) := by
  refine nm_e ?_
  obtain ⟨h1, hz⟩ := h.z
  exact m_isTime h1 (br0 (fun k => h23 (by rw [k]; rfl)) fun k => m_in01 (br0 (fun k2 => h23 (by rw [k2, Bool.and_false])) fun k2 => h28 k k2))
theorem M_open {T : Tw} {tm : Nat} {sg al : Nat → Nat → Int32} {σ : ZS} (h : ME T tm sg al σ) (hb : zI σ 44 54 = -1) {t x : Int32} {Ret : Int32 → ZS → Prop} (hr : PM σ Ret (spOpen T tm sg al t x)) : wp_X4_open σ t x Ret := by
  unfold wp_X4_open
  obtain ⟨h1, hz⟩ := h.z
  unfold spOpen at hr
  refine M_tw h (fun k => ?_) fun k k2 => ?_
  · unfold V_X4_open_23 V_X4_open_28
    exact m_bad1 hz (by decide) (br_f (by decide) (hr.thr (c := 1) (sp1_1 k) (by decide) hb))
  · unfold V_X4_open_28
    rw [sp1_0 (by rw [k, k2]; rfl)] at hr
    obtain ⟨w, rfl, hw, ew, -⟩ := inN_N k
    rw [ew] at hr
    refine m_bad0 hz (br_t rfl (m_laysTime h1 (t := w) (by omega) fun s f hn => m_pairs (h1.fr f (by intro c hc; unfold scM; omega)).mt hn fun s2 f2 => ?_))
    have ff : Fr (fun c => c = 564 ∨ c = 565 ∨ c = 566 ∨ c = 567) (sI σ 44 0 0) s2 := (f.mono (by intro c hc; omega)).trans (f2.mono (by intro c hc; omega))
    have hS : ∀ c, c = 564 ∨ c = 565 ∨ c = 566 ∨ c = 567 → SM c ∧ c ≠ 1000000 ∧ c ≠ 1000054 := by intro c hc; unfold SM; omega
    have hs2 := h1.fr ff (by intro c hc; unfold scM; omega)
    refine ⟨fun k3 => hr.ok rfl hb ff hS ?_, fun k3 => ?_⟩
    · show _ = ite _ _ _; rw [if_pos k3]; rfl
    · rw [m_full hs2.mt]
      rw [if_neg k3] at hr
      refine brB rfl (fun k4 => hr.ok rfl hb ff hS ?_) fun k4 => hr.ok rfl hb ff hS ?_
      · show _ = b2i (opB T (GT T sg al w)); rw [show opB T (GT T sg al w) = true from k4]; rfl
      · show _ = b2i (opB T (GT T sg al w)); rw [show opB T (GT T sg al w) = false from k4]; rfl
/-! reach -/
noncomputable def rchQ (T : Tw) (G : Nat → Nat → Bool) (c : Nat) (x : Int32) : Int32 := if x = 0 then rchV T G c else if x = 1 then homV T G c else nI (cnt (btI (rchV T G c &&& (homV T G c ^^^ (-1)))) 24)
noncomputable def spReach (T : Tw) (tm : Nat) (sg al : Nat → Nat → Int32) (c t x : Int32) : Nat × Int32 := sp2 (inN c T.nc) (inN t (tm + 1) && inN x 3) (rchQ T (GT T sg al (ix t)) (ix c) x)
theorem C_reach {T : Tw} {d : Ad} {tm : Nat} {sg al : Nat → Nat → Int32} {σ : ZS} (h : CQ T d tm sg al σ) {c t x : Int32} {Ret : Int32 → ZS → Prop} (hr : PC σ Ret (wd (spReach T tm sg al c t x))) : wp_X0_reach σ c t x Ret := by
  unfold wp_X0_reach wp_X1_reach
  have ce := h.ce
  have hnc := h.1.wf.nc
  unfold spReach at hr
  obtain ⟨ct, ch, sf, rm⟩ := h
  refine c_needCorner ct rm (fun h1 => ?_) (fun h1 σ' g k => .inl ⟨⟨0, k⟩, hr.thr (c := 1) (sp2_1 h1) (by decide) rm.1 sf g⟩)
  have bad : (inN t (tm + 1) && inN x 3) = false → V_X1_reach_26 (fun x3 σ4 => ((∃ x, kK NS σ4 x3 = (14 + 7, x)) ∧ (Ret 1 σ4)) ∨ ((∃ x, kK NS σ4 x3 = (12 + 7, x)) ∧ (Ret 2 σ4))) (fun r1 σ2 => ∀ σ6 : ZS, σ6 = sJ σ2 1238 (ix 0) r1.toInt64 → (Ret 0 σ6)) σ c t x := by
    intro k
    unfold V_X1_reach_26 V_X1_reach_27
    exact c_need (b := false) rm (fun k => by cases k) fun _ σ' g k2 => .inr ⟨⟨0, k2⟩, hr.thr (c := 2) (sp2_2 h1 k) (by decide) rm.1 sf g⟩
  refine c_isTime ch (br0 (fun k => bad (by rw [k]; rfl)) fun k => ⟨fun k2 => bad (by rw [inN_neg k2, Bool.and_false]), fun k2 => ?_⟩)
  obtain ⟨j, hj, rfl⟩ := nI_of k2
  have i3 : inN (nI j) 3 = decide (j < 3) := inN_nI hj
  refine ⟨fun k3 => bad ?_, fun k3 => ?_⟩
  · rw [n2, nI_ltI (by decide) hj] at k3
    rw [i3]; simp; omega
  rw [n2, nI_ltI (by decide) hj] at k3
  rw [sp2_0 h1 (by rw [k, i3]; simp; omega)] at hr
  unfold V_X1_reach_27
  obtain ⟨y, rfl, hy, ey, hy2⟩ := inN_N h1
  obtain ⟨w, rfl, hw, ew, -⟩ := inN_N k
  rw [ey, ew] at hr
  unfold rchQ at hr
  refine c_need (b := true) rm (fun _ => c_reached ce (by show w ≤ tm; omega) hy fun s f => ?_) (fun k => by cases k)
  rw [ev0_G]
  refine ⟨fun k4 => hr.ok rfl sf f inQ_S (by show _ = Int32.toInt64 (ite _ _ _); rw [if_pos k4]; rfl), fun k4 => ?_⟩
  rw [if_neg k4] at hr
  have hs := ce.fr f inQ_sc
  refine c_homeOf hs (by show w ≤ tm; omega) hy fun s2 f2 => ?_
  have ff := f.trans f2
  rw [ev0_G]
  refine ⟨fun k5 => hr.ok rfl sf ff inQ_S (by show _ = Int32.toInt64 (ite _ _ _); rw [if_pos k5]; rfl), fun k5 => ?_⟩
  rw [if_neg k5] at hr
  refine c_bitCount (fun k hk => ?_) (hr.ok rfl sf ff inQ_S rfl)
  rw [bt_and, show btI (rchV (ev0 T d tm sg al).T (GT T sg al w) y) k = false from rch_hi ct.wf hy (show T.nc ≤ k by omega)]; rfl
theorem M_reach {T : Tw} {tm : Nat} {sg al : Nat → Nat → Int32} {σ : ZS} (h : ME T tm sg al σ) (hb : zI σ 44 54 = -1) {c t x : Int32} {Ret : Int32 → ZS → Prop} (hr : PM σ Ret (spReach T tm sg al c t x)) : wp_X4_reach σ c t x Ret := by
  unfold wp_X4_reach
  refine nm_e ?_
  obtain ⟨h1, hz⟩ := h.z
  unfold spReach at hr
  refine m_isCorner h1.mt (br0 (fun k => ?_) fun k => ?_)
  · unfold V_X4_reach_19
    exact m_bad1 hz (by decide) (br_f (by decide) (hr.thr (c := 1) (sp2_1 k) (by decide) hb))
  unfold V_X4_reach_19
  have bad : (inN t (tm + 1) && inN x 3) = false → V_X4_reach_44 Ret (sI σ 44 0 0) c t x := by
    intro k2
    unfold V_X4_reach_44 V_X4_reach_49
    exact m_bad1 hz (by decide) (br_f (by decide) (hr.thr (c := 2) (sp2_2 k k2) (by decide) hb))
  have e3 : (2 : Int32) = nI 3 - 1 := by decide
  refine m_bad0 hz (br_t rfl (m_isTime h1 (br0 (fun k2 => bad (by rw [k2]; rfl)) fun k2 => ?_)))
  rw [show wp_X4_in (sI σ 44 0 0) x 0 2 = wp_X4_in (sI σ 44 0 0) x 0 (nI 3 - 1) from rfl]
  refine m_inN (by decide) (br0 (fun k3 => bad (by rw [k3, Bool.and_false])) fun k3 => ?_)
  rw [sp2_0 k (by rw [k2, k3]; rfl)] at hr
  unfold V_X4_reach_49
  obtain ⟨y, rfl, hy, ey, hy2⟩ := inN_N k
  obtain ⟨w, rfl, hw, ew, -⟩ := inN_N k2
  rw [ey, ew] at hr
  unfold rchQ at hr
  refine m_bad0 hz (br_t rfl (m_asks h1 (t := w) (by omega) fun s f hn hf => ?_))
  have hs := h1.fr f (by intro c hc; unfold scM; omega)
  refine m_layReaches hs.mt hf fun s2 f2 hr2 => ?_
  have ff : Fr (fun c => c = 564 ∨ c = 565 ∨ c = 566 ∨ c = 567) (sI σ 44 0 0) s2 := (f.mono (by intro c hc; omega)).trans (f2.mono (by intro c hc; omega))
  have hS : ∀ c, c = 564 ∨ c = 565 ∨ c = 566 ∨ c = 567 → SM c ∧ c ≠ 1000000 ∧ c ≠ 1000054 := by intro c hc; unfold SM; omega
  have hs2 := h1.fr ff (by intro c hc; unfold scM; omega)
  refine ⟨fun k4 => m_reachOf hs2.mt hr2 hy (hr.ok rfl hb ff hS (by show _ = ite _ _ _; rw [if_pos k4]; rfl)), fun k4 => ?_⟩
  rw [if_neg k4] at hr
  refine ⟨fun k5 => m_homeOf hs2.mt hr2 hy (hr.ok rfl hb ff hS (by show _ = ite _ _ _; rw [if_pos k5]; rfl)), fun k5 => ?_⟩
  rw [if_neg k5] at hr
  exact m_reachOf hs2.mt hr2 hy (m_homeOf hs2.mt hr2 hy (m_ones (hr.ok rfl hb ff hS rfl)))
/-! since -/
def sinF (p : Nat → Bool) : Nat → Nat → Int32
  | 0, _ => -1
  | n + 1, t => if p t then nI t else sinF p n (t + 1)
noncomputable def spSince (T : Tw) (tm : Nat) (sg al : Nat → Nat → Int32) (a b t : Int32) (is : Bool) : Nat × Int32 := sp2 (inN a T.nc && inN b T.nc) (inN t (tm + 1)) (sinF (fun w => rcB T (GT T sg al w) (ix a) (ix b) == is) (tm + 1 - ix t) (ix t))
theorem C_since {T : Tw} {d : Ad} {tm : Nat} {sg al : Nat → Nat → Int32} {σ : ZS} (h : CQ T d tm sg al σ) {a b t : Int32} {is : Bool} {Ret : Int32 → ZS → Prop} (hr : PC σ Ret (wd (spSince T tm sg al a b t is))) : wp_X0_since σ a b t (b2i is) Ret := by
  unfold wp_X0_since wp_X1_since
  refine C_cct h hr (fun h1 h2 h3 hr => ?_) rfl
  have ce := h.ce
  have hnc := h.1.wf.nc
  obtain ⟨x, rfl, hx, ex, hx2⟩ := inN_N h1
  obtain ⟨y, rfl, hy, ey, hy2⟩ := inN_N h2
  obtain ⟨w, rfl, hw, ew, -⟩ := inN_N h3
  rw [ex, ey, ew] at hr
  have htm := h.2.1.ht
  refine forL (S := ZS) (fun k s v => VL_X1_since_21 (fun x3 σ4 => ((∃ x, kK NS σ4 x3 = (14 + 7, x)) ∧ (Ret 1 σ4)) ∨ ((∃ x, kK NS σ4 x3 = (12 + 7, x)) ∧ (Ret 2 σ4))) (fun r1 σ2 => ∀ σ6 : ZS, σ6 = sJ σ2 1238 (ix 0) r1.toInt64 → (Ret 0 σ6)) k s (nI x) (nI y) (b2i is) v) (fun i s => Fr inQ σ s ∧ sinF (fun w => rcB T (GT T sg al w) x y == is) (tm + 1 - w) w = sinF (fun w => rcB T (GT T sg al w) x y == is) (tm + 1 - i) i) (tm + 1) ?_ ?_ w σ (by omega) ⟨Fr.rfl, rfl⟩
  · rintro n s ⟨f, e⟩
    have hs := ce.fr f inQ_sc
    simp only [VL_X1_since_21]
    rw [hs.ch.et]
    refine br_t (nI_lt (by show tm < _; omega) (by omega)) (hr.ok rfl h.2.2.1 f inQ_S ?_)
    show _ = Int32.toInt64 _
    rw [e, Nat.sub_self]; rfl
  · rintro n i s hi ⟨f, e⟩ ih
    have hs := ce.fr f inQ_sc
    simp only [VL_X1_since_21]
    rw [hs.ch.et]
    refine br_f (nI_nlt (by show i ≤ tm; omega) (by show tm < _; omega)) (c_reached hs (by show i ≤ tm; omega) hx fun s2 f2 => ?_)
    have ff := f.trans f2
    rw [ev0_G, tst _ (by omega), bt_rchV (by omega)]
    have e2 : tm + 1 - i = (tm + 1 - (i + 1)) + 1 := by omega
    rw [e2] at e
    unfold V_X1_since_53
    simp only [nI1]
    change (b2i (rcB T (GT T sg al i) x y) = 1 → _) ∧ (¬ b2i (rcB T (GT T sg al i) x y) = 1 → _)
    have yes : (rcB T (GT T sg al i) x y == is) = true → ∀ σ6 : ZS, σ6 = sJ s2 1238 (ix 0) (nI i).toInt64 → Ret 0 σ6 := by
      intro k
      refine hr.ok rfl h.2.2.1 ff inQ_S ?_
      show _ = Int32.toInt64 _
      rw [e, sinF]; simp only [k, if_true]
    have no : (rcB T (GT T sg al i) x y == is) = false → VL_X1_since_21 (fun x3 σ4 => ((∃ x, kK NS σ4 x3 = (14 + 7, x)) ∧ (Ret 1 σ4)) ∨ ((∃ x, kK NS σ4 x3 = (12 + 7, x)) ∧ (Ret 2 σ4))) (fun r1 σ2 => ∀ σ6 : ZS, σ6 = sJ σ2 1238 (ix 0) r1.toInt64 → (Ret 0 σ6)) n s2 (nI x) (nI y) (b2i is) (nI (i + 1)) := by
      intro k
      refine ih s2 ⟨ff, ?_⟩
      rw [e, sinF]; simp only [k]; rfl
    cases hq : rcB T (GT T sg al i) x y <;> cases is <;> rw [hq] at yes no
    · exact br_f (by decide) (br_t rfl (yes rfl))
    · exact br_f (by decide) (br_f (by decide) (nm_e (no rfl)))
    · exact br_t rfl (br_f (by decide) (nm_e (no rfl)))
    · exact br_t rfl (br_t rfl (yes rfl))
theorem M_since {T : Tw} {tm : Nat} {sg al : Nat → Nat → Int32} {σ : ZS} (h : ME T tm sg al σ) (hb : zI σ 44 54 = -1) {a b t : Int32} {is : Bool} {Ret : Int32 → ZS → Prop} (hr : PM σ Ret (spSince T tm sg al a b t is)) : wp_X4_since σ a b t (b2i is) Ret := by
  unfold wp_X4_since
  obtain ⟨h1, hz⟩ := h.z
  have hnc := h.mt.wf.nc
  have htm := h.mh.ht
  unfold spSince at hr
  refine M_cct h (fun k => ?_) fun k1 k2 => ?_
  · unfold V_X4_since_22 V_X4_since_27
    exact m_bad1 hz (by decide) (br_f (by decide) (hr.thr (c := 1) (sp2_1 k) (by decide) hb))
  unfold V_X4_since_27
  refine m_bad0 hz (br_t rfl (m_isTime h1 (br0 (fun k3 => ?_) fun k3 => ?_)))
  · unfold V_X4_since_48
    exact m_bad1 hz (by decide) (br_f (by decide) (hr.thr (c := 2) (sp2_2 (by rw [k1, k2]; rfl) k3) (by decide) hb))
  unfold V_X4_since_48
  rw [sp2_0 (by rw [k1, k2]; rfl) k3] at hr
  obtain ⟨x, rfl, hx, ex, hx2⟩ := inN_N k1
  obtain ⟨y, rfl, hy, ey, hy2⟩ := inN_N k2
  obtain ⟨w, rfl, hw, ew, -⟩ := inN_N k3
  rw [ex, ey, ew] at hr
  refine m_bad0 hz (br_t rfl ?_)
  have hS : ∀ c, c = 564 ∨ c = 565 ∨ c = 566 ∨ c = 567 → SM c ∧ c ≠ 1000000 ∧ c ≠ 1000054 := by intro c hc; unfold SM; omega
  refine forL (S := ZS) (fun k s v => VL_X4_since_60 Ret k s (nI x) (nI y) (b2i is) v) (fun i s => Fr (fun c => c = 564 ∨ c = 565 ∨ c = 566 ∨ c = 567) (sI σ 44 0 0) s ∧ sinF (fun w => rcB T (GT T sg al w) x y == is) (tm + 1 - w) w = sinF (fun w => rcB T (GT T sg al w) x y == is) (tm + 1 - i) i) (tm + 1) ?_ ?_ w _ (by omega) ⟨Fr.rfl, rfl⟩
  · rintro n s ⟨f, e⟩
    have hs := h1.fr f (by intro c hc; unfold scM; omega)
    simp only [VL_X4_since_60]
    rw [hs.mh.et]
    refine br_t (nI_lt (by omega) (by omega)) (hr.ok rfl hb f hS ?_)
    show _ = sinF _ _ _
    rw [e, Nat.sub_self]; rfl
  · rintro n i s hi ⟨f, e⟩ ih
    have hs := h1.fr f (by intro c hc; unfold scM; omega)
    simp only [VL_X4_since_60]
    rw [hs.mh.et]
    refine br_f (nI_nlt (by omega) (by omega)) (m_asks hs (t := i) (by omega) fun s2 f2 hn hf => m_layReaches (hs.fr f2 (by intro c hc; unfold scM; omega)).mt hf fun s3 f3 hr3 => ?_)
    have ff : Fr (fun c => c = 564 ∨ c = 565 ∨ c = 566 ∨ c = 567) (sI σ 44 0 0) s3 := (f.trans (f2.mono (by intro c hc; omega))).trans (f3.mono (by intro c hc; omega))
    have hs3 := h1.fr ff (by intro c hc; unfold scM; omega)
    refine m_reachOf hs3.mt hr3 hx ?_
    have e2 : tm + 1 - i = (tm + 1 - (i + 1)) + 1 := by omega
    rw [e2] at e
    simp only [nI1]
    rw [tst _ (by omega), bt_rchV (by omega)]
    change (b2i is = 0 → (b2i (rcB T (GT T sg al i) x y) = 0 → _) ∧ (¬ b2i (rcB T (GT T sg al i) x y) = 0 → _)) ∧ (¬ b2i is = 0 → (b2i (rcB T (GT T sg al i) x y) = 1 → _) ∧ (¬ b2i (rcB T (GT T sg al i) x y) = 1 → _))
    have yes : (rcB T (GT T sg al i) x y == is) = true → Ret (nI i) s3 := by
      intro k
      refine hr.ok rfl hb ff hS ?_
      show _ = sinF _ _ _
      rw [e, sinF]; simp only [k, if_true]
    have no : (rcB T (GT T sg al i) x y == is) = false → VL_X4_since_60 Ret n s3 (nI x) (nI y) (b2i is) (nI (i + 1)) := by
      intro k
      refine ih s3 ⟨ff, ?_⟩
      rw [e, sinF]; simp only [k]; rfl
    cases hq : rcB T (GT T sg al i) x y <;> cases is <;> rw [hq] at yes no
    · exact br_t rfl (br_t rfl (yes rfl))
    · exact br_f (by decide) (br_f (by decide) (nm_e (no rfl)))
    · exact br_t rfl (br_f (by decide) (nm_e (no rfl)))
    · exact br_f (by decide) (br_t rfl (yes rfl))
