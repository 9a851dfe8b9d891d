/-! PURE HALF: a text is read: the model: blanks, numbers. -/
set_option maxRecDepth 100000
/-- the text -/
def MXt (n : Nat) (tx : Nat → Int32) (σ : ZS) : Prop := n ≤ 500 ∧ zI σ 44 2 = nI n ∧ (∀ i, i < n → zI σ 45 i = nI (ch n tx i)) ∧ ∀ i, i < n → BY (tx i)
theorem MXt.fr {n : Nat} {tx : Nat → Int32} {σ σ' : ZS} {S : Nat → Prop} (h : MXt n tx σ) (f : Fr S σ σ') (hs : ∀ c, S c → c ≠ 45 ∧ c ≠ 1000002) : MXt n tx σ' := ⟨h.1, by rw [f.1 44 2 fun k => (hs _ k).2 rfl]; exact h.2.1, fun i hi => by rw [f.1 45 i fun k => (hs _ k).1 rfl]; exact h.2.2.1 i hi, h.2.2.2⟩
theorem MXt.set {n : Nat} {tx : Nat → Int32} {σ : ZS} (h : MXt n tx σ) {j : Nat} (hj : j ≠ 2) (x : Int32) : MXt n tx (sI σ 44 j x) := ⟨h.1, by rw [zI_ne _ (.inr (Ne.symm hj))]; exact h.2.1, fun i hi => by rw [zI_ne _ (.inl (by decide))]; exact h.2.2.1 i hi, h.2.2.2⟩
theorem ch_lt {n : Nat} {tx : Nat → Int32} {k : Nat} (h : ∀ i, i < n → BY (tx i)) (hk : k < n) : ch n tx k < 256 := by unfold ch; rw [if_pos hk]; exact (h k hk).v.1
def bI (n : Nat) (tx : Nat → Int32) (k : Nat) : Int32 := if k < n then nI (ch n tx k) else -1
theorem m_byteAt {n : Nat} {tx : Nat → Int32} {σ : ZS} (h : MXt n tx σ) {k : Nat} (hk : k < 2000) {Ret : Int32 → ZS → Prop} (hr : Ret (bI n tx k) σ) : wp_X4_byteAt σ (nI k) Ret := by
  unfold wp_X4_byteAt
  obtain ⟨h1, h2, h3, h4⟩ := h
  rw [h2, nI_ltI (by omega) (by omega), ix_nI (by omega)]
  unfold bI at hr
  refine ⟨fun l => ⟨vin (by omega) (by decide), ?_⟩, fun l => ?_⟩
  · rw [h3 k l]; rw [if_pos l] at hr; exact hr
  · rw [if_neg l] at hr; exact hr
theorem bI_eq {n : Nat} {tx : Nat → Int32} (h : ∀ i, i < n → BY (tx i)) (k : Nat) {c : Nat} (hc : c < 256) : (bI n tx k = nI c) = (ch n tx k = c) := by
  unfold bI
  by_cases l : k < n
  · rw [if_pos l]
    have := ch_lt h l
    rw [nI_eq (by omega) (by omega)]
  · rw [if_neg l, ch_out (by omega)]
    apply propext
    constructor
    · intro e; exact absurd e.symm (by rw [nI_m1 (by omega)]; exact id)
    · intro e; omega
theorem bI_rng {n : Nat} {tx : Nat → Int32} (h : ∀ i, i < n → BY (tx i)) (k : Nat) {lo hi : Nat} (hl : 1 ≤ lo) (hh : hi < 256) : (bI n tx k < nI lo) = ¬ (lo ≤ ch n tx k ∧ k < n) ∧ (nI hi < bI n tx k) = (k < n ∧ hi < ch n tx k) ∨ 256 ≤ lo := by
  rcases Nat.lt_or_ge lo 256 with l256 | l256
  · refine .inl ⟨?_, ?_⟩
    · unfold bI
      by_cases l : k < n
      · rw [if_pos l]
        have := ch_lt h l
        rw [nI_ltI (by omega) (by omega)]
        apply propext; omega
      · rw [if_neg l]
        apply propext
        refine ⟨fun _ k => absurd k.2 l, fun _ => ?_⟩
        rw [Int32.lt_iff_toInt_lt, nI_toInt (by omega)]
        have : (-1 : Int32).toInt = -1 := by decide
        omega
    · unfold bI
      by_cases l : k < n
      · rw [if_pos l]
        have := ch_lt h l
        rw [nI_ltI (by omega) (by omega)]
        apply propext; omega
      · rw [if_neg l]
        apply propext
        refine ⟨fun k => ?_, fun k => absurd k.1 l⟩
        rw [Int32.lt_iff_toInt_lt, nI_toInt (by omega)] at k
        have : (-1 : Int32).toInt = -1 := by decide
        omega
  · exact .inr l256
theorem bI_low {n : Nat} {tx : Nat → Int32} (h : ∀ i, i < n → BY (tx i)) (k : Nat) : ((bI n tx k < 97) = ¬ (97 ≤ ch n tx k ∧ k < n)) ∧ ((122 < bI n tx k) = (k < n ∧ 122 < ch n tx k)) := (bI_rng h k (lo := 97) (hi := 122) (by decide) (by decide)).resolve_right (by decide)
theorem bI_dig {n : Nat} {tx : Nat → Int32} (h : ∀ i, i < n → BY (tx i)) (k : Nat) : ((bI n tx k < 48) = ¬ (48 ≤ ch n tx k ∧ k < n)) ∧ ((57 < bI n tx k) = (k < n ∧ 57 < ch n tx k)) := (bI_rng h k (lo := 48) (hi := 57) (by decide) (by decide)).resolve_right (by decide)
theorem m_isDigit {n : Nat} {tx : Nat → Int32} (h : ∀ i, i < n → BY (tx i)) (k : Nat) {σ : ZS} {Ret : Int32 → ZS → Prop} (hr : Ret (b2i (dg (ch n tx k))) σ) : wp_X4_isDigit σ (bI n tx k) Ret := by
  unfold wp_X4_isDigit
  obtain ⟨e1, e2⟩ := bI_dig h k
  rw [e1, e2]
  have hout : n ≤ k → dg (ch n tx k) = false := fun l => by rw [ch_out l]; rfl
  refine ⟨fun a => ?_, fun a => ⟨fun b => ?_, fun b => ?_⟩⟩
  · have : dg (ch n tx k) = false := by
      rcases Nat.lt_or_ge k n with l | l
      · unfold dg; simp; omega
      · exact hout l
    rw [this] at hr; exact hr
  · have : dg (ch n tx k) = false := by unfold dg; simp; omega
    rw [this] at hr; exact hr
  · have a := Classical.not_not.mp a
    have : dg (ch n tx k) = true := by unfold dg; simp; omega
    rw [this] at hr; exact hr
theorem m_blanks {n : Nat} {tx : Nat → Int32} {σ : ZS} (h : MXt n tx σ) {k : Nat} (hk : k ≤ n) (e4 : zI σ 44 4 = nI k) {Ret : ZS → Prop} (hr : Ret (sI σ 44 4 (nI (sk n tx k)))) : wp_X4_blanks σ Ret := by
  have hn := h.1
  unfold wp_X4_blanks
  refine lp1 (fun m s => VL_X4_blanks_0 Ret m s) (fun s => ∃ p, k ≤ p ∧ p ≤ n ∧ s = sI σ 44 4 (nI p) ∧ ∀ j, k ≤ j → j < p → ch n tx j = 32) (fun s => n - ix (zI s 44 4)) ?_ σ ⟨k, Nat.le_refl _, hk, (sI_id e4).symm, fun j h1 h2 => by omega⟩
  rintro m s ⟨p, h1, h2, rfl, h3⟩ ih
  have hs := h.set (j := 4) (by decide) (nI p)
  simp only [VL_X4_blanks_0]
  rw [zI_self]
  refine m_byteAt hs (by omega) ?_
  rw [show (32 : Int32) = nI 32 from rfl, bI_eq h.2.2.2 p (by decide), zI_self, nI1, sI_sI]
  refine ⟨fun e => nm_e (ih _ ⟨p + 1, by omega, ?_, rfl, fun j hj1 hj2 => ?_⟩ ?_), fun e => ?_⟩
  · rcases Nat.lt_or_ge p n with l | l
    · exact l
    · rw [ch_out l] at e; cases e
  · by_cases ej : j = p
    · rw [ej]; exact e
    · exact h3 j hj1 (by omega)
  · show n - ix (zI (sI σ 44 4 (nI (p + 1))) 44 4) < n - ix (zI (sI σ 44 4 (nI p)) 44 4)
    have : p < n := by
      rcases Nat.lt_or_ge p n with l | l
      · exact l
      · rw [ch_out l] at e; cases e
    rw [zI_self, zI_self, ix_nI (by omega), ix_nI (by omega)]; omega
  · rw [sk_eq h1 e h3] at hr; exact hr
/-- a fault is laid -/
def MF (n : Nat) (e : Nat × Nat) (σ σ' : ZS) : Prop := Fr (fun c => c = 1000004 ∨ c = 1000005 ∨ c = 1000006) σ σ' ∧ (∃ p, p ≤ n ∧ zI σ' 44 4 = nI p) ∧ zI σ' 44 5 = nI e.1 ∧ zI σ' 44 6 = nI e.2 ∧ 1 ≤ e.1 ∧ e.1 ≤ 3
theorem MF.f0 {n : Nat} {e : Nat × Nat} {σ σ' : ZS} (h : MF n e σ σ') : ¬ zI σ' 44 5 = 0 := by
  rw [h.2.2.1, nI_eq0 (by have := h.2.2.2.2; omega)]; have := h.2.2.2.2; omega
theorem min_step5 {x d : Nat} (hd : d ≤ 9) : (if 100000 < 10 * min 100000 x + d then 100000 else 10 * min 100000 x + d) = min 100000 (10 * x + d) := by
  split <;> omega
theorem m_number {n : Nat} {tx : Nat → Int32} {σ : ZS} (h : MXt n tx σ) {k lo mm : Nat} (hlo : lo ≤ 1) (hmm : mm ≤ 100) (hk : k ≤ n) (e4 : zI σ 44 4 = nI k) (e5 : zI σ 44 5 = 0) {Ret : Int32 → ZS → Prop} (ok : ∀ v q, numR n tx k lo mm = .inr (v, q) → Ret (nI v) (sI σ 44 4 (nI q))) (bad : ∀ e, numR n tx k lo mm = .inl e → ∀ σ', MF n e σ σ' → Ret 0 σ') : wp_X4_number σ (nI lo) (nI mm - 1) Ret := by
  have hn := h.1
  have hby := h.2.2.2
  unfold wp_X4_number
  refine br_t e5 (m_blanks h hk e4 (nm_e ?_))
  have hsk := sk_le (tx := tx) hk
  rw [zI_self]
  generalize hp : sk n tx k = p at *
  have hs := h.set (j := 4) (by decide) (nI p)
  refine m_byteAt hs (by omega) (m_isDigit hby p ?_)
  refine br0 (fun hd => ?_) fun hd => ?_
  · -- no digit
    have hres : numR n tx k lo mm = .inl (1, p) := by unfold numR; rw [hp, hd]; rfl
    unfold wp_X4_wrong
    refine br_t (by rw [zI_ne _ (.inr (by decide))]; exact e5) (nm_e (nm_e ?_))
    rw [zI_self]
    have mf : MF n (1, p) σ (sI (sI (sI σ 44 4 (nI p)) 44 5 1) 44 6 (nI p)) := by
      refine ⟨((Fr.rfl.sI 44 4 _ (.inl rfl)).sI 44 5 _ (.inr (.inl rfl))).sI 44 6 _ (.inr (.inr rfl)), ⟨p, hsk, ?_⟩, ?_, zI_self _ _ _ _, by simp, by simp⟩
      · rw [zI_ne _ (.inr (by decide)), zI_ne _ (.inr (by decide)), zI_self]
      · rw [zI_ne _ (.inr (by decide)), zI_self]; rfl
    have hx := h.fr mf.1 (by intro c hc; omega)
    have e44 : zI (sI (sI (sI σ 44 4 (nI p)) 44 5 1) 44 6 (nI p)) 44 4 = nI p := by rw [zI_ne _ (.inr (by decide)), zI_ne _ (.inr (by decide)), zI_self]
    have f0 := mf.f0
    have last := bad _ hres _ mf
    generalize sI (sI (sI σ 44 4 (nI p)) 44 5 1) 44 6 (nI p) = s at *
    refine ⟨1, ?_⟩
    simp only [VL_X4_number_44]
    rw [e44]
    refine m_byteAt hx (by omega) (m_isDigit hby p ?_)
    rw [hd]
    refine br_t rfl (m_in (br0 (fun _ => ?_) fun _ => br_f f0 last))
    unfold wp_X4_wrong
    exact br_f f0 (br_f f0 last)
  · -- digits
    have fin : ∀ q, p ≤ q → q ≤ n → dg (ch n tx q) = false → (∀ j, p ≤ j → j < q → dg (ch n tx j) = true) → wp_X4_in (sI σ 44 4 (nI q)) (nI (min 100000 (nv n tx p (q - p)))) (nI lo) (nI mm - 1) (fun r12 σ13 => ((r12 = 0 → (wp_X4_wrong σ13 2 (nI p) (fun σ15 => (((zI σ15 44 5) = 0 → (Ret (nI (min 100000 (nv n tx p (q - p)))) σ15)) ∧ (¬ (zI σ15 44 5) = 0 → (Ret 0 σ15)))))) ∧ (¬ r12 = 0 → ((((zI σ13 44 5) = 0 → (Ret (nI (min 100000 (nv n tx p (q - p)))) σ13)) ∧ (¬ (zI σ13 44 5) = 0 → (Ret 0 σ13))))))) := by
      intro q h1 h2 h3 h4
      have eq := dq_eq h1 h3 h4
      have hres : numR n tx k lo mm = if lo ≤ nv n tx p (q - p) ∧ nv n tx p (q - p) < mm then .inr (nv n tx p (q - p), q) else .inl (2, p) := by
        unfold numR; rw [hp, hd, if_pos rfl, eq]
      have e55 : zI (sI σ 44 4 (nI q)) 44 5 = 0 := by rw [zI_ne _ (.inr (by decide))]; exact e5
      refine m_in ?_
      have ein : (decide (¬ nI (min 100000 (nv n tx p (q - p))) < nI lo) && decide (¬ nI mm - 1 < nI (min 100000 (nv n tx p (q - p))))) = decide (lo ≤ nv n tx p (q - p) ∧ nv n tx p (q - p) < mm) := by
        rw [Bool.eq_iff_iff]
        simp only [Bool.and_eq_true, decide_eq_true_eq, Int32.lt_iff_toInt_lt, toInt_sub1 (show mm < 2 ^ 31 by omega), nI_toInt (show min 100000 (nv n tx p (q - p)) < 2 ^ 31 by omega), nI_toInt (show lo < 2 ^ 31 by omega)]
        omega
      rw [ein]
      refine br0 (fun c => ?_) fun c => ?_
      · have c' : ¬ (lo ≤ nv n tx p (q - p) ∧ nv n tx p (q - p) < mm) := by simpa using c
        rw [if_neg c'] at hres
        unfold wp_X4_wrong
        refine br_t e55 (nm_e (nm_e (br_f ?_ (bad _ hres _ ⟨((Fr.rfl.sI 44 4 _ (.inl rfl)).sI 44 5 _ (.inr (.inl rfl))).sI 44 6 _ (.inr (.inr rfl)), ⟨q, h2, ?_⟩, ?_, zI_self _ _ _ _, by simp, by simp⟩))))
        · rw [zI_ne _ (.inr (by decide)), zI_self]; decide
        · rw [zI_ne _ (.inr (by decide)), zI_ne _ (.inr (by decide)), zI_self]
        · rw [zI_ne _ (.inr (by decide)), zI_self]; rfl
      · have c' : lo ≤ nv n tx p (q - p) ∧ nv n tx p (q - p) < mm := by simpa using c
        rw [if_pos c'] at hres
        rw [show min 100000 (nv n tx p (q - p)) = nv n tx p (q - p) by omega]
        exact br_t e55 (ok _ _ hres)
    refine lp2 (fun m s v => VL_X4_number_44 Ret m s (nI lo) (nI mm - 1) (nI p) v) (fun s v => ∃ q, p ≤ q ∧ q ≤ n ∧ s = sI σ 44 4 (nI q) ∧ v = nI (min 100000 (nv n tx p (q - p))) ∧ ∀ j, p ≤ j → j < q → dg (ch n tx j) = true) (fun s v => n - ix (zI s 44 4)) ?_ (sI σ 44 4 (nI p)) 0 ⟨p, Nat.le_refl _, by omega, rfl, by rw [Nat.sub_self]; rfl, fun j h1 h2 => by omega⟩
    rintro m s v ⟨q, h1, h2, rfl, rfl, h4⟩ ih
    have hsq := h.set (j := 4) (by decide) (nI q)
    simp only [VL_X4_number_44]
    rw [zI_self]
    refine m_byteAt hsq (by omega) (m_isDigit hby q (br0 (fun k1 => fin q h1 h2 k1 h4) fun k1 => ?_))
    rw [zI_self]
    refine m_byteAt hsq (by omega) ?_
    have hqn : q < n := by
      rcases Nat.lt_or_ge q n with l | l
      · exact l
      · rw [ch_out l] at k1; cases k1
    have hb : 48 ≤ ch n tx q ∧ ch n tx q ≤ 57 := by unfold dg at k1; simpa using k1
    have hval : (10 * nI (min 100000 (nv n tx p (q - p))) + bI n tx q) - 48 = nI (10 * min 100000 (nv n tx p (q - p)) + (ch n tx q - 48)) := by
      unfold bI
      rw [if_pos hqn, show (10 : Int32) = nI 10 from rfl, pk_mul, nI_add, show (48 : Int32) = nI 48 from rfl, pk_sub (by omega)]
      congr 1; omega
    rw [hval]
    have step : ∀ w, w = nI (min 100000 (nv n tx p (q + 1 - p))) → V_X4_number_91 (VL_X4_number_44 Ret m) Ret (sI σ 44 4 (nI q)) (nI lo) (nI mm - 1) (nI p) w := by
      rintro w rfl
      unfold V_X4_number_91
      refine nm_e ?_
      rw [zI_self, nI1, sI_sI]
      refine ih _ _ ⟨q + 1, by omega, by omega, rfl, rfl, fun j hj1 hj2 => ?_⟩ ?_
      · by_cases ej : j = q
        · rw [ej]; exact k1
        · exact h4 j hj1 (by omega)
      · show n - ix (zI (sI σ 44 4 (nI (q + 1))) 44 4) < n - ix (zI (sI σ 44 4 (nI q)) 44 4)
        rw [zI_self, zI_self, ix_nI (by omega), ix_nI (by omega)]; omega
    have hnv : nv n tx p (q + 1 - p) = 10 * nv n tx p (q - p) + (ch n tx q - 48) := by
      rw [show q + 1 - p = (q - p) + 1 by omega]
      show 10 * nv n tx p (q - p) + (ch n tx (p + (q - p)) - 48) = _
      rw [show p + (q - p) = q by omega]
    refine nm_e ?_
    rw [show (100000 : Int32) = nI 100000 from rfl, nI_ltI (by omega) (by omega)]
    have ms := min_step5 (x := nv n tx p (q - p)) (d := ch n tx q - 48) (by omega)
    refine ⟨fun l => step _ ?_, fun l => step _ ?_⟩
    · rw [hnv, ← ms, if_pos l]
    · rw [hnv, ← ms, if_neg l]
theorem m_numberF {σ : ZS} (e5 : ¬ zI σ 44 5 = 0) {a b : Int32} {Ret : Int32 → ZS → Prop} (hr : Ret 0 σ) : wp_X4_number σ a b Ret := by
  unfold wp_X4_number
  exact br_f e5 hr
theorem m_wrongF {σ : ZS} (e5 : ¬ zI σ 44 5 = 0) {a b : Int32} {Ret : ZS → Prop} (hr : Ret σ) : wp_X4_wrong σ a b Ret := by
  unfold wp_X4_wrong
  exact br_f e5 hr
