/-! PURE HALF: breaks, sure: the answers. -/
set_option maxRecDepth 100000
/-- no pair is barred -/
def noB : Nat → Nat → Bool := fun _ _ => false
theorem BnC.no {T : Tw} {σ : ZS} (hns : T.ns ≤ 24) (h : zI σ 0 36 = -1) : BnC T noB σ := by
  intro a b ha hb
  rw [h]
  constructor
  · rintro ⟨e, -⟩
    have := e.symm
    rw [nI_m1 (by omega)] at this
    exact this.elim
  · intro e; cases e
theorem BnM.no {T : Tw} {σ : ZS} (hns : T.ns ≤ 24) (h : zI σ 44 54 = -1) : BnM T noB σ := by
  intro a b ha hb
  rw [h, nI_m1 (by omega)]
  constructor
  · rintro ⟨e, -⟩; exact e.elim
  · intro e; cases e
/-- one pair is barred -/
def onB (s t : Nat) : Nat → Nat → Bool := fun a b => decide (a / 2 = s) && decide (b / 2 = t)
theorem BnC.on {T : Tw} {σ : ZS} (hns : T.ns ≤ 24) {s t : Nat} (hs : s < 24) (ht : t < 24) (h1 : zI σ 0 36 = nI s) (h2 : zI σ 0 37 = nI t) : BnC T (onB s t) σ := by
  intro a b ha hb
  rw [h1, h2, nI_eq (by omega) (by omega), nI_eq (by omega) (by omega)]
  unfold onB
  simp only [Bool.and_eq_true, decide_eq_true_eq]
  exact ⟨fun ⟨e1, e2⟩ => ⟨e1.symm, e2.symm⟩, fun ⟨e1, e2⟩ => ⟨e1.symm, e2.symm⟩⟩
theorem BnM.on {T : Tw} {σ : ZS} (hns : T.ns ≤ 24) {s t : Nat} (hs : s < 24) (ht : t < 24) (h1 : zI σ 44 54 = nI s) (h2 : zI σ 44 55 = nI t) : BnM T (onB s t) σ := by
  intro a b ha hb
  rw [h1, h2, nI_eq (by omega) (by omega), nI_eq (by omega) (by omega)]
  unfold onB
  simp only [Bool.and_eq_true, decide_eq_true_eq]
def spBr (T : Tw) (tm : Nat) (sg al : Nat → Nat → Int32) (nt : Nat) (td : Nat → Int32) (t x : Int32) : Res := if inN t (tm + 1) && inN x 2 then (0, if nt < 2 then 0 else brQ (brF T (GT T sg al (ix t)) noB td nt) x) else (1, 0)
theorem C_breaks {T : Tw} {d : Ad} {tm : Nat} {sg al : Nat → Nat → Int32} {σ : ZS} (h : CQ T d tm sg al σ) {nt : Nat} {td : Nat → Int32} (ht : TdC nt td σ) {t x : Int32} {Ret : Int32 → ZS → Prop} (hr : PC σ Ret (spBr T tm sg al nt td t x)) : wp_X0_breaks σ t x Ret := by
  unfold wp_X0_breaks wp_X1_breaks
  have ce := h.ce
  obtain ⟨ct, ch, sf, rm⟩ := h
  unfold spBr at hr
  have bad : (inN t (tm + 1) && inN x 2) = false → wp_X1_need σ 0 (fun x3 σ4 => ((∃ x, kK NS σ4 x3 = (12 + 7, x)) ∧ (Ret 1 σ4))) (fun σ4 => wp_X1_breaksOf σ4 t x (fun r1 σ2 => ∀ σ6 : ZS, σ6 = sJ σ2 1238 (ix 0) r1 → (Ret 0 σ6))) := by
    intro k
    rw [k] at hr
    exact c_need (b := false) rm (fun k => by cases k) fun _ σ' g k2 => ⟨⟨0, k2⟩, hr.thr (c := 1) rfl (by decide) rm.1 sf g⟩
  have good : inN t (tm + 1) = true → inN x 2 = true → V_X1_breaks_17 (fun x3 σ4 => ((∃ x, kK NS σ4 x3 = (12 + 7, x)) ∧ (Ret 1 σ4))) (fun r1 σ2 => ∀ σ6 : ZS, σ6 = sJ σ2 1238 (ix 0) r1 → (Ret 0 σ6)) σ t x := by
    intro k1 k2
    rw [k1, k2] at hr
    obtain ⟨w, rfl, hw, ew, -⟩ := inN_N k1
    rw [ew] at hr
    unfold V_X1_breaks_17
    refine c_need (b := true) rm (fun _ => c_breaksOf ce ht (BnC.no ct.wf.ns sf.bf) (show w ≤ tm by omega) fun s f => hr.ok rfl sf f (by intro c hc; unfold inB at hc; omega) ?_) (fun k => by cases k)
    rw [ev0_G]; rfl
  refine c_isTime ch (br0 (fun k => bad (by rw [k]; rfl)) fun k => ⟨fun k2 => good k (by rw [inN2, k2]; rfl), fun k2 => ⟨fun k3 => good k (by rw [inN2, k3]; rfl), fun k3 => bad ?_⟩⟩)
  rw [inN2]; simp [k2, k3]
/-- the model's answer, a long -/
def PMJ (σ : ZS) (Ret : Int64 → ZS → Prop) (r : Res) : Prop := ∀ σ' v, Gw SM 1 24 σ σ' → zI σ' 44 54 = -1 → zI σ' 44 0 = nI r.1 → (r.1 = 0 → v = r.2) → Ret v σ'
theorem PMJ.thr {σ : ZS} {Ret : Int64 → ZS → Prop} {r : Res} (hr : PMJ σ Ret r) {c : Nat} (e : r.1 = c) (hc : c ≠ 0) (hb : zI σ 44 54 = -1) : Ret 0 (sI (sI σ 44 0 0) 44 0 (nI c)) := by
  have f : Fr SM σ (sI (sI σ 44 0 0) 44 0 (nI c)) := (Fr.rfl.sI 44 0 0 (by unfold SM cd; simp)).sI 44 0 (nI c) (by unfold SM cd; simp)
  refine hr _ 0 (f.gw.mono (fun _ k => k) (by omega) (by omega)) ?_ ?_ (fun k => absurd (e ▸ k) hc)
  · rw [zI_ne _ (.inr (by decide)), zI_ne _ (.inr (by decide))]; exact hb
  · rw [zI_self, e]
theorem PMJ.ok {σ : ZS} {Ret : Int64 → ZS → Prop} {r : Res} (hr : PMJ σ Ret r) (e : r.1 = 0) (hb : zI σ 44 54 = -1) {S : Nat → Prop} {σ' : ZS} (f : Fr S (sI σ 44 0 0) σ') (hS : ∀ c, S c → SM c ∧ c ≠ 1000000 ∧ c ≠ 1000054) {v : Int64} (ev : v = r.2) : Ret v σ' := by
  have f0 : Fr SM σ (sI σ 44 0 0) := Fr.rfl.sI 44 0 0 (by unfold SM cd; simp)
  refine hr σ' v ((f0.trans (f.mono fun c k => (hS c k).1)).gw.mono (fun _ k => k) (by omega) (by omega)) ?_ ?_ (fun _ => ev)
  · rw [f.1 44 54 fun k => (hS _ k).2.2 rfl, zI_ne _ (.inr (by decide))]; exact hb
  · rw [f.1 44 0 fun k => (hS _ k).2.1 rfl, zI_self, e]; rfl
theorem TdM.z {nt : Nat} {td : Nat → Int32} {σ : ZS} (h : TdM nt td σ) : TdM nt td (sI σ 44 0 0) := h.fr (Fr.rfl.sI (S := fun c => c = 1000000) 44 0 0 rfl) (by intro c hc; omega)
def inT (c : Nat) : Prop := inK c ∨ c = 564 ∨ c = 565
theorem M_breaks {T : Tw} {tm : Nat} {sg al : Nat → Nat → Int32} {σ : ZS} (h : ME T tm sg al σ) (hb : zI σ 44 54 = -1) {nt : Nat} {td : Nat → Int32} (ht : TdM nt td σ) {t x : Int32} {Ret : Int64 → ZS → Prop} (hr : PMJ σ Ret (spBr T tm sg al nt td t x)) : wp_X4_breaks σ t x Ret := by
  unfold wp_X4_breaks
  obtain ⟨h1, hz⟩ := h.z
  have h12 := ht.1
  have ht1 := ht.z
  unfold spBr at hr
  refine M_tw h (fun k => ?_) fun k k2 => ?_
  · unfold V_X4_breaks_23 V_X4_breaks_28
    rw [k] at hr
    exact m_bad1 hz (by decide) (br_f (by decide) (hr.thr (c := 1) rfl (by decide) hb))
  unfold V_X4_breaks_28
  rw [k, k2] at hr
  obtain ⟨w, rfl, hw, ew, -⟩ := inN_N k
  rw [ew] at hr
  refine m_bad0 hz (br_t rfl ?_)
  rw [ht1.2.1, n2, nI_ltI (by omega) (by decide)]
  refine ⟨fun k3 => ?_, fun k3 => m_laysTime h1 (t := w) (by omega) fun s f hn => ?_⟩
  · refine hr.ok rfl hb (Fr.rfl (S := fun _ => False)) (fun _ k => k.elim) ?_
    show 0 = ite _ _ _; rw [if_pos k3]
  · have hs := h1.fr f (by intro c hc; unfold scM; omega)
    refine m_findBreaks hs hn (ht1.fr f (by intro c hc; omega)) (by omega) (BnM.no h.mt.wf.ns (by rw [f.1 44 54 (by simp [cd]), zI_ne _ (.inr (by decide))]; exact hb)) fun s2 f2 e1 e2 => ?_
    have ff : Fr inT (sI σ 44 0 0) s2 := (f.mono (by intro c hc; unfold inT; omega)).trans (f2.mono (fun c k => .inl k))
    have hS : ∀ c, inT c → SM c ∧ c ≠ 1000000 ∧ c ≠ 1000054 := by intro c hc; unfold inT inK at hc; unfold SM; omega
    have ok : ∀ v, v = brQ (brF T (GT T sg al w) noB td nt) x → Ret v s2 := fun v e => hr.ok rfl hb ff hS (by show v = ite _ _ _; rw [if_neg k3]; exact e)
    change zI s2 44 56 = nI (fw 1000000000 (brF T (GT T sg al w) noB td nt)) at e1
    change zJ s2 44 57 = ww (brF T (GT T sg al w) noB td nt) at e2
    rw [e1, e2]
    cases hq : brF T (GT T sg al w) noB td nt with
    | none => rw [hq] at ok; exact br_t rfl (ok _ rfl)
    | some q =>
      have := br_le hq
      rw [hq] at ok
      unfold brQ at ok
      refine br_f (by show ¬ nI q.1 = 1000000000; rw [nFar, nI_eq (by omega) (by decide)]; omega) ⟨fun k5 => ok _ ?_, fun k5 => ok _ ?_⟩
      · simp only; rw [if_pos k5]; rfl
      · simp only; rw [if_neg k5]; rfl
/-! sure -/
/-- the k-th of those that are p -/
def fdK (p : Nat → Bool) (k : Nat) : Nat → Option Nat
  | 0 => none
  | n + 1 => match fdK p k n with
    | some q => some q
    | none => if p n && decide (cnt p n = k) then some n else none
theorem fdK_cnt {p : Nat → Bool} {k n : Nat} (h : fdK p k n = none) : cnt p n ≤ k := by
  induction n with
  | zero => exact Nat.zero_le _
  | succ n ih =>
    unfold fdK at h
    cases hf : fdK p k n with
    | some q => rw [hf] at h; cases h
    | none =>
      rw [hf] at h
      simp only at h
      have := ih hf
      show cnt p n + (if p n then 1 else 0) ≤ k
      split at h
      · cases h
      · next e =>
        cases hp : p n
        · simpa using this
        · rw [hp] at e; simp at e; simp; omega
/-- a pair without which more is broken -/
def dfP (T : Tw) (G : Nat → Nat → Bool) (td : Nat → Int32) (nt n p : Nat) : Bool := !decide ((brF T G (onB (p / T.ns) (p % T.ns)) td nt).map (·.1) = some n)
def sureV (T : Tw) (G : Nat → Nat → Bool) (nt : Nat) (td : Nat → Int32) (k : Int32) : Int32 := if nt < 2 then -1 else match brF T G noB td nt with
  | none => -1
  | some q => if q.1 = 0 then -1 else if k < 0 then -1 else match fdK (dfP T G td nt q.1) (ix k) (T.ns * T.ns) with
    | none => -1
    | some p => 100 * nI (p / T.ns) + nI (p % T.ns)
def spSure (T : Tw) (tm : Nat) (sg al : Nat → Nat → Int32) (nt : Nat) (td : Nat → Int32) (t k : Int32) : Nat × Int32 := sp1 (inN t (tm + 1)) (sureV T (GT T sg al (ix t)) nt td k)
