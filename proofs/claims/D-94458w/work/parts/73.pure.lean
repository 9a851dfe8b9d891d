/-! PURE HALF: a told ride: the model, the answers. -/
set_option maxRecDepth 100000
abbrev TdM (nt : Nat) (td : Nat → Int32) (σ : ZS) : Prop := nt ≤ 12 ∧ zI σ 44 28 = nI nt ∧ ∀ i, i < nt → zI σ 1146 i = td i
theorem TdM.fr {nt : Nat} {td : Nat → Int32} {σ σ' : ZS} {S : Nat → Prop} (h : TdM nt td σ) (f : Fr S σ σ') (hs : ∀ c, S c → c ≠ 1000028 ∧ c ≠ 1146) : TdM nt td σ' :=
  ⟨h.1, by rw [f.1 44 28 fun k => (hs _ k).1 rfl]; exact h.2.1, fun i hi => by rw [f.1 1146 i fun k => (hs _ k).2 rfl]; exact h.2.2 i hi⟩
def BnM (T : Tw) (B : Nat → Nat → Bool) (σ : ZS) : Prop := ∀ a b, a < 2 * T.ns → b < 2 * T.ns → ((nI (a / 2) = zI σ 44 54 ∧ nI (b / 2) = zI σ 44 55) ↔ B a b = true)
theorem BnM.fr {T : Tw} {B : Nat → Nat → Bool} {σ σ' : ZS} {S : Nat → Prop} (h : BnM T B σ) (f : Fr S σ σ') (hs : ∀ c, S c → c ≠ 1000054 ∧ c ≠ 1000055) : BnM T B σ' := by
  intro a b ha hb
  rw [f.1 44 54 fun k => (hs _ k).1 rfl, f.1 44 55 fun k => (hs _ k).2 rfl]
  exact h a b ha hb
def FwM (T : Tw) (L : Nat → FW) (σ : ZS) : Prop := ∀ b, b < 2 * T.ns → zI σ 1234 b = nI (fw 1000000000 (L b)) ∧ zJ σ 1236 b = ww (L b)
theorem m_comes {T : Tw} {tm : Nat} {sg al : Nat → Nat → Int32} {σ : ZS} (h : ME T tm sg al σ) {sn an : Nat → Int32} (hn : NowM sn an σ) {nt : Nat} {td : Nat → Int32} (ht : TdM nt td σ) {B : Nat → Nat → Bool} (hB : BnM T B σ) {k b : Nat} (hk : k + 1 < nt) (hL : ∀ k', k = k' + 1 → FwM T (layF T (mayN T sn an) B td k') σ) (hb : b < 2 * T.ns) {Ret : ZS → Prop} (hr : ∀ σ', Fr (fun c => c = 1235 ∨ c = 1237) σ σ' → zI σ' 1235 b = nI (fw 1000000000 (layF T (mayN T sn an) B td k b)) → zJ σ' 1237 b = ww (layF T (mayN T sn an) B td k b) → (∀ x, x ≠ b → zI σ' 1235 x = zI σ 1235 x ∧ zJ σ' 1237 x = zJ σ 1237 x) → Ret σ') : wp_X4_comes σ (nI k) (nI b) Ret := by
  have w := h.mt.wf
  have hns := w.ns
  have hnc := w.nc
  have h12 := ht.1
  have iv : vp_in (nI b) 48 := vin (by omega) (by decide)
  unfold wp_X4_comes
  rw [ix_nI (by omega), ix_nI (by omega)]
  refine ⟨iv, nm_e ⟨iv, nm_e ?_⟩⟩
  have f1 : Fr (fun c => c = 1235 ∨ c = 1237) σ (sJ (sI σ 1235 b 1000000000) 1237 b 0) := (Fr.rfl.sI _ _ _ (.inl rfl)).sJ _ _ _ (.inr rfl)
  have z1 : zI (sJ (sI σ 1235 b 1000000000) 1237 b 0) 1235 b = nI 1000000000 := by rw [qI_sJ, zI_row, if_pos rfl]; rfl
  have z2 : zJ (sJ (sI σ 1235 b 1000000000) 1237 b 0) 1237 b = 0 := by rw [zJ_row, if_pos rfl]
  have z3 : ∀ x, x ≠ b → zI (sJ (sI σ 1235 b 1000000000) 1237 b 0) 1235 x = zI σ 1235 x ∧ zJ (sJ (sI σ 1235 b 1000000000) 1237 b 0) 1237 x = zJ σ 1237 x := fun x hx => by
    rw [qI_sJ, zI_row, if_neg hx, zJ_row, if_neg hx, qJ_sI]; exact ⟨rfl, rfl⟩
  generalize sJ (sI σ 1235 b 1000000000) 1237 b 0 = s1 at f1 z1 z2 z3 ⊢
  have nM : ∀ c, c = 1235 ∨ c = 1237 → scM c := by intro c hc; unfold scM; omega
  have h1 := h.fr f1 nM
  have ht1 := ht.fr f1 (by intro c hc; omega)
  have no : isLg T td k b = false → Ret s1 := by
    intro e
    have hl : layF T (mayN T sn an) B td k b = none := by
      cases k with
      | zero => rw [lay_0, e]; rfl
      | succ k => rw [lay_s, e]; rfl
    exact hr s1 f1 (by rw [hl]; exact z1) (by rw [hl]; exact z2) z3
  unfold isLg at no
  refine m_isArcN h1.mt (by omega) (br0 (fun k1 => no (by rw [k1]; rfl)) fun k1 => m_begin h1.mt hb ⟨vin (by omega) (by decide), ?_⟩)
  rw [ht1.2.2 k (by omega)]
  refine ⟨fun k2 => m_end h1.mt hb ⟨by rw [nI1]; exact vin (by omega) (by decide), ?_⟩, fun k2 => no (by simp [k2])⟩
  rw [nI1, ix_nI (by omega), ht1.2.2 (k + 1) hk]
  refine ⟨fun k3 => ?_, fun k3 => no (by simp [k3])⟩
  have hlg : isLg T td k b = true := by unfold isLg; rw [k1, k2, k3]; simp
  rw [nI_eq0 (by omega)]
  refine ⟨fun k4 => ⟨iv, nm_e ⟨iv, nm_e (hr _ ((f1.sI _ _ _ (.inl rfl)).sJ _ _ _ (.inr rfl)) ?_ ?_ fun x hx => ?_)⟩⟩, fun k4 => ?_⟩
  · subst k4; rw [qI_sJ, zI_row, if_pos rfl, lay_0, hlg]; rfl
  · subst k4; rw [zJ_row, if_pos rfl, lay_0, hlg]; rfl
  · rw [qI_sJ, zI_row, if_neg hx, zJ_row, if_neg hx, qJ_sI]; exact z3 x hx
  obtain ⟨k', rfl⟩ : ∃ k', k = k' + 1 := ⟨k - 1, by omega⟩
  have hL1 : FwM T (layF T (mayN T sn an) B td k') s1 := fun x hx => by
    rw [f1.1 1234 x (by simp [cd]), f1.2.1 1236 x (by simp [cd])]; exact hL k' rfl x hx
  have hLb : ∀ a q, layF T (mayN T sn an) B td k' a = some q → q.1 ≤ 12 := fun a q hq => by have := lay_le hq; omega
  have hfd : ∀ m q, fdA (stp (mayN T sn an) B (layF T (mayN T sn an) B td k') b) m = some q → q.1 ≤ 13 := fun m q hq => fd_le (m := 13) (fun a p hp => by
    unfold stp at hp
    cases hl : layF T (mayN T sn an) B td k' a with
    | none => rw [hl] at hp; cases hp
    | some r =>
      rw [hl] at hp
      simp only at hp
      have := hLb a r hl
      split at hp
      · cases hp
      · cases hp
        show r.1 + _ ≤ _
        split <;> omega) hq
  refine forL (S := ZS) (fun m s x => VL_X4_comes_76 Ret m s (nI b) x) (fun j s => Fr (fun c => c = 1235 ∨ c = 1237) σ s ∧ zI s 1235 b = nI (fw 1000000000 (fdA (stp (mayN T sn an) B (layF T (mayN T sn an) B td k') b) j)) ∧ zJ s 1237 b = ww (fdA (stp (mayN T sn an) B (layF T (mayN T sn an) B td k') b) j) ∧ ∀ x, x ≠ b → zI s 1235 x = zI σ 1235 x ∧ zJ s 1237 x = zJ σ 1237 x) (2 * T.ns) ?_ ?_ 0 s1 (Nat.zero_le _) ⟨f1, z1, z2, z3⟩
  · rintro n s ⟨f, y1, y2, y3⟩
    have hs := h.fr f nM
    simp only [VL_X4_comes_76]
    rw [hs.mt.ltA (by omega)]
    have hl : layF T (mayN T sn an) B td (k' + 1) b = fdA (stp (mayN T sn an) B (layF T (mayN T sn an) B td k') b) (2 * T.ns) := by rw [lay_s, hlg]; rfl
    exact br_f (by omega) (hr s f (by rw [hl]; exact y1) (by rw [hl]; exact y2) y3)
  · rintro n j s hj ⟨f, y1, y2, y3⟩ ih
    have hs := h.fr f nM
    have hn' := hn.fr f (by intro c hc; omega)
    have hB' := hB.fr f (by intro c hc; omega)
    have l1 : zI s 1234 j = nI (fw 1000000000 (layF T (mayN T sn an) B td k' j)) := by rw [f.1 1234 j (by simp [cd])]; exact (hL k' rfl j hj).1
    have l2 : zJ s 1236 j = ww (layF T (mayN T sn an) B td k' j) := by rw [f.2.1 1236 j (by simp [cd])]; exact (hL k' rfl j hj).2
    have jv : vp_in (nI j) 48 := vin (by omega) (by decide)
    simp only [VL_X4_comes_76]
    simp only [nI1]
    rw [hs.mt.ltA (by omega), ix_nI (by omega), l1]
    refine br_t hj ⟨jv, ?_⟩
    have skip : stp (mayN T sn an) B (layF T (mayN T sn an) B td k') b j = none → VL_X4_comes_76 Ret n s (nI b) (nI (j + 1)) := by
      intro e
      have e1 : fdA (stp (mayN T sn an) B (layF T (mayN T sn an) B td k') b) (j + 1) = fdA (stp (mayN T sn an) B (layF T (mayN T sn an) B td k') b) j := by rw [fdA, e]
      exact ih s ⟨f, by rw [e1]; exact y1, by rw [e1]; exact y2, y3⟩
    cases hl : layF T (mayN T sn an) B td k' j with
    | none => exact br_t rfl (nm_e (skip (by unfold stp; rw [hl])))
    | some q =>
      have hq := hLb j q hl
      rw [hl] at l1 l2
      refine br_f (by show ¬ nI q.1 = 1000000000; rw [nFar, nI_eq (by omega) (by decide)]; omega) (m_mayNow hs.mt hn' hj hb ?_)
      have go : (!mayN T sn an j b && B j b) = false → ∀ x4 : Int32, x4 = b2i (!mayN T sn an j b) → V_X4_comes_147 (VL_X4_comes_76 Ret n) Ret s (nI b) (nI j) x4 := by
        intro hnb x4 hx4
        subst hx4
        have hst : stp (mayN T sn an) B (layF T (mayN T sn an) B td k') b j = some (q.1 + (if mayN T sn an j b then 0 else 1), q.2) := by unfold stp; rw [hl]; simp only; rw [hnb]; rfl
        have v163 : ∀ s0 : Int32, s0 = nI (if mayN T sn an j b then 0 else 1) → V_X4_comes_163 (VL_X4_comes_76 Ret n) Ret s (nI b) (nI j) s0 (nI q.1) := by
          intro s0 hs0
          subst hs0
          unfold V_X4_comes_163
          refine nm_e ⟨iv, ?_⟩
          simp only [nI1]
          rw [nI_add, ix_nI (by omega), ix_nI (by omega), y1, y2, l2]
          have hv : q.1 + (if mayN T sn an j b then 0 else 1) ≤ 13 := by split <;> omega
          generalize hvv : q.1 + (if mayN T sn an j b then 0 else 1) = v at hst hv ⊢
          have e1 : fdA (stp (mayN T sn an) B (layF T (mayN T sn an) B td k') b) (j + 1) = mg (fdA (stp (mayN T sn an) B (layF T (mayN T sn an) B td k') b) j) v q.2 := by rw [fdA, hst]
          have put : ∀ u : Int64, u = ww (fdA (stp (mayN T sn an) B (layF T (mayN T sn an) B td k') b) (j + 1)) → v = fw 1000000000 (fdA (stp (mayN T sn an) B (layF T (mayN T sn an) B td k') b) (j + 1)) → V_X4_comes_218 (VL_X4_comes_76 Ret n) Ret s (nI b) (nI j) (nI v) u (nI b) 1237 := by
            intro u hu hv2
            unfold V_X4_comes_218
            simp only [nI1]
            rw [ix_nI (by omega)]
            refine ⟨48, rfl, iv, nm_e ⟨iv, nm_e (nm_e (ih _ ⟨(f.sJ _ _ _ (.inr rfl)).sI _ _ _ (.inl rfl), ?_, ?_, fun x hx => ?_⟩))⟩⟩
            · rw [zI_row, if_pos rfl, hv2]
            · rw [qJ_sI, zJ_row, if_pos rfl, hu]
            · rw [zI_row, if_neg hx, qI_sJ, qJ_sI, zJ_row, if_neg hx]; exact y3 x hx
          cases ha : fdA (stp (mayN T sn an) B (layF T (mayN T sn an) B td k') b) j with
          | none =>
            rw [ha] at e1
            refine br_f (nI_nlt (show v ≤ 1000000000 by omega) (by decide)) ⟨iv, br_t (nI_lt (show v < 1000000000 by omega) (by decide)) ⟨jv, put _ (by rw [e1]; rfl) (by rw [e1]; rfl)⟩⟩
          | some r =>
            have hr13 := hfd j r ha
            rw [ha] at e1 y1 y2
            unfold mg at e1
            simp only at e1
            show (nI r.1 < nI v → _) ∧ (¬ nI r.1 < nI v → _ ∧ (nI v < nI r.1 → _) ∧ (¬ nI v < nI r.1 → _))
            rw [nI_ltI (by omega) (by omega), nI_ltI (by omega) (by omega)]
            refine ⟨fun k5 => nm_e (ih s ⟨f, ?_, ?_, y3⟩), fun k5 => ⟨iv, fun k6 => ⟨jv, put _ ?_ ?_⟩, fun k6 => ⟨iv, jv, put _ ?_ ?_⟩⟩⟩
            · rw [y1, e1, if_neg (by omega), if_neg (by omega)]
            · rw [y2, e1, if_neg (by omega), if_neg (by omega)]
            · rw [e1, if_pos k6]; rfl
            · rw [e1, if_pos k6]; rfl
            · rw [e1, if_neg k6, if_pos (by omega)]; rfl
            · rw [e1, if_neg k6, if_pos (by omega)]; show v = r.1; omega
        unfold V_X4_comes_147
        rw [ix_nI (by omega), l1]
        refine ⟨jv, br0 (fun k5 => v163 0 ?_) fun k5 => v163 1 ?_⟩
        · have : mayN T sn an j b = true := by simpa using k5
          rw [this]; rfl
        · have : mayN T sn an j b = false := by simpa using k5
          rw [this]; rfl
      have hbn := hB' j b hj hb
      unfold V_X4_comes_117
      simp only [nI1]
      rw [nI_div2 (by omega), nI_div2 (by omega)]
      refine br0 (fun k4 => br_f (by decide) ⟨fun k5 => ⟨fun k6 => nm_e (skip ?_), fun k6 => go ?_ _ (by rw [k4]; rfl)⟩, fun k5 => go ?_ _ (by rw [k4]; rfl)⟩) fun k4 => br_t trivial (go (by rw [k4]; rfl) _ (by rw [k4]; rfl))
      · unfold stp; rw [hl]; simp only; rw [k4, hbn.mp ⟨k5, k6⟩]; rfl
      · have : B j b = false := by rw [← Bool.not_eq_true]; exact fun k7 => k6 (hbn.mpr k7).2
        rw [this, Bool.and_false]
      · have : B j b = false := by rw [← Bool.not_eq_true]; exact fun k7 => k5 (hbn.mpr k7).1
        rw [this, Bool.and_false]
def inK (c : Nat) : Prop := (1234 ≤ c ∧ c < 1238) ∨ c = 1000056 ∨ c = 1000057
theorem inK_M : ∀ c, inK c → scM c := by intro c hc; unfold inK at hc; unfold scM; omega
theorem m_findBreaks {T : Tw} {tm : Nat} {sg al : Nat → Nat → Int32} {σ : ZS} (h : ME T tm sg al σ) {sn an : Nat → Int32} (hn : NowM sn an σ) {nt : Nat} {td : Nat → Int32} (ht : TdM nt td σ) (h2 : 2 ≤ nt) {B : Nat → Nat → Bool} (hB : BnM T B σ) {Ret : ZS → Prop} (hr : ∀ σ', Fr inK σ σ' → zI σ' 44 56 = nI (fw 1000000000 (brF T (mayN T sn an) B td nt)) → zJ σ' 44 57 = ww (brF T (mayN T sn an) B td nt) → Ret σ') : wp_X4_findBreaks σ Ret := by
  have w := h.mt.wf
  have hns := w.ns
  have h12 := ht.1
  unfold wp_X4_findBreaks
  refine forL (S := ZS) (fun m s x => VL_X4_findBreaks_2 Ret m s x) (fun i s => Fr inK σ s ∧ ∀ k', i = k' + 1 → FwM T (layF T (mayN T sn an) B td k') s) (nt - 1) ?_ ?_ 0 σ (Nat.zero_le _) ⟨Fr.rfl, fun k' e => by omega⟩
  · rintro n s ⟨f, g⟩
    have hs := h.fr f inK_M
    have ht' := ht.fr f (by intro c hc; unfold inK at hc; omega)
    simp only [VL_X4_findBreaks_2]
    rw [nI1, ht'.2.1]
    refine br_f (nI_nlt (by omega) (by omega)) (nm_e (nm_e ?_))
    have gL := g (nt - 2) (by omega)
    have hLb : ∀ a q, layF T (mayN T sn an) B td (nt - 2) a = some q → q.1 ≤ 12 := fun a q hq => by have := lay_le hq; omega
    have hfd : ∀ m q, fdA (layF T (mayN T sn an) B td (nt - 2)) m = some q → q.1 ≤ 12 := fun m q hq => fd_le (fun a p hp => hLb a p hp) hq
    have f1 : Fr inK σ (sJ (sI s 44 56 1000000000) 44 57 0) := (f.sI 44 56 _ (by unfold inK cd; simp)).sJ 44 57 _ (by unfold inK cd; simp)
    refine forL (S := ZS) (fun m s x => VL_X4_findBreaks_102 Ret m s x) (fun i s => Fr inK σ s ∧ FwM T (layF T (mayN T sn an) B td (nt - 2)) s ∧ zI s 44 56 = nI (fw 1000000000 (fdA (layF T (mayN T sn an) B td (nt - 2)) i)) ∧ zJ s 44 57 = ww (fdA (layF T (mayN T sn an) B td (nt - 2)) i)) (2 * T.ns) ?_ ?_ 0 _ (Nat.zero_le _) ⟨f1, fun x hx => by rw [qI_sJ, zI_ne _ (.inl (by decide)), zJ_ne _ (.inl (by decide)), qJ_sI]; exact gL x hx, by rw [qI_sJ, zI_self]; rfl, zJ_self _ _ _ _⟩
    · rintro n2 s2 ⟨f2, -, y1, y2⟩
      have hs2 := h.fr f2 inK_M
      simp only [VL_X4_findBreaks_102]
      rw [hs2.mt.ltA (by omega)]
      exact br_f (by omega) (hr s2 f2 y1 y2)
    · rintro n2 i s2 hi ⟨f2, g2, y1, y2⟩ ih
      have hs2 := h.fr f2 inK_M
      obtain ⟨l1, l2⟩ := g2 i hi
      have iv : vp_in (nI i) 48 := vin (by omega) (by decide)
      simp only [VL_X4_findBreaks_102]
      simp only [nI1]
      rw [hs2.mt.ltA (by omega), ix_nI (by omega), l1, l2, y1, y2]
      refine br_t hi ⟨iv, ?_⟩
      have put : ∀ (u : Int64) (q : Nat × Int64), layF T (mayN T sn an) B td (nt - 2) i = some q → u = ww (fdA (layF T (mayN T sn an) B td (nt - 2)) (i + 1)) → q.1 = fw 1000000000 (fdA (layF T (mayN T sn an) B td (nt - 2)) (i + 1)) → V_X4_findBreaks_176 (VL_X4_findBreaks_102 Ret n2) Ret s2 (nI i) u := by
        intro u q hl hu hq
        unfold V_X4_findBreaks_176
        simp only [nI1]
        rw [ix_nI (by omega)]
        refine nm_e ⟨iv, nm_e (nm_e (ih _ ⟨(f2.sJ 44 57 _ (by unfold inK cd; simp)).sI 44 56 _ (by unfold inK cd; simp), fun x hx => ?_, ?_, ?_⟩))⟩
        · rw [zI_ne _ (.inl (by decide)), qI_sJ, qJ_sI, zJ_ne _ (.inl (by decide))]; exact g2 x hx
        · rw [zI_self, qI_sJ, l1, hl]; show nI q.1 = _; rw [hq]
        · rw [qJ_sI, zJ_self, hu]
      cases hl : layF T (mayN T sn an) B td (nt - 2) i with
      | none =>
        have e1 : fdA (layF T (mayN T sn an) B td (nt - 2)) (i + 1) = fdA (layF T (mayN T sn an) B td (nt - 2)) i := by rw [fdA, hl]
        have stay : VL_X4_findBreaks_102 Ret n2 s2 (nI (i + 1)) := ih s2 ⟨f2, g2, by rw [e1]; exact y1, by rw [e1]; exact y2⟩
        cases ha : fdA (layF T (mayN T sn an) B td (nt - 2)) i with
        | none => exact br_f (nI_nlt (Nat.le_refl _) (by decide)) ⟨iv, br_t rfl (nm_e stay)⟩
        | some r =>
          have := hfd i r ha
          exact br_t (nI_lt (show r.1 < 1000000000 by omega) (by decide)) (nm_e stay)
      | some q =>
        have hq := hLb i q hl
        have e1 : fdA (layF T (mayN T sn an) B td (nt - 2)) (i + 1) = mg (fdA (layF T (mayN T sn an) B td (nt - 2)) i) q.1 q.2 := by rw [fdA, hl]
        have nf : ¬ nI q.1 = 1000000000 := by rw [nFar, nI_eq (by omega) (by decide)]; omega
        cases ha : fdA (layF T (mayN T sn an) B td (nt - 2)) i with
        | none =>
          rw [ha] at e1
          exact br_f (nI_nlt (show q.1 ≤ 1000000000 by omega) (by decide)) ⟨iv, br_f nf ⟨iv, br_t (nI_lt (show q.1 < 1000000000 by omega) (by decide)) ⟨iv, put _ q hl (by rw [e1]; rfl) (by rw [e1]; rfl)⟩⟩⟩
        | some r =>
          have hr12 := hfd i r ha
          rw [ha] at e1 y1 y2
          unfold mg at e1
          simp only at e1
          show (nI r.1 < nI q.1 → _) ∧ (¬ nI r.1 < nI q.1 → _ ∧ (nI q.1 = 1000000000 → _) ∧ (¬ nI q.1 = 1000000000 → _ ∧ (nI q.1 < nI r.1 → _) ∧ (¬ nI q.1 < nI r.1 → _)))
          rw [nI_ltI (by omega) (by omega), nI_ltI (by omega) (by omega)]
          refine ⟨fun k5 => nm_e (ih s2 ⟨f2, g2, ?_, ?_⟩), fun k5 => ⟨iv, br_f nf ⟨iv, fun k6 => ⟨iv, put _ q hl ?_ ?_⟩, fun k6 => ⟨iv, put _ q hl ?_ ?_⟩⟩⟩⟩
          · rw [y1, e1, if_neg (by omega), if_neg (by omega)]
          · rw [y2, e1, if_neg (by omega), if_neg (by omega)]
          · rw [e1, if_pos k6]
          · rw [e1, if_pos k6]; rfl
          · rw [e1, if_neg k6, if_pos (by omega)]; rfl
          · rw [e1, if_neg k6, if_pos (by omega)]; show q.1 = r.1; omega
  · rintro n i s hi ⟨f, g⟩ ih
    have ht' := ht.fr f (by intro c hc; unfold inK at hc; omega)
    simp only [VL_X4_findBreaks_2]
    rw [nI1, ht'.2.1]
    refine br_t (nI_lt (by omega) (by omega)) ?_
    refine forL (S := ZS) (fun m s x => VL_X4_findBreaks_14 _ Ret m s (nI i) x) (fun b s => Fr inK σ s ∧ (∀ k', i = k' + 1 → FwM T (layF T (mayN T sn an) B td k') s) ∧ ∀ x, x < b → zI s 1235 x = nI (fw 1000000000 (layF T (mayN T sn an) B td i x)) ∧ zJ s 1237 x = ww (layF T (mayN T sn an) B td i x)) (2 * T.ns) ?_ ?_ 0 s (Nat.zero_le _) ⟨f, g, fun x hx => absurd hx (Nat.not_lt_zero _)⟩
    · rintro n2 s2 ⟨f2, g2, y2⟩
      have hs2 := h.fr f2 inK_M
      simp only [VL_X4_findBreaks_14]
      rw [hs2.mt.ltA (by omega)]
      refine br_f (by omega) ?_
      refine forL (S := ZS) (fun m s x => VL_X4_findBreaks_40 _ Ret m s (nI i) x) (fun b s => Fr inK σ s ∧ (∀ x, x < 2 * T.ns → zI s 1235 x = nI (fw 1000000000 (layF T (mayN T sn an) B td i x)) ∧ zJ s 1237 x = ww (layF T (mayN T sn an) B td i x)) ∧ ∀ x, x < b → zI s 1234 x = nI (fw 1000000000 (layF T (mayN T sn an) B td i x)) ∧ zJ s 1236 x = ww (layF T (mayN T sn an) B td i x)) (2 * T.ns) ?_ ?_ 0 s2 (Nat.zero_le _) ⟨f2, y2, fun x hx => absurd hx (Nat.not_lt_zero _)⟩
      · rintro n3 s3 ⟨f3, -, y3⟩
        have hs3 := h.fr f3 inK_M
        simp only [VL_X4_findBreaks_40]
        rw [hs3.mt.ltA (by omega)]; simp only [nI1]
        exact br_f (by omega) (nm_e (ih s3 ⟨f3, fun k' e => by cases e; exact y3⟩))
      · rintro n3 b s3 hb ⟨f3, x3, y3⟩ ih3
        have hs3 := h.fr f3 inK_M
        have iv : vp_in (nI b) 48 := vin (by omega) (by decide)
        simp only [VL_X4_findBreaks_40]
        rw [hs3.mt.ltA (by omega)]; simp only [nI1]
        rw [ix_nI (by omega)]
        refine br_t hb ⟨iv, iv, nm_e ⟨iv, iv, nm_e (nm_e (ih3 _ ⟨(f3.sI _ _ _ (by unfold inK cd; simp)).sJ _ _ _ (by unfold inK cd; simp), fun x hx => ?_, fun x hx => ?_⟩))⟩⟩
        · rw [qI_sJ, zI_ne _ (.inl (by decide)), zJ_ne _ (.inl (by decide)), qJ_sI]; exact x3 x hx
        · rw [qI_sJ, zI_row, zJ_row, qJ_sI, qJ_sI]
          by_cases ex : x = b
          · rw [if_pos ex, if_pos ex, ex]; exact x3 b hb
          · rw [if_neg ex, if_neg ex]; exact y3 x (by omega)
    · rintro n2 b s2 hb ⟨f2, g2, y2⟩ ih2
      have hs2 := h.fr f2 inK_M
      simp only [VL_X4_findBreaks_14]
      rw [hs2.mt.ltA (by omega)]; simp only [nI1]
      refine br_t hb (m_comes hs2 (hn.fr f2 (by intro c hc; unfold inK at hc; omega)) (ht.fr f2 (by intro c hc; unfold inK at hc; omega)) (hB.fr f2 (by intro c hc; unfold inK at hc; omega)) (by omega) g2 hb fun s3 f3 e1 e2 e3 => nm_e (ih2 s3 ⟨f2.trans (f3.mono (by intro c hc; unfold inK; omega)), fun k' e x hx => ?_, fun x hx => ?_⟩))
      · rw [f3.1 1234 x (by simp [cd]), f3.2.1 1236 x (by simp [cd])]; exact g2 k' e x hx
      · by_cases ex : x = b
        · rw [ex]; exact ⟨e1, e2⟩
        · rw [(e3 x ex).1, (e3 x ex).2]; exact y2 x (by omega)
