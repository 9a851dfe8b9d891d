/-! PURE HALF: parts. -/
set_option maxRecDepth 100000
noncomputable def szP (T : Tw) (G : Nat → Nat → Bool) (a : Nat) : Nat := cnt (fun b => T.isArc b && tgB T G a b) (2 * T.ns)
def mxS (f : Nat → Nat) (p : Nat → Bool) : Nat → Nat
  | 0 => 0
  | k + 1 => if p k then (if mxS f p k < f k then f k else mxS f p k) else mxS f p k
theorem mxS_ge {f : Nat → Nat} {p : Nat → Bool} {k a : Nat} (ha : a < k) (hp : p a = true) : f a ≤ mxS f p k := by
  induction k with
  | zero => omega
  | succ k ih =>
    unfold mxS
    by_cases e : a = k
    · subst e; rw [if_pos hp]; split <;> omega
    · have := ih (by omega)
      split
      · split <;> omega
      · exact this
theorem mxS_le {f : Nat → Nat} {p : Nat → Bool} {B : Nat} (h : ∀ a, f a ≤ B) (k : Nat) : mxS f p k ≤ B := by
  induction k with
  | zero => exact Nat.zero_le _
  | succ k ih =>
    unfold mxS
    split
    · split
      · exact h k
      · exact ih
    · exact ih
noncomputable def isRp (T : Tw) (G : Nat → Nat → Bool) (a : Nat) : Bool := T.isArc a && decide (ptF T G a = a)
theorem sz_rep {T : Tw} {G : Nat → Nat → Bool} {a : Nat} (ha : T.isArc a = true) : szP T G a = szP T G (ptF T G a) := by
  obtain ⟨h1, -, -⟩ := pt_is (G := G) ha
  refine cnt_congr fun b _ => ?_
  congr 1
  rw [Bool.eq_iff_iff]
  exact ⟨fun k => tg_trans h1 k, fun k => tg_trans (by rw [tg_sym]; exact h1) k⟩
theorem mx_skip {T : Tw} {G : Nat → Nat → Bool} {a : Nat} (h : isRp T G a = false) : mxS (szP T G) T.isArc (a + 1) = mxS (szP T G) T.isArc a := by
  show (if T.isArc a then (if mxS (szP T G) T.isArc a < szP T G a then szP T G a else mxS (szP T G) T.isArc a) else mxS (szP T G) T.isArc a) = _
  cases ha : T.isArc a
  · rfl
  · obtain ⟨h1, -, h3⟩ := pt_is (G := G) ha
    have hne : ptF T G a ≠ a := by
      intro e
      unfold isRp at h; rw [ha, e] at h; simp at h
    have := mxS_ge (f := szP T G) (p := T.isArc) (k := a) (a := ptF T G a) (by omega) (tg_arc h1).1
    rw [← sz_rep ha] at this
    simp only [if_true]
    rw [if_neg (by omega)]
noncomputable def ptV (T : Tw) (G : Nat → Nat → Bool) (x : Int32) : Int32 := if x = 0 then nI (cnt (isRp T G) (2 * T.ns)) else nI (mxS (szP T G) T.isArc (2 * T.ns))
noncomputable def spParts (T : Tw) (tm : Nat) (sg al : Nat → Nat → Int32) (t x : Int32) : Nat × Int32 := sp1 (inN t (tm + 1) && inN x 2) (ptV T (GT T sg al (ix t)) x)
theorem C_parts {T : Tw} {d : Ad} {tm : Nat} {sg al : Nat → Nat → Int32} {σ : ZS} (h : CQ T d tm sg al σ) {t x : Int32} {Ret : Int32 → ZS → Prop} (hr : PC σ Ret (wd (spParts T tm sg al t x))) : wp_X0_parts σ t x Ret := by
  unfold wp_X0_parts wp_X1_parts
  have ce := h.ce
  have sf := h.2.2.1
  have hns := h.1.wf.ns
  refine C_tw (K := fun σ4 => wp_X1_findParts σ4 t (fun σ6 => V_X1_parts_38 (fun x3 σ4 => ((∃ x, kK NS σ4 x3 = (12 + 7, x)) ∧ (Ret 1 σ4))) (fun r1 σ2 => ∀ σ6 : ZS, σ6 = sJ σ2 1238 (ix 0) r1.toInt64 → (Ret 0 σ6)) σ6 x 0 0 0)) h hr (fun b k => ?_) fun h1 h2 hr => ?_
  · cases b
    · exact k
    · exact k
  obtain ⟨q, rfl, hq, eq, -⟩ := inN_N h1
  rw [eq] at hr
  refine c_findParts ce (show q ≤ tm by omega) fun s f hp => ?_
  rw [ev0_G] at hp
  change ∀ a, a < 2 * T.ns → zI s 24 a = ptI T (GT T sg al q) a at hp
  generalize GT T sg al q = G at hp hr
  have ct := h.1.fr f (by intro c hc; unfold inP at hc; unfold noA; omega)
  have hcl : ∀ a, szP T G a ≤ 48 := fun a => Nat.le_trans (cnt_le _ _) (by omega)
  generalize hThr : (fun x3 σ4 => ((∃ x, kK NS σ4 x3 = (12 + 7, x)) ∧ (Ret 1 σ4))) = Thr
  have ptlt : ∀ a, T.isArc a = true → ptF T G a ≤ a := fun a ha => (pt_is ha).2.2
  have ptI_eq : ∀ a b, a < 2 * T.ns → b < 2 * T.ns → (ptI T G b = nI a) = (T.isArc b = true ∧ ptF T G b = a) := by
    intro a b ha hb
    unfold ptI
    cases hb' : T.isArc b
    · apply propext
      constructor
      · intro e
        have := e.symm
        change nI a = -1 at this
        rw [nI_m1 (by omega)] at this
        exact this.elim
      · intro e; cases e.1
    · have := ptlt b hb'
      simp only [if_true, true_and]
      exact propext (nI_eq (by omega) (by omega))
  refine forL2 (fun m s v u y => VL_X1_parts_38 Thr (fun r1 σ2 => ∀ σ6 : ZS, σ6 = sJ σ2 1238 (ix 0) r1.toInt64 → (Ret 0 σ6)) m s x v u y) (fun i s' v u => s' = s ∧ v = nI (cnt (isRp T G) i) ∧ u = nI (mxS (szP T G) T.isArc i)) (2 * T.ns) ?_ ?_ 0 s 0 0 (Nat.zero_le _) ⟨rfl, rfl, rfl⟩
  · rintro n s' v u ⟨rfl, rfl, rfl⟩
    simp only [VL_X1_parts_38]
    refine t_arcs ct (br_f (nI_nlt (Nat.le_refl _) (by omega)) ⟨fun k => hr.ok rfl sf f inP_S ?_, fun k => hr.ok rfl sf f inP_S ?_⟩)
    · show _ = (ptV T G x).toInt64; unfold ptV; rw [if_pos k]
    · show _ = (ptV T G x).toInt64; unfold ptV; rw [if_neg k]
  · rintro n i s' v u hi ⟨rfl, rfl, rfl⟩ ih
    have hmx := mxS_le (p := T.isArc) hcl i
    simp only [VL_X1_parts_38]
    simp only [nI1]
    refine t_arcs ct (br_t (nI_lt hi (by omega)) ⟨vin (by omega) (by decide), ?_⟩)
    rw [ix_nI (by omega), hp i hi, ptI_eq i i hi hi]
    refine ⟨fun k => nm_e ?_, fun k => nm_e (ih s' _ _ ⟨rfl, ?_, ?_⟩)⟩
    · have hrp : isRp T G i = true := by unfold isRp; rw [k.1, k.2]; simp
      have hsz : szP T G i = cnt (fun b => T.isArc b && decide (ptF T G b = i)) (2 * T.ns) := by
        refine cnt_congr fun b hb => ?_
        cases hb' : T.isArc b
        · rfl
        · have e1 := pt_eq (G := G) k.1 hb'
          rw [k.2] at e1
          rw [Bool.true_and, Bool.true_and, Bool.eq_iff_iff, decide_eq_true_eq, ← e1]
          exact eq_comm
      refine forL1 (fun m s v y => VL_X1_parts_74 _ Thr (fun r1 σ2 => ∀ σ6 : ZS, σ6 = sJ σ2 1238 (ix 0) r1.toInt64 → (Ret 0 σ6)) m s x (nI (cnt (isRp T G) i + 1)) (nI (mxS (szP T G) T.isArc i)) (nI i) v y) (fun j s2 v => s2 = s' ∧ v = nI (cnt (fun b => T.isArc b && decide (ptF T G b = i)) j)) (2 * T.ns) ?_ ?_ 0 s' 0 (Nat.zero_le _) ⟨rfl, rfl⟩
      · rintro n2 s2 v ⟨rfl, rfl⟩
        simp only [VL_X1_parts_74]
        simp only [nI1]
        refine t_arcs ct (br_f (nI_nlt (Nat.le_refl _) (by omega)) (nm_e (nm_e (ih s2 _ _ ⟨rfl, ?_, ?_⟩))))
        · show _ = nI (cnt (isRp T G) i + (if isRp T G i then 1 else 0)); rw [hrp]; rfl
        · have hs48 := hcl i
          rw [← hsz]
          rw [mxS, if_pos k.1]
          by_cases e : mxS (szP T G) T.isArc i < szP T G i
          · rw [if_pos (nI_lt e (by omega)), if_pos e]
          · rw [if_neg (nI_nlt (by omega) (by omega)), if_neg e]
      · rintro n2 j s2 v hj ⟨rfl, rfl⟩ ih2
        simp only [VL_X1_parts_74]
        simp only [nI1]
        refine t_arcs ct (br_t (nI_lt hj (by omega)) ⟨vin (by omega) (by decide), ?_⟩)
        rw [ix_nI (by omega), hp j hj, ptI_eq i j hi hj]
        refine ⟨fun k2 => nm_e (nm_e (ih2 s2 _ ⟨rfl, ?_⟩)), fun k2 => nm_e (nm_e (ih2 s2 _ ⟨rfl, ?_⟩))⟩
        · show _ = nI (_ + (if T.isArc j && decide (ptF T G j = i) then 1 else 0)); rw [k2.1, k2.2]; simp
        · have : (T.isArc j && decide (ptF T G j = i)) = false := by rw [← Bool.not_eq_true]; simp only [Bool.and_eq_true, decide_eq_true_eq]; exact k2
          show _ + (0 : Int32) = nI (_ + (if T.isArc j && decide (ptF T G j = i) then 1 else 0)); rw [this, n0, nI_add]; rfl
    · have hrp : isRp T G i = false := by unfold isRp; rw [← Bool.not_eq_true]; simp only [Bool.and_eq_true, decide_eq_true_eq]; exact k
      show _ = nI (cnt (isRp T G) i + (if isRp T G i then 1 else 0)); rw [hrp]; rfl
    · have hrp : isRp T G i = false := by unfold isRp; rw [← Bool.not_eq_true]; simp only [Bool.and_eq_true, decide_eq_true_eq]; exact k
      rw [mx_skip hrp]
/-- counted from above -/
def cntD (p : Nat → Bool) (N j : Nat) : Nat := cnt p N - cnt p j
theorem M_parts {T : Tw} {tm : Nat} {sg al : Nat → Nat → Int32} {σ : ZS} (h : ME T tm sg al σ) (hb : zI σ 44 54 = -1) {t x : Int32} {Ret : Int32 → ZS → Prop} (hr : PM σ Ret (spParts T tm sg al t x)) : wp_X4_parts σ t x Ret := by
  unfold wp_X4_parts
  obtain ⟨h1, hz⟩ := h.z
  have hns := h.mt.wf.ns
  unfold spParts at hr
  refine M_tw h (fun k => ?_) fun k k2 => ?_
  · unfold V_X4_parts_23 V_X4_parts_28
    exact m_bad1 hz (by decide) (br_f (by decide) (hr.thr (c := 1) (sp1_1 k) (by decide) hb))
  unfold V_X4_parts_28
  rw [sp1_0 (by rw [k, k2]; rfl)] at hr
  obtain ⟨q, rfl, hq, eq, -⟩ := inN_N k
  rw [eq] at hr
  refine m_bad0 hz (br_t rfl (m_asks h1 (t := q) (by omega) fun s f hn hf => m_layReaches (h1.fr f (by intro c hc; unfold scM; omega)).mt hf fun s2 f2 hr2 => ?_))
  have ff : Fr (fun c => c = 564 ∨ c = 565 ∨ c = 566 ∨ c = 567) (sI σ 44 0 0) s2 := (f.mono (by intro c hc; omega)).trans (f2.mono (by intro c hc; omega))
  have hS : ∀ c, c = 564 ∨ c = 565 ∨ c = 566 ∨ c = 567 → SM c ∧ c ≠ 1000000 ∧ c ≠ 1000054 := by intro c hc; unfold SM; omega
  have hs2 := h1.fr ff (by intro c hc; unfold scM; omega)
  change ReaM T (GT T sg al q) s2 at hr2
  generalize GT T sg al q = G at hr2 hr
  have hcl : ∀ a, szP T G a ≤ 48 := fun a => Nat.le_trans (cnt_le _ _) (by omega)
  refine forL2 (fun m s v u y => VL_X4_parts_54 Ret m s x v u y) (fun i s' v u => s' = s2 ∧ v = nI (cnt (isRp T G) i) ∧ u = nI (mxS (szP T G) T.isArc i)) (2 * T.ns) ?_ ?_ 0 s2 0 0 (Nat.zero_le _) ⟨rfl, rfl, rfl⟩
  · rintro n s' v u ⟨rfl, rfl, rfl⟩
    simp only [VL_X4_parts_54]
    rw [hs2.mt.ltA (by omega)]
    refine br_f (by omega) ⟨fun k => hr.ok rfl hb ff hS ?_, fun k => hr.ok rfl hb ff hS ?_⟩
    · show _ = ptV T G x; unfold ptV; rw [if_pos k]
    · show _ = ptV T G x; unfold ptV; rw [if_neg k]
  · rintro n i s' v u hi ⟨rfl, rfl, rfl⟩ ih
    have hmx := mxS_le (p := T.isArc) hcl i
    simp only [VL_X4_parts_54]
    simp only [nI1]
    rw [hs2.mt.ltA (by omega)]
    refine br_t hi (m_isArcN hs2.mt (by omega) (br0 (fun k1 => nm_e (ih s' _ _ ⟨rfl, ?_, ?_⟩)) fun k1 => nm_e ?_))
    · show _ = nI (cnt (isRp T G) i + (if isRp T G i then 1 else 0)); unfold isRp; rw [k1]; rfl
    · rw [mxS, k1]; rfl
    · have e0 : 2 * zI s' 47 (ix 1) - 1 = nI (2 * T.ns) - 1 := by rw [ix1, hs2.mt.m1, nI_2mul]
      rw [e0]
      have key : ∀ m j (f6 x7 : Nat), j ≤ 2 * T.ns → j < m → x7 = cntD (fun b => T.isArc b && tgB T G i b) (2 * T.ns) j → ((tgB T G i f6 = true ∧ j ≤ f6 ∧ ∀ b, j ≤ b → b < f6 → tgB T G i b = false) ∨ (f6 = i ∧ ∀ b, j ≤ b → b < 2 * T.ns → tgB T G i b = false)) → VL_X4_parts_98 (VL_X4_parts_54 Ret n) Ret m s' x (nI (cnt (isRp T G) i)) (nI (mxS (szP T G) T.isArc i)) (nI i) (nI f6) (nI x7) (nI j - 1) := by
        intro m
        induction m with
        | zero => intro j f6 x7 h1 h2; omega
        | succ m ihm =>
          intro j f6 x7 hj hjm hx7 hA
          simp only [VL_X4_parts_98]
          rcases Nat.eq_zero_or_pos j with e | e
          · subst e
            have hA' : tgB T G i f6 = true ∧ 0 ≤ f6 ∧ ∀ b, 0 ≤ b → b < f6 → tgB T G i b = false := by
              rcases hA with k | ⟨-, k⟩
              · exact k
              · have := k i (Nat.zero_le _) hi; rw [tg_refl k1] at this; cases this
            obtain ⟨a1, a2, a3⟩ := hA'
            have hf6 : f6 = ptF T G i := by
              have := tg_arc a1
              refine (leastN_eq (P := fun x => tgB T G x i = true) (by rw [tg_sym]; exact a1) fun b hb' => ?_).symm
              rw [tg_sym, Bool.not_eq_true]; exact a3 b (Nat.zero_le _) hb'
            have hx : x7 = szP T G i := by rw [hx7]; unfold cntD szP; rfl
            have hle := (pt_is (G := G) k1).2.2
            refine br_t (by decide) ?_
            have hs48 := hcl i
            have fin : ∀ c : Nat, c = (if isRp T G i then 1 else 0) → V_X4_parts_152 (VL_X4_parts_54 Ret n) Ret s' x (nI (mxS (szP T G) T.isArc i)) (nI i) (nI x7) (nI c) (nI (cnt (isRp T G) i)) := by
              intro c hc
              unfold V_X4_parts_152
              simp only [nI1]
              refine nm_e ?_
              rw [nI_add, hx, nI_ltI (by omega) (by omega)]
              refine ⟨fun k5 => nm_e (ih s' _ _ ⟨rfl, by rw [hc]; rfl, ?_⟩), fun k5 => nm_e (ih s' _ _ ⟨rfl, by rw [hc]; rfl, ?_⟩)⟩
              · rw [mxS, if_pos k1, if_pos k5]
              · rw [mxS, if_pos k1, if_neg k5]
            rw [hf6, nI_eq (by omega) (by omega)]
            refine ⟨fun k5 => fin 1 ?_, fun k5 => fin 0 ?_⟩
            · unfold isRp; rw [k1, k5]; simp
            · unfold isRp; rw [k1]; simp [k5]
          · obtain ⟨b, rfl⟩ : ∃ b, j = b + 1 := ⟨j - 1, by omega⟩
            have eb : nI (b + 1) - 1 = nI b := nI_pred b
            have em : nI b + (-1) = nI b - 1 := by
              rw [Int32.sub_eq_add_neg]
            rw [eb, em]
            have hb' : b < 2 * T.ns := by omega
            have hcb : cnt (fun b => T.isArc b && tgB T G i b) (b + 1) ≤ cnt (fun b => T.isArc b && tgB T G i b) (2 * T.ns) := cnt_mon hj
            have hcs : cnt (fun b => T.isArc b && tgB T G i b) (b + 1) = cnt (fun b => T.isArc b && tgB T G i b) b + (if T.isArc b && tgB T G i b then 1 else 0) := rfl
            have skip : tgB T G i b = false → VL_X4_parts_98 (VL_X4_parts_54 Ret n) Ret m s' x (nI (cnt (isRp T G) i)) (nI (mxS (szP T G) T.isArc i)) (nI i) (nI f6) (nI x7) (nI b - 1) := by
              intro hn'
              refine ihm b f6 x7 (by omega) (by omega) ?_ ?_
              · rw [hx7]; unfold cntD; rw [hcs, hn', Bool.and_false]; rfl
              · rcases hA with ⟨a1, a2, a3⟩ | ⟨a1, a2⟩
                · refine .inl ⟨a1, by omega, fun c h1 h2 => ?_⟩
                  by_cases ec : c = b
                  · rw [ec]; exact hn'
                  · exact a3 c (by omega) h2
                · refine .inr ⟨a1, fun c h1 h2 => ?_⟩
                  by_cases ec : c = b
                  · rw [ec]; exact hn'
                  · exact a2 c (by omega) h2
            refine br_f (nI_pos (by omega)) (m_isArcN hs2.mt (by omega) (br0 (fun k5 => nm_e (skip ?_)) fun k5 => m_areOne hns hr2 hi hb' (br0 (fun k6 => nm_e (skip k6)) fun k6 => nm_e (nm_e ?_))))
            · rw [← Bool.not_eq_true]; intro e5; rw [(tg_arc e5).2] at k5; cases k5
            · rw [nI1]
              refine ihm b b (x7 + 1) (by omega) (by omega) ?_ (.inl ⟨k6, Nat.le_refl _, fun c h1 h2 => by omega⟩)
              rw [hx7]; unfold cntD
              rw [k5, k6] at hcs
              simp at hcs
              omega
      have kk := key (2 * T.ns + 1) (2 * T.ns) i 0 (Nat.le_refl _) (Nat.lt_succ_self _) (by unfold cntD; omega) (.inr ⟨rfl, fun b h1 h2 => by omega⟩)
      exact ⟨2 * T.ns + 1, kk⟩
