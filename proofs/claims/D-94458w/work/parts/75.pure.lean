/-! PURE HALF: sure. -/
set_option maxRecDepth 100000
theorem lg_eq (a b : Int64) : (lg_cmp a b = 0) = (a = b) := by
  unfold lg_cmp
  by_cases h1 : a > b
  · rw [if_pos h1]
    apply propext
    constructor
    · intro e; exact absurd e (by decide)
    · intro e; subst e; exact absurd h1 (by simp)
  · rw [if_neg h1]
    by_cases h2 : a = b
    · rw [if_pos h2]; simp [h2]
    · rw [if_neg h2]
      apply propext
      constructor
      · intro e; exact absurd e (by decide)
      · intro e; exact absurd e h2
theorem lg_pos {n : Nat} (h : n < 2 ^ 31) : (0 < lg_cmp (nI n).toInt64 0) = (0 < n) := by
  rw [nI_l h]
  unfold lg_cmp
  rw [show (0 : Int64) = lN 0 from rfl]
  by_cases h1 : 0 < n
  · rw [if_pos (show lN n > lN 0 from (lN_lt (by decide) h).mpr h1)]
    apply propext; exact ⟨fun _ => h1, fun _ => by decide⟩
  · have e : n = 0 := by omega
    subst e
    rw [if_neg (show ¬ lN 0 > lN 0 from fun k => absurd ((lN_lt (by decide) (by decide)).mp k) (by decide)), if_pos rfl]
    apply propext; exact ⟨fun k => absurd k (by decide), fun k => absurd k (by decide)⟩
theorem wide_inj {n m : Nat} (hn : n < 2 ^ 31) (hm : m < 2 ^ 31) : ((nI n).toInt64 = (nI m).toInt64) = (n = m) := by
  rw [nI_l hn, nI_l hm]; exact propext (lN_eq hn hm)
theorem brQ_eq {x : FW} {n : Nat} (hn : n < 2 ^ 31) (hx : ∀ q, x = some q → q.1 < 2 ^ 31) : (lg_cmp (brQ x 0) (nI n).toInt64 = 0) = (x.map (·.1) = some n) := by
  rw [lg_eq]
  cases x with
  | none =>
    apply propext
    constructor
    · intro e
      exfalso
      change (-1 : Int64) = _ at e
      rw [nI_l hn] at e
      have h1 := congrArg Int64.toInt e
      rw [lN_toInt hn] at h1
      have h2 : (-1 : Int64).toInt = -1 := by decide
      omega
    · intro e; cases e
  | some q =>
    show ((if (0 : Int32) = 0 then (nI q.1).toInt64 else q.2) = _) = _
    rw [if_pos rfl, wide_inj (hx q rfl) hn]
    apply propext
    simp
/-- the found pair, for any k -/
def fdI (p : Nat → Bool) (k : Int32) (n : Nat) : Option Nat := if k < 0 then none else fdK p (ix k) n
theorem eq_k {c : Nat} (hc : c < 2 ^ 31) (k : Int32) : (nI c = k) = (¬ k < 0 ∧ c = ix k) := by
  apply propext
  constructor
  · intro e; subst e; exact ⟨nI_pos hc, (ix_nI hc).symm⟩
  · rintro ⟨h1, h2⟩
    obtain ⟨j, hj, rfl⟩ := nI_of h1
    rw [h2, ix_nI hj]
def surQ (T : Tw) (o : Option Nat) : Int32 := match o with
  | none => -1
  | some p => 100 * nI (p / T.ns) + nI (p % T.ns)
theorem sure_eq {T : Tw} {G : Nat → Nat → Bool} {nt : Nat} {td : Nat → Int32} {k : Int32} {q : Nat × Int64} (h2 : ¬ nt < 2) (hq : brF T G noB td nt = some q) (h0 : q.1 ≠ 0) : sureV T G nt td k = surQ T (fdI (dfP T G td nt q.1) k (T.ns * T.ns)) := by
  unfold sureV fdI
  rw [if_neg h2, hq]
  simp only
  rw [if_neg h0]
  split
  · rfl
  · rfl
theorem fdI_s {p : Nat → Bool} {k : Int32} {n : Nat} (h : fdI p k n = none) : fdI p k (n + 1) = if p n = true ∧ ¬ k < 0 ∧ cnt p n = ix k then some n else none := by
  unfold fdI at h ⊢
  by_cases hk : k < 0
  · rw [if_pos hk, if_neg (fun e => e.2.1 hk)]
  · rw [if_neg hk] at h ⊢
    rw [fdK, h]
    simp only
    by_cases e : p n = true ∧ cnt p n = ix k
    · rw [if_pos (by simp [e.1, e.2]), if_pos ⟨e.1, hk, e.2⟩]
    · rw [if_neg (fun e2 => e (by simpa using e2)), if_neg (fun e2 => e ⟨e2.1, e2.2.2⟩)]
theorem fdI_mono {p : Nat → Bool} {k : Int32} {n : Nat} {q : Nat} (h : fdI p k n = some q) : ∀ m, n ≤ m → fdI p k m = some q := by
  unfold fdI at h ⊢
  intro m hm
  split at h
  · cases h
  · next hk =>
    induction m with
    | zero => have : n = 0 := by omega
              subst this; rw [if_neg hk]; exact h
    | succ m ih =>
      by_cases e : n = m + 1
      · subst e; rw [if_neg hk]; exact h
      · have := ih (by omega)
        rw [if_neg hk] at this ⊢
        rw [fdK, this]
def inV (c : Nat) : Prop := inB c ∨ c = 2000036 ∨ c = 2000037
theorem C_sure {T : Tw} {d : Ad} {tm : Nat} {sg al : Nat → Nat → Int32} {σ : ZS} (h : CQ T d tm sg al σ) {nt : Nat} {td : Nat → Int32} (ht : TdC nt td σ) {t k : Int32} {Ret : Int32 → ZS → Prop} (hr : PC σ Ret (wd (spSure T tm sg al nt td t k))) : wp_X0_sure σ t k Ret := by
  unfold wp_X0_sure wp_X1_sure
  have ce := h.ce
  obtain ⟨ct, ch, sf, rm⟩ := h
  have w := ct.wf
  have hns := w.ns
  have h12 := ht.1
  unfold spSure at hr
  refine c_isTime ch (c_need rm (fun k0 => ?_) fun k0 σ' g k2 => ⟨⟨0, k2⟩, hr.thr (c := 1) (sp1_1 k0) (by decide) rm.1 sf g⟩)
  rw [sp1_0 k0] at hr
  obtain ⟨q0, rfl, hq0, eq0, -⟩ := inN_N k0
  rw [eq0] at hr
  have hqt : q0 ≤ tm := by omega
  have hS : ∀ c, inB c → (20 ≤ c ∧ c < 44) ∨ c = 2000017 ∨ c = 2000030 ∨ c = 2000031 ∨ c = 2000037 ∨ c = 2000038 := by intro c hc; unfold inB at hc; omega
  refine c_breaksOf ce ht (BnC.no hns sf.bf) hqt fun s f => ?_
  rw [ev0_G]
  generalize hThr : (fun x3 σ4 => ((∃ x, kK NS σ4 x3 = (12 + 7, x)) ∧ (Ret 1 σ4))) = Thr
  refine (show ∀ R : Int64, R = (if nt < 2 then 0 else brQ (brF T (GT T sg al q0) noB td nt) 0) → ((0 < lg_cmp R 0 → V_X1_sure_29 Thr (fun r1 σ2 => ∀ σ6 : ZS, σ6 = sJ σ2 1238 (ix 0) r1.toInt64 → (Ret 0 σ6)) s (nI q0) k R 0 0) ∧ (¬ 0 < lg_cmp R 0 → ∀ σ6 : ZS, σ6 = sJ s 1238 (ix 0) (-1 : Int32).toInt64 → (Ret 0 σ6))) from ?_) _ rfl
  intro R hR
  have ok1 : sureV T (GT T sg al q0) nt td k = -1 → ∀ σ6 : ZS, σ6 = sJ s 1238 (ix 0) (-1 : Int32).toInt64 → Ret 0 σ6 := fun e => hr.ok rfl sf f hS (by show _ = (sureV T (GT T sg al q0) nt td k).toInt64; rw [e])
  by_cases h2 : nt < 2
  · rw [if_pos h2] at hR
    subst hR
    exact br_f (by decide) (ok1 (by unfold sureV; rw [if_pos h2]))
  rw [if_neg h2] at hR
  cases hq : brF T (GT T sg al q0) noB td nt with
  | none =>
    rw [hq] at hR
    subst hR
    exact br_f (by decide) (ok1 (by unfold sureV; rw [if_neg h2, hq]))
  | some q =>
    have hql := br_le hq
    rw [hq] at hR
    change R = (if (0 : Int32) = 0 then (nI q.1).toInt64 else q.2) at hR
    rw [if_pos rfl] at hR
    subst hR
    rw [lg_pos (by omega)]
    refine ⟨fun h0 => ?_, fun h0 => ok1 (by unfold sureV; rw [if_neg h2, hq]; simp only; rw [if_pos (by omega)])⟩
    have es := sure_eq (k := k) h2 hq (by omega)
    rw [es] at hr
    clear ok1 es
    generalize hD : dfP T (GT T sg al q0) td nt q.1 = D at hr
    have fS : ∀ s, Fr inV σ s → zI s 0 36 = -1 → CQ T d tm sg al s ∧ TdC nt td s := fun s f e => ⟨⟨ct.fr f (by intro c hc; unfold inV inB at hc; unfold noA; omega), ch.fr f (by intro c hc; unfold inV inB at hc; omega), ⟨sf.ov.frm f (by intro c hc; unfold inV inB at hc; omega), e⟩, rm.fr f⟩, ht.fr f (by intro c hc; unfold inV inB at hc; omega)⟩
    have f' : Fr inV σ s := f.mono (fun c k => .inl k)
    have e36 : zI s 0 36 = -1 := by rw [f.1 0 36 (by unfold inB cd; simp)]; exact sf.bf
    have ok : ∀ s v, Fr inV σ s → zI s 0 36 = -1 → v = surQ T (fdI D k (T.ns * T.ns)) → ∀ σ6 : ZS, σ6 = sJ s 1238 (ix 0) v.toInt64 → Ret 0 σ6 := fun s v f e ev => hr.ret rfl (f.mono (by intro c hc; unfold inV inB at hc; unfold SQ; omega)) (fS s f e).1.2.2.1 (by rw [ev]; rfl)
    have hcl : ∀ n, n ≤ T.ns * T.ns → cnt D n ≤ 576 := fun n hn => Nat.le_trans (cnt_le _ _) (Nat.le_trans hn (Nat.le_trans (Nat.mul_le_mul hns hns) (by decide)))
    refine forL1 (fun m s v y => VL_X1_sure_29 Thr (fun r1 σ2 => ∀ σ6 : ZS, σ6 = sJ σ2 1238 (ix 0) r1.toInt64 → (Ret 0 σ6)) m s (nI q0) k (nI q.1).toInt64 v y) (fun i s v => Fr inV σ s ∧ zI s 0 36 = -1 ∧ v = nI (cnt D (i * T.ns)) ∧ fdI D k (i * T.ns) = none) T.ns ?_ ?_ 0 s 0 (Nat.zero_le _) ⟨f', e36, by rw [Nat.zero_mul]; rfl, by rw [Nat.zero_mul]; unfold fdI fdK; split <;> rfl⟩
    · rintro n s v ⟨f, e, rfl, g⟩
      obtain ⟨⟨ct', -⟩, -⟩ := fS s f e
      simp only [VL_X1_sure_29]
      rw [ct'.pt, zo_in, ct'.p1, zo_in]
      exact ⟨rfl, ct'.kt, rfl, ct'.ls.kl, j_size ct'.ls (br_f (nI_nlt (Nat.le_refl _) (by omega)) (ok s _ f e (by rw [g]; rfl)))⟩
    · rintro n i s v hi ⟨f, e, rfl, g⟩ ih
      obtain ⟨⟨ct', -⟩, -⟩ := fS s f e
      simp only [VL_X1_sure_29]
      rw [ct'.pt, zo_in, ct'.p1, zo_in]
      refine ⟨rfl, ct'.kt, rfl, ct'.ls.kl, j_size ct'.ls (br_t (nI_lt hi (by omega)) ?_)⟩
      have him : i * T.ns + T.ns ≤ T.ns * T.ns := by rw [← Nat.succ_mul]; exact Nat.mul_le_mul_right _ hi
      refine forL1 (fun m s v y => VL_X1_sure_47 _ Thr (fun r1 σ2 => ∀ σ6 : ZS, σ6 = sJ σ2 1238 (ix 0) r1.toInt64 → (Ret 0 σ6)) m s (nI q0) k (nI q.1).toInt64 v (nI i) y) (fun j s v => Fr inV σ s ∧ zI s 0 36 = -1 ∧ v = nI (cnt D (i * T.ns + j)) ∧ fdI D k (i * T.ns + j) = none) T.ns ?_ ?_ 0 s _ (Nat.zero_le _) ⟨f, e, rfl, g⟩
      · rintro n2 s2 v ⟨f2, e2, rfl, g2⟩
        obtain ⟨⟨ct2, -⟩, -⟩ := fS s2 f2 e2
        simp only [VL_X1_sure_47]
        simp only [nI1]
        rw [ct2.pt, zo_in, ct2.p1, zo_in]
        refine ⟨rfl, ct2.kt, rfl, ct2.ls.kl, j_size ct2.ls (br_f (nI_nlt (Nat.le_refl _) (by omega)) (nm_e (ih s2 _ ⟨f2, e2, ?_, ?_⟩)))⟩
        · rw [Nat.succ_mul]
        · rw [Nat.succ_mul]; exact g2
      · rintro n2 j s2 v hj ⟨f2, e2, rfl, g2⟩ ih2
        obtain ⟨cq2, ht2⟩ := fS s2 f2 e2
        have ct2 := cq2.1
        simp only [VL_X1_sure_47]
        simp only [nI1]
        rw [ct2.pt, zo_in, ct2.p1, zo_in]
        refine ⟨rfl, ct2.kt, rfl, ct2.ls.kl, j_size ct2.ls (br_t (nI_lt hj (by omega)) (nm_e (nm_e ?_)))⟩
        have f3 : Fr inV σ (sI (sI s2 0 36 (nI i)) 0 37 (nI j)) := (f2.sI 0 36 _ (.inr (.inl rfl))).sI 0 37 _ (.inr (.inr rfl))
        have g3 : Fr (fun c => c = 2000036 ∨ c = 2000037) s2 (sI (sI s2 0 36 (nI i)) 0 37 (nI j)) := (Fr.rfl.sI 0 36 _ (.inl rfl)).sI 0 37 _ (.inr rfl)
        have ce3 := cq2.ce.fr g3 (by intro c hc; unfold scC; omega)
        have ht3 := ht2.fr g3 (by intro c hc; omega)
        have hB3 : BnC T (onB i j) (sI (sI s2 0 36 (nI i)) 0 37 (nI j)) := BnC.on hns (by omega) (by omega) (by rw [zI_ne _ (.inr (by decide)), zI_self]) (zI_self _ _ _ _)
        refine c_breaksOf ce3 ht3 hB3 hqt fun s4 f4 => nm_e ?_
        rw [ev0_G, if_neg h2]
        change (lg_cmp (brQ (brF T (GT T sg al q0) (onB i j) td nt) 0) _ = 0 → _) ∧ (¬ lg_cmp (brQ (brF T (GT T sg al q0) (onB i j) td nt) 0) _ = 0 → _)
        have f5 : Fr inV σ (sI s4 0 36 (-1)) := (f3.trans (f4.mono (fun c k => .inl k))).sI 0 36 _ (.inr (.inl rfl))
        have e5 : zI (sI s4 0 36 (-1)) 0 36 = -1 := zI_self _ _ _ _
        generalize sI s4 0 36 (-1) = s5 at f5 e5 ⊢
        rw [brQ_eq (by omega) (fun p hp => by have := br_le hp; omega)]
        have hp : i * T.ns + j < T.ns * T.ns := by omega
        have e1 : (i * T.ns + j) / T.ns = i := by
          rw [Nat.add_comm, Nat.add_mul_div_right _ _ (by omega), Nat.div_eq_of_lt hj, Nat.zero_add]
        have e2' : (i * T.ns + j) % T.ns = j := by
          rw [Nat.add_comm, Nat.add_mul_mod_self_right, Nat.mod_eq_of_lt hj]
        have hDp : D (i * T.ns + j) = !decide ((brF T (GT T sg al q0) (onB i j) td nt).map (·.1) = some q.1) := by
          rw [← hD]; unfold dfP; rw [e1, e2']
        have hfs := fdI_s g2
        have hc := hcl (i * T.ns + j) (by omega)
        refine ⟨fun k5 => nm_e (ih2 s5 _ ⟨f5, e5, ?_, ?_⟩), fun k5 => ?_⟩
        · have : D (i * T.ns + j) = false := by rw [hDp]; simp [k5]
          show _ = nI (cnt D (i * T.ns + j) + (if D (i * T.ns + j) then 1 else 0))
          rw [this]; rfl
        · have : D (i * T.ns + j) = false := by rw [hDp]; simp [k5]
          show fdI D k (i * T.ns + j + 1) = none
          rw [hfs, if_neg (fun e => by rw [this] at e; cases e.1)]
        · have hDt : D (i * T.ns + j) = true := by rw [hDp]; simp [k5]
          rw [eq_k (by omega)]
          refine ⟨fun k6 => ok s5 _ f5 e5 ?_, fun k6 => nm_e (nm_e (ih2 s5 _ ⟨f5, e5, ?_, ?_⟩))⟩
          · rw [fdI_mono (n := i * T.ns + j + 1) (q := i * T.ns + j) (by rw [hfs, if_pos ⟨hDt, k6⟩]) _ (by omega)]
            show _ = 100 * nI ((i * T.ns + j) / T.ns) + nI ((i * T.ns + j) % T.ns)
            rw [e1, e2']
          · show _ = nI (cnt D (i * T.ns + j) + (if D (i * T.ns + j) then 1 else 0))
            rw [hDt]; rfl
          · show fdI D k (i * T.ns + j + 1) = none
            rw [hfs, if_neg (fun e => k6 e.2)]
theorem M_sure {T : Tw} {tm : Nat} {sg al : Nat → Nat → Int32} {σ : ZS} (h : ME T tm sg al σ) (hb : zI σ 44 54 = -1) {nt : Nat} {td : Nat → Int32} (ht : TdM nt td σ) {t k : Int32} {Ret : Int32 → ZS → Prop} (hr : PM σ Ret (spSure T tm sg al nt td t k)) : wp_X4_sure σ t k Ret := by
  unfold wp_X4_sure
  refine nm_e ?_
  obtain ⟨h1, hz⟩ := h.z
  have w := h.mt.wf
  have hns := w.ns
  have h12 := ht.1
  have ht1 := ht.z
  unfold spSure at hr
  refine m_isTime h1 (br0 (fun k0 => ?_) fun k0 => ?_)
  · unfold V_X4_sure_19
    exact m_bad1 hz (by decide) (br_f (by decide) (hr.thr (c := 1) (sp1_1 k0) (by decide) hb))
  unfold V_X4_sure_19
  rw [sp1_0 k0] at hr
  obtain ⟨q0, rfl, hq0, eq0, -⟩ := inN_N k0
  rw [eq0] at hr
  refine m_bad0 hz (br_t rfl ?_)
  rw [ht1.2.1, n2, nI_ltI (by omega) (by decide)]
  refine ⟨fun k3 => ?_, fun k3 => m_laysTime h1 (t := q0) (by omega) fun s f hn => ?_⟩
  · refine hr.ok rfl hb (Fr.rfl (S := fun _ => False)) (fun _ k => k.elim) ?_
    show -1 = sureV _ _ _ _ _; unfold sureV; rw [if_pos k3]
  have hs := h1.fr f (by intro c hc; unfold scM; omega)
  have b1 : zI (sI σ 44 0 0) 44 54 = -1 := by rw [zI_ne _ (.inr (by decide))]; exact hb
  refine m_findBreaks hs hn (ht1.fr f (by intro c hc; omega)) (by omega) (BnM.no hns (by rw [f.1 44 54 (by simp [cd])]; exact b1)) fun s2 f2 e1 _ => nm_e ?_
  change zI s2 44 56 = nI (fw 1000000000 (brF T (GT T sg al q0) noB td nt)) at e1
  rw [e1]
  have ff : Fr inT (sI σ 44 0 0) s2 := (f.mono (by intro c hc; unfold inT; omega)).trans (f2.mono (fun c k => .inl k))
  have hST : ∀ c, inT c → SM c ∧ c ≠ 1000000 ∧ c ≠ 1000054 := by intro c hc; unfold inT inK at hc; unfold SM; omega
  have ok1 : sureV T (GT T sg al q0) nt td k = -1 → Ret (-1) s2 := fun e => hr.ok rfl hb ff hST (by show -1 = sureV _ _ _ _ _; rw [e])
  cases hq : brF T (GT T sg al q0) noB td nt with
  | none => exact br_t rfl (ok1 (by unfold sureV; rw [if_neg k3, hq]))
  | some q =>
    have hql := br_le hq
    refine br_f (by show ¬ nI q.1 = 1000000000; rw [nFar, nI_eq (by omega) (by decide)]; omega) ?_
    show (nI q.1 = 0 → _) ∧ (¬ nI q.1 = 0 → _)
    rw [nI_eq0 (by omega)]
    refine ⟨fun k4 => ok1 (by unfold sureV; rw [if_neg k3, hq]; simp only; rw [if_pos k4]), fun k4 => ⟨fun k5 => ok1 (by unfold sureV; rw [if_neg k3, hq]; simp only; rw [if_neg k4, if_pos k5]), fun k5 => ?_⟩⟩
    have es := sure_eq (k := k) k3 hq k4
    rw [es] at hr
    clear ok1 es
    generalize hD : dfP T (GT T sg al q0) td nt q.1 = D at hr
    obtain ⟨kk, hkk, rfl⟩ := nI_of k5
    have efd : ∀ n, fdI D (nI kk) n = fdK D kk n := fun n => by unfold fdI; rw [if_neg k5, ix_nI hkk]
    rw [efd] at hr
    let inW : Nat → Prop := fun c => inT c ∨ c = 1000054 ∨ c = 1000055
    have fin : ∀ s v, Fr inW (sI σ 44 0 0) s → v = surQ T (fdK D kk (T.ns * T.ns)) → ∀ σ11 : ZS, σ11 = sI s 44 54 (-1) → Ret v σ11 := by
      rintro s v f ev σ11 rfl
      have f0 : Fr SM σ (sI s 44 54 (-1)) := ((Fr.rfl.sI 44 0 0 (by unfold SM cd; simp)).trans (f.mono (by intro c hc; simp only [inW] at hc; unfold inT inK at hc; unfold SM; omega))).sI 44 54 _ (by unfold SM cd; simp)
      refine hr _ v (f0.gw.mono (fun _ k => k) (by omega) (by omega)) (zI_self _ _ _ _) ?_ (fun _ => ev)
      rw [zI_ne _ (.inr (by decide)), f.1 44 0 (by simp only [inW]; unfold inT inK cd; simp), zI_self]; rfl
    have hnn : T.ns * T.ns ≤ 576 := Nat.le_trans (Nat.mul_le_mul hns hns) (by decide)
    have hSn : ∀ s, Fr inW (sI σ 44 0 0) s → ME T tm sg al s ∧ TdM nt td s := fun s f => ⟨h1.fr f (by intro c hc; simp only [inW] at hc; unfold inT inK at hc; unfold scM; omega), ht1.fr f (by intro c hc; simp only [inW] at hc; unfold inT inK at hc; omega)⟩
    have n2' : NowM (sg q0) (al q0) s2 := hn.fr f2 (by intro c hc; unfold inK at hc; omega)
    refine forL2 (fun m s v u y => VL_X4_sure_78 Ret m s (nI q.1) v u y) (fun p s v u => Fr inW (sI σ 44 0 0) s ∧ NowM (sg q0) (al q0) s ∧ u = surQ T (fdK D kk p) ∧ (fdK D kk p = none → v = nI (kk - cnt D p) ∧ cnt D p ≤ kk)) (T.ns * T.ns) ?_ ?_ 0 s2 (nI kk) (-1) (Nat.zero_le _) ⟨ff.mono (fun c k => .inl k), n2', rfl, fun _ => ⟨rfl, Nat.zero_le _⟩⟩
    · rintro n s v u ⟨f, hn', rfl, -⟩
      obtain ⟨me, -⟩ := hSn s f
      simp only [VL_X4_sure_78]
      rw [ix1, me.mt.m1, pk_mul]
      exact br_f (nI_nlt (Nat.le_refl _) (by omega)) (fin s _ f rfl)
    · rintro n p s v u hp ⟨f, hn', rfl, hv⟩ ih
      obtain ⟨me, ht'⟩ := hSn s f
      have h0 : 0 < T.ns := by
        rcases Nat.eq_zero_or_pos T.ns with e | e
        · rw [e] at hp; omega
        · exact e
      simp only [VL_X4_sure_78]
      simp only [nI1]
      have hdl : p / T.ns < T.ns := Nat.div_lt_of_lt_mul hp
      have hml : p % T.ns < T.ns := Nat.mod_lt _ h0
      rw [ix1, me.mt.m1, pk_mul]
      refine br_t (nI_lt hp (by omega)) ?_
      cases hf : fdK D kk p with
      | some p' =>
        have hf' : fdI D (nI kk) p = some p' := by rw [efd]; exact hf
        have : ∀ m, p ≤ m → fdK D kk m = some p' := fun m hm => by rw [← efd]; exact fdI_mono hf' m hm
        have hp'lt : ∀ m, fdK D kk m = some p' → p' < m := by
          intro m
          induction m with
          | zero => intro e; cases e
          | succ m ihm =>
            intro e
            unfold fdK at e
            cases hm : fdK D kk m with
            | some z => rw [hm] at e; cases e; have := ihm hm; omega
            | none => rw [hm] at e; simp only at e; split at e <;> cases e; omega
        have hpp := hp'lt p hf
        have l1 : p' / T.ns < T.ns := Nat.div_lt_of_lt_mul (by omega)
        have l2 : p' % T.ns < T.ns := Nat.mod_lt _ h0
        refine br_f ?_ (fin s _ f (by rw [this _ (by omega)]))
        show ¬ 100 * nI (p' / T.ns) + nI (p' % T.ns) = -1
        rw [show (100 : Int32) = nI 100 from rfl, pk_mul, nI_add, nI_m1 (by omega)]; exact id
      | none =>
        obtain ⟨rfl, hle⟩ := hv hf
        have hne : ¬ nI T.ns = 0 := nI_ne0 h0 (by omega)
        have m1' : zI (sI s 44 54 (nI p / nI T.ns)) 47 1 = nI T.ns := by rw [zI_ne _ (.inl (by decide))]; exact me.mt.m1
        refine br_t rfl ⟨hne, nm_e ?_⟩
        rw [m1', pk_rem (by omega) h0 (by omega), pk_div (by omega) h0 (by omega)]
        refine ⟨hne, nm_e ?_⟩
        have f3 : Fr inW (sI σ 44 0 0) (sI (sI s 44 54 (nI (p / T.ns))) 44 55 (nI (p % T.ns))) := (f.sI 44 54 _ (.inr (.inl rfl))).sI 44 55 _ (.inr (.inr rfl))
        have g3 : Fr (fun c => c = 1000054 ∨ c = 1000055) s (sI (sI s 44 54 (nI (p / T.ns))) 44 55 (nI (p % T.ns))) := (Fr.rfl.sI 44 54 _ (.inl rfl)).sI 44 55 _ (.inr rfl)
        obtain ⟨me3, ht3⟩ := hSn _ f3
        have b54 : zI (sI (sI s 44 54 (nI (p / T.ns))) 44 55 (nI (p % T.ns))) 44 54 = nI (p / T.ns) := by rw [zI_ne _ (.inr (by decide)), zI_self]
        have b55 : zI (sI (sI s 44 54 (nI (p / T.ns))) 44 55 (nI (p % T.ns))) 44 55 = nI (p % T.ns) := zI_self _ _ _ _
        refine m_findBreaks me3 (hn'.fr g3 (by intro c hc; omega)) ht3 (by omega) (BnM.on hns (by omega) (by omega) b54 b55) fun s4 f4 e4 _ => ?_
        change zI s4 44 56 = nI (fw 1000000000 (brF T (GT T sg al q0) (onB (p / T.ns) (p % T.ns)) td nt)) at e4
        have f5 := f3.trans (f4.mono (S' := inW) (fun c k => .inl (.inl k)))
        have n5 := (hn'.fr g3 (by intro c hc; omega)).fr f4 (by intro c hc; unfold inK at hc; omega)
        have c54 : zI s4 44 54 = nI (p / T.ns) := by rw [f4.1 44 54 (by unfold inK cd; simp)]; exact b54
        have c55 : zI s4 44 55 = nI (p % T.ns) := by rw [f4.1 44 55 (by unfold inK cd; simp)]; exact b55
        rw [e4, c54, c55]
        have hDp : D p = !decide ((brF T (GT T sg al q0) (onB (p / T.ns) (p % T.ns)) td nt).map (·.1) = some q.1) := by rw [← hD]; rfl
        have tst : (nI (fw 1000000000 (brF T (GT T sg al q0) (onB (p / T.ns) (p % T.ns)) td nt)) = nI q.1) = (D p = false) := by
          rw [hDp]
          cases hx : brF T (GT T sg al q0) (onB (p / T.ns) (p % T.ns)) td nt with
          | none =>
            show (nI 1000000000 = nI q.1) = _
            rw [nI_eq (by decide) (by omega)]
            apply propext
            simp; omega
          | some z =>
            have := br_le hx
            show (nI z.1 = nI q.1) = _
            rw [nI_eq (by omega) (by omega)]
            apply propext
            simp
        rw [tst]
        have hcp := Nat.le_trans (cnt_le D p) (Nat.le_of_lt hp)
        refine ⟨fun kd => nm_e (ih s4 _ _ ⟨f5, n5, ?_, fun _ => ?_⟩), fun kd => ?_⟩
        · rw [fdK, hf, kd]; rfl
        · show _ = nI (kk - (cnt D p + (if D p then 1 else 0))) ∧ cnt D p + (if D p then 1 else 0) ≤ kk
          rw [kd]; exact ⟨rfl, hle⟩
        · have kd' : D p = true := by simpa using kd
          rw [nI_eq0 (by omega)]
          refine ⟨fun kz => nm_e (nm_e (nm_e (ih s4 _ _ ⟨f5, n5, ?_, fun e => ?_⟩))), fun kz => nm_e (nm_e (ih s4 _ _ ⟨f5, n5, ?_, fun _ => ?_⟩))⟩
          · rw [fdK, hf, kd']; simp only; rw [if_pos (by simp; omega)]; rfl
          · rw [fdK, hf, kd'] at e; simp only at e; rw [if_pos (by simp; omega)] at e; cases e
          · rw [fdK, hf, kd']; simp only; rw [if_neg (by simp; omega)]; rfl
          · show nI (kk - cnt D p) + (-1) = nI (kk - (cnt D p + (if D p then 1 else 0))) ∧ cnt D p + (if D p then 1 else 0) ≤ kk
            rw [kd']
            obtain ⟨m, hm⟩ : ∃ m, kk - cnt D p = m + 1 := ⟨kk - cnt D p - 1, by omega⟩
            rw [hm, pk_m1]
            exact ⟨by congr 1; simp; omega, by simp; omega⟩
