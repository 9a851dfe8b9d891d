/-! PURE HALF: traffic, home: the class. -/
set_option maxRecDepth 100000
noncomputable def rdQ (T : Tw) (G : Nat → Nat → Bool) : Nat := cnt (fun r => (pR T G r).isSome) T.nr
noncomputable def rdE (T : Tw) (G : Nat → Nat → Bool) : Nat × (Nat → Rd) := rdRun T G (rdQ T G) 999 0 (fun _ => rd0)
theorem rdN_le (T : Tw) (st : Nat → Rd) : rdN T st ≤ T.nr := cnt_le _ _
def inRd (c : Nat) : Prop := c = 20 ∨ c = 21 ∨ (32 ≤ c ∧ c < 39) ∨ c = 2000030 ∨ c = 2000031
theorem inRd_C : ∀ c, inRd c → scC c := by intro c hc; unfold inRd at hc; unfold scC; omega
theorem inH_Rd : ∀ c, inH c → inRd c := by intro c hc; unfold inH at hc; unfold inRd; omega
theorem inRd_A : ∀ c, inRd c → noA c := by intro c hc; unfold inRd at hc; unfold noA; omega
theorem rdRun_le {T : Tw} {G : Nat → Nat → Bool} {q : Nat} (f k : Nat) (st : Nat → Rd) : (rdRun T G q f k st).1 ≤ k + f := by
  induction f generalizing k st with
  | zero => exact Nat.le_refl _
  | succ f ih =>
    unfold rdRun
    split
    · have := ih (k + 1) (rdSs T G k (fun r => rdMv T G k r (st r)) T.nc); omega
    · show k ≤ _; omega
theorem rdE_le (T : Tw) (G : Nat → Nat → Bool) : (rdE T G).1 ≤ 999 := by have := rdRun_le (T := T) (G := G) (q := rdQ T G) 999 0 (fun _ => rd0); unfold rdE; omega
theorem c_goes {e : Ev} {σ : ZS} (h : CE e σ) {Ret : ZS → Prop} (hr : ∀ s', Fr inRd σ s' → zI s' 0 30 = nI (rdE e.T (e.G e.tm)).1 → zI s' 0 31 = nI (rdN e.T (rdE e.T (e.G e.tm)).2) → (∀ r, r < e.T.nr → RdC e.T (e.G e.tm) s' r ((rdE e.T (e.G e.tm)).2 r)) → Ret s') : wp_X1_goes σ Ret := by
  have w := h.ct.wf
  have hnr := w.nr
  have hnc := w.nc
  unfold wp_X1_goes
  refine c_findWays h fun s1 f1 g1 => nm_e (nm_e ?_)
  have f1' : Fr inRd σ s1 := f1.mono (by intro c hc; unfold inY at hc; unfold inRd; omega)
  generalize hG : e.G e.tm = G at g1 hr
  change V_X1_goes_15 Ret _ (nI (rdQ e.T G))
  have hq : rdQ e.T G ≤ e.T.nr := cnt_le _ _
  have run : ∀ f k st s, k + f = 999 → Fr inRd σ s → zI s 0 30 = nI k → zI s 0 31 = nI (rdN e.T st) → (∀ r, r < e.T.nr → RdC e.T G s r (st r)) → (∀ r, r < e.T.nr → rdO e.T G k r (st r)) → rdRun e.T G (rdQ e.T G) f k st = rdE e.T G → VL_X1_goes_15 Ret (f + 1) s (nI (rdQ e.T G)) := by
    intro f
    induction f with
    | zero =>
      intro k st s hk ff z30 z31 g o er
      have hl := rdN_le e.T st
      have fin : Ret s := by
        have er : (k, st) = rdE e.T G := er
        rw [← er] at hr
        exact hr s ff z30 z31 g
      simp only [VL_X1_goes_15]
      rw [z30, show k = 999 by omega]
      exact ⟨fun _ => ⟨fun k1 => absurd k1 (by decide), fun _ => fin⟩, fun _ => fin⟩
    | succ f ihf =>
      intro k st s hk ff z30 z31 g o er
      have hl := rdN_le e.T st
      unfold rdRun at er
      rw [VL_X1_goes_15]
      dsimp only
      rw [z31, nI_ltI (by omega) (by omega)]
      refine ⟨fun k1 => ?_, fun k1 => ?_⟩
      · rw [if_pos k1] at er
        rw [z30]
        refine br_t (nI_lt (b := 999) (by omega) (by decide)) ?_
        refine forL (S := ZS) (fun m s x => VL_X1_goes_35 (VL_X1_goes_15 Ret (f + 1)) Ret m s (nI (rdQ e.T G)) x) (fun i s2 => Fr inRd σ s2 ∧ zI s2 0 30 = nI k ∧ zI s2 0 31 = nI (rdN e.T st) ∧ ∀ r, r < e.T.nr → RdC e.T G s2 r (if r < i then rdMv e.T G k r (st r) else st r)) e.T.nr ?_ ?_ 0 s (Nat.zero_le _) ⟨ff, z30, z31, fun r hr => by rw [if_neg (by omega)]; exact g r hr⟩
        · rintro m s2 ⟨f2, y30, y31, g2⟩
          have ct2 := (h.fr f2 inRd_C).ct
          simp only [VL_X1_goes_35]
          rw [ct2.pt, zo_in, ct2.p2, zo_in]
          refine ⟨rfl, ct2.kt, rfl, ct2.lr.kl, j_size ct2.lr (br_f (nI_nlt (Nat.le_refl _) (by omega)) ?_)⟩
          refine forL (S := ZS) (fun m s x => VL_X1_goes_62 (VL_X1_goes_15 Ret (f + 1)) Ret m s (nI (rdQ e.T G)) x) (fun c s3 => Fr inRd σ s3 ∧ zI s3 0 30 = nI k ∧ zI s3 0 31 = nI (rdN e.T (rdSs e.T G k (fun r => rdMv e.T G k r (st r)) c)) ∧ ∀ r, r < e.T.nr → RdC e.T G s3 r (rdSs e.T G k (fun r => rdMv e.T G k r (st r)) c r)) e.T.nc ?_ ?_ 0 s2 (Nat.zero_le _) ⟨f2, y30, by rw [y31]; congr 1; exact (rdN_mv e.T G k st).symm, fun r hr => by have := g2 r hr; rw [if_pos hr] at this; exact this⟩
          · rintro m2 s3 ⟨f3, x30, x31, g3⟩
            have ct3 := (h.fr f3 inRd_C).ct
            simp only [VL_X1_goes_62]
            refine c_corners ct3 (br_f (nI_nlt (Nat.le_refl _) (by omega)) (nm_e ?_))
            refine ihf (k + 1) (rdSs e.T G k (fun r => rdMv e.T G k r (st r)) e.T.nc) _ (by omega) (f3.sI 0 30 _ (by unfold inRd cd; simp)) (by rw [zI_self, x30, nI1]) (by rw [zI_ne _ (.inr (by decide))]; exact x31) (fun r hr => ?_) (fun r hr => ?_) er
            · exact (g3 r hr).keep (fun a ha _ => zI_ne _ (.inl (by omega))) (fun k => zI_ne _ (.inl (by decide)))
            · exact rdO_ss w ((rdO_mv w hr (o r hr)).mono (by omega)) _
          · rintro m2 c s3 hc ⟨f3, x30, x31, g3⟩ ih3
            have ct3 := (h.fr f3 inRd_C).ct
            simp only [VL_X1_goes_62]
            simp only [nI1]
            refine c_corners ct3 (br_t (nI_lt hc (by omega)) (c_passes ct3 hc (by omega) x30 x31 g3 (fun r hr => rdO_ss w ((rdO_mv w hr (o r hr)).mono (by omega)) _) fun s4 f4 g4 w30 w31 => nm_e (ih3 s4 ⟨f3.trans (f4.mono inH_Rd), w30, w31, g4⟩)))
        · rintro m i s2 hi ⟨f2, y30, y31, g2⟩ ih2
          have ct2 := (h.fr f2 inRd_C).ct
          have gi := g2 i hi
          rw [if_neg (by omega)] at gi
          simp only [VL_X1_goes_35]
          simp only [nI1]
          rw [ct2.pt, zo_in, ct2.p2, zo_in]
          refine ⟨rfl, ct2.kt, rfl, ct2.lr.kl, j_size ct2.lr (br_t (nI_lt hi (by omega)) (c_rides ct2 hi (by omega) y30 gi (o i hi) fun s3 e3 g3 => nm_e (ih2 s3 ⟨f2.trans (e3.1.mono (by intro c hc; unfold inRd; omega)), ?_, ?_, fun r hr => ?_⟩)))⟩
          · rw [e3.1.1 0 30 (by simp [cd])]; exact y30
          · rw [e3.1.1 0 31 (by simp [cd])]; exact y31
          · by_cases er : r = i
            · subst er; rw [if_pos (by omega)]; exact g3
            · have := (g2 r hr).ot e3 er
              by_cases l : r < i
              · rw [if_pos l] at this; rw [if_pos (by omega)]; exact this
              · rw [if_neg l] at this; rw [if_neg (by omega)]; exact this
      · rw [if_neg k1] at er
        rw [← er] at hr
        exact hr s ff z30 z31 g
  refine ⟨1000, run 999 0 (fun _ => rd0) _ rfl ((f1'.sI 0 30 _ (by unfold inRd cd; simp)).sI 0 31 _ (by unfold inRd cd; simp)) (by rw [zI_ne _ (.inr (by decide)), zI_self]; rfl) ?_ (fun r hr => ?_) (fun r hr => ?_) rfl⟩
  · have e0 : cnt (fun _ => false) e.T.nr = 0 := cnt_cut (m := 0) (Nat.zero_le _) (fun _ _ _ => rfl)
    rw [zI_self]; show (0 : Int32) = nI (cnt (fun _ => false) e.T.nr); rw [e0]; rfl
  · obtain ⟨y1, y2, y3, y4, y5⟩ := g1 r hr
    refine ⟨?_, fun n k hn hk => ?_, ?_, ?_, ?_, fun hx => by cases hx⟩
    · rw [zI_ne _ (.inl (by decide)), zI_ne _ (.inl (by decide))]; exact y1
    · rw [zI_ne _ (.inl (by decide)), zI_ne _ (.inl (by decide))]; exact y2 n k hn hk
    · rw [zI_ne _ (.inl (by decide)), zI_ne _ (.inl (by decide))]; exact y3
    · rw [zI_ne _ (.inl (by decide)), zI_ne _ (.inl (by decide))]; exact y4
    · rw [zI_ne _ (.inl (by decide)), zI_ne _ (.inl (by decide))]; exact y5
  · exact ⟨fun p hp => (by cases hp), fun _ => rfl, Nat.zero_le _, fun x hx => (by cases hx)⟩
/-! specs -/
noncomputable def spHome (T : Tw) (G : Nat → Nat → Bool) (r : Int32) : Nat × Int32 := sp1 (inN r T.nr) (oI (rdH ((rdE T G).2 (ix r))))
def wSum (st : Nat → Rd) : Nat → Int32
  | 0 => 0
  | r + 1 => wSum st r + rdW (st r)
def wMost (st : Nat → Rd) : Nat → Option Nat
  | 0 => none
  | r + 1 => if 0 < rdW (st r) then (match wMost st r with
    | none => some r
    | some m => if rdW (st m) < rdW (st r) then some r else some m) else wMost st r
theorem wMost_lt {st : Nat → Rd} {n m : Nat} (h : wMost st n = some m) : m < n := by
  induction n with
  | zero => cases h
  | succ n ih =>
    unfold wMost at h
    split at h
    · split at h
      · cases h; omega
      · rename_i g hg
        split at h
        · cases h; omega
        · cases h; have := ih hg; omega
    · have := ih h; omega
noncomputable def trV (T : Tw) (G : Nat → Nat → Bool) (x : Int32) : Int32 := if x = 0 then nI (rdE T G).1 else if x = 1 then nI (rdN T (rdE T G).2) else if x = 2 then wSum (rdE T G).2 T.nr else oI (wMost (rdE T G).2 T.nr)
noncomputable def spTr (T : Tw) (G : Nat → Nat → Bool) (x : Int32) : Nat × Int32 := sp1 (inN x 4) (trV T G x)
theorem C_home {T : Tw} {d : Ad} {tm : Nat} {sg al : Nat → Nat → Int32} {σ : ZS} (h : CQ T d tm sg al σ) {x : Int32} {Ret : Int32 → ZS → Prop} (hr : PC σ Ret (wd (spHome T (GT T sg al tm) x))) : wp_X0_home σ x Ret := by
  unfold wp_X0_home wp_X1_home
  have ce := h.ce
  obtain ⟨ct, ch, sf, rm⟩ := h
  have hnr := ct.wf.nr
  unfold spHome at hr
  have bad : inN x T.nr = false → V_X1_home_22 (fun x3 σ4 => ((∃ x, kK NS σ4 x3 = (12 + 7, x)) ∧ (Ret 1 σ4))) (fun r1 σ2 => ∀ σ6 : ZS, σ6 = sJ σ2 1238 (ix 0) r1.toInt64 → (Ret 0 σ6)) σ x := by
    intro k
    unfold V_X1_home_22 V_X1_home_23
    exact c_need (b := false) rm (fun k => by cases k) fun _ σ' g k2 => ⟨⟨0, k2⟩, hr.thr (c := 1) (sp1_1 k) (by decide) rm.1 sf g⟩
  refine ⟨fun k => bad (inN_neg k), fun k => ?_⟩
  rw [ct.pt, zo_in, ct.p2, zo_in]
  refine ⟨rfl, ct.kt, rfl, ct.lr.kl, j_size ct.lr ⟨fun k2 => ?_, fun k2 => bad ?_⟩⟩
  · have hin : inN x T.nr = true := by
      unfold inN
      rw [Int32.lt_iff_toInt_lt] at k k2
      rw [nI_toInt (by omega)] at k2
      have : (0 : Int32).toInt = 0 := rfl
      simp; omega
    unfold V_X1_home_23
    rw [sp1_0 hin] at hr
    obtain ⟨r, rfl, hrl, er, -⟩ := inN_N hin
    rw [er] at hr
    refine c_need (b := true) rm (fun _ => c_goes ce fun s1 f1 z30 z31 g1 => ⟨vin (by omega) (by decide), ?_⟩) (fun k => by cases k)
    rw [show (ev0 T d tm sg al).G (ev0 T d tm sg al).tm = GT T sg al tm from ev0_G T d tm sg al tm] at g1
    rw [er, (g1 r hrl).2.2.2.1]
    exact hr.ok rfl sf f1 (by intro c hc; unfold inRd at hc; omega) rfl
  · unfold inN
    rw [Int32.lt_iff_toInt_lt] at k k2
    rw [nI_toInt (by omega)] at k2
    have : (0 : Int32).toInt = 0 := rfl
    simp; omega
theorem C_traffic {T : Tw} {d : Ad} {tm : Nat} {sg al : Nat → Nat → Int32} {σ : ZS} (h : CQ T d tm sg al σ) {x : Int32} {Ret : Int32 → ZS → Prop} (hr : PC σ Ret (wd (spTr T (GT T sg al tm) x))) : wp_X0_traffic σ x Ret := by
  unfold wp_X0_traffic wp_X1_traffic
  have ce := h.ce
  obtain ⟨ct, ch, sf, rm⟩ := h
  have hnr := ct.wf.nr
  unfold spTr at hr
  have bad : inN x 4 = false → V_X1_traffic_13 (fun x3 σ4 => ((∃ x, kK NS σ4 x3 = (12 + 7, x)) ∧ (Ret 1 σ4))) (fun r1 σ2 => ∀ σ6 : ZS, σ6 = sJ σ2 1238 (ix 0) r1.toInt64 → (Ret 0 σ6)) σ x := by
    intro k
    unfold V_X1_traffic_13 V_X1_traffic_14
    exact c_need (b := false) rm (fun k => by cases k) fun _ σ' g k2 => ⟨⟨0, k2⟩, hr.thr (c := 1) (sp1_1 k) (by decide) rm.1 sf g⟩
  refine ⟨fun k => bad (inN_neg k), fun k => ?_⟩
  rw [show (3 : Int32) = nI 3 from rfl, inN_gt (by decide) k]
  refine ⟨bad, fun k2 => ?_⟩
  have hin : inN x 4 = true := by simpa using k2
  unfold V_X1_traffic_14
  rw [sp1_0 hin] at hr
  obtain ⟨j, rfl, hj, -, -⟩ := inN_N hin
  have ok : ∀ s', Fr inRd σ s' → ∀ v, v = trV T (GT T sg al tm) (nI j) → ∀ σ6 : ZS, σ6 = sJ s' 1238 (ix 0) v.toInt64 → Ret 0 σ6 := fun s' f v e => hr.ok rfl sf f (by intro c hc; unfold inRd at hc; omega) (by rw [e]; rfl)
  unfold trV at ok
  refine c_need (b := true) rm (fun _ => c_goes ce fun s1 f1 z30 z31 g1 => ?_) (fun k => by cases k)
  rw [show (ev0 T d tm sg al).G (ev0 T d tm sg al).tm = GT T sg al tm from ev0_G T d tm sg al tm] at g1 z30 z31
  change ∀ r, r < T.nr → RdC T (GT T sg al tm) s1 r ((rdE T (GT T sg al tm)).2 r) at g1
  change zI s1 0 30 = nI (rdE T (GT T sg al tm)).1 at z30
  change zI s1 0 31 = nI (rdN T (rdE T (GT T sg al tm)).2) at z31
  generalize GT T sg al tm = G at *
  have ok := ok s1 f1
  have ct1 := ct.fr f1 inRd_A
  refine ⟨fun k3 => ⟨fun k4 => ?_, fun k4 => ?_⟩, fun k3 => ?_⟩
  · rw [z30]; exact ok _ (by rw [if_pos k4])
  · have : j = 1 := by
      rw [n2, nI_ltI (by omega) (by omega)] at k3
      rw [nI_eq0 (by omega)] at k4; omega
    subst this
    rw [z31]; exact ok _ rfl
  · rw [n2, nI_ltI (by omega) (by omega)] at k3
    have ok : ∀ v, v = (if nI j = 2 then wSum (rdE T G).2 T.nr else oI (wMost (rdE T G).2 T.nr)) → ∀ σ6 : ZS, σ6 = sJ s1 1238 (ix 0) v.toInt64 → Ret 0 σ6 := by
      rw [if_neg (by rw [nI_eq0 (by omega)]; omega), if_neg (by rw [nI_eq1 (by omega)]; omega)] at ok; exact ok
    generalize hThr : (fun x3 σ4 => ((∃ x, kK NS σ4 x3 = (12 + 7, x)) ∧ (Ret 1 σ4))) = Thr
    refine forL2 (fun m s v u y => VL_X1_traffic_49 Thr (fun r1 σ2 => ∀ σ6 : ZS, σ6 = sJ σ2 1238 (ix 0) r1.toInt64 → (Ret 0 σ6)) m s (nI j) v u y) (fun i s v u => s = s1 ∧ v = wSum (rdE T G).2 i ∧ u = oI (wMost (rdE T G).2 i)) T.nr ?_ ?_ 0 s1 0 (-1) (Nat.zero_le _) ⟨rfl, rfl, rfl⟩
    · rintro n s v u ⟨rfl, rfl, rfl⟩
      simp only [VL_X1_traffic_49]
      rw [ct1.pt, zo_in, ct1.p2, zo_in]
      exact ⟨rfl, ct1.kt, rfl, ct1.lr.kl, j_size ct1.lr (br_f (nI_nlt (Nat.le_refl _) (by omega)) ⟨fun k => ok _ (by rw [if_pos k]), fun k => ok _ (by rw [if_neg k])⟩)⟩
    · rintro n i s v u hi ⟨rfl, rfl, rfl⟩ ih
      have iv : vp_in (nI i) 12 := vin (by omega) (by decide)
      simp only [VL_X1_traffic_49]
      simp only [nI1]
      rw [ct1.pt, zo_in, ct1.p2, zo_in]
      refine ⟨rfl, ct1.kt, rfl, ct1.lr.kl, j_size ct1.lr (br_t (nI_lt hi (by omega)) ⟨iv, nm_e ⟨iv, ?_⟩⟩)⟩
      rw [ix_nI (by omega), (g1 i hi).2.2.2.2.1]
      refine ⟨fun k => ?_, fun k => nm_e (ih s _ _ ⟨rfl, rfl, by rw [wMost, if_neg k]⟩)⟩
      cases hm : wMost (rdE T G).2 i with
      | none => exact br_t rfl (nm_e (ih s _ _ ⟨rfl, rfl, by rw [wMost, if_pos k, hm]; rfl⟩))
      | some m =>
        have hml := wMost_lt hm
        refine br_f (by show ¬ nI m = -1; rw [nI_m1 (by omega)]; exact id) ⟨iv, vin (n := m) (by omega) (by decide), ?_⟩
        rw [show oI (some m) = nI m from rfl, ix_nI (by omega), (g1 m (by omega)).2.2.2.2.1]
        exact ⟨fun kc => nm_e (ih s _ _ ⟨rfl, rfl, by rw [wMost, if_pos k, hm]; dsimp only; rw [if_pos kc]; rfl⟩), fun kc => nm_e (ih s _ _ ⟨rfl, rfl, by rw [wMost, if_pos k, hm]; dsimp only; rw [if_neg kc]; rfl⟩)⟩
