/-! PURE HALF: traffic, home: the model. -/
set_option maxRecDepth 100000
theorem forL3 {A B C D : Type} (W : Nat → A → B → C → D → Int32 → Prop) (I : Nat → A → B → C → D → Prop) (e : Nat) (hx : ∀ n s v u t, I e s v u t → W (n + 1) s v u t (nI e)) (hs : ∀ n i s v u t, i < e → I i s v u t → (∀ s' v' u' t', I (i + 1) s' v' u' t' → W n s' v' u' t' (nI (i + 1))) → W (n + 1) s v u t (nI i)) (i : Nat) (s : A) (v : B) (u : C) (t : D) (hi : i ≤ e) (h : I i s v u t) : ∃ n, W n s v u t (nI i) :=
  forL (S := A × B × C × D) (fun k s x => W k s.1 s.2.1 s.2.2.1 s.2.2.2 x) (fun i s => I i s.1 s.2.1 s.2.2.1 s.2.2.2) e (fun n s k => hx n s.1 s.2.1 s.2.2.1 s.2.2.2 k) (fun n i s h1 h2 h3 => hs n i s.1 s.2.1 s.2.2.1 s.2.2.2 h1 h2 fun s' v' u' t' k => h3 (s', v', u', t') k) i (s, v, u, t) hi h
def inRM (c : Nat) : Prop := (564 ≤ c ∧ c < 567) ∨ c = 568 ∨ (1149 ≤ c ∧ c < 1167) ∨ c = 1000043
theorem inRM_M : ∀ c, inRM c → scM c := by intro c hc; unfold inRM at hc; unfold scM; omega
theorem inHM_RM : ∀ c, inHM c → inRM c := by intro c hc; unfold inHM at hc; unfold inRM; omega
theorem rdN_Q {T : Tw} {G : Nat → Nat → Bool} {k : Nat} {st : Nat → Rd} (o : ∀ r, r < T.nr → rdO T G k r (st r)) : rdN T st ≤ rdQ T G := by
  refine cnt_mono fun r hr h => ?_
  cases hp : rdP (st r) with
  | none => rw [(o r hr).2.1 hp] at h; cases h
  | some p => obtain ⟨n, hn, -⟩ := (o r hr).1 p hp; rw [hn]; rfl
theorem m_runs {T : Tw} {tm : Nat} {sg al : Nat → Nat → Int32} {σ : ZS} (h : ME T tm sg al σ) {Ret : ZS → Prop} (hr : ∀ s', Fr inRM σ s' → zI s' 44 43 = nI (rdE T (GT T sg al tm)).1 → (∀ r, r < T.nr → RdM T (GT T sg al tm) s' r ((rdE T (GT T sg al tm)).2 r)) → (∀ r, r < T.nr → rdO T (GT T sg al tm) 999 r ((rdE T (GT T sg al tm)).2 r)) → Ret s') : wp_X4_runs σ Ret := by
  have w := h.mt.wf
  have hnr := w.nr
  have hnc := w.nc
  unfold wp_X4_runs
  refine m_layRides h fun s1 f1 g1 => ?_
  have f1' : Fr inRM σ s1 := f1.mono (by intro c hc; unfold inZ at hc; unfold inRM; omega)
  generalize GT T sg al tm = G at g1 hr
  have hq : rdQ T G ≤ T.nr := cnt_le _ _
  refine forL1 (fun m s v x => VL_X4_runs_8 Ret m s v x) (fun i s v => Fr inRM σ s ∧ v = nI (cnt (fun r => (pR T G r).isSome) i) ∧ (∀ r, r < T.nr → WyM T G s r) ∧ ∀ r, r < i → RdM T G s r rd0) T.nr ?_ ?_ 0 s1 0 (Nat.zero_le _) ⟨f1', rfl, g1, fun r hr => absurd hr (Nat.not_lt_zero _)⟩
  · rintro n s2 v ⟨f2, rfl, -, g2⟩
    have mt2 := (h.fr f2 inRM_M).mt
    simp only [VL_X4_runs_8]
    rw [mt2.ltR (by omega)]
    refine br_f (by omega) (nm_e ?_)
    change V_X4_runs_67 Ret _ (nI (rdQ T G))
    have run : ∀ f k st s, k + f = 999 → Fr inRM σ s → zI s 44 43 = nI k → (∀ r, r < T.nr → RdM T G s r (st r)) → (∀ r, r < T.nr → rdO T G k r (st r)) → rdRun T G (rdQ T G) f k st = rdE T G → VL_X4_runs_67 Ret (f + 1) s (nI (rdQ T G - rdN T st)) := by
      intro f
      induction f with
      | zero =>
        intro k st s hk ff z43 g o er
        have fin : Ret s := by
          have er : (k, st) = rdE T G := er
          rw [← er] at hr
          exact hr s ff z43 g (fun r hr => (o r hr).mono (by omega))
        simp only [VL_X4_runs_67]
        rw [z43, show k = 999 by omega]
        exact ⟨fun _ => ⟨fun k1 => absurd k1 (by decide), fun _ => fin⟩, fun _ => fin⟩
      | succ f ihf =>
        intro k st s hk ff z43 g o er
        have hNQ := rdN_Q o
        unfold rdRun at er
        rw [VL_X4_runs_67]
        dsimp only
        rw [n0, nI_ltI (by omega) (by omega)]
        refine ⟨fun k1 => ?_, fun k1 => ?_⟩
        · rw [if_pos (by omega)] at er
          rw [z43]
          refine br_t (nI_lt (b := 999) (by omega) (by decide)) ?_
          refine forL (S := ZS) (fun m s x => VL_X4_runs_83 (VL_X4_runs_67 Ret (f + 1)) Ret m s (nI (rdQ T G - rdN T st)) x) (fun i s2 => Fr inRM σ s2 ∧ zI s2 44 43 = nI k ∧ ∀ r, r < T.nr → RdM T G s2 r (if r < i then rdMv T G k r (st r) else st r)) T.nr ?_ ?_ 0 s (Nat.zero_le _) ⟨ff, z43, fun r hr => by rw [if_neg (by omega)]; exact g r hr⟩
          · rintro m s2 ⟨f2, y43, g2⟩
            have mt2 := (h.fr f2 inRM_M).mt
            simp only [VL_X4_runs_83]
            rw [mt2.ltR (by omega)]
            refine br_f (by omega) ?_
            have oo : ∀ c r, r < T.nr → rdO T G (k + 1) r (rdSs T G k (fun r => rdMv T G k r (st r)) c r) := fun c r hr => rdO_ss w ((rdO_mv w hr (o r hr)).mono (by omega)) c
            refine forL1 (fun m s v x => VL_X4_runs_106 (VL_X4_runs_67 Ret (f + 1)) Ret m s v x) (fun c s3 v => Fr inRM σ s3 ∧ zI s3 44 43 = nI k ∧ v = nI (rdQ T G - rdN T (rdSs T G k (fun r => rdMv T G k r (st r)) c)) ∧ ∀ r, r < T.nr → RdM T G s3 r (rdSs T G k (fun r => rdMv T G k r (st r)) c r)) T.nc ?_ ?_ 0 s2 _ (Nat.zero_le _) ⟨f2, y43, by congr 2; exact (rdN_mv T G k st).symm, fun r hr => by have := g2 r hr; rw [if_pos hr] at this; exact this⟩
            · rintro m2 s3 v ⟨f3, x43, rfl, g3⟩
              have mt3 := (h.fr f3 inRM_M).mt
              simp only [VL_X4_runs_106]
              rw [mt3.ltC (by omega)]
              refine br_f (by omega) (nm_e ?_)
              refine ihf (k + 1) (rdSs T G k (fun r => rdMv T G k r (st r)) T.nc) _ (by omega) (f3.sI 44 43 _ (by unfold inRM cd; simp)) (by rw [zI_self, x43, nI1]) (fun r hr => ?_) (oo T.nc) er
              exact (g3 r hr).keep (fun a ha _ => zI_ne _ (.inl (by omega))) (fun k => zI_ne _ (.inl (by omega)))
            · rintro m2 c s3 v hc ⟨f3, x43, rfl, g3⟩ ih3
              have mt3 := (h.fr f3 inRM_M).mt
              simp only [VL_X4_runs_106]
              simp only [nI1]
              rw [mt3.ltC (by omega)]
              refine br_t hc (m_passes mt3 hc (by omega) x43 g3 (oo c) fun s4 q f4 g4 eN => nm_e (nm_e (ih3 s4 _ ⟨f3.trans (f4.mono inHM_RM), ?_, ?_, g4⟩)))
              · rw [f4.1 44 43 (by unfold inHM cd; simp)]; exact x43
              · have hq2 := rdN_Q (oo (c + 1))
                have eN : rdN T (rdSs T G k (fun r => rdMv T G k r (st r)) (c + 1)) = rdN T (rdSs T G k (fun r => rdMv T G k r (st r)) c) + q := eN
                rw [pk_sub (by omega)]; congr 1; omega
          · rintro m i s2 hi ⟨f2, y43, g2⟩ ih2
            have mt2 := (h.fr f2 inRM_M).mt
            have gi := g2 i hi
            rw [if_neg (by omega)] at gi
            simp only [VL_X4_runs_83]
            simp only [nI1]
            rw [mt2.ltR (by omega)]
            refine br_t hi (m_moves mt2 hi (by omega) y43 gi (o i hi) fun s3 e3 g3 => nm_e (ih2 s3 ⟨f2.trans (e3.1.mono (by intro c hc; unfold inRM; omega)), ?_, fun r hr => ?_⟩))
            · rw [e3.1.1 44 43 (by simp [cd])]; exact y43
            · by_cases er : r = i
              · subst er; rw [if_pos (by omega)]; exact g3
              · have := (g2 r hr).ot e3 er (by omega)
                by_cases l : r < i
                · rw [if_pos l] at this; rw [if_pos (by omega)]; exact this
                · rw [if_neg l] at this; rw [if_neg (by omega)]; exact this
        · rw [if_neg (by omega)] at er
          rw [← er] at hr
          exact hr s ff z43 g (fun r hr => (o r hr).mono (by omega))
    have e0 : rdN T (fun _ => rd0) = 0 := cnt_cut (m := 0) (Nat.zero_le _) (fun _ _ _ => rfl)
    have := run 999 0 (fun _ => rd0) (sI s2 44 43 0) rfl (f2.sI 44 43 _ (by unfold inRM cd; simp)) (by rw [zI_self]; rfl) (fun r hr => ?_) (fun r hr => ⟨fun p hp => (by cases hp), fun _ => rfl, Nat.zero_le _, fun x hx => (by cases hx)⟩) rfl
    · rw [e0] at this
      exact ⟨1000, this⟩
    · exact (g2 r hr).keep (fun a ha _ => zI_ne _ (.inl (by omega))) (fun k => zI_ne _ (.inl (by omega)))
  · rintro n i s2 v hi ⟨f2, rfl, y2, g2⟩ ih
    have mt2 := (h.fr f2 inRM_M).mt
    have iv : vp_in (nI i) 12 := vin (by omega) (by decide)
    simp only [VL_X4_runs_8]
    simp only [nI1]
    rw [mt2.ltR (by omega)]
    refine br_t hi ⟨iv, nm_e ⟨iv, nm_e ⟨iv, nm_e ⟨iv, ?_⟩⟩⟩⟩
    rw [ix_nI (by omega)]
    have e1 : RdX i s2 (sI (sI (sI s2 1162 i (-1)) 1165 i (-1)) 1166 i 0) := ((RdX.rfl'.st (by omega) _).st (by omega) _).st (by omega) _
    have f3 : Fr inRM σ (sI (sI (sI s2 1162 i (-1)) 1165 i (-1)) 1166 i 0) := f2.trans (e1.1.mono (by intro c hc; unfold inRM; omega))
    have y3 : ∀ r, r < T.nr → WyM T G (sI (sI (sI s2 1162 i (-1)) 1165 i (-1)) 1166 i 0) r := fun r hr => by
      obtain ⟨a1, a2⟩ := y2 r hr
      refine ⟨?_, fun n k hn hk => ?_⟩
      · rw [zI_ne _ (.inl (by decide)), zI_ne _ (.inl (by decide)), zI_ne _ (.inl (by decide))]; exact a1
      · rw [zI_ne _ (.inl (by omega)), zI_ne _ (.inl (by omega)), zI_ne _ (.inl (by omega))]; exact a2 n k hn hk
    have g3 : ∀ r, r < i + 1 → RdM T G (sI (sI (sI s2 1162 i (-1)) 1165 i (-1)) 1166 i 0) r rd0 := fun r hr => by
      by_cases er : r = i
      · subst er
        refine ⟨y3 r hi, ?_, ?_, ?_, fun hx => by cases hx⟩
        · rw [zI_ne _ (.inl (by decide)), zI_ne _ (.inl (by decide)), zI_self]; rfl
        · rw [zI_ne _ (.inl (by decide)), zI_self]; rfl
        · rw [zI_self]; rfl
      · exact (g2 r (by omega)).ot e1 er (by omega)
    rw [(y3 i hi).1]
    generalize sI (sI (sI s2 1162 i (-1)) 1165 i (-1)) 1166 i 0 = s3 at f3 y3 g3 ⊢
    cases hp : pR T G i with
    | none =>
      refine br_f (by decide) (nm_e (nm_e (ih s3 _ ⟨f3, ?_, y3, g3⟩)))
      show _ + (0 : Int32) = nI (_ + (if (pR T G i).isSome then 1 else 0)); rw [hp, n0, nI_add]; rfl
    | some q =>
      have hq48 := pR_pos w hi hp
      refine br_t (by rw [n0]; exact nI_lt (b := q) (by omega) (by omega)) (nm_e (nm_e (ih s3 _ ⟨f3, ?_, y3, g3⟩)))
      show _ = nI (_ + (if (pR T G i).isSome then 1 else 0)); rw [hp]; rfl
theorem inRM_S : ∀ c, inRM c → SM c ∧ c ≠ 1000000 ∧ c ≠ 1000054 := by intro c hc; unfold inRM at hc; unfold SM; omega
theorem M_home {T : Tw} {tm : Nat} {sg al : Nat → Nat → Int32} {σ : ZS} (h : ME T tm sg al σ) (hb : zI σ 44 54 = -1) {x : Int32} {Ret : Int32 → ZS → Prop} (hr : PM σ Ret (spHome T (GT T sg al tm) x)) : wp_X4_home σ x Ret := by
  unfold wp_X4_home
  refine nm_e ?_
  obtain ⟨h1, hz⟩ := h.z
  have w := h.mt.wf
  have hnr := w.nr
  unfold spHome at hr
  rw [ix3, h1.mt.m3]
  refine m_inN (by omega) (br0 (fun k => ?_) fun k => ?_)
  · unfold V_X4_home_27
    exact m_bad1 hz (by decide) (br_f (by decide) (hr.thr (c := 1) (sp1_1 k) (by decide) hb))
  unfold V_X4_home_27
  rw [sp1_0 k] at hr
  obtain ⟨r, rfl, hrl, er, -⟩ := inN_N k
  rw [er] at hr
  refine m_bad0 hz (br_t rfl (m_runs h1 fun s1 f1 z43 g1 o1 => ⟨vin (by omega) (by decide), ?_⟩))
  rw [er, (g1 r hrl).2.2.1]
  exact hr.ok rfl hb f1 inRM_S rfl
theorem M_traffic {T : Tw} {tm : Nat} {sg al : Nat → Nat → Int32} {σ : ZS} (h : ME T tm sg al σ) (hb : zI σ 44 54 = -1) {x : Int32} {Ret : Int32 → ZS → Prop} (hr : PM σ Ret (spTr T (GT T sg al tm) x)) : wp_X4_traffic σ x Ret := by
  unfold wp_X4_traffic
  refine nm_e ?_
  obtain ⟨h1, hz⟩ := h.z
  have w := h.mt.wf
  have hnr := w.nr
  unfold spTr at hr
  rw [show (3 : Int32) = nI 4 - 1 from rfl]
  refine m_inN (by omega) (br0 (fun k => ?_) fun k => ?_)
  · unfold V_X4_traffic_20
    exact m_bad1 hz (by decide) (br_f (by decide) (hr.thr (c := 1) (sp1_1 k) (by decide) hb))
  unfold V_X4_traffic_20
  rw [sp1_0 k] at hr
  refine m_bad0 hz (br_t rfl (m_runs h1 fun s1 f1 z43 g1 o1 => ?_))
  have hs1 := h1.fr f1 inRM_M
  have ok : ∀ v, v = trV T (GT T sg al tm) x → Ret v s1 := fun v e => hr.ok rfl hb f1 inRM_S e
  unfold trV at ok
  generalize GT T sg al tm = G at *
  refine forL3 (fun m s a b c y => VL_X4_traffic_43 Ret m s x a b c y) (fun i s a b c => s = s1 ∧ a = nI (cnt (fun r => (rdH ((rdE T G).2 r)).isSome) i) ∧ b = wSum (rdE T G).2 i ∧ c = oI (wMost (rdE T G).2 i)) T.nr ?_ ?_ 0 s1 0 0 (-1) (Nat.zero_le _) ⟨rfl, rfl, rfl, rfl⟩
  · rintro n s a b c ⟨rfl, rfl, rfl, rfl⟩
    simp only [VL_X4_traffic_43]
    rw [hs1.mt.ltR (by omega)]
    refine br_f (by omega) ?_
    by_cases k0 : x = 0
    · rw [if_pos k0] at ok
      exact br_t k0 (ok _ z43)
    · rw [if_neg k0] at ok
      refine br_f k0 ?_
      by_cases k1 : x = 1
      · rw [if_pos k1] at ok
        exact br_t k1 (ok _ rfl)
      · rw [if_neg k1] at ok
        refine br_f k1 ?_
        by_cases k2 : x = 2
        · rw [if_pos k2] at ok
          exact br_t k2 (ok _ rfl)
        · rw [if_neg k2] at ok
          exact br_f k2 (ok _ rfl)
  · rintro n i s a b c hi ⟨rfl, rfl, rfl, rfl⟩ ih
    have iv : vp_in (nI i) 12 := vin (by omega) (by decide)
    simp only [VL_X4_traffic_43]
    rw [hs1.mt.ltR (by omega)]
    have tail : ∀ s0 : Int32, s0 = b2i (rdH ((rdE T G).2 i)).isSome → V_X4_traffic_71 (VL_X4_traffic_43 Ret n) Ret s x (wSum (rdE T G).2 i) (oI (wMost (rdE T G).2 i)) (nI i) s0 (nI (cnt (fun r => (rdH ((rdE T G).2 r)).isSome) i)) := by
      rintro s0 rfl
      unfold V_X4_traffic_71
      refine nm_e ⟨iv, nm_e ⟨iv, ?_⟩⟩
      simp only [nI1]
      have e1 : nI (cnt (fun r => (rdH ((rdE T G).2 r)).isSome) i) + b2i (rdH ((rdE T G).2 i)).isSome = nI (cnt (fun r => (rdH ((rdE T G).2 r)).isSome) (i + 1)) := by
        show _ = nI (_ + (if (rdH ((rdE T G).2 i)).isSome then 1 else 0))
        cases (rdH ((rdE T G).2 i)).isSome
        · show _ + (0 : Int32) = _; rw [n0, nI_add]; rfl
        · show _ + (1 : Int32) = _; rw [n1, nI_add]; rfl
      rw [e1, ix_nI (by omega), (g1 i hi).2.2.2.1]
      refine ⟨fun k => ?_, fun k => nm_e (ih s _ _ _ ⟨rfl, rfl, rfl, by rw [wMost, if_neg k]⟩)⟩
      cases hm : wMost (rdE T G).2 i with
      | none => exact br_t rfl (nm_e (ih s _ _ _ ⟨rfl, rfl, rfl, by rw [wMost, if_pos k, hm]; rfl⟩))
      | some m =>
        have hml := wMost_lt hm
        refine br_f (by show ¬ nI m = -1; rw [nI_m1 (by omega)]; exact id) ⟨iv, vin (n := m) (by omega) (by decide), ?_⟩
        rw [show oI (some m) = nI m from rfl, ix_nI (by omega), (g1 m (by omega)).2.2.2.1]
        exact ⟨fun kc => nm_e (ih s _ _ _ ⟨rfl, rfl, rfl, by rw [wMost, if_pos k, hm]; dsimp only; rw [if_pos kc]; rfl⟩), fun kc => nm_e (ih s _ _ _ ⟨rfl, rfl, rfl, by rw [wMost, if_pos k, hm]; dsimp only; rw [if_neg kc]; rfl⟩)⟩
    refine br_t hi ⟨iv, ?_⟩
    rw [ix_nI (by omega), (g1 i hi).2.2.1]
    cases hh : rdH ((rdE T G).2 i) with
    | none => exact br_t rfl (tail 0 (by rw [hh]; rfl))
    | some y =>
      have := (o1 i hi).2.2.2 y hh
      exact br_f (by show ¬ nI y = -1; rw [nI_m1 (by omega)]; exact id) (tail 1 (by rw [hh]; rfl))
