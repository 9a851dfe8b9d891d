/-! PURE HALF: rounds: the model, II. -/
set_option maxRecDepth 100000
def inRq (c : Nat) : Prop := c = 564 ∨ c = 565 ∨ c = 566 ∨ (1172 ≤ c ∧ c < 1220)
theorem inRq_M : ∀ c, inRq c → scM c := by intro c hc; unfold inRq at hc; unfold scM; omega
theorem inRq_S : ∀ c, inRq c → SM c ∧ c ≠ 1000000 ∧ c ≠ 1000054 := by intro c hc; unfold inRq at hc; unfold SM; omega
theorem inRw_q : ∀ c, inRw c → inRq c := by intro c hc; unfold inRw at hc; unfold inRq; omega
theorem sumN_mono {f g : Nat → Nat} {n : Nat} (h : ∀ x, x < n → f x ≤ g x) : sumN f n ≤ sumN g n := by
  induction n with
  | zero => exact Nat.le_refl _
  | succ n ih => have h1 := ih fun x hx => h x (by omega); have h2 := h n (by omega); rw [sumN, sumN]; omega
theorem m_roundSet {T : Tw} {G : Nat → Nat → Bool} {σ s : ZS} (w : T.WF) (hmt : ∀ s, Fr inRq σ s → MT T s) {c S : Nat} {rest x1 x4 L : Int32} {K187 : ZS → Int32 → Int32 → Int32 → Int32 → Int32 → Prop} {Ret : Int32 → ZS → Prop} (hrest : ∀ k, k < 32 → btI rest k = bxq T c k) (hS : S < 2 ^ bxN T c) (f : Fr inRq σ s) (hf : FolM T G s) (mm : SmM T c s) (bb : BR T G c 1000000000 (FM s)) (rx : RX T G c S (FM s)) (ih : ∀ s', Fr inRq σ s' → FolM T G s' → SmM T c s' → BR T G c 1000000000 (FM s') → RX T G c (S + 1) (FM s') → K187 s' x1 rest x4 L (nI (S + 1))) : V_X4_round_197 K187 Ret s x1 rest x4 L (nI S) 1 := by
  have hns := w.ns
  refine lp2 (fun m' s x => VL_X4_round_197 K187 Ret m' s x1 rest x4 L (nI S) x) (fun s x => Fr inRq σ s ∧ FolM T G s ∧ SmM T c s ∧ BR T G c 1000000000 (FM s) ∧ RX T G c S (FM s) ∧ (x = 0 → ∀ a b, T.isArc a = true → T.isArc b = true → G a b = true → FM s (wtA T c S b) b ≤ FM s S a + T.len b)) (fun s x => 2 * sumN (FM s S) (2 * T.ns) + if x = 0 then 0 else 1) ?_ s 1 ⟨f, hf, mm, bb, rx, fun e => absurd e (by decide)⟩
  rintro m' s3 x ⟨f3, hf3, m3, b3, rx3, st⟩ ih3
  simp only [VL_X4_round_197]
  simp only [nI1]
  refine ⟨fun h0 => nm_e (ih s3 f3 hf3 m3 b3 (fun X a b' hXS hX2 ha hb hg => ?_)), fun h0 => ?_⟩
  · by_cases e : X = S
    · subst e; exact st h0 a b' ha hb hg
    · exact rx3 X a b' (by omega) hX2 ha hb hg
  rw [if_neg h0] at ih3
  refine forL1 (fun m' s v x => VL_X4_round_208 K187 _ Ret m' s x1 rest x4 L (nI S) v x) (fun i s4 v => Fr inRq σ s4 ∧ FolM T G s4 ∧ SmM T c s4 ∧ BR T G c 1000000000 (FM s4) ∧ RX T G c S (FM s4) ∧ ((v = 0 ∧ (∀ x, x < 2 * T.ns → FM s4 S x = FM s3 S x) ∧ ∀ a b, a < i → T.isArc a = true → T.isArc b = true → G a b = true → FM s4 (wtA T c S b) b ≤ FM s4 S a + T.len b) ∨ (v = 1 ∧ sumN (FM s4 S) (2 * T.ns) < sumN (FM s3 S) (2 * T.ns)))) (2 * T.ns) ?_ ?_ 0 s3 0 (Nat.zero_le _) ⟨f3, hf3, m3, b3, rx3, .inl ⟨rfl, fun _ _ => rfl, fun a _ ha => absurd ha (Nat.not_lt_zero _)⟩⟩
  · rintro m4 s4 v ⟨f4, hf4, m4', b4, rx4, c4⟩
    have mt4 := hmt s4 f4
    simp only [VL_X4_round_208]
    rw [mt4.ltA (by omega)]
    refine br_f (by omega) (ih3 s4 v ⟨f4, hf4, m4', b4, rx4, fun e => ?_⟩ ?_)
    · rcases c4 with ⟨-, -, k⟩ | ⟨k, -⟩
      · exact fun a b ha => k a b (Tw.arc_lt ha) ha
      · rw [k] at e; exact absurd e (by decide)
    · rcases c4 with ⟨k, k2, -⟩ | ⟨k, k2⟩
      · rw [k, sumN_congr k2]; simp
      · rw [k]; simp; omega
  · rintro m4 i s4 v hi ⟨f4, hf4, m4', b4, rx4, c4⟩ ih4
    have mt4 := hmt s4 f4
    simp only [VL_X4_round_208]
    simp only [nI1]
    rw [mt4.ltA (by omega)]
    refine br_t hi (m_spreads mt4 hf4 hrest hS hi m4' b4 rx4 fun s5 r f5 m5 b5 rx5 mo5 c5 => ?_)
    have f5' : Fr inRq σ s5 := f4.trans (f5.mono inRw_q)
    have hf5 : FolM T G s5 := hf4.fr f5 (by intro c hc; unfold inRw at hc; omega)
    have mo : sumN (FM s5 S) (2 * T.ns) ≤ sumN (FM s4 S) (2 * T.ns) := by
      exact sumN_mono fun x hx => mo5 S x hS hx
    have one : (v = 1 ∨ r = 1) → VL_X4_round_208 K187 (VL_X4_round_197 K187 Ret m') Ret m4 s5 x1 rest x4 L (nI S) 1 (nI (i + 1)) := fun ho => by
      refine ih4 s5 1 ⟨f5', hf5, m5, b5, rx5, .inr ⟨rfl, ?_⟩⟩
      rcases c5 with ⟨k, -, -⟩ | ⟨-, k⟩
      · have hv : v = 1 := ho.resolve_right (by rw [k]; decide)
        rcases c4 with ⟨k4, -⟩ | ⟨-, k4⟩
        · rw [hv] at k4; exact absurd k4 (by decide)
        · omega
      · rcases c4 with ⟨-, k4, -⟩ | ⟨-, k4⟩
        · rw [sumN_congr k4] at k; exact k
        · omega
    refine ⟨fun hr0 => ⟨fun hv => nm_e ?_, fun hv => nm_e (one (.inl ?_))⟩, fun hr0 => nm_e (one (.inr ?_))⟩
    · rcases c5 with ⟨-, q2, q3⟩ | ⟨k, -⟩
      · rcases c4 with ⟨-, p2, p3⟩ | ⟨k4, -⟩
        · refine ih4 s5 0 ⟨f5', hf5, m5, b5, rx5, .inl ⟨rfl, fun x hx => (q2 x hx).trans (p2 x hx), fun a b ha h2 h3 h4 => ?_⟩⟩
          by_cases ea : a = i
          · subst ea; exact q3 b h2 h3 h4
          · rw [q2 a (Tw.arc_lt h2)]
            exact Nat.le_trans (mo5 _ b (wtA_lt w hS h3) (Tw.arc_lt h3)) (p3 a b (by omega) h2 h3 h4)
        · rw [hv] at k4; exact absurd k4 (by decide)
      · rw [hr0] at k; exact absurd k (by decide)
    · rcases c4 with ⟨k4, -⟩ | ⟨k4, -⟩
      · exact absurd k4 hv
      · exact k4
    · rcases c5 with ⟨k, -⟩ | ⟨k, -⟩
      · exact absurd k hr0
      · exact k
theorem M_round {T : Tw} {tm : Nat} {sg al : Nat → Nat → Int32} {σ : ZS} (h : ME T tm sg al σ) (hb : zI σ 44 54 = -1) {c t : Int32} {Ret : Int32 → ZS → Prop} (hr : PM σ Ret (spRnd T tm sg al c t)) : wp_X4_round σ c t Ret := by
  unfold wp_X4_round
  obtain ⟨h1, hz⟩ := h.z
  have w := h.mt.wf
  have hnc := w.nc
  have hns := w.ns
  unfold spRnd at hr
  refine M_ct h (V19 := fun s x => V_X4_round_19 Ret s c t x) (fun k => ?_) fun k => ?_
  · unfold V_X4_round_19
    exact m_bad1 hz (by decide) (br_f (by decide) (hr.thr (c := 1) (sp2_1 k) (by decide) hb))
  show V_X4_round_19 Ret (sI σ 44 0 0) c t 0
  unfold V_X4_round_19
  refine m_bad0 hz (br_t rfl (m_isTime h1 (br0 (fun k3 => ?_) fun k3 => ?_)))
  · unfold V_X4_round_40
    exact m_bad1 hz (by decide) (br_f (by decide) (hr.thr (c := 2) (sp2_2 k k3) (by decide) hb))
  unfold V_X4_round_40
  rw [sp2_0 k k3] at hr
  obtain ⟨c, rfl, hc, ec, hc2⟩ := inN_N k
  obtain ⟨t, rfl, ht, et, -⟩ := inN_N k3
  rw [ec, et] at hr
  refine m_bad0 hz (br_t rfl (m_asks h1 (t := t) (by omega) fun s0 f0 hn0 hf0 => nm_e ?_))
  have ok : ∀ s', Fr inRq (sI σ 44 0 0) s' → ∀ v, v = rndV T (GT T sg al t) c → Ret v s' := fun s' f v e => hr.ok rfl hb f inRq_S e
  change FolM T (GT T sg al t) s0 at hf0
  clear hr
  unfold rndV at ok
  generalize GT T sg al t = G at ok hf0
  have hn := bxN_le w c
  have hpw : 2 ^ bxN T c ≤ 1024 := Nat.pow_le_pow_right (n := 2) (by decide) hn
  have p1 : 1 ≤ 2 ^ bxN T c := Nat.one_le_two_pow
  have f0' : Fr inRq (sI σ 44 0 0) s0 := f0.mono (by intro c hc; unfold inRq; omega)
  have hme := fun s (f : Fr inRq (sI σ 44 0 0) s) => h1.fr f inRq_M
  rw [ix2, (hme s0 f0').mt.m2]
  have hrest : ∀ k, k < 32 → btI (T.bx &&& (((1 : Int32) <<< (nI c &&& 31)) ^^^ (-1))) k = bxq T c k := fun k hk => by
    rw [bt_and, bt_xor, bt_one (by omega) hk, bt_m1' k hk]
    unfold bxq
    cases btI T.bx k <;> by_cases e : k = c <;> simp [e]
  generalize T.bx &&& (((1 : Int32) <<< (nI c &&& 31)) ^^^ (-1)) = rest at hrest
  refine m_ones (nm_e ?_)
  have hcnt : cnt (btI rest) 24 = bxN T c := by
    rw [cnt_cut (m := 16) (by omega) fun x h1 h2 => by
      rw [hrest x (by omega)]
      unfold bxq
      cases e : btI T.bx x
      · simp
      · have := w.bx x e; omega]
    exact cnt_congr fun x hx => hrest x (by omega)
  rw [hcnt, pow_sh _ (by omega), nI_sub1 (by omega), nI_eq0 (by omega)]
  refine ⟨fun e => ok s0 f0' _ ?_, fun e => ?_⟩
  · rw [if_pos]
    rcases Nat.eq_zero_or_pos (bxN T c) with k | k
    · exact k
    · have : 2 ^ 1 ≤ 2 ^ bxN T c := Nat.pow_le_pow_right (by decide) k
      omega
  have e0 : bxN T c ≠ 0 := fun k => e (by rw [k])
  rw [if_neg e0] at ok
  clear hc ec k k3 et
  -- sets
  have sets : ∀ s, Fr inRq (sI σ 44 0 0) s → FolM T G s → SmM T c s → BR T G c 1000000000 (FM s) → V_X4_round_187 Ret s (nI c) rest (nI (2 ^ bxN T c - 1)) 1000000000 0 := by
    intro s2 f2 hf2 m2 b2
    refine forL (S := ZS) (fun m s x => VL_X4_round_187 Ret m s (nI c) rest (nI (2 ^ bxN T c - 1)) 1000000000 x) (fun S s => Fr inRq (sI σ 44 0 0) s ∧ FolM T G s ∧ SmM T c s ∧ BR T G c 1000000000 (FM s) ∧ RX T G c S (FM s)) (2 ^ bxN T c) ?_ ?_ 0 s2 (Nat.zero_le _) ⟨f2, hf2, m2, b2, RX.zero _ _ _ _⟩
    · rintro m s ⟨f, hf, mm, bb, rx⟩
      have mt' := (hme s f).mt
      simp only [VL_X4_round_187]
      refine br_t (nI_lt (by omega) (by omega)) ?_
      refine forL1 (fun m s v x => VL_X4_round_263 Ret m s (nI c) (nI (2 ^ bxN T c - 1)) v x) (fun a s' v => s' = s ∧ v = nI (fz 1000000000 (lsO (rndP T G c a)))) (2 * T.ns) ?_ ?_ 0 s 1000000000 (Nat.zero_le _) ⟨rfl, ?_⟩
      · rintro m' s' v ⟨rfl, rfl⟩
        simp only [VL_X4_round_263]
        rw [mt'.ltA (by omega)]
        refine br_f (by omega) ?_
        cases hd : lsO (rndP T G c (2 * T.ns)) with
        | none => rw [hd] at ok; exact br_t rfl (ok s' f _ rfl)
        | some v =>
          have := rndP_le w hd
          rw [hd] at ok
          exact br_f (by show ¬ nI v = nI 1000000000; rw [nI_eq (by omega) (by omega)]; omega) (ok s' f _ rfl)
      · rintro m' a s' v ha ⟨rfl, rfl⟩ ih
        have hst := rndP_step T G c a
        simp only [VL_X4_round_263]
        simp only [nI1]
        rw [mt'.ltA (by omega)]
        refine br_t ha (m_isArcN mt' (by omega) (br0 (fun k => nm_e (ih s' _ ⟨rfl, ?_⟩)) fun k => m_end mt' ha ?_))
        · rw [hst, k]; rfl
        have hfin := w.fin ha
        rw [nI_eq (by omega) (by omega)]
        have iva : vp_in (nI a) 48 := vin (by omega) (by decide)
        have ivS : vp_in (nI (2 ^ bxN T c - 1)) 1024 := vin (by omega) (by decide)
        refine ⟨fun k2 => ⟨iva, ivS, ?_⟩, fun k2 => nm_e (ih s' _ ⟨rfl, ?_⟩)⟩
        · obtain ⟨eq, bq⟩ := mm a ha (2 ^ bxN T c - 1) (by omega)
          have hfn := bb.fin w (by omega) rx (show 2 ^ bxN T c - 1 < 2 ^ bxN T c by omega) ha
          change rd s' (1171 + 1 + a) (2 ^ bxN T c - 1) = _ at hfn
          have hom := fz_omin (R := 1000000000) (o1 := lsO (rndP T G c a)) (o2 := lsO (Wr T G c (2 ^ bxN T c - 1) a)) (fun v hv => by have := rndP_le w hv; omega) (fun v hv => by have := Wr_le w hv; omega)
          have hl1 : fz 1000000000 (lsO (rndP T G c a)) ≤ 1000000000 := fz_le fun v hv => by have := rndP_le w hv; omega
          have hst2 : lsO (rndP T G c (a + 1)) = omin (lsO (rndP T G c a)) (lsO (Wr T G c (2 ^ bxN T c - 1) a)) := by rw [hst, if_pos (by simp [k, k2])]
          rw [hfn] at bq eq
          rw [ix_nI (by omega), ix_nI (by omega), eq, nI_ltI (by omega) (by omega)]
          refine ⟨fun l => ⟨iva, ivS, nm_e (nm_e (ih s' _ ⟨rfl, ?_⟩))⟩, fun l => nm_e (ih s' _ ⟨rfl, ?_⟩)⟩
          · rw [hst2, ← hom, if_pos l]
          · rw [hst2, ← hom, if_neg l]
        · rw [hst, k]; simp [k2]
      · have : lsO (rndP T G c 0) = none := lsO_none.mpr (by rintro v ⟨a, h, -⟩; omega)
        rw [this]; rfl
    · rintro m S s hS ⟨f, hf, mm, bb, rx⟩ ih
      simp only [VL_X4_round_187]
      exact br_f (nI_nlt (by omega) (by omega)) (m_roundSet w (fun s f => (hme s f).mt) hrest hS f hf mm bb rx fun s' f' hf' mm' bb' rx' => ih s' ⟨f', hf', mm', bb', rx'⟩)
  -- starts
  refine forL (S := ZS) (fun m s x => VL_X4_round_87 Ret m s (nI c) rest (nI (2 ^ bxN T c - 1)) x) (fun a s => Fr inRq (sI σ 44 0 0) s ∧ FolM T G s ∧ ∀ x X, x < a → X < 2 ^ bxN T c → zI s (1171 + 1 + x) X = nI (Fr0 T c 1000000000 X x)) (2 * T.ns) ?_ ?_ 0 s0 (Nat.zero_le _) ⟨f0', hf0, fun x X h => absurd h (Nat.not_lt_zero _)⟩
  · rintro m s ⟨f, hf, g⟩
    have mt' := (hme s f).mt
    simp only [VL_X4_round_87]
    rw [mt'.ltA (by omega)]
    have er : ∀ x X, x < 2 * T.ns → X < 2 ^ bxN T c → rd s (1171 + 1 + x) X = Fr0 T c 1000000000 X x := fun x X h1 h2 => rd_of (g x X h1 h2) (by have := Fr0_le w (c := c) (R := 1000000000) (X := X) (by omega) h1; omega)
    refine br_f (by omega) (sets s f hf (fun a ha X hX => ?_) (BR.zero w (by omega) fun X a hX ha => er a X ha hX))
    rw [er a X ha hX]
    exact ⟨g a X ha hX, Fr0_le w (by omega) ha⟩
  · rintro m a s ha ⟨f, hf, g⟩ ih
    simp only [VL_X4_round_87]
    rw [(hme s f).mt.ltA (by omega)]
    refine br_t ha ?_
    have iva : vp_in (nI a) 48 := vin (by omega) (by decide)
    refine forL (S := ZS) (fun m' s x => VL_X4_round_103 (VL_X4_round_87 Ret m) Ret m' s (nI c) rest (nI (2 ^ bxN T c - 1)) (nI a) x) (fun Y s => Fr inRq (sI σ 44 0 0) s ∧ FolM T G s ∧ (∀ x X, x < a → X < 2 ^ bxN T c → zI s (1171 + 1 + x) X = nI (Fr0 T c 1000000000 X x)) ∧ ∀ X, X < Y → zI s (1171 + 1 + a) X = nI 1000000000) (2 ^ bxN T c) ?_ ?_ 0 s (Nat.zero_le _) ⟨f, hf, g, fun X h => absurd h (Nat.not_lt_zero _)⟩
    · rintro m' s' ⟨f', hf', g', z'⟩
      have mt' := (hme s' f').mt
      simp only [VL_X4_round_103]
      simp only [nI1]
      have skip : (∀ X, Fr0 T c 1000000000 X a = 1000000000) → VL_X4_round_87 Ret m s' (nI c) rest (nI (2 ^ bxN T c - 1)) (nI (a + 1)) := fun hF => ih s' ⟨f', hf', fun x X h1 h2 => by
        by_cases e : x = a
        · subst e; rw [hF]; exact z' X h2
        · exact g' x X (by omega) h2⟩
      refine br_t (nI_lt (by omega) (by omega)) (m_isArcN mt' (by omega) (br0 (fun k => nm_e (skip fun X => by unfold Fr0; rw [k]; rfl)) fun k => m_begin mt' ha ?_))
      have hbeg := w.beg ha
      have hfin := w.fin ha
      have hl := w.len ha
      rw [nI_eq (by omega) (by omega)]
      refine ⟨fun k2 => ⟨iva, m_end mt' ha (m_boxAt w hrest (by omega) (m_long mt' ha ?_))⟩, fun k2 => nm_e (skip fun X => by unfold Fr0; simp [k2])⟩
      have hw := wtA_lt w (c := c) p1 k
      rw [show wth (bxO T c (T.fin a)) 0 = wtA T c 0 a from rfl, ix_nI (by omega), ix_nI (by omega)]
      have f5 : Fr inRw s' (sI s' (1171 + 1 + a) (wtA T c 0 a) (nI (T.len a))) := Fr.rfl.sI _ _ _ (by unfold inRw cd; rw [if_neg (by omega), if_neg (by omega)]; omega)
      refine ⟨vin (by omega) (by decide), nm_e (nm_e (ih _ ⟨f'.trans (f5.mono inRw_q), hf'.fr f5 (by intro c hc; unfold inRw at hc; omega), fun x X h1 h2 => ?_⟩))⟩
      by_cases e : x = a
      · subst e
        rw [zI_row]
        by_cases e2 : X = wtA T c 0 x
        · rw [if_pos e2]; unfold Fr0; rw [if_pos (by simp [k, k2, e2])]
        · rw [if_neg e2, z' X h2]; unfold Fr0; rw [if_neg (by simp [e2])]
      · rw [zI_ne _ (.inl (by omega))]; exact g' x X (by omega) h2
    · rintro m' Y s' hY ⟨f', hf', g', z'⟩ ih'
      simp only [VL_X4_round_103]
      simp only [nI1]
      rw [ix_nI (by omega), ix_nI (by omega)]
      have f5 : Fr inRw s' (sI s' (1171 + 1 + a) Y 1000000000) := Fr.rfl.sI _ _ _ (by unfold inRw cd; rw [if_neg (by omega), if_neg (by omega)]; omega)
      refine br_f (nI_nlt (by omega) (by omega)) ⟨iva, vin (by omega) (by decide), nm_e (nm_e (ih' _ ⟨f'.trans (f5.mono inRw_q), hf'.fr f5 (by intro c hc; unfold inRw at hc; omega), fun x X h1 h2 => ?_, fun X h1 => ?_⟩))⟩
      · rw [zI_ne _ (.inl (by omega))]; exact g' x X h1 h2
      · rw [zI_row]
        by_cases e2 : X = Y
        · rw [if_pos e2]; rfl
        · rw [if_neg e2]; exact z' X (by omega)
