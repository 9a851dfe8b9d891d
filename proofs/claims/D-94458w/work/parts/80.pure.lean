/-! PURE HALF: changes: the model. -/
set_option maxRecDepth 100000
abbrev MS (tm : Nat) (sg al : Nat → Nat → Int32) (nt : Nat) (td : Nat → Int32) (σ : ZS) : Prop := MH tm sg al σ ∧ TdM nt td σ
/-- codes the model's changes may write -/
def SX (c : Nat) : Prop := c = 1000000 ∨ c = 1000019 ∨ c = 1000028 ∨ c = 1146 ∨ (161 ≤ c ∧ c < 362) ∨ (363 ≤ c ∧ c < 564)
def PX (σ : ZS) (Ret : Int32 → ZS → Prop) (r : Nat × Int32) (P : ZS → Prop) : Prop := ∀ σ' v, Fr SX σ σ' → P σ' → zI σ' 44 0 = nI r.1 → (r.1 = 0 → v = r.2) → Ret v σ'
theorem SX_MT : ∀ c, SX c → noMT c := by intro c hc; unfold SX at hc; unfold noMT; omega
theorem z_fr (σ : ZS) : Fr SX σ (sI σ 44 0 0) := Fr.rfl.sI 44 0 0 (.inl rfl)
theorem MS.z {tm : Nat} {sg al : Nat → Nat → Int32} {nt : Nat} {td : Nat → Int32} {σ : ZS} (h : MS tm sg al nt td σ) (v : Int32) : MS tm sg al nt td (sI σ 44 0 v) := ⟨h.1.fr (Fr.rfl.sI (S := fun c => c = 1000000) 44 0 v rfl) (by intro c hc; unfold noMH; omega), h.2.fr (Fr.rfl.sI (S := fun c => c = 1000000) 44 0 v rfl) (by intro c hc; omega)⟩
theorem PX.thr {σ : ZS} {Ret : Int32 → ZS → Prop} {r : Nat × Int32} {tm : Nat} {sg al : Nat → Nat → Int32} {nt : Nat} {td : Nat → Int32} (hr : PX σ Ret r (MS tm sg al nt td)) {c : Nat} (e : r.1 = c) (hc : c ≠ 0) (hs : MS tm sg al nt td σ) : Ret 0 (sI (sI σ 44 0 0) 44 0 (nI c)) :=
  hr _ 0 ((z_fr σ).sI 44 0 _ (.inl rfl)) ((hs.z 0).z _) (by rw [zI_self, e]) (fun k => absurd (e ▸ k) hc)
theorem m_changes {tm : Nat} {sg al : Nat → Nat → Int32} {σ : ZS} (h : MH tm sg al σ) (htm : tm < 200) {Ret : Int32 → ZS → Prop} (hr : ∀ σ', Fr (fun c => SX c ∧ c ≠ 1000000 ∧ c ≠ 1000028 ∧ c ≠ 1146) σ σ' → MH (tm + 1) (up1 sg (tm + 1) (sg tm)) (up1 al (tm + 1) (al tm)) σ' → Ret (nI (tm + 1)) σ') : wp_X4_changes σ Ret := by
  unfold wp_X4_changes
  have c1 : ∀ i, (fun c => SX c ∧ c ≠ 1000000 ∧ c ≠ 1000028 ∧ c ≠ 1146) (cd (160 + 1 + (tm + 1)) i) := fun i => by show SX _ ∧ _; unfold SX cd; rw [if_neg (by omega), if_neg (by omega)]; omega
  have c2 : ∀ i, (fun c => SX c ∧ c ≠ 1000000 ∧ c ≠ 1000028 ∧ c ≠ 1146) (cd (362 + 1 + (tm + 1)) i) := fun i => by show SX _ ∧ _; unfold SX cd; rw [if_neg (by omega), if_neg (by omega)]; omega
  refine forL (S := ZS) (fun m s x => VL_X4_changes_2 Ret m s x) (fun i s => Fr (fun c => SX c ∧ c ≠ 1000000 ∧ c ≠ 1000028 ∧ c ≠ 1146) σ s ∧ MH tm sg al s ∧ ∀ q, q < i → zI s (160 + 1 + (tm + 1)) q = sg tm q ∧ zI s (362 + 1 + (tm + 1)) q = al tm q) 24 ?_ ?_ 0 σ (Nat.zero_le _) ⟨Fr.rfl, h, fun q hq => absurd hq (Nat.not_lt_zero _)⟩
  · rintro n s ⟨f, hs, g⟩
    simp only [VL_X4_changes_2]
    refine br_f (by decide) (nm_e ?_)
    rw [hs.et, nI1, zI_self]
    refine hr _ (f.sI 44 19 _ (by show SX _ ∧ _; unfold SX cd; simp)) ⟨by omega, zI_self _ _ _ _, fun u hu q hq => ?_, fun u hu q hq => ?_⟩
    · rw [zI_ne _ (.inl (by omega))]
      unfold up1
      by_cases e : u = tm + 1
      · rw [if_pos e, e]; exact (g q hq).1
      · rw [if_neg e]; exact hs.es u (by omega) q hq
    · rw [zI_ne _ (.inl (by omega))]
      unfold up1
      by_cases e : u = tm + 1
      · rw [if_pos e, e]; exact (g q hq).2
      · rw [if_neg e]; exact hs.ea u (by omega) q hq
  · rintro n i s hi ⟨f, hs, g⟩ ih
    simp only [VL_X4_changes_2]
    simp only [nI1]
    have iv : vp_in (nI i) 24 := vin (by omega) (by decide)
    rw [hs.et, nI1, ix_nI (by omega), ix_nI (by omega), ix_nI (by omega), hs.es tm (Nat.le_refl _) i hi]
    refine br_t (by rw [n24]; exact nI_lt hi (by decide)) ⟨vin (by omega) (by decide), vin (by omega) (by decide), iv, iv, nm_e ?_⟩
    have f1 := f.sI (160 + 1 + (tm + 1)) i (sg tm i) (c1 i)
    have hs1 : MH tm sg al (sI s (160 + 1 + (tm + 1)) i (sg tm i)) := ⟨hs.ht, by rw [zI_ne _ (.inl (by omega))]; exact hs.et, fun u hu q hq => by rw [zI_ne _ (.inl (by omega))]; exact hs.es u hu q hq, fun u hu q hq => by rw [zI_ne _ (.inl (by omega))]; exact hs.ea u hu q hq⟩
    rw [hs1.et, nI1, ix_nI (by omega), ix_nI (by omega), hs1.ea tm (Nat.le_refl _) i hi]
    refine ⟨vin (by omega) (by decide), vin (by omega) (by decide), iv, iv, nm_e (nm_e (ih _ ⟨f1.sI (362 + 1 + (tm + 1)) i (al tm i) (c2 i), ⟨hs.ht, by rw [zI_ne _ (.inl (by omega))]; exact hs1.et, fun u hu q hq => by rw [zI_ne _ (.inl (by omega))]; exact hs1.es u hu q hq, fun u hu q hq => by rw [zI_ne _ (.inl (by omega))]; exact hs1.ea u hu q hq⟩, fun q hq => ?_⟩))⟩
    rw [zI_ne _ (.inl (by omega)), zI_row, zI_row, zI_ne _ (.inl (by omega))]
    by_cases e : q = i
    · rw [if_pos e, if_pos e, e]; exact ⟨rfl, rfl⟩
    · rw [if_neg e, if_neg e]; exact g q (by omega)
/-! tell, forget -/
theorem M_tell {T : Tw} {tm : Nat} {sg al : Nat → Nat → Int32} {nt : Nat} {td : Nat → Int32} {σ : ZS} (mt : MT T σ) (hs : MS tm sg al nt td σ) {c : Int32} {Ret : Int32 → ZS → Prop} (hr : PX σ Ret (spTell T nt c) (MS tm sg al (tlN T nt c) (tlD nt td c))) : wp_X4_tell σ c Ret := by
  unfold wp_X4_tell
  refine nm_e ?_
  have h12 := hs.2.1
  have mt1 := mt.fr (z_fr σ) SX_MT
  have hz : zI (sI σ 44 0 0) 44 0 = 0 := zI_self _ _ _ _
  have hs1 := hs.z 0
  have hold : ∀ s, MS tm sg al nt td s → MS tm sg al nt (tlD nt td c) s := fun s k => ⟨k.1, k.2.1, k.2.2.1, fun i hi => by unfold tlD; rw [if_neg (by omega)]; exact k.2.2.2 i hi⟩
  unfold spTell at hr
  refine m_isCorner mt1 (br0 (fun k => ?_) fun k => ?_)
  · unfold V_X4_tell_19
    have e0 : tlN T nt c = nt := by unfold tlN; rw [k]; rfl
    rw [e0] at hr
    exact m_bad1 hz (by decide) (br_f (by decide) (PX.thr hr (c := 1) (sp1_1 k) (by decide) (hold σ hs)))
  · unfold V_X4_tell_19
    rw [sp1_0 k] at hr
    unfold tlN at hr
    rw [k] at hr
    refine m_bad0 hz (br_t rfl ?_)
    rw [hs1.2.2.1, show (12 : Int32) = nI 12 from rfl, nI_eq (by omega) (by decide)]
    refine ⟨fun e => ?_, fun e => ⟨vin (by omega) (by decide), nm_e (nm_e ?_)⟩⟩
    · have : (true && !decide (nt = 12)) = false := by simp [e]
      rw [this] at hr
      exact hr _ _ (z_fr σ) (hold _ hs1) hz (fun _ => by show -1 = ite _ _ _; rw [if_pos e])
    · have : (true && !decide (nt = 12)) = true := by simp [e]
      rw [this] at hr
      have e4 : zI (sI (sI σ 44 0 0) 1146 nt c) 44 28 = nI nt := by rw [zI_ne _ (.inl (by decide))]; exact hs1.2.2.1
      rw [ix_nI (by omega), e4, nI1, zI_self]
      have f : Fr (fun c => c = 1146 ∨ c = 1000028) (sI σ 44 0 0) (sI (sI (sI σ 44 0 0) 1146 nt c) 44 28 (nI (nt + 1))) := (Fr.rfl.sI _ _ _ (.inl rfl)).sI _ _ _ (.inr rfl)
      refine hr _ _ ((z_fr σ).trans (f.mono (by intro c hc; unfold SX; omega))) ⟨hs1.1.fr f (by intro c hc; unfold noMH; omega), by show nt + 1 ≤ 12; omega, zI_self _ _ _ _, fun i hi => ?_⟩ ?_ (fun _ => by show _ = ite _ _ _; rw [if_neg e])
      · rw [zI_ne _ (.inl (by decide)), zI_row]
        unfold tlD
        by_cases e2 : i = nt
        · rw [if_pos e2, if_pos e2]
        · have hi' : i < nt + 1 := hi
          rw [if_neg e2, if_neg e2]; exact hs1.2.2.2 i (by omega)
      · rw [f.1 44 0 (by simp [cd])]; exact hz
theorem M_forget {tm : Nat} {sg al : Nat → Nat → Int32} {nt : Nat} {td : Nat → Int32} {σ : ZS} (hs : MS tm sg al nt td σ) {Ret : Int32 → ZS → Prop} (hr : ∀ σ', Fr SX σ σ' → MS tm sg al 0 td σ' → Ret (nI nt) σ') : wp_X4_forget σ Ret := by
  unfold wp_X4_forget
  have hs1 := hs.z 0
  refine nm_e (nm_e (nm_e ?_))
  rw [hs1.2.2.1]
  have f : Fr (fun c => c = 1000028) (sI σ 44 0 0) (sI (sI σ 44 0 0) 44 28 0) := Fr.rfl.sI _ _ _ rfl
  exact hr _ ((z_fr σ).trans (f.mono (by intro c hc; unfold SX; omega))) ⟨hs1.1.fr f (by intro c hc; unfold noMH; omega), Nat.zero_le _, zI_self _ _ _ _, fun i hi => absurd hi (Nat.not_lt_zero _)⟩
theorem hold_upM {tm : Nat} {sg al : Nat → Nat → Int32} {nt : Nat} {td : Nat → Int32} {r1 r2 : Nat → Int32} {σ : ZS} (k : MS tm sg al nt td σ) : MS tm (up1 sg (tm + 1) r1) (up1 al (tm + 1) r2) nt td σ := ⟨⟨k.1.ht, k.1.et, fun u hu q hq => by unfold up1; rw [if_neg (by omega)]; exact k.1.es u hu q hq, fun u hu q hq => by unfold up1; rw [if_neg (by omega)]; exact k.1.ea u hu q hq⟩, k.2⟩
/-! back -/
theorem M_back {T : Tw} {tm : Nat} {sg al : Nat → Nat → Int32} {nt : Nat} {td : Nat → Int32} {σ : ZS} (mt : MT T σ) (hs : MS tm sg al nt td σ) {t : Int32} {Ret : Int32 → ZS → Prop} (hr : PX σ Ret (spBack tm t) (MS (nxT tm (chB tm t)) (up1 sg (tm + 1) (sg (ix t))) (up1 al (tm + 1) (al (ix t))) nt td)) : wp_X4_back σ t Ret := by
  unfold wp_X4_back
  refine nm_e ?_
  have htm := hs.1.ht
  have mt1 := mt.fr (z_fr σ) SX_MT
  have hz : zI (sI σ 44 0 0) 44 0 = 0 := zI_self _ _ _ _
  have hs1 := hs.z 0
  unfold spBack at hr
  refine m_isTime (T := T) (sg := sg) (al := al) ⟨mt1, hs1.1⟩ (br0 (fun k => ?_) fun k => ?_)
  · unfold V_X4_back_19
    have e0 : nxT tm (chB tm t) = tm := by unfold nxT chB; rw [k]; rfl
    rw [e0] at hr
    exact m_bad1 hz (by decide) (br_f (by decide) (PX.thr hr (c := 1) (sp1_1 k) (by decide) (hold_upM hs)))
  · unfold V_X4_back_19
    rw [sp1_0 k] at hr
    obtain ⟨w, rfl, hw, ew, -⟩ := inN_N k
    unfold chB at hr
    rw [k, ew] at hr
    refine m_bad0 hz (br_t rfl ?_)
    rw [hs1.1.et, show (200 : Int32) = nI 200 from rfl, nI_eq (by omega) (by decide)]
    refine ⟨fun e => ?_, fun e => m_changes hs1.1 (by omega) fun s f mh => ?_⟩
    · have : (true && !decide (tm = 200)) = false := by simp [e]
      rw [this] at hr
      exact hr _ _ (z_fr σ) (hold_upM hs1) hz (fun _ => by show -1 = ite _ _ _; rw [if_pos e])
    · have : (true && !decide (tm = 200)) = true := by simp [e]
      rw [this] at hr
      have c1 : ∀ i, (fun c => SX c ∧ c ≠ 1000000 ∧ c ≠ 1000028 ∧ c ≠ 1146 ∧ c ≠ 1000019) (cd (160 + 1 + (tm + 1)) i) := fun i => by show SX _ ∧ _; unfold SX cd; rw [if_neg (by omega), if_neg (by omega)]; omega
      have c2 : ∀ i, (fun c => SX c ∧ c ≠ 1000000 ∧ c ≠ 1000028 ∧ c ≠ 1146 ∧ c ≠ 1000019) (cd (362 + 1 + (tm + 1)) i) := fun i => by show SX _ ∧ _; unfold SX cd; rw [if_neg (by omega), if_neg (by omega)]; omega
      refine forL (S := ZS) (fun m s x => VL_X4_back_47 Ret m s (nI w) x) (fun i s' => Fr (fun c => SX c ∧ c ≠ 1000000 ∧ c ≠ 1000028 ∧ c ≠ 1146 ∧ c ≠ 1000019) s s' ∧ (∀ u, u ≤ tm → ∀ q, q < 24 → zI s' (160 + 1 + u) q = sg u q ∧ zI s' (362 + 1 + u) q = al u q) ∧ ∀ q, q < i → zI s' (160 + 1 + (tm + 1)) q = sg w q ∧ zI s' (362 + 1 + (tm + 1)) q = al w q) 24 ?_ ?_ 0 s (Nat.zero_le _) ⟨Fr.rfl, fun u hu q hq => ?_, fun q hq => absurd hq (Nat.not_lt_zero _)⟩
      · rintro n s' ⟨f', g1, g2⟩
        simp only [VL_X4_back_47]
        have et' : zI s' 44 19 = nI (tm + 1) := by rw [f'.1 44 19 (by simp [cd])]; exact mh.et
        rw [et']
        refine br_f (by decide) (hr _ _ ((z_fr σ).trans ((f.mono (fun c k => k.1)).trans (f'.mono (fun c k => k.1)))) ⟨⟨by show tm + 1 ≤ 200; omega, et', fun u hu q hq => ?_, fun u hu q hq => ?_⟩, ?_⟩ ?_ (fun _ => by show _ = ite _ _ _; rw [if_neg e]))
        · have hu' : u ≤ tm + 1 := hu
          unfold up1
          by_cases eu : u = tm + 1
          · rw [if_pos eu, eu]; exact (g2 q hq).1
          · rw [if_neg eu]; exact (g1 u (by omega) q hq).1
        · have hu' : u ≤ tm + 1 := hu
          unfold up1
          by_cases eu : u = tm + 1
          · rw [if_pos eu, eu]; exact (g2 q hq).2
          · rw [if_neg eu]; exact (g1 u (by omega) q hq).2
        · exact (hs1.2.fr f (by intro c hc; omega)).fr f' (by intro c hc; omega)
        · rw [f'.1 44 0 (by simp [cd]), f.1 44 0 (by simp [cd])]; exact hz
      · rintro n i s' hi ⟨f', g1, g2⟩ ih
        simp only [VL_X4_back_47]
        simp only [nI1]
        have iv : vp_in (nI i) 24 := vin (by omega) (by decide)
        have et' : zI s' 44 19 = nI (tm + 1) := by rw [f'.1 44 19 (by simp [cd])]; exact mh.et
        rw [et', ix_nI (by omega), ix_nI (by omega), ix_nI (by omega), (g1 w (by omega) i hi).1]
        refine br_t (by rw [n24]; exact nI_lt hi (by decide)) ⟨vin (by omega) (by decide), vin (by omega) (by decide), iv, iv, nm_e ?_⟩
        have et2 : zI (sI s' (160 + 1 + (tm + 1)) i (sg w i)) 44 19 = nI (tm + 1) := by rw [zI_ne _ (.inl (by omega))]; exact et'
        rw [et2, ix_nI (by omega), zI_ne _ (show 362 + 1 + w ≠ 160 + 1 + (tm + 1) ∨ _ from .inl (by omega)), (g1 w (by omega) i hi).2]
        refine ⟨vin (by omega) (by decide), vin (by omega) (by decide), iv, iv, nm_e (nm_e (ih _ ⟨(f'.sI _ _ _ (c1 i)).sI _ _ _ (c2 i), fun u hu q hq => ?_, fun q hq => ?_⟩))⟩
        · rw [zI_ne _ (.inl (by omega)), zI_ne _ (.inl (by omega)), zI_ne _ (.inl (by omega)), zI_ne _ (.inl (by omega))]; exact g1 u hu q hq
        · rw [zI_ne _ (.inl (by omega)), zI_row, zI_row, zI_ne _ (.inl (by omega))]
          by_cases eq : q = i
          · rw [if_pos eq, if_pos eq, eq]; exact ⟨rfl, rfl⟩
          · rw [if_neg eq, if_neg eq]; exact g2 q (by omega)
      · have h1 := mh.es u (by omega) q hq
        have h2 := mh.ea u (by omega) q hq
        unfold up1 at h1 h2
        rw [if_neg (by omega)] at h1 h2
        exact ⟨h1, h2⟩
