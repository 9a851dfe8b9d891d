/-! PURE HALF: rides, the model's side, II. -/
set_option maxRecDepth 100000
def rd (σ : ZS) (r : Nat) (a : Nat) : Nat := ix (zI σ r a)
theorem rd_of {σ : ZS} {r a n : Nat} (h : zI σ r a = nI n) (hn : n < 2 ^ 31) : rd σ r a = n := by unfold rd; rw [h, ix_nI hn]
/-- a row of small numbers -/
def Sm (σ : ZS) (r N F : Nat) : Prop := ∀ a, a < N → zI σ r a = nI (rd σ r a) ∧ rd σ r a ≤ F
theorem Sm.up {σ : ZS} {r N F : Nat} (h : Sm σ r N F) (hF : F < 2 ^ 31) {i v : Nat} (hv : v ≤ F) : Sm (sI σ r i (nI v)) r N F := by
  intro a ha
  unfold rd
  rw [zI_row]
  by_cases e : a = i
  · rw [if_pos e, ix_nI (by omega)]; exact ⟨rfl, hv⟩
  · rw [if_neg e]; exact h a ha
theorem rd_up {σ : ZS} {r i v : Nat} (hv : v < 2 ^ 31) (a : Nat) : rd (sI σ r i (nI v)) r a = if a = i then v else rd σ r a := by
  unfold rd
  rw [zI_row]
  by_cases e : a = i
  · rw [if_pos e, if_pos e, ix_nI hv]
  · rw [if_neg e, if_neg e]
theorem nFar : (1000000000 : Int32) = nI 1000000000 := rfl
theorem nFarC : (1000000 : Int32) = nI 1000000 := rfl
/-- the first loop of layLengths -/
def L0 (T : Tw) (to F a : Nat) : Nat := if T.isArc a = true ∧ T.fin a = to then T.len a else F
theorem BM.zero {T : Tw} {G : Nat → Nat → Bool} {to F : Nat} (w : T.WF) (hF : 99 ≤ F) {L : Nat → Nat} (h : ∀ a, a < 2 * T.ns → L a = L0 T to F a) : BM T G to F L := by
  refine ⟨fun a ha => ?_, fun a ha => ?_, fun a ha h1 h2 => ?_⟩
  · rw [h a ha]; unfold L0; have := w.len ha; split <;> omega
  · rw [h a ha]; unfold L0; split
    · next k => exact .inr (.last a k.1 k.2)
    · exact .inl rfl
  · rw [h a ha]; unfold L0; rw [if_pos ⟨h1, h2⟩]; exact Nat.le_refl _
/-- what is laid: lengths to a corner -/
def LenM (T : Tw) (G : Nat → Nat → Bool) (to : Nat) (σ : ZS) : Prop := ∀ a, a < 2 * T.ns → zI σ 568 a = nI (fz 1000000000 (Ds T G to a))
theorem m_layLengths {T : Tw} {σ : ZS} (h : MT T σ) {G : Nat → Nat → Bool} (hf : FolM T G σ) {to : Nat} (hto : to < 2 ^ 31) {Ret : ZS → Prop} (hr : ∀ σ', Fr (fun c => c = 568) σ σ' → LenM T G to σ' → Ret σ') : wp_X4_layLengths σ (nI to) Ret := by
  have hns := h.wf.ns
  have w := h.wf
  have nm : ∀ c, c = 568 → noMT c := by intro c hc; unfold noMT; omega
  unfold wp_X4_layLengths
  have main : ∀ s, Fr (fun c => c = 568) σ s → Sm s 568 (2 * T.ns) 1000000000 → BM T G to 1000000000 (rd s 568) → V_X4_layLengths_62 Ret s 1 := by
    intro s0 f0 m0 b0
    refine lp2 (VL_X4_layLengths_62 Ret) (fun s x => Fr (fun c => c = 568) σ s ∧ Sm s 568 (2 * T.ns) 1000000000 ∧ BM T G to 1000000000 (rd s 568) ∧ (x = 0 → ∀ a b, T.isArc a = true → T.isArc b = true → G a b = true → ¬ rd s 568 b + T.len a < rd s 568 a)) (fun s x => 2 * sumN (rd s 568) (2 * T.ns) + if x = 0 then 0 else 1) ?_ s0 1 ⟨f0, m0, b0, fun e => absurd e (by decide)⟩
    rintro n s x ⟨f, m, b, st⟩ ih
    simp only [VL_X4_layLengths_62]
    refine ⟨fun h0 => hr s f fun a ha => ?_, fun h0 => ?_⟩
    · rw [(m a ha).1, b.fin w (by omega) (st h0) a ha]
    rw [if_neg h0] at ih
    refine forL1 (fun k s v x => VL_X4_layLengths_70 _ Ret k s v x) (fun i s' v' => Fr (fun c => c = 568) σ s' ∧ Sm s' 568 (2 * T.ns) 1000000000 ∧ BM T G to 1000000000 (rd s' 568) ∧ ((v' = 0 ∧ sumN (rd s' 568) (2 * T.ns) = sumN (rd s 568) (2 * T.ns) ∧ ∀ a b, a < i → T.isArc a = true → T.isArc b = true → G a b = true → ¬ rd s' 568 b + T.len a < rd s' 568 a) ∨ (v' = 1 ∧ sumN (rd s' 568) (2 * T.ns) < sumN (rd s 568) (2 * T.ns)))) (2 * T.ns) ?_ ?_ 0 s 0 (Nat.zero_le _) ⟨f, m, b, .inl ⟨rfl, rfl, fun a _ ha => absurd ha (Nat.not_lt_zero _)⟩⟩
    · rintro n2 s' x' ⟨f', m', b', c'⟩
      have hs' := h.fr f' nm
      simp only [VL_X4_layLengths_70]
      rw [hs'.ltA (by omega)]
      refine br_f (by omega) (ih _ _ ⟨f', m', b', fun e => ?_⟩ ?_)
      · rcases c' with ⟨-, -, k⟩ | ⟨k, -⟩
        · exact fun a b ha => k a b (Tw.arc_lt ha) ha
        · rw [k] at e; exact absurd e (by decide)
      · rcases c' with ⟨k, k2, -⟩ | ⟨k, k2⟩
        · rw [k]; simp; omega
        · rw [k]; simp; omega
    rintro n2 i s' x' hi ⟨f', m', b', c'⟩ ih2
    have hs' := h.fr f' nm
    simp only [VL_X4_layLengths_70]
    rw [hs'.ltA (by omega)]
    refine br_t hi ?_
    refine forL1 (fun k s v x => VL_X4_layLengths_85 _ _ Ret k s v (nI i) x) (fun j s' v' => Fr (fun c => c = 568) σ s' ∧ Sm s' 568 (2 * T.ns) 1000000000 ∧ BM T G to 1000000000 (rd s' 568) ∧ ((v' = 0 ∧ sumN (rd s' 568) (2 * T.ns) = sumN (rd s 568) (2 * T.ns) ∧ ∀ a b, (a < i ∨ a = i ∧ b < j) → T.isArc a = true → T.isArc b = true → G a b = true → ¬ rd s' 568 b + T.len a < rd s' 568 a) ∨ (v' = 1 ∧ sumN (rd s' 568) (2 * T.ns) < sumN (rd s 568) (2 * T.ns)))) (2 * T.ns) ?_ ?_ 0 s' x' (Nat.zero_le _) ⟨f', m', b', ?_⟩
    · rintro n3 s3 x3 ⟨f3, m3, b3, c3⟩
      have hs3 := h.fr f3 nm
      simp only [VL_X4_layLengths_85]
      rw [hs3.ltA (by omega)]; simp only [nI1]
      refine br_f (by omega) (nm_e (ih2 s3 x3 ⟨f3, m3, b3, ?_⟩))
      rcases c3 with ⟨k, k2, k3⟩ | k
      · exact .inl ⟨k, k2, fun a b ha h1 h2 => k3 a b (by have := Tw.arc_lt h2; omega) h1 h2⟩
      · exact .inr k
    · rintro n3 j s3 x3 hj ⟨f3, m3, b3, c3⟩ ih3
      have hs3 := h.fr f3 nm
      have hf3 := hf.fr f3 (by intro c hc; omega)
      simp only [VL_X4_layLengths_85]
      rw [hs3.ltA (by omega)]; simp only [nI1]
      have skip : (T.isArc i = true → T.isArc j = true → G i j = true → ¬ rd s3 568 j + T.len i < rd s3 568 i) → VL_X4_layLengths_85 (VL_X4_layLengths_62 Ret n) (VL_X4_layLengths_70 (VL_X4_layLengths_62 Ret n) Ret n2) Ret n3 s3 x3 (nI i) (nI (j + 1)) := by
        intro e
        refine ih3 s3 x3 ⟨f3, m3, b3, ?_⟩
        rcases c3 with ⟨k, k2, k3⟩ | k
        · refine .inl ⟨k, k2, fun a b ha h1 h2 h3 => ?_⟩
          by_cases e2 : a = i ∧ b = j
          · obtain ⟨rfl, rfl⟩ := e2; exact e h1 h2 h3
          · exact k3 a b (by omega) h1 h2 h3
        · exact .inr k
      refine br_t hj (m_isArcN hs3 (by omega) (br0 (fun h1 => nm_e (skip fun k => by rw [h1] at k; cases k)) fun h1 => ?_))
      refine m_isAfter hns hf3 hi hj (br0 (fun h2 => nm_e (skip fun k1 k2 k3 => by rw [k1, k2, k3] at h2; cases h2)) fun h2 => ?_)
      simp only [Bool.and_eq_true] at h2
      refine ⟨vin (by omega) (by decide), m_long hs3 hi ⟨vin (by omega) (by decide), ?_⟩⟩
      have hl := w.len hi
      obtain ⟨ei, bi⟩ := m3 i hi
      obtain ⟨ej, bj⟩ := m3 j hj
      rw [ix_nI (by omega), ix_nI (by omega), ei, ej, nI_add, nI_ltI (by omega) (by omega)]
      refine ⟨fun h3 => ⟨vin (by omega) (by decide), m_long hs3 hi ⟨vin (by omega) (by decide), nm_e (nm_e ?_)⟩⟩, fun h3 => nm_e (skip fun _ _ _ => h3)⟩
      rw [nI_add]
      have hrd := rd_up (σ := s3) (r := 568) (i := i) (v := rd s3 568 j + T.len i) (by omega)
      refine ih3 (sI s3 568 i (nI (rd s3 568 j + T.len i))) 1 ⟨f3.sI _ _ _ rfl, m3.up (by omega) (by omega), b3.up h2.1.1 h2.1.2 h2.2 h3 (by rw [hrd, if_pos rfl]) (fun x hx => by rw [hrd, if_neg hx]), .inr ⟨rfl, ?_⟩⟩
      have : sumN (rd (sI s3 568 i (nI (rd s3 568 j + T.len i))) 568) (2 * T.ns) < sumN (rd s3 568) (2 * T.ns) := by
        refine sumN_lt hi (fun x _ hx => by rw [hrd, if_neg hx]) ?_
        rw [hrd, if_pos rfl]; exact h3
      show sumN (rd (sI s3 568 i (nI (rd s3 568 j + T.len i))) 568) (2 * T.ns) < _
      rcases c3 with ⟨-, k2, -⟩ | ⟨-, k⟩ <;> omega
    · rcases c' with ⟨k, k2, k3⟩ | k
      · exact .inl ⟨k, k2, fun a b ha h1 h2 h3 => k3 a b (by omega) h1 h2 h3⟩
      · exact .inr k
  refine forL (S := ZS) (fun k s x => VL_X4_layLengths_2 Ret k s (nI to) x) (fun i s => Fr (fun c => c = 568) σ s ∧ ∀ a, a < i → zI s 568 a = nI (L0 T to 1000000000 a)) (2 * T.ns) ?_ ?_ 0 σ (Nat.zero_le _) ⟨Fr.rfl, fun a ha => absurd ha (Nat.not_lt_zero _)⟩
  · rintro n s ⟨f, e⟩
    have hs := h.fr f nm
    simp only [VL_X4_layLengths_2]
    rw [hs.ltA (by omega)]
    have lb : ∀ a, a < 2 * T.ns → L0 T to 1000000000 a ≤ 1000000000 := by
      intro a ha; unfold L0; have := w.len ha; split <;> omega
    have er : ∀ a, a < 2 * T.ns → rd s 568 a = L0 T to 1000000000 a := fun a ha => rd_of (e a ha) (by have := lb a ha; omega)
    exact br_f (by omega) (main s f (fun a ha => by rw [er a ha]; exact ⟨e a ha, lb a ha⟩) (BM.zero w (by omega) er))
  · rintro n i s hi ⟨f, e⟩ ih
    have hs := h.fr f nm
    simp only [VL_X4_layLengths_2]
    rw [hs.ltA (by omega)]; simp only [nI1]
    have put : ∀ v, v = L0 T to 1000000000 i → VL_X4_layLengths_2 Ret n (sI s 568 (ix (nI i)) (nI v)) (nI to) (nI (i + 1)) := by
      intro v hv
      rw [ix_nI (by omega)]
      refine ih _ ⟨f.sI _ _ _ rfl, fun a ha => ?_⟩
      rw [zI_row]
      by_cases e2 : a = i
      · rw [if_pos e2, hv, e2]
      · rw [if_neg e2]; exact e a (by omega)
    have hfi := w.fin hi
    have := w.nc
    refine br_t hi (m_isArcN hs (by omega) (br0 (fun h1 => ⟨vin (by omega) (by decide), nm_e (nm_e ?_)⟩) fun h1 => m_end hs hi ⟨fun h2 => m_long hs hi ⟨vin (by omega) (by decide), nm_e (nm_e ?_)⟩, fun h2 => ⟨vin (by omega) (by decide), nm_e (nm_e ?_)⟩⟩))
    · rw [nFar]; exact put _ (by unfold L0; rw [h1]; simp)
    · rw [nI_eq (by omega) hto] at h2
      exact put _ (by unfold L0; rw [h1]; simp [h2])
    · rw [nI_eq (by omega) hto] at h2
      rw [nFar]; exact put _ (by unfold L0; rw [h1]; simp [h2])
