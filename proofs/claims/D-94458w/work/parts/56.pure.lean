/-! PURE HALF: rides, the class's side. -/
set_option maxRecDepth 100000
theorem t_arcs {T : Tw} {d : Ad} {σ : ZS} (h : CT T d σ) {Ret : Int32 → ZS → Prop} (hr : Ret (nI (2 * T.ns)) σ) : (zP σ 0 0) = some (.inl (zo (zP σ 0 0))) ∧ ((∃ n, kK NS σ (zo (zP σ 0 0)) = (8, n)) ∧ wp_X2_arcs σ (zo (zP σ 0 0)) Ret) := by
  rw [h.pt]; exact ⟨rfl, h.kt, c_arcs h hr⟩
theorem t_isArc {T : Tw} {d : Ad} {σ : ZS} (h : CT T d σ) {x : Int32} {Ret : Int32 → ZS → Prop} (hr : Ret (b2i (T.isArcI x)) σ) : (zP σ 0 0) = some (.inl (zo (zP σ 0 0))) ∧ ((∃ n, kK NS σ (zo (zP σ 0 0)) = (8, n)) ∧ wp_X2_isArc σ (zo (zP σ 0 0)) x Ret) := by
  rw [h.pt]; exact ⟨rfl, h.kt, c_isArc h hr⟩
theorem t_isArcN {T : Tw} {d : Ad} {σ : ZS} (h : CT T d σ) {a : Nat} (ha : a < 2 ^ 31) {Ret : Int32 → ZS → Prop} (hr : Ret (b2i (T.isArc a)) σ) : (zP σ 0 0) = some (.inl (zo (zP σ 0 0))) ∧ ((∃ n, kK NS σ (zo (zP σ 0 0)) = (8, n)) ∧ wp_X2_isArc σ (zo (zP σ 0 0)) (nI a) Ret) := by
  rw [h.pt]; exact ⟨rfl, h.kt, c_isArcN h ha hr⟩
theorem t_begin {T : Tw} {d : Ad} {σ : ZS} (h : CT T d σ) {a : Nat} (ha : a < 2 * T.ns) {Ret : Int32 → ZS → Prop} (hr : Ret (nI (T.beg a)) σ) : (zP σ 0 0) = some (.inl (zo (zP σ 0 0))) ∧ ((∃ n, kK NS σ (zo (zP σ 0 0)) = (8, n)) ∧ wp_X2_begin σ (zo (zP σ 0 0)) (nI a) Ret) := by
  rw [h.pt]; exact ⟨rfl, h.kt, c_begin h ha hr⟩
theorem t_end {T : Tw} {d : Ad} {σ : ZS} (h : CT T d σ) {a : Nat} (ha : a < 2 * T.ns) {Ret : Int32 → ZS → Prop} (hr : Ret (nI (T.fin a)) σ) : (zP σ 0 0) = some (.inl (zo (zP σ 0 0))) ∧ ((∃ n, kK NS σ (zo (zP σ 0 0)) = (8, n)) ∧ wp_X2_end σ (zo (zP σ 0 0)) (nI a) Ret) := by
  rw [h.pt]; exact ⟨rfl, h.kt, c_end h ha hr⟩
theorem t_length {T : Tw} {d : Ad} {σ : ZS} (h : CT T d σ) {a : Nat} (ha : a < 2 * T.ns) {Ret : Int32 → ZS → Prop} (hr : Ret (nI (T.len a)) σ) : (zP σ 0 0) = some (.inl (zo (zP σ 0 0))) ∧ ((∃ n, kK NS σ (zo (zP σ 0 0)) = (8, n)) ∧ wp_X2_length σ (zo (zP σ 0 0)) (nI a) Ret) := by
  rw [h.pt]; exact ⟨rfl, h.kt, c_length h ha hr⟩
/-- what the class's questions look at -/
def Ev : Type := (Tw) × (Ad) × (Nat) × (Nat → Nat → Int32) × (Nat → Nat → Int32) × (Bool) × (Nat → Int32) × (Nat → Int32)
def Ev.mk (T : Tw) (d : Ad) (tm : Nat) (sg : Nat → Nat → Int32) (al : Nat → Nat → Int32) (fr : Bool) (mo : Nat → Int32) (fe : Nat → Int32) : Ev := (T, d, tm, sg, al, fr, mo, fe)
def Ev.T (x : Ev) : Tw := x.1
def Ev.d (x : Ev) : Ad := x.2.1
def Ev.tm (x : Ev) : Nat := x.2.2.1
def Ev.sg (x : Ev) : Nat → Nat → Int32 := x.2.2.2.1
def Ev.al (x : Ev) : Nat → Nat → Int32 := x.2.2.2.2.1
def Ev.fr (x : Ev) : Bool := x.2.2.2.2.2.1
def Ev.mo (x : Ev) : Nat → Int32 := x.2.2.2.2.2.2.1
def Ev.fe (x : Ev) : Nat → Int32 := x.2.2.2.2.2.2.2
def Ev.G (e : Ev) (t : Nat) : Nat → Nat → Bool := mayC e.T e.fr (e.sg t) (e.al t) e.mo e.fe
abbrev CE (e : Ev) (σ : ZS) : Prop := (CT e.T e.d σ) ∧ (CH e.tm e.sg e.al σ) ∧ (OV e.fr e.mo e.fe σ)
theorem CE.ct {e : Ev} {σ : ZS} (h : CE e σ) : CT e.T e.d σ := h.1
theorem CE.ch {e : Ev} {σ : ZS} (h : CE e σ) : CH e.tm e.sg e.al σ := h.2.1
theorem CE.ov {e : Ev} {σ : ZS} (h : CE e σ) : OV e.fr e.mo e.fe σ := h.2.2
/-- the class's scratch -/
def scC (c : Nat) : Prop := (20 ≤ c ∧ c < 1239) ∨ (1000000 ≤ c ∧ c ≠ 2000009)
theorem CE.fr {e : Ev} {σ σ' : ZS} {S : Nat → Prop} (h : CE e σ) (f : Fr S σ σ') (hs : ∀ c, S c → scC c) : CE e σ' :=
  ⟨h.ct.fr f fun c k => by have := hs c k; unfold scC at this; unfold noA; omega, h.ch.fr f fun c k => by have := hs c k; unfold scC at this; omega, h.ov.frm f fun c k => by have := hs c k; unfold scC at this; omega⟩
theorem c_may {e : Ev} {σ : ZS} (h : CE e σ) {a b t : Nat} (ha : a < 2 * e.T.ns) (hb : b < 2 * e.T.ns) (ht : t ≤ e.tm) {Ret : Int32 → ZS → Prop} (hr : Ret (b2i (e.G t a b)) σ) : wp_X1_mayRide σ (nI a) (nI b) (nI t) Ret := c_mayRide h.ct h.ch h.ov ha hb ht hr
/-- what is left behind an arc -/
noncomputable def rst (T : Tw) (G : Nat → Nat → Bool) (to a : Nat) : Nat := match Ds T G to a with
  | none => 1000000
  | some n => n - T.len a
def RestC (T : Tw) (G : Nat → Nat → Bool) (to : Nat) (σ : ZS) : Prop := ∀ a, a < 2 * T.ns → zI σ 20 a = nI (rst T G to a)
def R0 (T : Tw) (to F a : Nat) : Nat := if T.isArc a = true ∧ T.fin a = to then 0 else F
theorem BC.zero {T : Tw} {G : Nat → Nat → Bool} {to F : Nat} {L : Nat → Nat} (h : ∀ a, a < 2 * T.ns → L a = R0 T to F a) : BC T G to F L := by
  refine ⟨fun a ha => ?_, fun a ha => ?_, fun a ha h1 h2 => ?_⟩
  · rw [h a ha]; unfold R0; split <;> omega
  · rw [h a ha]; unfold R0; split
    · next k => exact .inr (.last a k.1 k.2)
    · exact .inl rfl
  · rw [h a ha]; unfold R0; rw [if_pos ⟨h1, h2⟩]
theorem c_findRest {e : Ev} {σ : ZS} (h : CE e σ) {to t : Nat} (hto : to < 2 ^ 31) (ht : t ≤ e.tm) {Ret : ZS → Prop} (hr : ∀ σ', Fr (fun c => c = 20) σ σ' → RestC e.T (e.G t) to σ' → Ret σ') : wp_X1_findRest σ (nI to) (nI t) Ret := by
  have hns := h.ct.wf.ns
  have w := h.ct.wf
  have nm : ∀ c, c = 20 → scC c := by intro c hc; unfold scC; omega
  unfold wp_X1_findRest
  have main : ∀ s, Fr (fun c => c = 20) σ s → Sm s 20 (2 * e.T.ns) 1000000 → BC e.T (e.G t) to 1000000 (rd s 20) → V_X1_findRest_57 Ret s (nI t) 1 := by
    intro s0 f0 m0 b0
    refine lp2 (fun k s x => VL_X1_findRest_57 Ret k s (nI t) x) (fun s x => Fr (fun c => c = 20) σ s ∧ Sm s 20 (2 * e.T.ns) 1000000 ∧ BC e.T (e.G t) to 1000000 (rd s 20) ∧ (x = 0 → ∀ a b, e.T.isArc a = true → e.T.isArc b = true → e.G t a b = true → ¬ rd s 20 b + e.T.len b < rd s 20 a)) (fun s x => 2 * sumN (rd s 20) (2 * e.T.ns) + if x = 0 then 0 else 1) ?_ s0 1 ⟨f0, m0, b0, fun e => absurd e (by decide)⟩
    rintro n s x ⟨f, m, b, st⟩ ih
    simp only [VL_X1_findRest_57]
    refine ⟨fun h0 => hr s f fun a ha => ?_, fun h0 => ?_⟩
    · rw [(m a ha).1]
      unfold rst
      rcases b.fin w (by omega) (st h0) a ha with ⟨k1, k2⟩ | ⟨n, k1, k2⟩
      · rw [k1, k2]
      · rw [k1]; show nI _ = nI (n - e.T.len a); congr 1; omega
    rw [if_neg h0] at ih
    refine forL1 (fun k s v x => VL_X1_findRest_66 _ Ret k s (nI t) v x) (fun i s' v' => Fr (fun c => c = 20) σ s' ∧ Sm s' 20 (2 * e.T.ns) 1000000 ∧ BC e.T (e.G t) to 1000000 (rd s' 20) ∧ ((v' = 0 ∧ sumN (rd s' 20) (2 * e.T.ns) = sumN (rd s 20) (2 * e.T.ns) ∧ ∀ a b, a < i → e.T.isArc a = true → e.T.isArc b = true → e.G t a b = true → ¬ rd s' 20 b + e.T.len b < rd s' 20 a) ∨ (v' = 1 ∧ sumN (rd s' 20) (2 * e.T.ns) < sumN (rd s 20) (2 * e.T.ns)))) (2 * e.T.ns) ?_ ?_ 0 s 0 (Nat.zero_le _) ⟨f, m, b, .inl ⟨rfl, rfl, fun a _ ha => absurd ha (Nat.not_lt_zero _)⟩⟩
    · rintro n2 s' x' ⟨f', m', b', c'⟩
      have hs' := h.fr f' nm
      simp only [VL_X1_findRest_66]
      refine t_arcs hs'.ct (br_f (fun k => absurd ((nI_ltI (by omega) (by omega)).mp k) (by omega)) (ih _ _ ⟨f', m', b', fun e => ?_⟩ ?_))
      · rcases c' with ⟨-, -, k⟩ | ⟨k, -⟩
        · exact fun a b ha => k a b (Tw.arc_lt ha) ha
        · rw [k] at e; exact absurd e (by decide)
      · rcases c' with ⟨k, k2, -⟩ | ⟨k, k2⟩
        · rw [k]; simp; omega
        · rw [k]; simp; omega
    rintro n2 i s' x' hi ⟨f', m', b', c'⟩ ih2
    have hs' := h.fr f' nm
    simp only [VL_X1_findRest_66]
    simp only [nI1]
    refine t_arcs hs'.ct (br_t (nI_lt hi (by omega)) (t_isArcN hs'.ct (by omega) (br0 (fun h1 => nm_e (ih2 s' x' ⟨f', m', b', ?_⟩)) fun h1 => ?_)))
    · rcases c' with ⟨k, k2, k3⟩ | k
      · refine .inl ⟨k, k2, fun a b ha h2 h3 h4 => ?_⟩
        by_cases e2 : a = i
        · subst e2; rw [h1] at h2; cases h2
        · exact k3 a b (by omega) h2 h3 h4
      · exact .inr k
    refine forL1 (fun k s v x => VL_X1_findRest_96 _ _ Ret k s (nI t) v (nI i) x) (fun j s' v' => Fr (fun c => c = 20) σ s' ∧ Sm s' 20 (2 * e.T.ns) 1000000 ∧ BC e.T (e.G t) to 1000000 (rd s' 20) ∧ ((v' = 0 ∧ sumN (rd s' 20) (2 * e.T.ns) = sumN (rd s 20) (2 * e.T.ns) ∧ ∀ a b, (a < i ∨ a = i ∧ b < j) → e.T.isArc a = true → e.T.isArc b = true → e.G t a b = true → ¬ rd s' 20 b + e.T.len b < rd s' 20 a) ∨ (v' = 1 ∧ sumN (rd s' 20) (2 * e.T.ns) < sumN (rd s 20) (2 * e.T.ns)))) (2 * e.T.ns) ?_ ?_ 0 s' x' (Nat.zero_le _) ⟨f', m', b', ?_⟩
    · rintro n3 s3 x3 ⟨f3, m3, b3, c3⟩
      have hs3 := h.fr f3 nm
      simp only [VL_X1_findRest_96]
      simp only [nI1]
      refine t_arcs hs3.ct (br_f (fun k => absurd ((nI_ltI (by omega) (by omega)).mp k) (by omega)) (nm_e (ih2 s3 x3 ⟨f3, m3, b3, ?_⟩)))
      rcases c3 with ⟨k, k2, k3⟩ | k
      · exact .inl ⟨k, k2, fun a b ha h1 h2 => k3 a b (by have := Tw.arc_lt h2; omega) h1 h2⟩
      · exact .inr k
    · rintro n3 j s3 x3 hj ⟨f3, m3, b3, c3⟩ ih3
      have hs3 := h.fr f3 nm
      simp only [VL_X1_findRest_96]
      simp only [nI1]
      have skip : (e.T.isArc i = true → e.T.isArc j = true → e.G t i j = true → ¬ rd s3 20 j + e.T.len j < rd s3 20 i) → VL_X1_findRest_96 (VL_X1_findRest_57 Ret n) (VL_X1_findRest_66 (VL_X1_findRest_57 Ret n) Ret n2) Ret n3 s3 (nI t) x3 (nI i) (nI (j + 1)) := by
        intro e
        refine ih3 s3 x3 ⟨f3, m3, b3, ?_⟩
        rcases c3 with ⟨k, k2, k3⟩ | k
        · refine .inl ⟨k, k2, fun a b ha h1 h2 h3 => ?_⟩
          by_cases e2 : a = i ∧ b = j
          · obtain ⟨rfl, rfl⟩ := e2; exact e h1 h2 h3
          · exact k3 a b (by omega) h1 h2 h3
        · exact .inr k
      refine t_arcs hs3.ct (br_t (nI_lt hj (by omega)) (t_isArcN hs3.ct (by omega) (br0 (fun h2 => nm_e (skip fun _ k => by rw [h2] at k; cases k)) fun h2 => ⟨vin (by omega) (by decide), t_length hs3.ct hj ⟨vin (by omega) (by decide), ?_⟩⟩)))
      have hl := w.len hj
      obtain ⟨ei, bi⟩ := m3 i hi
      obtain ⟨ej, bj⟩ := m3 j hj
      rw [ix_nI (by omega), ix_nI (by omega), ei, ej, nI_add, nI_ltI (by omega) (by omega)]
      refine ⟨fun h3 => c_may hs3 hi hj ht (br0 (fun h4 => nm_e (skip fun _ _ k => by rw [h4] at k; cases k)) fun h4 => ⟨vin (by omega) (by decide), t_length hs3.ct hj ⟨vin (by omega) (by decide), nm_e (nm_e ?_)⟩⟩), fun h3 => nm_e (skip fun _ _ _ => h3)⟩
      rw [ej, nI_add]
      have hrd := rd_up (σ := s3) (r := 20) (i := i) (v := rd s3 20 j + e.T.len j) (by omega)
      refine ih3 (sI s3 20 i (nI (rd s3 20 j + e.T.len j))) 1 ⟨f3.sI _ _ _ rfl, m3.up (by omega) (by omega), b3.up h1 h2 h4 h3 (by rw [hrd, if_pos rfl]) (fun x hx => by rw [hrd, if_neg hx]), .inr ⟨rfl, ?_⟩⟩
      have : sumN (rd (sI s3 20 i (nI (rd s3 20 j + e.T.len j))) 20) (2 * e.T.ns) < sumN (rd s3 20) (2 * e.T.ns) := by
        refine sumN_lt hi (fun x _ hx => by rw [hrd, if_neg hx]) ?_
        rw [hrd, if_pos rfl]; exact h3
      rcases c3 with ⟨-, k2, -⟩ | ⟨-, k⟩ <;> omega
    · rcases c' with ⟨k, k2, k3⟩ | k
      · exact .inl ⟨k, k2, fun a b ha h1 h2 h3 => k3 a b (by omega) h1 h2 h3⟩
      · exact .inr k
  refine forL (S := ZS) (fun k s x => VL_X1_findRest_2 Ret k s (nI to) (nI t) x) (fun i s => Fr (fun c => c = 20) σ s ∧ ∀ a, a < i → zI s 20 a = nI (R0 e.T to 1000000 a)) (2 * e.T.ns) ?_ ?_ 0 σ (Nat.zero_le _) ⟨Fr.rfl, fun a ha => absurd ha (Nat.not_lt_zero _)⟩
  · rintro n s ⟨f, e1⟩
    have hs := h.fr f nm
    simp only [VL_X1_findRest_2]
    have lb : ∀ a, a < 2 * e.T.ns → R0 e.T to 1000000 a ≤ 1000000 := by
      intro a ha; unfold R0; split <;> omega
    have er : ∀ a, a < 2 * e.T.ns → rd s 20 a = R0 e.T to 1000000 a := fun a ha => rd_of (e1 a ha) (by have := lb a ha; omega)
    exact t_arcs hs.ct (br_f (fun k => absurd ((nI_ltI (by omega) (by omega)).mp k) (by omega)) (main s f (fun a ha => by rw [er a ha]; exact ⟨e1 a ha, lb a ha⟩) (BC.zero er)))
  · rintro n i s hi ⟨f, e1⟩ ih
    have hs := h.fr f nm
    simp only [VL_X1_findRest_2]
    simp only [nI1]
    have put : ∀ v, v = R0 e.T to 1000000 i → VL_X1_findRest_2 Ret n (sI s 20 (ix (nI i)) (nI v)) (nI to) (nI t) (nI (i + 1)) := by
      intro v hv
      rw [ix_nI (by omega)]
      refine ih _ ⟨f.sI _ _ _ rfl, fun a ha => ?_⟩
      rw [zI_row]
      by_cases e2 : a = i
      · rw [if_pos e2, hv, e2]
      · rw [if_neg e2]; exact e1 a (by omega)
    have hfi := w.fin hi
    have := w.nc
    refine t_arcs hs.ct (br_t (nI_lt hi (by omega)) (t_isArcN hs.ct (by omega) (br0 (fun h1 => ⟨vin (by omega) (by decide), nm_e (nm_e ?_)⟩) fun h1 => t_end hs.ct hi ⟨fun h2 => ⟨vin (by omega) (by decide), nm_e (nm_e ?_)⟩, fun h2 => ⟨vin (by omega) (by decide), nm_e (nm_e ?_)⟩⟩)))
    · rw [nFarC]; exact put _ (by unfold R0; rw [h1]; simp)
    · rw [nI_eq (by omega) hto] at h2
      rw [n0]; exact put _ (by unfold R0; rw [h1]; simp [h2])
    · rw [nI_eq (by omega) hto] at h2
      rw [nFarC]; exact put _ (by unfold R0; rw [h1]; simp [h2])
