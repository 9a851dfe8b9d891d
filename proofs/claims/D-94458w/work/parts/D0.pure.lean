/-! PURE HALF: what holds between two calls. -/
set_option maxRecDepth 100000
theorem MT.gw {T : Tw} {σ σ' : ZS} {S : Nat → Prop} {k m : Nat} (h : MT T σ) (hz : NS ≤ zt σ) (g0 : Gw S k m σ σ') (hs : ∀ c, S c → noMT c) : MT T σ' := by
  have hz : 1239 ≤ zt σ := hz
  have g : ∀ a i, a < 1239 → ¬ noMT (cd a i) → zI σ' a i = zI σ a i := fun a i l n => g0.i a i (by omega) fun k => n (hs _ k)
  have w := h.wf
  have h1 := w.nc; have h2 := w.ns; have h3 := w.nr; have h4 := w.nl
  clear g0 hs w
  refine ⟨?_, ?_, ?_, ?_, ?_, ?_, ?_, ?_, ?_, ?_, ?_, ?_, ?_, ?_, ?_, ?_, ?_⟩
  · exact h.wf
  · rw [g 47 0 (by decide) (by unfold noMT cd; simp), h.m0]
  · rw [g 47 1 (by decide) (by unfold noMT cd; simp), h.m1]
  · rw [g 47 2 (by decide) (by unfold noMT cd; simp), h.m2]
  · rw [g 47 3 (by decide) (by unfold noMT cd; simp), h.m3]
  · intro i hi; rw [g _ _ (by omega) (by unfold noMT cd; rw [if_neg (by omega), if_neg (by omega)]; omega), h.cx i hi]
  · intro i hi; rw [g _ _ (by omega) (by unfold noMT cd; rw [if_neg (by omega), if_neg (by omega)]; omega), h.cy i hi]
  · intro i hi; rw [g _ _ (by omega) (by unfold noMT cd; rw [if_neg (by omega), if_neg (by omega)]; omega), h.sf i hi]
  · intro i hi; rw [g _ _ (by omega) (by unfold noMT cd; rw [if_neg (by omega), if_neg (by omega)]; omega), h.st i hi]
  · intro i hi; rw [g _ _ (by omega) (by unfold noMT cd; rw [if_neg (by omega), if_neg (by omega)]; omega), h.sl i hi]
  · intro i hi; rw [g _ _ (by omega) (by unfold noMT cd; rw [if_neg (by omega), if_neg (by omega)]; omega), h.so i hi]
  · intro i hi; rw [g _ _ (by omega) (by unfold noMT cd; rw [if_neg (by omega), if_neg (by omega)]; omega), h.rf i hi]
  · intro i hi; rw [g _ _ (by omega) (by unfold noMT cd; rw [if_neg (by omega), if_neg (by omega)]; omega), h.rt i hi]
  · intro i hi; rw [g _ _ (by omega) (by unfold noMT cd; rw [if_neg (by omega), if_neg (by omega)]; omega), h.rb i hi]
  · rw [g 44 27 (by decide) (by unfold noMT cd; simp), h.nl]
  · intro i hi; rw [g _ _ (by omega) (by unfold noMT cd; rw [if_neg (by omega), if_neg (by omega)]; omega), h.lf i hi]
  · intro i hi; rw [g _ _ (by omega) (by unfold noMT cd; rw [if_neg (by omega), if_neg (by omega)]; omega), h.lt i hi]
theorem MH.gw {tm : Nat} {sg al : Nat → Nat → Int32} {σ σ' : ZS} {S : Nat → Prop} {k m : Nat} (h : MH tm sg al σ) (hz : NS ≤ zt σ) (g0 : Gw S k m σ σ') (hs : ∀ c, S c → noMH c) : MH tm sg al σ' := by
  have hz : 1239 ≤ zt σ := hz
  have g : ∀ a i, a < 1239 → ¬ noMH (cd a i) → zI σ' a i = zI σ a i := fun a i l n => g0.i a i (by omega) fun k => n (hs _ k)
  have := h.ht
  refine ⟨h.ht, ?_, fun t ht s hs' => ?_, fun t ht s hs' => ?_⟩
  · rw [g 44 19 (by decide) (by unfold noMH cd; simp), h.et]
  · rw [g _ _ (by omega) (by unfold noMH cd; rw [if_neg (by omega), if_neg (by omega)]; omega), h.es t ht s hs']
  · rw [g _ _ (by omega) (by unfold noMH cd; rw [if_neg (by omega), if_neg (by omega)]; omega), h.ea t ht s hs']
/-- kinds of a town's cells -/
def gdK (x : Nat × Nat) : Prop := x ≠ (1000, 0) ∧ x.1 ≠ 9 ∧ x ≠ (0, 4824) ∧ x ≠ (0, 12)
theorem gd_1 {c m : Nat} (h : c = 8 ∨ c = 16 ∨ c = 6 ∨ c = 13 ∨ c = 14 ∨ c = 15) : gdK (c, m) := by
  unfold gdK
  refine ⟨?_, ?_, ?_, ?_⟩ <;> (simp only [ne_eq, Prod.mk.injEq]; omega)
theorem CT.gw {T : Tw} {d : Ad} {σ σ' : ZS} {S : Nat → Prop} {k m : Nat} (h : CT T d σ) (hz : NS ≤ zt σ) (fr : ∀ a, zt σ ≤ a → zK σ a = (1000, 0)) (g : Gw S k m σ σ') (hs : ∀ a i, okA a → a < zt σ → gdK (kK NS σ a) → ¬ S (cd a i)) (h0 : ¬ S 2000000) : CT T d σ' := by
  have hz : 1239 ≤ zt σ := hz
  have L : ∀ a, okA a → gdK (kK NS σ a) → a < zt σ := fun a ha hk => by
    rcases ha with ha | ha
    · omega
    · rcases Nat.lt_or_ge a (zt σ) with l | l
      · exact l
      · rw [kK_dyn ha.1, fr a l] at hk; exact absurd rfl hk.1
  have eK : ∀ a, okA a → gdK (kK NS σ a) → kK NS σ' a = kK NS σ a := fun a ha hk => by
    have := L a ha hk
    unfold kK; rw [g.kk a this]
  have eP : ∀ a i, okA a → gdK (kK NS σ a) → kP NS σ' a i = kP NS σ a i := fun a i ha hk => by
    have l := L a ha hk
    unfold kP; rw [g.p a i l (hs a i ha l hk)]
  have eI : ∀ a i, okA a → gdK (kK NS σ a) → zI σ' a i = zI σ a i := fun a i ha hk => g.i a i (L a ha hk) (hs a i ha (L a ha hk) hk)
  have gt : gdK (kK NS σ d.tw) := by obtain ⟨m, e⟩ := h.kt; rw [e]; exact gd_1 (.inl rfl)
  have g5 : gdK (kK NS σ d.lf) := by rw [h.k5]; unfold gdK; decide
  have g6 : gdK (kK NS σ d.lt) := by rw [h.k6]; unfold gdK; decide
  have lst : ∀ {l e n ki : Nat} {ad : Nat → Nat}, (ki = 13 ∨ ki = 14 ∨ ki = 15) → LSt σ l e n ki ad → LSt σ' l e n ki ad := by
    rintro l e n ki ad hki hl
    have g1 : gdK (kK NS σ l) := by obtain ⟨m, e⟩ := hl.kl; rw [e]; exact gd_1 (.inr (.inl rfl))
    have g2 : gdK (kK NS σ e) := by obtain ⟨m, e, _⟩ := hl.ke; rw [e]; exact gd_1 (.inr (.inr (.inl rfl)))
    refine ⟨hl.ol, hl.oe, by rw [eK l hl.ol g1]; exact hl.kl, by rw [eI l 2 hl.ol g1]; exact hl.sz, by rw [eP l 1 hl.ol g1]; exact hl.pe, by rw [eK e hl.oe g2]; exact hl.ke, fun i hi => ?_⟩
    obtain ⟨a1, a2, m, a3⟩ := hl.pi i hi
    have g3 : gdK (kK NS σ (ad i)) := by rw [a3]; exact gd_1 (by omega)
    rw [eP e i hl.oe g2, eK _ a2 g3]
    exact ⟨a1, a2, m, a3⟩
  have oc : ∀ i, i < T.nc → okA (d.co i) ∧ gdK (kK NS σ (d.co i)) := fun i hi => by
    obtain ⟨a1, a2, m, a3⟩ := h.lc.pi i hi
    exact ⟨a2, by rw [a3]; exact gd_1 (by omega)⟩
  have os : ∀ i, i < T.ns → okA (d.so i) ∧ gdK (kK NS σ (d.so i)) := fun i hi => by
    obtain ⟨a1, a2, m, a3⟩ := h.ls.pi i hi
    exact ⟨a2, by rw [a3]; exact gd_1 (by omega)⟩
  have or' : ∀ i, i < T.nr → okA (d.ro i) ∧ gdK (kK NS σ (d.ro i)) := fun i hi => by
    obtain ⟨a1, a2, m, a3⟩ := h.lr.pi i hi
    exact ⟨a2, by rw [a3]; exact gd_1 (by omega)⟩
  exact ⟨h.wf, by rw [g.p 0 0 (by omega) h0]; exact h.pt, h.ot, by rw [eK _ h.ot gt]; exact h.kt, by rw [eP _ _ h.ot gt]; exact h.p0, by rw [eP _ _ h.ot gt]; exact h.p1, by rw [eP _ _ h.ot gt]; exact h.p2, by rw [eP _ _ h.ot gt]; exact h.p5, by rw [eP _ _ h.ot gt]; exact h.p6, by rw [eK _ h.o5 g5]; exact h.k5, by rw [eK _ h.o6 g6]; exact h.k6, h.o5, h.o6, lst (.inl rfl) h.lc, lst (.inr (.inl rfl)) h.ls, lst (.inr (.inr rfl)) h.lr, by rw [eI _ _ h.ot gt]; exact h.bx, by rw [eI _ _ h.ot gt]; exact h.nl, fun k hk => by rw [eI _ _ h.o5 g5]; exact h.lf k hk, fun k hk => by rw [eI _ _ h.o6 g6]; exact h.lt k hk, fun i hi => by rw [eI _ _ (oc i hi).1 (oc i hi).2]; exact h.cx i hi, fun i hi => by rw [eI _ _ (oc i hi).1 (oc i hi).2]; exact h.cy i hi, fun i hi => by rw [eI _ _ (os i hi).1 (os i hi).2]; exact h.sf i hi, fun i hi => by rw [eI _ _ (os i hi).1 (os i hi).2]; exact h.st i hi, fun i hi => by rw [eI _ _ (os i hi).1 (os i hi).2]; exact h.sl i hi, fun i hi => by rw [eI _ _ (os i hi).1 (os i hi).2]; exact h.so i hi, fun i hi => by rw [eI _ _ (or' i hi).1 (or' i hi).2]; exact h.rf i hi, fun i hi => by rw [eI _ _ (or' i hi).1 (or' i hi).2]; exact h.rt i hi, fun i hi => by rw [eI _ _ (or' i hi).1 (or' i hi).2]; exact h.rb i hi⟩
/-- time, signs, allowances, told, tape, images -/
abbrev WV : Type := Nat × (Nat → Nat → Int32) × (Nat → Nat → Int32) × Nat × (Nat → Int32)
abbrev VV : Type := WV × (Nat × (Nat → Int32)) × (Nat × (Nat → IV)) × Int32
def RO (k : Nat) (σ : ZS) : Prop := NS ≤ zt σ ∧ (∀ a, zt σ ≤ a → zK σ a = (1000, 0)) ∧ zt σ + 700 * k ≤ 150000 ∧ zn σ + 13000 * k ≤ 7900000
def CP (T : Tw) (d : Ad) (w : WV) (u : (Nat × (Nat → Int32)) × (Nat × (Nat → IV)) × Int32) (σ : ZS) : Prop := CT T d σ ∧ CS w.1 w.2.1 w.2.2.1 w.2.2.2.1 w.2.2.2.2 σ ∧ TpC u.1.1 u.1.2 σ ∧ IMC u.2.1.1 u.2.1.2 σ ∧ zI σ 0 3 = u.2.2
def MP (T : Tw) (w : WV) (u : (Nat × (Nat → Int32)) × (Nat × (Nat → IV)) × Int32) (σ : ZS) : Prop := MT T σ ∧ MS w.1 w.2.1 w.2.2.1 w.2.2.2.1 w.2.2.2.2 σ ∧ TpM u.1.1 u.1.2 σ ∧ IMM u.2.1.1 u.2.1.2 σ ∧ zI σ 44 3 = u.2.2
/-- what holds between two calls -/
def Iv (k : Nat) (σ : ZS) : Prop := ∃ T d w u, CP T d w u σ ∧ MP T w u σ ∧ Sf σ ∧ zI σ 44 54 = -1 ∧ (∀ i, i < u.1.1 → BY (u.1.2 i)) ∧ RO (2 * k) σ
/-- codes that the class's lasting state does not use -/
def noC (c : Nat) : Prop := 18 ≤ c ∧ (c < 1239 ∨ 200000 ≤ c) ∧ c ≠ 2000000 ∧ c ≠ 2000002 ∧ c ≠ 2000003 ∧ c ≠ 2000004
def noSf (c : Nat) : Prop := c ≠ 18 ∧ c ≠ 19 ∧ c ≠ 2000009 ∧ c ≠ 2000036
def noM (c : Nat) : Prop := noMT c ∧ noMH c ∧ c ≠ 1000028 ∧ c ≠ 1146 ∧ c ≠ 45 ∧ c ≠ 1000001 ∧ noIm c ∧ c ≠ 1000003
theorem CH.gwS {tm : Nat} {sg al : Nat → Nat → Int32} {σ σ' : ZS} {S : Nat → Prop} {k m : Nat} (h : CH tm sg al σ) (hz : NS ≤ zt σ) (g : Gw S k m σ σ') (hs : ∀ c, S c → c ≠ 12 ∧ c ≠ 13 ∧ c ≠ 14) : CH tm sg al σ' := by
  have hz : 1239 ≤ zt σ := hz
  exact ⟨h.1, by rw [g.i 12 3 (by omega) fun k => (hs _ k).1 rfl]; exact h.2.1, fun t ht s hs' => by rw [g.i 13 _ (by omega) fun k => (hs _ k).2.1 rfl]; exact h.2.2.1 t ht s hs', fun t ht s hs' => by rw [g.i 14 _ (by omega) fun k => (hs _ k).2.2 rfl]; exact h.2.2.2 t ht s hs'⟩
theorem TdC.gwS {nt : Nat} {td : Nat → Int32} {σ σ' : ZS} {S : Nat → Prop} {k m : Nat} (h : TdC nt td σ) (hz : NS ≤ zt σ) (g : Gw S k m σ σ') (hs : ∀ c, S c → c ≠ 12 ∧ c ≠ 15) : TdC nt td σ' := by
  have hz : 1239 ≤ zt σ := hz
  exact ⟨h.1, by rw [g.i 12 4 (by omega) fun k => (hs _ k).1 rfl]; exact h.2.1, fun i hi => by rw [g.i 15 _ (by omega) fun k => (hs _ k).2 rfl]; exact h.2.2 i hi⟩
theorem TpC.gwS {tp : Nat} {tb : Nat → Int32} {σ σ' : ZS} {S : Nat → Prop} {k m : Nat} (h : TpC tp tb σ) (hz : NS ≤ zt σ) (g : Gw S k m σ σ') (hs : ∀ c, S c → c ≠ 16 ∧ c ≠ 2000002) : TpC tp tb σ' := by
  have hz : 1239 ≤ zt σ := hz
  exact ⟨h.1, by rw [g.i 0 2 (by omega) fun k => (hs _ k).2 rfl]; exact h.2.1, fun i hi => by rw [g.i 16 _ (by omega) fun k => (hs _ k).1 rfl]; exact h.2.2 i hi⟩
theorem TdM.gwS {nt : Nat} {td : Nat → Int32} {σ σ' : ZS} {S : Nat → Prop} {k m : Nat} (h : TdM nt td σ) (hz : NS ≤ zt σ) (g : Gw S k m σ σ') (hs : ∀ c, S c → c ≠ 1000028 ∧ c ≠ 1146) : TdM nt td σ' := by
  have hz : 1239 ≤ zt σ := hz
  exact ⟨h.1, by rw [g.i 44 28 (by omega) fun k => (hs _ k).1 rfl]; exact h.2.1, fun i hi => by rw [g.i 1146 _ (by omega) fun k => (hs _ k).2 rfl]; exact h.2.2 i hi⟩
theorem TpM.gwS {tp : Nat} {tb : Nat → Int32} {σ σ' : ZS} {S : Nat → Prop} {k m : Nat} (h : TpM tp tb σ) (hz : NS ≤ zt σ) (g : Gw S k m σ σ') (hs : ∀ c, S c → c ≠ 45 ∧ c ≠ 1000001) : TpM tp tb σ' := by
  have hz : 1239 ≤ zt σ := hz
  exact ⟨h.1, by rw [g.i 44 1 (by omega) fun k => (hs _ k).2 rfl]; exact h.2.1, fun i hi => by rw [g.i 45 _ (by omega) fun k => (hs _ k).1 rfl]; exact h.2.2 i hi⟩
theorem Sf.gwS {σ σ' : ZS} {S : Nat → Prop} {k m : Nat} (h : Sf σ) (hz : NS ≤ zt σ) (g : Gw S k m σ σ') (hs : ∀ c, S c → noSf c) : Sf σ' := by
  have hz : 1239 ≤ zt σ := hz
  refine ⟨⟨?_, fun s hs' => ?_, fun s hs' => ?_⟩, ?_⟩
  · rw [g.i 0 9 (by omega) fun k => (hs _ k).2.2.1 rfl]; exact h.ov.ef
  · rw [g.i 18 s (by omega) fun k => (hs _ k).1 rfl]; exact h.ov.em s hs'
  · rw [g.i 19 s (by omega) fun k => (hs _ k).2.1 rfl]; exact h.ov.ee s hs'
  · rw [g.i 0 36 (by omega) fun k => (hs _ k).2.2.2 rfl]; exact h.bf
theorem CT.gwS {T : Tw} {d : Ad} {σ σ' : ZS} {S : Nat → Prop} {k m : Nat} (h : CT T d σ) {j : Nat} (ro : RO j σ) (g : Gw S k m σ σ') (hs : ∀ c, S c → 12 ≤ c ∧ (c < 1239 ∨ 200000 ≤ c) ∧ c ≠ 2000000) : CT T d σ' := by
  refine h.gw ro.1 ro.2.1 g (fun a i ha _ _ k => ?_) fun k => (hs _ k).2.2 rfl
  have := hs _ k
  unfold okA at ha
  unfold cd at this
  rw [if_neg (by omega), if_neg (by omega)] at this
  omega
theorem CP.gw {T : Tw} {d : Ad} {w : WV} {u : (Nat × (Nat → Int32)) × (Nat × (Nat → IV)) × Int32} {σ σ' : ZS} {S : Nat → Prop} {k m : Nat} (h : CP T d w u σ) {j : Nat} (ro : RO j σ) (g : Gw S k m σ σ') (hs : ∀ c, S c → noC c) : CP T d w u σ' := by
  have hz : 1239 ≤ zt σ := ro.1
  have hzb : zt σ ≤ 160000 := by have := ro.2.2.1; omega
  have hs' : ∀ c, S c → 18 ≤ c ∧ (c < 1239 ∨ 200000 ≤ c) ∧ c ≠ 2000000 ∧ c ≠ 2000002 ∧ c ≠ 2000003 ∧ c ≠ 2000004 := hs
  refine ⟨h.1.gwS ro g fun c hc => ?_, ⟨h.2.1.1.gwS ro.1 g fun c hc => ?_, h.2.1.2.gwS ro.1 g fun c hc => ?_⟩, h.2.2.1.gwS ro.1 g fun c hc => ?_, h.2.2.2.1.gw ro.1 hzb g fun c hc => ?_, ?_⟩
  · have := hs' c hc; omega
  · have := hs' c hc; omega
  · have := hs' c hc; omega
  · have := hs' c hc; omega
  · have := hs' c hc; unfold noI; omega
  · rw [g.i 0 3 (by omega) fun k => (hs' _ k).2.2.2.2.1 rfl]; exact h.2.2.2.2
theorem MP.gw {T : Tw} {w : WV} {u : (Nat × (Nat → Int32)) × (Nat × (Nat → IV)) × Int32} {σ σ' : ZS} {S : Nat → Prop} {k m : Nat} (h : MP T w u σ) (hz0 : NS ≤ zt σ) (g : Gw S k m σ σ') (hs : ∀ c, S c → noM c) : MP T w u σ' := by
  have hz : 1239 ≤ zt σ := hz0
  exact ⟨h.1.gw hz0 g fun c hc => (hs c hc).1, ⟨h.2.1.1.gw hz0 g fun c hc => (hs c hc).2.1, h.2.1.2.gwS hz0 g fun c hc => ⟨(hs c hc).2.2.1, (hs c hc).2.2.2.1⟩⟩, h.2.2.1.gwS hz0 g fun c hc => ⟨(hs c hc).2.2.2.2.1, (hs c hc).2.2.2.2.2.1⟩, h.2.2.2.1.gw hz0 g fun c hc => (hs c hc).2.2.2.2.2.2.1, by rw [g.i 44 3 (by omega) fun k => (hs _ k).2.2.2.2.2.2.2 rfl]; exact h.2.2.2.2⟩
theorem RO.gw {j a b : Nat} {σ σ' : ZS} {S : Nat → Prop} (h : RO (j + 1) σ) (g : Gw S a b σ σ') (ha : a ≤ 700) (hb : b ≤ 13000) : RO j σ' := by
  obtain ⟨h1, h2, h3, h4⟩ := h
  have t1 := g.t1; have t2 := g.t2; have n := g.n
  refine ⟨Nat.le_trans h1 t1, g.kf h2, by omega, by omega⟩
