/-! PURE HALF: a text is read: the class's reader. -/
set_option maxRecDepth 100000
theorem kK_dyn {σ : ZS} {a : Nat} (h : 1239 ≤ a) : kK NS σ a = zK σ a := by unfold kK; rw [if_neg (by show ¬ a < 1239; omega)]
theorem kP_dyn {σ : ZS} {a i : Nat} (h : 1239 ≤ a) : kP NS σ a i = zP σ a i := by unfold kP; rw [if_neg (by show ¬ a < 1239; omega)]
/-- a list, dynamic -/
def LS2 (σ : ZS) (l e n ki : Nat) (ad : Nat → Nat) : Prop := 1239 ≤ l ∧ 1239 ≤ e ∧ (∃ m, zK σ l = (16, m)) ∧ zI σ l 2 = nI n ∧ zP σ l 1 = some (.inl e) ∧ (∃ m, zK σ e = (6, m) ∧ n ≤ m ∧ 1 ≤ m ∧ m ≤ 64) ∧ ∀ i, i < n → zP σ e i = some (.inl (ad i)) ∧ 1239 ≤ ad i ∧ ∃ m, zK σ (ad i) = (ki, m)
/-- a kind that a reader's things have -/
def live (k : Nat × Nat) : Prop := k.1 = 0 ∨ k.1 = 6 ∨ k.1 = 8 ∨ k.1 = 11 ∨ k.1 = 13 ∨ k.1 = 14 ∨ k.1 = 15 ∨ k.1 = 16
/-- what is live stays -/
def Lv (σ σ' : ZS) : Prop := ∀ a, 1239 ≤ a → live (zK σ a) → (∀ i, zI σ' a i = zI σ a i) ∧ (∀ i, zP σ' a i = zP σ a i) ∧ zK σ' a = zK σ a
theorem LS2.lv {σ σ' : ZS} {l e n ki : Nat} {ad : Nat → Nat} (h : LS2 σ l e n ki ad) (hk : live (ki, 0)) (v : Lv σ σ') : LS2 σ' l e n ki ad := by
  obtain ⟨h1, h2, ⟨m1, h3⟩, h4, h5, ⟨m2, h6, h7⟩, h8⟩ := h
  have vl := v l h1 (by rw [h3]; unfold live; simp)
  have ve := v e h2 (by rw [h6]; unfold live; simp)
  refine ⟨h1, h2, ⟨m1, by rw [vl.2.2]; exact h3⟩, by rw [vl.1]; exact h4, by rw [vl.2.1]; exact h5, ⟨m2, by rw [ve.2.2]; exact h6, h7⟩, fun i hi => ?_⟩
  obtain ⟨a1, a2, m, a3⟩ := h8 i hi
  have va := v (ad i) a2 (by rw [a3]; exact hk)
  exact ⟨by rw [ve.2.1]; exact a1, a2, m, by rw [va.2.2]; exact a3⟩
abbrev RS (n : Nat) (tx : Nat → Int32) (R : Nat) (d : Ad) (d3 d4 : Nat) (P : PT) (σ : ZS) : Prop := (∀ a, zt σ ≤ a → zK σ a = (1000, 0)) ∧ (1239 ≤ zt σ) ∧ (zt σ ≤ 160000) ∧ (1239 ≤ R) ∧ (∃ m, zK σ R = (11, m)) ∧ (zP σ R 0 = some (.inl 16)) ∧ (zP σ R 4 = some (.inl d.tw)) ∧ (zI σ R 1 = nI n) ∧ (n ≤ 500) ∧ (∀ i, i < n → zI σ 16 i = tx i) ∧ (∀ i, i < n → BY (tx i)) ∧ (PW1 P) ∧ (1239 ≤ d.tw) ∧ (∃ m, zK σ d.tw = (8, m)) ∧ (zP σ d.tw 0 = some (.inl d.lc)) ∧ (zP σ d.tw 1 = some (.inl d.ls)) ∧ (zP σ d.tw 2 = some (.inl d.lr)) ∧ (zP σ d.tw 3 = some (.inl d3)) ∧ (zP σ d.tw 4 = some (.inl d4)) ∧ (zP σ d.tw 5 = some (.inl d.lf)) ∧ (zP σ d.tw 6 = some (.inl d.lt)) ∧ (1239 ≤ d3) ∧ (1239 ≤ d4) ∧ (1239 ≤ d.lf) ∧ (1239 ≤ d.lt) ∧ (zK σ d3 = (0, 24)) ∧ (zK σ d4 = (0, 24)) ∧ (zK σ d.lf = (0, 576)) ∧ (zK σ d.lt = (0, 576)) ∧ (d3 ≠ d4) ∧ (d.lf ≠ d.lt) ∧ (LS2 σ d.lc d.ec P.T.nc 13 d.co) ∧ (LS2 σ d.ls d.es P.T.ns 14 d.so) ∧ (LS2 σ d.lr d.er P.T.nr 15 d.ro) ∧ (d.lc ≠ d.ls) ∧ (d.lc ≠ d.lr) ∧ (d.ls ≠ d.lr) ∧ (d.ec ≠ d.es) ∧ (d.ec ≠ d.er) ∧ (d.es ≠ d.er) ∧ (∀ i j, i < P.T.ns → j < P.T.ns → d.so i = d.so j → i = j) ∧ (zI σ d.tw 7 = P.T.bx) ∧ (zI σ d.tw 8 = 0) ∧ (zI σ d.tw 9 = nI P.cl) ∧ (∀ s, s < 24 → zI σ d3 s = P.sg s) ∧ (∀ s, s < 24 → zI σ d4 s = P.al s) ∧ (∀ i, i < P.T.nc → zI σ (d.co i) 0 = P.T.cx i) ∧ (∀ i, i < P.T.nc → zI σ (d.co i) 1 = P.T.cy i) ∧ (∀ s, s < P.T.ns → zI σ (d.so s) 0 = nI (P.T.sf s)) ∧ (∀ s, s < P.T.ns → zI σ (d.so s) 1 = nI (P.T.st s)) ∧ (∀ s, s < P.T.ns → zI σ (d.so s) 2 = nI (P.T.sl s)) ∧ (∀ s, s < P.T.ns → zI σ (d.so s) 3 = b2i (P.T.so s)) ∧ (∀ r, r < P.T.nr → zI σ (d.ro r) 0 = nI (P.T.rf r)) ∧ (∀ r, r < P.T.nr → zI σ (d.ro r) 1 = nI (P.T.rt r)) ∧ (∀ r, r < P.T.nr → zI σ (d.ro r) 2 = nI (P.T.rb r))
theorem RS.fr {n : Nat} {tx : Nat → Int32} {R : Nat} {d : Ad} {d3 d4 : Nat} {P : PT} {σ : ZS} (h : RS n tx R d d3 d4 P σ) : ∀ a, zt σ ≤ a → zK σ a = (1000, 0) := h.1
theorem RS.nz {n : Nat} {tx : Nat → Int32} {R : Nat} {d : Ad} {d3 d4 : Nat} {P : PT} {σ : ZS} (h : RS n tx R d d3 d4 P σ) : 1239 ≤ zt σ := h.2.1
theorem RS.zb {n : Nat} {tx : Nat → Int32} {R : Nat} {d : Ad} {d3 d4 : Nat} {P : PT} {σ : ZS} (h : RS n tx R d d3 d4 P σ) : zt σ ≤ 160000 := h.2.2.1
theorem RS.oR {n : Nat} {tx : Nat → Int32} {R : Nat} {d : Ad} {d3 d4 : Nat} {P : PT} {σ : ZS} (h : RS n tx R d d3 d4 P σ) : 1239 ≤ R := h.2.2.2.1
theorem RS.kr {n : Nat} {tx : Nat → Int32} {R : Nat} {d : Ad} {d3 d4 : Nat} {P : PT} {σ : ZS} (h : RS n tx R d d3 d4 P σ) : ∃ m, zK σ R = (11, m) := h.2.2.2.2.1
theorem RS.r0 {n : Nat} {tx : Nat → Int32} {R : Nat} {d : Ad} {d3 d4 : Nat} {P : PT} {σ : ZS} (h : RS n tx R d d3 d4 P σ) : zP σ R 0 = some (.inl 16) := h.2.2.2.2.2.1
theorem RS.r4 {n : Nat} {tx : Nat → Int32} {R : Nat} {d : Ad} {d3 d4 : Nat} {P : PT} {σ : ZS} (h : RS n tx R d d3 d4 P σ) : zP σ R 4 = some (.inl d.tw) := h.2.2.2.2.2.2.1
theorem RS.r1 {n : Nat} {tx : Nat → Int32} {R : Nat} {d : Ad} {d3 d4 : Nat} {P : PT} {σ : ZS} (h : RS n tx R d d3 d4 P σ) : zI σ R 1 = nI n := h.2.2.2.2.2.2.2.1
theorem RS.hn {n : Nat} {tx : Nat → Int32} {R : Nat} {d : Ad} {d3 d4 : Nat} {P : PT} {σ : ZS} (h : RS n tx R d d3 d4 P σ) : n ≤ 500 := h.2.2.2.2.2.2.2.2.1
theorem RS.tp {n : Nat} {tx : Nat → Int32} {R : Nat} {d : Ad} {d3 d4 : Nat} {P : PT} {σ : ZS} (h : RS n tx R d d3 d4 P σ) : ∀ i, i < n → zI σ 16 i = tx i := h.2.2.2.2.2.2.2.2.2.1
theorem RS.by {n : Nat} {tx : Nat → Int32} {R : Nat} {d : Ad} {d3 d4 : Nat} {P : PT} {σ : ZS} (h : RS n tx R d d3 d4 P σ) : ∀ i, i < n → BY (tx i) := h.2.2.2.2.2.2.2.2.2.2.1
theorem RS.pw {n : Nat} {tx : Nat → Int32} {R : Nat} {d : Ad} {d3 d4 : Nat} {P : PT} {σ : ZS} (h : RS n tx R d d3 d4 P σ) : PW1 P := h.2.2.2.2.2.2.2.2.2.2.2.1
theorem RS.ot {n : Nat} {tx : Nat → Int32} {R : Nat} {d : Ad} {d3 d4 : Nat} {P : PT} {σ : ZS} (h : RS n tx R d d3 d4 P σ) : 1239 ≤ d.tw := h.2.2.2.2.2.2.2.2.2.2.2.2.1
theorem RS.kt {n : Nat} {tx : Nat → Int32} {R : Nat} {d : Ad} {d3 d4 : Nat} {P : PT} {σ : ZS} (h : RS n tx R d d3 d4 P σ) : ∃ m, zK σ d.tw = (8, m) := h.2.2.2.2.2.2.2.2.2.2.2.2.2.1
theorem RS.p0 {n : Nat} {tx : Nat → Int32} {R : Nat} {d : Ad} {d3 d4 : Nat} {P : PT} {σ : ZS} (h : RS n tx R d d3 d4 P σ) : zP σ d.tw 0 = some (.inl d.lc) := h.2.2.2.2.2.2.2.2.2.2.2.2.2.2.1
theorem RS.p1 {n : Nat} {tx : Nat → Int32} {R : Nat} {d : Ad} {d3 d4 : Nat} {P : PT} {σ : ZS} (h : RS n tx R d d3 d4 P σ) : zP σ d.tw 1 = some (.inl d.ls) := h.2.2.2.2.2.2.2.2.2.2.2.2.2.2.2.1
theorem RS.p2 {n : Nat} {tx : Nat → Int32} {R : Nat} {d : Ad} {d3 d4 : Nat} {P : PT} {σ : ZS} (h : RS n tx R d d3 d4 P σ) : zP σ d.tw 2 = some (.inl d.lr) := h.2.2.2.2.2.2.2.2.2.2.2.2.2.2.2.2.1
theorem RS.p3 {n : Nat} {tx : Nat → Int32} {R : Nat} {d : Ad} {d3 d4 : Nat} {P : PT} {σ : ZS} (h : RS n tx R d d3 d4 P σ) : zP σ d.tw 3 = some (.inl d3) := h.2.2.2.2.2.2.2.2.2.2.2.2.2.2.2.2.2.1
theorem RS.p4 {n : Nat} {tx : Nat → Int32} {R : Nat} {d : Ad} {d3 d4 : Nat} {P : PT} {σ : ZS} (h : RS n tx R d d3 d4 P σ) : zP σ d.tw 4 = some (.inl d4) := h.2.2.2.2.2.2.2.2.2.2.2.2.2.2.2.2.2.2.1
theorem RS.p5 {n : Nat} {tx : Nat → Int32} {R : Nat} {d : Ad} {d3 d4 : Nat} {P : PT} {σ : ZS} (h : RS n tx R d d3 d4 P σ) : zP σ d.tw 5 = some (.inl d.lf) := h.2.2.2.2.2.2.2.2.2.2.2.2.2.2.2.2.2.2.2.1
theorem RS.p6 {n : Nat} {tx : Nat → Int32} {R : Nat} {d : Ad} {d3 d4 : Nat} {P : PT} {σ : ZS} (h : RS n tx R d d3 d4 P σ) : zP σ d.tw 6 = some (.inl d.lt) := h.2.2.2.2.2.2.2.2.2.2.2.2.2.2.2.2.2.2.2.2.1
theorem RS.o3 {n : Nat} {tx : Nat → Int32} {R : Nat} {d : Ad} {d3 d4 : Nat} {P : PT} {σ : ZS} (h : RS n tx R d d3 d4 P σ) : 1239 ≤ d3 := h.2.2.2.2.2.2.2.2.2.2.2.2.2.2.2.2.2.2.2.2.2.1
theorem RS.o4 {n : Nat} {tx : Nat → Int32} {R : Nat} {d : Ad} {d3 d4 : Nat} {P : PT} {σ : ZS} (h : RS n tx R d d3 d4 P σ) : 1239 ≤ d4 := h.2.2.2.2.2.2.2.2.2.2.2.2.2.2.2.2.2.2.2.2.2.2.1
theorem RS.o5 {n : Nat} {tx : Nat → Int32} {R : Nat} {d : Ad} {d3 d4 : Nat} {P : PT} {σ : ZS} (h : RS n tx R d d3 d4 P σ) : 1239 ≤ d.lf := h.2.2.2.2.2.2.2.2.2.2.2.2.2.2.2.2.2.2.2.2.2.2.2.1
theorem RS.o6 {n : Nat} {tx : Nat → Int32} {R : Nat} {d : Ad} {d3 d4 : Nat} {P : PT} {σ : ZS} (h : RS n tx R d d3 d4 P σ) : 1239 ≤ d.lt := h.2.2.2.2.2.2.2.2.2.2.2.2.2.2.2.2.2.2.2.2.2.2.2.2.1
theorem RS.k3 {n : Nat} {tx : Nat → Int32} {R : Nat} {d : Ad} {d3 d4 : Nat} {P : PT} {σ : ZS} (h : RS n tx R d d3 d4 P σ) : zK σ d3 = (0, 24) := h.2.2.2.2.2.2.2.2.2.2.2.2.2.2.2.2.2.2.2.2.2.2.2.2.2.1
theorem RS.k4 {n : Nat} {tx : Nat → Int32} {R : Nat} {d : Ad} {d3 d4 : Nat} {P : PT} {σ : ZS} (h : RS n tx R d d3 d4 P σ) : zK σ d4 = (0, 24) := h.2.2.2.2.2.2.2.2.2.2.2.2.2.2.2.2.2.2.2.2.2.2.2.2.2.2.1
theorem RS.k5 {n : Nat} {tx : Nat → Int32} {R : Nat} {d : Ad} {d3 d4 : Nat} {P : PT} {σ : ZS} (h : RS n tx R d d3 d4 P σ) : zK σ d.lf = (0, 576) := h.2.2.2.2.2.2.2.2.2.2.2.2.2.2.2.2.2.2.2.2.2.2.2.2.2.2.2.1
theorem RS.k6 {n : Nat} {tx : Nat → Int32} {R : Nat} {d : Ad} {d3 d4 : Nat} {P : PT} {σ : ZS} (h : RS n tx R d d3 d4 P σ) : zK σ d.lt = (0, 576) := h.2.2.2.2.2.2.2.2.2.2.2.2.2.2.2.2.2.2.2.2.2.2.2.2.2.2.2.2.1
theorem RS.n34 {n : Nat} {tx : Nat → Int32} {R : Nat} {d : Ad} {d3 d4 : Nat} {P : PT} {σ : ZS} (h : RS n tx R d d3 d4 P σ) : d3 ≠ d4 := h.2.2.2.2.2.2.2.2.2.2.2.2.2.2.2.2.2.2.2.2.2.2.2.2.2.2.2.2.2.1
theorem RS.n56 {n : Nat} {tx : Nat → Int32} {R : Nat} {d : Ad} {d3 d4 : Nat} {P : PT} {σ : ZS} (h : RS n tx R d d3 d4 P σ) : d.lf ≠ d.lt := h.2.2.2.2.2.2.2.2.2.2.2.2.2.2.2.2.2.2.2.2.2.2.2.2.2.2.2.2.2.2.1
theorem RS.lc {n : Nat} {tx : Nat → Int32} {R : Nat} {d : Ad} {d3 d4 : Nat} {P : PT} {σ : ZS} (h : RS n tx R d d3 d4 P σ) : LS2 σ d.lc d.ec P.T.nc 13 d.co := h.2.2.2.2.2.2.2.2.2.2.2.2.2.2.2.2.2.2.2.2.2.2.2.2.2.2.2.2.2.2.2.1
theorem RS.ls {n : Nat} {tx : Nat → Int32} {R : Nat} {d : Ad} {d3 d4 : Nat} {P : PT} {σ : ZS} (h : RS n tx R d d3 d4 P σ) : LS2 σ d.ls d.es P.T.ns 14 d.so := h.2.2.2.2.2.2.2.2.2.2.2.2.2.2.2.2.2.2.2.2.2.2.2.2.2.2.2.2.2.2.2.2.1
theorem RS.lr {n : Nat} {tx : Nat → Int32} {R : Nat} {d : Ad} {d3 d4 : Nat} {P : PT} {σ : ZS} (h : RS n tx R d d3 d4 P σ) : LS2 σ d.lr d.er P.T.nr 15 d.ro := h.2.2.2.2.2.2.2.2.2.2.2.2.2.2.2.2.2.2.2.2.2.2.2.2.2.2.2.2.2.2.2.2.2.1
theorem RS.ncs {n : Nat} {tx : Nat → Int32} {R : Nat} {d : Ad} {d3 d4 : Nat} {P : PT} {σ : ZS} (h : RS n tx R d d3 d4 P σ) : d.lc ≠ d.ls := h.2.2.2.2.2.2.2.2.2.2.2.2.2.2.2.2.2.2.2.2.2.2.2.2.2.2.2.2.2.2.2.2.2.2.1
theorem RS.ncr {n : Nat} {tx : Nat → Int32} {R : Nat} {d : Ad} {d3 d4 : Nat} {P : PT} {σ : ZS} (h : RS n tx R d d3 d4 P σ) : d.lc ≠ d.lr := h.2.2.2.2.2.2.2.2.2.2.2.2.2.2.2.2.2.2.2.2.2.2.2.2.2.2.2.2.2.2.2.2.2.2.2.1
theorem RS.nsr {n : Nat} {tx : Nat → Int32} {R : Nat} {d : Ad} {d3 d4 : Nat} {P : PT} {σ : ZS} (h : RS n tx R d d3 d4 P σ) : d.ls ≠ d.lr := h.2.2.2.2.2.2.2.2.2.2.2.2.2.2.2.2.2.2.2.2.2.2.2.2.2.2.2.2.2.2.2.2.2.2.2.2.1
theorem RS.ecs {n : Nat} {tx : Nat → Int32} {R : Nat} {d : Ad} {d3 d4 : Nat} {P : PT} {σ : ZS} (h : RS n tx R d d3 d4 P σ) : d.ec ≠ d.es := h.2.2.2.2.2.2.2.2.2.2.2.2.2.2.2.2.2.2.2.2.2.2.2.2.2.2.2.2.2.2.2.2.2.2.2.2.2.1
theorem RS.ecr {n : Nat} {tx : Nat → Int32} {R : Nat} {d : Ad} {d3 d4 : Nat} {P : PT} {σ : ZS} (h : RS n tx R d d3 d4 P σ) : d.ec ≠ d.er := h.2.2.2.2.2.2.2.2.2.2.2.2.2.2.2.2.2.2.2.2.2.2.2.2.2.2.2.2.2.2.2.2.2.2.2.2.2.2.1
theorem RS.esr {n : Nat} {tx : Nat → Int32} {R : Nat} {d : Ad} {d3 d4 : Nat} {P : PT} {σ : ZS} (h : RS n tx R d d3 d4 P σ) : d.es ≠ d.er := h.2.2.2.2.2.2.2.2.2.2.2.2.2.2.2.2.2.2.2.2.2.2.2.2.2.2.2.2.2.2.2.2.2.2.2.2.2.2.2.1
theorem RS.si {n : Nat} {tx : Nat → Int32} {R : Nat} {d : Ad} {d3 d4 : Nat} {P : PT} {σ : ZS} (h : RS n tx R d d3 d4 P σ) : ∀ i j, i < P.T.ns → j < P.T.ns → d.so i = d.so j → i = j := h.2.2.2.2.2.2.2.2.2.2.2.2.2.2.2.2.2.2.2.2.2.2.2.2.2.2.2.2.2.2.2.2.2.2.2.2.2.2.2.2.1
theorem RS.bx {n : Nat} {tx : Nat → Int32} {R : Nat} {d : Ad} {d3 d4 : Nat} {P : PT} {σ : ZS} (h : RS n tx R d d3 d4 P σ) : zI σ d.tw 7 = P.T.bx := h.2.2.2.2.2.2.2.2.2.2.2.2.2.2.2.2.2.2.2.2.2.2.2.2.2.2.2.2.2.2.2.2.2.2.2.2.2.2.2.2.2.1
theorem RS.nl {n : Nat} {tx : Nat → Int32} {R : Nat} {d : Ad} {d3 d4 : Nat} {P : PT} {σ : ZS} (h : RS n tx R d d3 d4 P σ) : zI σ d.tw 8 = 0 := h.2.2.2.2.2.2.2.2.2.2.2.2.2.2.2.2.2.2.2.2.2.2.2.2.2.2.2.2.2.2.2.2.2.2.2.2.2.2.2.2.2.2.1
theorem RS.cl {n : Nat} {tx : Nat → Int32} {R : Nat} {d : Ad} {d3 d4 : Nat} {P : PT} {σ : ZS} (h : RS n tx R d d3 d4 P σ) : zI σ d.tw 9 = nI P.cl := h.2.2.2.2.2.2.2.2.2.2.2.2.2.2.2.2.2.2.2.2.2.2.2.2.2.2.2.2.2.2.2.2.2.2.2.2.2.2.2.2.2.2.2.1
theorem RS.sg {n : Nat} {tx : Nat → Int32} {R : Nat} {d : Ad} {d3 d4 : Nat} {P : PT} {σ : ZS} (h : RS n tx R d d3 d4 P σ) : ∀ s, s < 24 → zI σ d3 s = P.sg s := h.2.2.2.2.2.2.2.2.2.2.2.2.2.2.2.2.2.2.2.2.2.2.2.2.2.2.2.2.2.2.2.2.2.2.2.2.2.2.2.2.2.2.2.2.1
theorem RS.al {n : Nat} {tx : Nat → Int32} {R : Nat} {d : Ad} {d3 d4 : Nat} {P : PT} {σ : ZS} (h : RS n tx R d d3 d4 P σ) : ∀ s, s < 24 → zI σ d4 s = P.al s := h.2.2.2.2.2.2.2.2.2.2.2.2.2.2.2.2.2.2.2.2.2.2.2.2.2.2.2.2.2.2.2.2.2.2.2.2.2.2.2.2.2.2.2.2.2.1
theorem RS.cx {n : Nat} {tx : Nat → Int32} {R : Nat} {d : Ad} {d3 d4 : Nat} {P : PT} {σ : ZS} (h : RS n tx R d d3 d4 P σ) : ∀ i, i < P.T.nc → zI σ (d.co i) 0 = P.T.cx i := h.2.2.2.2.2.2.2.2.2.2.2.2.2.2.2.2.2.2.2.2.2.2.2.2.2.2.2.2.2.2.2.2.2.2.2.2.2.2.2.2.2.2.2.2.2.2.1
theorem RS.cy {n : Nat} {tx : Nat → Int32} {R : Nat} {d : Ad} {d3 d4 : Nat} {P : PT} {σ : ZS} (h : RS n tx R d d3 d4 P σ) : ∀ i, i < P.T.nc → zI σ (d.co i) 1 = P.T.cy i := h.2.2.2.2.2.2.2.2.2.2.2.2.2.2.2.2.2.2.2.2.2.2.2.2.2.2.2.2.2.2.2.2.2.2.2.2.2.2.2.2.2.2.2.2.2.2.2.1
theorem RS.sf {n : Nat} {tx : Nat → Int32} {R : Nat} {d : Ad} {d3 d4 : Nat} {P : PT} {σ : ZS} (h : RS n tx R d d3 d4 P σ) : ∀ s, s < P.T.ns → zI σ (d.so s) 0 = nI (P.T.sf s) := h.2.2.2.2.2.2.2.2.2.2.2.2.2.2.2.2.2.2.2.2.2.2.2.2.2.2.2.2.2.2.2.2.2.2.2.2.2.2.2.2.2.2.2.2.2.2.2.2.1
theorem RS.st {n : Nat} {tx : Nat → Int32} {R : Nat} {d : Ad} {d3 d4 : Nat} {P : PT} {σ : ZS} (h : RS n tx R d d3 d4 P σ) : ∀ s, s < P.T.ns → zI σ (d.so s) 1 = nI (P.T.st s) := h.2.2.2.2.2.2.2.2.2.2.2.2.2.2.2.2.2.2.2.2.2.2.2.2.2.2.2.2.2.2.2.2.2.2.2.2.2.2.2.2.2.2.2.2.2.2.2.2.2.1
theorem RS.sl {n : Nat} {tx : Nat → Int32} {R : Nat} {d : Ad} {d3 d4 : Nat} {P : PT} {σ : ZS} (h : RS n tx R d d3 d4 P σ) : ∀ s, s < P.T.ns → zI σ (d.so s) 2 = nI (P.T.sl s) := h.2.2.2.2.2.2.2.2.2.2.2.2.2.2.2.2.2.2.2.2.2.2.2.2.2.2.2.2.2.2.2.2.2.2.2.2.2.2.2.2.2.2.2.2.2.2.2.2.2.2.1
theorem RS.so {n : Nat} {tx : Nat → Int32} {R : Nat} {d : Ad} {d3 d4 : Nat} {P : PT} {σ : ZS} (h : RS n tx R d d3 d4 P σ) : ∀ s, s < P.T.ns → zI σ (d.so s) 3 = b2i (P.T.so s) := h.2.2.2.2.2.2.2.2.2.2.2.2.2.2.2.2.2.2.2.2.2.2.2.2.2.2.2.2.2.2.2.2.2.2.2.2.2.2.2.2.2.2.2.2.2.2.2.2.2.2.2.1
theorem RS.rf {n : Nat} {tx : Nat → Int32} {R : Nat} {d : Ad} {d3 d4 : Nat} {P : PT} {σ : ZS} (h : RS n tx R d d3 d4 P σ) : ∀ r, r < P.T.nr → zI σ (d.ro r) 0 = nI (P.T.rf r) := h.2.2.2.2.2.2.2.2.2.2.2.2.2.2.2.2.2.2.2.2.2.2.2.2.2.2.2.2.2.2.2.2.2.2.2.2.2.2.2.2.2.2.2.2.2.2.2.2.2.2.2.2.1
theorem RS.rt {n : Nat} {tx : Nat → Int32} {R : Nat} {d : Ad} {d3 d4 : Nat} {P : PT} {σ : ZS} (h : RS n tx R d d3 d4 P σ) : ∀ r, r < P.T.nr → zI σ (d.ro r) 1 = nI (P.T.rt r) := h.2.2.2.2.2.2.2.2.2.2.2.2.2.2.2.2.2.2.2.2.2.2.2.2.2.2.2.2.2.2.2.2.2.2.2.2.2.2.2.2.2.2.2.2.2.2.2.2.2.2.2.2.2.1
theorem RS.rb {n : Nat} {tx : Nat → Int32} {R : Nat} {d : Ad} {d3 d4 : Nat} {P : PT} {σ : ZS} (h : RS n tx R d d3 d4 P σ) : ∀ r, r < P.T.nr → zI σ (d.ro r) 2 = nI (P.T.rb r) := h.2.2.2.2.2.2.2.2.2.2.2.2.2.2.2.2.2.2.2.2.2.2.2.2.2.2.2.2.2.2.2.2.2.2.2.2.2.2.2.2.2.2.2.2.2.2.2.2.2.2.2.2.2.2
theorem RS.ag {n : Nat} {tx : Nat → Int32} {R : Nat} {d : Ad} {d3 d4 : Nat} {P : PT} {σ σ' : ZS} (h : RS n tx R d d3 d4 P σ) (v : Lv σ σ') (ht : ∀ i, zI σ' 16 i = zI σ 16 i) (hf : ∀ a, zt σ' ≤ a → zK σ' a = (1000, 0)) (hz : zt σ ≤ zt σ') (hb : zt σ' ≤ 160000) : RS n tx R d d3 d4 P σ' := by
  obtain ⟨mr, kr⟩ := h.kr
  obtain ⟨mt, kt⟩ := h.kt
  have vR := v R h.oR (by rw [kr]; unfold live; simp)
  have vt := v d.tw h.ot (by rw [kt]; unfold live; simp)
  have v3 := v d3 h.o3 (by rw [h.k3]; unfold live; simp)
  have v4 := v d4 h.o4 (by rw [h.k4]; unfold live; simp)
  have v5 := v d.lf h.o5 (by rw [h.k5]; unfold live; simp)
  have v6 := v d.lt h.o6 (by rw [h.k6]; unfold live; simp)
  have vc : ∀ i, i < P.T.nc → ∀ j, zI σ' (d.co i) j = zI σ (d.co i) j := fun i hi j => by
    obtain ⟨-, a2, m, a3⟩ := h.lc.2.2.2.2.2.2 i hi
    exact (v _ a2 (by rw [a3]; unfold live; simp)).1 j
  have vs : ∀ i, i < P.T.ns → ∀ j, zI σ' (d.so i) j = zI σ (d.so i) j := fun i hi j => by
    obtain ⟨-, a2, m, a3⟩ := h.ls.2.2.2.2.2.2 i hi
    exact (v _ a2 (by rw [a3]; unfold live; simp)).1 j
  have vr : ∀ i, i < P.T.nr → ∀ j, zI σ' (d.ro i) j = zI σ (d.ro i) j := fun i hi j => by
    obtain ⟨-, a2, m, a3⟩ := h.lr.2.2.2.2.2.2 i hi
    exact (v _ a2 (by rw [a3]; unfold live; simp)).1 j
  exact ⟨hf, by have := h.nz; omega, hb, h.oR, ⟨mr, by rw [vR.2.2]; exact kr⟩, by rw [vR.2.1]; exact h.r0, by rw [vR.2.1]; exact h.r4, by rw [vR.1]; exact h.r1, h.hn, fun i hi => by rw [ht]; exact h.tp i hi, h.by, h.pw, h.ot, ⟨mt, by rw [vt.2.2]; exact kt⟩,
    by rw [vt.2.1]; exact h.p0, by rw [vt.2.1]; exact h.p1, by rw [vt.2.1]; exact h.p2, by rw [vt.2.1]; exact h.p3, by rw [vt.2.1]; exact h.p4, by rw [vt.2.1]; exact h.p5, by rw [vt.2.1]; exact h.p6, h.o3, h.o4, h.o5, h.o6,
    by rw [v3.2.2]; exact h.k3, by rw [v4.2.2]; exact h.k4, by rw [v5.2.2]; exact h.k5, by rw [v6.2.2]; exact h.k6, h.n34, h.n56, h.lc.lv (by unfold live; simp) v, h.ls.lv (by unfold live; simp) v, h.lr.lv (by unfold live; simp) v, h.ncs, h.ncr, h.nsr, h.ecs, h.ecr, h.esr, h.si,
    by rw [vt.1]; exact h.bx, by rw [vt.1]; exact h.nl, by rw [vt.1]; exact h.cl, fun s hs => by rw [v3.1]; exact h.sg s hs, fun s hs => by rw [v4.1]; exact h.al s hs,
    fun i hi => by rw [vc i hi]; exact h.cx i hi, fun i hi => by rw [vc i hi]; exact h.cy i hi, fun i hi => by rw [vs i hi]; exact h.sf i hi, fun i hi => by rw [vs i hi]; exact h.st i hi, fun i hi => by rw [vs i hi]; exact h.sl i hi, fun i hi => by rw [vs i hi]; exact h.so i hi,
    fun i hi => by rw [vr i hi]; exact h.rf i hi, fun i hi => by rw [vr i hi]; exact h.rt i hi, fun i hi => by rw [vr i hi]; exact h.rb i hi⟩
theorem RS.lt {n : Nat} {tx : Nat → Int32} {R : Nat} {d : Ad} {d3 d4 : Nat} {P : PT} {σ : ZS} (h : RS n tx R d d3 d4 P σ) {a : Nat} (hk : (zK σ a).1 ≠ 1000) : a < zt σ := by
  rcases Nat.lt_or_ge a (zt σ) with l | l
  · exact l
  · rw [h.fr a l] at hk; exact absurd rfl hk
/-- one of the reader's own fields is set -/
theorem RS.setR {n : Nat} {tx : Nat → Int32} {R : Nat} {d : Ad} {d3 d4 : Nat} {P : PT} {σ : ZS} (h : RS n tx R d d3 d4 P σ) {j : Nat} (hj : j ≠ 1) (x : Int32) : RS n tx R d d3 d4 P (sI σ R j x) := by
  obtain ⟨mr, kr⟩ := h.kr
  have ne : ∀ a, (zK σ a).1 ≠ 11 → ∀ i, zI (sI σ R j x) a i = zI σ a i := fun a ha i => zI_ne _ (.inl (by rintro rfl; rw [kr] at ha; exact ha rfl))
  obtain ⟨mt, kt⟩ := h.kt
  have lsq : ∀ {l e m ki : Nat} {ad : Nat → Nat}, LS2 σ l e m ki ad → LS2 (sI σ R j x) l e m ki ad := by
    rintro l e m ki ad ⟨h1, h2, ⟨m1, h3⟩, h4, h5⟩
    exact ⟨h1, h2, ⟨m1, h3⟩, by rw [ne l (by rw [h3]; simp)]; exact h4, h5⟩
  have vt := ne d.tw (by rw [kt]; simp)
  have vc : ∀ i, i < P.T.nc → ∀ j', zI (sI σ R j x) (d.co i) j' = zI σ (d.co i) j' := fun i hi j' => by
    obtain ⟨-, a2, m, a3⟩ := h.lc.2.2.2.2.2.2 i hi
    exact ne _ (by rw [a3]; simp) j'
  have vs : ∀ i, i < P.T.ns → ∀ j', zI (sI σ R j x) (d.so i) j' = zI σ (d.so i) j' := fun i hi j' => by
    obtain ⟨-, a2, m, a3⟩ := h.ls.2.2.2.2.2.2 i hi
    exact ne _ (by rw [a3]; simp) j'
  have vr : ∀ i, i < P.T.nr → ∀ j', zI (sI σ R j x) (d.ro i) j' = zI σ (d.ro i) j' := fun i hi j' => by
    obtain ⟨-, a2, m, a3⟩ := h.lr.2.2.2.2.2.2 i hi
    exact ne _ (by rw [a3]; simp) j'
  have oR := h.oR
  exact ⟨h.fr, h.nz, h.zb, h.oR, h.kr, h.r0, h.r4, by rw [zI_ne _ (.inr (Ne.symm hj))]; exact h.r1, h.hn, fun i hi => by rw [zI_ne _ (.inl (by omega))]; exact h.tp i hi, h.by, h.pw, h.ot, h.kt,
    h.p0, h.p1, h.p2, h.p3, h.p4, h.p5, h.p6, h.o3, h.o4, h.o5, h.o6, h.k3, h.k4, h.k5, h.k6, h.n34, h.n56, lsq h.lc, lsq h.ls, lsq h.lr, h.ncs, h.ncr, h.nsr, h.ecs, h.ecr, h.esr, h.si,
    by rw [vt]; exact h.bx, by rw [vt]; exact h.nl, by rw [vt]; exact h.cl, fun s hs => by rw [ne d3 (by rw [h.k3]; decide)]; exact h.sg s hs, fun s hs => by rw [ne d4 (by rw [h.k4]; decide)]; exact h.al s hs,
    fun i hi => by rw [vc i hi]; exact h.cx i hi, fun i hi => by rw [vc i hi]; exact h.cy i hi, fun i hi => by rw [vs i hi]; exact h.sf i hi, fun i hi => by rw [vs i hi]; exact h.st i hi, fun i hi => by rw [vs i hi]; exact h.sl i hi, fun i hi => by rw [vs i hi]; exact h.so i hi,
    fun i hi => by rw [vr i hi]; exact h.rf i hi, fun i hi => by rw [vr i hi]; exact h.rt i hi, fun i hi => by rw [vr i hi]; exact h.rb i hi⟩
theorem sI_sI (σ : ZS) (a i : Nat) (x y : Int32) : sI (sI σ a i x) a i y = sI σ a i y := by
  have : (fun b j => if b = a ∧ j = i then y else (if b = a ∧ j = i then x else σ.1 b j)) = fun b j => if b = a ∧ j = i then y else σ.1 b j := by
    funext b j; split <;> rfl
  show (_, _) = (_, _)
  exact congrArg (·, σ.2) this
theorem sI_id {σ : ZS} {a i : Nat} {x : Int32} (h : zI σ a i = x) : sI σ a i x = σ := by
  subst h
  have : (fun b j => if b = a ∧ j = i then σ.1 a i else σ.1 b j) = σ.1 := by
    funext b j; split
    · rename_i k; rw [k.1, k.2]
    · rfl
  show (_, _) = _
  exact congrArg (·, σ.2) this
/-- places from B on may change -/
def inD (B c : Nat) : Prop := B ≤ c ∧ c < 1000000
theorem inD_cd {B a i : Nat} (h : B ≤ a) (h2 : a < 1000000) (h3 : 1239 ≤ B) : inD B (cd a i) := by unfold inD cd; rw [if_neg (by omega), if_neg (by omega)]; exact ⟨h, h2⟩
theorem RS.k11 {n : Nat} {tx : Nat → Int32} {R : Nat} {d : Ad} {d3 d4 : Nat} {P : PT} {σ : ZS} (h : RS n tx R d d3 d4 P σ) : ∃ m, kK NS σ R = (11, m) := by rw [kK_dyn h.oR]; exact h.kr
theorem RS.r0' {n : Nat} {tx : Nat → Int32} {R : Nat} {d : Ad} {d3 d4 : Nat} {P : PT} {σ : ZS} (h : RS n tx R d d3 d4 P σ) : kP NS σ R 0 = some (.inl 16) := by rw [kP_dyn h.oR]; exact h.r0
theorem RS.r4' {n : Nat} {tx : Nat → Int32} {R : Nat} {d : Ad} {d3 d4 : Nat} {P : PT} {σ : ZS} (h : RS n tx R d d3 d4 P σ) : kP NS σ R 4 = some (.inl d.tw) := by rw [kP_dyn h.oR]; exact h.r4
theorem k16 (σ : ZS) : kK NS σ 16 = (2, 500) := rfl
theorem RS.at {n : Nat} {tx : Nat → Int32} {R : Nat} {d : Ad} {d3 d4 : Nat} {P : PT} {σ : ZS} (h : RS n tx R d d3 d4 P σ) {k : Nat} (hk : k < n) : zI σ 16 (ix (nI k)) = tx k ∧ BY (tx k) ∧ ch n tx k = bV (tx k) := by
  have := h.hn
  rw [ix_nI (by omega)]
  exact ⟨h.tp k hk, h.by k hk, by unfold ch; rw [if_pos hk]⟩
theorem BY.eq {x : Int32} (h : BY x) {c : Nat} (hc : c < 128) : (x = nI c) = (bV x = c) := by
  obtain ⟨h1, h2, h3, h4⟩ := h.v
  apply propext
  constructor
  · intro e
    rcases Nat.lt_or_ge (bV x) 128 with l | l
    · rw [h3 l] at e; exact (nI_eq (by omega) (by omega)).mp e
    · have h5 := h4 l; rw [e] at h5; exact absurd h5 (nI_pos (by omega))
  · intro e; rw [h3 (by omega), e]
/-- the next sign -/
theorem c_sign {n : Nat} {tx : Nat → Int32} {R : Nat} {d : Ad} {d3 d4 : Nat} {P : PT} {σ : ZS} (h : RS n tx R d d3 d4 P σ) {k : Nat} (hk : k ≤ n) (e2 : zI σ R 2 = nI k) {Ret : Int32 → ZS → Prop} (hr : Ret (if sk n tx k < n then tx (sk n tx k) else 0) (sI σ R 2 (nI (sk n tx k)))) : wp_X5_sign σ R Ret := by
  unfold wp_X5_sign
  have hn := h.hn
  refine lp1 (fun m s => VL_X5_sign_0 Ret m s R) (fun s => ∃ p, k ≤ p ∧ p ≤ n ∧ s = sI σ R 2 (nI p) ∧ ∀ j, k ≤ j → j < p → ch n tx j = 32) (fun s => n - ix (zI s R 2)) ?_ σ ⟨k, Nat.le_refl _, hk, (sI_id e2).symm, fun j h1 h2 => by omega⟩
  rintro m s ⟨p, h1, h2, rfl, h3⟩ ih
  have hs := h.setR (j := 2) (by decide) (nI p)
  have k11 := hs.k11
  have e1 : zI (sI σ R 2 (nI p)) R 1 = nI n := hs.r1
  simp only [VL_X5_sign_0]
  rw [zI_self, e1, hs.r0', zo_in, nI_ltI (by omega) (by omega)]
  have fin : ch n tx p ≠ 32 → V_X5_sign_38 Ret (sI σ R 2 (nI p)) R := by
    intro hc
    have ep := sk_eq h1 hc h3
    rw [ep] at hr
    unfold V_X5_sign_38
    rw [zI_self, e1, hs.r0', zo_in, nI_ltI (by omega) (by omega)]
    refine ⟨k11, k11, fun l => ⟨k11, rfl, k11, 500, k16 _, vin (by omega) (by decide), ?_⟩, fun l => by rw [if_neg l] at hr; exact hr⟩
    rw [(hs.at l).1]; rw [if_pos l] at hr; exact hr
  refine ⟨k11, k11, fun l => ⟨k11, rfl, k11, 500, k16 _, vin (by omega) (by decide), ?_⟩, fun l => fin (by rw [ch_out (by omega)]; decide)⟩
  obtain ⟨a1, a2, a3⟩ := hs.at l
  rw [a1, show (32 : Int32) = nI 32 from rfl, a2.eq (by decide)]
  refine ⟨fun e => ⟨k11, k11, nm_e ?_⟩, fun e => fin (by rw [a3]; exact e)⟩
  rw [nI1, sI_sI]
  refine ih _ ⟨p + 1, by omega, by omega, rfl, fun j hj1 hj2 => ?_⟩ ?_
  · by_cases e3 : j = p
    · rw [e3, a3]; exact e
    · exact h3 j hj1 (by omega)
  · show n - ix (zI (sI σ R 2 (nI (p + 1))) R 2) < n - ix (zI (sI σ R 2 (nI p)) R 2)
    rw [zI_self, zI_self, ix_nI (by omega), ix_nI (by omega)]; omega
/-! faults -/
def EX (B k m : Nat) (σ : ZS) (e : Nat × Nat) (x : Nat) (σ' : ZS) : Prop := (∃ q, kK NS σ' x = (12, q)) ∧ zI σ' x 6 = nI e.1 ∧ zI σ' x 7 = nI e.2 ∧ Gw (inD B) k m σ σ'
theorem EX.mono {B k m k' m' : Nat} {σ : ZS} {e : Nat × Nat} {x : Nat} {σ' : ZS} (h : EX B k m σ e x σ') (hk : k ≤ k') (hm : m ≤ m') : EX B k' m' σ e x σ' := ⟨h.1, h.2.1, h.2.2.1, h.2.2.2.mono (fun _ q => q) hk hm⟩
theorem EX.tr {B k m k' m' : Nat} {σ s : ZS} {e : Nat × Nat} {x : Nat} {σ' : ZS} (g : Gw (inD B) k m σ s) (h : EX B k' m' s e x σ') : EX B (k + k') (m + m') σ e x σ' := ⟨h.1, h.2.1, h.2.2.1, g.trans h.2.2.2⟩
theorem gw_sI {B : Nat} {σ : ZS} {a i : Nat} {x : Int32} (h : B ≤ a) (h2 : a < 1000000) (h3 : 1239 ≤ B) : Gw (inD B) 0 0 σ (sI σ a i x) := (Fr.rfl.sI a i x (inD_cd h h2 h3)).gw
theorem sP_gw {B : Nat} {σ : ZS} {a i : Nat} {x : ZR} (h : B ≤ a) (h2 : a < 1000000) (h3 : 1239 ≤ B) : Gw (inD B) 0 0 σ (sP σ a i x) := by
  refine ⟨fun _ _ _ _ => rfl, fun _ _ _ _ => rfl, fun b j _ hn => ?_, fun _ _ => rfl, Nat.le_refl _, Nat.le_refl _, Nat.le_refl _, fun k a ha => k a ha⟩
  show (if b = a ∧ j = i then x else zP σ b j) = zP σ b j
  rw [if_neg]
  rintro ⟨rfl, -⟩
  exact hn (inD_cd h h2 h3)
theorem qP_sP (σ : ZS) (a i : Nat) (x : ZR) (b j : Nat) : zP (sP σ a i x) b j = if b = a ∧ j = i then x else zP σ b j := rfl
theorem zP_self (σ : ZS) (a i : Nat) (x : ZR) : zP (sP σ a i x) a i = x := by rw [qP_sP, if_pos ⟨rfl, rfl⟩]
theorem zP_ne (σ : ZS) {a i : Nat} {x : ZR} {b j : Nat} (h : b ≠ a ∨ j ≠ i) : zP (sP σ a i x) b j = zP σ b j := by
  rw [qP_sP, if_neg]; rintro ⟨h1, h2⟩; rcases h with h | h
  · exact h h1
  · exact h h2
/-- a new fault of a text -/
theorem c_X6 {σ : ZS} {x : Nat} (hx : 1239 ≤ x) (kx : ∃ q, zK σ x = (12, q)) {a b : Int32} {Ret : ZS → Prop} (hr : ∀ σ', (∀ c i, c ≠ x → zI σ' c i = zI σ c i) → (∀ c i, zJ σ' c i = zJ σ c i) → (∀ c i, c ≠ x → zP σ' c i = zP σ c i) → σ'.2.2.2 = σ.2.2.2 → zI σ' x 6 = a → zI σ' x 7 = b → Ret σ') : wp_X6_init σ x a b Ret := by
  unfold wp_X6_init wp_J4_init_3 wp_J3_init_3
  have kd : ∀ s : ZS, s.2.2.2 = σ.2.2.2 → ∃ q, kK NS s x = (12, q) := fun s e => by
    rw [kK_dyn hx]; unfold zK; rw [e]; exact kx
  refine ⟨kd _ rfl, hx, nm_e fun r1 _ => ⟨kd _ rfl, hx, nm_e fun r2 _ => ⟨kd _ rfl, hx, nm_e (br_t rfl ⟨kd _ rfl, hx, nm_e ?_⟩)⟩⟩⟩
  unfold V_J3_init_3_41
  refine ⟨kd _ rfl, hx, nm_e ⟨kd _ rfl, hx, nm_e (br_t rfl ⟨kd _ rfl, hx, nm_e ⟨kd _ rfl, nm_e ⟨kd _ rfl, nm_e (hr _ ?_ ?_ ?_ rfl ?_ ?_)⟩⟩⟩)⟩⟩
  · intro c i hc; rw [zI_ne _ (.inl hc), zI_ne _ (.inl hc)]; rfl
  · intro c i; rfl
  · intro c i hc
    show zP (sP (sP (sP (sP (sP (sP (sP σ x 0 _) x 1 _) x 2 _) x 1 _) x 3 _) x 0 _) x 2 _) c i = _
    rw [zP_ne _ (.inl hc), zP_ne _ (.inl hc), zP_ne _ (.inl hc), zP_ne _ (.inl hc), zP_ne _ (.inl hc), zP_ne _ (.inl hc), zP_ne _ (.inl hc)]
  · rw [zI_ne _ (.inr (by decide)), zI_self]
  · rw [zI_self]
theorem c_newW {n : Nat} {tx : Nat → Int32} {R : Nat} {d : Ad} {d3 d4 : Nat} {P : PT} {σ s : ZS} {B k m : Nat} (g : Gw (inD B) k m σ s) (hs : RS n tx R d d3 d4 P s) (hB : B ≤ R) (rm : zt s + 1 ≤ 160000 ∧ zn s + 8 ≤ 8000000) {j pl kd : Nat} (hp : zI s R j = nI pl) {Thr : Nat → ZS → Prop} (ht : ∀ x σ', EX B (k + 1) (m + 8) σ (kd, pl) x σ' → Thr x σ') : (NS ≤ zt s ∧ zt s + 1 ≤ NB ∧ zn s + 8 ≤ SB) ∧ (∀ σ2 : ZS, σ2 = sA s (12, 0) 8 → ((∃ n4, kK NS σ2 R = (11, n4)) ∧ (wp_X6_init σ2 (zt s) (nI kd) (zI σ2 R j) (fun σ6 => Thr (zt s) σ6)))) := by
  have hz := hs.nz
  have hRl : R < zt s := by obtain ⟨q, hq⟩ := hs.kr; exact hs.lt (by rw [hq]; simp)
  refine ⟨⟨hz, rm.1, rm.2⟩, nm_e ⟨?_, ?_⟩⟩
  · obtain ⟨q, hq⟩ := hs.kr
    exact ⟨q, by rw [kK_dyn hs.oR, qK_sA, if_neg (by omega)]; exact hq⟩
  · rw [qI_sA, if_neg (by omega), hp]
    refine c_X6 hz ⟨0, by rw [qK_sA, if_pos rfl]⟩ fun σ' i1 i2 i3 i4 i5 i6 => ht _ _ ⟨⟨0, ?_⟩, i5, i6, ?_⟩
    · rw [kK_dyn hz]; unfold zK; rw [i4]; show zK (sA s (12, 0) 8) (zt s) = _; rw [qK_sA, if_pos rfl]
    · refine g.trans ⟨fun a i ha _ => ?_, fun a i ha _ => ?_, fun a i ha _ => ?_, fun a ha => ?_, ?_, ?_, ?_, fun kf a ha => ?_⟩
      · rw [i1 a i (by omega), qI_sA, if_neg (by omega)]
      · rw [i2 a i, qJ_sA, if_neg (by omega)]
      · rw [i3 a i (by omega), qP_sA, if_neg (by omega)]
      · have : zK σ' a = zK (sA s (12, 0) 8) a := by unfold zK; rw [i4]
        rw [this, qK_sA, if_neg (by omega)]
      · have : zt σ' = zt (sA s (12, 0) 8) := by unfold zt; rw [i4]
        rw [this, zt_sA']; omega
      · have : zt σ' = zt (sA s (12, 0) 8) := by unfold zt; rw [i4]
        rw [this, zt_sA']; omega
      · have : zn σ' = zn (sA s (12, 0) 8) := by unfold zn; rw [i4]
        rw [this, zn_sA']; omega
      · have e1 : zt σ' = zt (sA s (12, 0) 8) := by unfold zt; rw [i4]
        have e2 : zK σ' a = zK (sA s (12, 0) 8) a := by unfold zK; rw [i4]
        rw [e1, zt_sA'] at ha
        rw [e2, qK_sA, if_neg (by omega)]; exact kf a (by omega)
theorem RS.Rl {n : Nat} {tx : Nat → Int32} {R : Nat} {d : Ad} {d3 d4 : Nat} {P : PT} {σ : ZS} (h : RS n tx R d d3 d4 P σ) : R < zt σ := by obtain ⟨q, hq⟩ := h.kr; exact h.lt (by rw [hq]; simp)
theorem c_wrong {n : Nat} {tx : Nat → Int32} {R : Nat} {d : Ad} {d3 d4 : Nat} {P : PT} {σ s : ZS} {B k m : Nat} (g : Gw (inD B) k m σ s) (hs : RS n tx R d d3 d4 P s) (hB : B ≤ R) (rm : zt s + 1 ≤ 160000 ∧ zn s + 8 ≤ 8000000) {pl : Nat} (hp : zI s R 2 = nI pl) {Thr : Nat → ZS → Prop} (ht : ∀ x σ', EX B (k + 1) (m + 8) σ (1, pl) x σ' → Thr x σ') : wp_X5_wrong s R (fun r5 σ6 => r5 = some (.inl (zo r5)) ∧ (Thr (zo r5) σ6)) := by
  unfold wp_X5_wrong
  obtain ⟨h1, h2⟩ := c_newW (kd := 1) g hs hB rm hp ht
  refine ⟨h1, fun σ2 e => ?_⟩
  obtain ⟨a1, a2⟩ := h2 σ2 e
  exact ⟨a1, by
    have : (fun σ6 => (some (.inl (zt s)) : ZR) = some (.inl (zo (some (.inl (zt s))))) ∧ Thr (zo (some (.inl (zt s)))) σ6) = fun σ6 => Thr (zt s) σ6 := by
      funext σ6; simp [zo_in]
    show wp_X6_init σ2 (zt s) 1 (zI σ2 R 2) (fun σ6 => (some (.inl (zt s)) : ZR) = some (.inl (zo (some (.inl (zt s))))) ∧ Thr (zo (some (.inl (zt s)))) σ6)
    rw [this]; exact a2⟩
theorem c_need5 {n : Nat} {tx : Nat → Int32} {R : Nat} {d : Ad} {d3 d4 : Nat} {P : PT} {σ : ZS} {B : Nat} (hB : 1239 ≤ B ∧ B ≤ R) (hs : RS n tx R d d3 d4 P σ) (rm : zt σ + 1 ≤ 160000 ∧ zn σ + 8 ≤ 8000000) {k : Nat} (hk : k ≤ n) (e2 : zI σ R 2 = nI k) {Thr : Nat → ZS → Prop} {Ret : ZS → Prop} (ht : ch n tx (sk n tx k) ≠ 59 → ∀ x σ', EX B 1 8 σ (1, sk n tx k) x σ' → Thr x σ') (hr : ch n tx (sk n tx k) = 59 → Ret (sI σ R 2 (nI (sk n tx k + 1)))) : wp_X5_need σ R 59 Thr Ret := by
  have hn := hs.hn
  have hzb := hs.zb
  have hRl := hs.Rl
  have hsk := sk_le (tx := tx) hk
  unfold wp_X5_need
  refine ⟨hs.k11, c_sign hs hk e2 ?_⟩
  have hs2 := hs.setR (j := 2) (by decide) (nI (sk n tx k))
  have eq : ((if sk n tx k < n then tx (sk n tx k) else 0) = (59 : Int32)) = (ch n tx (sk n tx k) = 59) := by
    by_cases l : sk n tx k < n
    · obtain ⟨a1, a2, a3⟩ := hs.at l
      rw [if_pos l, a3, show (59 : Int32) = nI 59 from rfl, a2.eq (by decide)]
    · rw [if_neg l, ch_out (by omega)]
      exact propext ⟨fun h => absurd h (by decide), fun h => absurd h (by decide)⟩
  rw [eq]
  refine ⟨fun h1 => ⟨hs2.k11, hs2.k11, nm_e ?_⟩, fun h1 => ⟨hs2.k11, ?_⟩⟩
  · rw [zI_self, nI1, sI_sI]; exact hr h1
  · exact c_wrong (gw_sI (B := B) hB.2 (by omega) hB.1) hs2 hB.2 rm (zI_self _ _ _ _) (fun x σ' he => ht h1 x σ' (he.mono (by omega) (by omega)))
theorem sI_comm (σ : ZS) (a : Nat) {i j : Nat} (h : i ≠ j) (x y : Int32) : sI (sI σ a i x) a j y = sI (sI σ a j y) a i x := by
  have : (fun b k => if b = a ∧ k = j then y else (if b = a ∧ k = i then x else σ.1 b k)) = fun b k => if b = a ∧ k = i then x else (if b = a ∧ k = j then y else σ.1 b k) := by
    funext b k
    by_cases h1 : b = a ∧ k = j
    · rw [if_pos h1, if_neg (by rintro ⟨-, e⟩; exact h (e ▸ h1.2)), if_pos h1]
    · rw [if_neg h1, if_neg h1]
  show (_, _) = (_, _)
  exact congrArg (·, σ.2) this
/-- a reader's place, and where its latest number began -/
def psR (σ : ZS) (R p q : Nat) : ZS := sI (sI σ R 3 (nI p)) R 2 (nI q)
theorem psR_ps (σ : ZS) (R p q p' q' : Nat) : psR (psR σ R p q) R p' q' = psR σ R p' q' := by
  unfold psR
  rw [sI_comm _ _ (show (2 : Nat) ≠ 3 by decide), sI_sI, sI_sI]
theorem RS.ps {n : Nat} {tx : Nat → Int32} {R : Nat} {d : Ad} {d3 d4 : Nat} {P : PT} {σ : ZS} (h : RS n tx R d d3 d4 P σ) (p q : Nat) : RS n tx R d d3 d4 P (psR σ R p q) := (h.setR (j := 3) (by decide) (nI p)).setR (j := 2) (by decide) (nI q)
theorem psR_2 (σ : ZS) (R p q : Nat) : zI (psR σ R p q) R 2 = nI q := zI_self _ _ _ _
theorem psR_3 (σ : ZS) (R p q : Nat) : zI (psR σ R p q) R 3 = nI p := by unfold psR; rw [zI_ne _ (.inr (by decide)), zI_self]
theorem psR_gw {B : Nat} {σ : ZS} {R p q : Nat} (h : B ≤ R) (h2 : R < 1000000) (h3 : 1239 ≤ B) : Gw (inD B) 0 0 σ (psR σ R p q) := (gw_sI h h2 h3).trans (gw_sI h h2 h3)
theorem BY.dig {x : Int32} (h : BY x) {A C : Prop} (h1 : dg (bV x) = false → A) (h2 : dg (bV x) = true → x = nI (bV x) → C) : (x < 48 → A) ∧ (¬ x < 48 → (57 < x → A) ∧ (¬ 57 < x → C)) := by
  obtain ⟨b1, b2, b3, b4⟩ := h.v
  rcases Nat.lt_or_ge (bV x) 128 with l | l
  · have e := b3 l
    have h48 : (x < 48) = (bV x < 48) := by rw [e, show (48 : Int32) = nI 48 from rfl]; rw [nI_ltI (by omega) (by decide)]; rw [← e]
    have h57 : (57 < x) = (57 < bV x) := by rw [e, show (57 : Int32) = nI 57 from rfl]; rw [nI_ltI (by decide) (by omega)]; rw [← e]
    rw [h48, h57]
    refine ⟨fun k => h1 (by unfold dg; simp; omega), fun k => ⟨fun k2 => h1 (by unfold dg; simp; omega), fun k2 => h2 (by unfold dg; simp; omega) e⟩⟩
  · have hx := b4 l
    have h48 : x < 48 := by rw [Int32.lt_iff_toInt_lt] at hx ⊢; have : (0 : Int32).toInt = 0 := rfl; have : (48 : Int32).toInt = 48 := rfl; omega
    exact br_t h48 (h1 (by unfold dg; simp; omega))
