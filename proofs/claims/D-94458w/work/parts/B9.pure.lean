/-! PURE HALF: what the model has read (by program). -/
set_option maxRecDepth 100000
def MQt (P : PT) (σ : ZS) : Prop := (zI σ 46 0 = nI P.T.nc) ∧ (zI σ 46 1 = nI P.T.ns) ∧ (zI σ 46 2 = P.T.bx) ∧ (zI σ 46 3 = nI P.T.nr) ∧ (∀ i, i < P.T.nc → zI σ (48 + 1 + i) 0 = P.T.cx i) ∧ (∀ i, i < P.T.nc → zI σ (48 + 1 + i) 1 = P.T.cy i) ∧ (∀ s, s < P.T.ns → zI σ (82 + 1 + s) 0 = nI (P.T.sf s)) ∧ (∀ s, s < P.T.ns → zI σ (82 + 1 + s) 1 = nI (P.T.st s)) ∧ (∀ s, s < P.T.ns → zI σ (82 + 1 + s) 2 = nI (P.T.sl s)) ∧ (∀ s, s < P.T.ns → zI σ (82 + 1 + s) 3 = b2i (P.T.so s)) ∧ (∀ r, r < P.T.nr → zI σ (132 + 1 + r) 0 = nI (P.T.rf r)) ∧ (∀ r, r < P.T.nr → zI σ (132 + 1 + r) 1 = nI (P.T.rt r)) ∧ (∀ r, r < P.T.nr → zI σ (132 + 1 + r) 2 = nI (P.T.rb r)) ∧ (∀ s, s < 24 → zI σ 158 s = P.sg s) ∧ (∀ s, s < 24 → zI σ 159 s = P.al s) ∧ (PW1 P)
theorem MQt.m0 {P : PT} {σ : ZS} (h : MQt P σ) : zI σ 46 0 = nI P.T.nc := h.1
theorem MQt.m1 {P : PT} {σ : ZS} (h : MQt P σ) : zI σ 46 1 = nI P.T.ns := h.2.1
theorem MQt.m2 {P : PT} {σ : ZS} (h : MQt P σ) : zI σ 46 2 = P.T.bx := h.2.2.1
theorem MQt.m3 {P : PT} {σ : ZS} (h : MQt P σ) : zI σ 46 3 = nI P.T.nr := h.2.2.2.1
theorem MQt.cx {P : PT} {σ : ZS} (h : MQt P σ) : ∀ i, i < P.T.nc → zI σ (48 + 1 + i) 0 = P.T.cx i := h.2.2.2.2.1
theorem MQt.cy {P : PT} {σ : ZS} (h : MQt P σ) : ∀ i, i < P.T.nc → zI σ (48 + 1 + i) 1 = P.T.cy i := h.2.2.2.2.2.1
theorem MQt.sf {P : PT} {σ : ZS} (h : MQt P σ) : ∀ s, s < P.T.ns → zI σ (82 + 1 + s) 0 = nI (P.T.sf s) := h.2.2.2.2.2.2.1
theorem MQt.st {P : PT} {σ : ZS} (h : MQt P σ) : ∀ s, s < P.T.ns → zI σ (82 + 1 + s) 1 = nI (P.T.st s) := h.2.2.2.2.2.2.2.1
theorem MQt.sl {P : PT} {σ : ZS} (h : MQt P σ) : ∀ s, s < P.T.ns → zI σ (82 + 1 + s) 2 = nI (P.T.sl s) := h.2.2.2.2.2.2.2.2.1
theorem MQt.so {P : PT} {σ : ZS} (h : MQt P σ) : ∀ s, s < P.T.ns → zI σ (82 + 1 + s) 3 = b2i (P.T.so s) := h.2.2.2.2.2.2.2.2.2.1
theorem MQt.rf {P : PT} {σ : ZS} (h : MQt P σ) : ∀ r, r < P.T.nr → zI σ (132 + 1 + r) 0 = nI (P.T.rf r) := h.2.2.2.2.2.2.2.2.2.2.1
theorem MQt.rt {P : PT} {σ : ZS} (h : MQt P σ) : ∀ r, r < P.T.nr → zI σ (132 + 1 + r) 1 = nI (P.T.rt r) := h.2.2.2.2.2.2.2.2.2.2.2.1
theorem MQt.rb {P : PT} {σ : ZS} (h : MQt P σ) : ∀ r, r < P.T.nr → zI σ (132 + 1 + r) 2 = nI (P.T.rb r) := h.2.2.2.2.2.2.2.2.2.2.2.2.1
theorem MQt.sg {P : PT} {σ : ZS} (h : MQt P σ) : ∀ s, s < 24 → zI σ 158 s = P.sg s := h.2.2.2.2.2.2.2.2.2.2.2.2.2.1
theorem MQt.al {P : PT} {σ : ZS} (h : MQt P σ) : ∀ s, s < 24 → zI σ 159 s = P.al s := h.2.2.2.2.2.2.2.2.2.2.2.2.2.2.1
theorem MQt.pw {P : PT} {σ : ZS} (h : MQt P σ) : PW1 P := h.2.2.2.2.2.2.2.2.2.2.2.2.2.2.2
/-- codes of what is read -/
def noQ (c : Nat) : Prop := c ≠ 46 ∧ ¬ (49 ≤ c ∧ c < 65) ∧ ¬ (83 ≤ c ∧ c < 107) ∧ ¬ (133 ≤ c ∧ c < 145) ∧ c ≠ 158 ∧ c ≠ 159
theorem MQt.fr {P : PT} {σ σ' : ZS} {S : Nat → Prop} (h : MQt P σ) (f : Fr S σ σ') (hs : ∀ c, S c → noQ c) : MQt P σ' := by
  have g : ∀ a i, a ≠ 44 → a ≠ 0 → ¬ noQ a → zI σ' a i = zI σ a i := fun a i h1 h2 n => f.1 a i fun k => n (by have := hs _ k; unfold cd at this; rw [if_neg h1, if_neg h2] at this; exact this)
  have w := h.pw.1
  have := w.nc; have := w.ns; have := w.nr
  exact ⟨by rw [g 46 _ (by decide) (by decide) (by unfold noQ; simp)]; exact h.m0, by rw [g 46 _ (by decide) (by decide) (by unfold noQ; simp)]; exact h.m1, by rw [g 46 _ (by decide) (by decide) (by unfold noQ; simp)]; exact h.m2, by rw [g 46 _ (by decide) (by decide) (by unfold noQ; simp)]; exact h.m3, fun i hi => by rw [g _ _ (by omega) (by omega) (by unfold noQ; omega)]; exact h.cx i hi, fun i hi => by rw [g _ _ (by omega) (by omega) (by unfold noQ; omega)]; exact h.cy i hi, fun i hi => by rw [g _ _ (by omega) (by omega) (by unfold noQ; omega)]; exact h.sf i hi, fun i hi => by rw [g _ _ (by omega) (by omega) (by unfold noQ; omega)]; exact h.st i hi, fun i hi => by rw [g _ _ (by omega) (by omega) (by unfold noQ; omega)]; exact h.sl i hi, fun i hi => by rw [g _ _ (by omega) (by omega) (by unfold noQ; omega)]; exact h.so i hi, fun i hi => by rw [g _ _ (by omega) (by omega) (by unfold noQ; omega)]; exact h.rf i hi, fun i hi => by rw [g _ _ (by omega) (by omega) (by unfold noQ; omega)]; exact h.rt i hi, fun i hi => by rw [g _ _ (by omega) (by omega) (by unfold noQ; omega)]; exact h.rb i hi, fun i hi => by rw [g _ _ (by decide) (by decide) (by unfold noQ; simp)]; exact h.sg i hi, fun i hi => by rw [g _ _ (by decide) (by decide) (by unfold noQ; simp)]; exact h.al i hi, h.pw⟩
theorem MQt.adC {P : PT} {σ : ZS} (h : MQt P σ) {x y : Nat} (hc : P.T.nc < 16) (pw : PW1 ((adC P.T x y, P.sg, P.al, P.cl) : PT)) : MQt ((adC P.T x y, P.sg, P.al, P.cl) : PT) (sI (sI (sI σ (48 + 1 + P.T.nc) 0 (nI x)) (48 + 1 + P.T.nc) 1 (nI y)) 46 0 (nI (P.T.nc + 1))) := by
  have w := h.pw.1
  have hnc := w.nc; have hns := w.ns; have hnr := w.nr
  refine ⟨?_, ?_, ?_, ?_, ?_, ?_, ?_, ?_, ?_, ?_, ?_, ?_, ?_, ?_, ?_, ?_⟩
  · exact zI_self _ _ _ _
  · exact by rw [zI_ne _ (.inr (by decide)), zI_ne _ (.inl (by omega)), zI_ne _ (.inl (by omega))]; exact h.m1
  · exact by rw [zI_ne _ (.inr (by decide)), zI_ne _ (.inl (by omega)), zI_ne _ (.inl (by omega))]; exact h.m2
  · exact by rw [zI_ne _ (.inr (by decide)), zI_ne _ (.inl (by omega)), zI_ne _ (.inl (by omega))]; exact h.m3
  · exact fun i hi => by
      have hi : i < P.T.nc + 1 := hi
      show zI _ (48 + 1 + i) 0 = up P.T.cx P.T.nc (nI x) i
      by_cases e : i = P.T.nc
      · rw [e, up_self, zI_ne _ (.inl (by omega)), zI_ne _ (.inr (by decide)), zI_self]
      · rw [up_ne _ _ e, zI_ne _ (.inl (by omega)), zI_ne _ (.inl (by omega)), zI_ne _ (.inl (by omega))]; exact h.cx i (by omega)
  · exact fun i hi => by
      have hi : i < P.T.nc + 1 := hi
      show zI _ (48 + 1 + i) 1 = up P.T.cy P.T.nc (nI y) i
      by_cases e : i = P.T.nc
      · rw [e, up_self, zI_ne _ (.inl (by omega)), zI_self]
      · rw [up_ne _ _ e, zI_ne _ (.inl (by omega)), zI_ne _ (.inl (by omega)), zI_ne _ (.inl (by omega))]; exact h.cy i (by omega)
  · exact fun i hi => by 
      have hi : i < P.T.ns := hi
      rw [zI_ne _ (.inl (by omega)), zI_ne _ (.inl (by omega)), zI_ne _ (.inl (by omega))]; exact h.sf i hi
  · exact fun i hi => by 
      have hi : i < P.T.ns := hi
      rw [zI_ne _ (.inl (by omega)), zI_ne _ (.inl (by omega)), zI_ne _ (.inl (by omega))]; exact h.st i hi
  · exact fun i hi => by 
      have hi : i < P.T.ns := hi
      rw [zI_ne _ (.inl (by omega)), zI_ne _ (.inl (by omega)), zI_ne _ (.inl (by omega))]; exact h.sl i hi
  · exact fun i hi => by 
      have hi : i < P.T.ns := hi
      rw [zI_ne _ (.inl (by omega)), zI_ne _ (.inl (by omega)), zI_ne _ (.inl (by omega))]; exact h.so i hi
  · exact fun i hi => by 
      have hi : i < P.T.nr := hi
      rw [zI_ne _ (.inl (by omega)), zI_ne _ (.inl (by omega)), zI_ne _ (.inl (by omega))]; exact h.rf i hi
  · exact fun i hi => by 
      have hi : i < P.T.nr := hi
      rw [zI_ne _ (.inl (by omega)), zI_ne _ (.inl (by omega)), zI_ne _ (.inl (by omega))]; exact h.rt i hi
  · exact fun i hi => by 
      have hi : i < P.T.nr := hi
      rw [zI_ne _ (.inl (by omega)), zI_ne _ (.inl (by omega)), zI_ne _ (.inl (by omega))]; exact h.rb i hi
  · exact fun i hi => by rw [zI_ne _ (.inl (by omega)), zI_ne _ (.inl (by omega)), zI_ne _ (.inl (by omega))]; exact h.sg i hi
  · exact fun i hi => by rw [zI_ne _ (.inl (by omega)), zI_ne _ (.inl (by omega)), zI_ne _ (.inl (by omega))]; exact h.al i hi
  · exact pw
theorem MQt.adS {P : PT} {σ : ZS} (h : MQt P σ) {a b l : Nat} (hc : P.T.ns < 24) (pw : PW1 ((adS P.T a b l, P.sg, P.al, P.cl) : PT)) : MQt ((adS P.T a b l, P.sg, P.al, P.cl) : PT) (sI (sI (sI (sI (sI σ (82 + 1 + P.T.ns) 0 (nI a)) (82 + 1 + P.T.ns) 1 (nI b)) (82 + 1 + P.T.ns) 2 (nI l)) (82 + 1 + P.T.ns) 3 0) 46 1 (nI (P.T.ns + 1))) := by
  have w := h.pw.1
  have hnc := w.nc; have hns := w.ns; have hnr := w.nr
  refine ⟨?_, ?_, ?_, ?_, ?_, ?_, ?_, ?_, ?_, ?_, ?_, ?_, ?_, ?_, ?_, ?_⟩
  · exact by rw [zI_ne _ (.inr (by decide)), zI_ne _ (.inl (by omega)), zI_ne _ (.inl (by omega)), zI_ne _ (.inl (by omega)), zI_ne _ (.inl (by omega))]; exact h.m0
  · exact zI_self _ _ _ _
  · exact by rw [zI_ne _ (.inr (by decide)), zI_ne _ (.inl (by omega)), zI_ne _ (.inl (by omega)), zI_ne _ (.inl (by omega)), zI_ne _ (.inl (by omega))]; exact h.m2
  · exact by rw [zI_ne _ (.inr (by decide)), zI_ne _ (.inl (by omega)), zI_ne _ (.inl (by omega)), zI_ne _ (.inl (by omega)), zI_ne _ (.inl (by omega))]; exact h.m3
  · exact fun i hi => by 
      have hi : i < P.T.nc := hi
      rw [zI_ne _ (.inl (by omega)), zI_ne _ (.inl (by omega)), zI_ne _ (.inl (by omega)), zI_ne _ (.inl (by omega)), zI_ne _ (.inl (by omega))]; exact h.cx i hi
  · exact fun i hi => by 
      have hi : i < P.T.nc := hi
      rw [zI_ne _ (.inl (by omega)), zI_ne _ (.inl (by omega)), zI_ne _ (.inl (by omega)), zI_ne _ (.inl (by omega)), zI_ne _ (.inl (by omega))]; exact h.cy i hi
  · exact fun i hi => by
      have hi : i < P.T.ns + 1 := hi
      show zI _ (82 + 1 + i) 0 = nI (up P.T.sf P.T.ns (a) i)
      by_cases e : i = P.T.ns
      · rw [e, up_self, zI_ne _ (.inl (by omega)), zI_ne _ (.inr (by decide)), zI_ne _ (.inr (by decide)), zI_ne _ (.inr (by decide)), zI_self]
      · rw [up_ne _ _ e, zI_ne _ (.inl (by omega)), zI_ne _ (.inl (by omega)), zI_ne _ (.inl (by omega)), zI_ne _ (.inl (by omega)), zI_ne _ (.inl (by omega))]; exact h.sf i (by omega)
  · exact fun i hi => by
      have hi : i < P.T.ns + 1 := hi
      show zI _ (82 + 1 + i) 1 = nI (up P.T.st P.T.ns (b) i)
      by_cases e : i = P.T.ns
      · rw [e, up_self, zI_ne _ (.inl (by omega)), zI_ne _ (.inr (by decide)), zI_ne _ (.inr (by decide)), zI_self]
      · rw [up_ne _ _ e, zI_ne _ (.inl (by omega)), zI_ne _ (.inl (by omega)), zI_ne _ (.inl (by omega)), zI_ne _ (.inl (by omega)), zI_ne _ (.inl (by omega))]; exact h.st i (by omega)
  · exact fun i hi => by
      have hi : i < P.T.ns + 1 := hi
      show zI _ (82 + 1 + i) 2 = nI (up P.T.sl P.T.ns (l) i)
      by_cases e : i = P.T.ns
      · rw [e, up_self, zI_ne _ (.inl (by omega)), zI_ne _ (.inr (by decide)), zI_self]
      · rw [up_ne _ _ e, zI_ne _ (.inl (by omega)), zI_ne _ (.inl (by omega)), zI_ne _ (.inl (by omega)), zI_ne _ (.inl (by omega)), zI_ne _ (.inl (by omega))]; exact h.sl i (by omega)
  · exact fun i hi => by
      have hi : i < P.T.ns + 1 := hi
      show zI _ (82 + 1 + i) 3 = b2i (up P.T.so P.T.ns (false) i)
      by_cases e : i = P.T.ns
      · rw [e, up_self, zI_ne _ (.inl (by omega)), zI_self]; rfl
      · rw [up_ne _ _ e, zI_ne _ (.inl (by omega)), zI_ne _ (.inl (by omega)), zI_ne _ (.inl (by omega)), zI_ne _ (.inl (by omega)), zI_ne _ (.inl (by omega))]; exact h.so i (by omega)
  · exact fun i hi => by 
      have hi : i < P.T.nr := hi
      rw [zI_ne _ (.inl (by omega)), zI_ne _ (.inl (by omega)), zI_ne _ (.inl (by omega)), zI_ne _ (.inl (by omega)), zI_ne _ (.inl (by omega))]; exact h.rf i hi
  · exact fun i hi => by 
      have hi : i < P.T.nr := hi
      rw [zI_ne _ (.inl (by omega)), zI_ne _ (.inl (by omega)), zI_ne _ (.inl (by omega)), zI_ne _ (.inl (by omega)), zI_ne _ (.inl (by omega))]; exact h.rt i hi
  · exact fun i hi => by 
      have hi : i < P.T.nr := hi
      rw [zI_ne _ (.inl (by omega)), zI_ne _ (.inl (by omega)), zI_ne _ (.inl (by omega)), zI_ne _ (.inl (by omega)), zI_ne _ (.inl (by omega))]; exact h.rb i hi
  · exact fun i hi => by rw [zI_ne _ (.inl (by omega)), zI_ne _ (.inl (by omega)), zI_ne _ (.inl (by omega)), zI_ne _ (.inl (by omega)), zI_ne _ (.inl (by omega))]; exact h.sg i hi
  · exact fun i hi => by rw [zI_ne _ (.inl (by omega)), zI_ne _ (.inl (by omega)), zI_ne _ (.inl (by omega)), zI_ne _ (.inl (by omega)), zI_ne _ (.inl (by omega))]; exact h.al i hi
  · exact pw
theorem MQt.adR {P : PT} {σ : ZS} (h : MQt P σ) {a b l : Nat} (hc : P.T.nr < 12) (pw : PW1 ((adR P.T a b l, P.sg, P.al, P.cl) : PT)) : MQt ((adR P.T a b l, P.sg, P.al, P.cl) : PT) (sI (sI (sI (sI σ (132 + 1 + P.T.nr) 0 (nI a)) (132 + 1 + P.T.nr) 1 (nI b)) (132 + 1 + P.T.nr) 2 (nI l)) 46 3 (nI (P.T.nr + 1))) := by
  have w := h.pw.1
  have hnc := w.nc; have hns := w.ns; have hnr := w.nr
  refine ⟨?_, ?_, ?_, ?_, ?_, ?_, ?_, ?_, ?_, ?_, ?_, ?_, ?_, ?_, ?_, ?_⟩
  · exact by rw [zI_ne _ (.inr (by decide)), zI_ne _ (.inl (by omega)), zI_ne _ (.inl (by omega)), zI_ne _ (.inl (by omega))]; exact h.m0
  · exact by rw [zI_ne _ (.inr (by decide)), zI_ne _ (.inl (by omega)), zI_ne _ (.inl (by omega)), zI_ne _ (.inl (by omega))]; exact h.m1
  · exact by rw [zI_ne _ (.inr (by decide)), zI_ne _ (.inl (by omega)), zI_ne _ (.inl (by omega)), zI_ne _ (.inl (by omega))]; exact h.m2
  · exact zI_self _ _ _ _
  · exact fun i hi => by 
      have hi : i < P.T.nc := hi
      rw [zI_ne _ (.inl (by omega)), zI_ne _ (.inl (by omega)), zI_ne _ (.inl (by omega)), zI_ne _ (.inl (by omega))]; exact h.cx i hi
  · exact fun i hi => by 
      have hi : i < P.T.nc := hi
      rw [zI_ne _ (.inl (by omega)), zI_ne _ (.inl (by omega)), zI_ne _ (.inl (by omega)), zI_ne _ (.inl (by omega))]; exact h.cy i hi
  · exact fun i hi => by 
      have hi : i < P.T.ns := hi
      rw [zI_ne _ (.inl (by omega)), zI_ne _ (.inl (by omega)), zI_ne _ (.inl (by omega)), zI_ne _ (.inl (by omega))]; exact h.sf i hi
  · exact fun i hi => by 
      have hi : i < P.T.ns := hi
      rw [zI_ne _ (.inl (by omega)), zI_ne _ (.inl (by omega)), zI_ne _ (.inl (by omega)), zI_ne _ (.inl (by omega))]; exact h.st i hi
  · exact fun i hi => by 
      have hi : i < P.T.ns := hi
      rw [zI_ne _ (.inl (by omega)), zI_ne _ (.inl (by omega)), zI_ne _ (.inl (by omega)), zI_ne _ (.inl (by omega))]; exact h.sl i hi
  · exact fun i hi => by 
      have hi : i < P.T.ns := hi
      rw [zI_ne _ (.inl (by omega)), zI_ne _ (.inl (by omega)), zI_ne _ (.inl (by omega)), zI_ne _ (.inl (by omega))]; exact h.so i hi
  · exact fun i hi => by
      have hi : i < P.T.nr + 1 := hi
      show zI _ (132 + 1 + i) 0 = nI (up P.T.rf P.T.nr (a) i)
      by_cases e : i = P.T.nr
      · rw [e, up_self, zI_ne _ (.inl (by omega)), zI_ne _ (.inr (by decide)), zI_ne _ (.inr (by decide)), zI_self]
      · rw [up_ne _ _ e, zI_ne _ (.inl (by omega)), zI_ne _ (.inl (by omega)), zI_ne _ (.inl (by omega)), zI_ne _ (.inl (by omega))]; exact h.rf i (by omega)
  · exact fun i hi => by
      have hi : i < P.T.nr + 1 := hi
      show zI _ (132 + 1 + i) 1 = nI (up P.T.rt P.T.nr (b) i)
      by_cases e : i = P.T.nr
      · rw [e, up_self, zI_ne _ (.inl (by omega)), zI_ne _ (.inr (by decide)), zI_self]
      · rw [up_ne _ _ e, zI_ne _ (.inl (by omega)), zI_ne _ (.inl (by omega)), zI_ne _ (.inl (by omega)), zI_ne _ (.inl (by omega))]; exact h.rt i (by omega)
  · exact fun i hi => by
      have hi : i < P.T.nr + 1 := hi
      show zI _ (132 + 1 + i) 2 = nI (up P.T.rb P.T.nr (l) i)
      by_cases e : i = P.T.nr
      · rw [e, up_self, zI_ne _ (.inl (by omega)), zI_self]
      · rw [up_ne _ _ e, zI_ne _ (.inl (by omega)), zI_ne _ (.inl (by omega)), zI_ne _ (.inl (by omega)), zI_ne _ (.inl (by omega))]; exact h.rb i (by omega)
  · exact fun i hi => by rw [zI_ne _ (.inl (by omega)), zI_ne _ (.inl (by omega)), zI_ne _ (.inl (by omega)), zI_ne _ (.inl (by omega))]; exact h.sg i hi
  · exact fun i hi => by rw [zI_ne _ (.inl (by omega)), zI_ne _ (.inl (by omega)), zI_ne _ (.inl (by omega)), zI_ne _ (.inl (by omega))]; exact h.al i hi
  · exact pw
theorem MQt.stO {P : PT} {σ : ZS} (h : MQt P σ) {s : Nat} (hs : s < P.T.ns) (pw : PW1 ((stO P.T s, P.sg, P.al, P.cl) : PT)) : MQt ((stO P.T s, P.sg, P.al, P.cl) : PT) (sI σ (82 + 1 + s) 3 1) := by
  have w := h.pw.1
  have hnc := w.nc; have hns := w.ns; have hnr := w.nr
  refine ⟨?_, ?_, ?_, ?_, ?_, ?_, ?_, ?_, ?_, ?_, ?_, ?_, ?_, ?_, ?_, ?_⟩
  · exact by rw [zI_ne _ (.inl (by omega))]; exact h.m0
  · exact by rw [zI_ne _ (.inl (by omega))]; exact h.m1
  · exact by rw [zI_ne _ (.inl (by omega))]; exact h.m2
  · exact by rw [zI_ne _ (.inl (by omega))]; exact h.m3
  · exact fun i hi => by 
      have hi : i < P.T.nc := hi
      rw [zI_ne _ (.inl (by omega))]; exact h.cx i hi
  · exact fun i hi => by 
      have hi : i < P.T.nc := hi
      rw [zI_ne _ (.inl (by omega))]; exact h.cy i hi
  · exact fun i hi => by rw [zI_ne _ (.inr (by decide))]; exact h.sf i hi
  · exact fun i hi => by rw [zI_ne _ (.inr (by decide))]; exact h.st i hi
  · exact fun i hi => by rw [zI_ne _ (.inr (by decide))]; exact h.sl i hi
  · exact fun i hi => by
      show zI _ (82 + 1 + i) 3 = b2i (up P.T.so s true i)
      by_cases e : i = s
      · rw [e, up_self, zI_self]; rfl
      · rw [up_ne _ _ e, zI_ne _ (.inl (by omega))]; exact h.so i hi
  · exact fun i hi => by 
      have hi : i < P.T.nr := hi
      rw [zI_ne _ (.inl (by omega))]; exact h.rf i hi
  · exact fun i hi => by 
      have hi : i < P.T.nr := hi
      rw [zI_ne _ (.inl (by omega))]; exact h.rt i hi
  · exact fun i hi => by 
      have hi : i < P.T.nr := hi
      rw [zI_ne _ (.inl (by omega))]; exact h.rb i hi
  · exact fun i hi => by rw [zI_ne _ (.inl (by omega))]; exact h.sg i hi
  · exact fun i hi => by rw [zI_ne _ (.inl (by omega))]; exact h.al i hi
  · exact pw
theorem MQt.stB {P : PT} {σ : ZS} (h : MQt P σ) {c : Nat} (pw : PW1 ((stB P.T c, P.sg, P.al, P.cl) : PT)) : MQt ((stB P.T c, P.sg, P.al, P.cl) : PT) (sI σ 46 2 (P.T.bx ||| ((1 : Int32) <<< (nI c &&& 31)))) := by
  have w := h.pw.1
  have hnc := w.nc; have hns := w.ns; have hnr := w.nr
  refine ⟨?_, ?_, ?_, ?_, ?_, ?_, ?_, ?_, ?_, ?_, ?_, ?_, ?_, ?_, ?_, ?_⟩
  · exact by rw [zI_ne _ (.inr (by decide))]; exact h.m0
  · exact by rw [zI_ne _ (.inr (by decide))]; exact h.m1
  · exact zI_self _ _ _ _
  · exact by rw [zI_ne _ (.inr (by decide))]; exact h.m3
  · exact fun i hi => by 
      have hi : i < P.T.nc := hi
      rw [zI_ne _ (.inl (by omega))]; exact h.cx i hi
  · exact fun i hi => by 
      have hi : i < P.T.nc := hi
      rw [zI_ne _ (.inl (by omega))]; exact h.cy i hi
  · exact fun i hi => by 
      have hi : i < P.T.ns := hi
      rw [zI_ne _ (.inl (by omega))]; exact h.sf i hi
  · exact fun i hi => by 
      have hi : i < P.T.ns := hi
      rw [zI_ne _ (.inl (by omega))]; exact h.st i hi
  · exact fun i hi => by 
      have hi : i < P.T.ns := hi
      rw [zI_ne _ (.inl (by omega))]; exact h.sl i hi
  · exact fun i hi => by 
      have hi : i < P.T.ns := hi
      rw [zI_ne _ (.inl (by omega))]; exact h.so i hi
  · exact fun i hi => by 
      have hi : i < P.T.nr := hi
      rw [zI_ne _ (.inl (by omega))]; exact h.rf i hi
  · exact fun i hi => by 
      have hi : i < P.T.nr := hi
      rw [zI_ne _ (.inl (by omega))]; exact h.rt i hi
  · exact fun i hi => by 
      have hi : i < P.T.nr := hi
      rw [zI_ne _ (.inl (by omega))]; exact h.rb i hi
  · exact fun i hi => by rw [zI_ne _ (.inl (by omega))]; exact h.sg i hi
  · exact fun i hi => by rw [zI_ne _ (.inl (by omega))]; exact h.al i hi
  · exact pw
theorem MQt.orS {P : PT} {σ : ZS} (h : MQt P σ) {s o : Nat} (pw : PW1 ((P.T, orB P.sg s o, P.al, P.cl) : PT)) : MQt ((P.T, orB P.sg s o, P.al, P.cl) : PT) (sI σ 158 s (P.sg s ||| ((1 : Int32) <<< (nI o &&& 31)))) := by
  have w := h.pw.1
  have hnc := w.nc; have hns := w.ns; have hnr := w.nr
  refine ⟨?_, ?_, ?_, ?_, ?_, ?_, ?_, ?_, ?_, ?_, ?_, ?_, ?_, ?_, ?_, ?_⟩
  · exact by rw [zI_ne _ (.inl (by omega))]; exact h.m0
  · exact by rw [zI_ne _ (.inl (by omega))]; exact h.m1
  · exact by rw [zI_ne _ (.inl (by omega))]; exact h.m2
  · exact by rw [zI_ne _ (.inl (by omega))]; exact h.m3
  · exact fun i hi => by 
      have hi : i < P.T.nc := hi
      rw [zI_ne _ (.inl (by omega))]; exact h.cx i hi
  · exact fun i hi => by 
      have hi : i < P.T.nc := hi
      rw [zI_ne _ (.inl (by omega))]; exact h.cy i hi
  · exact fun i hi => by 
      have hi : i < P.T.ns := hi
      rw [zI_ne _ (.inl (by omega))]; exact h.sf i hi
  · exact fun i hi => by 
      have hi : i < P.T.ns := hi
      rw [zI_ne _ (.inl (by omega))]; exact h.st i hi
  · exact fun i hi => by 
      have hi : i < P.T.ns := hi
      rw [zI_ne _ (.inl (by omega))]; exact h.sl i hi
  · exact fun i hi => by 
      have hi : i < P.T.ns := hi
      rw [zI_ne _ (.inl (by omega))]; exact h.so i hi
  · exact fun i hi => by 
      have hi : i < P.T.nr := hi
      rw [zI_ne _ (.inl (by omega))]; exact h.rf i hi
  · exact fun i hi => by 
      have hi : i < P.T.nr := hi
      rw [zI_ne _ (.inl (by omega))]; exact h.rt i hi
  · exact fun i hi => by 
      have hi : i < P.T.nr := hi
      rw [zI_ne _ (.inl (by omega))]; exact h.rb i hi
  · exact fun i hi => by
      rw [zI_row]
      show _ = up P.sg s _ i
      unfold up
      split
      · rfl
      · exact h.sg i hi
  · exact fun i hi => by rw [zI_ne _ (.inl (by omega))]; exact h.al i hi
  · exact pw
theorem MQt.orA {P : PT} {σ : ZS} (h : MQt P σ) {s o : Nat} (pw : PW1 ((P.T, P.sg, orB P.al s o, P.cl) : PT)) : MQt ((P.T, P.sg, orB P.al s o, P.cl) : PT) (sI σ 159 s (P.al s ||| ((1 : Int32) <<< (nI o &&& 31)))) := by
  have w := h.pw.1
  have hnc := w.nc; have hns := w.ns; have hnr := w.nr
  refine ⟨?_, ?_, ?_, ?_, ?_, ?_, ?_, ?_, ?_, ?_, ?_, ?_, ?_, ?_, ?_, ?_⟩
  · exact by rw [zI_ne _ (.inl (by omega))]; exact h.m0
  · exact by rw [zI_ne _ (.inl (by omega))]; exact h.m1
  · exact by rw [zI_ne _ (.inl (by omega))]; exact h.m2
  · exact by rw [zI_ne _ (.inl (by omega))]; exact h.m3
  · exact fun i hi => by 
      have hi : i < P.T.nc := hi
      rw [zI_ne _ (.inl (by omega))]; exact h.cx i hi
  · exact fun i hi => by 
      have hi : i < P.T.nc := hi
      rw [zI_ne _ (.inl (by omega))]; exact h.cy i hi
  · exact fun i hi => by 
      have hi : i < P.T.ns := hi
      rw [zI_ne _ (.inl (by omega))]; exact h.sf i hi
  · exact fun i hi => by 
      have hi : i < P.T.ns := hi
      rw [zI_ne _ (.inl (by omega))]; exact h.st i hi
  · exact fun i hi => by 
      have hi : i < P.T.ns := hi
      rw [zI_ne _ (.inl (by omega))]; exact h.sl i hi
  · exact fun i hi => by 
      have hi : i < P.T.ns := hi
      rw [zI_ne _ (.inl (by omega))]; exact h.so i hi
  · exact fun i hi => by 
      have hi : i < P.T.nr := hi
      rw [zI_ne _ (.inl (by omega))]; exact h.rf i hi
  · exact fun i hi => by 
      have hi : i < P.T.nr := hi
      rw [zI_ne _ (.inl (by omega))]; exact h.rt i hi
  · exact fun i hi => by 
      have hi : i < P.T.nr := hi
      rw [zI_ne _ (.inl (by omega))]; exact h.rb i hi
  · exact fun i hi => by rw [zI_ne _ (.inl (by omega))]; exact h.sg i hi
  · exact fun i hi => by
      rw [zI_row]
      show _ = up P.al s _ i
      unfold up
      split
      · rfl
      · exact h.al i hi
  · exact pw
