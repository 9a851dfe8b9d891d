/-! PURE HALF: rides, the model's side. -/
set_option maxRecDepth 100000
/-- a loop that counts up -/
theorem forL {S : Type} (W : Nat → S → Int32 → Prop) (I : Nat → S → Prop) (e : Nat) (hx : ∀ n s, I e s → W (n + 1) s (nI e)) (hs : ∀ n i s, i < e → I i s → (∀ s', I (i + 1) s' → W n s' (nI (i + 1))) → W (n + 1) s (nI i)) (i : Nat) (s : S) (hi : i ≤ e) (h : I i s) : ∃ n, W n s (nI i) := by
  have : ∀ k i s, e - i < k → i ≤ e → I i s → W k s (nI i) := by
    intro k
    induction k with
    | zero => intro i s h; omega
    | succ k ih =>
      intro i s h1 h2 h3
      by_cases he : i = e
      · subst he; exact hx k s h3
      · exact hs k i s (by omega) h3 fun s' h' => ih (i + 1) s' (by omega) (by omega) h'
  exact ⟨e - i + 1, this _ i s (by omega) hi h⟩
theorem forL1 {A B : Type} (W : Nat → A → B → Int32 → Prop) (I : Nat → A → B → Prop) (e : Nat) (hx : ∀ n s v, I e s v → W (n + 1) s v (nI e)) (hs : ∀ n i s v, i < e → I i s v → (∀ s' v', I (i + 1) s' v' → W n s' v' (nI (i + 1))) → W (n + 1) s v (nI i)) (i : Nat) (s : A) (v : B) (hi : i ≤ e) (h : I i s v) : ∃ n, W n s v (nI i) :=
  forL (S := A × B) (fun k s x => W k s.1 s.2 x) (fun i s => I i s.1 s.2) e (fun n s k => hx n s.1 s.2 k) (fun n i s h1 h2 h3 => hs n i s.1 s.2 h1 h2 fun s' v' k => h3 (s', v') k) i (s, v) hi h
theorem forL2 {A B C : Type} (W : Nat → A → B → C → Int32 → Prop) (I : Nat → A → B → C → Prop) (e : Nat) (hx : ∀ n s v u, I e s v u → W (n + 1) s v u (nI e)) (hs : ∀ n i s v u, i < e → I i s v u → (∀ s' v' u', I (i + 1) s' v' u' → W n s' v' u' (nI (i + 1))) → W (n + 1) s v u (nI i)) (i : Nat) (s : A) (v : B) (u : C) (hi : i ≤ e) (h : I i s v u) : ∃ n, W n s v u (nI i) :=
  forL (S := A × B × C) (fun k s x => W k s.1 s.2.1 s.2.2 x) (fun i s => I i s.1 s.2.1 s.2.2) e (fun n s k => hx n s.1 s.2.1 s.2.2 k) (fun n i s h1 h2 h3 => hs n i s.1 s.2.1 s.2.2 h1 h2 fun s' v' u' k => h3 (s', v', u') k) i (s, v, u) hi h
theorem MT.ltA {T : Tw} {σ : ZS} (h : MT T σ) {i : Nat} (hi : i < 2 ^ 31) : (nI i < 2 * zI σ 47 (ix 1)) = (i < 2 * T.ns) := by
  have := h.wf.ns
  rw [ix1, h.m1, nI_2mul]; exact propext (nI_ltI hi (by omega))
theorem MT.ltC {T : Tw} {σ : ZS} (h : MT T σ) {i : Nat} (hi : i < 2 ^ 31) : (nI i < zI σ 47 (ix 0)) = (i < T.nc) := by
  have := h.wf.nc
  rw [ix0, h.m0]; exact propext (nI_ltI hi (by omega))
theorem MT.ltR {T : Tw} {σ : ZS} (h : MT T σ) {i : Nat} (hi : i < 2 ^ 31) : (nI i < zI σ 47 (ix 3)) = (i < T.nr) := by
  have := h.wf.nr
  rw [ix3, h.m3]; exact propext (nI_ltI hi (by omega))
theorem MT.ltS {T : Tw} {σ : ZS} (h : MT T σ) {i : Nat} (hi : i < 2 ^ 31) : (nI i < zI σ 47 (ix 1)) = (i < T.ns) := by
  have := h.wf.ns
  rw [ix1, h.m1]; exact propext (nI_ltI hi (by omega))
theorem nI1 (i : Nat) : nI i + 1 = nI (i + 1) := nI_1 i
/-- which arcs follow each -/
def FolM (T : Tw) (G : Nat → Nat → Bool) (σ : ZS) : Prop := ∀ a b, a < 2 * T.ns → b < 2 * T.ns → btL (zJ σ 566 a) b = (T.isArc a && T.isArc b && G a b)
theorem FolM.fr {T : Tw} {G : Nat → Nat → Bool} {σ σ' : ZS} {S : Nat → Prop} (h : FolM T G σ) (f : Fr S σ σ') (hs : ∀ c, S c → c ≠ 566) : FolM T G σ' := by
  intro a b ha hb
  rw [f.2.1 566 a fun k => hs _ k rfl, h a b ha hb]
theorem NowM.fr {sn an : Nat → Int32} {σ σ' : ZS} {S : Nat → Prop} (h : NowM sn an σ) (f : Fr S σ σ') (hs : ∀ c, S c → c ≠ 564 ∧ c ≠ 565) : NowM sn an σ' := by
  intro s hs'
  rw [f.1 564 s fun k => (hs _ k).1 rfl, f.1 565 s fun k => (hs _ k).2 rfl]
  exact h s hs'
theorem m_layFollows {T : Tw} {σ : ZS} (h : MT T σ) {sn an : Nat → Int32} (hn : NowM sn an σ) {Ret : ZS → Prop} (hr : ∀ σ', Fr (fun c => c = 566) σ σ' → FolM T (mayN T sn an) σ' → Ret σ') : wp_X4_layFollows σ Ret := by
  have hns := h.wf.ns
  unfold wp_X4_layFollows
  refine forL (S := ZS) (fun k s x => VL_X4_layFollows_2 Ret k s x) (fun i s => Fr (fun c => c = 566) σ s ∧ ∀ a b, a < i → b < 2 * T.ns → btL (zJ s 566 a) b = (T.isArc a && T.isArc b && mayN T sn an a b)) (2 * T.ns) ?_ ?_ 0 σ (Nat.zero_le _) ⟨Fr.rfl, fun a b ha => absurd ha (Nat.not_lt_zero _)⟩
  · rintro n s ⟨f, hb⟩
    have hs := h.fr f (by intro c hc; unfold noMT; omega)
    simp only [VL_X4_layFollows_2]
    rw [hs.ltA (by omega)]
    exact br_f (by omega) (hr s f fun a b ha hb' => hb a b ha hb')
  · rintro n i s hi ⟨f, hb⟩ ih
    have hs := h.fr f (by intro c hc; unfold noMT; omega)
    simp only [VL_X4_layFollows_2]
    rw [hs.ltA (by omega)]
    refine br_t hi ⟨vin (by omega) (by decide), nm_e ?_⟩
    rw [ix_nI (by omega), nI1]
    have f1 : Fr (fun c => c = 566) σ (sJ s 566 i 0) := f.sJ _ _ _ rfl
    have hs1 := h.fr f1 (by intro c hc; unfold noMT; omega)
    have ho : ∀ a b, a < i → b < 2 * T.ns → btL (zJ (sJ s 566 i 0) 566 a) b = (T.isArc a && T.isArc b && mayN T sn an a b) := by
      intro a b ha hb'
      rw [zJ_row, if_neg (by omega), hb a b ha hb']
    have h0 : btL (zJ (sJ s 566 i 0) 566 i) = fun _ => false := by
      funext b; rw [zJ_row, if_pos rfl, btL_0]
    generalize sJ s 566 i 0 = s1 at f1 hs1 ho h0 ⊢
    refine m_isArcN hs1 (by omega) (br0 (fun h1 => nm_e (ih _ ⟨f1, ?_⟩)) fun h1 => ?_)
    · intro a b ha hb'
      by_cases e : a = i
      · subst e; rw [h0, h1]; rfl
      · exact ho a b (by omega) hb'
    · refine forL (S := ZS) (fun k s x => VL_X4_layFollows_34 _ Ret k s (nI i) x) (fun j s' => Fr (fun c => c = 566) σ s' ∧ (∀ a b, a < i → b < 2 * T.ns → btL (zJ s' 566 a) b = (T.isArc a && T.isArc b && mayN T sn an a b)) ∧ ∀ b, b < 2 * T.ns → btL (zJ s' 566 i) b = (decide (b < j) && (T.isArc i && T.isArc b && mayN T sn an i b))) (2 * T.ns) ?_ ?_ 0 s1 (Nat.zero_le _) ⟨f1, ho, fun b _ => by rw [h0]; simp⟩
      · rintro n2 s' ⟨f', ho', hi'⟩
        have hs' := h.fr f' (by intro c hc; unfold noMT; omega)
        simp only [VL_X4_layFollows_34]
        rw [hs'.ltA (by omega)]; simp only [nI1]
        refine br_f (by omega) (nm_e (ih _ ⟨f', ?_⟩))
        intro a b ha hb'
        by_cases e : a = i
        · subst e; rw [hi' b hb']; simp [hb']
        · exact ho' a b (by omega) hb'
      · rintro n2 j s' hj ⟨f', ho', hi'⟩ ih2
        have hs' := h.fr f' (by intro c hc; unfold noMT; omega)
        have hn' := hn.fr f' (by intro c hc; omega)
        simp only [VL_X4_layFollows_34]
        rw [hs'.ltA (by omega)]; simp only [nI1]
        have skip : (T.isArc j && mayN T sn an i j) = false → VL_X4_layFollows_34 (VL_X4_layFollows_2 Ret n) Ret n2 s' (nI i) (nI (j + 1)) := by
          intro e
          refine ih2 _ ⟨f', ho', fun b hb' => ?_⟩
          rw [hi' b hb']
          by_cases e2 : b = j
          · subst e2
            cases h2 : T.isArc b <;> simp [h2] at e ⊢
            simp [e]
          · have : decide (b < j + 1) = decide (b < j) := by rw [Bool.eq_iff_iff]; simp; omega
            rw [this]
        refine br_t hj (m_isArcN hs' (by omega) (br0 (fun h2 => nm_e (skip (by simp [h2]))) fun h2 => ?_))
        refine m_mayNow hs' hn' hi hj (br0 (fun h3 => nm_e (skip (by simp [h3]))) fun h3 => ?_)
        refine ⟨vin (by omega) (by decide), vin (by omega) (by decide), nm_e (nm_e (ih2 _ ⟨f'.sJ _ _ _ rfl, fun a b ha hb' => ?_, fun b hb' => ?_⟩))⟩
        · rw [ix_nI (by omega), zJ_row, if_neg (by omega)]; exact ho' a b ha hb'
        · rw [ix_nI (by omega), zJ_row, if_pos rfl, btL_or, btL_one (by omega) (by omega), hi' b hb']
          by_cases e2 : b = j
          · subst e2; simp [h1, h2, h3]
          · have : decide (b < j + 1) = decide (b < j) := by rw [Bool.eq_iff_iff]; simp; omega
            rw [this]; simp [e2]
theorem lg_1 (b : Bool) : (lg_cmp (b2j b) 1 = 0) = (b = true) := by cases b <;> simp [b2j] <;> decide
theorem m_isAfter {T : Tw} {G : Nat → Nat → Bool} {σ : ZS} (hT : T.ns ≤ 24) (h : FolM T G σ) {a b : Nat} (ha : a < 2 * T.ns) (hb : b < 2 * T.ns) {Ret : Int32 → ZS → Prop} (hr : Ret (b2i (T.isArc a && T.isArc b && G a b)) σ) : wp_X4_isAfter σ (nI a) (nI b) Ret := by
  unfold wp_X4_isAfter
  rw [ix_nI (by omega), tstU _ (by omega), h a b ha hb, lg_1]
  refine ⟨vin (by omega) (by decide), fun h1 => ?_, fun h1 => ?_⟩
  · rw [h1] at hr; exact hr
  · rw [Bool.not_eq_true] at h1; rw [h1] at hr; exact hr
