/-! PURE HALF: image, restore, count, fault. -/
set_option maxRecDepth 100000
def IMM (ni : Nat) (v : Nat → IV) (σ : ZS) : Prop := ni ≤ 3 ∧ zI σ 44 29 = nI ni ∧ ∀ i, i < ni → HM σ (1168 + i) (v i)
theorem HM.eq {σ σ' : ZS} {R : Nat} {v : IV} (h : HM σ R v) (e : ∀ i, zI σ' R i = zI σ R i) : HM σ' R v := by
  unfold HM; simp only [e]; exact h
def noIm (c : Nat) : Prop := c ≠ 1000029 ∧ ¬ (1168 ≤ c ∧ c < 1171)
theorem IMM.fr {ni : Nat} {v : Nat → IV} {σ σ' : ZS} {S : Nat → Prop} (h : IMM ni v σ) (f : Fr S σ σ') (hs : ∀ c, S c → noIm c) : IMM ni v σ' := by
  have h1 := h.1
  refine ⟨h.1, by rw [f.1 44 29 fun k => (hs _ k).1 rfl]; exact h.2.1, fun i hi => (h.2.2 i hi).eq fun j => f.1 _ _ fun k => ?_⟩
  have := hs _ k
  unfold noIm cd at this
  rw [if_neg (by omega), if_neg (by omega)] at this
  omega
theorem IMM.gw {ni : Nat} {v : Nat → IV} {σ σ' : ZS} {k m : Nat} {S : Nat → Prop} (h : IMM ni v σ) (hz : NS ≤ zt σ) (g : Gw S k m σ σ') (hs : ∀ c, S c → noIm c) : IMM ni v σ' := by
  have hz : 1239 ≤ zt σ := hz
  have h1 := h.1
  refine ⟨h.1, by rw [g.i 44 29 (by omega) fun k => (hs _ k).1 rfl]; exact h.2.1, fun i hi => (h.2.2 i hi).eq fun j => g.i _ _ (by omega) fun k => ?_⟩
  have := hs _ k
  unfold noIm cd at this
  rw [if_neg (by omega), if_neg (by omega)] at this
  omega
def SIm (c : Nat) : Prop := c = 1000000 ∨ c = 1000029 ∨ c = 1000045 ∨ (1168 ≤ c ∧ c < 1171)
theorem M_image {ni : Nat} {v : Nat → IV} {σ : ZS} (h : IMM ni v σ) {tm nt : Nat} {sg al : Nat → Nat → Int32} {td : Nat → Int32} (hm : MH tm sg al σ) (ht : TdM nt td σ) {Ret : Int32 → ZS → Prop} (h1 : ni = 3 → ∀ σ', Fr (fun c => c = 1000000) σ σ' → Ret (-1) σ') (h2 : ni < 3 → ∀ σ', Fr SIm σ σ' → IMM (ni + 1) (up v ni (tm, sg, al, nt, td)) σ' → Ret (nI (ni + 1)) σ') : wp_X4_image σ Ret := by
  have h3 := h.1
  unfold wp_X4_image
  refine nm_e ?_
  have f0 : Fr (fun c => c = 1000000) σ (sI σ 44 0 0) := Fr.rfl.sI 44 0 0 rfl
  have h' := h.fr f0 (by intro c hc; unfold noIm; omega)
  have hm' := hm.fr f0 (by intro c hc; unfold noMH; omega)
  have ht' := ht.fr f0 (by intro c hc; omega)
  generalize sI σ 44 0 0 = σ1 at f0 h' hm' ht'
  rw [h'.2.1, show (3 : Int32) = nI 3 from rfl, nI_eq (by omega) (by decide), ix_nI (by omega)]
  refine ⟨fun k => h1 k σ1 f0, fun k => ?_⟩
  have hn : ni < 3 := by omega
  refine ⟨vin hn (by decide), m_save (tm := tm) ⟨by omega, by omega⟩ (fun s => kRow s hn) hm'.1 hm'.2.1 fun s hs => nm_e ?_⟩
  obtain ⟨s1, s2, s3, s4⟩ := hs
  have f1 : Fr (fun c => c = 1168 + ni ∨ c = 1000045) σ1 s := by
    have nc : ∀ a i, ¬ (cd a i = 1168 + ni ∨ cd a i = 1000045) → a ≠ 1168 + ni ∧ ¬ (a = 44 ∧ i = 45) := fun a i hn => by
      refine ⟨fun e => hn (.inl ?_), fun e => hn (.inr ?_)⟩
      · unfold cd; rw [if_neg (by omega), if_neg (by omega)]; exact e
      · rw [e.1, e.2]; rfl
    exact ⟨fun a i hn => s1 a i (nc a i hn).1 (nc a i hn).2, fun a i _ => by unfold zJ; rw [s2], by rw [s2]⟩
  have e29 : zI s 44 29 = nI ni := by rw [s1 44 29 (by omega) (by decide)]; exact h'.2.1
  rw [e29, nI1, zI_self]
  have f2 : Fr SIm σ (sI s 44 29 (nI (ni + 1))) := ((f0.mono fun c hc => .inl hc).trans (f1.mono fun c hc => by unfold SIm; omega)).sI 44 29 _ (.inr (.inl rfl))
  refine h2 hn _ f2 ⟨by omega, zI_self _ _ _ _, fun i hi => ?_⟩
  by_cases e : i = ni
  · subst e
    rw [up_self]
    have g : ∀ j, j < 14 + 48 * (tm + 1) → zI (sI s 44 29 (nI (i + 1))) (1168 + i) j = layI σ1 j := fun j hj => by rw [zI_ne _ (.inl (by omega))]; exact s4 j hj
    have ht12 := ht'.1
    refine ⟨hm.1, ht.1, ?_, ?_, fun k hk => ?_, fun t htt k hk => ?_⟩
    · rw [g 0 (by omega)]; exact hm'.2.1
    · rw [g 1 (by omega)]; exact ht'.2.1
    · have hk : k < nt := hk
      show zI _ _ (2 + k) = td k
      rw [g (2 + k) (by omega)]; unfold layI; rw [if_neg (by omega), if_neg (by omega), if_pos (by omega), show 2 + k - 2 = k by omega]; exact ht'.2.2 k hk
    · have htt : t ≤ tm := htt
      have l := layI_s (t := t) hk σ1
      show zI _ _ (14 + 48 * t + 2 * k) = sg t k ∧ zI _ _ (14 + 48 * t + 2 * k + 1) = al t k
      rw [g _ (by omega), g _ (by omega), l.1, l.2]
      exact ⟨hm'.2.2.1 t htt k hk, hm'.2.2.2 t htt k hk⟩
  · rw [up_ne _ _ e]
    refine (h'.2.2 i (by omega)).eq fun j => ?_
    rw [zI_ne _ (.inl (by omega))]; exact s1 _ _ (by omega) (by omega)
def SRn (c : Nat) : Prop := SRm c ∨ c = 1000000 ∨ c = 1000029
theorem M_restore {ni : Nat} {v : Nat → IV} {σ : ZS} (h : IMM ni v σ) {Ret : Int32 → ZS → Prop} (h1 : ni = 0 → ∀ σ', Fr (fun c => c = 1000000) σ σ' → Ret (-1) σ') (h2 : 1 ≤ ni → ∀ σ', Fr SRn σ σ' → IMM (ni - 1) v σ' → MH (v (ni - 1)).1 (v (ni - 1)).2.1 (v (ni - 1)).2.2.1 σ' → TdM (v (ni - 1)).2.2.2.1 (v (ni - 1)).2.2.2.2 σ' → Ret (nI (ni - 1)) σ') : wp_X4_restore σ Ret := by
  have h3 := h.1
  unfold wp_X4_restore
  refine nm_e ?_
  have f0 : Fr (fun c => c = 1000000) σ (sI σ 44 0 0) := Fr.rfl.sI 44 0 0 rfl
  have h' := h.fr f0 (by intro c hc; unfold noIm; omega)
  generalize sI σ 44 0 0 = σ1 at f0 h'
  rw [h'.2.1, nI_eq0 (by omega)]
  refine ⟨fun k => h1 k σ1 f0, fun k => nm_e ?_⟩
  have hn : 1 ≤ ni := by omega
  rw [nI_sub1 hn, zI_self, ix_nI (by omega)]
  have f1 : Fr SRn σ (sI σ1 44 29 (nI (ni - 1))) := (f0.mono fun c hc => by unfold SRn; omega).sI 44 29 _ (.inr (.inr rfl))
  have hI : IMM (ni - 1) v (sI σ1 44 29 (nI (ni - 1))) := ⟨by omega, zI_self _ _ _ _, fun i hi => (h'.2.2 i (by omega)).eq fun j => zI_ne _ (.inl (by omega))⟩
  have hv : HM (sI σ1 44 29 (nI (ni - 1))) (1168 + (ni - 1)) (v (ni - 1)) := (h'.2.2 (ni - 1) (by omega)).eq fun j => zI_ne _ (.inl (by omega))
  generalize sI σ1 44 29 (nI (ni - 1)) = σ2 at f1 hI hv
  refine ⟨vin (by omega) (by decide), m_rest ⟨by omega, by omega⟩ (fun s => kRow s (by omega)) hv fun s f hm ht => ?_⟩
  have hI2 := hI.fr f (by intro c hc; unfold SRm at hc; unfold noIm; omega)
  rw [hI2.2.1]
  exact h2 hn s (f1.trans (f.mono fun c hc => .inl hc)) hI2 hm ht
theorem C_count {σ : ZS} {nt ni tp : Nat} (e1 : zI σ 12 4 = nI nt) (e2 : zI σ 0 4 = nI ni) (e3 : zI σ 0 2 = nI tp) {x : Int32} {Ret : Int32 → ZS → Prop} (hr : Ret (if x = 0 then nI nt else if x = 1 then nI ni else if x = 2 then nI tp else -1) σ) : wp_X1_count σ x Ret := by
  unfold wp_X1_count
  rw [e1, e2, e3]
  refine ⟨fun k => ?_, fun k => ⟨fun k1 => ?_, fun k1 => ⟨fun k2 => ?_, fun k2 => ?_⟩⟩⟩
  · rw [if_pos k] at hr; exact hr
  · rw [if_neg k, if_pos k1] at hr; exact hr
  · rw [if_neg k, if_neg k1, if_pos k2] at hr; exact hr
  · rw [if_neg k, if_neg k1, if_neg k2] at hr; exact hr
theorem M_count {σ : ZS} {nt ni tp : Nat} (e1 : zI σ 44 28 = nI nt) (e2 : zI σ 44 29 = nI ni) (e3 : zI σ 44 1 = nI tp) {x : Int32} {Ret : Int32 → ZS → Prop} (hr : ∀ σ', Fr (fun c => c = 1000000) σ σ' → Ret (if x = 0 then nI nt else if x = 1 then nI ni else if x = 2 then nI tp else -1) σ') : wp_X4_count σ x Ret := by
  unfold wp_X4_count
  refine nm_e ?_
  have hr := hr _ (Fr.rfl.sI 44 0 0 rfl : Fr (fun c => c = 1000000) σ (sI σ 44 0 0))
  rw [zI_ne _ (.inr (by decide)), zI_ne _ (.inr (by decide)), zI_ne _ (.inr (by decide)), e1, e2, e3]
  refine ⟨fun k => ?_, fun k => ⟨fun k1 => ?_, fun k1 => ⟨fun k2 => ?_, fun k2 => ?_⟩⟩⟩
  · rw [if_pos k] at hr; exact hr
  · rw [if_neg k, if_pos k1] at hr; exact hr
  · rw [if_neg k, if_neg k1, if_pos k2] at hr; exact hr
  · rw [if_neg k, if_neg k1, if_neg k2] at hr; exact hr
