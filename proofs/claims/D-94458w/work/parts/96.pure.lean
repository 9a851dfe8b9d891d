/-! PURE HALF: rounds: the model. -/
set_option maxRecDepth 100000
theorem tb_0 (k : Nat) : tb 0 k = false := by unfold tb; simp
theorem wth_0 (k : Nat) : wth (some k) 0 = 2 ^ k := by unfold wth; dsimp only; rw [tb_0, if_neg (by simp), Nat.zero_xor]
theorem or_0w {o : Option Nat} {X : Nat} (hX : X < 2 ^ 14) (h : ∀ k, o = some k → k < 14) : nI X ||| nI (wth o 0) = nI (wth o X) := by
  cases o with
  | none =>
    show nI X ||| nI 0 = nI X
    refine bt_ext fun j hj => ?_
    rw [bt_or, ← n0, bt_0, Bool.or_false]
  | some k =>
    have hk := h k rfl
    rw [wth_0, ← pow_sh k (by omega)]
    exact or_w hX hk
theorem m_boxAt {T : Tw} {c : Nat} {σ : ZS} (w : T.WF) {rest : Int32} (hr : ∀ k, k < 32 → btI rest k = bxq T c k) {k : Nat} (hk : k < 16) {Ret : Int32 → ZS → Prop} (hR : Ret (nI (wth (bxO T c k) 0)) σ) : wp_X4_boxAt σ (nI k) rest Ret := by
  unfold wp_X4_boxAt
  rw [tst _ (by omega), hr k (by omega)]
  refine br0 (fun h => ?_) fun h => ?_
  · unfold bxO at hR; rw [h] at hR; exact hR
  · have hO : bxO T c k = some (cnt (bxq T c) k) := by unfold bxO; rw [h]; rfl
    have hj := bxO_lt hk hO
    have hn := bxN_le w c
    rw [hO, wth_0, ← pow_sh _ (by omega)] at hR
    refine forL1 (fun m s v x => VL_X4_boxAt_15 Ret m s (nI k) rest v x) (fun i s v => s = σ ∧ v = nI (cnt (bxq T c) i)) k ?_ ?_ 0 σ 0 (Nat.zero_le _) ⟨rfl, rfl⟩
    · rintro m s v ⟨rfl, rfl⟩
      simp only [VL_X4_boxAt_15]
      exact br_f (nI_nlt (Nat.le_refl _) (by omega)) hR
    · rintro m i s v hi ⟨rfl, rfl⟩ ih
      simp only [VL_X4_boxAt_15]
      simp only [nI1]
      refine br_t (nI_lt hi (by omega)) (nm_e (nm_e (ih s _ ⟨rfl, ?_⟩)))
      rw [tst _ (by omega), hr i (by omega)]
      show _ = nI (cnt _ i + _)
      cases bxq T c i
      · show _ + (0 : Int32) = _; rw [n0, nI_add]; rfl
      · show _ + (1 : Int32) = _; rw [n1, nI_add]; rfl
def FM (s : ZS) (X a : Nat) : Nat := rd s (1171 + 1 + a) X
def SmM (T : Tw) (c : Nat) (s : ZS) : Prop := ∀ a, a < 2 * T.ns → Sm s (1171 + 1 + a) (2 ^ bxN T c) 1000000000
theorem FM_up {T : Tw} {s : ZS} {c Y b v : Nat} (hv : v < 2 ^ 31) (hl : v < FM s Y b) : UPr T c (FM s) (FM (sI s (1171 + 1 + b) Y (nI v))) Y b v := by
  refine ⟨?_, hl, fun Y' x _ hx hne => ?_⟩
  · unfold FM; rw [rd_up hv, if_pos rfl]
  · unfold FM
    by_cases e : x = b
    · subst e; rw [rd_up hv, if_neg (by omega)]
    · unfold rd; rw [zI_ne _ (.inl (by omega))]
theorem SmM.up {T : Tw} {c : Nat} {s : ZS} (h : SmM T c s) {b Y v : Nat} (hv : v ≤ 1000000000) : SmM T c (sI s (1171 + 1 + b) Y (nI v)) := by
  intro a ha
  by_cases e : a = b
  · subst e; exact (h a ha).up (by decide) hv
  · intro x hx
    have := h a ha x hx
    unfold rd at this ⊢
    rw [zI_ne _ (.inl (by omega))]; exact this
def inRw (c : Nat) : Prop := 1172 ≤ c ∧ c < 1220
theorem inRw_M : ∀ c, inRw c → scM c := by intro c hc; unfold inRw at hc; unfold scM; omega
theorem m_spreads {T : Tw} {G : Nat → Nat → Bool} {σ : ZS} (mt : MT T σ) (hf : FolM T G σ) {c S a : Nat} {rest : Int32} (hrest : ∀ k, k < 32 → btI rest k = bxq T c k) (hS : S < 2 ^ bxN T c) (ha : a < 2 * T.ns) (hm : SmM T c σ) (hB : BR T G c 1000000000 (FM σ)) (hX : RX T G c S (FM σ)) {Ret : Int32 → ZS → Prop} (hr : ∀ s' r, Fr inRw σ s' → SmM T c s' → BR T G c 1000000000 (FM s') → RX T G c S (FM s') → (∀ X x, X < 2 ^ bxN T c → x < 2 * T.ns → FM s' X x ≤ FM σ X x) → ((r = 0 ∧ (∀ x, x < 2 * T.ns → FM s' S x = FM σ S x) ∧ (∀ b, T.isArc a = true → T.isArc b = true → G a b = true → FM s' (wtA T c S b) b ≤ FM s' S a + T.len b)) ∨ (r = 1 ∧ sumN (FM s' S) (2 * T.ns) < sumN (FM σ S) (2 * T.ns))) → Ret r s') : wp_X4_spreads σ (nI a) (nI S) rest Ret := by
  have w := mt.wf
  have hns := w.ns
  have hnc := w.nc
  have hn := bxN_le w c
  have hpw : 2 ^ bxN T c ≤ 1024 := Nat.pow_le_pow_right (n := 2) (by decide) hn
  have ivS : vp_in (nI S) 1024 := vin (by omega) (by decide)
  have iva : vp_in (nI a) 48 := vin (by omega) (by decide)
  obtain ⟨eS, bS⟩ := hm a ha S hS
  unfold wp_X4_spreads
  refine m_isArcN mt (by omega) (br0 (fun k => hr σ 0 Fr.rfl hm hB hX (fun _ _ _ _ => Nat.le_refl _) (.inl ⟨rfl, fun _ _ => rfl, fun b h1 => by rw [k] at h1; cases h1⟩)) fun k => ⟨iva, ivS, ?_⟩)
  rw [ix_nI (by omega), ix_nI (by omega), eS, show (1000000000 : Int32) = nI 1000000000 from rfl, nI_eq (by omega) (by omega)]
  refine ⟨fun e => hr σ 0 Fr.rfl hm hB hX (fun _ _ _ _ => Nat.le_refl _) (.inl ⟨rfl, fun _ _ => rfl, fun b h1 h2 h3 => ?_⟩), fun e => ?_⟩
  · have h4 := (hB.1 _ b (wtA_lt w hS h2) (Tw.arc_lt h2)).1
    change FM σ S a = 1000000000 at e
    omega
  refine forL1 (fun m s v x => VL_X4_spreads_30 Ret m s (nI a) (nI S) rest v x) (fun b s v => Fr inRw σ s ∧ SmM T c s ∧ BR T G c 1000000000 (FM s) ∧ RX T G c S (FM s) ∧ (∀ X x, X < 2 ^ bxN T c → x < 2 * T.ns → FM s X x ≤ FM σ X x) ∧ ((v = 0 ∧ (∀ x, x < 2 * T.ns → FM s S x = FM σ S x) ∧ (∀ b', b' < b → T.isArc a = true → T.isArc b' = true → G a b' = true → FM s (wtA T c S b') b' ≤ FM s S a + T.len b')) ∨ (v = 1 ∧ sumN (FM s S) (2 * T.ns) < sumN (FM σ S) (2 * T.ns)))) (2 * T.ns) ?_ ?_ 0 σ 0 (Nat.zero_le _) ⟨Fr.rfl, hm, hB, hX, fun _ _ _ _ => Nat.le_refl _, .inl ⟨rfl, fun _ _ => rfl, fun b' h => absurd h (Nat.not_lt_zero _)⟩⟩
  · rintro m s v ⟨f, mm, bb, rx, mo, cc⟩
    have mt' : MT T s := mt.fr f (by intro c hc; unfold inRw at hc; unfold noMT; omega)
    simp only [VL_X4_spreads_30]
    rw [mt'.ltA (by omega)]
    refine br_f (by omega) ⟨?_, hr s v f mm bb rx mo ?_⟩
    · rcases cc with ⟨rfl, -⟩ | ⟨rfl, -⟩
      · exact isB0
      · exact isB1
    · rcases cc with ⟨h1, h2, h3⟩ | h
      · exact .inl ⟨h1, h2, fun b hb1 hb2 hb3 => h3 b (Tw.arc_lt hb2) hb1 hb2 hb3⟩
      · exact .inr h
  · rintro m b s v hb ⟨f, mm, bb, rx, mo, cc⟩ ih
    have mt' : MT T s := mt.fr f (by intro c hc; unfold inRw at hc; unfold noMT; omega)
    have hf' : FolM T G s := hf.fr f (by intro c hc; unfold inRw at hc; omega)
    simp only [VL_X4_spreads_30]
    simp only [nI1]
    rw [mt'.ltA (by omega)]
    have skip : (T.isArc b = true → G a b = true → FM s (wtA T c S b) b ≤ FM s S a + T.len b) → VL_X4_spreads_30 Ret m s (nI a) (nI S) rest v (nI (b + 1)) := by
      intro hk
      refine ih s v ⟨f, mm, bb, rx, mo, ?_⟩
      rcases cc with ⟨h1, h2, h3⟩ | h
      · refine .inl ⟨h1, h2, fun b' hb' ha1 hb1 hg => ?_⟩
        by_cases e : b' = b
        · subst e; exact hk hb1 hg
        · exact h3 b' (by omega) ha1 hb1 hg
      · exact .inr h
    refine br_t hb (m_isAfter hns hf' ha hb (br0 (fun h1 => nm_e (skip fun k1 k2 => by rw [k, k1, k2] at h1; cases h1)) fun h1 => ?_))
    simp at h1
    obtain ⟨⟨-, hba⟩, hg⟩ := h1
    have hfin := w.fin hb
    have hl := w.len hb
    have hw := wtA_lt w (c := c) hS hba
    have hlt : FM s S a < 1000000000 := by
      have h1 := mo S a hS ha
      have h2 : FM σ S a ≠ 1000000000 := e
      have h3 : FM σ S a ≤ 1000000000 := bS
      omega
    have hW : Wr T G c S a (FM s S a) := (bb.1 S a hS ha).2.resolve_left (by omega)
    obtain ⟨ea, ba⟩ := mm a ha S hS
    obtain ⟨eb, bb2⟩ := mm b hb _ hw
    refine m_end mt' hb (m_boxAt w hrest (by omega) (nm_e ⟨iva, ivS, m_long mt' hb (nm_e ?_)⟩))
    rw [or_0w (pw14 hS (by omega)) (fun k hk => by have := bxO_A w hba hk; omega)]
    rw [show wth (bxO T c (T.fin b)) S = wtA T c S b from rfl]
    rw [ix_nI (show a < 2 ^ 31 by omega), ix_nI (show S < 2 ^ 31 by omega), ea, nI_add]
    rw [ix_nI (show b < 2 ^ 31 by omega), ix_nI (show wtA T c S b < 2 ^ 31 by omega), eb, nI_ltI (by omega) (by omega), nI_eq (by omega) (by omega)]
    have ivb : vp_in (nI b) 48 := vin (by omega) (by decide)
    have ivw : vp_in (nI (wtA T c S b)) 1024 := vin (by omega) (by decide)
    refine ⟨ivb, ivw, fun l => ⟨ivb, ivw, nm_e ?_⟩, fun l => nm_e (skip fun _ _ => by show rd s _ _ ≤ rd s _ _ + _; omega)⟩
    change FM s S a + T.len b < FM s (wtA T c S b) b at l
    rw [show rd s (1171 + 1 + a) S = FM s S a from rfl]
    have u := FM_up (T := T) (c := c) (s := s) (Y := wtA T c S b) (b := b) (v := FM s S a + T.len b) (by omega) l
    have mm' := mm.up (b := b) (Y := wtA T c S b) (v := FM s S a + T.len b) (by have : FM s (wtA T c S b) b ≤ 1000000000 := bb2; omega)
    have f' : Fr inRw σ (sI s (1171 + 1 + b) (wtA T c S b) (nI (FM s S a + T.len b))) := f.sI _ _ _ (by unfold inRw cd; rw [if_neg (by omega), if_neg (by omega)]; omega)
    have bb' := bb.up w hba hg hW u
    have rx' := rx.up w (Nat.le_refl _) u
    generalize sI s (1171 + 1 + b) (wtA T c S b) (nI (FM s S a + T.len b)) = s' at u mm' f' bb' rx' ⊢
    have mo' : ∀ X x, X < 2 ^ bxN T c → x < 2 * T.ns → FM s' X x ≤ FM σ X x := fun X x h1 h2 => Nat.le_trans (u.le h1 h2) (mo X x h1 h2)
    have same : wtA T c S b ≠ S → ∀ x, x < 2 * T.ns → FM s' S x = FM s S x := fun hne x hx => u.2.2 S x hS hx (.inl fun k => hne k.symm)
    have less : wtA T c S b = S → sumN (FM s' S) (2 * T.ns) < sumN (FM s S) (2 * T.ns) := fun he => by
      rw [he] at u
      refine sumN_lt hb (fun x hx hne => u.2.2 S x hS hx (.inr hne)) ?_
      rw [u.1]; exact u.2.1
    have one : (v = 1 ∨ wtA T c S b = S) → VL_X4_spreads_30 Ret m s' (nI a) (nI S) rest 1 (nI (b + 1)) := fun ho => by
      refine ih s' 1 ⟨f', mm', bb', rx', mo', .inr ⟨rfl, ?_⟩⟩
      by_cases he : wtA T c S b = S
      · have := less he
        rcases cc with ⟨-, h2, -⟩ | ⟨-, h⟩
        · rw [sumN_congr h2] at this; exact this
        · omega
      · have hv := ho.resolve_right he
        rcases cc with ⟨h1, -⟩ | ⟨-, h⟩
        · rw [hv] at h1; exact absurd h1 (by decide)
        · rw [sumN_congr (same he)]; exact h
    refine ⟨fun hv => ⟨fun he => nm_e (one (.inr he)), fun he => nm_e ?_⟩, fun hv => nm_e (one (.inl ?_))⟩
    · rcases cc with ⟨-, h2, h3⟩ | ⟨h1, -⟩
      · refine ih s' 0 ⟨f', mm', bb', rx', mo', .inl ⟨rfl, fun x hx => (same he x hx).trans (h2 x hx), fun b' hb' ha1 hb1 hgb => ?_⟩⟩
        by_cases eb' : b' = b
        · subst eb'
          rw [u.1, same he a ha]; exact Nat.le_refl _
        · rw [same he a ha]
          exact Nat.le_trans (u.le (wtA_lt w hS hb1) (Tw.arc_lt hb1)) (h3 b' (by omega) ha1 hb1 hgb)
      · rw [hv] at h1; exact absurd h1 (by decide)
    · rcases cc with ⟨h1, -⟩ | ⟨h1, -⟩
      · exact absurd h1 hv
      · exact h1
