/-! PURE HALF: the tape. -/
set_option maxRecDepth 100000
abbrev TpC (tp : Nat) (tb : Nat → Int32) (σ : ZS) : Prop := tp ≤ 500 ∧ zI σ 0 2 = nI tp ∧ ∀ i, i < tp → zI σ 16 i = tb i
abbrev TpM (tp : Nat) (tb : Nat → Int32) (σ : ZS) : Prop := tp ≤ 500 ∧ zI σ 44 1 = nI tp ∧ ∀ i, i < tp → zI σ 45 i = tb i &&& 255
/-- bytes laid behind a tape -/
def exN (tb : Nat → Int32) (tp : Nat) (bs : Nat → Int32) (n : Nat) : Nat → Int32 := fun i => if tp ≤ i ∧ i < tp + n then bs (i - tp) else tb i
def byI (v : Int32) (q : Nat) : Int32 := (v >>> (nI (24 - 8 * q) &&& 31)).toInt8.toInt32
def fdB (a b c d e : Int32) (k : Nat) : Int32 := byI (if k < 4 then a else if k < 8 then b else if k < 12 then c else if k < 16 then d else e) (k % 4)
theorem exN_s {tb : Nat → Int32} {tp : Nat} {bs : Nat → Int32} {n i : Nat} (hi : i < tp + (n + 1)) : exN tb tp bs (n + 1) i = if i = tp + n then bs n else exN tb tp bs n i := by
  unfold exN
  by_cases e : i = tp + n
  · rw [if_pos e, if_pos (by omega)]; congr 1; omega
  · rw [if_neg e]
    by_cases e2 : tp ≤ i ∧ i < tp + n
    · rw [if_pos e2, if_pos (by omega)]
    · rw [if_neg e2, if_neg (by omega)]
theorem byte_and (x : Int32) : x.toInt8.toInt32 &&& 255 = x &&& 255 := by
  apply bt_ext
  intro k hk
  rw [bt_and, bt_and]
  have h255 : ∀ j : Fin 32, btI 255 j.val = decide (j.val < 8) := by decide +kernel
  rw [h255 ⟨k, hk⟩]
  by_cases h : k < 8
  · simp only [h, decide_true, Bool.and_true]
    unfold btI
    show ((x.toBitVec.signExtend 8).signExtend 32).getLsbD k = _
    rw [BitVec.getLsbD_signExtend, BitVec.getLsbD_signExtend]
    simp [hk, h]
  · simp [h]
def SP (c : Nat) : Prop := c = 16 ∨ c = 2000002
def SPM (c : Nat) : Prop := c = 45 ∨ c = 1000001
theorem c_put1 {tp : Nat} {tb bs : Nat → Int32} {n : Nat} {σ0 σ : ZS} (f : Fr SP σ0 σ) (h : TpC (tp + n) (exN tb tp bs n) σ) (hn : tp + n < 500) {v : Int32} {q : Nat} (hq : q < 4) (hb : bs n = byI v q) {Ret : ZS → Prop} {k : Nat} (ih : ∀ s, Fr SP σ0 s → TpC (tp + (n + 1)) (exN tb tp bs (n + 1)) s → VL_X1_put_3 Ret k s v (nI (24 - 8 * q) + (-8))) : VL_X1_put_3 Ret (k + 1) σ v (nI (24 - 8 * q)) := by
  simp only [VL_X1_put_3]
  refine br_f (nI_pos (by omega)) ?_
  rw [h.2.1, ix_nI (by omega)]
  refine ⟨vin (by omega) (by decide), nm_e (nm_e (nm_e (ih _ ((f.sI 16 _ _ (.inl rfl)).sI 0 2 _ (.inr rfl)) ⟨by omega, ?_, fun i hi => ?_⟩)))⟩
  · rw [zI_self, zI_ne _ (.inl (by decide)), h.2.1, nI1]; rfl
  · rw [zI_ne _ (.inl (by decide)), zI_row, exN_s hi]
    by_cases e : i = tp + n
    · rw [if_pos e, if_pos e, pk_vb, hb]; rfl
    · rw [if_neg e, if_neg e]; exact h.2.2 i (by omega)
theorem c_put {tp : Nat} {tb bs : Nat → Int32} {n : Nat} {σ0 σ : ZS} (f : Fr SP σ0 σ) (h : TpC (tp + n) (exN tb tp bs n) σ) (hn : tp + n + 4 ≤ 500) {v : Int32} (hb : ∀ q, q < 4 → bs (n + q) = byI v q) {Ret : ZS → Prop} (hr : ∀ s, Fr SP σ0 s → TpC (tp + (n + 4)) (exN tb tp bs (n + 4)) s → Ret s) : wp_X1_put σ v Ret := by
  unfold wp_X1_put
  refine ⟨5, ?_⟩
  have e0 : nI (24 - 8 * 0) + (-8) = nI (24 - 8 * 1) := by decide
  have e1 : nI (24 - 8 * 1) + (-8) = nI (24 - 8 * 2) := by decide
  have e2 : nI (24 - 8 * 2) + (-8) = nI (24 - 8 * 3) := by decide
  have e3 : (nI (24 - 8 * 3) + (-8) : Int32) < 0 := by decide
  refine c_put1 (q := 0) f h (by omega) (by decide) (hb 0 (by decide)) fun s1 f1 h1 => ?_
  rw [e0]
  refine c_put1 (q := 1) f1 h1 (by omega) (by decide) (hb 1 (by decide)) fun s2 f2 h2 => ?_
  rw [e1]
  refine c_put1 (q := 2) f2 h2 (by omega) (by decide) (hb 2 (by decide)) fun s3 f3 h3 => ?_
  rw [e2]
  refine c_put1 (q := 3) f3 h3 (by omega) (by decide) (hb 3 (by decide)) fun s4 f4 h4 => ?_
  simp only [VL_X1_put_3]
  exact br_t e3 (hr s4 f4 h4)
def fdN (tp : Nat) : Nat := if 480 < tp then tp else tp + 20
def fdT (tp : Nat) (tb : Nat → Int32) (bs : Nat → Int32) : Nat → Int32 := if 480 < tp then tb else exN tb tp bs 20
def fdV (tp : Nat) : Int32 := if 480 < tp then -1 else nI (tp + 20)
theorem feed_c {tp : Nat} (h : tp ≤ 500) : ((500 : Int32) < nI tp + 20) = (480 < tp) := by
  rw [show (20 : Int32) = nI 20 from rfl, nI_add, show (500 : Int32) = nI 500 from rfl, nI_ltI (by decide) (by omega)]
  apply propext; omega
theorem C_feed {tp : Nat} {tb : Nat → Int32} {σ : ZS} (h : TpC tp tb σ) {a b c d e : Int32} {Ret : Int32 → ZS → Prop} (hr : ∀ σ', Fr SP σ σ' → TpC (fdN tp) (fdT tp tb (fdB a b c d e)) σ' → Ret (fdV tp) σ') : wp_X1_feed σ a b c d e Ret := by
  unfold wp_X1_feed
  rw [h.2.1, feed_c h.1]
  unfold fdN fdT fdV at hr
  refine ⟨fun k => ?_, fun k => ?_⟩
  · have := hr σ Fr.rfl
    rw [if_pos k, if_pos k, if_pos k] at this
    exact this h
  rw [if_neg k, if_neg k, if_neg k] at hr
  have h0 : TpC (tp + 0) (exN tb tp (fdB a b c d e) 0) σ := ⟨h.1, h.2.1, fun i hi => by unfold exN; rw [if_neg (by omega)]; exact h.2.2 i hi⟩
  have hk : tp ≤ 480 := by omega
  have hb : ∀ (n : Nat) (v : Int32), (∀ q, q < 4 → fdB a b c d e (n + q) = byI v ((n + q) % 4)) → n % 4 = 0 → ∀ q, q < 4 → fdB a b c d e (n + q) = byI v q := fun n v hh hn q hq => by
    rw [hh q hq]; congr 1; omega
  refine c_put Fr.rfl h0 (by omega) (v := a) (hb 0 a (fun q hq => by unfold fdB; rw [if_pos (by omega)]) rfl) fun s1 f1 h1 => ?_
  refine c_put f1 h1 (by omega) (v := b) (hb 4 b (fun q hq => by unfold fdB; rw [if_neg (by omega), if_pos (by omega)]) rfl) fun s2 f2 h2 => ?_
  refine c_put f2 h2 (by omega) (v := c) (hb 8 c (fun q hq => by unfold fdB; rw [if_neg (by omega), if_neg (by omega), if_pos (by omega)]) rfl) fun s3 f3 h3 => ?_
  refine c_put f3 h3 (by omega) (v := d) (hb 12 d (fun q hq => by unfold fdB; rw [if_neg (by omega), if_neg (by omega), if_neg (by omega), if_pos (by omega)]) rfl) fun s4 f4 h4 => ?_
  refine c_put f4 h4 (by omega) (v := e) (hb 16 e (fun q hq => by unfold fdB; rw [if_neg (by omega), if_neg (by omega), if_neg (by omega), if_neg (by omega)]) rfl) fun s5 f5 h5 => ?_
  rw [h5.2.1]
  exact hr s5 f5 h5
theorem M_feed {tp : Nat} {tb : Nat → Int32} {σ : ZS} (h : TpM tp tb σ) {a b c d e : Int32} {Ret : Int32 → ZS → Prop} (hr : ∀ σ', Fr (fun c => SPM c ∨ c = 1000000) σ σ' → TpM (fdN tp) (fdT tp tb (fdB a b c d e)) σ' → Ret (fdV tp) σ') : wp_X4_feed σ a b c d e Ret := by
  unfold wp_X4_feed
  refine nm_e ?_
  have f0 : Fr (fun c => SPM c ∨ c = 1000000) σ (sI σ 44 0 0) := Fr.rfl.sI 44 0 0 (.inr rfl)
  have h0 : TpM tp tb (sI σ 44 0 0) := ⟨h.1, by rw [zI_ne _ (.inr (by decide))]; exact h.2.1, fun i hi => by rw [zI_ne _ (.inl (by decide))]; exact h.2.2 i hi⟩
  rw [h0.2.1, feed_c h.1]
  unfold fdN fdT fdV at hr
  refine ⟨fun k => ?_, fun k => ?_⟩
  · have := hr _ f0
    rw [if_pos k, if_pos k, if_pos k] at this
    exact this h0
  rw [if_neg k, if_neg k, if_neg k] at hr
  refine forL (S := ZS) (fun m s x => VL_X4_feed_23 Ret m s a b c d e x) (fun n s => Fr (fun c => SPM c ∨ c = 1000000) σ s ∧ TpM (tp + n) (exN tb tp (fdB a b c d e) n) s) 20 ?_ ?_ 0 _ (Nat.zero_le _) ⟨f0, h0.1, h0.2.1, fun i hi => by unfold exN; rw [if_neg (by omega)]; exact h0.2.2 i hi⟩
  · rintro n s ⟨f, hs⟩
    simp only [VL_X4_feed_23]
    rw [hs.2.1]
    exact br_f (by decide) (hr s f hs)
  · rintro n i s hi ⟨f, hs⟩ ih
    simp only [VL_X4_feed_23]
    have lt : ∀ m, m < 2 ^ 31 → (nI i < nI m) = (i < m) := fun m hm => propext (nI_ltI (by omega) hm)
    have put : ∀ v : Int32, fdB a b c d e i = byI v (i % 4) → V_X4_feed_76 (VL_X4_feed_23 Ret n) Ret s a b c d e (nI i) v := by
      intro v hv
      unfold V_X4_feed_76
      simp only [nI1]
      have e1 : 24 - 8 * (nI i - nI i / 4 * 4) = nI (24 - 8 * (i % 4)) := by
        rw [n4, pk_rem (by omega) (by decide) (by decide), show (8 : Int32) = nI 8 from rfl, pk_mul, n24, pk_sub (by omega)]
      rw [hs.2.1, ix_nI (by omega), e1]
      refine ⟨vin (by omega) (by decide), nm_e (nm_e (nm_e (ih _ ⟨(f.sI 45 _ _ (.inl (.inl rfl))).sI 44 1 _ (.inl (.inr rfl)), by omega, ?_, fun j hj => ?_⟩)))⟩
      · rw [zI_self, zI_ne _ (.inl (by decide)), hs.2.1, nI1]; rfl
      · rw [zI_ne _ (.inl (by decide)), zI_row, exN_s hj]
        by_cases ej : j = tp + i
        · rw [if_pos ej, if_pos ej, hv]; unfold byI; rw [byte_and]
        · rw [if_neg ej, if_neg ej]; exact hs.2.2 j (by omega)
    rw [show (20 : Int32) = nI 20 from rfl, n4, show (8 : Int32) = nI 8 from rfl, show (12 : Int32) = nI 12 from rfl, show (16 : Int32) = nI 16 from rfl, lt 20 (by decide), lt 4 (by decide), lt 8 (by decide), lt 12 (by decide), lt 16 (by decide)]
    refine br_t hi ⟨fun k1 => put a (by unfold fdB; rw [if_pos k1]), fun k1 => ⟨fun k2 => put b (by unfold fdB; rw [if_neg k1, if_pos k2]), fun k2 => ⟨fun k3 => put c (by unfold fdB; rw [if_neg k1, if_neg k2, if_pos k3]), fun k3 => ⟨fun k4 => put d (by unfold fdB; rw [if_neg k1, if_neg k2, if_neg k3, if_pos k4]), fun k4 => put e (by unfold fdB; rw [if_neg k1, if_neg k2, if_neg k3, if_neg k4])⟩⟩⟩⟩
