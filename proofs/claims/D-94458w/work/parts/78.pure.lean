/-! PURE HALF: changes: the class. -/
set_option maxRecDepth 100000
def up1 (f : Nat → Nat → Int32) (t : Nat) (r : Nat → Int32) : Nat → Nat → Int32 := fun u => if u = t then r else f u
/-- codes the class's changes may write -/
def SW (c : Nat) : Prop := c = 12 ∨ c = 13 ∨ c = 14 ∨ c = 15 ∨ c = 1238
def PW (σ : ZS) (Ret : Int32 → ZS → Prop) (r : Res) (P : ZS → Prop) : Prop := ∀ σ', Gw SW 1 6 σ σ' → P σ' → (r.1 = 0 → zJ σ' 1238 0 = r.2) → Ret (nI r.1) σ'
theorem CH.gw {tm : Nat} {sg al : Nat → Nat → Int32} {σ σ' : ZS} {k m : Nat} (h : CH tm sg al σ) (hz : NS ≤ zt σ) (g : Gw (fun _ => False) k m σ σ') : CH tm sg al σ' := by
  have hz : 1239 ≤ zt σ := hz
  refine ⟨h.ht, ?_, fun t ht s hs => ?_, fun t ht s hs => ?_⟩
  · rw [g.i 12 3 (by omega) id]; exact h.et
  · rw [g.i 13 _ (by omega) id]; exact h.es t ht s hs
  · rw [g.i 14 _ (by omega) id]; exact h.ea t ht s hs
theorem TdC.gw {nt : Nat} {td : Nat → Int32} {σ σ' : ZS} {k m : Nat} (h : TdC nt td σ) (hz : NS ≤ zt σ) (g : Gw (fun _ => False) k m σ σ') : TdC nt td σ' := by
  have hz : 1239 ≤ zt σ := hz
  refine ⟨h.1, ?_, fun i hi => ?_⟩
  · rw [g.i 12 4 (by omega) id]; exact h.2.1
  · rw [g.i 15 i (by omega) id]; exact h.2.2 i hi
abbrev CS (tm : Nat) (sg al : Nat → Nat → Int32) (nt : Nat) (td : Nat → Int32) (σ : ZS) : Prop := CH tm sg al σ ∧ TdC nt td σ
theorem PW.thr {σ : ZS} {Ret : Int32 → ZS → Prop} {r : Res} {tm : Nat} {sg al : Nat → Nat → Int32} {nt : Nat} {td : Nat → Int32} (hr : PW σ Ret r (CS tm sg al nt td)) {c : Nat} (e : r.1 = c) (hc : c ≠ 0) (hz : NS ≤ zt σ) (hs : CS tm sg al nt td σ) {σ' : ZS} (g : Gw (fun _ => False) 1 6 σ σ') : Ret (nI c) σ' := by
  have := hr σ' (g.mono (fun _ k => k.elim) (Nat.le_refl _) (Nat.le_refl _)) ⟨hs.1.gw hz g, hs.2.gw hz g⟩ (fun k => absurd (e ▸ k) hc)
  rw [e] at this; exact this
theorem PW.ok {σ : ZS} {Ret : Int32 → ZS → Prop} {r : Res} {tm : Nat} {sg al : Nat → Nat → Int32} {nt : Nat} {td : Nat → Int32} (hr : PW σ Ret r (CS tm sg al nt td)) (e : r.1 = 0) {σ' : ZS} (f : Fr SW σ σ') (hs : CS tm sg al nt td σ') {v : Int64} (ev : v = r.2) : ∀ σ6 : ZS, σ6 = sJ σ' 1238 (ix 0) v → Ret 0 σ6 := by
  rintro σ6 rfl
  have f2 := f.sJ 1238 (ix 0) v (.inr (.inr (.inr (.inr rfl))))
  have g2 : Fr (fun c => c = 1238) σ' (sJ σ' 1238 (ix 0) v) := Fr.rfl.sJ _ _ _ rfl
  have := hr _ (f2.gw.mono (fun _ k => k) (by omega) (by omega)) ⟨hs.1.fr g2 (by intro c hc; omega), hs.2.fr g2 (by intro c hc; omega)⟩ (fun _ => by rw [← ev]; exact zJ_self _ _ _ _)
  rw [e] at this; exact this
theorem c_goesOn3 {tm : Nat} {sg al : Nat → Nat → Int32} {σ : ZS} (h : CH tm sg al σ) (htm : tm < 200) {r : Nat} (hr' : r ≤ tm) {Ret : ZS → Prop} (hr : ∀ σ', Fr SW σ σ' → CH (tm + 1) (up1 sg (tm + 1) (sg r)) (up1 al (tm + 1) (al r)) σ' → zI σ' 12 4 = zI σ 12 4 → (∀ i, zI σ' 15 i = zI σ 15 i) → Ret σ') : wp_X3_goesOn σ 12 (nI r) Ret := by
  have k12' := fun s => (⟨0, k12 s⟩ : ∃ n, kK NS s 12 = (9, n))
  unfold wp_X3_goesOn
  rw [p120, zo_in, nI_24mul, h.et, nI1, nI_24mul, ix_nI (by omega), ix_nI (by omega), show ix 24 = 24 from rfl]
  refine ⟨k12' _, rfl, k12' _, rfl, k12' _, 4824, k13 _, 4824, k13 _, ⟨nI_pos (by omega), nI_pos (by omega), by decide, by omega, by omega⟩, nm_e ?_⟩
  have e3 : zI (cI σ 13 13 (24 * r) (24 * (tm + 1)) 24) 12 3 = nI tm := by rw [zI_cIn _ (by decide)]; exact h.et
  rw [p121, zo_in, e3, nI1, nI_24mul, ix_nI (by omega)]
  refine ⟨k12' _, rfl, k12' _, rfl, k12' _, 4824, k14 _, 4824, k14 _, ⟨nI_pos (by omega), nI_pos (by omega), by decide, by omega, by omega⟩, nm_e ⟨k12' _, k12' _, nm_e ?_⟩⟩
  rw [zI_cIn _ (show 12 ≠ 14 by decide), e3, nI1]
  refine hr _ (((Fr.rfl.cI 13 13 _ _ _ (fun i => by unfold SW cd; simp)).cI 14 14 _ _ _ (fun i => by unfold SW cd; simp)).sI 12 3 _ (by unfold SW cd; simp)) ⟨by omega, zI_self _ _ _ _, fun t ht s hs => ?_, fun t ht s hs => ?_⟩ ?_ ?_
  · rw [zI_ne _ (.inl (by decide)), zI_cIn _ (by decide), qI_cI]
    unfold up1
    by_cases e : t = tm + 1
    · subst e
      rw [if_pos rfl, pk_cpy_in (by omega) (by omega), show 24 * r + (24 * (tm + 1) + s - 24 * (tm + 1)) = 24 * r + s by omega]
      exact h.es r hr' s hs
    · rw [if_neg e, pk_cpy_out (by omega)]; exact h.es t (by omega) s hs
  · rw [zI_ne _ (.inl (by decide)), qI_cI]
    unfold up1
    by_cases e : t = tm + 1
    · subst e
      rw [if_pos rfl, pk_cpy_in (by omega) (by omega), show 24 * r + (24 * (tm + 1) + s - 24 * (tm + 1)) = 24 * r + s by omega, zI_cIn _ (by decide)]
      exact h.ea r hr' s hs
    · rw [if_neg e, pk_cpy_out (by omega), zI_cIn _ (by decide)]; exact h.ea t (by omega) s hs
  · rw [zI_ne _ (.inr (by decide)), zI_cIn _ (by decide), zI_cIn _ (by decide)]
  · intro i; rw [zI_ne _ (.inl (by decide)), zI_cIn _ (by decide), zI_cIn _ (by decide)]
/-! tell, forget -/
def spTell (T : Tw) (nt : Nat) (c : Int32) : Nat × Int32 := sp1 (inN c T.nc) (if nt = 12 then -1 else nI (nt + 1))
def tlN (T : Tw) (nt : Nat) (c : Int32) : Nat := if inN c T.nc && !decide (nt = 12) then nt + 1 else nt
def tlD (nt : Nat) (td : Nat → Int32) (c : Int32) : Nat → Int32 := fun i => if i = nt then c else td i
theorem C_tell {T : Tw} {d : Ad} {tm : Nat} {sg al : Nat → Nat → Int32} {nt : Nat} {td : Nat → Int32} {σ : ZS} (ct : CT T d σ) (rm : Rm σ) (hs : CS tm sg al nt td σ) {c : Int32} {Ret : Int32 → ZS → Prop} (hr : PW σ Ret (wd (spTell T nt c)) (CS tm sg al (tlN T nt c) (tlD nt td c))) : wp_X0_tell σ c Ret := by
  unfold wp_X0_tell wp_X1_tell
  have h12 := hs.2.1
  have hold : ∀ s, CS tm sg al nt td s → CS tm sg al nt (tlD nt td c) s := fun s k => ⟨k.1, k.2.1, k.2.2.1, fun i hi => by unfold tlD; rw [if_neg (by omega)]; exact k.2.2.2 i hi⟩
  unfold spTell at hr
  refine c_needCorner ct rm (fun k => ?_) fun k σ' g k2 => ⟨⟨0, k2⟩, ?_⟩
  · rw [sp1_0 k] at hr
    rw [hs.2.2.1, show (12 : Int32) = nI 12 from rfl, nI_eq (by omega) (by decide)]
    unfold tlN at hr
    rw [k] at hr
    refine ⟨fun e => ?_, fun e => ⟨vin (by omega) (by decide), nm_e (nm_e ?_)⟩⟩
    · have : (true && !decide (nt = 12)) = false := by simp [e]
      rw [this] at hr
      refine PW.ok hr rfl Fr.rfl (hold σ hs) ?_
      show _ = Int32.toInt64 (ite _ _ _); rw [if_pos e]
    · have : (true && !decide (nt = 12)) = true := by simp [e]
      rw [this] at hr
      have e4 : zI (sI σ 15 nt c) 12 4 = nI nt := by rw [zI_ne _ (.inl (by decide))]; exact hs.2.2.1
      rw [ix_nI (by omega), e4, nI1, zI_self]
      refine hr.ok rfl ((Fr.rfl.sI 15 nt c (by unfold SW cd; simp)).sI 12 4 _ (by unfold SW cd; simp)) ⟨⟨hs.1.ht, ?_, fun t ht s hs' => ?_, fun t ht s hs' => ?_⟩, by show nt + 1 ≤ 12; omega, zI_self _ _ _ _, fun i hi => ?_⟩ ?_
      · rw [zI_ne _ (.inr (by decide)), zI_ne _ (.inl (by decide))]; exact hs.1.et
      · rw [zI_ne _ (.inl (by decide)), zI_ne _ (.inl (by decide))]; exact hs.1.es t ht s hs'
      · rw [zI_ne _ (.inl (by decide)), zI_ne _ (.inl (by decide))]; exact hs.1.ea t ht s hs'
      · rw [zI_ne _ (.inl (by decide)), zI_row]
        unfold tlD
        by_cases e2 : i = nt
        · rw [if_pos e2, if_pos e2]
        · have hi' : i < nt + 1 := hi
          rw [if_neg e2, if_neg e2]; exact hs.2.2.2 i (by omega)
      · show _ = Int32.toInt64 (ite _ _ _); rw [if_neg e]
  · have e0 : tlN T nt c = nt := by unfold tlN; rw [k]; rfl
    rw [e0] at hr
    exact PW.thr hr (c := 1) (sp1_1 k) (by decide) rm.1 (hold σ hs) g
theorem C_forget {tm : Nat} {sg al : Nat → Nat → Int32} {nt : Nat} {td : Nat → Int32} {σ : ZS} (hs : CS tm sg al nt td σ) {Ret : Int32 → ZS → Prop} (hr : ∀ σ', Fr SW σ σ' → CS tm sg al 0 td σ' → Ret (nI nt) σ') : wp_X1_forget σ Ret := by
  unfold wp_X1_forget
  refine nm_e (nm_e ?_)
  rw [hs.2.2.1]
  refine hr _ (Fr.rfl.sI 12 4 0 (by unfold SW cd; simp)) ⟨⟨hs.1.ht, ?_, fun t ht s hs' => ?_, fun t ht s hs' => ?_⟩, Nat.zero_le _, zI_self _ _ _ _, fun i hi => absurd hi (Nat.not_lt_zero _)⟩
  · rw [zI_ne _ (.inr (by decide))]; exact hs.1.et
  · rw [zI_ne _ (.inl (by decide))]; exact hs.1.es t ht s hs'
  · rw [zI_ne _ (.inl (by decide))]; exact hs.1.ea t ht s hs'
/-! back -/
def spBack (tm : Nat) (t : Int32) : Nat × Int32 := sp1 (inN t (tm + 1)) (if tm = 200 then -1 else nI (tm + 1))
def chB (tm : Nat) (t : Int32) : Bool := inN t (tm + 1) && !decide (tm = 200)
def nxT (tm : Nat) (b : Bool) : Nat := if b then tm + 1 else tm
theorem C_back {tm : Nat} {sg al : Nat → Nat → Int32} {nt : Nat} {td : Nat → Int32} {σ : ZS} (rm : Rm σ) (hs : CS tm sg al nt td σ) {t : Int32} {Ret : Int32 → ZS → Prop} (hr : PW σ Ret (wd (spBack tm t)) (CS (nxT tm (chB tm t)) (up1 sg (tm + 1) (sg (ix t))) (up1 al (tm + 1) (al (ix t))) nt td)) : wp_X0_back σ t Ret := by
  unfold wp_X0_back wp_X1_back
  have htm := hs.1.ht
  have hold : ∀ s, CS tm sg al nt td s → CS tm (up1 sg (tm + 1) (sg (ix t))) (up1 al (tm + 1) (al (ix t))) nt td s := fun s k => ⟨⟨k.1.ht, k.1.et, fun u hu q hq => by unfold up1; rw [if_neg (by omega)]; exact k.1.es u hu q hq, fun u hu q hq => by unfold up1; rw [if_neg (by omega)]; exact k.1.ea u hu q hq⟩, k.2⟩
  unfold spBack at hr
  refine c_isTime hs.1 (c_need rm (fun k => ?_) fun k σ' g k2 => ⟨⟨0, k2⟩, ?_⟩)
  · rw [sp1_0 k] at hr
    rw [hs.1.et, show (200 : Int32) = nI 200 from rfl, nI_eq (by omega) (by decide)]
    obtain ⟨w, rfl, hw, ew, -⟩ := inN_N k
    unfold chB at hr
    rw [k, ew] at hr
    rw [ew] at hold
    refine ⟨fun e => ?_, fun e => c_goesOn3 hs.1 (by omega) (show w ≤ tm by omega) fun s f ch2 e4 e15 => ?_⟩
    · have : (true && !decide (tm = 200)) = false := by simp [e]
      rw [this] at hr
      refine PW.ok hr rfl Fr.rfl (hold σ hs) ?_
      show _ = Int32.toInt64 (ite _ _ _); rw [if_pos e]
    · have : (true && !decide (tm = 200)) = true := by simp [e]
      rw [this] at hr
      rw [ch2.et]
      refine PW.ok hr rfl f ⟨ch2, hs.2.1, by rw [e4]; exact hs.2.2.1, fun i hi => by rw [e15]; exact hs.2.2.2 i hi⟩ ?_
      show _ = Int32.toInt64 (ite _ _ _); rw [if_neg e]
  · have e0 : nxT tm (chB tm t) = tm := by unfold nxT chB; rw [k]; rfl
    rw [e0] at hr
    exact PW.thr hr (c := 1) (sp1_1 k) (by decide) rm.1 (hold σ hs) g
