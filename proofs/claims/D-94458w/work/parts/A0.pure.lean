/-! PURE HALF: a town's text: what it says. -/
set_option maxRecDepth 100000
/-- a byte as the class holds it -/
def BY (x : Int32) : Prop := ∃ b, b < 256 ∧ x &&& 255 = nI b ∧ (b < 128 → x = nI b) ∧ (128 ≤ b → x < 0)
def chk8 (a : Nat) : Bool := let x := (Int8.ofNat a).toInt32; decide (x &&& 255 = nI a) && (if a < 128 then decide (x = nI a) else decide (x < 0))
theorem chk8_all : ∀ a : Fin 256, chk8 a.val = true := by decide +kernel
theorem BY_of (x : Int32) : BY x.toInt8.toInt32 := by
  have e : x.toInt8 = Int8.ofNat x.toInt8.toBitVec.toNat := by
    apply Int8.toBitVec_inj.1
    show x.toInt8.toBitVec = BitVec.ofNat 8 x.toInt8.toBitVec.toNat
    simp
  have hl : x.toInt8.toBitVec.toNat < 256 := x.toInt8.toBitVec.isLt
  rw [e]
  generalize x.toInt8.toBitVec.toNat = a at hl
  have := chk8_all ⟨a, hl⟩
  unfold chk8 at this
  simp only [Bool.and_eq_true, decide_eq_true_eq] at this
  refine ⟨a, hl, this.1, fun h => ?_, fun h => ?_⟩
  · have h2 := this.2; rw [if_pos h] at h2; simpa using h2
  · have h2 := this.2; rw [if_neg (by omega)] at h2; simpa using h2
def bV (x : Int32) : Nat := ix (x &&& 255)
theorem BY.v {x : Int32} (h : BY x) : bV x < 256 ∧ x &&& 255 = nI (bV x) ∧ (bV x < 128 → x = nI (bV x)) ∧ (128 ≤ bV x → x < 0) := by
  obtain ⟨b, h1, h2, h3, h4⟩ := h
  have : bV x = b := by unfold bV; rw [h2, ix_nI (by omega)]
  rw [this]; exact ⟨h1, h2, h3, h4⟩
/-- a text: what is at a place -/
def ch (n : Nat) (tx : Nat → Int32) (k : Nat) : Nat := if k < n then bV (tx k) else 256
def dg (c : Nat) : Bool := decide (48 ≤ c) && decide (c ≤ 57)
def lw (c : Nat) : Bool := decide (97 ≤ c) && decide (c ≤ 122)
noncomputable def sk (n : Nat) (tx : Nat → Int32) (k : Nat) : Nat := leastN (fun j => k ≤ j ∧ ch n tx j ≠ 32)
theorem ch_out {n : Nat} {tx : Nat → Int32} {k : Nat} (h : n ≤ k) : ch n tx k = 256 := by unfold ch; rw [if_neg (by omega)]
theorem sk_is (n : Nat) (tx : Nat → Int32) (k : Nat) : k ≤ sk n tx k ∧ ch n tx (sk n tx k) ≠ 32 ∧ ∀ j, k ≤ j → j < sk n tx k → ch n tx j = 32 := by
  have h : ∃ j, k ≤ j ∧ ch n tx j ≠ 32 := ⟨max k n, by omega, by rw [ch_out (by omega)]; decide⟩
  obtain ⟨h1, h2⟩ := leastN_is h
  refine ⟨h1.1, h1.2, fun j hj hl => ?_⟩
  have := h2 j hl
  apply Classical.byContradiction
  intro k; exact this ⟨hj, k⟩
theorem sk_le {n : Nat} {tx : Nat → Int32} {k : Nat} (h : k ≤ n) : sk n tx k ≤ n := by
  rcases Nat.lt_or_ge n (sk n tx k) with l | l
  · have := (sk_is n tx k).2.2 n h l
    rw [ch_out (Nat.le_refl _)] at this; cases this
  · exact l
theorem sk_eq {n : Nat} {tx : Nat → Int32} {k p : Nat} (h1 : k ≤ p) (h2 : ch n tx p ≠ 32) (h3 : ∀ j, k ≤ j → j < p → ch n tx j = 32) : sk n tx k = p :=
  leastN_eq ⟨h1, h2⟩ fun j hj hk => hk.2 (h3 j hk.1 hj)
theorem sk_sk (n : Nat) (tx : Nat → Int32) (k : Nat) : sk n tx (sk n tx k) = sk n tx k := sk_eq (Nat.le_refl _) (sk_is n tx k).2.1 fun j h1 h2 => by omega
/-- where digits end -/
noncomputable def dq (n : Nat) (tx : Nat → Int32) (p : Nat) : Nat := leastN (fun j => p ≤ j ∧ dg (ch n tx j) = false)
theorem dq_is (n : Nat) (tx : Nat → Int32) (p : Nat) : p ≤ dq n tx p ∧ dg (ch n tx (dq n tx p)) = false ∧ ∀ j, p ≤ j → j < dq n tx p → dg (ch n tx j) = true := by
  have h : ∃ j, p ≤ j ∧ dg (ch n tx j) = false := ⟨max p n, by omega, by rw [ch_out (by omega)]; rfl⟩
  obtain ⟨h1, h2⟩ := leastN_is h
  refine ⟨h1.1, h1.2, fun j hj hl => ?_⟩
  have := h2 j hl
  cases e : dg (ch n tx j)
  · exact absurd ⟨hj, e⟩ this
  · rfl
theorem dq_le {n : Nat} {tx : Nat → Int32} {k : Nat} (h : k ≤ n) : dq n tx k ≤ n := by
  rcases Nat.lt_or_ge n (dq n tx k) with l | l
  · have := (dq_is n tx k).2.2 n h l
    rw [ch_out (Nat.le_refl _)] at this; cases this
  · exact l
theorem dq_eq {n : Nat} {tx : Nat → Int32} {k p : Nat} (h1 : k ≤ p) (h2 : dg (ch n tx p) = false) (h3 : ∀ j, k ≤ j → j < p → dg (ch n tx j) = true) : dq n tx k = p :=
  leastN_eq ⟨h1, h2⟩ fun j hj hk => by rw [h3 j hk.1 hj] at hk; cases hk.2
def nv (n : Nat) (tx : Nat → Int32) (p : Nat) : Nat → Nat
  | 0 => 0
  | i + 1 => 10 * nv n tx p i + (ch n tx (p + i) - 48)
/-- how long a word is -/
noncomputable def wl (n : Nat) (tx : Nat → Int32) (k : Nat) : Nat := leastN (fun j => lw (ch n tx (k + j)) = false)
theorem wl_is (n : Nat) (tx : Nat → Int32) (k : Nat) : lw (ch n tx (k + wl n tx k)) = false ∧ ∀ j, j < wl n tx k → lw (ch n tx (k + j)) = true := by
  have h : ∃ j, lw (ch n tx (k + j)) = false := ⟨n, by rw [ch_out (by omega)]; rfl⟩
  obtain ⟨h1, h2⟩ := leastN_is h
  refine ⟨h1, fun j hl => ?_⟩
  have := h2 j hl
  cases e : lw (ch n tx (k + j))
  · exact absurd e this
  · rfl
theorem wl_le {n : Nat} {tx : Nat → Int32} {k : Nat} (h : k ≤ n) : k + wl n tx k ≤ n := by
  rcases Nat.lt_or_ge n (k + wl n tx k) with l | l
  · have := (wl_is n tx k).2 (n - k) (by omega)
    rw [ch_out (by omega)] at this; cases this
  · exact l
theorem wl_eq {n : Nat} {tx : Nat → Int32} {k p : Nat} (h2 : lw (ch n tx (k + p)) = false) (h3 : ∀ j, j < p → lw (ch n tx (k + j)) = true) : wl n tx k = p :=
  leastN_eq h2 fun j hj hk => by rw [h3 j hj] at hk; cases hk
noncomputable def eqL (n : Nat) (tx : Nat → Int32) (k : Nat) (l : List Int32) : Bool := @decide (wl n tx k = l.length ∧ ∀ j, j < l.length → nI (ch n tx (k + j)) = l.getD j 0) (Classical.propDecidable _)
theorem eqL_iff {n : Nat} {tx : Nat → Int32} {k : Nat} {l : List Int32} : eqL n tx k l = true ↔ (wl n tx k = l.length ∧ ∀ j, j < l.length → nI (ch n tx (k + j)) = l.getD j 0) := by unfold eqL; simp
/-- what a word is: 0 corner, 1 street, 2 one, 3 no, 4 may, 5 box, 6 rider, 7 none -/
noncomputable def kW (n : Nat) (tx : Nat → Int32) (k : Nat) : Nat := if eqL n tx k l_corner then 0 else if eqL n tx k l_street then 1 else if eqL n tx k l_one then 2 else if eqL n tx k l_no then 3 else if eqL n tx k l_may then 4 else if eqL n tx k l_box then 5 else if eqL n tx k l_rider then 6 else 7
/-! what was read so far -/
abbrev PR (α : Type) : Type := Sum (Nat × Nat) α
def pB {α β : Type} (r : PR α) (f : α → PR β) : PR β := match r with
  | .inl e => .inl e
  | .inr a => f a
noncomputable def numR (n : Nat) (tx : Nat → Int32) (k lo m : Nat) : PR (Nat × Nat) :=
  if dg (ch n tx (sk n tx k)) then
    (if lo ≤ nv n tx (sk n tx k) (dq n tx (sk n tx k) - sk n tx k) ∧ nv n tx (sk n tx k) (dq n tx (sk n tx k) - sk n tx k) < m then .inr (nv n tx (sk n tx k) (dq n tx (sk n tx k) - sk n tx k), dq n tx (sk n tx k)) else .inl (2, sk n tx k))
  else .inl (1, sk n tx k)
theorem numR_ok {n : Nat} {tx : Nat → Int32} {k lo m v q : Nat} (h : numR n tx k lo m = .inr (v, q)) : lo ≤ v ∧ v < m := by
  unfold numR at h
  split at h
  · split at h
    · rename_i h1; injection h with h; injection h with e1 e2; subst e1; exact h1
    · cases h
  · cases h
theorem numR_pos {n : Nat} {tx : Nat → Int32} {k lo m v q : Nat} (hk : k ≤ n) (h : numR n tx k lo m = .inr (v, q)) : k ≤ q ∧ q ≤ n := by
  unfold numR at h
  split at h
  · split at h
    · injection h with h; injection h with e1 e2; subst e2
      have := (sk_is n tx k).1
      have := (dq_is n tx (sk n tx k)).1
      have h3 := dq_le (tx := tx) (sk_le (tx := tx) hk)
      omega
    · cases h
  · cases h
def PT : Type := Tw × (Nat → Int32) × (Nat → Int32) × Nat
def PT.T (P : PT) : Tw := P.1
def PT.sg (P : PT) : Nat → Int32 := P.2.1
def PT.al (P : PT) : Nat → Int32 := P.2.2.1
def PT.cl (P : PT) : Nat := P.2.2.2
def up {α : Type} (f : Nat → α) (i : Nat) (v : α) : Nat → α := fun j => if j = i then v else f j
theorem up_self {α : Type} (f : Nat → α) (i : Nat) (v : α) : up f i v i = v := by unfold up; rw [if_pos rfl]
theorem up_ne {α : Type} (f : Nat → α) {i j : Nat} (v : α) (h : j ≠ i) : up f i v j = f j := by unfold up; rw [if_neg h]
def T0 : Tw := Tw.mk 0 (fun _ => 0) (fun _ => 0) 0 (fun _ => 0) (fun _ => 0) (fun _ => 0) (fun _ => false) 0 0 (fun _ => 0) (fun _ => 0) (fun _ => 0) 0 (fun _ => 0) (fun _ => 0)
def PT0 : PT := (T0, fun _ => 0, fun _ => 0, 0)
def adC (T : Tw) (x y : Nat) : Tw := Tw.mk (T.nc + 1) (up T.cx T.nc (nI x)) (up T.cy T.nc (nI y)) T.ns T.sf T.st T.sl T.so T.bx T.nr T.rf T.rt T.rb T.nl T.lf T.lt
def adS (T : Tw) (a b l : Nat) : Tw := Tw.mk T.nc T.cx T.cy (T.ns + 1) (up T.sf T.ns a) (up T.st T.ns b) (up T.sl T.ns l) (up T.so T.ns false) T.bx T.nr T.rf T.rt T.rb T.nl T.lf T.lt
def stO (T : Tw) (s : Nat) : Tw := Tw.mk T.nc T.cx T.cy T.ns T.sf T.st T.sl (up T.so s true) T.bx T.nr T.rf T.rt T.rb T.nl T.lf T.lt
def stB (T : Tw) (c : Nat) : Tw := Tw.mk T.nc T.cx T.cy T.ns T.sf T.st T.sl T.so (T.bx ||| ((1 : Int32) <<< (nI c &&& 31))) T.nr T.rf T.rt T.rb T.nl T.lf T.lt
def adR (T : Tw) (a b m : Nat) : Tw := Tw.mk T.nc T.cx T.cy T.ns T.sf T.st T.sl T.so T.bx (T.nr + 1) (up T.rf T.nr a) (up T.rt T.nr b) (up T.rb T.nr m) T.nl T.lf T.lt
def orB (f : Nat → Int32) (s o : Nat) : Nat → Int32 := up f s (f s ||| ((1 : Int32) <<< (nI o &&& 31)))
noncomputable def dupC (T : Tw) (x y : Nat) : Bool := @decide (∃ k, k < T.nc ∧ T.cx k = nI x ∧ T.cy k = nI y) (Classical.propDecidable _)
theorem dupC_iff {T : Tw} {x y : Nat} : dupC T x y = true ↔ ∃ k, k < T.nc ∧ T.cx k = nI x ∧ T.cy k = nI y := by unfold dupC; simp
def meT (T : Tw) (s o : Nat) : Bool := decide (T.sf s = T.sf o) || decide (T.sf s = T.st o) || decide (T.st s = T.sf o) || decide (T.st s = T.st o)
noncomputable def bdy (n : Nat) (tx : Nat → Int32) (κ : Nat) (P : PT) (q : Nat) : PR (PT × Nat) :=
  match κ with
  | 0 => pB (numR n tx q 0 100) fun r => pB (numR n tx r.2 0 100) fun r2 => if dupC P.T r.1 r2.1 then .inl (2, sk n tx r.2) else .inr ((adC P.T r.1 r2.1, P.sg, P.al, P.cl), r2.2)
  | 1 => pB (numR n tx q 0 P.T.nc) fun r => pB (numR n tx r.2 0 P.T.nc) fun r2 => if r.1 = r2.1 then .inl (2, sk n tx r.2) else pB (numR n tx r2.2 1 100) fun r3 => .inr ((adS P.T r.1 r2.1 r3.1, P.sg, P.al, P.cl), r3.2)
  | 2 => pB (numR n tx q 0 P.T.ns) fun r => .inr ((stO P.T r.1, P.sg, P.al, P.cl), r.2)
  | 3 => pB (numR n tx q 0 P.T.ns) fun r => pB (numR n tx r.2 0 P.T.ns) fun r2 => if r.1 = r2.1 ∨ meT P.T r.1 r2.1 = false then .inl (2, sk n tx r.2) else .inr ((P.T, orB P.sg r.1 r2.1, P.al, P.cl), r2.2)
  | 4 => pB (numR n tx q 0 P.T.ns) fun r => pB (numR n tx r.2 0 P.T.ns) fun r2 => if r.1 = r2.1 ∨ meT P.T r.1 r2.1 = false then .inl (2, sk n tx r.2) else .inr ((P.T, P.sg, orB P.al r.1 r2.1, P.cl), r2.2)
  | 5 => pB (numR n tx q 0 P.T.nc) fun r => .inr ((stB P.T r.1, P.sg, P.al, P.cl), r.2)
  | _ => pB (numR n tx q 0 P.T.nc) fun r => pB (numR n tx r.2 0 P.T.nc) fun r2 => if r.1 = r2.1 then .inl (2, sk n tx r.2) else pB (numR n tx r2.2 0 100) fun r3 => .inr ((adR P.T r.1 r2.1 r3.1, P.sg, P.al, P.cl), r3.2)
def flC (κ : Nat) (P : PT) : Bool := decide (P.cl = 60) || decide (κ = 0 ∧ P.T.nc = 16) || decide (κ = 1 ∧ P.T.ns = 24) || decide (κ = 5 ∧ cnt (btI P.T.bx) 24 = 10) || decide (κ = 6 ∧ P.T.nr = 12)
noncomputable def semi (n : Nat) (tx : Nat → Int32) (r : PT × Nat) : PR (PT × Nat) := if ch n tx (sk n tx r.2) = 59 then .inr ((r.1.T, r.1.sg, r.1.al, r.1.cl + 1), sk n tx r.2 + 1) else .inl (1, sk n tx r.2)
noncomputable def cla (n : Nat) (tx : Nat → Int32) (k : Nat) (P : PT) : PR (PT × Nat) := if kW n tx k = 7 then .inl (1, k) else if flC (kW n tx k) P then .inl (3, k) else pB (bdy n tx (kW n tx k) P (k + wl n tx k)) (semi n tx)
noncomputable def prs (n : Nat) (tx : Nat → Int32) : Nat → Nat → PT → PR PT
  | 0, _, _ => .inl (0, 0)
  | f + 1, k, P => if k < n then pB (cla n tx k P) fun r => prs n tx f (sk n tx r.2) r.1 else .inr P
/-! they stay well -/
def PW1 (P : PT) : Prop := P.T.WF ∧ P.T.nl = 0
theorem WF_adC {T : Tw} (w : T.WF) (hc : T.nc < 16) (x y : Nat) : (adC T x y).WF :=
  ⟨hc, w.ns, w.nr, w.nl, fun s hs => Nat.lt_succ_of_lt (w.sf s hs), fun s hs => Nat.lt_succ_of_lt (w.st s hs), w.ft, w.sl, fun r hr => Nat.lt_succ_of_lt (w.rf r hr), fun r hr => Nat.lt_succ_of_lt (w.rt r hr), w.rn, w.rb, w.lf, w.lt, w.li, fun c hc => Nat.lt_succ_of_lt (w.bx c hc), w.bn⟩
theorem WF_adS {T : Tw} (w : T.WF) (h0 : T.nl = 0) (hs : T.ns < 24) {a b l : Nat} (ha : a < T.nc) (hb : b < T.nc) (hab : a ≠ b) (h1 : 1 ≤ l) (h2 : l < 100) : (adS T a b l).WF := by
  refine ⟨w.nc, hs, w.nr, w.nl, fun s h => ?_, fun s h => ?_, fun s h => ?_, fun s h => ?_, w.rf, w.rt, w.rn, w.rb, fun k hk => ?_, fun k hk => ?_, w.li, w.bx, w.bn⟩
  · show up T.sf T.ns a s < T.nc
    by_cases e : s = T.ns
    · rw [e, up_self]; exact ha
    · rw [up_ne _ _ e]; exact w.sf s (by have h : s < T.ns + 1 := h; omega)
  · show up T.st T.ns b s < T.nc
    by_cases e : s = T.ns
    · rw [e, up_self]; exact hb
    · rw [up_ne _ _ e]; exact w.st s (by have h : s < T.ns + 1 := h; omega)
  · show up T.sf T.ns a s ≠ up T.st T.ns b s
    by_cases e : s = T.ns
    · rw [e, up_self, up_self]; exact hab
    · rw [up_ne _ _ e, up_ne _ _ e]; exact w.ft s (by have h : s < T.ns + 1 := h; omega)
  · show 1 ≤ up T.sl T.ns l s ∧ up T.sl T.ns l s ≤ 99
    by_cases e : s = T.ns
    · rw [e, up_self]; omega
    · rw [up_ne _ _ e]; exact w.sl s (by have h : s < T.ns + 1 := h; omega)
  · have hk : k < T.nl := hk; omega
  · have hk : k < T.nl := hk; omega
theorem WF_stO {T : Tw} (w : T.WF) (s : Nat) : (stO T s).WF := w
theorem WF_stB {T : Tw} (w : T.WF) {c : Nat} (hc : c < T.nc) (hb : cnt (btI T.bx) 24 ≠ 10) : (stB T c).WF := by
  have hnc := w.nc
  have hbt : ∀ k, btI (T.bx ||| ((1 : Int32) <<< (nI c &&& 31))) k = (decide (k = c) || btI T.bx k) := fun k => by
    rw [bt_or]
    rcases Nat.lt_or_ge k 32 with l | l
    · rw [bt_one (by omega) l, Bool.or_comm]
    · rw [bt_hi _ l, bt_hi _ l]; have : k ≠ c := by omega
      simp [this]
  refine ⟨w.nc, w.ns, w.nr, w.nl, w.sf, w.st, w.ft, w.sl, w.rf, w.rt, w.rn, w.rb, w.lf, w.lt, w.li, fun k hk => ?_, ?_⟩
  · have hk : btI (T.bx ||| ((1 : Int32) <<< (nI c &&& 31))) k = true := hk
    rw [hbt] at hk
    simp at hk
    rcases hk with hk | hk
    · rw [hk]; exact hc
    · exact w.bx k hk
  · show ((List.range 16).filter (btI (T.bx ||| ((1 : Int32) <<< (nI c &&& 31))))).length ≤ 10
    rw [cnt_filter]
    have h1 := bx_cnt w
    have h2 : cnt (btI T.bx) 24 = cnt (btI T.bx) 16 := cnt_cut (by omega) fun x hx _ => by
      cases e : btI T.bx x
      · rfl
      · have := w.bx x e; omega
    have h3 : cnt (btI (T.bx ||| ((1 : Int32) <<< (nI c &&& 31)))) 16 ≤ cnt (btI T.bx) 16 + 1 := by
      rw [show btI (T.bx ||| ((1 : Int32) <<< (nI c &&& 31))) = fun k => decide (k = c) || btI T.bx k from funext hbt]
      exact cnt_or1 _ _ _
    omega
theorem WF_adR {T : Tw} (w : T.WF) (hs : T.nr < 12) {a b l : Nat} (ha : a < T.nc) (hb : b < T.nc) (hab : a ≠ b) (h2 : l < 100) : (adR T a b l).WF := by
  refine ⟨w.nc, w.ns, hs, w.nl, w.sf, w.st, w.ft, w.sl, fun s h => ?_, fun s h => ?_, fun s h => ?_, fun s h => ?_, w.lf, w.lt, w.li, w.bx, w.bn⟩
  · show up T.rf T.nr a s < T.nc
    by_cases e : s = T.nr
    · rw [e, up_self]; exact ha
    · rw [up_ne _ _ e]; exact w.rf s (by have h : s < T.nr + 1 := h; omega)
  · show up T.rt T.nr b s < T.nc
    by_cases e : s = T.nr
    · rw [e, up_self]; exact hb
    · rw [up_ne _ _ e]; exact w.rt s (by have h : s < T.nr + 1 := h; omega)
  · show up T.rf T.nr a s ≠ up T.rt T.nr b s
    by_cases e : s = T.nr
    · rw [e, up_self, up_self]; exact hab
    · rw [up_ne _ _ e, up_ne _ _ e]; exact w.rn s (by have h : s < T.nr + 1 := h; omega)
  · show up T.rb T.nr l s ≤ 99
    by_cases e : s = T.nr
    · rw [e, up_self]; omega
    · rw [up_ne _ _ e]; exact w.rb s (by have h : s < T.nr + 1 := h; omega)
theorem WF_0 : T0.WF := by
  refine ⟨Nat.zero_le _, Nat.zero_le _, Nat.zero_le _, Nat.zero_le _, fun s hs => absurd hs (Nat.not_lt_zero _), fun s hs => absurd hs (Nat.not_lt_zero _), fun s hs => absurd hs (Nat.not_lt_zero _), fun s hs => absurd hs (Nat.not_lt_zero _), fun s hs => absurd hs (Nat.not_lt_zero _), fun s hs => absurd hs (Nat.not_lt_zero _), fun s hs => absurd hs (Nat.not_lt_zero _), fun s hs => absurd hs (Nat.not_lt_zero _), fun s hs => absurd hs (Nat.not_lt_zero _), fun s hs => absurd hs (Nat.not_lt_zero _), fun k j hk => absurd hk (Nat.not_lt_zero _), fun c hc => ?_, ?_⟩
  · have hc : btI 0 c = true := hc
    rw [bt_0] at hc; cases hc
  · show ((List.range 16).filter (btI 0)).length ≤ 10
    rw [cnt_filter, cnt_cut (m := 0) (Nat.zero_le _) fun x _ _ => bt_0 x]; exact Nat.zero_le _
