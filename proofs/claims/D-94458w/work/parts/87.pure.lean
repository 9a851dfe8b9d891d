/-! PURE HALF: traffic: riders by rounds; the class. -/
set_option maxRecDepth 100000
/-- a rider: at which arc of its way; what is left of it; when it came there; when home; how often it waited -/
abbrev Rd : Type := Option Nat × Nat × Int32 × Option Nat × Int32
def rdP (v : Rd) : Option Nat := v.1
def rdL (v : Rd) : Nat := v.2.1
def rdC (v : Rd) : Int32 := v.2.2.1
def rdH (v : Rd) : Option Nat := v.2.2.2.1
def rdW (v : Rd) : Int32 := v.2.2.2.2
def rd0 : Rd := (none, 0, 0, none, 0)
/-- one round on -/
noncomputable def rdMv (T : Tw) (G : Nat → Nat → Bool) (k r : Nat) (v : Rd) : Rd :=
  if pR T G r = none then v else if (rdH v).isSome then v else
  match rdP v with
  | none => if T.rb r = k then (some 0, T.len (wA T G r 0), rdC v, rdH v, rdW v) else v
  | some p => if rdL v = 0 then v else (some p, rdL v - 1, if rdL v - 1 = 0 then nI k else rdC v, rdH v, rdW v)
/-- it stands at a corner -/
noncomputable def rdT (T : Tw) (G : Nat → Nat → Bool) (c r : Nat) (v : Rd) : Bool :=
  match rdP v with
  | none => false
  | some p => !(rdH v).isSome && (decide (rdL v = 0) && decide (T.fin (wA T G r p) = c))
/-- the first there -/
noncomputable def rdF (T : Tw) (G : Nat → Nat → Bool) (c : Nat) (st : Nat → Rd) : Nat → Option Nat
  | 0 => none
  | r + 1 => if rdT T G c r (st r) then (match rdF T G c st r with
    | none => some r
    | some f => if rdC (st r) < rdC (st f) then some r else some f) else rdF T G c st r
/-- it goes on -/
noncomputable def rdG (T : Tw) (G : Nat → Nat → Bool) (k r : Nat) (v : Rd) : Rd :=
  match rdP v with
  | none => v
  | some p => if pR T G r = some (p + 1) then (some p, rdL v, rdC v, some k, rdW v) else (some (p + 1), T.len (wA T G r (p + 1)), rdC v, rdH v, rdW v)
def rdA (v : Rd) : Rd := (rdP v, rdL v, rdC v, rdH v, rdW v + 1)
noncomputable def rdS (T : Tw) (G : Nat → Nat → Bool) (c k : Nat) (st : Nat → Rd) (r : Nat) : Rd :=
  if rdF T G c st T.nr = some r then rdG T G k r (st r) else if rdT T G c r (st r) then rdA (st r) else st r
def rdN (T : Tw) (st : Nat → Rd) : Nat := cnt (fun r => (rdH (st r)).isSome) T.nr
noncomputable def rdSs (T : Tw) (G : Nat → Nat → Bool) (k : Nat) (st : Nat → Rd) : Nat → Nat → Rd
  | 0 => st
  | c + 1 => rdS T G c k (rdSs T G k st c)
noncomputable def rdRun (T : Tw) (G : Nat → Nat → Bool) (q : Nat) : Nat → Nat → (Nat → Rd) → Nat × (Nat → Rd)
  | 0, k, st => (k, st)
  | f + 1, k, st => if rdN T st < q then rdRun T G q f (k + 1) (rdSs T G k (fun r => rdMv T G k r (st r)) T.nc) else (k, st)
/-- what always holds of a rider -/
def rdO (T : Tw) (G : Nat → Nat → Bool) (k r : Nat) (v : Rd) : Prop := (∀ p, rdP v = some p → ∃ n, pR T G r = some n ∧ p < n) ∧ (rdP v = none → rdH v = none) ∧ rdL v ≤ 99 ∧ ∀ h, rdH v = some h → h < k
theorem rdO.mono {T : Tw} {G : Nat → Nat → Bool} {k k' r : Nat} {v : Rd} (h : rdO T G k r v) (hk : k ≤ k') : rdO T G k' r v := ⟨h.1, h.2.1, h.2.2.1, fun x hx => by have := h.2.2.2 x hx; omega⟩
theorem wA_lt {T : Tw} {G : Nat → Nat → Bool} {r n k : Nat} (w : T.WF) (h : pR T G r = some n) (hk : k < n) : wA T G r k < 2 * T.ns := Tw.arc_lt (pA_lt w (show pN T G (T.rf r) (T.rt r) = some n from h) hk)
theorem rdO_mv {T : Tw} (w : T.WF) {G : Nat → Nat → Bool} {k r : Nat} {v : Rd} (hr : r < T.nr) (h : rdO T G k r v) : rdO T G k r (rdMv T G k r v) := by
  unfold rdMv
  cases hq : pR T G r with
  | none => rw [if_pos rfl]; exact h
  | some n =>
    rw [if_neg (by simp)]
    have hn := pR_pos w hr hq
    split
    · exact h
    · split
      · split
        · refine ⟨?_, ?_, ?_, h.2.2.2⟩
          · intro p hp; cases hp; exact ⟨n, hq, by omega⟩
          · intro hp; cases hp
          · exact (w.len (wA_lt w hq (by omega))).2
        · exact h
      · rename_i p hp
        split
        · exact h
        · refine ⟨?_, ?_, ?_, h.2.2.2⟩
          · intro p' hp'; cases hp'; exact h.1 p hp
          · intro hp; cases hp
          · show rdL v - 1 ≤ 99; have := h.2.2.1; omega
theorem rdF_lt {T : Tw} {G : Nat → Nat → Bool} {c : Nat} {st : Nat → Rd} {n f : Nat} (h : rdF T G c st n = some f) : f < n ∧ rdT T G c f (st f) = true := by
  induction n generalizing f with
  | zero => cases h
  | succ n ih =>
    unfold rdF at h
    split at h
    · rename_i ht
      split at h
      · cases h; exact ⟨by omega, ht⟩
      · rename_i g hg
        have := ih hg
        split at h
        · cases h; exact ⟨by omega, ht⟩
        · cases h; exact ⟨by omega, this.2⟩
    · have := ih h; exact ⟨by omega, this.2⟩
theorem rdF_none {T : Tw} {G : Nat → Nat → Bool} {c : Nat} {st : Nat → Rd} {n : Nat} (h : rdF T G c st n = none) {r : Nat} (hr : r < n) : rdT T G c r (st r) = false := by
  induction n with
  | zero => omega
  | succ n ih =>
    unfold rdF at h
    by_cases ht : rdT T G c n (st n) = true
    · rw [if_pos ht] at h
      split at h
      · cases h
      · split at h <;> cases h
    · rw [if_neg ht] at h
      by_cases e : r = n
      · subst e; simpa using ht
      · exact ih h (by omega)
theorem rdT_t {T : Tw} {G : Nat → Nat → Bool} {c r : Nat} {v : Rd} (h : rdT T G c r v = true) : ∃ p, rdP v = some p ∧ rdH v = none ∧ rdL v = 0 ∧ T.fin (wA T G r p) = c := by
  unfold rdT at h
  split at h
  · cases h
  · rename_i p hp
    simp at h
    exact ⟨p, hp, by cases hh : rdH v with
      | none => rfl
      | some x => rw [hh] at h; simp at h, h.2.1, h.2.2⟩
theorem rdO_s {T : Tw} (w : T.WF) {G : Nat → Nat → Bool} {c k : Nat} {st : Nat → Rd} {r : Nat} (h : rdO T G (k + 1) r (st r)) : rdO T G (k + 1) r (rdS T G c k st r) := by
  unfold rdS
  split
  · rename_i hf
    obtain ⟨p, h1, h2, h3, h4⟩ := rdT_t (rdF_lt hf).2
    obtain ⟨n, hn, hp⟩ := h.1 p h1
    unfold rdG
    rw [h1]
    dsimp only
    split
    · refine ⟨?_, ?_, h.2.2.1, ?_⟩
      · intro p' hp'; cases hp'; exact ⟨n, hn, hp⟩
      · intro hp'; cases hp'
      · intro x hx; cases hx; omega
    · rename_i hne
      have hp2 : p + 1 < n := by
        rcases Nat.lt_or_ge (p + 1) n with l | l
        · exact l
        · exact absurd (by rw [hn]; congr 1; omega) hne
      refine ⟨?_, ?_, ?_, h.2.2.2⟩
      · intro p' hp'; cases hp'; exact ⟨n, hn, hp2⟩
      · intro hp'; cases hp'
      · exact (w.len (wA_lt w hn hp2)).2
  · split
    · exact h
    · exact h
theorem rdO_ss {T : Tw} (w : T.WF) {G : Nat → Nat → Bool} {k : Nat} {st : Nat → Rd} {r : Nat} (h : rdO T G (k + 1) r (st r)) (c : Nat) : rdO T G (k + 1) r (rdSs T G k st c r) := by
  induction c with
  | zero => exact h
  | succ c ih => exact rdO_s w ih
theorem rdN_mv (T : Tw) (G : Nat → Nat → Bool) (k : Nat) (st : Nat → Rd) : rdN T (fun r => rdMv T G k r (st r)) = rdN T st := by
  refine cnt_congr fun r _ => ?_
  show (rdH (rdMv T G k r (st r))).isSome = _
  unfold rdMv
  repeat' split
  all_goals rfl
theorem rdN_s {T : Tw} {G : Nat → Nat → Bool} {c k : Nat} {st : Nat → Rd} : rdN T (rdS T G c k st) = rdN T st + (match rdF T G c st T.nr with | none => 0 | some f => if pR T G f = (rdP (st f)).map (· + 1) then 1 else 0) := by
  unfold rdN
  cases hf : rdF T G c st T.nr with
  | none =>
    refine cnt_congr fun r hr => ?_
    unfold rdS
    rw [hf, if_neg (by simp), rdF_none hf hr]; rfl
  | some f =>
    obtain ⟨hfl, hft⟩ := rdF_lt hf
    obtain ⟨p, h1, h2, -, -⟩ := rdT_t hft
    dsimp only
    have ne : ∀ x, x ≠ f → (rdH (rdS T G c k st x)).isSome = (rdH (st x)).isSome := fun x hx => by
      unfold rdS; rw [hf, if_neg (by intro e; cases e; exact hx rfl)]; split <;> rfl
    have self : rdS T G c k st f = rdG T G k f (st f) := by unfold rdS; rw [hf, if_pos rfl]
    by_cases e : pR T G f = some (p + 1)
    · rw [h1, if_pos (by rw [e]; rfl)]
      refine cnt_up hfl ne (by rw [h2]; rfl) ?_
      rw [self]; unfold rdG; rw [h1]; dsimp only; rw [if_pos e]; rfl
    · rw [h1, if_neg (by intro h; exact e (by rw [h]; rfl))]
      refine cnt_congr fun x _ => ?_
      by_cases ex : x = f
      · subst ex; rw [self]; unfold rdG; rw [h1]; dsimp only; rw [if_neg e]; rfl
      · exact ne x ex
/-! the class's riders -/
def RdC (T : Tw) (G : Nat → Nat → Bool) (s : ZS) (r : Nat) (v : Rd) : Prop := zI s 33 r = oI (pR T G r) ∧ (∀ n k, pR T G r = some n → k < n → zI s 32 (48 * r + k) = nI (wA T G r k)) ∧ zI s 34 r = oI (if (rdH v).isSome then (rdP v).map (· + 1) else rdP v) ∧ zI s 37 r = oI (rdH v) ∧ zI s 38 r = rdW v ∧ ((rdP v).isSome → rdH v = none → zI s 35 r = nI (rdL v) ∧ (rdL v = 0 → zI s 36 r = rdC v))
theorem RdC.keep {T : Tw} {G : Nat → Nat → Bool} {s s' : ZS} {r : Nat} {v : Rd} (h : RdC T G s r v) (e : ∀ a, 33 ≤ a → a < 39 → zI s' a r = zI s a r) (e32 : ∀ k, zI s' 32 k = zI s 32 k) : RdC T G s' r v := by
  obtain ⟨h1, h2, h3, h4, h5, h6⟩ := h
  refine ⟨by rw [e 33 (by omega) (by omega)]; exact h1, fun n k hn hk => by rw [e32]; exact h2 n k hn hk, by rw [e 34 (by omega) (by omega)]; exact h3, by rw [e 37 (by omega) (by omega)]; exact h4, by rw [e 38 (by omega) (by omega)]; exact h5, fun a b => ?_⟩
  rw [e 35 (by omega) (by omega), e 36 (by omega) (by omega)]; exact h6 a b
/-- only one rider's own places -/
def RdE (i : Nat) (s s' : ZS) : Prop := Fr (fun c => 34 ≤ c ∧ c < 39) s s' ∧ ∀ a j, j ≠ i → zI s' a j = zI s a j
theorem RdE.rfl' {i : Nat} {s : ZS} : RdE i s s := ⟨Fr.rfl, fun _ _ _ => rfl⟩
theorem RdE.st {i : Nat} {s s' : ZS} (h : RdE i s s') {a : Nat} (ha : 34 ≤ a ∧ a < 39) (v : Int32) : RdE i s (sI s' a i v) :=
  ⟨h.1.sI a i v (by unfold cd; rw [if_neg (by omega), if_neg (by omega)]; exact ha), fun b j hj => by rw [zI_ne _ (.inr hj)]; exact h.2 b j hj⟩
theorem RdC.ot {T : Tw} {G : Nat → Nat → Bool} {s s' : ZS} {i r : Nat} {v : Rd} (h : RdC T G s r v) (e : RdE i s s') (hr : r ≠ i) : RdC T G s' r v :=
  h.keep (fun a _ _ => e.2 a r hr) (fun k => e.1.1 32 k (by simp [cd]))
theorem c_isOut {T : Tw} {G : Nat → Nat → Bool} {s : ZS} {r k : Nat} {v : Rd} (w : T.WF) (hr : r < T.nr) (hk : k ≤ 1000) (h : RdC T G s r v) (o : rdO T G k r v) {Ret : Int32 → ZS → Prop} (hR : Ret (b2i ((rdP v).isSome && !(rdH v).isSome)) s) : wp_X1_isOut s (nI r) Ret := by
  obtain ⟨h1, -, h3, h4, -, -⟩ := h
  obtain ⟨o1, o2, -, o4⟩ := o
  have hnr := w.nr
  unfold wp_X1_isOut
  have iv : vp_in (nI r) 12 := vin (by omega) (by decide)
  rw [ix_nI (by omega), h1, h3, h4]
  refine ⟨iv, ?_⟩
  cases hp : rdP v with
  | none =>
    rw [o2 hp]
    rw [hp] at hR
    refine ⟨fun _ => hR, fun _ => ⟨iv, br_t rfl hR⟩⟩
  | some p =>
    obtain ⟨n, hn, hpn⟩ := o1 p hp
    have hn48 := (pR_pos w hr hn).2
    rw [hn]
    rw [hp] at hR
    refine br_f (by show ¬ nI n = -1; rw [nI_m1 (by omega)]; exact id) ⟨iv, br_f ?_ ⟨iv, ?_⟩⟩
    · split
      · show ¬ nI (p + 1) = -1; rw [nI_m1 (by omega)]; exact id
      · show ¬ nI p = -1; rw [nI_m1 (by omega)]; exact id
    · cases hh : rdH v with
      | none => rw [hh] at hR; exact br_t rfl hR
      | some x =>
        rw [hh] at hR
        have := o4 x hh
        exact br_f (by show ¬ nI x = -1; rw [nI_m1 (by omega)]; exact id) hR
theorem c_arcOf {T : Tw} {G : Nat → Nat → Bool} {s : ZS} {r p n : Nat} (w : T.WF) (hr : r < T.nr) (hn : pR T G r = some n) (hp : p < n) (e34 : zI s 34 r = nI p) (e32 : ∀ k, k < n → zI s 32 (48 * r + k) = nI (wA T G r k)) {Ret : Int32 → ZS → Prop} (hR : Ret (nI (wA T G r p)) s) : wp_X1_arcOf s (nI r) Ret := by
  have hnr := w.nr
  have hn48 := (pR_pos w hr hn).2
  unfold wp_X1_arcOf
  rw [ix_nI (by omega), e34, nI_48mul, nI_add, ix_nI (by omega), e32 p hp]
  exact ⟨vin (by omega) (by decide), vin (by omega) (by decide), hR⟩
theorem c_rides {T : Tw} {d : Ad} {G : Nat → Nat → Bool} {s : ZS} (ct : CT T d s) {k r : Nat} (hr : r < T.nr) (hk : k < 1000) (ek : zI s 0 30 = nI k) {v : Rd} (h : RdC T G s r v) (o : rdO T G k r v) {Ret : ZS → Prop} (hR : ∀ s', RdE r s s' → RdC T G s' r (rdMv T G k r v) → Ret s') : wp_X1_rides s (nI r) Ret := by
  have w := ct.wf
  have hnr := w.nr
  have hrb := w.rb r hr
  have iv : vp_in (nI r) 12 := vin (by omega) (by decide)
  have hout := @c_isOut T G s r k v w hr (by omega) h o
  obtain ⟨h1, h2, h3, h4, h5, h6⟩ := id h
  unfold wp_X1_rides
  rw [ix_nI (by omega), h1]
  unfold rdMv at hR
  cases hn : pR T G r with
  | none =>
    rw [hn, if_pos rfl] at hR
    exact ⟨iv, br_t rfl (hR s RdE.rfl' h)⟩
  | some n =>
    have hn48 := pR_pos w hr hn
    rw [hn, if_neg (by simp)] at hR
    refine ⟨iv, br_f (by show ¬ nI n = -1; rw [nI_m1 (by omega)]; exact id) ⟨iv, ?_⟩⟩
    rw [h3]
    cases hp : rdP v with
    | none =>
      have hh := o.2.1 hp
      rw [hh, hp] at hR
      dsimp only [Option.isSome] at hR
      rw [if_neg (by simp)] at hR
      rw [hh]
      refine br_t rfl ?_
      rw [ct.pt, zo_in, ct.p2, zo_in]
      refine ⟨rfl, ct.kt, rfl, ct.lr.kl, j_get ct.lr hr ?_⟩
      have kr := (ct.lr.pi r hr).2.2
      rw [zo_in, ct.rb r hr, ek, nI_eq (by omega) (by omega)]
      refine ⟨rfl, kr, kr, fun e => ?_, fun e => ?_⟩
      · rw [if_pos e] at hR
        refine ⟨iv, nm_e ?_⟩
        have f1 : RdE r s (sI s 34 r 0) := RdE.rfl'.st (by omega) 0
        have ct1 := ct.fr f1.1 (by intro c hc; unfold noA; omega)
        rw [ct1.pt, zo_in]
        refine ⟨rfl, c_arcOf (p := 0) w hr hn (by omega) (zI_self _ _ _ _) (fun k hk => by rw [zI_ne _ (.inl (by decide))]; exact h2 n k hn hk) ⟨ct1.kt, c_length ct1 (wA_lt w hn (by omega)) ⟨iv, nm_e (hR _ (f1.st (by omega) _) ?_)⟩⟩⟩
        refine ⟨?_, fun n' k' hn' hk' => ?_, ?_, ?_, ?_, fun _ _ => ⟨?_, fun e0 => ?_⟩⟩
        · rw [zI_ne _ (.inl (by decide)), zI_ne _ (.inl (by decide))]; exact h1
        · rw [zI_ne _ (.inl (by decide)), zI_ne _ (.inl (by decide))]; exact h2 n' k' hn' hk'
        · rw [zI_ne _ (.inl (by decide)), zI_self]; rfl
        · rw [zI_ne _ (.inl (by decide)), zI_ne _ (.inl (by decide)), h4, hh]; rfl
        · rw [zI_ne _ (.inl (by decide)), zI_ne _ (.inl (by decide))]; exact h5
        · exact zI_self _ _ _ _
        · have := (w.len (wA_lt w hn (show 0 < n by omega))).1
          have e0 : T.len (wA T G r 0) = 0 := e0
          omega
      · rw [if_neg e] at hR
        unfold V_X1_rides_73
        refine hout (br_t ?_ (hR s RdE.rfl' h))
        rw [hp]; rfl
    | some p =>
      refine br_f ?_ ?_
      · obtain ⟨n', hn', hpn⟩ := o.1 p hp
        rw [hn] at hn'; cases hn'
        split
        · show ¬ nI (p + 1) = -1; rw [nI_m1 (by omega)]; exact id
        · show ¬ nI p = -1; rw [nI_m1 (by omega)]; exact id
      · unfold V_X1_rides_73
        refine hout ?_
        cases hh : rdH v with
        | some x =>
          rw [hh] at hR
          dsimp only [Option.isSome] at hR
          rw [if_pos rfl] at hR
          refine br_t ?_ (hR s RdE.rfl' h)
          rw [hp]; rfl
        | none =>
          obtain ⟨e35, e36⟩ := h6 (by rw [hp]; rfl) hh
          rw [hh, hp] at hR
          dsimp only [Option.isSome] at hR
          rw [if_neg (by simp)] at hR
          have hl99 := o.2.2.1
          refine br_f (by rw [hp]; show ¬ (1 : Int32) = 0; decide) ⟨iv, ?_⟩
          rw [ix_nI (by omega), e35]
          by_cases e0 : rdL v = 0
          · rw [if_pos e0] at hR
            rw [e0]
            exact br_f (by decide) (hR s RdE.rfl' h)
          · rw [if_neg e0] at hR
            refine br_t (by rw [n0]; exact nI_lt (by omega) (by omega)) ⟨iv, iv, nm_e ⟨iv, ?_⟩⟩
            rw [zI_self, nI_sub1 (by omega), nI_eq0 (by omega)]
            refine ⟨fun e1 => ⟨iv, nm_e (hR _ ((RdE.rfl'.st (by omega) _).st (by omega) _) ?_)⟩, fun e1 => hR _ (RdE.rfl'.st (by omega) _) ?_⟩
            · refine ⟨?_, fun n' k' hn' hk' => ?_, ?_, ?_, ?_, fun _ _ => ⟨?_, fun _ => ?_⟩⟩
              · rw [zI_ne _ (.inl (by decide)), zI_ne _ (.inl (by decide))]; exact h1
              · rw [zI_ne _ (.inl (by decide)), zI_ne _ (.inl (by decide))]; exact h2 n' k' hn' hk'
              · rw [zI_ne _ (.inl (by decide)), zI_ne _ (.inl (by decide)), h3, hp, hh]; rfl
              · rw [zI_ne _ (.inl (by decide)), zI_ne _ (.inl (by decide))]; rw [h4, hh]; rfl
              · rw [zI_ne _ (.inl (by decide)), zI_ne _ (.inl (by decide))]; exact h5
              · rw [zI_ne _ (.inl (by decide))]; exact zI_self _ _ _ _
              · rw [zI_self, zI_ne _ (.inl (by decide)), ek]; show _ = (if rdL v - 1 = 0 then nI k else rdC v); rw [if_pos e1]
            · refine ⟨?_, fun n' k' hn' hk' => ?_, ?_, ?_, ?_, fun _ _ => ⟨?_, fun e2 => absurd e2 e1⟩⟩
              · rw [zI_ne _ (.inl (by decide))]; exact h1
              · rw [zI_ne _ (.inl (by decide))]; exact h2 n' k' hn' hk'
              · rw [zI_ne _ (.inl (by decide)), h3, hp, hh]; rfl
              · rw [zI_ne _ (.inl (by decide))]; rw [h4, hh]; rfl
              · rw [zI_ne _ (.inl (by decide))]; exact h5
              · exact zI_self _ _ _ _
theorem rdT_some {T : Tw} {G : Nat → Nat → Bool} {c r p : Nat} {v : Rd} (h : rdP v = some p) (h2 : rdH v = none) : rdT T G c r v = (decide (rdL v = 0) && decide (T.fin (wA T G r p) = c)) := by
  unfold rdT; rw [h, h2]; rfl
theorem rdT_out {T : Tw} {G : Nat → Nat → Bool} {c r : Nat} {v : Rd} (h : ((rdP v).isSome && !(rdH v).isSome) = false) : rdT T G c r v = false := by
  unfold rdT
  cases hp : rdP v with
  | none => rfl
  | some p =>
    rw [hp] at h
    have h : (!(rdH v).isSome) = false := h
    dsimp only
    rw [h, Bool.false_and]
theorem addsub1 (x : Int32) : x + 1 - 1 = x := by
  apply Int32.toBitVec_inj.1
  show x.toBitVec + 1#32 - 1#32 = x.toBitVec
  rw [BitVec.add_sub_cancel]
/-- one more round of waiting, of those below i -/
noncomputable def rdI (T : Tw) (G : Nat → Nat → Bool) (c : Nat) (st : Nat → Rd) (i r : Nat) : Rd := if r < i ∧ rdT T G c r (st r) = true then rdA (st r) else st r
theorem rdI_no {T : Tw} {G : Nat → Nat → Bool} {c : Nat} {st : Nat → Rd} {i : Nat} (h : rdT T G c i (st i) = false) (r : Nat) : rdI T G c st (i + 1) r = rdI T G c st i r := by
  unfold rdI
  by_cases e : r = i
  · subst e; rw [if_neg (by rw [h]; simp), if_neg (by rw [h]; simp)]
  · by_cases l : r < i
    · simp [l, show r < i + 1 by omega]
    · rw [if_neg (by omega), if_neg (by omega)]
theorem rdI_ne {T : Tw} {G : Nat → Nat → Bool} {c : Nat} {st : Nat → Rd} {i r : Nat} (h : r ≠ i) : rdI T G c st (i + 1) r = rdI T G c st i r := by
  unfold rdI
  by_cases l : r < i
  · simp [l, show r < i + 1 by omega]
  · rw [if_neg (by omega), if_neg (by omega)]
theorem rdI_self {T : Tw} {G : Nat → Nat → Bool} {c : Nat} {st : Nat → Rd} {i : Nat} : rdI T G c st i i = st i := by unfold rdI; rw [if_neg (by omega)]
theorem rdI_t {T : Tw} {G : Nat → Nat → Bool} {c : Nat} {st : Nat → Rd} {i r : Nat} (h : r < i) (h2 : rdT T G c r (st r) = true) : rdI T G c st i r = rdA (st r) := by unfold rdI; rw [if_pos ⟨h, h2⟩]
def inH (c : Nat) : Prop := (34 ≤ c ∧ c < 39) ∨ c = 2000030 ∨ c = 2000031
theorem inH_A : ∀ c, inH c → noA c := by intro c hc; unfold inH at hc; unfold noA; omega
theorem c_passes {T : Tw} {d : Ad} {G : Nat → Nat → Bool} {s : ZS} (ct : CT T d s) {k c : Nat} (hc : c < T.nc) (hk : k < 999) (ek : zI s 0 30 = nI k) {st : Nat → Rd} (eh : zI s 0 31 = nI (rdN T st)) (h : ∀ r, r < T.nr → RdC T G s r (st r)) (o : ∀ r, r < T.nr → rdO T G (k + 1) r (st r)) {Ret : ZS → Prop} (hR : ∀ s', Fr inH s s' → (∀ r, r < T.nr → RdC T G s' r (rdS T G c k st r)) → zI s' 0 30 = nI k → zI s' 0 31 = nI (rdN T (rdS T G c k st)) → Ret s') : wp_X1_passes s (nI c) Ret := by
  have w := ct.wf
  have hnr := w.nr
  have hnc := w.nc
  unfold wp_X1_passes
  refine forL1 (fun m s v x => VL_X1_passes_4 Ret m s (nI c) v x) (fun i s2 v => Fr (fun c => c = 38) s s2 ∧ (∀ r, r < T.nr → RdC T G s2 r (rdI T G c st i r)) ∧ v = oI (rdF T G c st i)) T.nr ?_ ?_ 0 s (-1) (Nat.zero_le _) ⟨Fr.rfl, fun r hr => by unfold rdI; rw [if_neg (by omega)]; exact h r hr, rfl⟩
  · rintro n s2 v ⟨f2, g2, rfl⟩
    have ct2 := ct.fr f2 (by intro c hc; unfold noA; omega)
    have ek2 : zI s2 0 30 = nI k := by rw [f2.1 0 30 (by simp [cd])]; exact ek
    have eh2 : zI s2 0 31 = nI (rdN T st) := by rw [f2.1 0 31 (by simp [cd])]; exact eh
    have fH : Fr inH s s2 := f2.mono (by intro c hc; unfold inH; omega)
    have hN := @rdN_s T G c k st
    simp only [VL_X1_passes_4]
    rw [ct2.pt, zo_in, ct2.p2, zo_in]
    refine ⟨rfl, ct2.kt, rfl, ct2.lr.kl, j_size ct2.lr (br_f (nI_nlt (Nat.le_refl _) (by omega)) ?_)⟩
    cases hf : rdF T G c st T.nr with
    | none =>
      rw [hf] at hN
      refine br_t rfl (hR s2 fH (fun r hr => ?_) ek2 (by rw [hN]; exact eh2))
      have := g2 r hr
      unfold rdI at this
      unfold rdS
      rw [hf, if_neg (by simp)]
      rw [rdF_none hf hr] at this ⊢
      rw [if_neg (by simp)] at this ⊢
      exact this
    | some f =>
      rw [hf] at hN
      dsimp only at hN
      obtain ⟨hfl, hft⟩ := rdF_lt hf
      obtain ⟨p, h1, h2, h3, h4⟩ := rdT_t hft
      obtain ⟨nn, hn, hp⟩ := (o f hfl).1 p h1
      have hn48 := (pR_pos w hfl hn).2
      have iv : vp_in (nI f) 12 := vin (by omega) (by decide)
      have gf := g2 f hfl
      rw [rdI_t hfl hft] at gf
      obtain ⟨q1, q2, q3, q4, q5, q6⟩ := gf
      change zI s2 34 f = oI (if (rdH (st f)).isSome then (rdP (st f)).map (· + 1) else rdP (st f)) at q3
      rw [h2, h1] at q3
      change zI s2 34 f = nI p at q3
      change zI s2 37 f = oI (rdH (st f)) at q4
      change zI s2 38 f = rdW (st f) + 1 at q5
      have oth : ∀ s', RdE f s2 s' → ∀ r, r < T.nr → r ≠ f → RdC T G s' r (rdS T G c k st r) := fun s' e r hr hne => by
        have := (g2 r hr).ot e hne
        unfold rdI at this
        unfold rdS
        rw [hf, if_neg (by intro e; cases e; exact hne rfl)]
        by_cases ht : rdT T G c r (st r) = true
        · rw [if_pos ⟨hr, ht⟩] at this; rw [if_pos ht]; exact this
        · rw [if_neg (fun hh => ht hh.2)] at this; rw [if_neg ht]; exact this
      have selfE : rdS T G c k st f = rdG T G k f (st f) := by unfold rdS; rw [hf, if_pos rfl]
      refine br_f (by show ¬ nI f = -1; rw [nI_m1 (by omega)]; exact id) ?_
      show vp_in (nI f) 12 ∧ _
      change vp_in (nI f) 12 ∧ vp_in (nI f) 12 ∧ _
      refine ⟨iv, iv, nm_e ⟨iv, iv, nm_e ⟨iv, iv, ?_⟩⟩⟩
      show (zI _ 34 (ix (nI f)) = zI _ 33 (ix (nI f)) → _) ∧ _
      rw [show oI (some f) = nI f from rfl, ix_nI (by omega)]
      have e1 : RdE f s2 (sI (sI s2 38 f (zI s2 38 f - 1)) 34 f (zI (sI s2 38 f (zI s2 38 f - 1)) 34 f + 1)) := (RdE.rfl'.st (by omega) _).st (by omega) _
      have z34 : zI (sI (sI s2 38 f (zI s2 38 f - 1)) 34 f (zI (sI s2 38 f (zI s2 38 f - 1)) 34 f + 1)) 34 f = nI (p + 1) := by rw [zI_self, zI_ne _ (.inl (by decide)), q3, nI1]
      have z33 : zI (sI (sI s2 38 f (zI s2 38 f - 1)) 34 f (zI (sI s2 38 f (zI s2 38 f - 1)) 34 f + 1)) 33 f = nI nn := by rw [zI_ne _ (.inl (by decide)), zI_ne _ (.inl (by decide)), q1, hn]; rfl
      have z38 : zI (sI (sI s2 38 f (zI s2 38 f - 1)) 34 f (zI (sI s2 38 f (zI s2 38 f - 1)) 34 f + 1)) 38 f = rdW (st f) := by rw [zI_ne _ (.inl (by decide)), zI_self, q5, addsub1]
      have z37 : zI (sI (sI s2 38 f (zI s2 38 f - 1)) 34 f (zI (sI s2 38 f (zI s2 38 f - 1)) 34 f + 1)) 37 f = oI (rdH (st f)) := by rw [zI_ne _ (.inl (by decide)), zI_ne _ (.inl (by decide)), q4]
      have z32 : ∀ k, k < nn → zI (sI (sI s2 38 f (zI s2 38 f - 1)) 34 f (zI (sI s2 38 f (zI s2 38 f - 1)) 34 f + 1)) 32 (48 * f + k) = nI (wA T G f k) := fun k hk => by rw [zI_ne _ (.inl (by decide)), zI_ne _ (.inl (by decide))]; exact q2 nn k hn hk
      generalize sI (sI s2 38 f (zI s2 38 f - 1)) 34 f (zI (sI s2 38 f (zI s2 38 f - 1)) 34 f + 1) = s3 at e1 z34 z33 z38 z37 z32 ⊢
      rw [z34, z33, nI_eq (by omega) (by omega)]
      have ek3 : zI s3 0 30 = nI k := by rw [e1.1.1 0 30 (by simp [cd])]; exact ek2
      have eh3 : zI s3 0 31 = nI (rdN T st) := by rw [e1.1.1 0 31 (by simp [cd])]; exact eh2
      have fH3 : Fr inH s s3 := fH.trans (e1.1.mono (by intro c hc; unfold inH; omega))
      refine ⟨fun e => ⟨iv, nm_e (nm_e ?_)⟩, fun e => ?_⟩
      · rw [h1, hn, if_pos (by rw [← e]; rfl)] at hN
        have e4 : RdE f s2 (sI s3 37 f (zI s3 0 30)) := e1.st (by omega) _
        have z31 : zI (sI s3 37 f (zI s3 0 30)) 0 31 = nI (rdN T st) := by rw [zI_ne _ (.inl (by decide))]; exact eh3
        have z30 : zI (sI s3 37 f (zI s3 0 30)) 0 30 = nI k := by rw [zI_ne _ (.inl (by decide))]; exact ek3
        have fH4 : Fr inH s (sI s3 37 f (zI s3 0 30)) := fH3.sI 37 f _ (by unfold inH cd; simp)
        have gg : RdC T G (sI s3 37 f (zI s3 0 30)) f (rdG T G k f (st f)) := by
          unfold rdG
          rw [h1]
          dsimp only
          rw [if_pos (by rw [hn, ← e])]
          refine ⟨?_, fun n' k' hn' hk' => ?_, ?_, ?_, ?_, fun _ hx => by cases hx⟩
          · rw [zI_ne _ (.inl (by decide)), z33, hn]; rfl
          · rw [zI_ne _ (.inl (by decide))]; rw [hn] at hn'; cases hn'; exact z32 k' hk'
          · rw [zI_ne _ (.inl (by decide)), z34]; rfl
          · rw [zI_self, ek3]; rfl
          · rw [zI_ne _ (.inl (by decide)), z38]; rfl
        refine hR _ (fH4.sI 0 31 _ (by unfold inH cd; simp)) (fun r hr => ?_) (by rw [zI_ne _ (.inr (by decide))]; exact z30) (by rw [zI_self, z31, nI1, hN])
        refine RdC.keep (s := sI s3 37 f (zI s3 0 30)) ?_ (fun a ha _ => zI_ne _ (.inl (by omega))) (fun k => zI_ne _ (.inl (by decide)))
        by_cases er : r = f
        · subst er; rw [selfE]; exact gg
        · exact oth _ e4 r hr er
      · have hp2 : p + 1 < nn := by omega
        have ct3 := ct.fr fH3 inH_A
        rw [h1, hn, if_neg (by intro hh; exact e (by cases hh; rfl))] at hN
        rw [ct3.pt, zo_in]
        refine ⟨rfl, c_arcOf w hfl hn hp2 z34 z32 ⟨ct3.kt, c_length ct3 (wA_lt w hn hp2) ⟨iv, nm_e ?_⟩⟩⟩
        refine hR _ (fH3.sI 35 f _ (by unfold inH cd; simp)) (fun r hr => ?_) (by rw [zI_ne _ (.inl (by decide))]; exact ek3) (by rw [zI_ne _ (.inl (by decide)), hN]; exact eh3)
        by_cases er : r = f
        · subst er
          rw [selfE]
          unfold rdG
          rw [h1]
          dsimp only
          rw [if_neg (by rw [hn]; intro hh; cases hh; exact e rfl)]
          refine ⟨?_, fun n' k' hn' hk' => ?_, ?_, ?_, ?_, fun _ _ => ⟨zI_self _ _ _ _, fun e0 => ?_⟩⟩
          · rw [zI_ne _ (.inl (by decide)), z33, hn]; rfl
          · rw [zI_ne _ (.inl (by decide))]; rw [hn] at hn'; cases hn'; exact z32 k' hk'
          · rw [zI_ne _ (.inl (by decide)), z34, h2]; rfl
          · rw [zI_ne _ (.inl (by decide)), z37]; rfl
          · rw [zI_ne _ (.inl (by decide)), z38]; rfl
          · have := (w.len (wA_lt w hn hp2)).1
            have e0 : T.len (wA T G r (p + 1)) = 0 := e0
            omega
        · exact oth _ (e1.st (by omega) _) r hr er
  · rintro n i s2 v hi ⟨f2, g2, rfl⟩ ih
    have ct2 := ct.fr f2 (by intro c hc; unfold noA; omega)
    have iv : vp_in (nI i) 12 := vin (by omega) (by decide)
    have gi := g2 i hi
    rw [rdI_self] at gi
    have hout := @c_isOut T G s2 i (k + 1) (st i) w hi (by omega) gi (o i hi)
    simp only [VL_X1_passes_4]
    simp only [nI1]
    rw [ct2.pt, zo_in, ct2.p2, zo_in]
    refine ⟨rfl, ct2.kt, rfl, ct2.lr.kl, j_size ct2.lr (br_t (nI_lt hi (by omega)) (hout (br0 (fun k1 => nm_e (ih s2 _ ⟨f2, fun r hr => ?_, ?_⟩)) fun k1 => ?_)))⟩
    · rw [rdI_no (rdT_out k1)]; exact g2 r hr
    · rw [rdF, rdT_out k1]; rfl
    have hp' : (rdP (st i)).isSome = true := by simp at k1; exact k1.1
    obtain ⟨p, hp⟩ := Option.isSome_iff_exists.1 hp'
    have hh : rdH (st i) = none := by simp at k1; exact k1.2
    obtain ⟨nn, hn, hpn⟩ := (o i hi).1 p hp
    have hn48 := (pR_pos w hi hn).2
    have hl99 := (o i hi).2.2.1
    have hA := wA_lt w hn hpn
    have hfin := w.fin hA
    have ht := @rdT_some T G c i p (st i) hp hh
    obtain ⟨q1, q2, q3, q4, q5, q6⟩ := gi
    obtain ⟨e35, e36⟩ := q6 hp' hh
    rw [ix_nI (by omega), e35]
    refine ⟨iv, ?_⟩
    by_cases e0 : rdL (st i) = 0
    · rw [e0]
      refine br_f (by decide) ?_
      rw [ct2.pt, zo_in]
      refine ⟨rfl, c_arcOf w hi hn hpn (by rw [q3, hh, hp]; rfl) (fun k hk => q2 nn k hn hk) ⟨ct2.kt, c_end ct2 hA ?_⟩⟩
      rw [nI_eq (by omega) (by omega)]
      refine ⟨fun ec => ⟨iv, iv, nm_e ?_⟩, fun ec => nm_e (ih s2 _ ⟨f2, fun r hr => ?_, ?_⟩)⟩
      · have ht : rdT T G c i (st i) = true := by rw [ht]; simp [e0, ec]
        have e1 : RdE i s2 (sI s2 38 i (zI s2 38 i + 1)) := RdE.rfl'.st (by omega) _
        have f3 : Fr (fun c => c = 38) s (sI s2 38 i (zI s2 38 i + 1)) := f2.sI 38 i _ rfl
        have g3 : ∀ r, r < T.nr → RdC T G (sI s2 38 i (zI s2 38 i + 1)) r (rdI T G c st (i + 1) r) := fun r hr => by
          by_cases er : r = i
          · subst er
            rw [rdI_t (by omega) ht]
            refine ⟨?_, fun n' k' hn' hk' => ?_, ?_, ?_, ?_, fun _ _ => ⟨?_, fun _ => ?_⟩⟩
            · rw [zI_ne _ (.inl (by decide))]; exact q1
            · rw [zI_ne _ (.inl (by decide))]; exact q2 n' k' hn' hk'
            · rw [zI_ne _ (.inl (by decide))]; exact q3
            · rw [zI_ne _ (.inl (by decide))]; exact q4
            · rw [zI_self, q5]; rfl
            · rw [zI_ne _ (.inl (by decide))]; exact e35
            · rw [zI_ne _ (.inl (by decide))]; exact e36 e0
          · rw [rdI_ne er]; exact (g2 r hr).ot e1 er
        have eF := @rdF.eq_2 T G c st i
        rw [ht, if_pos rfl] at eF
        have z36 : zI (sI s2 38 i (zI s2 38 i + 1)) 36 i = rdC (st i) := by rw [zI_ne _ (.inl (by decide))]; exact e36 e0
        generalize sI s2 38 i (zI s2 38 i + 1) = s3 at f3 g3 z36 ⊢
        cases hf : rdF T G c st i with
        | none =>
          rw [hf] at eF
          exact br_t rfl (nm_e (ih s3 _ ⟨f3, g3, by rw [eF]; rfl⟩))
        | some f =>
          rw [hf] at eF
          dsimp only at eF
          obtain ⟨hfl, hft⟩ := rdF_lt hf
          obtain ⟨pf, t1, t2, t3, -⟩ := rdT_t hft
          have gf := g3 f (by omega)
          rw [rdI_t (by omega) hft] at gf
          have z36f : zI s3 36 f = rdC (st f) := (gf.2.2.2.2.2 (by show (rdP (st f)).isSome = true; rw [t1]; rfl) t2).2 t3
          refine br_f (by show ¬ nI f = -1; rw [nI_m1 (by omega)]; exact id) ⟨iv, vin (n := f) (by omega) (by decide), ?_⟩
          rw [show oI (some f) = nI f from rfl, ix_nI (by omega), z36, z36f]
          exact ⟨fun kc => nm_e (ih s3 _ ⟨f3, g3, by rw [eF, if_pos kc]; rfl⟩), fun kc => nm_e (ih s3 _ ⟨f3, g3, by rw [eF, if_neg kc]; rfl⟩)⟩
      · rw [rdI_no (by rw [ht]; simp [ec])]; exact g2 r hr
      · rw [rdF, ht]; simp [ec]
    · have htf : rdT T G c i (st i) = false := by rw [ht]; simp [e0]
      refine br_t (by rw [n0]; exact nI_lt (by omega) (by omega)) (nm_e (ih s2 _ ⟨f2, fun r hr => ?_, ?_⟩))
      · rw [rdI_no htf]; exact g2 r hr
      · rw [rdF, htf]; rfl
