/-! PURE HALF: traffic, home: the model. -/
set_option maxRecDepth 100000
def RdM (T : Tw) (G : Nat → Nat → Bool) (s : ZS) (r : Nat) (v : Rd) : Prop := WyM T G s r ∧ zI s 1162 r = oI (rdP v) ∧ zI s 1165 r = oI (rdH v) ∧ zI s 1166 r = rdW v ∧ ((rdP v).isSome → rdH v = none → zI s 1163 r = nI (rdL v) ∧ (rdL v = 0 → zI s 1164 r = rdC v))
theorem RdM.keep {T : Tw} {G : Nat → Nat → Bool} {s s' : ZS} {r : Nat} {v : Rd} (h : RdM T G s r v) (e : ∀ a, 1161 ≤ a → a < 1167 → zI s' a r = zI s a r) (e48 : ∀ k, zI s' (1148 + 1 + r) k = zI s (1148 + 1 + r) k) : RdM T G s' r v := by
  obtain ⟨⟨h1, h2⟩, h3, h4, h5, h6⟩ := h
  refine ⟨⟨by rw [e 1161 (by omega) (by omega)]; exact h1, fun n k hn hk => by rw [e48]; exact h2 n k hn hk⟩, by rw [e 1162 (by omega) (by omega)]; exact h3, by rw [e 1165 (by omega) (by omega)]; exact h4, by rw [e 1166 (by omega) (by omega)]; exact h5, fun a b => ?_⟩
  rw [e 1163 (by omega) (by omega), e 1164 (by omega) (by omega)]; exact h6 a b
/-- only one rider's own places -/
def RdX (i : Nat) (s s' : ZS) : Prop := Fr (fun c => 1162 ≤ c ∧ c < 1167) s s' ∧ ∀ a j, j ≠ i → zI s' a j = zI s a j
theorem RdX.rfl' {i : Nat} {s : ZS} : RdX i s s := ⟨Fr.rfl, fun _ _ _ => rfl⟩
theorem RdX.st {i : Nat} {s s' : ZS} (h : RdX i s s') {a : Nat} (ha : 1162 ≤ a ∧ a < 1167) (v : Int32) : RdX i s (sI s' a i v) :=
  ⟨h.1.sI a i v (by unfold cd; rw [if_neg (by omega), if_neg (by omega)]; exact ha), fun b j hj => by rw [zI_ne _ (.inr hj)]; exact h.2 b j hj⟩
theorem RdM.ot {T : Tw} {G : Nat → Nat → Bool} {s s' : ZS} {i r : Nat} {v : Rd} (h : RdM T G s r v) (e : RdX i s s') (hr : r ≠ i) (hr2 : r < 12) : RdM T G s' r v :=
  h.keep (fun a _ _ => e.2 a r hr) (fun k => e.1.1 _ k (by unfold cd; rw [if_neg (by omega), if_neg (by omega)]; omega))
theorem m_isThere {T : Tw} {G : Nat → Nat → Bool} {s : ZS} (mt : MT T s) {r k c : Nat} {v : Rd} (hr : r < T.nr) (hc : c < T.nc) (hk : k ≤ 1000) (h : RdM T G s r v) (o : rdO T G k r v) {Ret : Int32 → ZS → Prop} (hR : Ret (b2i (rdT T G c r v)) s) : wp_X4_isThere s (nI r) (nI c) Ret := by
  have w := mt.wf
  have hnr := w.nr
  have hnc := w.nc
  have hns := w.ns
  have iv : vp_in (nI r) 12 := vin (by omega) (by decide)
  obtain ⟨⟨h1, h2⟩, h3, h4, h5, h6⟩ := h
  unfold wp_X4_isThere
  rw [ix_nI (by omega), h3, h4]
  refine ⟨iv, ?_⟩
  cases hp : rdP v with
  | none =>
    have : rdT T G c r v = false := rdT_out (by rw [hp]; rfl)
    rw [this] at hR
    exact br_t rfl hR
  | some p =>
    obtain ⟨n, hn, hpn⟩ := o.1 p hp
    have hn48 := (pR_pos w hr hn).2
    refine br_f (by show ¬ nI p = -1; rw [nI_m1 (by omega)]; exact id) ⟨iv, ?_⟩
    cases hh : rdH v with
    | some x =>
      have := o.2.2.2 x hh
      have : rdT T G c r v = false := rdT_out (by rw [hp, hh]; rfl)
      rw [this] at hR
      exact br_f (by show ¬ nI x = -1; rw [nI_m1 (by omega)]; exact id) hR
    | none =>
      obtain ⟨e63, e64⟩ := h6 (by rw [hp]; rfl) hh
      have hl99 := o.2.2.1
      have ht := @rdT_some T G c r p v hp hh
      refine br_t rfl ⟨iv, ?_⟩
      rw [e63, nI_eq0 (by omega)]
      refine ⟨fun e0 => ⟨iv, iv, vin (n := p) (by omega) (by decide), ?_⟩, fun e0 => ?_⟩
      · rw [show oI (some p) = nI p from rfl, ix_nI (by omega), h2 n p hn hpn]
        have hA := wA_lt w hn hpn
        have hfin := w.fin hA
        refine m_end mt hA ?_
        rw [nI_eq (by omega) (by omega)]
        refine ⟨fun ec => ?_, fun ec => ?_⟩
        · rw [ht] at hR; simpa [e0, ec, b2i] using hR
        · rw [ht] at hR; simpa [e0, ec, b2i] using hR
      · rw [ht] at hR; simpa [e0, b2i] using hR
theorem m_moves {T : Tw} {G : Nat → Nat → Bool} {s : ZS} (mt : MT T s) {k r : Nat} (hr : r < T.nr) (hk : k < 1000) (ek : zI s 44 43 = nI k) {v : Rd} (h : RdM T G s r v) (o : rdO T G k r v) {Ret : ZS → Prop} (hR : ∀ s', RdX r s s' → RdM T G s' r (rdMv T G k r v) → Ret s') : wp_X4_moves s (nI r) Ret := by
  have w := mt.wf
  have hnr := w.nr
  have hns := w.ns
  have hrb := w.rb r hr
  have iv : vp_in (nI r) 12 := vin (by omega) (by decide)
  obtain ⟨⟨h1, h2⟩, h3, h4, h5, h6⟩ := id h
  unfold wp_X4_moves
  rw [ix_nI (by omega), h1]
  unfold rdMv at hR
  refine ⟨iv, ?_⟩
  cases hn : pR T G r with
  | none =>
    rw [hn, if_pos rfl] at hR
    exact br_t rfl (hR s RdX.rfl' h)
  | some n =>
    have hn48 := pR_pos w hr hn
    rw [hn, if_neg (by simp)] at hR
    refine br_f (by show ¬ nI n = 0; rw [nI_eq0 (by omega)]; omega) ⟨iv, ?_⟩
    rw [h4]
    cases hh : rdH v with
    | some x =>
      have := o.2.2.2 x hh
      rw [hh] at hR
      dsimp only [Option.isSome] at hR
      rw [if_pos rfl] at hR
      exact br_f (by show ¬ nI x = -1; rw [nI_m1 (by omega)]; exact id) (hR s RdX.rfl' h)
    | none =>
      rw [hh] at hR
      dsimp only [Option.isSome] at hR
      rw [if_neg (by simp)] at hR
      refine br_t rfl ⟨iv, ?_⟩
      rw [h3]
      cases hp : rdP v with
      | none =>
        rw [hp] at hR
        dsimp only at hR
        refine br_t rfl ⟨iv, ?_⟩
        rw [ix2, mt.rb r hr, ek, nI_eq (by omega) (by omega)]
        refine ⟨fun e => ?_, fun e => ?_⟩
        · rw [if_pos e] at hR
          refine ⟨iv, nm_e ⟨iv, ?_⟩⟩
          have f1 : RdX r s (sI s 1162 r 0) := RdX.rfl'.st (by omega) 0
          have mt1 := mt.fr f1.1 (by intro c hc; unfold noMT; omega)
          rw [ix0, zI_ne _ (.inl (by omega)), h2 n 0 hn (by omega)]
          refine m_long mt1 (wA_lt w hn (by omega)) ⟨iv, nm_e (hR _ (f1.st (by omega) _) ?_)⟩
          refine ⟨⟨?_, fun n' k' hn' hk' => ?_⟩, ?_, ?_, ?_, fun _ _ => ⟨?_, fun e0 => ?_⟩⟩
          · rw [zI_ne _ (.inl (by decide)), zI_ne _ (.inl (by decide))]; exact h1
          · rw [zI_ne _ (.inl (by omega)), zI_ne _ (.inl (by omega))]; exact h2 n' k' hn' hk'
          · rw [zI_ne _ (.inl (by decide)), zI_self]; rfl
          · rw [zI_ne _ (.inl (by decide)), zI_ne _ (.inl (by decide)), h4, hh]; rfl
          · rw [zI_ne _ (.inl (by decide)), zI_ne _ (.inl (by decide))]; exact h5
          · exact zI_self _ _ _ _
          · have := (w.len (wA_lt w hn (show 0 < n by omega))).1
            have e0 : T.len (wA T G r 0) = 0 := e0
            omega
        · rw [if_neg e] at hR
          exact hR s RdX.rfl' h
      | some p =>
        rw [hp] at hR
        dsimp only at hR
        obtain ⟨n', hn', hpn⟩ := o.1 p hp
        rw [hn] at hn'; cases hn'
        obtain ⟨e63, e64⟩ := h6 (by rw [hp]; rfl) hh
        have hl99 := o.2.2.1
        refine br_f (by show ¬ nI p = -1; rw [nI_m1 (by omega)]; exact id) ⟨iv, ?_⟩
        rw [e63, nI_eq0 (by omega)]
        refine ⟨fun e0 => ?_, fun e0 => ⟨iv, iv, nm_e ⟨iv, ?_⟩⟩⟩
        · rw [if_pos e0] at hR
          exact hR s RdX.rfl' h
        · rw [if_neg e0] at hR
          rw [zI_self, nI_sub1 (by omega), nI_eq0 (by omega)]
          refine ⟨fun e1 => ⟨iv, nm_e (hR _ ((RdX.rfl'.st (by omega) _).st (by omega) _) ?_)⟩, fun e1 => hR _ (RdX.rfl'.st (by omega) _) ?_⟩
          · refine ⟨⟨?_, fun n' k' hn' hk' => ?_⟩, ?_, ?_, ?_, fun _ _ => ⟨?_, fun _ => ?_⟩⟩
            · rw [zI_ne _ (.inl (by decide)), zI_ne _ (.inl (by decide))]; exact h1
            · rw [zI_ne _ (.inl (by omega)), zI_ne _ (.inl (by omega))]; exact h2 n' k' hn' hk'
            · rw [zI_ne _ (.inl (by decide)), zI_ne _ (.inl (by decide)), h3, hp]; rfl
            · rw [zI_ne _ (.inl (by decide)), zI_ne _ (.inl (by decide))]; rw [h4, hh]; rfl
            · rw [zI_ne _ (.inl (by decide)), zI_ne _ (.inl (by decide))]; exact h5
            · rw [zI_ne _ (.inl (by decide))]; exact zI_self _ _ _ _
            · rw [zI_self, zI_ne _ (.inl (by decide)), ek]; show _ = (if rdL v - 1 = 0 then nI k else rdC v); rw [if_pos e1]
          · refine ⟨⟨?_, fun n' k' hn' hk' => ?_⟩, ?_, ?_, ?_, fun _ _ => ⟨?_, fun e2 => absurd e2 e1⟩⟩
            · rw [zI_ne _ (.inl (by decide))]; exact h1
            · rw [zI_ne _ (.inl (by omega))]; exact h2 n' k' hn' hk'
            · rw [zI_ne _ (.inl (by decide)), h3, hp]; rfl
            · rw [zI_ne _ (.inl (by decide))]; rw [h4, hh]; rfl
            · rw [zI_ne _ (.inl (by decide))]; exact h5
            · exact zI_self _ _ _ _
/-- waiting, of those below i, but the first -/
noncomputable def rdJ (T : Tw) (G : Nat → Nat → Bool) (c : Nat) (st : Nat → Rd) (i r : Nat) : Rd := if r < i ∧ rdT T G c r (st r) = true ∧ rdF T G c st T.nr ≠ some r then rdA (st r) else st r
theorem rdJ_ne {T : Tw} {G : Nat → Nat → Bool} {c : Nat} {st : Nat → Rd} {i r : Nat} (h : r ≠ i) : rdJ T G c st (i + 1) r = rdJ T G c st i r := by
  unfold rdJ
  by_cases l : r < i
  · simp [l, show r < i + 1 by omega]
  · rw [if_neg (by omega), if_neg (by omega)]
theorem rdJ_self {T : Tw} {G : Nat → Nat → Bool} {c : Nat} {st : Nat → Rd} {i : Nat} : rdJ T G c st i i = st i := by unfold rdJ; rw [if_neg (by omega)]
theorem rdJ_no {T : Tw} {G : Nat → Nat → Bool} {c : Nat} {st : Nat → Rd} {i : Nat} (h : rdT T G c i (st i) = false ∨ rdF T G c st T.nr = some i) (r : Nat) : rdJ T G c st (i + 1) r = rdJ T G c st i r := by
  by_cases e : r = i
  · subst e
    rw [rdJ_self]; unfold rdJ
    rw [if_neg]
    rintro ⟨-, h1, h2⟩
    rcases h with h | h
    · rw [h] at h1; cases h1
    · exact h2 h
  · exact rdJ_ne e
def inHM (c : Nat) : Prop := (1162 ≤ c ∧ c < 1167)
theorem inHM_M : ∀ c, inHM c → noMT c := by intro c hc; unfold inHM at hc; unfold noMT; omega
theorem m_passes {T : Tw} {G : Nat → Nat → Bool} {s : ZS} (mt : MT T s) {k c : Nat} (hc : c < T.nc) (hk : k < 999) (ek : zI s 44 43 = nI k) {st : Nat → Rd} (h : ∀ r, r < T.nr → RdM T G s r (st r)) (o : ∀ r, r < T.nr → rdO T G (k + 1) r (st r)) {Ret : Int32 → ZS → Prop} (hR : ∀ s' q, Fr inHM s s' → (∀ r, r < T.nr → RdM T G s' r (rdS T G c k st r)) → rdN T (rdS T G c k st) = rdN T st + q → Ret (nI q) s') : wp_X4_passes s (nI c) Ret := by
  have w := mt.wf
  have hnr := w.nr
  have hnc := w.nc
  unfold wp_X4_passes
  refine forL1 (fun m s v x => VL_X4_passes_4 Ret m s (nI c) v x) (fun i s2 v => s2 = s ∧ v = oI (rdF T G c st i)) T.nr ?_ ?_ 0 s (-1) (Nat.zero_le _) ⟨rfl, rfl⟩
  · rintro n s2 v ⟨rfl, rfl⟩
    simp only [VL_X4_passes_4]
    rw [mt.ltR (by omega)]
    refine br_f (by omega) ?_
    refine forL (S := ZS) (fun m s x => VL_X4_passes_53 Ret m s (nI c) (oI (rdF T G c st T.nr)) x) (fun i s3 => Fr inHM s2 s3 ∧ ∀ r, r < T.nr → RdM T G s3 r (rdJ T G c st i r)) T.nr ?_ ?_ 0 s2 (Nat.zero_le _) ⟨Fr.rfl, fun r hr => by unfold rdJ; rw [if_neg (by omega)]; exact h r hr⟩
    · rintro n s3 ⟨f3, g3⟩
      have mt3 := mt.fr f3 inHM_M
      have hN := @rdN_s T G c k st
      have ek3 : zI s3 44 43 = nI k := by rw [f3.1 44 43 (by unfold inHM cd; simp)]; exact ek
      simp only [VL_X4_passes_53]
      rw [mt3.ltR (by omega)]
      refine br_f (by omega) ?_
      cases hf : rdF T G c st T.nr with
      | none =>
        rw [hf] at hN
        refine br_t rfl (hR s3 0 f3 (fun r hr => ?_) hN)
        have := g3 r hr
        unfold rdJ at this
        unfold rdS
        rw [hf, if_neg (by simp)]
        rw [rdF_none hf hr] at this ⊢
        rw [if_neg (by simp)] at this ⊢
        exact this
      | some f =>
        rw [hf] at hN
        dsimp only at hN
        obtain ⟨hfl, hft⟩ := rdF_lt hf
        obtain ⟨p, h1, h2, h3, h4⟩ := rdT_t hft
        obtain ⟨nn, hn, hp⟩ := (o f hfl).1 p h1
        have hn48 := (pR_pos w hfl hn).2
        have iv : vp_in (nI f) 12 := vin (by omega) (by decide)
        have gf := g3 f hfl
        have ejf : rdJ T G c st T.nr f = st f := by unfold rdJ; rw [if_neg]; rintro ⟨-, -, h⟩; exact h hf
        rw [ejf] at gf
        obtain ⟨⟨q1, q2⟩, q3, q4, q5, q6⟩ := id gf
        have oth : ∀ s', RdX f s3 s' → ∀ r, r < T.nr → r ≠ f → RdM T G s' r (rdS T G c k st r) := fun s' e r hr hne => by
          have := (g3 r hr).ot e hne (by omega)
          unfold rdJ at this
          unfold rdS
          rw [hf, if_neg (by intro e; cases e; exact hne rfl)]
          by_cases ht : rdT T G c r (st r) = true
          · rw [if_pos ⟨hr, ht, by rw [hf]; intro e; cases e; exact hne rfl⟩] at this; rw [if_pos ht]; exact this
          · rw [if_neg (fun hh => ht hh.2.1)] at this; rw [if_neg ht]; exact this
        have selfE : rdS T G c k st f = rdG T G k f (st f) := by unfold rdS; rw [hf, if_pos rfl]
        refine br_f (by show ¬ nI f = -1; rw [nI_m1 (by omega)]; exact id) ?_
        rw [show oI (some f) = nI f from rfl, ix_nI (by omega), q3, q1, h1, hn]
        rw [show oI (some p) = nI p from rfl, show (some nn).getD 0 = nn from rfl, nI_sub1 (by omega), nI_eq (by omega) (by omega)]
        refine ⟨iv, iv, fun e => ⟨iv, nm_e ?_⟩, fun e => ⟨iv, iv, nm_e ⟨iv, iv, ?_⟩⟩⟩
        · rw [h1, hn, if_pos (by show some nn = some (p + 1); congr 1; omega)] at hN
          have e4 : RdX f s3 (sI s3 1165 f (zI s3 44 43)) := RdX.rfl'.st (by omega) _
          refine hR _ 1 (f3.trans (e4.1.mono (by intro c hc; unfold inHM; omega))) (fun r hr => ?_) hN
          by_cases er : r = f
          · subst er
            rw [selfE]
            unfold rdG
            rw [h1]
            dsimp only
            rw [if_pos (by rw [hn]; congr 1; omega)]
            refine ⟨⟨?_, fun n' k' hn' hk' => ?_⟩, ?_, ?_, ?_, fun _ hx => by cases hx⟩
            · rw [zI_ne _ (.inl (by decide))]; exact q1
            · rw [zI_ne _ (.inl (by omega))]; exact q2 n' k' hn' hk'
            · rw [zI_ne _ (.inl (by decide)), q3, h1]; rfl
            · rw [zI_self, ek3]; rfl
            · rw [zI_ne _ (.inl (by decide)), q5]; rfl
          · exact oth _ e4 r hr er
        · have hp2 : p + 1 < nn := by omega
          have hne : ¬ nn = p + 1 := by omega
          rw [h1, hn, if_neg (by intro hh; exact hne (by injection hh))] at hN
          show vp_in (zI (sI s3 1162 f (nI p + 1)) 1162 f) 48 ∧ _
          have e4 : RdX f s3 (sI s3 1162 f (nI p + 1)) := RdX.rfl'.st (by omega) _
          have mt4 := mt3.fr e4.1 (by intro c hc; unfold noMT; omega)
          rw [zI_self, nI1, ix_nI (by omega)]
          rw [nI1] at e4 mt4
          refine ⟨vin (by omega) (by decide), ?_⟩
          show wp_X4_longOf (sI s3 1162 f (nI (p + 1))) (zI (sI s3 1162 f (nI (p + 1))) (1148 + 1 + f) (p + 1)) _
          rw [zI_ne _ (.inl (by omega)), q2 nn (p + 1) hn hp2]
          refine m_long mt4 (wA_lt w hn hp2) ⟨iv, nm_e ?_⟩
          have e5 := e4.st (a := 1163) (by omega) (nI (T.len (wA T G f (p + 1))))
          refine hR _ 0 (f3.trans (e5.1.mono (by intro c hc; unfold inHM; omega))) (fun r hr => ?_) hN
          by_cases er : r = f
          · subst er
            rw [selfE]
            unfold rdG
            rw [h1]
            dsimp only
            rw [if_neg (by rw [hn]; intro hh; exact hne (by injection hh))]
            refine ⟨⟨?_, fun n' k' hn' hk' => ?_⟩, ?_, ?_, ?_, fun _ _ => ⟨zI_self _ _ _ _, fun e0 => ?_⟩⟩
            · rw [zI_ne _ (.inl (by decide)), zI_ne _ (.inl (by decide))]; exact q1
            · rw [zI_ne _ (.inl (by omega)), zI_ne _ (.inl (by omega))]; exact q2 n' k' hn' hk'
            · rw [zI_ne _ (.inl (by decide)), zI_self]; rfl
            · rw [zI_ne _ (.inl (by decide)), zI_ne _ (.inl (by decide)), q4]; rfl
            · rw [zI_ne _ (.inl (by decide)), zI_ne _ (.inl (by decide)), q5]; rfl
            · have := (w.len (wA_lt w hn hp2)).1
              have e0 : T.len (wA T G r (p + 1)) = 0 := e0
              omega
          · exact oth _ e5 r hr er
    · rintro n i s3 hi ⟨f3, g3⟩ ih
      have mt3 := mt.fr f3 inHM_M
      have iv : vp_in (nI i) 12 := vin (by omega) (by decide)
      have gi := g3 i hi
      rw [rdJ_self] at gi
      simp only [VL_X4_passes_53]
      simp only [nI1]
      rw [mt3.ltR (by omega)]
      refine br_t hi (m_isThere mt3 hi hc (by omega) gi (o i hi) (br0 (fun k1 => nm_e (ih s3 ⟨f3, fun r hr => by rw [rdJ_no (.inl k1)]; exact g3 r hr⟩)) fun k1 => ⟨fun k2 => nm_e (ih s3 ⟨f3, fun r hr => ?_⟩), fun k2 => ⟨iv, iv, nm_e (nm_e (ih _ ⟨?_, fun r hr => ?_⟩))⟩⟩))
      · rw [rdJ_no (.inr ?_)]; exact g3 r hr
        cases hf : rdF T G c st T.nr with
        | none => rw [hf] at k2; exact absurd k2 (by show ¬ nI i = -1; rw [nI_m1 (by omega)]; exact id)
        | some f =>
          have := (rdF_lt hf).1
          rw [hf] at k2
          have k2 : nI i = nI f := k2
          rw [nI_eq (by omega) (by omega)] at k2
          rw [k2]
      · rw [ix_nI (by omega)]
        exact f3.sI 1166 i _ (by unfold inHM cd; simp)
      · rw [ix_nI (by omega)]
        have e1 : RdX i s3 (sI s3 1166 i (zI s3 1166 i + 1)) := RdX.rfl'.st (by omega) _
        by_cases er : r = i
        · subst er
          have : rdJ T G c st (r + 1) r = rdA (st r) := by
            unfold rdJ
            rw [if_pos ⟨by omega, k1, by intro e; rw [e] at k2; exact k2 rfl⟩]
          rw [this]
          obtain ⟨⟨q1, q2⟩, q3, q4, q5, q6⟩ := gi
          refine ⟨⟨?_, fun n' k' hn' hk' => ?_⟩, ?_, ?_, ?_, fun a b => ⟨?_, fun e0 => ?_⟩⟩
          · rw [zI_ne _ (.inl (by decide))]; exact q1
          · rw [zI_ne _ (.inl (by omega))]; exact q2 n' k' hn' hk'
          · rw [zI_ne _ (.inl (by decide))]; exact q3
          · rw [zI_ne _ (.inl (by decide))]; exact q4
          · rw [zI_self, q5]; rfl
          · rw [zI_ne _ (.inl (by decide))]; exact (q6 a b).1
          · rw [zI_ne _ (.inl (by decide))]; exact (q6 a b).2 e0
        · rw [rdJ_ne er]; exact (g3 r hr).ot e1 er (by omega)
  · rintro n i s2 v hi ⟨rfl, rfl⟩ ih
    have iv : vp_in (nI i) 12 := vin (by omega) (by decide)
    simp only [VL_X4_passes_4]
    simp only [nI1]
    rw [mt.ltR (by omega)]
    refine br_t hi (m_isThere mt hi hc (by omega) (h i hi) (o i hi) (br0 (fun k1 => nm_e (ih s2 _ ⟨rfl, by rw [rdF, k1]; rfl⟩)) fun k1 => ?_))
    have eF := @rdF.eq_2 T G c st i
    rw [k1, if_pos rfl] at eF
    have zc : ∀ f, f < T.nr → rdT T G c f (st f) = true → zI s2 1164 f = rdC (st f) := fun f hf ht => by
      obtain ⟨pf, t1, t2, t3, -⟩ := rdT_t ht
      exact ((h f hf).2.2.2.2 (by rw [t1]; rfl) t2).2 t3
    cases hf : rdF T G c st i with
    | none =>
      rw [hf] at eF
      exact br_t rfl (nm_e (ih s2 _ ⟨rfl, by rw [eF]; rfl⟩))
    | some f =>
      rw [hf] at eF
      dsimp only at eF
      obtain ⟨hfl, hft⟩ := rdF_lt hf
      refine br_f (by show ¬ nI f = -1; rw [nI_m1 (by omega)]; exact id) ⟨iv, vin (n := f) (by omega) (by decide), ?_⟩
      rw [show oI (some f) = nI f from rfl, ix_nI (by omega), ix_nI (by omega), zc i hi k1, zc f (by omega) hft]
      exact ⟨fun kc => nm_e (ih s2 _ ⟨rfl, by rw [eF, if_pos kc]; rfl⟩), fun kc => nm_e (ih s2 _ ⟨rfl, by rw [eF, if_neg kc]; rfl⟩)⟩
