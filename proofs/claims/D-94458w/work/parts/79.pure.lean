/-! PURE HALF: signs and allowed turns are changed: the class. -/
set_option maxRecDepth 100000
def mtB (T : Tw) (s t : Nat) : Bool := decide (T.sf s = T.sf t) || decide (T.sf s = T.st t) || decide (T.st s = T.sf t) || decide (T.st s = T.st t)
/-- two streets that meet -/
def okM (T : Tw) (a b : Int32) : Bool := !decide (a = b) && mtB T (ix a) (ix b)
def chV (tm : Nat) (r : Nat → Int32) (a b : Int32) (is : Bool) : Int32 := if tm = 200 then -1 else if btI (r (ix a)) (ix b) = is then -2 else nI (tm + 1)
def spChg (T : Tw) (tm : Nat) (f : Nat → Nat → Int32) (a b : Int32) (is : Bool) : Nat × Int32 := sp2 (inN a T.ns && inN b T.ns) (okM T a b) (chV tm (f tm) a b is)
/-- whether it is changed -/
def chD (T : Tw) (tm : Nat) (f : Nat → Nat → Int32) (a b : Int32) (is : Bool) : Bool := inN a T.ns && inN b T.ns && okM T a b && !decide (tm = 200) && !(btI (f tm (ix a)) (ix b) == is)
/-- a row with one bit flipped -/
def flR (r : Nat → Int32) (a b : Nat) : Nat → Int32 := fun s => if s = a then r s ^^^ ((1 : Int32) <<< (nI b &&& 31)) else r s
theorem c_meets {T : Tw} {d : Ad} {σ : ZS} (ct : CT T d σ) {s t : Nat} (hs : s < T.ns) (ht : t < T.ns) {Ret : Int32 → ZS → Prop} (hr : Ret (b2i (mtB T s t)) σ) : wp_X8_meets σ (d.so s) (d.so t) Ret := by
  have w := ct.wf
  have hnc := w.nc
  have := w.sf s hs; have := w.st s hs; have := w.sf t ht; have := w.st t ht
  have k1 := (ct.ls.pi s hs).2.2
  have k2 := (ct.ls.pi t ht).2.2
  unfold wp_X8_meets
  unfold mtB at hr
  rw [ct.sf s hs, ct.st s hs, ct.sf t ht, ct.st t ht, nI_eq (by omega) (by omega), nI_eq (by omega) (by omega), nI_eq (by omega) (by omega), nI_eq (by omega) (by omega)]
  refine ⟨k1, k2, fun e1 => by simpa [e1, b2i] using hr, fun e1 => ⟨k1, k2, fun e2 => by simpa [e2, b2i] using hr, fun e2 => ⟨k1, k2, fun e3 => by simpa [e3, b2i] using hr, fun e3 => ⟨k1, k2, fun e4 => by simpa [e4, b2i] using hr, fun e4 => by simpa [e1, e2, e3, e4, b2i] using hr⟩⟩⟩⟩
theorem c_needMeeting {T : Tw} {d : Ad} {σ : ZS} (ct : CT T d σ) (rm : Rm σ) {a b : Int32} {Thr : Nat → ZS → Prop} {Ret : ZS → Prop} (h1 : ∀ i j, i < T.ns → j < T.ns → a = nI i → b = nI j → inN a T.ns = true → inN b T.ns = true → okM T a b = true → Ret σ) (h2 : (inN a T.ns && inN b T.ns) = false → ∀ σ', Gw (fun _ => False) 1 6 σ σ' → kK NS σ' (zt σ) = (20, 0) → Thr (zt σ) σ') (h3 : (inN a T.ns && inN b T.ns) = true → okM T a b = false → ∀ σ', Gw (fun _ => False) 1 6 σ σ' → kK NS σ' (zt σ) = (19, 0) → Thr (zt σ) σ') : wp_X1_needMeeting σ a b Thr Ret := by
  have hns := ct.wf.ns
  unfold wp_X1_needMeeting
  refine c_streetOf ct rm (fun i hi ei ki => ⟨rfl, c_streetOf ct rm (fun j hj ej kj => ⟨rfl, ?_⟩) fun kj => h2 (by rw [kj, Bool.and_false])⟩) fun ki => h2 (by rw [ki]; rfl)
  have e1 : ix a = i := by rw [ei]; exact ix_nI (by omega)
  have e2 : ix b = j := by rw [ej]; exact ix_nI (by omega)
  have ok : (inN a T.ns && inN b T.ns) = true := by rw [ki, kj]; rfl
  rw [zo_in, zo_in]
  refine ⟨fun k => c_need (b := false) rm (fun k => by cases k) (fun _ => h3 ok (by unfold okM; simp [k])), fun k => ⟨(ct.ls.pi i hi).2.2, c_meets ct hi hj (br0 (fun k2 => c_need (b := false) rm (fun k => by cases k) (fun _ => h3 ok (by unfold okM; rw [e1, e2, k2]; simp))) fun k2 => c_need (b := true) rm (fun _ => h1 i j hi hj ei ej ki kj (by unfold okM; rw [e1, e2, k2]; simp [k])) (fun k => by cases k))⟩⟩
theorem hold_up {tm : Nat} {sg al : Nat → Nat → Int32} {nt : Nat} {td : Nat → Int32} {r1 r2 : Nat → Int32} {σ : ZS} (k : CS tm sg al nt td σ) : CS tm (up1 sg (tm + 1) r1) (up1 al (tm + 1) r2) nt td σ := ⟨⟨k.1.ht, k.1.et, fun u hu q hq => by unfold up1; rw [if_neg (by omega)]; exact k.1.es u hu q hq, fun u hu q hq => by unfold up1; rw [if_neg (by omega)]; exact k.1.ea u hu q hq⟩, k.2⟩
theorem C_sign {T : Tw} {d : Ad} {tm : Nat} {sg al : Nat → Nat → Int32} {nt : Nat} {td : Nat → Int32} {σ : ZS} (ct : CT T d σ) (rm : Rm σ) (hs : CS tm sg al nt td σ) {a b : Int32} {is : Bool} {Ret : Int32 → ZS → Prop} (hr : PW σ Ret (wd (spChg T tm sg a b is)) (CS (nxT tm (chD T tm sg a b is)) (up1 sg (tm + 1) (flR (sg tm) (ix a) (ix b))) (up1 al (tm + 1) (al tm)) nt td)) : wp_X0_sign σ a b (b2i is) Ret := by
  unfold wp_X0_sign wp_X1_sign
  have htm := hs.1.ht
  have hns := ct.wf.ns
  unfold spChg at hr
  refine c_needMeeting ct rm (fun i j hi hj ei ej ki kj km => ?_) (fun k σ' g k2 => .inl ⟨⟨0, k2⟩, ?_⟩) (fun k km σ' g k2 => .inr ⟨⟨0, k2⟩, ?_⟩)
  · rw [sp2_0 (by rw [ki, kj]; rfl) km] at hr
    subst ei ej
    rw [ix_nI (by omega), ix_nI (by omega)] at hr
    unfold chD at hr
    rw [ki, kj, km, ix_nI (by omega), ix_nI (by omega)] at hr
    have hcv : chV tm (sg tm) (nI i) (nI j) is = if tm = 200 then -1 else if btI (sg tm i) j = is then -2 else nI (tm + 1) := by unfold chV; rw [ix_nI (by omega), ix_nI (by omega)]
    rw [hcv] at hr
    rw [hs.1.et, show (200 : Int32) = nI 200 from rfl, nI_eq (by omega) (by decide)]
    refine ⟨fun e => ?_, fun e => c_isSigned hs.1 (Nat.le_refl _) (by omega) (by omega) ?_⟩
    · have : (true && true && true && !decide (tm = 200) && !(btI (sg tm i) j == is)) = false := by simp [e]
      rw [this, if_pos e] at hr
      exact PW.ok hr rfl Fr.rfl (hold_up hs) rfl
    · rw [if_neg e] at hr
      have eb : (b2i (btI (sg tm i) j) = b2i is) = (btI (sg tm i) j = is) := by cases btI (sg tm i) j <;> cases is <;> simp [b2i]
      rw [eb]
      refine ⟨fun k1 => ?_, fun k1 => ?_⟩
      · have : (true && true && true && !decide (tm = 200) && !(btI (sg tm i) j == is)) = false := by simp [k1]
        rw [this, if_pos k1] at hr
        exact PW.ok hr rfl Fr.rfl (hold_up hs) rfl
      · have : (true && true && true && !decide (tm = 200) && !(btI (sg tm i) j == is)) = true := by simp [e, k1]
        rw [this, if_neg k1] at hr
        rw [hs.1.et]
        refine c_goesOn3 hs.1 (by omega) (Nat.le_refl _) fun s f ch2 e4 e15 => nm_e ?_
        rw [ch2.et, nI_24mul, nI_add, ix_nI (by omega)]
        refine ⟨vin (by omega) (by decide), vin (by omega) (by decide), nm_e ?_⟩
        have h13 : zI s 13 (24 * (tm + 1) + i) = sg tm i := by rw [ch2.es (tm + 1) (Nat.le_refl _) i (by omega)]; unfold up1; rw [if_pos rfl]
        rw [h13, zI_ne _ (.inl (by decide)), ch2.et]
        refine PW.ok hr rfl (f.sI 13 _ _ (by unfold SW cd; simp)) ⟨⟨ch2.ht, ?_, fun u hu q hq => ?_, fun u hu q hq => ?_⟩, hs.2.1, ?_, fun q hq => ?_⟩ rfl
        · rw [zI_ne _ (.inl (by decide))]; exact ch2.et
        · have hu' : u ≤ tm + 1 := hu
          rw [zI_row]
          unfold up1 flR
          by_cases e1 : 24 * u + q = 24 * (tm + 1) + i
          · have e2 : u = tm + 1 := by omega
            have e3 : q = i := by omega
            rw [if_pos e1, if_pos e2, if_pos e3, e3]
          · rw [if_neg e1, ch2.es u hu' q hq]
            unfold up1
            by_cases e2 : u = tm + 1
            · rw [if_pos e2, if_pos e2, if_neg (by omega)]
            · rw [if_neg e2, if_neg e2]
        · rw [zI_ne _ (.inl (by decide))]; exact ch2.ea u hu q hq
        · rw [zI_ne _ (.inl (by decide)), e4]; exact hs.2.2.1
        · rw [zI_ne _ (.inl (by decide)), e15]; exact hs.2.2.2 q hq
  · have e0 : nxT tm (chD T tm sg a b is) = tm := by unfold nxT chD; rw [k]; rfl
    rw [e0] at hr
    exact PW.thr hr (c := 1) (sp2_1 k) (by decide) rm.1 (hold_up hs) g
  · have e0 : nxT tm (chD T tm sg a b is) = tm := by unfold nxT chD; rw [km]; simp
    rw [e0] at hr
    exact PW.thr hr (c := 2) (sp2_2 k km) (by decide) rm.1 (hold_up hs) g
theorem C_allow {T : Tw} {d : Ad} {tm : Nat} {sg al : Nat → Nat → Int32} {nt : Nat} {td : Nat → Int32} {σ : ZS} (ct : CT T d σ) (rm : Rm σ) (hs : CS tm sg al nt td σ) {a b : Int32} {is : Bool} {Ret : Int32 → ZS → Prop} (hr : PW σ Ret (wd (spChg T tm al a b is)) (CS (nxT tm (chD T tm al a b is)) (up1 sg (tm + 1) (sg tm)) (up1 al (tm + 1) (flR (al tm) (ix a) (ix b))) nt td)) : wp_X0_allow σ a b (b2i is) Ret := by
  unfold wp_X0_allow wp_X1_allow
  have htm := hs.1.ht
  have hns := ct.wf.ns
  unfold spChg at hr
  refine c_needMeeting ct rm (fun i j hi hj ei ej ki kj km => ?_) (fun k σ' g k2 => .inl ⟨⟨0, k2⟩, ?_⟩) (fun k km σ' g k2 => .inr ⟨⟨0, k2⟩, ?_⟩)
  · rw [sp2_0 (by rw [ki, kj]; rfl) km] at hr
    subst ei ej
    rw [ix_nI (by omega), ix_nI (by omega)] at hr
    unfold chD at hr
    rw [ki, kj, km, ix_nI (by omega), ix_nI (by omega)] at hr
    have hcv : chV tm (al tm) (nI i) (nI j) is = if tm = 200 then -1 else if btI (al tm i) j = is then -2 else nI (tm + 1) := by unfold chV; rw [ix_nI (by omega), ix_nI (by omega)]
    rw [hcv] at hr
    rw [hs.1.et, show (200 : Int32) = nI 200 from rfl, nI_eq (by omega) (by decide)]
    refine ⟨fun e => ?_, fun e => c_isAllowed hs.1 (Nat.le_refl _) (by omega) (by omega) ?_⟩
    · have : (true && true && true && !decide (tm = 200) && !(btI (al tm i) j == is)) = false := by simp [e]
      rw [this, if_pos e] at hr
      exact PW.ok hr rfl Fr.rfl (hold_up hs) rfl
    · rw [if_neg e] at hr
      have eb : (b2i (btI (al tm i) j) = b2i is) = (btI (al tm i) j = is) := by cases btI (al tm i) j <;> cases is <;> simp [b2i]
      rw [eb]
      refine ⟨fun k1 => ?_, fun k1 => ?_⟩
      · have : (true && true && true && !decide (tm = 200) && !(btI (al tm i) j == is)) = false := by simp [k1]
        rw [this, if_pos k1] at hr
        exact PW.ok hr rfl Fr.rfl (hold_up hs) rfl
      · have : (true && true && true && !decide (tm = 200) && !(btI (al tm i) j == is)) = true := by simp [e, k1]
        rw [this, if_neg k1] at hr
        rw [hs.1.et]
        refine c_goesOn3 hs.1 (by omega) (Nat.le_refl _) fun s f ch2 e4 e15 => nm_e ?_
        rw [ch2.et, nI_24mul, nI_add, ix_nI (by omega)]
        refine ⟨vin (by omega) (by decide), vin (by omega) (by decide), nm_e ?_⟩
        have h14 : zI s 14 (24 * (tm + 1) + i) = al tm i := by rw [ch2.ea (tm + 1) (Nat.le_refl _) i (by omega)]; unfold up1; rw [if_pos rfl]
        rw [h14, zI_ne _ (.inl (by decide)), ch2.et]
        refine PW.ok hr rfl (f.sI 14 _ _ (by unfold SW cd; simp)) ⟨⟨ch2.ht, ?_, fun u hu q hq => ?_, fun u hu q hq => ?_⟩, hs.2.1, ?_, fun q hq => ?_⟩ rfl
        · rw [zI_ne _ (.inl (by decide))]; exact ch2.et
        · rw [zI_ne _ (.inl (by decide))]; exact ch2.es u hu q hq
        · have hu' : u ≤ tm + 1 := hu
          rw [zI_row]
          unfold up1 flR
          by_cases e1 : 24 * u + q = 24 * (tm + 1) + i
          · have e2 : u = tm + 1 := by omega
            have e3 : q = i := by omega
            rw [if_pos e1, if_pos e2, if_pos e3, e3]
          · rw [if_neg e1, ch2.ea u hu' q hq]
            unfold up1
            by_cases e2 : u = tm + 1
            · rw [if_pos e2, if_pos e2, if_neg (by omega)]
            · rw [if_neg e2, if_neg e2]
        · rw [zI_ne _ (.inl (by decide)), e4]; exact hs.2.2.1
        · rw [zI_ne _ (.inl (by decide)), e15]; exact hs.2.2.2 q hq
  · have e0 : nxT tm (chD T tm al a b is) = tm := by unfold nxT chD; rw [k]; rfl
    rw [e0] at hr
    exact PW.thr hr (c := 1) (sp2_1 k) (by decide) rm.1 (hold_up hs) g
  · have e0 : nxT tm (chD T tm al a b is) = tm := by unfold nxT chD; rw [km]; simp
    rw [e0] at hr
    exact PW.thr hr (c := 2) (sp2_2 k km) (by decide) rm.1 (hold_up hs) g
