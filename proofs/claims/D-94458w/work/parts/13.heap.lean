/-! rows of the heap -/
set_option maxRecDepth 100000
theorem Rl.lt {E : ZE} {n a : Nat} {σ : ZS} {H : Heap} (h : Rl E n σ H) {k : Nat × Nat} (hk : kK n σ a = k) (hn : k.1 ≠ 1000) : a < zt σ := by
  rcases Nat.lt_or_ge a (zt σ) with q | q
  · exact q
  · exact absurd (by rw [← hk, h.2.2.2.2.2.2 a q]) hn
theorem ent_congr {E : ZE} {n a : Nat} {σ σ' : ZS} (hK : kK n σ' a = kK n σ a) (hI : ∀ i, zI σ' a i = zI σ a i) (hJ : ∀ i, zJ σ' a i = zJ σ a i) (hP : ∀ i, kP n σ' a i = kP n σ a i) : ent E n σ' a = ent E n σ a := by
  have e1 : zI σ' a = zI σ a := funext hI
  have e2 : zJ σ' a = zJ σ a := funext hJ
  have e3 : (kP n σ' a) = (kP n σ a) := funext hP
  have e4 : ∀ ci, zv E.1.heap.size n σ' a ci = zv E.1.heap.size n σ a ci := by
    intro ci
    funext k
    unfold zv
    rw [e1, e2, e3]
  unfold ent
  rw [hK, e1, e2, e3]
  simp only [e4]
theorem Rl_upd {E : ZE} {n a : Nat} {σ σ' : ZS} {H H' : Heap} (hR : Rl E n σ H) (ha : a < zt σ) (ht : zt σ' = zt σ) (hn : zn σ' = zn σ) (hK : ∀ b, kK n σ' b = kK n σ b) (ho : ∀ b, b ≠ a → ent E n σ' b = ent E n σ b)
    (hat : va_at E.2.1 zcl (E.1.heap.size + a, ent E n σ' a) H') (hz : H'.size = H.size) (hoq : ∀ q : Nat, q ≠ E.1.heap.size + a → H'[q]? = H[q]?) (hs : hsum H' E.1.heap.size = hsum H E.1.heap.size) : Rl E n σ' H' := by
  obtain ⟨r1, r2, r3, r4, r5, r6, r7⟩ := hR
  refine ⟨fun b hb => ?_, by rw [hz, ht]; exact r2, fun q hq => (hoq q (by omega)).trans (r3 q hq), by rw [hs, hn]; exact r4, by rw [ht]; exact r5, by rw [hn]; exact r6, fun b hb => by rw [hK]; exact r7 b (by rw [← ht]; exact hb)⟩
  by_cases h : b = a
  · subst h; exact hat
  · rw [ho b h]
    exact (r1 b (by rw [← ht]; exact hb)).kept (hoq _ (by show E.1.heap.size + b ≠ _; omega))
section SI
variable (σ : ZS) (n a i : Nat)
theorem kK_sI (v : Int32) (b : Nat) : kK n (sI σ a i v) b = kK n σ b := rfl
theorem kK_sJ (v : Int64) (b : Nat) : kK n (sJ σ a i v) b = kK n σ b := rfl
theorem kK_sP (v : ZR) (b : Nat) : kK n (sP σ a i v) b = kK n σ b := rfl
theorem zI_sI (v : Int32) (b j : Nat) : zI (sI σ a i v) b j = if b = a ∧ j = i then v else zI σ b j := rfl
theorem zJ_sJ (v : Int64) (b j : Nat) : zJ (sJ σ a i v) b j = if b = a ∧ j = i then v else zJ σ b j := rfl
theorem zP_sP (v : ZR) (b j : Nat) : zP (sP σ a i v) b j = if b = a ∧ j = i then v else zP σ b j := rfl
theorem zI_sJ (v : Int64) (b j : Nat) : zI (sJ σ a i v) b j = zI σ b j := rfl
theorem zI_sP (v : ZR) (b j : Nat) : zI (sP σ a i v) b j = zI σ b j := rfl
theorem zJ_sI (v : Int32) (b j : Nat) : zJ (sI σ a i v) b j = zJ σ b j := rfl
theorem zJ_sP (v : ZR) (b j : Nat) : zJ (sP σ a i v) b j = zJ σ b j := rfl
theorem zP_sI (v : Int32) (b j : Nat) : zP (sI σ a i v) b j = zP σ b j := rfl
theorem zP_sJ (v : Int64) (b j : Nat) : zP (sJ σ a i v) b j = zP σ b j := rfl
theorem kP_sI (v : Int32) (b j : Nat) : kP n (sI σ a i v) b j = kP n σ b j := rfl
theorem kP_sJ (v : Int64) (b j : Nat) : kP n (sJ σ a i v) b j = kP n σ b j := rfl
theorem zt_sI (v : Int32) : zt (sI σ a i v) = zt σ := rfl
theorem zt_sJ (v : Int64) : zt (sJ σ a i v) = zt σ := rfl
theorem zt_sP (v : ZR) : zt (sP σ a i v) = zt σ := rfl
theorem zn_sI (v : Int32) : zn (sI σ a i v) = zn σ := rfl
theorem zn_sJ (v : Int64) : zn (sJ σ a i v) = zn σ := rfl
theorem zn_sP (v : ZR) : zn (sP σ a i v) = zn σ := rfl
theorem zK_sI (v : Int32) (b : Nat) : zK (sI σ a i v) b = zK σ b := rfl
theorem zK_sJ (v : Int64) (b : Nat) : zK (sJ σ a i v) b = zK σ b := rfl
theorem zK_sP (v : ZR) (b : Nat) : zK (sP σ a i v) b = zK σ b := rfl
/-- the place is no constant of the layout -/
def pfree (n a i : Nat) : Prop := a < n → Pst a i = none
theorem kP_sP {n a i : Nat} (σ : ZS) (h : pfree n a i) (v : ZR) (b j : Nat) : kP n (sP σ a i v) b j = if b = a ∧ j = i then v else kP n σ b j := by
  unfold kP
  by_cases hb : b < n
  · rw [if_pos hb, if_pos hb]
    by_cases hq : b = a ∧ j = i
    · obtain ⟨rfl, rfl⟩ := hq
      rw [h hb]
      simp [zP_sP]
    · simp only [zP_sP, if_neg hq]
  · rw [if_neg hb, if_neg hb, zP_sP]
theorem ent_sI {E : ZE} {n a i : Nat} {σ : ZS} {v : Int32} {b : Nat} (h : b ≠ a) : ent E n (sI σ a i v) b = ent E n σ b := ent_congr rfl (fun j => by rw [zI_sI, if_neg (fun q => h q.1)]) (fun _ => rfl) (fun _ => rfl)
theorem ent_sJ {E : ZE} {n a i : Nat} {σ : ZS} {v : Int64} {b : Nat} (h : b ≠ a) : ent E n (sJ σ a i v) b = ent E n σ b := ent_congr rfl (fun _ => rfl) (fun j => by rw [zJ_sJ, if_neg (fun q => h q.1)]) (fun _ => rfl)
theorem ent_sP {E : ZE} {n a i : Nat} {σ : ZS} {v : ZR} {b : Nat} (hf : pfree n a i) (h : b ≠ a) : ent E n (sP σ a i v) b = ent E n σ b := ent_congr rfl (fun _ => rfl) (fun _ => rfl) (fun j => by rw [kP_sP σ hf, if_neg (fun q => h q.1)])
end SI
section ENT
variable {E : ZE} {n a len : Nat} {σ : ZS}
theorem ent_0 (h : kK n σ a = (0, len)) : ent E n σ a = .inl (E.2.2 0, len, .inl (zI σ a)) := by unfold ent; rw [h]
theorem ent_1 (h : kK n σ a = (1, len)) : ent E n σ a = .inl (E.2.2 1, len, .inr (.inl (zJ σ a))) := by unfold ent; rw [h]
theorem ent_2 (h : kK n σ a = (2, len)) : ent E n σ a = .inl (E.2.2 2, len, .inl (zI σ a)) := by unfold ent; rw [h]
theorem ent_3 (h : kK n σ a = (3, len)) : ent E n σ a = .inl (E.2.2 3, len, .inl (zI σ a)) := by unfold ent; rw [h]
theorem ent_4 (h : kK n σ a = (4, len)) : ent E n σ a = .inl (E.2.2 4, len, .inr (.inr (.inr (.inr (fun i => zrf E.1.heap.size (kP n σ a i)))))) := by unfold ent; rw [h]
theorem ent_5 (h : kK n σ a = (5, len)) : ent E n σ a = .inl (E.2.2 5, len, .inr (.inr (.inr (.inr (fun i => zrf E.1.heap.size (kP n σ a i)))))) := by unfold ent; rw [h]
theorem ent_6 (h : kK n σ a = (6, len)) : ent E n σ a = .inl (E.2.2 6, len, .inr (.inr (.inr (.inr (fun i => zrf E.1.heap.size (kP n σ a i)))))) := by unfold ent; rw [h]
theorem ent_o {ci : Nat} (h : kK n σ a = (ci + 7, len)) : ent E n σ a = .inr (ci, (List.range (nfs ci)).map (zv E.1.heap.size n σ a ci)) := by unfold ent; rw [h]
theorem vV {B n a ci j : Nat} {σ : ZS} (h : j < nfs ci) : vp_V ((List.range (nfs ci)).map (zv B n σ a ci)) j = zv B n σ a ci j := by simp [vp_V, List.getD, h]
end ENT
/-- a class of the list: its name, table, number of fields, types -/
def CF (ci : Nat) (Cn : String) (T : u_T) (N : Nat) (ty : Nat → FieldType) : Prop := zcl[ci]? = some (Cn, T, N) ∧ nfs ci = N ∧ (∀ w ∈ u_ws Cn T N, w ∈ lw_all) ∧ (∀ k, k < N → parseFieldDescriptor (T k).2.2.1 = some (ty k)) ∧ (∀ a, a < N → ∀ b, b < N → a ≠ b → (T a).2.1 ≠ (T b).2.1) ∧ ci ≠ 993
theorem cf0 : CF 0 RX1 TX1 40 tyX1 := ⟨rfl, rfl, in_X1, tyX1_ok, nmX1, by decide⟩
theorem cf1 : CF 1 RX2 TX2 10 tyX2 := ⟨rfl, rfl, in_X2, tyX2_ok, nmX2, by decide⟩
theorem cf2 : CF 2 RX3 TX3 5 tyX3 := ⟨rfl, rfl, in_X3, tyX3_ok, nmX3, by decide⟩
theorem cf3 : CF 3 RX4 TX4 60 tyX4 := ⟨rfl, rfl, in_X4, tyX4_ok, nmX4, by decide⟩
theorem cf4 : CF 4 RX5 TX5 5 tyX5 := ⟨rfl, rfl, in_X5, tyX5_ok, nmX5, by decide⟩
theorem cf5 : CF 5 RX6 TX6 8 tyX6 := ⟨rfl, rfl, in_X6, tyX6_ok, nmX6, by decide⟩
theorem cf6 : CF 6 RX7 TX7 2 tyX7 := ⟨rfl, rfl, in_X7, tyX7_ok, nmX7, by decide⟩
theorem cf7 : CF 7 RX8 TX8 4 tyX8 := ⟨rfl, rfl, in_X8, tyX8_ok, nmX8, by decide⟩
theorem cf8 : CF 8 RX9 TX9 3 tyX9 := ⟨rfl, rfl, in_X9, tyX9_ok, nmX9, by decide⟩
theorem cf9 : CF 9 RJ2 TJ2 3 tyJ2 := ⟨rfl, rfl, in_J2, tyJ2_ok, nmJ2, by decide⟩
theorem cf10 : CF 10 RJ8 TJ8 4 tyJ8 := ⟨rfl, rfl, in_J8, tyJ8_ok, nmJ8, by decide⟩
theorem cf11 : CF 11 RJ9 TJ9 4 tyJ9 := ⟨rfl, rfl, in_J9, tyJ9_ok, nmJ9, by decide⟩
theorem cf12 : CF 12 RJ6 TJ6 6 tyJ6 := ⟨rfl, rfl, in_J6, tyJ6_ok, nmJ6, by decide⟩
theorem cf13 : CF 13 RJ18 TJ18 6 tyJ18 := ⟨rfl, rfl, in_J18, tyJ18_ok, nmJ18, by decide⟩
theorem cf14 : CF 14 RJ19 TJ19 6 tyJ19 := ⟨rfl, rfl, in_J19, tyJ19_ok, nmJ19, by decide⟩
/-- a link word: in the lists, or a nest mate's -/
def LkF (own : String) (idx : Nat) (ref name desc : String) : Prop := Cond.fieldLink own idx ref name desc ∈ lw_all ∨ ∃ host, Cond.fieldLinkNest own idx ref name desc host ∈ lw_tbl
section ZH
variable {C : ZC} {E : ZE} {cc : ByteArray} {n nL pc d : Nat} {own nm : String} {ret : Option FieldType} {hh : List (Nat × Nat × Nat × Nat)} {σ : ZS} {L : List (Option Value)} {st : List Value}
theorem nest_at {E : ZE} (hE : EOK E) {s : State} {args : Array Value} (hW : E.1.WarmedH s.vm) {a : String} {i : Nat} {b n d h : String} (hw : Cond.fieldLinkNest a i b n d h ∈ lw_tbl) : (Cond.fieldLinkNest a i b n d h).before args s = true := by
  obtain ⟨-, bb, h1, -⟩ := hE
  exact va_Nw.use rfl (va_Nw.warmF hW (va_Nw.of rfl (h1 _ hw)))
theorem z_get (hC : Cx C E cc nL own nm ret hh d) {idx a ci k x N : Nat} {Cn ref : String} {T : u_T} {ty : Nat → FieldType} (cf : CF ci Cn T N ty) (hd : decode cc pc = .ok (.getfield idx, 3)) (hk : kK n σ a = (ci + 7, x)) (hkN : k < N)
    (hl : LkF own idx ref (T k).2.1 (T k).2.2.1) (hsame : (T k).1 = ref ∨ Cond.sameField ref (T k).1 (T k).2.1 (T k).2.2.1 ∈ lw_all) {v : Value} (hv : zv E.1.heap.size n σ a ci k = v) (kk : zz C E n nL σ (pc + 3) L (v :: st)) : zz C E n nL σ pc L (.ref (E.1.heap.size + a) :: st) := by
  obtain ⟨p, l, e, R, s, m, args, below, meth, c, Qo⟩ := C
  intro H locs cells slots ls hR hlc hL
  obtain ⟨hx, hb, hml, hown, hts, hW, -, -, -, -, hE, -⟩ := hC
  obtain ⟨c1, c2, c3, c4, c5, c6⟩ := cf
  have hK := zK_at hE hW
  have ha := hR.lt hk (by show ci + 7 ≠ 1000; omega)
  have hat := hR.1 a ha
  rw [ent_o hk] at hat
  have hP : va_P E.2.1 zcl [(E.1.heap.size + a, .inr (ci, (List.range (nfs ci)).map (zv E.1.heap.size n σ a ci)))] H := by
    intro j q hq
    cases j with
    | zero => cases hq; exact hat
    | succ j => simp at hq
  have hv' : ((List.range (nfs ci)).map (zv E.1.heap.size n σ a ci))[k]? = some v := by simp [c2, hkN, hv]
  have hs : ∀ y, s.fieldFound? (T k).1 (T k).2.1 (T k).2.2.1 = some y → s.fieldFound? ref (T k).2.1 (T k).2.2.1 = some y := by
    rcases hsame with h | h
    · rw [h]; exact fun _ h => h
    · exact fun y hy => u_same (hts _ h) y hy
  rcases hl with h | ⟨host, h⟩
  · exact va_get hx hb hts c3 hown hK hP 0 rfl c1 k hkN (hts _ h) hs hv' hd (kk H locs cells slots ls hR hlc hL)
  · exact va_getN hx hb hts c3 hown hK hP 0 rfl c1 k hkN (nest_at hE hW h) hs hv' hd (kk H locs cells slots ls hR hlc hL)
/-- the end of every store into an object -/
theorem put_end {E : ZE} {n a ci k x N : Nat} {σ σ' : ZS} {H H' : Heap} {Cn : String} {T : u_T} {ty : Nat → FieldType} {v : Value} {cell : Cell} {sl : Nat} (cf : CF ci Cn T N ty) (hR : Rl E n σ H) (hk : kK n σ a = (ci + 7, x)) (hkN : k < N)
    (ht : zt σ' = zt σ) (hn : zn σ' = zn σ) (hK : ∀ b, kK n σ' b = kK n σ b) (ho : ∀ b, b ≠ a → ent E n σ' b = ent E n σ b) (hvj : ∀ j, zv E.1.heap.size n σ' a ci j = if j = k then v else zv E.1.heap.size n σ a ci j)
    (hap : ∀ x y, x < N → y < N → x ≠ y → (E.2.1.2 ci) x ≠ (E.2.1.2 ci) y) (hc : H[E.1.heap.size + a]? = some cell) (hcl : cell.cls = E.2.1.1 ci) (hvm : cell.vm = .none) (hsl : ∀ j, j < N → cell.slots[E.2.1.2 ci j]? = some (zv E.1.heap.size n σ a ci j)) (esl : sl = E.2.1.2 ci k)
    (e1 : H'[E.1.heap.size + a]? = some (cell.setSlot sl v)) (e2 : H'.size = H.size) (e3 : ∀ q, q ≠ E.1.heap.size + a → H'[q]? = H[q]?) : Rl E n σ' H' := by
  subst esl
  obtain ⟨c1, c2, c3, c4, c5, c6⟩ := cf
  have ha := hR.lt hk (by show ci + 7 ≠ 1000; omega)
  refine Rl_upd hR ha ht hn hK ho ?_ e2 e3 (hsum_set hc e1 e2 e3)
  rw [ent_o (by rw [hK]; exact hk)]
  refine ⟨_, c1, _, e1, hcl, hvm, fun j hj => ?_⟩
  have hj : j < N := hj
  rw [vV (by rw [c2]; exact hj), hvj]
  have := t_set (V := zv E.1.heap.size n σ a ci) hsl hap hkN v j hj
  rw [this]
  unfold updV
  rfl
theorem z_putG (hC : Cx C E cc nL own nm ret hh d) {idx a ci k x N : Nat} {Cn ref : String} {T : u_T} {ty : Nat → FieldType} (cf : CF ci Cn T N ty) (hd : decode cc pc = .ok (.putfield idx, 3)) (hk : kK n σ a = (ci + 7, x)) (hkN : k < N)
    (hl : LkF own idx ref (T k).2.1 (T k).2.2.1) (hsame : (T k).1 = ref ∨ Cond.sameField ref (T k).1 (T k).2.1 (T k).2.2.1 ∈ lw_all) {v : Value} (hfin : (T k).2.2.2 = false ∨ ((T k).2.2.2 = true ∧ nm = "<init>" ∧ (T k).1 = own ∧ Cond.fieldLink own idx ref (T k).2.1 (T k).2.2.1 ∈ lw_all)) (hnr : narrow (ty k) v = v) (hft : fits (ty k) v = true)
    {σ' : ZS} (ht : zt σ' = zt σ) (hn : zn σ' = zn σ) (hKK : ∀ b, kK n σ' b = kK n σ b) (ho : ∀ b, b ≠ a → ent E n σ' b = ent E n σ b) (hvj : ∀ j, zv E.1.heap.size n σ' a ci j = if j = k then v else zv E.1.heap.size n σ a ci j)
    (kk : zz C E n nL σ' (pc + 3) L st) : zz C E n nL σ pc L (v :: .ref (E.1.heap.size + a) :: st) := by
  obtain ⟨p, l, e, R, s, m, args, below, meth, c, Qo⟩ := C
  intro H locs cells slots ls hR hlc hL
  obtain ⟨hx, hb, hml, hown, hts, hW, -, hnm, -, -, hE, -⟩ := hC
  have cf' := cf
  obtain ⟨c1, c2, c3, c4, c5, c6⟩ := cf'
  have hK := zK_at hE hW
  have ha := hR.lt hk (by show ci + 7 ≠ 1000; omega)
  have hat := hR.1 a ha
  rw [ent_o hk] at hat
  have hs : ∀ y, s.fieldFound? (T k).1 (T k).2.1 (T k).2.2.1 = some y → s.fieldFound? ref (T k).2.1 (T k).2.2.1 = some y := by
    rcases hsame with h | h
    · rw [h]; exact fun _ h => h
    · exact fun y hy => u_same (hts _ h) y hy
  have hap := va_apart (own := own) hts c3 ty c4 c5 hK c1
  obtain ⟨r, h1, cell, q1, q2, q3, q4⟩ := hat
  have hr : r = (Cn, T, N) := Option.some.inj (h1.symm.trans c1)
  subst hr
  have q4 : ∀ j, j < N → cell.slots[E.2.1.2 ci j]? = some (zv E.1.heap.size n σ a ci j) := fun j hj => by
    have := q4 j hj
    rwa [vV (by rw [c2]; exact hj)] at this
  obtain ⟨hS, hfc, kC, hkC, hkind⟩ := hK.1 ci _ c1
  obtain ⟨cf2, kf, fi, f, hi, hsl⟩ := hS k hkN
  have hlay := hts _ (c3 _ (u_in_lay hkN))
  have hst := (u_facts hfc hkC (u_lays hts c3 hkN) hi).1
  have hcl : ∀ (H' : Heap) (i : Nat), H'.size = H.size → (∀ q ∈ locs ++ [⟨E.1.heap.size + a, i⟩], E.1.heap.size ≤ q.base) := fun H' i _ q hq => by
    rcases List.mem_append.mp hq with h | h
    · exact hlc q h
    · rw [List.mem_singleton.mp h]; exact Nat.le_add_right _ _
  rcases hfin with hfin | ⟨hfin, hin, hdecl, hlk⟩
  · have hlay : (Cond.lays Cn (T k).1 (T k).2.1 (T k).2.2.1).before args s = true := by
      unfold u_lay at hlay
      rw [if_neg (by rw [hfin]; decide)] at hlay
      exact hlay
    have h6 := u_store hfc hkC hkind hlay hi (c4 k hkN) hnr hft
    rcases hl with h | ⟨host, h⟩
    · refine W.putK hx hb (f := f) ⟨hown, hts _ h, ⟨_, _, _, hs _ hi⟩, hst⟩ (by rw [q2]; exact h6) q1 q3 (by rw [hsl]; exact k2_hasslot (q4 k hkN)) rfl rfl hd fun H' e1 e2 e3 => ?_
      exact kk H' _ cells slots ls (put_end cf hR hk hkN ht hn hKK ho hvj hap q1 q2 q3 q4 hsl e1 e2 e3) (hcl H' _ e2) hL
    · refine va_WputK hx hb (f := f) hown (nest_at hE hW h) (hs _ hi) hst (by rw [q2]; exact h6) q1 q3 (by rw [hsl]; exact k2_hasslot (q4 k hkN)) rfl rfl hd fun H' e1 e2 e3 => ?_
      exact kk H' _ cells slots ls (put_end cf hR hk hkN ht hn hKK ho hvj hap q1 q2 q3 q4 hsl e1 e2 e3) (hcl H' _ e2) hL
  · have hlay : (Cond.laysFinal Cn (T k).1 (T k).2.1 (T k).2.2.1).before args s = true := by
      unfold u_lay at hlay
      rw [if_pos hfin] at hlay
      exact hlay
    have hcf : m.cls = cf2 := by
      obtain ⟨_, _, c', _, _, _, -, -, hf', -, -, -, hown2, -⟩ := Cond.laysFinal_spec hlay
      have e1 : c' = cf2 := by have := hi.symm.trans hf'; simp at this; exact this.1.symm
      rw [hdecl] at hown2
      rw [← e1]; exact Option.some.inj (hown.symm.trans hown2)
    have h6 := u_fits hfc hkC hkind (Or.inr hlay) hi (c4 k hkN) hnr hft
    refine W.putFinK hx hb hown (hts _ hlk) (hs _ hi) hst hcf (hnm.trans hin) (by rw [q2]; exact h6) q1 q3 (by rw [hsl]; exact k2_hasslot (q4 k hkN)) rfl rfl hd fun H' e1 e2 e3 => ?_
    exact kk H' _ cells slots ls (put_end cf hR hk hkN ht hn hKK ho hvj hap q1 q2 q3 q4 hsl e1 e2 e3) (hcl H' _ e2) hL
theorem z_putI (hC : Cx C E cc nL own nm ret hh d) {idx a ci k x N : Nat} {Cn ref : String} {T : u_T} {ty : Nat → FieldType} (cf : CF ci Cn T N ty) (hd : decode cc pc = .ok (.putfield idx, 3)) (hk : kK n σ a = (ci + 7, x)) (hkN : k < N)
    (hl : LkF own idx ref (T k).2.1 (T k).2.2.1) (hsame : (T k).1 = ref ∨ Cond.sameField ref (T k).1 (T k).2.1 (T k).2.2.1 ∈ lw_all) {v : Int32} (hfin : (T k).2.2.2 = false ∨ ((T k).2.2.2 = true ∧ nm = "<init>" ∧ (T k).1 = own ∧ Cond.fieldLink own idx ref (T k).2.1 (T k).2.2.1 ∈ lw_all)) (hnr : narrow (ty k) (.int v) = .int v) (hft : fits (ty k) (.int v) = true) (hty : fty ci k = 0)
    (kk : zz C E n nL (sI σ a k v) (pc + 3) L st) : zz C E n nL σ pc L (.int v :: .ref (E.1.heap.size + a) :: st) := by
  refine z_putG hC cf hd hk hkN hl hsame hfin hnr hft (σ' := sI σ a k v) rfl rfl (fun _ => rfl) (fun b hb => ent_sI hb) (fun j => ?_) kk
  by_cases h : j = k
  · subst h
    rw [if_pos rfl]
    unfold zv
    rw [hty]
    simp [zI_sI]
  · rw [if_neg h]
    unfold zv
    rw [zI_sI, if_neg (fun q => h q.2)]
    rfl
theorem z_putJ (hC : Cx C E cc nL own nm ret hh d) {idx a ci k x N : Nat} {Cn ref : String} {T : u_T} {ty : Nat → FieldType} (cf : CF ci Cn T N ty) (hd : decode cc pc = .ok (.putfield idx, 3)) (hk : kK n σ a = (ci + 7, x)) (hkN : k < N)
    (hl : LkF own idx ref (T k).2.1 (T k).2.2.1) (hsame : (T k).1 = ref ∨ Cond.sameField ref (T k).1 (T k).2.1 (T k).2.2.1 ∈ lw_all) {v : Int64} (hfin : (T k).2.2.2 = false ∨ ((T k).2.2.2 = true ∧ nm = "<init>" ∧ (T k).1 = own ∧ Cond.fieldLink own idx ref (T k).2.1 (T k).2.2.1 ∈ lw_all)) (hnr : narrow (ty k) (.long v) = .long v) (hft : fits (ty k) (.long v) = true) (hty : fty ci k = 1)
    (kk : zz C E n nL (sJ σ a k v) (pc + 3) L st) : zz C E n nL σ pc L (.long v :: .ref (E.1.heap.size + a) :: st) := by
  refine z_putG hC cf hd hk hkN hl hsame hfin hnr hft (σ' := sJ σ a k v) rfl rfl (fun _ => rfl) (fun b hb => ent_sJ hb) (fun j => ?_) kk
  by_cases h : j = k
  · subst h
    rw [if_pos rfl]
    unfold zv
    rw [hty]
    simp [zJ_sJ]
  · rw [if_neg h]
    unfold zv
    rw [zJ_sJ, if_neg (fun q => h q.2)]
    rfl
theorem z_putP (hC : Cx C E cc nL own nm ret hh d) {idx a ci k x N : Nat} {Cn ref : String} {T : u_T} {ty : Nat → FieldType} (cf : CF ci Cn T N ty) (hd : decode cc pc = .ok (.putfield idx, 3)) (hk : kK n σ a = (ci + 7, x)) (hkN : k < N)
    (hl : LkF own idx ref (T k).2.1 (T k).2.2.1) (hsame : (T k).1 = ref ∨ Cond.sameField ref (T k).1 (T k).2.1 (T k).2.2.1 ∈ lw_all) {r : ZR} (hfin : (T k).2.2.2 = false ∨ ((T k).2.2.2 = true ∧ nm = "<init>" ∧ (T k).1 = own ∧ Cond.fieldLink own idx ref (T k).2.1 (T k).2.2.1 ∈ lw_all)) (htr : (∃ n, ty k = .object n) ∨ ∃ t, ty k = .array t) (hty : fty ci k = 2) (hf : pfree n a k)
    (kk : zz C E n nL (sP σ a k r) (pc + 3) L st) : zz C E n nL σ pc L (pv E.1.heap.size r :: .ref (E.1.heap.size + a) :: st) := by
  refine z_putG hC cf hd hk hkN hl hsame hfin ?_ ?_ (σ' := sP σ a k r) rfl rfl (fun _ => rfl) (fun b hb => ent_sP hf hb) (fun j => ?_) kk
  · rcases htr with ⟨q, h⟩ | ⟨q, h⟩ <;> rcases r with _ | r | r <;> rw [h] <;> rfl
  · rcases htr with ⟨q, h⟩ | ⟨q, h⟩ <;> rcases r with _ | r | r <;> rw [h] <;> rfl
  · by_cases h : j = k
    · subst h
      rw [if_pos rfl]
      unfold zv
      rw [hty]
      simp [kP_sP σ hf]
    · rw [if_neg h]
      unfold zv
      rw [kP_sP σ hf, if_neg (fun q => h q.2)]
      rfl
end ZH
