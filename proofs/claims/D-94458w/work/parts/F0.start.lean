/-! THE LAW'S FIRST STEPS: pcs 0..22, and the change from the empty layout to the static one -/
set_option maxRecDepth 100000
theorem ent_cn {E : ZE} {n n' a : Nat} {σ σ' : ZS} (hK : kK n' σ' a = kK n σ a) (hI : ∀ i, zI σ' a i = zI σ a i) (hJ : ∀ i, zJ σ' a i = zJ σ a i) (hP : ∀ i, kP n' σ' a i = kP n σ a i) : ent E n' σ' a = ent E n σ a := by
  have eI : zI σ' a = zI σ a := funext hI
  have eJ : zJ σ' a = zJ σ a := funext hJ
  have eP : (fun i => zrf E.1.heap.size (kP n' σ' a i)) = fun i => zrf E.1.heap.size (kP n σ a i) := funext fun i => by rw [hP]
  have eV : ∀ t, zv E.1.heap.size n' σ' a t = zv E.1.heap.size n σ a t := fun t => funext fun k => by
    unfold zv; rw [hI, hJ, hP]
  unfold ent
  rw [hK, eI, eJ, eP]
  simp only [eV]
theorem Rl_cn {E : ZE} {n n' : Nat} {σ σ' : ZS} {H : Heap} (hK : ∀ a, kK n' σ' a = kK n σ a) (hI : ∀ a i, zI σ' a i = zI σ a i) (hJ : ∀ a i, zJ σ' a i = zJ σ a i) (hP : ∀ a i, kP n' σ' a i = kP n σ a i) (ht : zt σ' = zt σ) (hn : zn σ' = zn σ) (h : Rl E n σ H) : Rl E n' σ' H := by
  obtain ⟨h1, h2, h3, h4, h5, h6, h7⟩ := h
  refine ⟨fun a ha => ?_, by rw [ht]; exact h2, h3, by rw [hn]; exact h4, by rw [ht]; exact h5, by rw [hn]; exact h6, fun a ha => by rw [hK]; exact h7 a (by rw [← ht]; exact ha)⟩
  rw [ent_cn (hK a) (hI a) (hJ a) (hP a)]
  exact h1 a (by rw [← ht]; exact ha)
/-- the static layout written out -/
def zst (σ : ZS) : ZS := (σ.1, σ.2.1, fun a i => kP NS σ a i, fun a => kK NS σ a, zt σ, zn σ)
theorem Rl_zst {E : ZE} {σ : ZS} {H : Heap} (h : Rl E NS σ H) : Rl E 0 (zst σ) H :=
  Rl_cn (n := NS) (σ := σ) (fun a => by unfold kK; rw [if_neg (Nat.not_lt_zero _)]; rfl) (fun _ _ => rfl) (fun _ _ => rfl) (fun a i => by unfold kP; rw [if_neg (Nat.not_lt_zero _)]; rfl) rfl rfl h
theorem Rl_bs {E : ZE} {σ : ZS} {H : Heap} {l : List (Nat × Nat)} {M : Nat} (hb : Bs σ 1239 [] l M) (h : Rl E 0 σ H) : Rl E NS σ H := by
  obtain ⟨b1, b2, b3, b4, b5, b6, b7⟩ := hb
  refine Rl_cn (n := 0) (σ := σ) (fun a => ?_) (fun _ _ => rfl) (fun _ _ => rfl) (fun a i => ?_) rfl rfl h
  · unfold kK
    rw [if_neg (Nat.not_lt_zero a)]
    by_cases c : a < NS
    · rw [if_pos c, b3, if_pos (show a < 1239 from c)]
    · rw [if_neg c]
  · unfold kP
    rw [if_neg (Nat.not_lt_zero a)]
    by_cases c : a < NS
    · rw [if_pos c]
      cases e : Pst a i with
      | none => rfl
      | some q =>
        have p : PRs a i = some (.inl q) := by
          unfold PRs
          rw [if_neg (fun x => by rw [x.1, x.2] at e; cases e), e]
        rw [b4, if_pos ⟨show a < 1239 from c, rfl⟩, p]
    · rw [if_neg c]
theorem zz_0 {C : ZC} {E : ZE} {nL pc M : Nat} {σ : ZS} {L : List (Option Value)} {st : List Value} {l : List (Nat × Nat)} (hb : Bs σ 1239 [] l M) (hq : ∀ o σ σ', C.2.2.2.2.2.2.2.2.2.2 o σ → C.2.2.2.2.2.2.2.2.2.2 o σ') (k : zz C E NS nL σ pc L st) : zz C E 0 nL σ pc L st := by
  obtain ⟨p, l, e, R, s, m, args, below, meth, c, Qo⟩ := C
  intro H locs cells slots ls hR hlc hL
  refine W.mono (fun t ht => ?_) (k H locs cells slots ls (Rl_bs hb hR) hlc hL)
  obtain ⟨o, r1, r2, ⟨σ', q, r⟩, rest⟩ := ht
  exact ⟨o, r1, r2, ⟨zst σ', hq o σ' _ q, Rl_zst r⟩, rest⟩
theorem dvF0 : ∀ k, k < 40 → defaultValue (tyX1 k) = (match fty 0 k with | 0 => Value.int 0 | 1 => .long 0 | _ => .null) := by decide +kernel
theorem dvF3 : ∀ k, k < 60 → defaultValue (tyX4 k) = (match fty 3 k with | 0 => Value.int 0 | 1 => .long 0 | _ => .null) := by decide +kernel
theorem cwF1 : CodeW yX1_init (ws_ yX1_init cX1_init 1 none) 1 := ⟨fun w h => (List.mem_cons.mp h).elim (fun e => e ▸ q152) id, Or.inl ⟨_, _, q152⟩, q116, by decide, by decide⟩
theorem cwF4 : CodeW yX4_init (ws_ yX4_init cX4_init 1 none) 1 := ⟨fun w h => (List.mem_cons.mp h).elim (fun e => e ▸ q1581) id, Or.inl ⟨_, _, q1581⟩, q138, by decide, by decide⟩
theorem zl_start {C : ZC} {E : ZE} {σ0 : ZS} {v0 : Nat} {w0 : List Int32} (hFI : FI E v0 w0) {Ret : Int32 → ZS → Prop} (hC : Cx C E cL_law 8 "RightTurnsLaw" "law" (some .boolean) [] 15) (hQo : C.2.2.2.2.2.2.2.2.2.2 = rI Ret) (hRet : ∀ r σ σ', Ret r σ → Ret r σ') (h0 : Bs σ0 0 [] [] 0) (hV : ∀ σ, Bs σ 1239 [] [(44, 54), (44, 3), (0, 36), (0, 3)] 159285 → V_X0_law_23 w0 Ret σ 0) : zz C E 0 8 σ0 0 [some (.ref v0), none, none, none, none, none, none, none] [] := by
  refine z_new hC cf0 dL_law_0 q148 q149 q116 dvF0 (Nat.zero_le _) (by rw [h0.1]; decide) (by rw [h0.2.1]; decide) ?_
  have h1 := h0.aA (k := (7, 0)) rfl 40
  rw [h0.1]
  obtain ⟨s1, e1⟩ : ∃ z : ZS, z = sA σ0 (7, 0) 40 := ⟨_, rfl⟩
  rw [← e1] at h1 ⊢
  refine z_dup hC dL_law_3 rfl ?_
  refine z_callIG hC cwF1 q152 (d' := 5) (by decide) (by decide) (mz_X1_init (cxE hC) (ini_1 (Ret := fun σ => Bs σ 44 [] [(0, 36), (0, 3)] 63994) h1 (fun s h => h))) dL_law_4 rfl q150 q151 (np := 0) rfl rfl (Nat.le_of_ble_eq_true rfl) rfl (kV fun s2 h2 => ?_)
  refine z_astore_n hC dL_law_7 rfl (by decide) rfl rfl ?_
  refine z_new hC cf3 dL_law_8 q1577 q1578 q138 dvF3 (Nat.zero_le _) (by rw [h2.1]; decide) (by rw [h2.2.1]; decide) ?_
  have h3 := h2.aA (k := (10, 0)) rfl 60
  rw [h2.1]
  obtain ⟨s3, e3⟩ : ∃ z : ZS, z = sA s2 (10, 0) 60 := ⟨_, rfl⟩
  rw [← e3] at h3 ⊢
  refine z_dup hC dL_law_11 rfl ?_
  refine z_callIG hC cwF4 q1581 (d' := 1) (by decide) (by decide) (mz_X4_init (cxE hC) (ini_4 (Ret := fun σ => Bs σ 1238 [] [(44, 54), (44, 3), (0, 36), (0, 3)] 159284) h3 (fun s h => h))) dL_law_12 rfl q1579 q1580 (np := 0) rfl rfl (Nat.le_of_ble_eq_true rfl) rfl (kV fun s4 h4 => ?_)
  refine z_astore_n hC dL_law_15 rfl (by decide) rfl rfl ?_
  refine z_iconst (v := 1) hC dL_law_16 rfl ?_
  refine z_newa1 hC dL_law_17 (len := 1) (by decide) rfl (Nat.zero_le _) (by rw [h4.1]; decide) (by rw [h4.2.1]; decide) ?_
  have h5 := (h4.aA (k := (1, 1)) rfl 1).pop (fun i _ => rfl) (fun i => rfl)
  rw [h4.1]
  obtain ⟨s5, e5⟩ : ∃ z : ZS, z = sA s4 (1, 1) 1 := ⟨_, rfl⟩
  rw [← e5] at h5 ⊢
  refine z_astore_n hC dL_law_19 rfl (by decide) rfl rfl ?_
  refine z_iconst (v := 0) hC dL_law_20 rfl ?_
  refine z_istore hC dL_law_21 (by decide) rfl rfl ?_
  refine zz_0 h5 (fun o σ σ' h => ?_) (zl_law hFI hC hQo (hV s5 h5))
  rw [hQo] at h ⊢
  obtain ⟨r, e, h⟩ := h
  exact ⟨r, e, hRet r σ σ' h⟩
