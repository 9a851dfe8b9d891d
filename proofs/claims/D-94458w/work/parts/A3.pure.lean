/-! PURE HALF: words as the class holds them: builders, strings. -/
set_option maxRecDepth 100000
theorem BY.low {x : Int32} (h : BY x) {A C : Prop} (h1 : lw (bV x) = false → A) (h2 : lw (bV x) = true → x = nI (bV x) → C) : (x < 97 → A) ∧ (¬ x < 97 → (122 < x → A) ∧ (¬ 122 < x → C)) := by
  obtain ⟨b1, b2, b3, b4⟩ := h.v
  rcases Nat.lt_or_ge (bV x) 128 with l | l
  · have e := b3 l
    have h48 : (x < 97) = (bV x < 97) := by rw [e, show (97 : Int32) = nI 97 from rfl]; rw [nI_ltI (by omega) (by decide)]; rw [← e]
    have h57 : (122 < x) = (122 < bV x) := by rw [e, show (122 : Int32) = nI 122 from rfl]; rw [nI_ltI (by decide) (by omega)]; rw [← e]
    rw [h48, h57]
    refine ⟨fun k => h1 (by unfold lw; simp; omega), fun k => ⟨fun k2 => h1 (by unfold lw; simp; omega), fun k2 => h2 (by unfold lw; simp; omega) e⟩⟩
  · have hx := b4 l
    have h48 : x < 97 := by rw [Int32.lt_iff_toInt_lt] at hx ⊢; have : (0 : Int32).toInt = 0 := rfl; have : (97 : Int32).toInt = 97 := rfl; omega
    exact br_t h48 (h1 (by unfold lw; simp; omega))
theorem chr_w : ∀ c, c < 128 → ((nI c).toUInt32 % 65536).toInt32 = nI c ∧ (nI c).toInt8.toInt32 = nI c := by
  have : ∀ a : Fin 128, ((nI a.val).toUInt32 % 65536).toInt32 = nI a.val ∧ (nI a.val).toInt8.toInt32 = nI a.val := by decide +kernel
  exact fun c hc => this ⟨c, hc⟩
/-- a builder b over bytes v with some letters -/
def SBs (s : ZS) (b v i : Nat) (f : Nat → Nat) : Prop := 1239 ≤ b ∧ 1239 ≤ v ∧ b ≠ v ∧ (∃ q, zK s b = (17, q)) ∧ zP s b 0 = some (.inl v) ∧ zK s v = (2, 16) ∧ zI s b 1 = 0 ∧ zI s b 3 = nI i ∧ ∀ j, j < i → zI s v j = nI (f j)
theorem c_append {s : ZS} {b v i : Nat} {f : Nat → Nat} (h : SBs s b v i f) (hi : i < 16) {c : Nat} (hc : c < 128) (hf : f i = c) {Ret : ZR → ZS → Prop} (hr : ∀ s', Fr (fun x => x = b ∨ x = v) s s' → SBs s' b v (i + 1) f → Ret (some (.inl b)) s') : wp_J8_append_3 s b (nI c) Ret := by
  obtain ⟨h1, h2, h3, ⟨q, h4⟩, h5, h6, h7, h8, h9⟩ := h
  have kb : ∀ s' : ZS, s'.2.2.2 = s.2.2.2 → ∃ q, kK NS s' b = (17, q) := fun s' e => ⟨q, by rw [kK_dyn h1]; unfold zK; rw [e]; exact h4⟩
  have k0 := kb s rfl
  have cdb : ∀ i, cd b i = b := fun i => by unfold cd; rw [if_neg (by omega), if_neg (by omega)]
  have cdv : ∀ i, cd v i = v := fun i => by unfold cd; rw [if_neg (by omega), if_neg (by omega)]
  unfold wp_J8_append_3 wp_J7_append_3 wp_J7_ensureCapacityInternal wp_J7_isLatin1 wp_J15_canEncode
  dsimp only
  rw [kP_dyn h1, h5, zo_in, h7, h8]
  refine ⟨k0, k0, k0, k0, rfl, 16, by rw [kK_dyn h2]; exact h6, k0, nm_e (br_f ?_ ⟨k0, br_f (by decide) ⟨k0, br_t rfl (br_f (by decide) (br_f ?_ (br_f (by decide) ⟨k0, rfl, k0, k0, nm_e ⟨16, ?_, vin (by omega) (by decide), nm_e ?_⟩⟩)))⟩⟩)⟩
  · rw [nI1, show (Int32.ofNat 16 >>> ((0 : Int32) &&& 31)) = nI 16 from rfl]
    rcases Nat.lt_or_ge (i + 1) 16 with l | l
    · intro k
      rw [Int32.lt_iff_toInt_lt, pk_sub_toInt (by omega) (by omega)] at k
      have : (0 : Int32).toInt = 0 := rfl
      omega
    · have : i = 15 := by omega
      subst this; decide
  · rw [show (255 : Int32) = nI 255 from rfl, nI_ltI (by decide) (by omega)]; omega
  · rw [kK_dyn h2]; exact h6
  · rw [vp_nar_byte, (chr_w c hc).2, (chr_w c hc).2, nI1, ix_nI (by omega)]
    refine hr _ ((Fr.rfl.sI b 3 _ (.inl (cdb _))).sI v i _ (.inr (cdv _))) ⟨h1, h2, h3, ⟨q, h4⟩, h5, h6, ?_, ?_, fun j hj => ?_⟩
    · rw [zI_ne _ (.inl h3), zI_ne _ (.inr (by decide))]; exact h7
    · rw [zI_ne _ (.inl h3), zI_self]
    · rw [zI_row]
      by_cases e : j = i
      · rw [if_pos e, e, hf]
      · rw [if_neg e, zI_ne _ (.inl (Ne.symm h3))]; exact h9 j (by omega)
/-- a string: its letters; its hash if it was asked -/
def hsN (f : Nat → Nat) : Nat → Int32
  | 0 => 0
  | i + 1 => 31 * hsN f i + (nI (f i) &&& 255)
def STR (s : ZS) (w v L : Nat) (f : Nat → Nat) : Prop := 1239 ≤ w ∧ 1239 ≤ v ∧ w ≠ v ∧ (∃ q, zK s w = (18, q)) ∧ zP s w 0 = some (.inl v) ∧ zK s v = (2, L) ∧ zI s w 1 = 0 ∧ L ≤ 7 ∧ (∀ j, j < L → zI s v j = nI (f j) ∧ f j < 128) ∧ (zI s w 2 = hsN f L ∨ (zI s w 2 = 0 ∧ (zI s w 3 = 0 ∨ hsN f L = 0)))
theorem STR.ag {s s' : ZS} {w v L : Nat} {f : Nat → Nat} (h : STR s w v L f) (ew : ∀ i, zI s' w i = zI s w i) (ev : ∀ i, zI s' v i = zI s v i) (pw : zP s' w 0 = zP s w 0) (kw : zK s' w = zK s w) (kv : zK s' v = zK s v) : STR s' w v L f := by
  obtain ⟨h1, h2, h3, h4, h5, h6, h7, h8, h9, h10⟩ := h
  exact ⟨h1, h2, h3, by rw [kw]; exact h4, by rw [pw]; exact h5, by rw [kv]; exact h6, by rw [ew]; exact h7, h8, fun j hj => by rw [ev]; exact h9 j hj, by rw [ew, ew]; exact h10⟩
theorem qP_cI (σ : ZS) (b a sp dp n c j : Nat) : zP (cI σ b a sp dp n) c j = zP σ c j := rfl
theorem c_toString {s : ZS} {b v i : Nat} {f : Nat → Nat} (h : SBs s b v i f) (hi : i ≤ 7) (hf : ∀ j, j < i → f j < 128) (hz : 1239 ≤ zt s) (hb : b < zt s) (hv : v < zt s) (rm : zt s + 2 ≤ 160000 ∧ zn s + 11 ≤ 8000000) {Ret : ZR → ZS → Prop} (hr : ∀ s', Gw (fun _ => False) 2 11 s s' → STR s' (zt s) (zt s + 1) i f → Ret (some (.inl (zt s))) s') : wp_J8_toString s b Ret := by
  obtain ⟨h1, h2, h3, ⟨q, h4⟩, h5, h6, h7, h8, h9⟩ := h
  have kA : ∀ a, a < zt s → zK (sA s (18, 0) 4) a = zK s a := fun a ha => by rw [qK_sA, if_neg (by omega)]
  have k1 : ∃ q, kK NS (sA s (18, 0) 4) b = (17, q) := ⟨q, by rw [kK_dyn h1, kA b hb]; exact h4⟩
  have kS : ∃ q, kK NS (sA s (18, 0) 4) (zt s) = (18, q) := ⟨0, by rw [kK_dyn hz, qK_sA, if_pos rfl]⟩
  unfold wp_J8_toString wp_J9_init wp_J9_init_2 wp_J7_getValue wp_J8_length wp_J7_length wp_J7_isLatin1
  dsimp only
  refine ⟨⟨hz, by show _ ≤ 160000; omega, by show _ ≤ 8000000; omega⟩, nm_e ⟨k1, k1, ?_⟩⟩
  rw [kP_dyn h1, qP_sA, if_neg (by omega), h5, zo_in]
  refine ⟨rfl, k1, k1, k1, k1, br_f (by decide) ⟨k1, ?_⟩⟩
  rw [qI_sA, if_neg (by omega), h7]
  refine br_t rfl (br_f (by decide) ⟨kS, nm_e ?_⟩)
  rw [qI_sA, if_neg (by omega), h8]
  unfold wp_J13_copyOfRange wp_J13_copyOfRangeByte wp_J13_checkLength
  dsimp only
  have kv : kK NS (sI (sA s (18, 0) 4) (zt s) 1 0) v = (2, 16) := by rw [kK_dyn h2]; show zK (sA s (18, 0) 4) v = _; rw [kA v hv]; exact h6
  have em : nI i - 0 = nI i := by rw [n0, pk_sub (Nat.zero_le _)]; rfl
  refine br_t rfl ⟨16, kv, br_f ?_ (br_f (nI_pos (by omega)) (nm_e ?_))⟩
  · show ¬ nI i = nI 16; rw [nI_eq (by omega) (by omega)]; omega
  rw [em, ix_nI (by omega)]
  have zt2 : zt (sI (sA s (18, 0) 4) (zt s) 1 0) = zt s + 1 := rfl
  have zn2 : zn (sI (sA s (18, 0) 4) (zt s) 1 0) = zn s + 4 := rfl
  have emin : (if nI i < Int32.ofNat 16 - 0 then nI i else Int32.ofNat 16 - 0) = nI i := by
    rw [show (Int32.ofNat 16 - 0 : Int32) = nI 16 from rfl, if_pos (nI_lt (by omega) (by omega))]
  rw [zt2, zn2]
  refine ⟨nI_pos (by omega), ⟨by show 1239 ≤ _; omega, by show _ ≤ 160000; omega, by show _ ≤ 8000000; omega⟩, nm_e ⟨16, ?_, 16, ?_, i, ?_, ?_⟩⟩
  · rw [kK_dyn h2, qK_sA, if_neg (by rw [zt2]; omega)]; rw [kK_dyn h2] at kv; exact kv
  · rw [kK_dyn h2, qK_sA, if_neg (by rw [zt2]; omega)]; rw [kK_dyn h2] at kv; exact kv
  · rw [kK_dyn (by omega), qK_sA, zt2, if_pos rfl]
  rw [emin, ix_nI (by omega), ix0]
  have iv : ∀ j, zI (sA (sI (sA s (18, 0) 4) (zt s) 1 0) (2, i) i) v j = zI s v j := fun j => by
    rw [qI_sA, if_neg (by rw [zt2]; omega), zI_ne _ (.inl (by omega)), qI_sA, if_neg (by omega)]
  refine ⟨⟨by decide, by decide, nI_pos (by omega), by omega, by omega⟩, fun j hj => ?_, nm_e ⟨rfl, ⟨0, ?_⟩, hz, nm_e ?_⟩⟩
  · rw [iv, Nat.zero_add, h9 j hj]; exact fitsB _ (hf j hj)
  · rw [kK_dyn hz]; show zK (sA (sI (sA s (18, 0) 4) (zt s) 1 0) (2, i) i) (zt s) = _
    rw [qK_sA, if_neg (by rw [zt2]; omega)]; show zK (sA s (18, 0) 4) (zt s) = _; rw [qK_sA, if_pos rfl]
  rw [zo_in]
  generalize hs5 : sP (cI (sA (sI (sA s (18, 0) 4) (zt s) 1 0) (2, i) i) v (zt s + 1) 0 0 i) (zt s) 0 (some (.inl (zt s + 1))) = s5
  have eI : ∀ a j, a ≠ zt s + 1 → zI s5 a j = zI (sI (sA s (18, 0) 4) (zt s) 1 0) a j := fun a j ha => by
    rw [← hs5]
    show (if a = zt s + 1 then _ else zI (sA (sI (sA s (18, 0) 4) (zt s) 1 0) (2, i) i) a j) = _
    rw [if_neg ha, qI_sA, if_neg (by rw [zt2]; exact ha)]
  have eV : ∀ j, j < i → zI s5 (zt s + 1) j = zI s v j := fun j hj => by
    rw [← hs5]
    show (if zt s + 1 = zt s + 1 then va_cpy _ _ 0 0 i j else _) = _
    rw [if_pos rfl, pk_cpy_in (by omega) (by omega)]
    rw [show 0 + (j - 0) = j by omega]; exact iv j
  have eK : ∀ a, zK s5 a = if a = zt s + 1 then (2, i) else if a = zt s then (18, 0) else zK s a := fun a => by
    rw [← hs5]
    show zK (sA (sI (sA s (18, 0) 4) (zt s) 1 0) (2, i) i) a = _
    rw [qK_sA, zt2]
    split
    · rfl
    · show zK (sA s (18, 0) 4) a = _; rw [qK_sA]
  have eP : ∀ a j, zP s5 a j = if a = zt s ∧ j = 0 then some (.inl (zt s + 1)) else zP (sA (sI (sA s (18, 0) 4) (zt s) 1 0) (2, i) i) a j := fun a j => by rw [← hs5]; rfl
  have eT : zt s5 = zt s + 2 := by rw [← hs5]; rfl
  have eN : zn s5 = zn s + 4 + i := by rw [← hs5]; rfl
  have eJ : ∀ a j, a < zt s → zJ s5 a j = zJ s a j := fun a j ha => by
    rw [← hs5]
    show zJ (sA (sI (sA s (18, 0) 4) (zt s) 1 0) (2, i) i) a j = _
    rw [qJ_sA, if_neg (by rw [zt2]; omega)]; show zJ (sA s (18, 0) 4) a j = _; rw [qJ_sA, if_neg (by omega)]
  refine hr s5 ⟨fun a j ha _ => ?_, fun a j ha _ => eJ a j ha, fun a j ha _ => ?_, fun a ha => ?_, by omega, by omega, by omega, fun kf a ha => ?_⟩ ⟨hz, by omega, by omega, ⟨0, by rw [eK, if_neg (by omega), if_pos rfl]⟩, by rw [eP, if_pos ⟨rfl, rfl⟩], by rw [eK, if_pos rfl], ?_, hi, fun j hj => ⟨by rw [eV j hj]; exact h9 j hj, hf j hj⟩, .inr ⟨?_, .inl ?_⟩⟩
  · rw [eI a j (by omega), zI_ne _ (.inl (by omega)), qI_sA, if_neg (by omega)]
  · rw [eP, if_neg (by omega), qP_sA, if_neg (by rw [zt2]; omega)]; show zP (sA s (18, 0) 4) a j = _; rw [qP_sA, if_neg (by omega)]
  · rw [eK, if_neg (by omega), if_neg (by omega)]
  · rw [eK, if_neg (by omega), if_neg (by omega)]; exact kf a (by omega)
  · rw [eI _ _ (by omega), zI_self]
  · rw [eI _ _ (by omega), zI_ne _ (.inr (by decide)), qI_sA, if_pos rfl]
  · rw [eI _ _ (by omega), zI_ne _ (.inr (by decide)), qI_sA, if_pos rfl]
theorem RS.gw0 {n : Nat} {tx : Nat → Int32} {R : Nat} {d : Ad} {d3 d4 : Nat} {P : PT} {σ σ' : ZS} {k m : Nat} (h : RS n tx R d d3 d4 P σ) (g : Gw (fun _ => False) k m σ σ') (hb : zt σ' ≤ 160000) : RS n tx R d d3 d4 P σ' := by
  have hz := h.nz
  refine h.ag (fun a ha hl => ?_) (fun i => g.i 16 i (by omega) id) (g.kf h.fr) g.t1 hb
  have hal : a < zt σ := h.lt (by unfold live at hl; omega)
  exact ⟨fun i => g.i a i hal id, fun i => g.p a i hal id, g.kk a hal⟩
theorem Gw.fresh {S S' : Nat → Prop} {k m : Nat} {σ σ8 s : ZS} (g : Gw S k m σ σ8) (f : Fr S' σ8 s) (h : ∀ a i, a < zt σ → S' (cd a i) → S (cd a i)) : Gw S k m σ s := by
  refine ⟨fun a i ha hn => ?_, fun a i ha hn => ?_, fun a i ha hn => ?_, fun a ha => ?_, ?_, ?_, ?_, fun kf a ha => ?_⟩
  · rw [f.1 a i fun k => hn (h a i ha k)]; exact g.i a i ha hn
  · rw [f.2.1 a i fun k => hn (h a i ha k)]; exact g.j a i ha hn
  · rw [f.ep]; exact g.p a i ha hn
  · have : zK s a = zK σ8 a := by unfold zK; rw [f.2.2]
    rw [this]; exact g.kk a ha
  · rw [f.et]; exact g.t1
  · rw [f.et]; exact g.t2
  · rw [f.en]; exact g.n
  · rw [f.et] at ha
    have : zK s a = zK σ8 a := by unfold zK; rw [f.2.2]
    rw [this]; exact g.kf kf a ha
theorem c_word {n : Nat} {tx : Nat → Int32} {R : Nat} {d : Ad} {d3 d4 : Nat} {P : PT} {σ : ZS} (h : RS n tx R d d3 d4 P σ) {k : Nat} (hk : k ≤ n) (hsk : sk n tx k = k) (e2 : zI σ R 2 = nI k) (rm : zt σ + 4 ≤ 160000 ∧ zn σ + 31 ≤ 8000000) {Ret : ZR → ZS → Prop} (hr : ∀ s' w v, Gw (fun _ => False) 4 31 σ s' → zt σ ≤ w → zt σ ≤ v → STR s' w v (min 7 (wl n tx k)) (fun j => ch n tx (k + j)) → Ret (some (.inl w)) s') : wp_X5_word σ R Ret := by
  have hn := h.hn
  have hz := h.nz
  have hRl := h.Rl
  unfold wp_X5_word
  refine ⟨h.k11, c_sign h hk e2 ?_⟩
  rw [hsk, sI_id e2]
  refine ⟨⟨hz, by show _ ≤ 160000; omega, by show _ ≤ 8000000; omega⟩, nm_e ?_⟩
  unfold wp_J8_init wp_J7_init
  dsimp only
  have ix16 : ix 16 = 16 := rfl
  have zt1 : zt (sA σ (17, 0) 4) = zt σ + 1 := rfl
  have zn1 : zn (sA σ (17, 0) 4) = zn σ + 4 := rfl
  rw [ix16, zt1, zn1]
  have kb : zK (sA (sA σ (17, 0) 4) (2, 16) 16) (zt σ) = (17, 0) := by rw [qK_sA, if_neg (by rw [zt1]; omega), qK_sA, if_pos rfl]
  refine br_f (by decide) ⟨by decide, ⟨by show 1239 ≤ _; omega, by show _ ≤ 160000; omega, by show _ ≤ 8000000; omega⟩, nm_e ⟨⟨0, by rw [kK_dyn hz]; exact kb⟩, hz, nm_e ⟨⟨0, by rw [kK_dyn hz]; exact kb⟩, nm_e ?_⟩⟩⟩
  generalize hs8 : sI (sP (sA (sA σ (17, 0) 4) (2, 16) 16) (zt σ) 0 (some (.inl (zt σ + 1)))) (zt σ) 1 0 = s8
  have eI : ∀ a j, a < zt σ → zI s8 a j = zI σ a j := fun a j ha => by
    rw [← hs8, zI_ne _ (.inl (by omega))]
    show zI (sA (sA σ (17, 0) 4) (2, 16) 16) a j = _
    rw [qI_sA, if_neg (by rw [zt1]; omega), qI_sA, if_neg (by omega)]
  have g8 : Gw (fun _ => False) 2 20 σ s8 := by
    refine ⟨fun a j ha _ => eI a j ha, fun a j ha _ => ?_, fun a j ha _ => ?_, fun a ha => ?_, ?_, ?_, ?_, fun kf a ha => ?_⟩
    · rw [← hs8]; show zJ (sA (sA σ (17, 0) 4) (2, 16) 16) a j = _
      rw [qJ_sA, if_neg (by rw [zt1]; omega), qJ_sA, if_neg (by omega)]
    · rw [← hs8]; show zP (sP (sA (sA σ (17, 0) 4) (2, 16) 16) (zt σ) 0 _) a j = _
      rw [zP_ne _ (.inl (by omega)), qP_sA, if_neg (by rw [zt1]; omega), qP_sA, if_neg (by omega)]
    · rw [← hs8]; show zK (sA (sA σ (17, 0) 4) (2, 16) 16) a = _
      rw [qK_sA, if_neg (by rw [zt1]; omega), qK_sA, if_neg (by omega)]
    · rw [← hs8]; show zt σ ≤ zt σ + 1 + 1; omega
    · rw [← hs8]; show zt σ + 1 + 1 ≤ _; omega
    · rw [← hs8]; show zn σ + 4 + 16 ≤ _; omega
    · rw [← hs8] at ha
      have ha : zt σ + 1 + 1 ≤ a := ha
      rw [← hs8]; show zK (sA (sA σ (17, 0) 4) (2, 16) 16) a = _
      rw [qK_sA, if_neg (by rw [zt1]; omega), qK_sA, if_neg (by omega)]; exact kf a (by omega)
  have sb8 : SBs s8 (zt σ) (zt σ + 1) 0 (fun j => ch n tx (k + j)) := by
    refine ⟨hz, by omega, by omega, ⟨0, ?_⟩, ?_, ?_, ?_, ?_, fun j hj => absurd hj (Nat.not_lt_zero _)⟩
    · rw [← hs8]; exact kb
    · rw [← hs8]; show zP (sP (sA (sA σ (17, 0) 4) (2, 16) 16) (zt σ) 0 _) (zt σ) 0 = _; rw [zP_self]
    · rw [← hs8]; show zK (sA (sA σ (17, 0) 4) (2, 16) 16) (zt σ + 1) = _; rw [qK_sA, zt1, if_pos rfl]
    · rw [← hs8, zI_self]
    · rw [← hs8, zI_ne _ (.inr (by decide))]
      show zI (sA (sA σ (17, 0) 4) (2, 16) 16) (zt σ) 3 = _
      rw [qI_sA, if_neg (by rw [zt1]; omega), qI_sA, if_pos rfl]; rfl
  have zt8 : zt s8 = zt σ + 2 := by rw [← hs8]; rfl
  have zn8 : zn s8 = zn σ + 20 := by rw [← hs8]; rfl
  have rs8 := h.gw0 g8 (by omega)
  rw [eI R 2 hRl, e2]
  refine ⟨rs8.k11, nm_e ?_⟩
  refine lp2 (fun m s x => VL_X5_word_18 Ret m s R (zt σ) x) (fun s x => ∃ i, i ≤ 7 ∧ x = nI (k + i) ∧ k + i ≤ n ∧ Fr (fun c => c = zt σ ∨ c = zt σ + 1) s8 s ∧ SBs s (zt σ) (zt σ + 1) i (fun j => ch n tx (k + j)) ∧ ∀ j, j < i → lw (ch n tx (k + j)) = true) (fun s x => n - ix x) ?_ s8 (nI k) ⟨0, by omega, rfl, by omega, Fr.rfl, sb8, fun j hj => absurd hj (Nat.not_lt_zero _)⟩
  rintro m s x ⟨i, hi, rfl, hkn, f, sb, hl⟩ ih
  have gs : Gw (fun _ => False) 2 20 σ s := g8.fresh f (by
    intro a j ha hc
    unfold cd at hc
    split at hc
    · omega
    · split at hc <;> omega)
  have zts : zt s = zt σ + 2 := by rw [f.et, zt8]
  have zns : zn s = zn σ + 20 := by rw [f.en, zn8]
  have rs := h.gw0 gs (by omega)
  have kbs : ∃ q, kK NS s (zt σ) = (17, q) := by rw [kK_dyn hz]; exact sb.2.2.2.1
  have wlge : i ≤ wl n tx k := by
    rcases Nat.lt_or_ge (wl n tx k) i with l | l
    · have := hl _ l; rw [(wl_is n tx k).1] at this; cases this
    · exact l
  have lt128 : ∀ j, j < i → ch n tx (k + j) < 128 := fun j hj => by have := hl j hj; unfold lw at this; simp at this; omega
  have stop : i = min 7 (wl n tx k) → wp_J8_toString s (zt σ) (fun r24 σ25 => Ret r24 σ25) := fun e => by
    refine c_toString sb hi lt128 (by omega) (by omega) (by omega) (by omega) fun s' g' st => hr s' (zt s) (zt s + 1) ((gs.trans g').mono (fun _ q => q) (by omega) (by omega)) (by omega) (by omega) (by rw [← e]; exact st)
  simp only [VL_X5_word_18]
  rw [rs.r1, rs.r0', zo_in, nI_ltI (by omega) (by omega)]
  refine ⟨rs.k11, fun l => ⟨rs.k11, rfl, 500, k16 _, vin (by omega) (by decide), ?_⟩, fun l => ⟨kbs, stop ?_⟩⟩
  · obtain ⟨a1, a2, a3⟩ := rs.at l
    rw [a1]
    have no : lw (bV (tx (k + i))) = false → i = min 7 (wl n tx k) := fun hf => by
      have := wl_eq (n := n) (tx := tx) (k := k) (p := i) (by rw [a3]; exact hf) hl
      omega
    refine ⟨fun x1 => ⟨kbs, stop (no ?_)⟩, fun x1 => ⟨rs.k11, rfl, 500, k16 _, vin (by omega) (by decide), fun x2 => ⟨kbs, stop (no ?_)⟩, fun x2 => ⟨kbs, ?_⟩⟩⟩
    · exact (a2.low (A := lw (bV (tx (k + i))) = false) (C := True) (fun h => h) (fun _ _ => trivial)).1 x1
    · exact ((a2.low (A := lw (bV (tx (k + i))) = false) (C := True) (fun h => h) (fun _ _ => trivial)).2 x1).1 x2
    · have hlw : lw (bV (tx (k + i))) = true := by
        cases e : lw (bV (tx (k + i)))
        · have := a2.low (A := True) (C := False) (fun _ => trivial) (fun h => by rw [e] at h; cases h)
          exact ((this.2 x1).2 x2).elim
        · rfl
      have hx : tx (k + i) = nI (bV (tx (k + i))) := a2.v.2.2.1 (by unfold lw at hlw; simp at hlw; omega)
      have hb : bV (tx (k + i)) < 128 := by unfold lw at hlw; simp at hlw; omega
      unfold wp_J8_length wp_J7_length
      refine ⟨kbs, kbs, ?_⟩
      dsimp only
      rw [sb.2.2.2.2.2.2.2.1, show (7 : Int32) = nI 7 from rfl, nI_ltI (by omega) (by omega), rs.r0', zo_in]
      refine ⟨fun l7 => ⟨rs.k11, rfl, 500, k16 _, vin (by omega) (by decide), kbs, ?_⟩, fun l7 => ⟨kbs, stop ?_⟩⟩
      · rw [a1, hx, (chr_w _ hb).1]
        refine c_append sb (by omega) hb (by rw [a3]) fun s' f' sb' => nm_e (ih s' _ ⟨i + 1, by omega, by rw [nI1]; rfl, by omega, f.trans f', sb', fun j hj => ?_⟩ ?_)
        · by_cases ej : j = i
          · rw [ej, a3]; exact hlw
          · exact hl j (by omega)
        · show n - ix (nI (k + i) + 1) < n - ix (nI (k + i))
          rw [nI1, ix_nI (by omega), ix_nI (by omega)]; omega
      · have : i < wl n tx k := by
          rcases Nat.lt_or_ge i (wl n tx k) with q | q
          · exact q
          · have e : i = wl n tx k := by omega
            have h1 := (wl_is n tx k).1
            rw [← e, a3, hlw] at h1; cases h1
        omega
  · have := wl_eq (n := n) (tx := tx) (k := k) (p := i) (by rw [ch_out (by omega)]; rfl) hl
    omega
