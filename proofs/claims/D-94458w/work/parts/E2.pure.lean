/-! PURE HALF: the start: the constructors. -/
set_option maxRecDepth 100000
theorem pst_none {a i : Nat} (h : a ≠ 0 ∧ a ≠ 1 ∧ a ≠ 2 ∧ a ≠ 4 ∧ a ≠ 6 ∧ a ≠ 12 ∧ a ≠ 44 ∧ a ≠ 48 ∧ a ≠ 65 ∧ a ≠ 82 ∧ a ≠ 107 ∧ a ≠ 132 ∧ a ≠ 145 ∧ a ≠ 160 ∧ a ≠ 362 ∧ a ≠ 569 ∧ a ≠ 1148 ∧ a ≠ 1167 ∧ a ≠ 1171 ∧ a ≠ 1221) : Pst a i = none := by
  unfold Pst
  obtain ⟨h0, h1, h2, h3, h4, h5, h6, h7, h8, h9, h10, h11, h12, h13, h14, h15, h16, h17, h18, h19⟩ := h
  rw [if_neg h0, if_neg h1, if_neg h2, if_neg h3, if_neg h4, if_neg h5, if_neg h6, if_neg h7, if_neg h8, if_neg h9, if_neg h10, if_neg h11, if_neg h12, if_neg h13, if_neg h14, if_neg h15, if_neg h16, if_neg h17, if_neg h18, if_neg h19]
theorem prs_in {a i q : Nat} (h : Pst a i = some q) (ha : a ≠ 0) : PRs a i = some (.inl q) := by unfold PRs; rw [if_neg (fun x => ha x.1), h]
theorem prs_out {a i : Nat} (h : Pst a i = none) (ha : a ≠ 0) : PRs a i = none := by unfold PRs; rw [if_neg (fun x => ha x.1), h]
theorem pl_out {l : List (Option Nat)} (k : Nat) {i : Nat} (hi : k ≤ i) (h : l.drop k = [] ∨ (l.drop k).all (fun x => decide (x = none)) = true) : l.getD i none = none := by
  have e : l.getD i none = (l.drop k).getD (i - k) none := by
    simp only [List.getD_eq_getElem?_getD, List.getElem?_drop]
    rw [show k + (i - k) = i by omega]
  rw [e]
  rcases h with h | h
  · rw [h]; rfl
  · generalize l.drop k = r at h
    clear e
    generalize i - k = j
    induction r generalizing j with
    | nil => rfl
    | cons x r ih =>
      rw [List.all_cons, Bool.and_eq_true, decide_eq_true_eq] at h
      cases j with
      | zero => exact h.1
      | succ j => exact ih h.2 j
theorem ini_1 {s : ZS} (h : Bs s 1 [(0, 0)] [] 40) {Ret : ZS → Prop} (hr : ∀ s, Bs s 44 [] [(0, 36), (0, 3)] 63994 → Ret s) : wp_X1_init 0 s 0 Ret := by
  unfold wp_X1_init
  refine ⟨h.rm (by decide) (by decide), nm_e ?_⟩
  rw [h.1]
  replace h := h.aA (k := (8, 0)) rfl 10
  generalize sA s (8, 0) 10 = s at h
  replace h : Bs s 2 [(1, 0), (0, 0)] [] 50 := h
  unfold wp_X2_init
  refine w_list (cap := 2) h (by decide) rfl rfl (fun i => rfl) rfl rfl (fun i hi => ?_) (fun i => rfl) (fun i => rfl) (by decide) rfl (by decide) (by decide) rfl (by decide) (by decide) (fun s h => ?_)
  · rcases i with _ | _ | _ | i
    · omega
    · omega
    · rfl
    · rfl
  replace h : Bs s 4 [(1, 1), (0, 0)] [] 55 := h
  refine w_list (cap := 2) h (by decide) rfl rfl (fun i => rfl) rfl rfl (fun i hi => ?_) (fun i => rfl) (fun i => rfl) (by decide) rfl (by decide) (by decide) rfl (by decide) (by decide) (fun s h => ?_)
  · rcases i with _ | _ | _ | i
    · omega
    · omega
    · rfl
    · rfl
  replace h : Bs s 6 [(1, 2), (0, 0)] [] 60 := h
  refine w_list (cap := 1) h (by decide) rfl rfl (fun i => rfl) rfl rfl (fun i hi => ?_) (fun i => rfl) (fun i => rfl) (by decide) rfl (by decide) (by decide) rfl (by decide) (by decide) (fun s h => ?_)
  · rcases i with _ | _ | _ | i
    · omega
    · omega
    · rfl
    · rfl
  replace h : Bs s 8 [(1, 3), (0, 0)] [] 64 := h
  refine w_arr h rfl (fun i => rfl) (fun i => rfl) (by decide) rfl (by decide) (by decide) rfl (by decide) (by decide) (fun s h => ?_)
  replace h : Bs s 9 [(1, 4), (0, 0)] [] 88 := h
  refine w_arr h rfl (fun i => rfl) (fun i => rfl) (by decide) rfl (by decide) (by decide) rfl (by decide) (by decide) (fun s h => ?_)
  replace h : Bs s 10 [(1, 5), (0, 0)] [] 112 := h
  refine w_arr h rfl (fun i => rfl) (fun i => rfl) (by decide) rfl (by decide) (by decide) rfl (by decide) (by decide) (fun s h => ?_)
  replace h : Bs s 11 [(1, 6), (0, 0)] [] 688 := h
  refine w_arr h rfl (fun i => rfl) (fun i => rfl) (by decide) rfl (by decide) (by decide) rfl (by decide) (by decide) (fun s h => ?_)
  replace h : Bs s 12 [(1, 7), (0, 0)] [] 1264 := h
  replace h := h.pop (fun i hi => by rcases i with _ | _ | _ | _ | _ | _ | _ | _ | _ | _ | i <;> first | omega | rfl) (fun i => rfl)
  refine ⟨h.k0 (by decide) rfl, Nat.zero_le _, nm_e ?_⟩
  replace h := h.aP (a := 0) (j := 0) (q := 1) (by decide) (by decide) (by decide) rfl
  generalize sP s 0 0 (some (.inl 1)) = s at h
  replace h : Bs s 12 [(0, 1)] [] 1264 := h
  refine ⟨h.rm (by decide) (by decide), nm_e ?_⟩
  rw [h.1]
  replace h := h.aA (k := (9, 0)) rfl 5
  generalize sA s (9, 0) 5 = s at h
  replace h : Bs s 13 [(12, 0), (0, 1)] [] 1269 := h
  unfold wp_X3_init
  refine w_arr h rfl (fun i => rfl) (fun i => rfl) (by decide) rfl (by decide) (by decide) rfl (by decide) (by decide) (fun s h => ?_)
  replace h : Bs s 14 [(12, 1), (0, 1)] [] 6093 := h
  refine w_arr h rfl (fun i => rfl) (fun i => rfl) (by decide) rfl (by decide) (by decide) rfl (by decide) (by decide) (fun s h => ?_)
  replace h : Bs s 15 [(12, 2), (0, 1)] [] 10917 := h
  refine w_arr h rfl (fun i => rfl) (fun i => rfl) (by decide) rfl (by decide) (by decide) rfl (by decide) (by decide) (fun s h => ?_)
  replace h : Bs s 16 [(12, 3), (0, 1)] [] 10929 := h
  replace h := h.pop (fun i hi => by rcases i with _ | _ | _ | _ | _ | i <;> first | omega | rfl) (fun i => rfl)
  refine ⟨h.k0 (by decide) rfl, Nat.zero_le _, nm_e ?_⟩
  replace h := h.aP (a := 0) (j := 1) (q := 12) (by decide) (by decide) (by decide) rfl
  generalize sP s 0 1 (some (.inl 12)) = s at h
  replace h : Bs s 16 [(0, 2)] [] 10929 := h
  refine ⟨h.k0 (by decide) rfl, nm_e ?_⟩
  replace h := h.aI (a := 0) (i := 3) (by decide)
  generalize sI s 0 3 (-1) = s at h
  replace h : Bs s 16 [(0, 2)] [(0, 3)] 10929 := h
  refine w_arr h rfl (fun i => rfl) (fun i => rfl) (by decide) rfl (by decide) (by decide) rfl (by decide) (by decide) (fun s h => ?_)
  replace h : Bs s 17 [(0, 6)] [(0, 3)] 11429 := h
  refine w_arr h rfl (fun i => rfl) (fun i => rfl) (by decide) rfl (by decide) (by decide) rfl (by decide) (by decide) (fun s h => ?_)
  replace h : Bs s 18 [(0, 7)] [(0, 3)] 11432 := h
  refine w_arr h rfl (fun i => rfl) (fun i => rfl) (by decide) rfl (by decide) (by decide) rfl (by decide) (by decide) (fun s h => ?_)
  replace h : Bs s 19 [(0, 8)] [(0, 3)] 11456 := h
  refine w_arr h rfl (fun i => rfl) (fun i => rfl) (by decide) rfl (by decide) (by decide) rfl (by decide) (by decide) (fun s h => ?_)
  replace h : Bs s 20 [(0, 9)] [(0, 3)] 11480 := h
  refine w_arr h rfl (fun i => rfl) (fun i => rfl) (by decide) rfl (by decide) (by decide) rfl (by decide) (by decide) (fun s h => ?_)
  replace h : Bs s 21 [(0, 11)] [(0, 3)] 11528 := h
  refine w_arr h rfl (fun i => rfl) (fun i => rfl) (by decide) rfl (by decide) (by decide) rfl (by decide) (by decide) (fun s h => ?_)
  replace h : Bs s 22 [(0, 12)] [(0, 3)] 11576 := h
  refine w_arr h rfl (fun i => rfl) (fun i => rfl) (by decide) rfl (by decide) (by decide) rfl (by decide) (by decide) (fun s h => ?_)
  replace h : Bs s 23 [(0, 13)] [(0, 3)] 11624 := h
  refine w_arr h rfl (fun i => rfl) (fun i => rfl) (by decide) rfl (by decide) (by decide) rfl (by decide) (by decide) (fun s h => ?_)
  replace h : Bs s 24 [(0, 14)] [(0, 3)] 11672 := h
  refine w_arr h rfl (fun i => rfl) (fun i => rfl) (by decide) rfl (by decide) (by decide) rfl (by decide) (by decide) (fun s h => ?_)
  replace h : Bs s 25 [(0, 15)] [(0, 3)] 11720 := h
  refine w_arr h rfl (fun i => rfl) (fun i => rfl) (by decide) rfl (by decide) (by decide) rfl (by decide) (by decide) (fun s h => ?_)
  replace h : Bs s 26 [(0, 16)] [(0, 3)] 11768 := h
  refine w_arr h rfl (fun i => rfl) (fun i => rfl) (by decide) rfl (by decide) (by decide) rfl (by decide) (by decide) (fun s h => ?_)
  replace h : Bs s 27 [(0, 17)] [(0, 3)] 11782 := h
  refine w_arr h rfl (fun i => rfl) (fun i => rfl) (by decide) rfl (by decide) (by decide) rfl (by decide) (by decide) (fun s h => ?_)
  replace h : Bs s 28 [(0, 19)] [(0, 3)] 60934 := h
  refine w_arr h rfl (fun i => rfl) (fun i => rfl) (by decide) rfl (by decide) (by decide) rfl (by decide) (by decide) (fun s h => ?_)
  replace h : Bs s 29 [(0, 20)] [(0, 3)] 60950 := h
  refine w_arr h rfl (fun i => rfl) (fun i => rfl) (by decide) rfl (by decide) (by decide) rfl (by decide) (by decide) (fun s h => ?_)
  replace h : Bs s 30 [(0, 21)] [(0, 3)] 60961 := h
  refine w_arr h rfl (fun i => rfl) (fun i => rfl) (by decide) rfl (by decide) (by decide) rfl (by decide) (by decide) (fun s h => ?_)
  replace h : Bs s 31 [(0, 22)] [(0, 3)] 61082 := h
  refine w_arr h rfl (fun i => rfl) (fun i => rfl) (by decide) rfl (by decide) (by decide) rfl (by decide) (by decide) (fun s h => ?_)
  replace h : Bs s 32 [(0, 23)] [(0, 3)] 63130 := h
  refine w_arr h rfl (fun i => rfl) (fun i => rfl) (by decide) rfl (by decide) (by decide) rfl (by decide) (by decide) (fun s h => ?_)
  replace h : Bs s 33 [(0, 24)] [(0, 3)] 63706 := h
  refine w_arr h rfl (fun i => rfl) (fun i => rfl) (by decide) rfl (by decide) (by decide) rfl (by decide) (by decide) (fun s h => ?_)
  replace h : Bs s 34 [(0, 25)] [(0, 3)] 63718 := h
  refine w_arr h rfl (fun i => rfl) (fun i => rfl) (by decide) rfl (by decide) (by decide) rfl (by decide) (by decide) (fun s h => ?_)
  replace h : Bs s 35 [(0, 26)] [(0, 3)] 63730 := h
  refine w_arr h rfl (fun i => rfl) (fun i => rfl) (by decide) rfl (by decide) (by decide) rfl (by decide) (by decide) (fun s h => ?_)
  replace h : Bs s 36 [(0, 27)] [(0, 3)] 63742 := h
  refine w_arr h rfl (fun i => rfl) (fun i => rfl) (by decide) rfl (by decide) (by decide) rfl (by decide) (by decide) (fun s h => ?_)
  replace h : Bs s 37 [(0, 28)] [(0, 3)] 63754 := h
  refine w_arr h rfl (fun i => rfl) (fun i => rfl) (by decide) rfl (by decide) (by decide) rfl (by decide) (by decide) (fun s h => ?_)
  replace h : Bs s 38 [(0, 29)] [(0, 3)] 63766 := h
  refine w_arr h rfl (fun i => rfl) (fun i => rfl) (by decide) rfl (by decide) (by decide) rfl (by decide) (by decide) (fun s h => ?_)
  replace h : Bs s 39 [(0, 30)] [(0, 3)] 63778 := h
  refine w_arr h rfl (fun i => rfl) (fun i => rfl) (by decide) rfl (by decide) (by decide) rfl (by decide) (by decide) (fun s h => ?_)
  replace h : Bs s 40 [(0, 33)] [(0, 3)] 63826 := h
  refine w_arr h rfl (fun i => rfl) (fun i => rfl) (by decide) rfl (by decide) (by decide) rfl (by decide) (by decide) (fun s h => ?_)
  replace h : Bs s 41 [(0, 34)] [(0, 3)] 63874 := h
  refine w_arr h rfl (fun i => rfl) (fun i => rfl) (by decide) rfl (by decide) (by decide) rfl (by decide) (by decide) (fun s h => ?_)
  replace h : Bs s 42 [(0, 35)] [(0, 3)] 63922 := h
  refine w_arr h rfl (fun i => rfl) (fun i => rfl) (by decide) rfl (by decide) (by decide) rfl (by decide) (by decide) (fun s h => ?_)
  replace h : Bs s 43 [(0, 36)] [(0, 3)] 63970 := h
  refine ⟨h.k0 (by decide) rfl, nm_e ?_⟩
  replace h := h.aI (a := 0) (i := 36) (by decide)
  generalize sI s 0 36 (-1) = s at h
  replace h : Bs s 43 [(0, 36)] [(0, 36), (0, 3)] 63970 := h
  refine w_arr h rfl (fun i => rfl) (fun i => rfl) (by decide) rfl (by decide) (by decide) rfl (by decide) (by decide) (fun s h => ?_)
  replace h : Bs s 44 [(0, 40)] [(0, 36), (0, 3)] 63994 := h
  exact hr s (h.pop (fun i hi => by unfold PRs; rw [if_neg (by omega)]; rw [show Pst 0 i = none from pl_out 40 hi (by decide)]) (fun i => rfl))
theorem ini_4 {s : ZS} (h : Bs s 45 [(44, 0)] [(0, 36), (0, 3)] 64054) {Ret : ZS → Prop} (hr : ∀ s, Bs s 1238 [] [(44, 54), (44, 3), (0, 36), (0, 3)] 159284 → Ret s) : wp_X4_init 0 s 44 Ret := by
  unfold wp_X4_init
  refine ⟨h.k0 (by decide) rfl, nm_e ?_⟩
  replace h := h.aI (a := 44) (i := 3) (by decide)
  generalize sI s 44 3 (-1) = s at h
  replace h : Bs s 45 [(44, 0)] [(44, 3), (0, 36), (0, 3)] 64054 := h
  refine w_arr h rfl (fun i => rfl) (fun i => rfl) (by decide) rfl (by decide) (by decide) rfl (by decide) (by decide) (fun s h => ?_)
  replace h : Bs s 46 [(44, 9)] [(44, 3), (0, 36), (0, 3)] 64554 := h
  refine w_arr h rfl (fun i => rfl) (fun i => rfl) (by decide) rfl (by decide) (by decide) rfl (by decide) (by decide) (fun s h => ?_)
  replace h : Bs s 47 [(44, 10)] [(44, 3), (0, 36), (0, 3)] 64558 := h
  refine w_arr h rfl (fun i => rfl) (fun i => rfl) (by decide) rfl (by decide) (by decide) rfl (by decide) (by decide) (fun s h => ?_)
  replace h : Bs s 48 [(44, 11)] [(44, 3), (0, 36), (0, 3)] 64562 := h
  refine w_marr (n := 16) (m := 2) h rfl (by decide +kernel) (fun i hi => prs_in (if_pos hi) (by decide)) (fun i hi => prs_out (if_neg (Nat.not_lt.mpr hi)) (by decide)) (fun k hk i => prs_out (pst_none (by omega)) (by omega)) (fun b i hb => by rw [okL, if_neg (by omega)]; rfl) (by decide) rfl (by decide) (by decide) rfl (by decide) (by decide) (fun s h => ?_)
  replace h : Bs s 65 [(44, 12)] [(44, 3), (0, 36), (0, 3)] 64610 := h
  refine w_marr (n := 16) (m := 2) h rfl (by decide +kernel) (fun i hi => prs_in (if_pos hi) (by decide)) (fun i hi => prs_out (if_neg (Nat.not_lt.mpr hi)) (by decide)) (fun k hk i => prs_out (pst_none (by omega)) (by omega)) (fun b i hb => by rw [okL, if_neg (by omega)]; rfl) (by decide) rfl (by decide) (by decide) rfl (by decide) (by decide) (fun s h => ?_)
  replace h : Bs s 82 [(44, 13)] [(44, 3), (0, 36), (0, 3)] 64658 := h
  refine w_marr (n := 24) (m := 4) h rfl (by decide +kernel) (fun i hi => prs_in (if_pos hi) (by decide)) (fun i hi => prs_out (if_neg (Nat.not_lt.mpr hi)) (by decide)) (fun k hk i => prs_out (pst_none (by omega)) (by omega)) (fun b i hb => by rw [okL, if_neg (by omega)]; rfl) (by decide) rfl (by decide) (by decide) rfl (by decide) (by decide) (fun s h => ?_)
  replace h : Bs s 107 [(44, 14)] [(44, 3), (0, 36), (0, 3)] 64778 := h
  refine w_marr (n := 24) (m := 4) h rfl (by decide +kernel) (fun i hi => prs_in (if_pos hi) (by decide)) (fun i hi => prs_out (if_neg (Nat.not_lt.mpr hi)) (by decide)) (fun k hk i => prs_out (pst_none (by omega)) (by omega)) (fun b i hb => by rw [okL, if_neg (by omega)]; rfl) (by decide) rfl (by decide) (by decide) rfl (by decide) (by decide) (fun s h => ?_)
  replace h : Bs s 132 [(44, 15)] [(44, 3), (0, 36), (0, 3)] 64898 := h
  refine w_marr (n := 12) (m := 3) h rfl (by decide +kernel) (fun i hi => prs_in (if_pos hi) (by decide)) (fun i hi => prs_out (if_neg (Nat.not_lt.mpr hi)) (by decide)) (fun k hk i => prs_out (pst_none (by omega)) (by omega)) (fun b i hb => by rw [okL, if_neg (by omega)]; rfl) (by decide) rfl (by decide) (by decide) rfl (by decide) (by decide) (fun s h => ?_)
  replace h : Bs s 145 [(44, 16)] [(44, 3), (0, 36), (0, 3)] 64946 := h
  refine w_marr (n := 12) (m := 3) h rfl (by decide +kernel) (fun i hi => prs_in (if_pos hi) (by decide)) (fun i hi => prs_out (if_neg (Nat.not_lt.mpr hi)) (by decide)) (fun k hk i => prs_out (pst_none (by omega)) (by omega)) (fun b i hb => by rw [okL, if_neg (by omega)]; rfl) (by decide) rfl (by decide) (by decide) rfl (by decide) (by decide) (fun s h => ?_)
  replace h : Bs s 158 [(44, 17)] [(44, 3), (0, 36), (0, 3)] 64994 := h
  refine w_arr h rfl (fun i => rfl) (fun i => rfl) (by decide) rfl (by decide) (by decide) rfl (by decide) (by decide) (fun s h => ?_)
  replace h : Bs s 159 [(44, 18)] [(44, 3), (0, 36), (0, 3)] 65018 := h
  refine w_arr h rfl (fun i => rfl) (fun i => rfl) (by decide) rfl (by decide) (by decide) rfl (by decide) (by decide) (fun s h => ?_)
  replace h : Bs s 160 [(44, 19)] [(44, 3), (0, 36), (0, 3)] 65042 := h
  refine w_marr (n := 201) (m := 24) h rfl (by decide +kernel) (fun i hi => prs_in (if_pos hi) (by decide)) (fun i hi => prs_out (if_neg (Nat.not_lt.mpr hi)) (by decide)) (fun k hk i => prs_out (pst_none (by omega)) (by omega)) (fun b i hb => by rw [okL, if_neg (by omega)]; rfl) (by decide) rfl (by decide) (by decide) rfl (by decide) (by decide) (fun s h => ?_)
  replace h : Bs s 362 [(44, 21)] [(44, 3), (0, 36), (0, 3)] 70067 := h
  refine w_marr (n := 201) (m := 24) h rfl (by decide +kernel) (fun i hi => prs_in (if_pos hi) (by decide)) (fun i hi => prs_out (if_neg (Nat.not_lt.mpr hi)) (by decide)) (fun k hk i => prs_out (pst_none (by omega)) (by omega)) (fun b i hb => by rw [okL, if_neg (by omega)]; rfl) (by decide) rfl (by decide) (by decide) rfl (by decide) (by decide) (fun s h => ?_)
  replace h : Bs s 564 [(44, 22)] [(44, 3), (0, 36), (0, 3)] 75092 := h
  refine w_arr h rfl (fun i => rfl) (fun i => rfl) (by decide) rfl (by decide) (by decide) rfl (by decide) (by decide) (fun s h => ?_)
  replace h : Bs s 565 [(44, 23)] [(44, 3), (0, 36), (0, 3)] 75116 := h
  refine w_arr h rfl (fun i => rfl) (fun i => rfl) (by decide) rfl (by decide) (by decide) rfl (by decide) (by decide) (fun s h => ?_)
  replace h : Bs s 566 [(44, 24)] [(44, 3), (0, 36), (0, 3)] 75140 := h
  refine w_arr h rfl (fun i => rfl) (fun i => rfl) (by decide) rfl (by decide) (by decide) rfl (by decide) (by decide) (fun s h => ?_)
  replace h : Bs s 567 [(44, 25)] [(44, 3), (0, 36), (0, 3)] 75188 := h
  refine w_arr h rfl (fun i => rfl) (fun i => rfl) (by decide) rfl (by decide) (by decide) rfl (by decide) (by decide) (fun s h => ?_)
  replace h : Bs s 568 [(44, 26)] [(44, 3), (0, 36), (0, 3)] 75236 := h
  refine w_arr h rfl (fun i => rfl) (fun i => rfl) (by decide) rfl (by decide) (by decide) rfl (by decide) (by decide) (fun s h => ?_)
  replace h : Bs s 569 [(44, 27)] [(44, 3), (0, 36), (0, 3)] 75284 := h
  refine w_marr (n := 576) (m := 2) h rfl (by decide +kernel) (fun i hi => prs_in (if_pos hi) (by decide)) (fun i hi => prs_out (if_neg (Nat.not_lt.mpr hi)) (by decide)) (fun k hk i => prs_out (pst_none (by omega)) (by omega)) (fun b i hb => by rw [okL, if_neg (by omega)]; rfl) (by decide) rfl (by decide) (by decide) rfl (by decide) (by decide) (fun s h => ?_)
  replace h : Bs s 1146 [(44, 31)] [(44, 3), (0, 36), (0, 3)] 77012 := h
  refine w_arr h rfl (fun i => rfl) (fun i => rfl) (by decide) rfl (by decide) (by decide) rfl (by decide) (by decide) (fun s h => ?_)
  replace h : Bs s 1147 [(44, 32)] [(44, 3), (0, 36), (0, 3)] 77024 := h
  refine w_arr h rfl (fun i => rfl) (fun i => rfl) (by decide) rfl (by decide) (by decide) rfl (by decide) (by decide) (fun s h => ?_)
  replace h : Bs s 1148 [(44, 33)] [(44, 3), (0, 36), (0, 3)] 77038 := h
  refine w_marr (n := 12) (m := 48) h rfl (by decide +kernel) (fun i hi => prs_in (if_pos hi) (by decide)) (fun i hi => prs_out (if_neg (Nat.not_lt.mpr hi)) (by decide)) (fun k hk i => prs_out (pst_none (by omega)) (by omega)) (fun b i hb => by rw [okL, if_neg (by omega)]; rfl) (by decide) rfl (by decide) (by decide) rfl (by decide) (by decide) (fun s h => ?_)
  replace h : Bs s 1161 [(44, 37)] [(44, 3), (0, 36), (0, 3)] 77626 := h
  refine w_arr h rfl (fun i => rfl) (fun i => rfl) (by decide) rfl (by decide) (by decide) rfl (by decide) (by decide) (fun s h => ?_)
  replace h : Bs s 1162 [(44, 38)] [(44, 3), (0, 36), (0, 3)] 77638 := h
  refine w_arr h rfl (fun i => rfl) (fun i => rfl) (by decide) rfl (by decide) (by decide) rfl (by decide) (by decide) (fun s h => ?_)
  replace h : Bs s 1163 [(44, 39)] [(44, 3), (0, 36), (0, 3)] 77650 := h
  refine w_arr h rfl (fun i => rfl) (fun i => rfl) (by decide) rfl (by decide) (by decide) rfl (by decide) (by decide) (fun s h => ?_)
  replace h : Bs s 1164 [(44, 40)] [(44, 3), (0, 36), (0, 3)] 77662 := h
  refine w_arr h rfl (fun i => rfl) (fun i => rfl) (by decide) rfl (by decide) (by decide) rfl (by decide) (by decide) (fun s h => ?_)
  replace h : Bs s 1165 [(44, 41)] [(44, 3), (0, 36), (0, 3)] 77674 := h
  refine w_arr h rfl (fun i => rfl) (fun i => rfl) (by decide) rfl (by decide) (by decide) rfl (by decide) (by decide) (fun s h => ?_)
  replace h : Bs s 1166 [(44, 42)] [(44, 3), (0, 36), (0, 3)] 77686 := h
  refine w_arr h rfl (fun i => rfl) (fun i => rfl) (by decide) rfl (by decide) (by decide) rfl (by decide) (by decide) (fun s h => ?_)
  replace h : Bs s 1167 [(44, 43)] [(44, 3), (0, 36), (0, 3)] 77698 := h
  refine w_marr (n := 3) (m := 10000) h rfl (by decide +kernel) (fun i hi => prs_in (if_pos hi) (by decide)) (fun i hi => prs_out (if_neg (Nat.not_lt.mpr hi)) (by decide)) (fun k hk i => prs_out (pst_none (by omega)) (by omega)) (fun b i hb => by rw [okL, if_neg (by omega)]; rfl) (by decide) rfl (by decide) (by decide) rfl (by decide) (by decide) (fun s h => ?_)
  replace h : Bs s 1171 [(44, 45)] [(44, 3), (0, 36), (0, 3)] 107701 := h
  refine w_marr (n := 48) (m := 1024) h rfl (by decide +kernel) (fun i hi => prs_in (if_pos hi) (by decide)) (fun i hi => prs_out (if_neg (Nat.not_lt.mpr hi)) (by decide)) (fun k hk i => prs_out (pst_none (by omega)) (by omega)) (fun b i hb => by rw [okL, if_neg (by omega)]; rfl) (by decide) rfl (by decide) (by decide) rfl (by decide) (by decide) (fun s h => ?_)
  replace h : Bs s 1220 [(44, 47)] [(44, 3), (0, 36), (0, 3)] 156901 := h
  refine w_arr h rfl (fun i => rfl) (fun i => rfl) (by decide) rfl (by decide) (by decide) rfl (by decide) (by decide) (fun s h => ?_)
  replace h : Bs s 1221 [(44, 48)] [(44, 3), (0, 36), (0, 3)] 156912 := h
  refine w_marr (n := 11) (m := 11) h rfl (by decide +kernel) (fun i hi => prs_in (if_pos hi) (by decide)) (fun i hi => prs_out (if_neg (Nat.not_lt.mpr hi)) (by decide)) (fun k hk i => prs_out (pst_none (by omega)) (by omega)) (fun b i hb => by rw [okL, if_neg (by omega)]; rfl) (by decide) rfl (by decide) (by decide) rfl (by decide) (by decide) (fun s h => ?_)
  replace h : Bs s 1233 [(44, 49)] [(44, 3), (0, 36), (0, 3)] 157044 := h
  refine w_arr h rfl (fun i => rfl) (fun i => rfl) (by decide) rfl (by decide) (by decide) rfl (by decide) (by decide) (fun s h => ?_)
  replace h : Bs s 1234 [(44, 50)] [(44, 3), (0, 36), (0, 3)] 159092 := h
  refine w_arr h rfl (fun i => rfl) (fun i => rfl) (by decide) rfl (by decide) (by decide) rfl (by decide) (by decide) (fun s h => ?_)
  replace h : Bs s 1235 [(44, 51)] [(44, 3), (0, 36), (0, 3)] 159140 := h
  refine w_arr h rfl (fun i => rfl) (fun i => rfl) (by decide) rfl (by decide) (by decide) rfl (by decide) (by decide) (fun s h => ?_)
  replace h : Bs s 1236 [(44, 52)] [(44, 3), (0, 36), (0, 3)] 159188 := h
  refine w_arr h rfl (fun i => rfl) (fun i => rfl) (by decide) rfl (by decide) (by decide) rfl (by decide) (by decide) (fun s h => ?_)
  replace h : Bs s 1237 [(44, 53)] [(44, 3), (0, 36), (0, 3)] 159236 := h
  refine w_arr h rfl (fun i => rfl) (fun i => rfl) (by decide) rfl (by decide) (by decide) rfl (by decide) (by decide) (fun s h => ?_)
  replace h : Bs s 1238 [(44, 54)] [(44, 3), (0, 36), (0, 3)] 159284 := h
  refine ⟨h.k0 (by decide) rfl, nm_e ?_⟩
  replace h := h.aI (a := 44) (i := 54) (by decide)
  generalize sI s 44 54 (-1) = s at h
  replace h : Bs s 1238 [(44, 54)] [(44, 54), (44, 3), (0, 36), (0, 3)] 159284 := h
  exact hr s (h.pop (fun i hi => by unfold PRs; rw [if_neg (by omega)]; rw [show Pst 44 i = none from pl_out 54 hi (by decide)]) (fun i => rfl))
