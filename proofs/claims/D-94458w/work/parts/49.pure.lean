/-! bridge: small facts of the kit's words -/
theorem isB0 : isB 0 := rfl
theorem isB1 : isB 1 := rfl
theorem narB0 : vp_nar .boolean 0 = 0 := rfl
theorem narB1 : vp_nar .boolean 1 = 1 := rfl
theorem narY0 : narrow .byte (.int 0) = .int 0 := rfl
theorem fitsB : ∀ c, c < 128 → fits .byte (.int (nI c)) = true := by
  have : ∀ a : Fin 128, fits .byte (.int (nI a.val)) = true := by decide +kernel
  exact fun c hc => this ⟨c, hc⟩
