/-! PURE HALF: how many bits. -/
set_option maxRecDepth 100000
def bcN (n : Nat) : Nat :=
  (fun y1 => (fun y2 => (fun y3 => (fun y4 => (fun y5 => y5 &&& 63) (y4 + y4 / 65536)) (y3 + y3 / 256)) ((y2 + y2 / 16) &&& 252645135)) ((y1 &&& 858993459) + (y1 / 4 &&& 858993459))) (n - (n / 2 &&& 1431655765))
def pc16 (n : Nat) : Nat := n % 2 + n / 2 % 2 + n / 4 % 2 + n / 8 % 2 + n / 16 % 2 + n / 32 % 2 + n / 64 % 2 + n / 128 % 2 + n / 256 % 2 + n / 512 % 2 + n / 1024 % 2 + n / 2048 % 2 + n / 4096 % 2 + n / 8192 % 2 + n / 16384 % 2 + n / 32768 % 2
def ckN (f : Nat → Bool) : Nat → Bool
  | 0 => true
  | n + 1 => f n && ckN f n
theorem ckN_is {f : Nat → Bool} {n : Nat} (h : ckN f n = true) {i : Nat} (hi : i < n) : f i = true := by
  induction n with
  | zero => omega
  | succ n ih =>
    unfold ckN at h
    simp only [Bool.and_eq_true] at h
    by_cases e : i = n
    · rw [e]; exact h.1
    · exact ih h.2 (by omega)
theorem bc_ck : ckN (fun a => ckN (fun b => Nat.beq (bcN (256 * a + b)) (pc16 (256 * a + b))) 256) 256 = true := by decide +kernel
