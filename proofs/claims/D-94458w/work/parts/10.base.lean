/-! THE WALK's OWN LAYER: an abstract state (ints, longs, references, kinds by offset from the heap's size at the law's start), its relation to a heap, contracts with both outcomes, a judgement over the abstract state. -/
set_option maxRecDepth 100000
abbrev ZR : Type := Option (Nat ⊕ Nat)
abbrev ZS : Type := (Nat → Nat → Int32) × (Nat → Nat → Int64) × (Nat → Nat → ZR) × (Nat → Nat × Nat) × Nat × Nat
def zI (σ : ZS) (a i : Nat) : Int32 := σ.1 a i
def zJ (σ : ZS) (a i : Nat) : Int64 := σ.2.1 a i
def zP (σ : ZS) (a i : Nat) : ZR := σ.2.2.1 a i
def zK (σ : ZS) (a : Nat) : Nat × Nat := σ.2.2.2.1 a
def zt (σ : ZS) : Nat := σ.2.2.2.2.1
def zn (σ : ZS) : Nat := σ.2.2.2.2.2
def sI (σ : ZS) (a i : Nat) (v : Int32) : ZS := (fun b j => if b = a ∧ j = i then v else σ.1 b j, σ.2)
def sJ (σ : ZS) (a i : Nat) (v : Int64) : ZS := (σ.1, fun b j => if b = a ∧ j = i then v else σ.2.1 b j, σ.2.2)
def sP (σ : ZS) (a i : Nat) (v : ZR) : ZS := (σ.1, σ.2.1, fun b j => if b = a ∧ j = i then v else σ.2.2.1 b j, σ.2.2.2)
/-- a new cell of kind k with n slots -/
def sA (σ : ZS) (k : Nat × Nat) (n : Nat) : ZS := (fun b j => if b = zt σ then 0 else σ.1 b j, fun b j => if b = zt σ then 0 else σ.2.1 b j, fun b j => if b = zt σ then none else σ.2.2.1 b j, fun b => if b = zt σ then k else σ.2.2.2.1 b, zt σ + 1, zn σ + n)
/-- a reference as a value -/
def pv (B : Nat) : ZR → Value
  | none => .null
  | some (.inl a) => .ref (B + a)
  | some (.inr q) => .ref q
/-- the own offset that a reference names -/
def zo (r : ZR) : Nat := match r with
  | some (.inl a) => a
  | _ => 0
/-- kinds and references, the static part (offsets under n) as the layout has it -/
def kK (n : Nat) (σ : ZS) (a : Nat) : Nat × Nat := if a < n then Kst a else zK σ a
def kP (n : Nat) (σ : ZS) (a i : Nat) : ZR := if a < n then (match Pst a i with
  | none => zP σ a i
  | some q => some (.inl q)) else zP σ a i
/-- a field's value: class number, field number -/
def zv (B n : Nat) (σ : ZS) (a ci k : Nat) : Value := match fty ci k with
  | 0 => .int (zI σ a k)
  | 1 => .long (zJ σ a k)
  | _ => pv B (kP n σ a k)
def zrf (B : Nat) (r : ZR) : Option Nat := match r with
  | none => none
  | some (.inl a) => some (B + a)
  | some (.inr q) => some q
theorem pv_rf (B : Nat) (r : ZR) : va_rf (zrf B r) = pv B r := by
  rcases r with _ | a | q <;> rfl
abbrev ZE : Type := State × va_G × (Nat → ClassId)
/-- an array's class by its kind; its type -/
def aty : Nat → FieldType := fun k => match k with
  | 0 => .int
  | 1 => .long
  | 2 => .byte
  | 3 => .boolean
  | 4 => .array .int
  | 5 => .object "RightTurns$State"
  | _ => .object "java/lang/Object"
def ent (E : ZE) (n : Nat) (σ : ZS) (a : Nat) : va_E := match kK n σ a with
  | (0, len) => .inl (E.2.2 0, len, .inl (zI σ a))
  | (1, len) => .inl (E.2.2 1, len, .inr (.inl (zJ σ a)))
  | (2, len) => .inl (E.2.2 2, len, .inl (zI σ a))
  | (3, len) => .inl (E.2.2 3, len, .inl (zI σ a))
  | (4, len) => .inl (E.2.2 4, len, .inr (.inr (.inr (.inr (fun i => zrf E.1.heap.size (kP n σ a i))))))
  | (5, len) => .inl (E.2.2 5, len, .inr (.inr (.inr (.inr (fun i => zrf E.1.heap.size (kP n σ a i))))))
  | (6, len) => .inl (E.2.2 6, len, .inr (.inr (.inr (.inr (fun i => zrf E.1.heap.size (kP n σ a i))))))
  | (t + 7, _) => .inr (t, (List.range (nfs t)).map (zv E.1.heap.size n σ a t))
def hsum (H : Heap) (b : Nat) : Nat := ((H.toList.drop b).map (·.slots.size)).sum
/-- the budget of the whole law -/
def NB : Nat := 160000
def SB : Nat := 8000000
def Rl (E : ZE) (n : Nat) (σ : ZS) (H : Heap) : Prop :=
  (∀ a, a < zt σ → va_at E.2.1 zcl (E.1.heap.size + a, ent E n σ a) H) ∧ H.size = E.1.heap.size + zt σ ∧ (∀ q : Nat, q < E.1.heap.size → H[q]? = E.1.heap[q]?) ∧ hsum H E.1.heap.size = zn σ ∧ zt σ ≤ NB ∧ zn σ ≤ SB ∧ ∀ a, zt σ ≤ a → kK n σ a = (1000, 0)
def tysE (E : ZE) : List (ClassId × FieldType) := (List.range 7).map fun k => (E.2.2 k, aty k)
/-- what is known of the law's start -/
def EOK (E : ZE) : Prop := va_K E.2.1 zcl (tysE E) E.1 ∧ ∃ b : Nat, (∀ w ∈ lw_tbl, w.before #[Value.ref b] E.1 = true) ∧ b < E.1.heap.size ∧ (Jvm.Cond.and given_1 narrow_1).before #[Value.ref b] E.1 = true
theorem zK_at {E : ZE} (h : EOK E) {U : State} (hW : E.1.WarmedH U.vm) : va_K E.2.1 zcl (tysE E) U := va_K.moved hW.alike h.1
theorem hsum_le (H : Heap) (b c : Nat) (h : b ≤ c) : hsum H b = ((H.toList.drop b).take (c - b) |>.map (·.slots.size)).sum + hsum H c := by
  unfold hsum
  rw [← List.sum_append, ← List.map_append]
  congr 2
  conv => lhs; rw [← List.take_append_drop (c - b) (H.toList.drop b)]
  rw [List.drop_drop]
  congr 2
  omega
theorem hsum_congr {H H' : Heap} {b : Nat} (hz : H'.size = H.size) (h : ∀ q : Nat, (H'[q]?).map (·.slots.size) = (H[q]?).map (·.slots.size)) : hsum H' b = hsum H b := by
  unfold hsum
  have : (H'.toList.drop b).map (·.slots.size) = (H.toList.drop b).map (·.slots.size) := by
    apply List.ext_getElem?
    intro i
    have := h (b + i)
    simp only [List.getElem?_map, List.getElem?_drop]
    simpa [Array.getElem?_toList] using this
  rw [this]
theorem hsum_set {H H' : Heap} {b a i : Nat} {cell : Cell} {v : Value} (hc : H[a]? = some cell) (e : H'[a]? = some (cell.setSlot i v)) (hz : H'.size = H.size) (ho : ∀ q : Nat, q ≠ a → H'[q]? = H[q]?) : hsum H' b = hsum H b := by
  refine hsum_congr hz fun q => ?_
  by_cases h : q = a
  · subst h
    rw [e, hc]
    simp [Cell.setSlot]
  · rw [ho q h]
theorem hsum_push {H H' : Heap} {b : Nat} {cell : Cell} (hb : b ≤ H.size) (e : H'[H.size]? = some cell) (hz : H'.size = H.size + 1) (ho : ∀ q : Nat, q < H.size → H'[q]? = H[q]?) : hsum H' b = hsum H b + cell.slots.size := by
  have : H' = H.push cell := by
    apply Array.ext_getElem?
    intro i
    rw [Array.getElem?_push]
    split
    · next h => subst h; exact e
    · next h =>
      by_cases h2 : i < H.size
      · exact ho i h2
      · rw [Array.getElem?_eq_none (by omega), Array.getElem?_eq_none (by omega)]
  subst this
  unfold hsum
  rw [Array.toList_push, List.drop_append_of_le_length (by simpa using hb)]
  simp
