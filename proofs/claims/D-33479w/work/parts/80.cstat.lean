/-! the component's static methods on numbers
-/
set_option maxRecDepth 100000
section CS
variable {l : Launch} {G : aG} {h : aH}
theorem B_has (hl : l.stackTraces = false) {s t : Nat} (hs : s < 2147483648) (ht : t < 32) : aC l G mX1_has (wsN mX1_has) 0 0 0 [.int (i3 s), .int (i3 t)] h (aP1 (some (.int (bI (s.testBit t)))) h) := by
  refine A_X1_has hl ?_
  unfold V_X1_has_0
  simp only [i3_has hs ht, bI_eq1]
  show vB (if s.testBit t = true then (1 : Int32) else 0) ∧ aP1 _ h (.inl (some (.int (if s.testBit t = true then (1 : Int32) else 0)))) h
  rw [bI_if]
  refine ⟨vB_bI, ?_⟩
  have e : decide (s.testBit t = true) = s.testBit t := by cases s.testBit t <;> rfl
  rw [e]
  exact ⟨rfl, rfl⟩
theorem B_isIn (hl : l.stackTraces = false) {x : Int32} {N : Nat} (h0 : 0 < N) (hN : N < 2147483648) : aC l G mX1_isIn (wsN mX1_isIn) 0 0 0 [.int x, .int 0, .int (i3 N - 1)] h (aP1 (some (.int (bI (isI x N)))) h) := by
  refine A_X1_isIn hl ?_
  unfold V_X1_isIn_0
  have e := S_in (x := x) h0 hN
  unfold S_X6_in at e
  have e2 : (if x < 0 then (0 : Int32) else if i3 N - 1 < x then (0 : Int32) else 1) = bI (isI x N) := by
    by_cases a : x < 0
    · rw [if_pos a] at e ⊢; exact Option.some.inj e
    · rw [if_neg a] at e ⊢
      by_cases b : i3 N - 1 < x
      · rw [if_pos b] at e ⊢; exact Option.some.inj e
      · rw [if_neg b] at e ⊢; exact Option.some.inj e
  rw [e2]
  exact ⟨vB_bI, rfl, rfl⟩
theorem single0 : ∀ s : Fin 32, (if i3 s.1 = 0 then (0 : Int32) else if (i3 s.1 &&& (i3 s.1 - (1 : Int32))) = 0 then (1 : Int32) else 0) = bI (pc s.1 == 1) := by decide +kernel
theorem B_isSingle (hl : l.stackTraces = false) {s : Nat} (hs : s < 32) : aC l G mX1_isSingle (wsN mX1_isSingle) 0 0 0 [.int (i3 s)] h (aP1 (some (.int (bI (pc s == 1)))) h) := by
  refine A_X1_isSingle hl ?_
  unfold V_X1_isSingle_0
  have e := single0 ⟨s, hs⟩
  simp only at e
  rw [e]
  exact ⟨vB_bI, rfl, rfl⟩
/-- a check: it returns, or throws -/
def chk (b : Bool) (E : String) (h : aH) : aR → aH → Prop := fun r h' => h' = h ∧ r = if b then .inl none else .inr E
theorem B_checkIndex (hl : l.stackTraces = false) {b : Bool} : aC l G mX1_checkIndex (wsN mX1_checkIndex) 6 1 6 [.int (bI b)] h (chk b "java/lang/IndexOutOfBoundsException" h) := by
  refine A_X1_checkIndex hl ?_
  unfold V_X1_checkIndex_0
  cases b with
  | true => exact ⟨fun _ => ⟨rfl, rfl⟩, fun q => absurd q (by decide)⟩
  | false => exact ⟨fun q => absurd rfl q, fun _ => ⟨by decide, by decide, by decide, rfl, rfl⟩⟩
theorem B_checkArgument (hl : l.stackTraces = false) {b : Bool} : aC l G mX1_checkArgument (wsN mX1_checkArgument) 6 1 6 [.int (bI b)] h (chk b "java/lang/IllegalArgumentException" h) := by
  refine A_X1_checkArgument hl ?_
  unfold V_X1_checkArgument_0
  cases b with
  | true => exact ⟨fun _ => ⟨rfl, rfl⟩, fun q => absurd q (by decide)⟩
  | false => exact ⟨fun q => absurd rfl q, fun _ => ⟨by decide, by decide, by decide, rfl, rfl⟩⟩
theorem B_checkState (hl : l.stackTraces = false) {b : Bool} : aC l G mX1_checkState (wsN mX1_checkState) 6 1 6 [.int (bI b)] h (chk b "java/lang/IllegalStateException" h) := by
  refine A_X1_checkState hl ?_
  unfold V_X1_checkState_0
  cases b with
  | true => exact ⟨fun _ => ⟨rfl, rfl⟩, fun q => absurd q (by decide)⟩
  | false => exact ⟨fun q => absurd rfl q, fun _ => ⟨by decide, by decide, by decide, rfl, rfl⟩⟩
end CS
