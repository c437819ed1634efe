/-! contracts of JDK methods on numbers -/
set_option maxRecDepth 100000
theorem ntzF : ∀ s : Fin 4096, s.1 ≠ 0 → s.1.testBit (ntz s.1) = true ∧ ntz s.1 < 12 ∧ s.1 % 2 ^ ntz s.1 = 0 := by decide +kernel
theorem ntz_spec {s : Nat} (h0 : s ≠ 0) (hs : s < 4096) : s.testBit (ntz s) = true ∧ ntz s < 12 ∧ ∀ j, j < ntz s → s.testBit j = false := by
  obtain ⟨h1, h2, h3⟩ := ntzF ⟨s, hs⟩ h0
  refine ⟨h1, h2, fun j hj => ?_⟩
  have h4 : (s % 2 ^ ntz s).testBit j = false := by
    have h3' : s % 2 ^ ntz s = 0 := h3
    rw [h3']; exact Nat.zero_testBit j
  rw [Nat.testBit_mod_two_pow] at h4
  simpa [hj] using h4
section BJ
variable {l : Launch} {G : aG} {h : aH}
theorem bc0 : ∀ s : Fin 32, (fun x0 : Int32 => (fun v1 : Int32 => (fun v2 : Int32 => (fun v3 : Int32 => (fun v4 : Int32 => (fun v5 : Int32 => v5 &&& (63 : Int32)) (v4 + ((v4.toUInt32 >>> ((16 : Int32).toUInt32 &&& Int32.toUInt32 31)).toInt32))) (v3 + ((v3.toUInt32 >>> ((8 : Int32).toUInt32 &&& Int32.toUInt32 31)).toInt32))) ((v2 + ((v2.toUInt32 >>> ((4 : Int32).toUInt32 &&& Int32.toUInt32 31)).toInt32)) &&& (252645135 : Int32))) ((v1 &&& (858993459 : Int32)) + (((v1.toUInt32 >>> ((2 : Int32).toUInt32 &&& Int32.toUInt32 31)).toInt32) &&& (858993459 : Int32)))) (x0 - (((x0.toUInt32 >>> ((1 : Int32).toUInt32 &&& Int32.toUInt32 31)).toInt32) &&& (1431655765 : Int32)))) (i3 s.1) = i3 (pc s.1) := by decide +kernel
theorem B_bitCount (hl : l.stackTraces = false) {s : Nat} (hs : s < 32) : aC l G mJ6_bitCount (wsN mJ6_bitCount) 0 0 0 [.int (i3 s)] h (aP1 (some (.int (i3 (pc s)))) h) := by
  refine A_J6_bitCount hl ?_
  intro v1 e1 v2 e2 v3 e3 v4 e4 v5 e5
  subst e1; subst e2; subst e3; subst e4; subst e5
  exact ⟨by rw [← bc0 ⟨s, hs⟩], rfl⟩
theorem lo0 : ∀ s : Fin 32, s.1 ≠ 0 → i3 s.1 &&& (-(i3 s.1)) = i3 (1 <<< ntz s.1) := by decide +kernel
theorem B_lowest (hl : l.stackTraces = false) {s : Nat} (hs : s < 32) (h0 : s ≠ 0) : aC l G mJ6_lowestOneBit (wsN mJ6_lowestOneBit) 0 0 0 [.int (i3 s)] h (aP1 (some (.int (i3 (1 <<< ntz s)))) h) := by
  refine A_J6_lowestOneBit hl ?_
  exact ⟨by rw [← lo0 ⟨s, hs⟩ h0], rfl⟩
def ush (x k : Int32) : Int32 := (x.toUInt32 >>> (k.toUInt32 &&& Int32.toUInt32 31)).toInt32
def nz62 (x0 x1 : Int32) : Int32 := if x0 ≤ 4 then x1 + ush x0 1 else (x1 + 2) + ush (ush x0 2) 1
def nz34 (x0 x1 : Int32) : Int32 := if x0 ≤ 256 then (if x0 ≤ 16 then nz62 x0 x1 else nz62 (ush x0 4) (x1 + 4)) else (if ush x0 8 ≤ 16 then nz62 (ush x0 8) (x1 + 8) else nz62 (ush (ush x0 8) 4) ((x1 + 8) + 4))
def nz0 (x : Int32) : Int32 := if 0 < ((x ^^^ ((-1) : Int32)) &&& (x - (1 : Int32))) then (if ((x ^^^ ((-1) : Int32)) &&& (x - (1 : Int32))) ≤ 65536 then nz34 ((x ^^^ ((-1) : Int32)) &&& (x - (1 : Int32))) 1 else nz34 (ush ((x ^^^ ((-1) : Int32)) &&& (x - (1 : Int32))) 16) 17) else ((x ^^^ ((-1) : Int32)) &&& (x - (1 : Int32))) &&& 32
theorem nzK : ∀ s : Fin 4096, s.1 ≠ 0 → nz0 (i3 s.1) = i3 (ntz s.1) := by decide +kernel
theorem nz62_ok (hl : l.stackTraces = false) {x0 x1 r : Int32} {c s : Nat} (hr : nz62 x0 x1 = r) : T_J6_numberOfTrailingZeros_62 l G 0 0 0 (aP1 (some (.int r)) h) x0 x1 h c s := by
  subst hr
  refine A_J6_numberOfTrailingZeros_62 hl ⟨fun q => ?_, fun q v8 e8 => ?_⟩
  · exact ⟨by rw [nz62, if_pos q]; rfl, rfl⟩
  · subst e8; exact ⟨by rw [nz62, if_neg q]; rfl, rfl⟩
theorem nz34_ok (hl : l.stackTraces = false) {x0 x1 r : Int32} {c s : Nat} (hr : nz34 x0 x1 = r) : T_J6_numberOfTrailingZeros_34 l G 0 0 0 (aP1 (some (.int r)) h) x0 x1 h c s := by
  subst hr
  refine A_J6_numberOfTrailingZeros_34 hl ⟨fun q => ⟨fun q2 => ?_, fun q2 v3 e3 => ?_⟩, fun q v4 e4 => ⟨fun q2 => ?_, fun q2 v6 e6 => ?_⟩⟩
  · exact nz62_ok hl (by rw [nz34, if_pos q, if_pos q2])
  · subst e3; exact nz62_ok hl (by rw [nz34, if_pos q, if_neg q2]; rfl)
  · subst e4; exact nz62_ok hl (by rw [nz34, if_neg q, if_pos (by exact q2)]; rfl)
  · subst e6; subst e4; exact nz62_ok hl (by rw [nz34, if_neg q, if_neg (by exact q2)]; rfl)
theorem B_ntz (hl : l.stackTraces = false) {s : Nat} (hs : s < 4096) (h0 : s ≠ 0) : aC l G mJ6_numberOfTrailingZeros (wsN mJ6_numberOfTrailingZeros) 0 0 0 [.int (i3 s)] h (aP1 (some (.int (i3 (ntz s)))) h) := by
  have e := nzK ⟨s, hs⟩ h0
  refine A_J6_numberOfTrailingZeros hl ?_
  intro v9 e9
  subst e9
  refine ⟨fun q => ⟨fun q2 => ?_, fun q2 v12 e12 => ?_⟩, fun q => ?_⟩
  · exact nz34_ok hl (by rw [← e, nz0, if_pos q, if_pos q2])
  · subst e12; exact nz34_ok hl (by rw [← e, nz0, if_pos q, if_neg q2]; rfl)
  · exact ⟨by rw [← e, nz0, if_neg q], rfl⟩
theorem B_max (hl : l.stackTraces = false) {a b : Nat} (ha : a < 2147483648) (hb : b < 2147483648) : aC l G mJ4_max (wsN mJ4_max) 0 0 0 [.int (i3 a), .int (i3 b)] h (aP1 (some (.int (i3 (max a b)))) h) := by
  refine A_J4_max hl ?_
  unfold V_J4_max_0
  simp only [i3_le hb ha, i3_le ha hb, i3_lt ha hb, i3_lt hb ha]
  have e : ∀ c d : Nat, c = d → aP1 (some (.int (i3 d))) h (.inl (some (.int (i3 c)))) h := fun c d e => by subst e; exact ⟨rfl, rfl⟩
  refine ⟨?_, rfl⟩
  split <;> simp <;> congr 1 <;> omega
theorem B_min (hl : l.stackTraces = false) {a b : Nat} (ha : a < 2147483648) (hb : b < 2147483648) : aC l G mJ4_min (wsN mJ4_min) 0 0 0 [.int (i3 a), .int (i3 b)] h (aP1 (some (.int (i3 (min a b)))) h) := by
  refine A_J4_min hl ?_
  unfold V_J4_min_0
  simp only [i3_le hb ha, i3_le ha hb, i3_lt ha hb, i3_lt hb ha]
  refine ⟨?_, rfl⟩
  split <;> simp <;> congr 1 <;> omega
theorem B_checkIndex16 (hl : l.stackTraces = false) {i n : Nat} {o : Option Nat} (hi : i < n) (hn : n < 2147483648) : aC l G mJ16_checkIndex (wsN mJ16_checkIndex) 0 0 0 [.int (i3 i), .int (i3 n), va_rf o] h (aP1 (some (.int (i3 i))) h) := by
  refine A_J16_checkIndex hl ?_
  unfold V_J16_checkIndex_0
  have h1 : i < 2147483648 := by omega
  simp only [i3_neg_lt h1, i3_lt h1 hn, hi]
  simp
  exact aP1_rfl
end BJ
