/-! natural numbers as longs -/
set_option maxRecDepth 100000
def l3 (n : Nat) : Int64 := Int64.ofNat n
theorem l3_bv (n : Nat) : (l3 n).toBitVec = BitVec.ofNat 64 n := rfl
theorem l3_and (a b : Nat) : l3 a &&& l3 b = l3 (a &&& b) := by
  apply Int64.toBitVec_inj.mp
  rw [Int64.toBitVec_and, l3_bv, l3_bv, l3_bv, BitVec.ofNat_and]
theorem l3_or (a b : Nat) : l3 a ||| l3 b = l3 (a ||| b) := by
  apply Int64.toBitVec_inj.mp
  rw [Int64.toBitVec_or, l3_bv, l3_bv, l3_bv, BitVec.ofNat_or]
theorem l3_sub {a b : Nat} (h : b ≤ a) : l3 a - l3 b = l3 (a - b) := (Int64.ofNat_sub a b h).symm
theorem i3_long {k : Nat} (h : k < 2147483648) : (i3 k).toInt64 = l3 k := by
  apply Int64.toInt_inj.mp
  rw [Int32.toInt_toInt64, i3_toInt h]
  exact (Int64.toInt_ofNat_of_lt (by simp; omega)).symm
theorem l3_k63 {k : Nat} (h : k < 64) : l3 k &&& 63 = l3 k := by
  show l3 k &&& l3 63 = l3 k
  rw [l3_and]
  congr 1
  exact Nat.and_two_pow_sub_one_of_lt_two_pow (n := 6) h
theorem smod64 : ∀ k : Fin 64, (BitVec.ofNat 64 k.1).smod 64 = BitVec.ofNat 64 k.1 := by decide +kernel
theorem l3_shl {a k : Nat} (h : k < 64) : l3 a <<< ((i3 k).toInt64 &&& 63) = l3 (a <<< k) := by
  rw [i3_long (by omega), l3_k63 h]
  apply Int64.toBitVec_inj.mp
  rw [Int64.toBitVec_shiftLeft, l3_bv, l3_bv, l3_bv, smod64 ⟨k, h⟩]
  apply BitVec.eq_of_toNat_eq
  rw [BitVec.shiftLeft_eq', BitVec.toNat_shiftLeft, BitVec.toNat_ofNat, BitVec.toNat_ofNat, BitVec.toNat_ofNat, Nat.mod_eq_of_lt (a := k) (by omega), Nat.shiftLeft_eq, Nat.shiftLeft_eq, Nat.mod_mul_mod]
theorem l3_clr {s t : Nat} (ht : t < 63) : l3 s &&& ((1 <<< ((i3 t).toInt64 &&& 63)) ^^^ (-1)) = l3 (clr s t) := by
  have e1 : (1 : Int64) <<< ((i3 t).toInt64 &&& 63) = l3 (1 <<< t) := l3_shl (a := 1) (by omega)
  rw [e1]
  apply Int64.toBitVec_inj.mp
  rw [Int64.toBitVec_and, Int64.toBitVec_xor, l3_bv, l3_bv, l3_bv]
  have e : (-1 : Int64).toBitVec = BitVec.allOnes 64 := rfl
  rw [e]
  apply BitVec.eq_of_getLsbD_eq
  intro j hj
  simp only [BitVec.getLsbD_and, BitVec.getLsbD_xor, BitVec.getLsbD_ofNat, BitVec.getLsbD_allOnes, hj, decide_true, Bool.true_and, clr_bit, tbs]
  by_cases h : j = t
  · subst h; simp
  · simp [h]
theorem l3_m1 (x : Int64) : x &&& (-1) = x := by
  apply Int64.toBitVec_inj.mp
  rw [Int64.toBitVec_and]
  have e : (-1 : Int64).toBitVec = BitVec.allOnes 64 := rfl
  rw [e, BitVec.and_allOnes]
