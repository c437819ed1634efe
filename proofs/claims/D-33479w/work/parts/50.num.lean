/-! numbers: natural numbers as ints -/
set_option maxRecDepth 100000
def i3 (n : Nat) : Int32 := Int32.ofNat n
theorem i3_lit (n : Nat) : (no_index (OfNat.ofNat n) : Int32) = i3 (OfNat.ofNat n) := rfl
theorem i3_toInt {n : Nat} (h : n < 2147483648) : (i3 n).toInt = (n : Int) := Int32.toInt_ofNat_of_lt (by simpa using h)
theorem i3_nat {n : Nat} (h : n < 2147483648) : (i3 n).toNatClampNeg = n := by
  unfold Int32.toNatClampNeg
  rw [i3_toInt h]; rfl
theorem i3_add (a b : Nat) : i3 a + i3 b = i3 (a + b) := (Int32.ofNat_add a b).symm
theorem i3_mul (a b : Nat) : i3 a * i3 b = i3 (a * b) := (Int32.ofNat_mul a b).symm
theorem i3_sub {a b : Nat} (h : b ≤ a) : i3 a - i3 b = i3 (a - b) := (Int32.ofNat_sub a b h).symm
theorem i3_lt {a b : Nat} (ha : a < 2147483648) (hb : b < 2147483648) : (i3 a < i3 b) = (a < b) := by
  rw [Int32.lt_iff_toInt_lt, i3_toInt ha, i3_toInt hb]; simp
theorem i3_le {a b : Nat} (ha : a < 2147483648) (hb : b < 2147483648) : (i3 a ≤ i3 b) = (a ≤ b) := by
  rw [Int32.le_iff_toInt_le, i3_toInt ha, i3_toInt hb]; simp
theorem i3_eq {a b : Nat} (ha : a < 2147483648) (hb : b < 2147483648) : (i3 a = i3 b) = (a = b) := by
  rw [← Int32.toInt_inj, i3_toInt ha, i3_toInt hb, Int.ofNat_inj]
theorem i3_neg_lt {a : Nat} (ha : a < 2147483648) : (i3 a < 0) = False := by
  rw [Int32.lt_iff_toInt_lt, i3_toInt ha]; simp
theorem i3_in {a n : Nat} (ha : a < 2147483648) (h : a < n) : vp_in (i3 a) n := by
  unfold vp_in
  rw [i3_nat ha, i3_neg_lt ha]
  intro q
  rcases q with q | q
  · exact q
  · omega
theorem i3_div {a b : Nat} (ha : a < 2147483648) (hb : b < 2147483648) : i3 a / i3 b = i3 (a / b) := by
  apply Int32.toInt_inj.mp
  rw [Int32.toInt_div_of_ne_left, i3_toInt ha, i3_toInt hb, i3_toInt (Nat.lt_of_le_of_lt (Nat.div_le_self a b) ha)]
  · rw [Int.tdiv_eq_ediv_of_nonneg (by omega)]; rfl
  · intro e
    have := congrArg Int32.toInt e
    rw [i3_toInt ha] at this
    have e2 : (Int32.minValue).toInt = -2147483648 := rfl
    omega
theorem i3_rem {a b : Nat} (ha : a < 2147483648) (hb : b < 2147483648) : i3 a - i3 a / i3 b * i3 b = i3 (a % b) := by
  rw [i3_div ha hb, i3_mul, i3_sub (Nat.div_mul_le_self a b)]
  congr 1
  have := Nat.div_add_mod a b
  rw [Nat.mul_comm] at this
  omega
theorem i3_bv (n : Nat) : (i3 n).toBitVec = BitVec.ofNat 32 n := rfl
theorem i3_and (a b : Nat) : i3 a &&& i3 b = i3 (a &&& b) := by
  apply Int32.toBitVec_inj.mp
  rw [Int32.toBitVec_and, i3_bv, i3_bv, i3_bv, BitVec.ofNat_and]
theorem i3_or (a b : Nat) : i3 a ||| i3 b = i3 (a ||| b) := by
  apply Int32.toBitVec_inj.mp
  rw [Int32.toBitVec_or, i3_bv, i3_bv, i3_bv, BitVec.ofNat_or]
theorem i3_xor (a b : Nat) : i3 a ^^^ i3 b = i3 (a ^^^ b) := by
  apply Int32.toBitVec_inj.mp
  rw [Int32.toBitVec_xor, i3_bv, i3_bv, i3_bv, BitVec.ofNat_xor]
theorem i3_k31 {k : Nat} (h : k < 32) : i3 k &&& 31 = i3 k := by
  rw [i3_lit 31, i3_and]
  congr 1
  exact Nat.and_two_pow_sub_one_of_lt_two_pow (n := 5) h
theorem smod32 : ∀ k : Fin 32, (BitVec.ofNat 32 k.1).smod 32 = BitVec.ofNat 32 k.1 := by decide +kernel
theorem i3_shl {a k : Nat} (h : k < 32) : i3 a <<< (i3 k &&& 31) = i3 (a <<< k) := by
  rw [i3_k31 h]
  apply Int32.toBitVec_inj.mp
  rw [Int32.toBitVec_shiftLeft, i3_bv, i3_bv, i3_bv, smod32 ⟨k, h⟩]
  apply BitVec.eq_of_toNat_eq
  rw [BitVec.shiftLeft_eq', BitVec.toNat_shiftLeft, BitVec.toNat_ofNat, BitVec.toNat_ofNat, BitVec.toNat_ofNat, Nat.mod_eq_of_lt (a := k) (by omega), Nat.shiftLeft_eq, Nat.shiftLeft_eq, Nat.mod_mul_mod]
theorem i3_shr {a k : Nat} (ha : a < 2147483648) (h : k < 32) : i3 a >>> (i3 k &&& 31) = i3 (a >>> k) := by
  rw [i3_k31 h]
  apply Int32.toInt_inj.mp
  have hb : a >>> k < 2147483648 := by rw [Nat.shiftRight_eq_div_pow]; exact Nat.lt_of_le_of_lt (Nat.div_le_self _ _) ha
  rw [i3_toInt hb]
  show ((i3 a >>> i3 k).toBitVec).toInt = _
  rw [Int32.toBitVec_shiftRight, i3_bv k, smod32 ⟨k, h⟩, BitVec.sshiftRight_eq', BitVec.toInt_sshiftRight, BitVec.toNat_ofNat, Nat.mod_eq_of_lt (a := k) (by omega)]
  show (i3 a).toInt >>> k = _
  rw [i3_toInt ha]
  rfl
theorem i3_m1 {a : Nat} (ha : a < 2147483648) : (i3 a = -1) = False := by
  rw [eq_iff_iff, iff_false]
  intro e
  have := congrArg Int32.toInt e
  rw [i3_toInt ha] at this
  have e2 : (-1 : Int32).toInt = -1 := rfl
  omega
theorem i3_m1' {a : Nat} (ha : a < 2147483648) : (-1 = i3 a) = False := (propext ⟨Eq.symm, Eq.symm⟩ : (-1 = i3 a) = (i3 a = -1)).trans (i3_m1 ha)
theorem tb1 (k : Nat) : Nat.testBit 1 k = decide (k = 0) := by
  cases k with
  | zero => rfl
  | succ k => simp [Nat.testBit_succ]
theorem tbs (t j : Nat) : (1 <<< t).testBit j = decide (j = t) := by
  rw [Nat.testBit_shiftLeft, tb1]
  by_cases h : j = t
  · subst h; simp
  · by_cases h2 : t ≤ j
    · have : ¬ (j - t = 0) := by omega
      simp [h2, h, this]
    · simp [h2, h]
/-- a bit of a set of small numbers -/
def hasN (s t : Nat) : Bool := s.testBit t
theorem hasN_eq (s t : Nat) : (s >>> t) &&& 1 = if hasN s t then 1 else 0 := by
  unfold hasN
  rw [Nat.testBit_eq_decide_div_mod_eq, Nat.shiftRight_eq_div_pow, Nat.and_one_is_mod]
  have : s / 2 ^ t % 2 < 2 := Nat.mod_lt _ (by decide)
  split
  · rename_i h; simpa using h
  · rename_i h
    have : ¬ s / 2 ^ t % 2 = 1 := by simpa using h
    omega
theorem i3_has {s t : Nat} (hs : s < 2147483648) (ht : t < 32) : i3 s >>> (i3 t &&& 31) &&& 1 = bI (hasN s t) := by
  rw [i3_shr hs ht, i3_lit 1, i3_and]
  show i3 (s >>> t &&& 1) = _
  rw [hasN_eq]
  cases hasN s t <;> rfl
theorem bI_eq0 {b : Bool} : (bI b = 0) = (b = false) := by cases b <;> simp [bI]
theorem bI_eq1 {b : Bool} : (bI b = 1) = (b = true) := by cases b <;> simp [bI]
theorem bI_t : bI true = 1 := rfl
theorem bI_f : bI false = 0 := rfl
theorem bI_if {c : Prop} {i : Decidable c} : (@ite Int32 c i 1 0) = bI (decide c) := by by_cases h : c <;> simp [h, bI]
theorem bI_if' {c : Prop} {i : Decidable c} : (@ite Int32 c i 0 1) = bI (decide (¬ c)) := by by_cases h : c <;> simp [h, bI]
theorem bI_nat (b : Bool) : bI b = i3 b.toNat := by cases b <;> rfl
/-- a set without a thing -/
def clr (s t : Nat) : Nat := s ^^^ (s &&& (1 <<< t))
theorem clr_bit (s t j : Nat) : (clr s t).testBit j = (s.testBit j && decide (j ≠ t)) := by
  unfold clr
  rw [Nat.testBit_xor, Nat.testBit_and, tbs]
  by_cases h : j = t
  · subst h; simp
  · simp [h]
theorem clr_lt {s t k : Nat} (h : s < 2 ^ k) : clr s t < 2 ^ k := Nat.xor_lt_two_pow h (Nat.lt_of_le_of_lt Nat.and_le_left h)
theorem i3_clr {s t : Nat} (ht : t < 31) : i3 s &&& ((1 <<< (i3 t &&& 31)) ^^^ (-1)) = i3 (clr s t) := by
  have e1 : (1 : Int32) <<< (i3 t &&& 31) = i3 (1 <<< t) := i3_shl (a := 1) (Nat.lt_succ_of_lt ht)
  rw [e1]
  apply Int32.toBitVec_inj.mp
  rw [Int32.toBitVec_and, Int32.toBitVec_xor, i3_bv, i3_bv, i3_bv]
  have e : (-1 : Int32).toBitVec = BitVec.allOnes 32 := rfl
  rw [e]
  apply BitVec.eq_of_getLsbD_eq
  intro j hj
  simp only [BitVec.getLsbD_and, BitVec.getLsbD_xor, BitVec.getLsbD_ofNat, BitVec.getLsbD_allOnes, hj, decide_true, Bool.true_and, clr_bit, tbs]
  by_cases h : j = t
  · subst h; simp
  · simp [h]
/-- how many things -/
def pc (s : Nat) : Nat := s % 2 + s / 2 % 2 + s / 4 % 2 + s / 8 % 2 + s / 16 % 2
/-- the lowest thing -/
def ntz (s : Nat) : Nat := if s % 2 = 1 then 0 else if s / 2 % 2 = 1 then 1 else if s / 4 % 2 = 1 then 2 else if s / 8 % 2 = 1 then 3 else if s / 16 % 2 = 1 then 4 else if s / 32 % 2 = 1 then 5 else if s / 64 % 2 = 1 then 6 else if s / 128 % 2 = 1 then 7 else if s / 256 % 2 = 1 then 8 else if s / 512 % 2 = 1 then 9 else if s / 1024 % 2 = 1 then 10 else if s / 2048 % 2 = 1 then 11 else 32
theorem lt32 (P : Nat → Prop) [DecidablePred P] (h : ∀ s : Fin 32, P s.1) {s : Nat} (hs : s < 32) : P s := h ⟨s, hs⟩
theorem lt4096 (P : Nat → Prop) [DecidablePred P] (h : ∀ s : Fin 4096, P s.1) {s : Nat} (hs : s < 4096) : P s := h ⟨s, hs⟩
def mone : Int32 := -1
theorem neg_one : -(i3 1) = mone := rfl
/-- from the end of a loop to its beginning -/
theorem vloop {T : Nat → Prop} {N : Nat} (hN : T N) (hs : ∀ k, k < N → T (k + 1) → T k) : ∀ k, k ≤ N → T k := by
  have : ∀ j k, k + j = N → T k := by
    intro j
    induction j with
    | zero => intro k e; have : k = N := by omega
              subst this; exact hN
    | succ j ih => intro k e; exact hs k (by omega) (ih (k + 1) (by omega))
  intro k hk
  exact this (N - k) k (by omega)
theorem i3_succ (k : Nat) : i3 k + 1 = i3 (k + 1) := i3_add k 1
theorem i3_rem2 (a b : Nat) : i3 a - i3 (a / b * b) = i3 (a % b) := by
  rw [i3_sub (Nat.div_mul_le_self a b)]
  congr 1
  have := Nat.div_add_mod a b
  rw [Nat.mul_comm] at this
  omega
theorem i3_neg_le {a : Nat} (ha : a < 2147483648) : (i3 a ≤ 0) = (a = 0) := by
  rw [Int32.le_iff_toInt_le, i3_toInt ha]; simp
