/-! reasons 1 to 5 in the model -/
set_option maxRecDepth 100000
def sumB (f : Nat → Bool) (N : Nat) : Nat := (List.range N).foldl (fun a k => a + (f k).toNat) 0
def setB (f : Nat → Bool) (N : Nat) : Nat := (List.range N).foldl (fun a k => a ||| (if f k then 1 <<< k else 0)) 0
def anyB (f : Nat → Bool) (N : Nat) : Bool := (List.range N).foldl (fun a k => a || f k) false
theorem sumB_succ (f : Nat → Bool) (N : Nat) : sumB f (N + 1) = sumB f N + (f N).toNat := by unfold sumB; rw [List.range_succ, List.foldl_append]; rfl
theorem setB_succ (f : Nat → Bool) (N : Nat) : setB f (N + 1) = setB f N ||| (if f N then 1 <<< N else 0) := by unfold setB; rw [List.range_succ, List.foldl_append]; rfl
theorem anyB_succ (f : Nat → Bool) (N : Nat) : anyB f (N + 1) = (anyB f N || f N) := by unfold anyB; rw [List.range_succ, List.foldl_append]; rfl
theorem sumB_le (f : Nat → Bool) (N : Nat) : sumB f N ≤ N := by
  induction N with
  | zero => exact Nat.le_refl _
  | succ N ih => rw [sumB_succ]; have : (f N).toNat ≤ 1 := by cases f N <;> decide
                 omega
theorem setB_bit (f : Nat → Bool) (N t : Nat) : (setB f N).testBit t = (decide (t < N) && f t) := by
  induction N with
  | zero => simp [setB]
  | succ N ih =>
    rw [setB_succ, Nat.testBit_or, ih]
    by_cases h : t = N
    · subst h
      cases f t
      · simp
      · rw [if_pos rfl, tbs]; simp
    · have h2 : decide (t < N + 1) = decide (t < N) := by rw [Bool.eq_iff_iff]; simp; omega
      rw [h2]
      cases f N
      · simp
      · rw [if_pos rfl, tbs]; simp [h]
theorem setB_lt (f : Nat → Bool) (N : Nat) : setB f N < 2 ^ N := by
  apply Nat.lt_pow_two_of_testBit
  intro i hi
  rw [setB_bit]
  have : ¬ i < N := by omega
  simp [this]
theorem anyB_iff (f : Nat → Bool) (N : Nat) : anyB f N = true ↔ ∃ k, k < N ∧ f k = true := by
  induction N with
  | zero => simp [anyB]
  | succ N ih =>
    rw [anyB_succ, Bool.or_eq_true, ih]
    constructor
    · rintro (⟨k, h1, h2⟩ | h)
      · exact ⟨k, by omega, h2⟩
      · exact ⟨N, by omega, h⟩
    · rintro ⟨k, h1, h2⟩
      rcases Nat.lt_or_ge k N with q | q
      · exact Or.inl ⟨k, q, h2⟩
      · have : k = N := by omega
        subst this
        exact Or.inr h2
/-- other cells of a line that can be a thing, or are settled with it -/
def othB (p : Pz) (u : Nat → Nat) (l c t : Nat) (z : Bool) (k : Nat) : Bool := cellN p.n l k != c && (if z then u (cellN p.n l k) == 1 <<< t else (u (cellN p.n l k)).testBit t)
def othN (p : Pz) (u : Nat → Nat) (l c t : Nat) (z : Bool) : Nat := sumB (othB p u l c t z) p.n
def plcN (p : Pz) (u : Nat → Nat) (l t : Nat) : Nat := setB (fun k => (u (cellN p.n l k)).testBit t) p.n
def pinN (p : Pz) (l c : Nat) : Nat := if l < p.n then c % p.n else c / p.n
theorem S_placeIn {st : MSt} {p : Pz} {l c : Nat} (h : MV st p) (hl : l < 2147483648) (hc : c < 25) : S_X6_placeIn (i3 l) (i3 c) st = some (i3 (pinN p l c)) := by
  have hn := h.1.n45
  unfold S_X6_placeIn pinN
  have hr : i3 c - i3 c / i3 p.n * i3 p.n = i3 (c % p.n) := i3_rem (by omega) (by omega)
  have hd : i3 c / i3 p.n = i3 (c / p.n) := i3_div (by omega) (by omega)
  rw [h.2.1, odz_e (by omega) (by omega), odz_e (by omega) (by omega), hr, hd]
  simp only [i3_le (a := p.n) (b := l) (by omega) hl]
  by_cases q : p.n ≤ l
  · rw [if_pos q, if_neg (by omega)]
  · rw [if_neg q, if_pos (by omega)]
theorem foldFr_sumB (f : Nat → Bool) (N : Nat) : foldFr (fun k a => a + (f k).toNat) N 0 0 = sumB f N := foldFr0
theorem S_others {st : MSt} {p : Pz} {b l c t n : Nat} {u : Nat → Nat} {z : Bool} (h : MV st p) (hu : LVw st b p.m u) (hb : b ≤ 725) (hl : l < 2 * p.n + 2) (hc : c < 25) (ht : t < 5) (hf : 7 ≤ n) :
    S_X6_others n (i3 b) (i3 l) (i3 c) (i3 t) (bI z) st = some (i3 (othN p u l c t z)) := by
  have hn := h.1.n45
  have hm := h.1.m24
  have h32 := pow_le hm.2.2
  unfold S_X6_others othN
  rw [show (0 : Int32) = i3 0 from rfl]
  refine (fold_loop (F := fun f j (a : Nat) => S_X6_others_c6 st f (i3 b) (i3 l) (i3 c) (i3 t) (bI z) (i3 a) (i3 j)) (g := fun k a => a + (othB p u l c t z k).toNat) (K := fun a => some (i3 a)) (N := p.n) (B := 0) ?_ ?_ 0 (Nat.zero_le _) n 0 (by omega)).trans (by rw [foldFr0]; rfl)
  · intro f a _
    show S_X6_others_c6 st (f + 1) _ _ _ _ _ _ _ = _
    rw [S_X6_others_c6, h.2.1]
    simp only [i3_le (a := p.n) (b := p.n) (by omega) (by omega), Nat.le_refl, if_true]
  · intro f j a hj _
    have hcl := cellN_lt hn hl hj
    have hc25 : cellN p.n l j < 25 := Nat.lt_of_lt_of_le hcl (nn_le hn)
    have hval := hu _ hc25
    have hq : ¬ p.n ≤ j := by omega
    show S_X6_others_c6 st (f + 1) _ _ _ _ _ _ _ = S_X6_others_c6 st f _ _ _ _ _ (i3 (a + (othB p u l c t z j).toNat)) _
    rw [S_X6_others_c6, h.2.1]
    simp only [i3_le (a := p.n) (b := j) (by omega) (by omega), hq, if_false]
    have esh : (1 : Int32) <<< (i3 t &&& 31) = i3 (1 <<< t) := i3_shl (a := 1) (by omega)
    have h16 : 1 <<< t < 2147483648 := by
      rw [Nat.one_shiftLeft]
      exact Nat.lt_of_le_of_lt (Nat.pow_le_pow_right (n := 2) (by decide) (by omega : t ≤ 5)) (by decide)
    rw [S_cellAt h hl hj, Option.bind_some, i3_add, ob_e (by omega) (by decide), hval.1, onm_e, esh, i3_succ]
    simp only [i3_eq (a := cellN p.n l j) (b := c) (by omega) (by omega), S_flag0, S_flag1, Option.bind_some, onm_e, bI_eq0, i3_eq (a := u (cellN p.n l j)) (b := 1 <<< t) (by omega) h16]
    rw [S_has (by omega) (by omega)]
    simp only [Option.bind_some, bI_eq0]
    have z0 : i3 a + 0 = i3 (a + 0) := i3_add a 0
    have z1 : i3 a + 1 = i3 (a + 1) := i3_add a 1
    unfold othB
    by_cases q1 : cellN p.n l j = c
    · rw [if_pos q1, q1]; simp [z0]
    · rw [if_neg q1]
      have q1' : (cellN p.n l j != c) = true := by simpa using q1
      rw [q1', Bool.true_and]
      cases z with
      | false =>
        simp only [if_true, Bool.false_eq_true, if_false]
        cases (u (cellN p.n l j)).testBit t <;> simp [z0, z1]
      | true =>
        simp only [Bool.true_eq_false, if_false, if_true]
        by_cases q2 : u (cellN p.n l j) = 1 <<< t
        · rw [if_pos q2, q2]; simp [z1]
        · rw [if_neg q2]
          have q2' : (u (cellN p.n l j) == 1 <<< t) = false := by simpa using q2
          rw [q2', z0]; rfl
theorem S_placesWith {st : MSt} {p : Pz} {b l t n : Nat} {u : Nat → Nat} (h : MV st p) (hu : LVw st b p.m u) (hb : b ≤ 725) (hl : l < 2 * p.n + 2) (ht : t < 5) (hf : 7 ≤ n) :
    S_X6_placesWith n (i3 b) (i3 l) (i3 t) st = some (i3 (plcN p u l t)) := by
  have hn := h.1.n45
  have hm := h.1.m24
  have h32 := pow_le hm.2.2
  unfold S_X6_placesWith plcN
  rw [show (0 : Int32) = i3 0 from rfl]
  refine (fold_loop (F := fun f j (a : Nat) => S_X6_placesWith_c6 st f (i3 b) (i3 l) (i3 t) (i3 a) (i3 j)) (g := fun k a => a ||| (if (u (cellN p.n l k)).testBit t then 1 <<< k else 0)) (K := fun a => some (i3 a)) (N := p.n) (B := 0) ?_ ?_ 0 (Nat.zero_le _) n 0 (by omega)).trans (by rw [foldFr0]; rfl)
  · intro f a _
    show S_X6_placesWith_c6 st (f + 1) _ _ _ _ _ = _
    rw [S_X6_placesWith_c6, h.2.1]
    simp only [i3_le (a := p.n) (b := p.n) (by omega) (by omega), Nat.le_refl, if_true]
  · intro f j a hj _
    have hcl := cellN_lt hn hl hj
    have hc25 : cellN p.n l j < 25 := Nat.lt_of_lt_of_le hcl (nn_le hn)
    have hval := hu _ hc25
    have hq : ¬ p.n ≤ j := by omega
    show S_X6_placesWith_c6 st (f + 1) _ _ _ _ _ = S_X6_placesWith_c6 st f _ _ _ (i3 (a ||| (if (u (cellN p.n l j)).testBit t then 1 <<< j else 0))) _
    rw [S_X6_placesWith_c6, h.2.1]
    simp only [i3_le (a := p.n) (b := j) (by omega) (by omega), hq, if_false]
    have esh : (1 : Int32) <<< (i3 j &&& 31) = i3 (1 <<< j) := i3_shl (a := 1) (by omega)
    have e0 : (0 : Int32) = i3 0 := rfl
    rw [S_cellAt h hl hj, Option.bind_some, i3_add, ob_e (by omega) (by decide), hval.1, S_has (by omega) (by omega), Option.bind_some, esh, i3_succ]
    simp only [bI_eq0, onm_e, e0, i3_or]
    cases (u (cellN p.n l j)).testBit t <;> rfl
def r2B (p : Pz) (u : Nat → Nat) (l c t : Nat) (a : Nat) : Bool := a != t && othN p u l c a false == 0
theorem S_isAlone {st : MSt} {p : Pz} {b l c t n : Nat} {u : Nat → Nat} (h : MV st p) (hu : LVw st b p.m u) (hb : b ≤ 725) (hl : l < 2 * p.n + 2) (hc : c < 25) (ht : t < 5) (hf : 20 ≤ n) :
    S_X6_isAlone n (i3 b) (i3 l) (i3 c) (i3 t) st = some (bI (anyB (r2B p u l c t) p.m)) := by
  have hn := h.1.n45
  have hm := h.1.m24
  unfold S_X6_isAlone
  refine (fold_loop (F := fun f j (a : Bool) => S_X6_isAlone_c6 st f (i3 b) (i3 l) (i3 c) (i3 t) (bI a) (i3 j)) (g := fun k a => a || r2B p u l c t k) (K := fun a => some (bI a)) (N := p.m) (B := 10) ?_ ?_ 0 (Nat.zero_le _) n false (by omega)).trans (by rw [foldFr0]; rfl)
  · intro f a _
    show S_X6_isAlone_c6 st (f + 1) _ _ _ _ _ _ = _
    rw [S_X6_isAlone_c6, h.2.2.1]
    simp only [i3_le (a := p.m) (b := p.m) (by omega) (by omega), Nat.le_refl, if_true, onr_b]
  · intro f j a hj hfb
    have hq : ¬ p.m ≤ j := by omega
    show S_X6_isAlone_c6 st (f + 1) _ _ _ _ _ _ = S_X6_isAlone_c6 st f _ _ _ _ (bI (a || r2B p u l c t j)) _
    rw [S_X6_isAlone_c6, h.2.2.1]
    have hoth : S_X6_others f (i3 b) (i3 l) (i3 c) (i3 j) 0 st = some (i3 (othN p u l c j false)) := S_others (z := false) h hu hb hl hc (by omega) (by omega)
    have hle : othN p u l c j false ≤ p.n := sumB_le _ _
    have e3 : (i3 (othN p u l c j false) = 0) = (othN p u l c j false = 0) := i3_eq (b := 0) (by omega) (by decide)
    simp only [i3_le (a := p.m) (b := j) (by omega) (by omega), hq, if_false, bI_eq0, i3_eq (a := j) (b := t) (by omega) (by omega), hoth, Option.bind_some, e3, i3_succ]
    unfold r2B
    cases a with
    | true => rfl
    | false =>
      simp only [if_true, Bool.false_or]
      by_cases q1 : j = t
      · rw [if_pos q1]; simp [q1]; rfl
      · rw [if_neg q1]
        have q1' : (j != t) = true := by simpa using q1
        rw [q1', Bool.true_and]
        by_cases q2 : othN p u l c j false = 0
        · rw [if_pos q2, q2]; rfl
        · rw [if_neg q2]
          have q2' : (othN p u l c j false == 0) = false := by simpa using q2
          rw [q2']; rfl
def r3B (p : Pz) (u : Nat → Nat) (l c t : Nat) : Bool := if t = p.m then decide (p.n - p.m ≤ othN p u l c p.m true) else (u c).testBit p.m && othN p u l c p.m false + 1 == p.n - p.m
theorem S_isFull {st : MSt} {p : Pz} {b l c t n : Nat} {u : Nat → Nat} (h : MV st p) (hu : LVw st b p.m u) (hb : b ≤ 725) (hl : l < 2 * p.n + 2) (hc : c < 25) (ht : t < 5) (hf : 20 ≤ n) :
    S_X6_isFull n (i3 b) (i3 l) (i3 c) (i3 t) st = some (bI (r3B p u l c t)) := by
  have hn := h.1.n45
  have hm := h.1.m24
  have h32 := pow_le hm.2.2
  have hval := hu c hc
  unfold S_X6_isFull r3B
  have h1 : S_X6_others n (i3 b) (i3 l) (i3 c) (i3 p.m) 1 st = some (i3 (othN p u l c p.m true)) := S_others (z := true) h hu hb hl hc (by omega) (by omega)
  have h0 : S_X6_others n (i3 b) (i3 l) (i3 c) (i3 p.m) 0 st = some (i3 (othN p u l c p.m false)) := S_others (z := false) h hu hb hl hc (by omega) (by omega)
  have hle1 : othN p u l c p.m true ≤ p.n := sumB_le _ _
  have hle0 : othN p u l c p.m false ≤ p.n := sumB_le _ _
  rw [h.2.1, h.2.2.1, onm_e, onm_e, i3_sub (by omega : p.m ≤ p.n), h1, h0]
  simp only [Option.bind_some]
  rw [i3_add, ob_e (by omega) (by decide), hval.1, S_has (by omega) (by omega)]
  simp only [Option.bind_some, bI_eq0, i3_succ, i3_eq (a := t) (b := p.m) (by omega) (by omega), i3_lt (a := othN p u l c p.m true) (b := p.n - p.m) (by omega) (by omega), i3_eq (a := othN p u l c p.m false + 1) (b := p.n - p.m) (by omega) (by omega)]
  by_cases q : t = p.m
  · rw [if_pos q, if_pos q]
    by_cases q2 : othN p u l c p.m true < p.n - p.m
    · rw [if_pos q2, decide_eq_false (by omega)]; rfl
    · rw [if_neg q2, decide_eq_true (by omega)]; rfl
  · rw [if_neg q, if_neg q]
    cases (u c).testBit p.m with
    | false => rfl
    | true =>
      simp only [Bool.true_eq_false, if_false, Bool.true_and]
      by_cases q2 : othN p u l c p.m false + 1 = p.n - p.m
      · rw [if_pos q2]; simp [q2, bI]
      · rw [if_neg q2]; simp [q2, bI]
theorem foldFr_or (f : Nat → Bool) (N : Nat) : ∀ j, j ≤ N → ∀ a, foldFr (fun k a => a || f k) N j a = (a || (List.range' j (N - j)).any f) := by
  apply vloop
  · intro a; rw [foldFrN, Nat.sub_self]; simp
  · intro j hj ih a
    rw [foldFrS hj, ih]
    obtain ⟨k, hk⟩ : ∃ k, N - j = k + 1 := ⟨N - j - 1, by omega⟩
    rw [hk, List.range'_succ, List.any_cons, show N - (j + 1) = k by omega, Bool.or_assoc]
theorem any_loop {F : Nat → Nat → Bool → Option Int32} {f : Nat → Bool} {N B : Nat} (hend : ∀ n a, B ≤ n → F (n + 1) N a = some (bI a)) (hstep : ∀ n j, j < N → B ≤ n → F (n + 1) j false = F n (j + 1) (f j)) (htrue : ∀ n j, j < N → B ≤ n → F (n + 1) j true = some (bI true)) :
    ∀ j, j ≤ N → ∀ n, N - j + B + 1 ≤ n → ∀ a, F n j a = some (bI (foldFr (fun k a => a || f k) N j a)) := by
  apply vloop
  · intro n hn a
    obtain ⟨n, rfl⟩ : ∃ k, n = k + 1 := ⟨n - 1, by omega⟩
    rw [hend n a (by omega), foldFrN]
  · intro j hj ih n hn a
    obtain ⟨n, rfl⟩ : ∃ k, n = k + 1 := ⟨n - 1, by omega⟩
    cases a with
    | false => rw [hstep n j hj (by omega), ih n (by omega), foldFrS hj, Bool.false_or]
    | true => rw [htrue n j hj (by omega), foldFr_or f N j (by omega), Bool.true_or]
def pairB (p : Pz) (u : Nat → Nat) (l c t one other : Nat) : Bool := t != one && t != other && plcN p u l one == plcN p u l other && pc (plcN p u l one) == 2 && (plcN p u l one).testBit (pinN p l c)
def r4B (p : Pz) (u : Nat → Nat) (l c t one : Nat) : Bool := (List.range' (one + 1) (p.m - (one + 1))).any (pairB p u l c t one)
theorem pinN_lt {p : Pz} (hn : p.n = 4 ∨ p.n = 5) {l c : Nat} (hc : c < p.n * p.n) : pinN p l c < p.n := by
  unfold pinN
  split
  · exact Nat.mod_lt _ (by omega)
  · exact Nat.div_lt_of_lt_mul hc
theorem plcN_lt {p : Pz} (hn : p.n = 4 ∨ p.n = 5) {u : Nat → Nat} {l t : Nat} : plcN p u l t < 32 := by
  have h1 : plcN p u l t < 2 ^ p.n := setB_lt _ _
  have : 2 ^ p.n ≤ 32 := Nat.pow_le_pow_right (n := 2) (by decide) (by omega : p.n ≤ 5)
  omega
theorem S_isPaired {st : MSt} {p : Pz} {b l c t n : Nat} {u : Nat → Nat} (h : MV st p) (hu : LVw st b p.m u) (hb : b ≤ 725) (hl : l < 2 * p.n + 2) (hc : c < p.n * p.n) (ht : t < 5) (hf : 40 ≤ n) :
    S_X6_isPaired n (i3 b) (i3 l) (i3 c) (i3 t) st = some (bI (anyB (r4B p u l c t) p.m)) := by
  have hn := h.1.n45
  have hm := h.1.m24
  have hc25 : c < 25 := Nat.lt_of_lt_of_le hc (nn_le hn)
  have hin : ∀ (K : Int32 → Int32 → Int32 → Int32 → Int32 → Int32 → Option Int32) (one : Nat) (a : Bool) (f : Nat), one < p.m → 30 ≤ f → S_X6_isPaired_c23 K st f (i3 b) (i3 l) (i3 c) (i3 t) (bI a) (i3 one) (i3 (one + 1)) = K (i3 b) (i3 l) (i3 c) (i3 t) (bI (a || r4B p u l c t one)) (i3 one) := by
    intro K one a f ho hf
    unfold r4B
    rw [← foldFr_or _ _ _ (by omega)]
    refine fold_loop (F := fun f j (a : Bool) => S_X6_isPaired_c23 K st f (i3 b) (i3 l) (i3 c) (i3 t) (bI a) (i3 one) (i3 j)) (g := fun k a => a || pairB p u l c t one k) (K := fun a => K (i3 b) (i3 l) (i3 c) (i3 t) (bI a) (i3 one)) (N := p.m) (B := 10) ?_ ?_ (one + 1) (by omega) f a (by omega)
    · intro f a _
      show S_X6_isPaired_c23 K st (f + 1) _ _ _ _ _ _ _ = _
      rw [S_X6_isPaired_c23, h.2.2.1]
      simp only [i3_le (a := p.m) (b := p.m) (by omega) (by omega), Nat.le_refl, if_true]
    · intro f j a hj hfb
      have hq : ¬ p.m ≤ j := by omega
      show S_X6_isPaired_c23 K st (f + 1) _ _ _ _ _ _ _ = S_X6_isPaired_c23 K st f _ _ _ _ (bI (a || pairB p u l c t one j)) _ _
      have p1 : S_X6_placesWith f (i3 b) (i3 l) (i3 one) st = some (i3 (plcN p u l one)) := S_placesWith h hu hb hl (by omega) (by omega)
      have p2 : S_X6_placesWith f (i3 b) (i3 l) (i3 j) st = some (i3 (plcN p u l j)) := S_placesWith h hu hb hl (by omega) (by omega)
      have b1 : plcN p u l one < 32 := plcN_lt hn
      have b2 : plcN p u l j < 32 := plcN_lt hn
      have hp5 : pc (plcN p u l one) < 2147483648 := by unfold pc; omega
      have e2 : (i3 (pc (plcN p u l one)) = 2) = (pc (plcN p u l one) = 2) := i3_eq (b := 2) hp5 (by decide)
      have hpi := pinN_lt hn (l := l) hc
      rw [S_X6_isPaired_c23, h.2.2.1]
      simp only [i3_le (a := p.m) (b := j) (by omega) (by omega), hq, if_false, p1, p2, Option.bind_some, bI_eq0, S_X6_isPaired_j103, i3_succ, i3_eq (a := t) (b := one) (by omega) (by omega), i3_eq (a := t) (b := j) (by omega) (by omega), i3_eq (a := plcN p u l one) (b := plcN p u l j) (by omega) (by omega), S_many b1 (by omega : 6 ≤ f), e2, S_placeIn h (by omega : l < 2147483648) hc25, S_has (s := plcN p u l one) (t := pinN p l c) (by omega) (by omega)]
      unfold pairB
      cases a with
      | true => rfl
      | false =>
        simp only [if_true, Bool.false_or]
        by_cases q1 : t = one
        · rw [if_pos q1]; simp [q1]; rfl
        · rw [if_neg q1]
          have q1' : (t != one) = true := by simpa using q1
          rw [q1', Bool.true_and]
          by_cases q2 : t = j
          · rw [if_pos q2]; simp [q2]; rfl
          · rw [if_neg q2]
            have q2' : (t != j) = true := by simpa using q2
            rw [q2', Bool.true_and]
            by_cases q3 : plcN p u l one = plcN p u l j
            · rw [if_pos q3]
              have q3' : (plcN p u l one == plcN p u l j) = true := by simpa using q3
              rw [q3', Bool.true_and]
              by_cases q4 : pc (plcN p u l one) = 2
              · rw [if_pos q4]
                have q4' : (pc (plcN p u l one) == 2) = true := by simpa using q4
                rw [q4', Bool.true_and]
                cases (plcN p u l one).testBit (pinN p l c) <;> rfl
              · rw [if_neg q4]
                have q4' : (pc (plcN p u l one) == 2) = false := by simpa using q4
                rw [q4']; rfl
            · rw [if_neg q3]
              have q3' : (plcN p u l one == plcN p u l j) = false := by simpa using q3
              rw [q3']; rfl
  unfold S_X6_isPaired
  refine (fold_loop (F := fun f j (a : Bool) => S_X6_isPaired_c6 st f (i3 b) (i3 l) (i3 c) (i3 t) (bI a) (i3 j)) (g := fun k a => a || r4B p u l c t k) (K := fun a => some (bI a)) (N := p.m) (B := 30) ?_ ?_ 0 (Nat.zero_le _) n false (by omega)).trans (by rw [foldFr0]; rfl)
  · intro f a _
    show S_X6_isPaired_c6 st (f + 1) _ _ _ _ _ _ = _
    rw [S_X6_isPaired_c6, h.2.2.1]
    simp only [i3_le (a := p.m) (b := p.m) (by omega) (by omega), Nat.le_refl, if_true, onr_b]
  · intro f j a hj hfb
    have hq : ¬ p.m ≤ j := by omega
    show S_X6_isPaired_c6 st (f + 1) _ _ _ _ _ _ = S_X6_isPaired_c6 st f _ _ _ _ (bI (a || r4B p u l c t j)) _
    rw [S_X6_isPaired_c6, h.2.2.1]
    simp only [i3_le (a := p.m) (b := j) (by omega) (by omega), hq, if_false, onm_e, i3_succ]
    rw [hin _ j a f hj (by omega), i3_succ]
/-- reason 1 to 5 by a line -/
def rB (p : Pz) (u : Nat → Nat) (r l c t : Nat) : Bool :=
  if r = 1 then decide (t < p.m) && decide (0 < othN p u l c t true) else if r = 2 then anyB (r2B p u l c t) p.m else if r = 3 then r3B p u l c t else if r = 4 then anyB (r4B p u l c t) p.m else !(poss p u l (pinN p l c)).testBit t
def holdB (p : Pz) (u : Nat → Nat) (r c t : Nat) : Bool := (List.range p.nL).any fun l => (linesN p c).testBit l && rB p u r l c t
theorem S_holds {st : MSt} {p : Pz} {b r c t n : Nat} {u : Nat → Nat} (h : MV st p) (hu : LVw st b p.m u) (hb : b ≤ 725) (h7 : ∀ l, l < p.nL → ∀ k, k < p.n → st.2.1 7 (5 * l + k) = i3 (poss p u l k)) (hr : 1 ≤ r ∧ r ≤ 5) (hc : c < p.n * p.n) (ht : t < 5) (hf : 60 ≤ n) :
    S_X6_holds n (i3 r) (i3 b) (i3 c) (i3 t) st = some (bI (holdB p u r c t)) := by
  have hn := h.1.n45
  have hm := h.1.m24
  have hL := nL_le h.1
  have h12 := pow12 h.1
  have h32 := pow_le hm.2.2
  have hc25 : c < 25 := Nat.lt_of_lt_of_le hc (nn_le hn)
  have hln := linesN_lt hn hc
  unfold S_X6_holds
  rw [S_linesOf h hc, Option.bind_some]
  have key := any_loop (F := fun f j (a : Bool) => S_X6_holds_c13 st f (i3 r) (i3 b) (i3 c) (i3 t) (bI a) (i3 (linesN p c)) (i3 j)) (f := fun l => (linesN p c).testBit l && rB p u r l c t) (N := p.nL) (B := 45) ?_ ?_ ?_ 0 (Nat.zero_le _) n (by omega) false
  · refine key.trans ?_
    rw [foldFr_or _ _ 0 (Nat.zero_le _), Bool.false_or, Nat.sub_zero, ← List.range_eq_range']
    rfl
  · intro f a _
    show S_X6_holds_c13 st (f + 1) _ _ _ _ _ _ _ = _
    rw [S_X6_holds_c13, S_lines h, Option.bind_some]
    simp only [i3_le (a := p.nL) (b := p.nL) (by omega) (by omega), Nat.le_refl, if_true, onr_b]
  · intro f j hj hfb
    have hq : ¬ p.nL ≤ j := by omega
    show S_X6_holds_c13 st (f + 1) _ _ _ _ _ _ _ = S_X6_holds_c13 st f _ _ _ _ (bI ((linesN p c).testBit j && rB p u r j c t)) _ _
    rw [S_X6_holds_c13, S_lines h, Option.bind_some]
    have o1 : S_X6_others f (i3 b) (i3 j) (i3 c) (i3 t) 1 st = some (i3 (othN p u j c t true)) := S_others (z := true) h hu hb (by omega) hc25 ht (by omega)
    have o2 := S_isAlone h hu hb (l := j) (by omega) hc25 ht (n := f) (by omega)
    have o3 := S_isFull h hu hb (l := j) (by omega) hc25 ht (n := f) (by omega)
    have o4 := S_isPaired h hu hb (l := j) (by omega) hc ht (n := f) (by omega)
    have hle1 : othN p u j c t true ≤ p.n := sumB_le _ _
    have hpi := pinN_lt hn (l := j) hc
    have o5 : (5 : Int32) * i3 j + i3 (pinN p j c) = i3 (5 * j + pinN p j c) := by rw [show (5 : Int32) = i3 5 from rfl, i3_mul, i3_add]
    have hpo : poss p u j (pinN p j c) < 2 ^ (p.m + 1) := poss_lt h.1
    have e0 : (i3 (othN p u j c t true) ≤ 0) = (othN p u j c t true = 0) := i3_neg_le (by omega)
    have x1 : (i3 r = 1) = (r = 1) := i3_eq (b := 1) (by omega) (by decide)
    have x2 : (i3 r = 2) = (r = 2) := i3_eq (b := 2) (by omega) (by decide)
    have x3 : (i3 r = 3) = (r = 3) := i3_eq (b := 3) (by omega) (by decide)
    have x4 : (i3 r = 4) = (r = 4) := i3_eq (b := 4) (by omega) (by decide)
    rw [S_has (by omega) (by omega), o1, o2, o3, o4, S_placeIn h (by omega) hc25]
    simp only [Option.bind_some]
    rw [o5, ob_e (by omega) (by decide), h7 j hj _ hpi, S_has (by omega) (by omega)]
    simp only [i3_le (a := p.nL) (b := j) (by omega) (by omega), hq, if_false, Option.bind_some, bI_eq0, i3_succ, h.2.2.1, i3_le (a := p.m) (b := t) (by omega) (by omega), e0, x1, x2, x3, x4]
    have e00 : (0 : Int32) = bI false := rfl
    have e01 : (1 : Int32) = bI true := rfl
    try simp only [if_true]
    unfold rB
    cases (linesN p c).testBit j with
    | false => rfl
    | true =>
      simp only [Bool.true_eq_false, if_false, Bool.true_and]
      by_cases q1 : r = 1
      · simp only [if_pos q1]
        by_cases q2 : p.m ≤ t
        · rw [if_pos q2, decide_eq_false (by omega : ¬ t < p.m)]; rfl
        · rw [if_neg q2, decide_eq_true (by omega : t < p.m), Bool.true_and]
          by_cases q3 : othN p u j c t true = 0
          · rw [if_pos q3, decide_eq_false (by omega)]; rfl
          · rw [if_neg q3, decide_eq_true (by omega)]; rfl
      · simp only [if_neg q1]
        by_cases q2 : r = 2
        · simp only [if_pos q2]
        · simp only [if_neg q2]
          by_cases q3 : r = 3
          · simp only [if_pos q3]
          · simp only [if_neg q3]
            by_cases q4 : r = 4
            · simp only [if_pos q4]
            · simp only [if_neg q4]
              cases (poss p u j (pinN p j c)).testBit t <;> rfl
  · intro f j hj _
    have hq : ¬ p.nL ≤ j := by omega
    show S_X6_holds_c13 st (f + 1) _ _ _ _ _ _ _ = _
    rw [S_X6_holds_c13, S_lines h, Option.bind_some]
    simp only [i3_le (a := p.nL) (b := j) (by omega) (by omega), hq, if_false, onr_b]
    rfl
