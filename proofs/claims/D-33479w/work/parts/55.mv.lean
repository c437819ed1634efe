/-! the model's state seen: puzzle, cells, layers; cells of lines, tellings -/
set_option maxRecDepth 100000
def MV (st : MSt) (p : Pz) : Prop := okNM p.n p.m ∧ st.2.1 0 0 = i3 p.n ∧ st.2.1 0 1 = i3 p.m ∧ st.2.1 0 2 = i3 p.dg.toNat ∧ ∀ e, e < 20 → st.2.1 0 (3 + e) = i3 (p.tl e) ∧ p.tl e ≤ 2 * p.m
def CVw (st : MSt) (m : Nat) (w : Nat → Nat) : Prop := ∀ c, c < 25 → st.2.1 0 (23 + c) = i3 (w c) ∧ w c < 2 ^ (m + 1)
def LVw (st : MSt) (b m : Nat) (u : Nat → Nat) : Prop := ∀ c, c < 25 → st.2.1 5 (b + c) = i3 (u c) ∧ u c < 2 ^ (m + 1)
theorem MV.to {a b : MSt} {p : Pz} (h : MV a p) (e : b.2.1 0 = a.2.1 0) : MV b p := by unfold MV; rw [e]; exact h
theorem CVw.to {a b : MSt} {m : Nat} {w : Nat → Nat} (h : CVw a m w) (e : b.2.1 0 = a.2.1 0) : CVw b m w := by unfold CVw; rw [e]; exact h
theorem LVw.to {a b : MSt} {k m : Nat} {w : Nat → Nat} (h : LVw a k m w) (e : b.2.1 5 = a.2.1 5) : LVw b k m w := by unfold LVw; rw [e]; exact h
theorem okNM.n45 {n m : Nat} (h : okNM n m) : n = 4 ∨ n = 5 := by unfold okNM at h; omega
theorem okNM.m24 {n m : Nat} (h : okNM n m) : 2 ≤ m ∧ m < n ∧ m ≤ 4 := by unfold okNM at h; omega
theorem pow_le {m : Nat} (h : m ≤ 4) : 2 ^ (m + 1) ≤ 32 := Nat.pow_le_pow_right (n := 2) (by decide) (by omega : m + 1 ≤ 5)
theorem cellN_lt {n l k : Nat} (hn : n = 4 ∨ n = 5) (hl : l < 2 * n + 2) (hk : k < n) : cellN n l k < n * n := by
  unfold cellN
  rcases hn with rfl | rfl
  all_goals
    repeat' split
    all_goals omega
theorem nn_le {n : Nat} (hn : n = 4 ∨ n = 5) : n * n ≤ 25 := by rcases hn with rfl | rfl <;> decide
theorem S_cellAt {st : MSt} {p : Pz} (h : MV st p) {l k : Nat} (hl : l < 2 * p.n + 2) (hk : k < p.n) : S_X6_cellAt (i3 l) (i3 k) st = some (i3 (cellN p.n l k)) := by
  obtain ⟨h1, h2, -⟩ := h
  unfold S_X6_cellAt cellN
  rw [h2, onm_e]
  rcases h1.n45 with e | e
  all_goals
    rw [e] at hl hk ⊢
    simp (disch := omega) only [i3_lit, i3_add, i3_mul, i3_sub, i3_lt, i3_le, i3_eq, i3_div, i3_rem2, i3_and, i3_or, i3_xor]
    repeat' split
    all_goals first
      | omega
      | (congr 2; omega)
      | rfl
theorem S_lines {st : MSt} {p : Pz} (h : MV st p) : S_X6_lines st = some (i3 p.nL) := by
  obtain ⟨h1, h2, h3, h4, -⟩ := h
  unfold S_X6_lines Pz.nL
  rw [h2, h4]
  simp (disch := omega) only [i3_lit, i3_add, i3_mul, i3_sub, i3_lt, i3_le, i3_eq, i3_div, i3_rem2, i3_and, i3_or, i3_xor]
theorem nL_le {p : Pz} (h : okNM p.n p.m) : p.nL ≤ 12 ∧ 2 * p.n ≤ p.nL ∧ p.nL ≤ 2 * p.n + 2 := by
  unfold Pz.nL
  have := h.n45
  have : p.dg.toNat ≤ 1 := by cases p.dg <;> decide
  omega
theorem S_cells {st : MSt} {p : Pz} (h : MV st p) : S_X6_cells st = some (i3 (p.n * p.n)) := by
  unfold S_X6_cells
  rw [h.2.1]
  simp (disch := omega) only [i3_lit, i3_add, i3_mul, i3_sub, i3_lt, i3_le, i3_eq, i3_div, i3_rem2, i3_and, i3_or, i3_xor]
theorem S_edges {st : MSt} {p : Pz} (h : MV st p) : S_X6_edges st = some (i3 (4 * p.n)) := by
  unfold S_X6_edges
  rw [h.2.1]
  simp (disch := omega) only [i3_lit, i3_add, i3_mul, i3_sub, i3_lt, i3_le, i3_eq, i3_div, i3_rem2, i3_and, i3_or, i3_xor]
theorem S_all {st : MSt} {p : Pz} (h : MV st p) : S_X6_all st = some (i3 (2 ^ (p.m + 1) - 1)) := by
  have := h.1.m24
  unfold S_X6_all
  rw [h.2.2.1, i3_succ]
  have e1 : (1 : Int32) <<< (i3 (p.m + 1) &&& 31) = i3 (1 <<< (p.m + 1)) := i3_shl (a := 1) (by omega)
  have h2 : 0 < 2 ^ (p.m + 1) := Nat.two_pow_pos _
  rw [e1, Nat.one_shiftLeft]
  have : i3 (2 ^ (p.m + 1)) - 1 = i3 (2 ^ (p.m + 1) - 1) := i3_sub (b := 1) h2
  rw [this]
theorem tell_lt {n l : Nat} {z : Bool} (hn : n = 4 ∨ n = 5) (hl : l < 2 * n) : (if l < n then (if z then n else 3 * n) + l else (if z then 2 * n else 0) + l - n) < 4 * n := by
  cases z <;> rcases hn with rfl | rfl <;> simp <;> split <;> omega
theorem S_tellingOf {st : MSt} {p : Pz} (h : MV st p) {l : Nat} (hl : l < 2 * p.n + 2) {z : Bool} : S_X6_tellingOf (i3 l) (bI z) st = some (i3 (p.te l z)) := by
  have hn := h.1.n45
  have h5 : ∀ e, e < 20 → st.2.1 0 (3 + e) = i3 (p.tl e) := fun e he => (h.2.2.2.2 e he).1
  unfold S_X6_tellingOf Pz.te
  rw [h.2.1, onm_e]
  have e0 : (0 : Int32) = i3 0 := rfl
  cases z
  all_goals
    simp only [bI_t, bI_f, if_true, Bool.false_eq_true, if_false, i3_lit, i3_eq (a := 1) (b := 0) (by decide) (by decide), Nat.one_ne_zero, Nat.zero_add]
    rcases hn with e | e
    all_goals
      rw [e] at hl ⊢
      unfold S_X6_tellingOf_j39 S_X6_tellingOf_j23
      simp (disch := omega) only [i3_lit, i3_add, i3_mul, i3_sub, i3_lt, i3_le, i3_eq, i3_div, i3_rem2, i3_and, i3_or, i3_xor]
      by_cases q1 : l < p.n
      all_goals
        rw [e] at q1
        have q1' : ¬ p.n ≤ l ∨ p.n ≤ l := by omega
        simp only [onm_e]
        simp (disch := omega) only [i3_lit, i3_add, i3_mul, i3_sub, i3_lt, i3_le, i3_eq, i3_div, i3_rem2, i3_and, i3_or, i3_xor]
        repeat' split
        all_goals first
          | omega
          | rfl
          | (rw [ob_e (by omega) (by decide), h5 _ (by omega)]; try rw [Nat.zero_add])
theorem S_isTrue {t f g : Nat} (ht : t < 2147483648) (hf : f < 2147483648) (hg : g < 2147483648) : S_X6_isTrue (i3 t) (i3 f) (i3 g) = some (bI (tT t f g)) := by
  have hr : i3 t - i3 t / i3 2 * i3 2 = i3 (t % 2) := i3_rem ht (by decide)
  have h2 : t % 2 < 2147483648 := by omega
  have h3 : t / 2 < 2147483648 := by omega
  unfold S_X6_isTrue tT
  by_cases q : t = 0
  · subst q; rfl
  · have e1 : i3 t - 1 = i3 (t - 1) := i3_sub (b := 1) (by omega)
    have e2 : i3 (t - 1) / 2 = i3 ((t - 1) / 2) := i3_div (b := 2) (by omega) (by decide)
    have e3 : i3 t - i3 t / 2 * 2 = i3 (t % 2) := hr
    have e4 : (i3 t = 0) = (t = 0) := i3_eq (b := 0) ht (by decide)
    have e5 : (i3 (t % 2) = 1) = (t % 2 = 1) := i3_eq (b := 1) h2 (by decide)
    simp only [e1, e2, e3, e4, e5, q, if_false, i3_eq (a := (t - 1) / 2) (b := f) (by omega) hf, i3_eq (a := (t - 1) / 2) (b := g) (by omega) hg]
    by_cases q2 : t % 2 = 1
    · by_cases q3 : (t - 1) / 2 = f <;> simp [q, q2, q3, bI]
    · by_cases q3 : (t - 1) / 2 = g <;> simp [q, q2, q3, bI]
