/-! the order that tellings want -/
set_option maxRecDepth 100000
def ordB (t l w : Nat) : Bool := t == 0 || ((w == (t + 1) % 2) == (l == (t - 1) / 2))
theorem S_isInOrder {t l w : Nat} (ht : t < 1000) (hl : l < 1000) (hw : w < 1000) : S_X6_isInOrder (i3 t) (i3 l) (i3 w) = some (bI (ordB t l w)) := by
  have e0 : (i3 t = 0) = (t = 0) := i3_eq (b := 0) (by omega) (by decide)
  have hr : i3 (t + 1) - i3 (t + 1) / 2 * 2 = i3 ((t + 1) % 2) := i3_rem (b := 2) (by omega) (by decide)
  unfold S_X6_isInOrder S_X6_isInOrder_j18 ordB
  simp only [e0, i3_succ, hr, i3_eq (a := w) (b := (t + 1) % 2) (by omega) (by omega)]
  by_cases q : t = 0
  · subst q; rfl
  · have e1 : i3 t - 1 = i3 (t - 1) := i3_sub (b := 1) (by omega)
    have e2 : i3 (t - 1) / 2 = i3 ((t - 1) / 2) := i3_div (b := 2) (by omega) (by decide)
    have q' : (t == 0) = false := by simpa using q
    rw [if_neg q, e1, e2, q', Bool.false_or]
    simp only [i3_eq (a := l) (b := (t - 1) / 2) (by omega) (by omega)]
    by_cases q1 : w = (t + 1) % 2
    · by_cases q2 : l = (t - 1) / 2
      · rw [if_pos q1, if_pos q2, (beq_iff_eq).mpr q1, (beq_iff_eq).mpr q2]; rfl
      · have h2 : (l == (t - 1) / 2) = false := by simpa using q2
        rw [if_pos q1, if_neg q2, (beq_iff_eq).mpr q1, h2]; rfl
    · have h1 : (w == (t + 1) % 2) = false := by simpa using q1
      by_cases q2 : l = (t - 1) / 2
      · rw [if_neg q1, if_pos q2, h1, (beq_iff_eq).mpr q2]; rfl
      · have h2 : (l == (t - 1) / 2) = false := by simpa using q2
        rw [if_neg q1, if_neg q2, h1, h2]; rfl
