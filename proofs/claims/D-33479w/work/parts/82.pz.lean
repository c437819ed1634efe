/-! the puzzle's small methods
-/
set_option maxRecDepth 100000
section PZS
variable {l : Launch} {G : aG} {I : Nat → Prop} {h : aH} {a : Nat} {F : List Nat} {p : Pz}
theorem B_cellCount (hl : l.stackTraces = false) (hp : PZ I h a F p) : aC l G mX3_cellCount (wsN mX3_cellCount) 0 0 0 [.ref a] h (aP1 (some (.int (i3 (p.n * p.n)))) h) := by
  obtain ⟨tl, ls, lo, ar, rw, T, L, R, sec, hok, -, -, -, -, ho, -⟩ := hp
  refine A_X3_cellCount hl ?_
  refine vI_mk ho rfl (vI_mk ho rfl ?_)
  exact ⟨by rw [i3_mul], rfl⟩
theorem B_lineCount (hl : l.stackTraces = false) (hp : PZ I h a F p) : aC l G mX3_lineCount (wsN mX3_lineCount) 0 0 0 [.ref a] h (aP1 (some (.int (i3 p.nL))) h) := by
  obtain ⟨tl, ls, lo, ar, rw, T, L, R, sec, hok, -, -, -, -, ho, -⟩ := hp
  refine A_X3_lineCount hl ?_
  refine vI_mk ho rfl (vI_mk ho rfl ?_)
  have e : (2 : Int32) * i3 p.n + (if bI p.dg = 0 then (0 : Int32) else 2) = i3 p.nL := by
    unfold Pz.nL
    have o : (2 : Int32) * i3 p.n = i3 (2 * p.n) := i3_mul 2 p.n
    rw [o]
    cases p.dg with
    | false => exact i3_add (2 * p.n) 0
    | true => exact i3_add (2 * p.n) 2
  exact ⟨by rw [← e], rfl⟩
theorem B_edgeCount (hl : l.stackTraces = false) (hp : PZ I h a F p) : aC l G mX3_edgeCount (wsN mX3_edgeCount) 0 0 0 [.ref a] h (aP1 (some (.int (i3 (4 * p.n)))) h) := by
  obtain ⟨tl, ls, lo, ar, rw, T, L, R, sec, hok, -, -, -, -, ho, -⟩ := hp
  refine A_X3_edgeCount hl ?_
  refine vI_mk ho rfl ?_
  have e : (4 : Int32) * i3 p.n = i3 (4 * p.n) := i3_mul 4 p.n
  exact ⟨by rw [← e], rfl⟩
theorem B_gaps (hl : l.stackTraces = false) (hp : PZ I h a F p) : aC l G mX3_gaps (wsN mX3_gaps) 0 0 0 [.ref a] h (aP1 (some (.int (i3 (p.n - p.m)))) h) := by
  obtain ⟨tl, ls, lo, ar, rw, T, L, R, sec, hok, -, -, -, -, ho, -⟩ := hp
  have hm := hok.m24
  refine A_X3_gaps hl ?_
  refine vI_mk ho rfl (vI_mk ho rfl ?_)
  exact ⟨by rw [i3_sub (by omega)], rfl⟩
theorem B_cellOf (hl : l.stackTraces = false) (hp : PZ I h a F p) {i k : Nat} (hi : i < 2 * p.n + 2) (hk : k < p.n) : aC l G mX3_cellOf (wsN mX3_cellOf) 0 0 0 [.ref a, .int (i3 i), .int (i3 k)] h (aP1 (some (.int (i3 (cellN p.n i k)))) h) := by
  obtain ⟨tl, ls, lo, ar, rw, T, L, R, sec, hok, -, -, -, -, ho, -⟩ := hp
  have hn := hok.n45
  have o2 : (2 : Int32) * i3 p.n = i3 (2 * p.n) := i3_mul 2 p.n
  have o3 : i3 p.n - 1 = i3 (p.n - 1) := i3_sub (b := 1) (by omega)
  have o4 : i3 p.n + 1 = i3 (p.n + 1) := i3_succ _
  have o5 : i3 k + 1 = i3 (k + 1) := i3_succ _
  refine A_X3_cellOf hl (vI_mk ho rfl ?_)
  simp only [i3_le (a := p.n) (b := i) (by omega) (by omega)]
  unfold cellN
  refine ⟨fun q => vI_mk ho rfl ?_, fun q => vI_mk ho rfl ?_⟩
  · simp only [o2, i3_le (a := 2 * p.n) (b := i) (by omega) (by omega)]
    refine ⟨fun q2 => vI_mk ho rfl ?_, fun q2 => vI_mk ho rfl (vI_mk ho rfl ?_)⟩
    · simp only [o2, i3_eq (a := i) (b := 2 * p.n) (by omega) (by omega)]
      refine ⟨fun q3 => vI_mk ho rfl ?_, fun q3 => vI_mk ho rfl ?_⟩
      · rw [if_neg (by omega), if_neg (by omega), if_neg q3, o3, o5, i3_mul]; exact ⟨rfl, rfl⟩
      · rw [if_neg (by omega), if_neg (by omega), if_pos q3, o4, i3_mul]; exact ⟨rfl, rfl⟩
    · rw [if_neg (by omega), if_pos (by omega), i3_mul, i3_add, i3_sub (by omega)]; exact ⟨rfl, rfl⟩
  · rw [if_pos (by omega), i3_mul, i3_add]; exact ⟨rfl, rfl⟩
/-- the line of an edge -/
def lineE (n e : Nat) : Nat := if e / n % 2 = 0 then n + e % n else e % n
theorem B_lineAt (hl : l.stackTraces = false) (hp : PZ I h a F p) {e : Nat} (he : e < 4 * p.n) : aC l G mX3_lineAt (wsN mX3_lineAt) 0 0 0 [.ref a, .int (i3 e)] h (aP1 (some (.int (i3 (lineE p.n e)))) h) := by
  obtain ⟨tl, ls, lo, ar, rw, T, L, R, sec, hok, -, -, -, -, ho, -⟩ := hp
  have hn := hok.n45
  have hz : ¬ i3 p.n = 0 := by
    have e0 : (i3 p.n = 0) = (p.n = 0) := i3_eq (b := 0) (by omega) (by decide)
    rw [e0]; omega
  have hd : i3 e / i3 p.n = i3 (e / p.n) := i3_div (by omega) (by omega)
  have hq : e / p.n < 2147483648 := Nat.lt_of_le_of_lt (Nat.div_le_self _ _) (by omega)
  have hm : i3 (e / p.n) - i3 (e / p.n) / 2 * 2 = i3 (e / p.n % 2) := i3_rem (b := 2) hq (by decide)
  have hr : i3 e - i3 e / i3 p.n * i3 p.n = i3 (e % p.n) := i3_rem (by omega) (by omega)
  have e0 : (i3 (e / p.n % 2) = 0) = (e / p.n % 2 = 0) := i3_eq (b := 0) (by omega) (by decide)
  refine A_X3_lineAt hl (vI_mk ho rfl ⟨hz, ?_⟩)
  rw [hd, hm]
  simp only [e0]
  unfold lineE
  refine ⟨fun q => vI_mk ho rfl ⟨hz, ?_⟩, fun q => vI_mk ho rfl (vI_mk ho rfl ⟨hz, ?_⟩)⟩
  · rw [if_neg q, hr]; exact ⟨rfl, rfl⟩
  · rw [if_pos q, hr, i3_add]; exact ⟨rfl, rfl⟩
def backE (n e : Nat) : Bool := e / n == 1 || e / n == 2
theorem B_looksBack (hl : l.stackTraces = false) (hp : PZ I h a F p) {e : Nat} (he : e < 4 * p.n) : aC l G mX3_looksBack (wsN mX3_looksBack) 0 0 0 [.ref a, .int (i3 e)] h (aP1 (some (.int (bI (backE p.n e)))) h) := by
  obtain ⟨tl, ls, lo, ar, rw, T, L, R, sec, hok, -, -, -, -, ho, -⟩ := hp
  have hn := hok.n45
  have hz : ¬ i3 p.n = 0 := by
    have e0 : (i3 p.n = 0) = (p.n = 0) := i3_eq (b := 0) (by omega) (by decide)
    rw [e0]; omega
  have hd : i3 e / i3 p.n = i3 (e / p.n) := i3_div (by omega) (by omega)
  have hq : e / p.n < 2147483648 := Nat.lt_of_le_of_lt (Nat.div_le_self _ _) (by omega)
  have e1 : (i3 (e / p.n) = 1) = (e / p.n = 1) := i3_eq (b := 1) hq (by decide)
  have e2 : (i3 (e / p.n) = 2) = (e / p.n = 2) := i3_eq (b := 2) hq (by decide)
  refine A_X3_looksBack hl (vI_mk ho rfl ⟨hz, ?_⟩)
  rw [hd]
  simp only [e1]
  unfold backE
  refine ⟨fun q => ?_, fun q => vI_mk ho rfl ⟨hz, ?_⟩⟩
  · rw [q]; exact ⟨rfl, rfl⟩
  · have q' : (e / p.n == 1) = false := by simpa using q
    rw [hd, q', Bool.false_or]
    simp only [e2]
    by_cases q2 : e / p.n = 2
    · rw [if_pos q2, q2]; exact ⟨Or.inr rfl, rfl, rfl⟩
    · have q2' : (e / p.n == 2) = false := by simpa using q2
      rw [if_neg q2, q2']; exact ⟨Or.inl rfl, rfl, rfl⟩
end PZS
