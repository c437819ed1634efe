/-! a line place by place: which thing may come next
-/
set_option maxRecDepth 100000
def ordN (t l w : Nat) : Bool := t == 0 || ((w == (t + 1) % 2) == (l == (t - 1) / 2))
/-- how many letters were met ahead -/
def befN (m : Nat) (pre : List Nat) : Nat := pc (maskN pre &&& (2 ^ m - 1))
theorem befN_def {m : Nat} {pre : List Nat} : befN m pre = pc (maskN pre &&& (2 ^ m - 1)) := rfl
def gapS (n m : Nat) (pre : List Nat) : Bool := decide (pre.length - befN m pre < n - m)
def stepS (n m tF tL : Nat) (pre : List Nat) (x : Nat) : Bool := if x = m then gapS n m pre else !(maskN pre).testBit x && ordN tF x (befN m pre) && ordN tL x (m - 1 - befN m pre)
/-- the same for a diagonal -/
def stepD (n m : Nat) (pre : List Nat) (x : Nat) : Bool := if x = m then decide (pre.count m < n - m) else !(maskN pre).testBit x
def allS (n m tF tL : Nat) (xs : List Nat) : Bool := (List.range n).all fun i => stepS n m tF tL (xs.take i) (xs.getD i 0)
def allD (n m : Nat) (xs : List Nat) : Bool := (List.range n).all fun i => stepD n m (xs.take i) (xs.getD i 0)
def baseS (n m : Nat) (pre : List Nat) (x : Nat) : Bool := if x = m then gapS n m pre else !(maskN pre).testBit x
def ordF (n m t : Nat) (xs : List Nat) : Bool := (List.range n).all fun i => xs.getD i 0 == m || ordN t (xs.getD i 0) (befN m (xs.take i))
def ordL (n m t : Nat) (xs : List Nat) : Bool := (List.range n).all fun i => xs.getD i 0 == m || ordN t (xs.getD i 0) (m - 1 - befN m (xs.take i))
def baseA (n m : Nat) (xs : List Nat) : Bool := (List.range n).all fun i => baseS n m (xs.take i) (xs.getD i 0)
theorem allS_eq {n m tF tL : Nat} {xs : List Nat} : allS n m tF tL xs = (baseA n m xs && (ordF n m tF xs && ordL n m tL xs)) := by
  unfold allS baseA ordF ordL
  rw [Bool.eq_iff_iff, Bool.and_eq_true, Bool.and_eq_true, all_range, all_range, all_range, all_range]
  have e : ∀ i, stepS n m tF tL (xs.take i) (xs.getD i 0) = true ↔ baseS n m (xs.take i) (xs.getD i 0) = true ∧ (xs.getD i 0 == m || ordN tF (xs.getD i 0) (befN m (xs.take i))) = true ∧ (xs.getD i 0 == m || ordN tL (xs.getD i 0) (m - 1 - befN m (xs.take i))) = true := by
    intro i
    unfold stepS baseS
    by_cases q : xs.getD i 0 = m
    · rw [if_pos q, if_pos q]
      have q' : (xs.getD i 0 == m) = true := by simpa using q
      rw [q']; simp
    · rw [if_neg q, if_neg q]
      have q' : (xs.getD i 0 == m) = false := by simpa using q
      rw [q', Bool.false_or, Bool.false_or, Bool.and_eq_true, Bool.and_eq_true, and_assoc]
  constructor
  · intro h; exact ⟨fun i hi => ((e i).mp (h i hi)).1, fun i hi => ((e i).mp (h i hi)).2.1, fun i hi => ((e i).mp (h i hi)).2.2⟩
  · intro ⟨h1, h2, h3⟩ i hi; exact (e i).mpr ⟨h1 i hi, h2 i hi, h3 i hi⟩
def chkB (n m : Nat) : Bool := (List.range ((m + 1) ^ n)).all fun c => (baseA n m (digs (m + 1) n c) == okRow n m (digs (m + 1) n c)) && (allD n m (digs (m + 1) n c) == okRow n m (digs (m + 1) n c))
def chkO (n m : Nat) : Bool := (arrs n m).all fun r => (List.range (2 * m + 1)).all fun t => (ordF n m t r == tT t ((lets m r).getD 0 0) ((lets m r).getD 1 0)) && (ordL n m t r == tT t ((lets m r).getD (m - 1) 0) ((lets m r).getD (m - 2) 0))
theorem chkB_42 : chkB 4 2 = true := by decide +kernel
theorem chkB_43 : chkB 4 3 = true := by decide +kernel
theorem chkB_52 : chkB 5 2 = true := by decide +kernel
theorem chkB_53 : chkB 5 3 = true := by decide +kernel
theorem chkB_54 : chkB 5 4 = true := by decide +kernel
theorem chkO_42 : chkO 4 2 = true := by decide +kernel
theorem chkO_43 : chkO 4 3 = true := by decide +kernel
theorem chkO_52 : chkO 5 2 = true := by decide +kernel
theorem chkO_53 : chkO 5 3 = true := by decide +kernel
theorem chkO_54 : chkO 5 4 = true := by decide +kernel
theorem chk_all {n m : Nat} (h : okNM n m) : chkB n m = true ∧ chkO n m = true := by
  rcases h with ⟨rfl, rfl | rfl⟩ | ⟨rfl, rfl | rfl | rfl⟩
  · exact ⟨chkB_42, chkO_42⟩
  · exact ⟨chkB_43, chkO_43⟩
  · exact ⟨chkB_52, chkO_52⟩
  · exact ⟨chkB_53, chkO_53⟩
  · exact ⟨chkB_54, chkO_54⟩
theorem okRow_iff {n m : Nat} (h : okNM n m) {xs : List Nat} : okRow n m xs = true ↔ xs ∈ arrs n m := by
  constructor
  · intro q
    unfold okRow at q
    rw [Bool.and_eq_true, Bool.and_eq_true] at q
    obtain ⟨⟨h1, h2⟩, h3⟩ := q
    exact arrs_all h (by simpa using h1) (fun t ht => by simpa using List.all_eq_true.mp h2 t ht) (fun t ht => by simpa using List.all_eq_true.mp h3 t (List.mem_range.mpr ht))
  · intro q; exact List.all_eq_true.mp (arrs_ok h) xs q
theorem base_iff {n m : Nat} (h : okNM n m) {xs : List Nat} (hl : xs.length = n) (hx : ∀ t ∈ xs, t ≤ m) : (baseA n m xs = true ↔ xs ∈ arrs n m) ∧ (allD n m xs = true ↔ xs ∈ arrs n m) := by
  obtain ⟨c, hc, e⟩ := digs_all (b := m + 1) (Nat.succ_pos m) n xs hl (fun t ht => Nat.lt_succ_of_le (hx t ht))
  have h1 := (chk_all h).1
  unfold chkB at h1
  rw [all_range] at h1
  have h2 := h1 c hc
  rw [e, Bool.and_eq_true, beq_iff_eq, beq_iff_eq] at h2
  exact ⟨by rw [h2.1]; exact okRow_iff h, by rw [h2.2]; exact okRow_iff h⟩
/-- all places of a line may be what they are: it is an arrangement, and the tellings are true -/
theorem allS_iff {n m tF tL : Nat} (h : okNM n m) {xs : List Nat} (hl : xs.length = n) (hx : ∀ t ∈ xs, t ≤ m) (hF : tF ≤ 2 * m) (hL : tL ≤ 2 * m) :
    allS n m tF tL xs = true ↔ xs ∈ arrs n m ∧ tT tF ((lets m xs).getD 0 0) ((lets m xs).getD 1 0) = true ∧ tT tL ((lets m xs).getD (m - 1) 0) ((lets m xs).getD (m - 2) 0) = true := by
  rw [allS_eq, Bool.and_eq_true, Bool.and_eq_true, (base_iff h hl hx).1]
  have key : xs ∈ arrs n m → ∀ t, t ≤ 2 * m → ordF n m t xs = tT t ((lets m xs).getD 0 0) ((lets m xs).getD 1 0) ∧ ordL n m t xs = tT t ((lets m xs).getD (m - 1) 0) ((lets m xs).getD (m - 2) 0) := by
    intro hm t ht
    have h2 := List.all_eq_true.mp (chk_all h).2 xs hm
    rw [all_range] at h2
    have h3 := h2 t (by omega)
    rw [Bool.and_eq_true, beq_iff_eq, beq_iff_eq] at h3
    exact h3
  constructor
  · intro ⟨h1, h2, h3⟩
    exact ⟨h1, by rw [← (key h1 _ hF).1]; exact h2, by rw [← (key h1 _ hL).2]; exact h3⟩
  · intro ⟨h1, h2, h3⟩
    exact ⟨h1, by rw [(key h1 _ hF).1]; exact h2, by rw [(key h1 _ hL).2]; exact h3⟩
/-- the letters met ahead are no more than the places -/
theorem pc_mask_le : ∀ (pre : List Nat) (m : Nat), m ≤ 4 → befN m pre ≤ m := by
  intro pre m hm
  unfold befN
  have : ∀ (m : Fin 5) (a : Fin 16), a.1 < 2 ^ m.1 → pc a.1 ≤ m.1 := by decide +kernel
  have hlt : maskN pre &&& (2 ^ m - 1) < 2 ^ m := by
    rw [Nat.and_two_pow_sub_one_eq_mod]; exact Nat.mod_lt _ (Nat.two_pow_pos _)
  have h16 : 2 ^ m ≤ 16 := Nat.pow_le_pow_right (n := 2) (by decide) (by omega : m ≤ 4)
  exact this ⟨m, by omega⟩ ⟨_, by omega⟩ hlt
theorem pc_or1 : ∀ (a : Fin 32) (t : Fin 5), pc (a.1 ||| 1 <<< t.1) ≤ pc a.1 + 1 := by decide +kernel
theorem bef_app {m x : Nat} {pre : List Nat} (hm : m ≤ 4) (hx : x ≤ m) : befN m (pre ++ [x]) ≤ befN m pre + 1 := by
  unfold befN
  rw [maskN_app, Nat.and_or_distrib_right]
  have hlt : maskN pre &&& (2 ^ m - 1) < 2 ^ m := by
    rw [Nat.and_two_pow_sub_one_eq_mod]; exact Nat.mod_lt _ (Nat.two_pow_pos _)
  have h16 : 2 ^ m ≤ 16 := Nat.pow_le_pow_right (n := 2) (by decide) (by omega : m ≤ 4)
  have hone : 1 <<< x &&& (2 ^ m - 1) = if x < m then 1 <<< x else 0 := by
    apply Nat.eq_of_testBit_eq
    intro i
    rw [Nat.testBit_and, tbs, Nat.testBit_two_pow_sub_one]
    by_cases q : x < m
    · rw [if_pos q, tbs]
      by_cases q2 : i = x
      · subst q2; simp [q]
      · simp [q2]
    · rw [if_neg q, Nat.zero_testBit]
      by_cases q2 : i = x
      · subst q2; simp [q]
      · simp [q2]
  rw [hone]
  split
  · exact pc_or1 ⟨_, by omega⟩ ⟨x, by omega⟩
  · rw [Nat.or_zero]; omega
theorem bef_len {m : Nat} (hm : m ≤ 4) {pre : List Nat} (h : ∀ t ∈ pre, t ≤ m) : befN m pre ≤ pre.length := by
  have : ∀ k, k ≤ pre.length → befN m (pre.take k) ≤ k := by
    intro k
    induction k with
    | zero => intro _; rw [List.take_zero]; unfold befN maskN; simp [pc]
    | succ k ih =>
      intro hk
      rw [take_succ_getD (by omega)]
      have h1 := ih (by omega)
      have h2 := bef_app (m := m) (x := pre.getD k 0) (pre := pre.take k) hm (getD_le h k)
      omega
  have := this pre.length (Nat.le_refl _)
  rwa [List.take_length] at this
