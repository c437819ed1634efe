/-! what both sides compute: plain definitions -/
set_option maxRecDepth 100000
def Pz : Type := Nat × Nat × Bool × (Nat → Nat)
def Pz.n (p : Pz) : Nat := p.1
def Pz.m (p : Pz) : Nat := p.2.1
def Pz.dg (p : Pz) : Bool := p.2.2.1
def Pz.tl (p : Pz) : Nat → Nat := p.2.2.2
/-- side and letters that a puzzle can have -/
def okNM (n m : Nat) : Prop := (n = 4 ∧ (m = 2 ∨ m = 3)) ∨ (n = 5 ∧ (m = 2 ∨ m = 3 ∨ m = 4))
def Pz.ok (p : Pz) : Prop := okNM p.n p.m ∧ ∀ e, e < 4 * p.n → p.tl e ≤ 2 * p.m
def Pz.nL (p : Pz) : Nat := 2 * p.n + 2 * p.dg.toNat
/-- the cell at a place of a line -/
def cellN (n l k : Nat) : Nat := if l < n then n * l + k else if l < 2 * n then n * k + l - n else if l = 2 * n then (n + 1) * k else (n - 1) * (k + 1)
/-- rows of arrangements, in the component's order -/
def mkA (n m : Nat) : Nat → Nat → List Nat → List (List Nat)
  | 0, _, pre => [pre]
  | r + 1, met, pre => (List.range (m + 1)).flatMap fun t => if (if t = m then decide (m - pc met < r + 1) else !met.testBit t) then mkA n m r (if t = m then met else met ||| 1 <<< t) (pre ++ [t]) else []
def arrs (n m : Nat) : List (List Nat) := mkA n m n 0 []
/-- rows in the model's order: the digits of codes -/
def digs (b : Nat) : Nat → Nat → List Nat
  | 0, _ => []
  | k + 1, c => c % b :: digs b k (c / b)
def lets (m : Nat) (row : List Nat) : List Nat := row.filter (· < m)
def maskN (row : List Nat) : Nat := row.foldl (fun s t => s ||| 1 <<< t) 0
def isRow (m : Nat) (row : List Nat) : Bool := (lets m row).length == m && (maskN row &&& ((1 <<< m) - 1)) == (1 <<< m) - 1
def tabN (n m : Nat) : List (List Nat) := ((List.range ((m + 1) ^ n)).map (digs (m + 1) n)).filter (isRow m)
theorem perm_42 : ((tabN 4 2).isPerm (arrs 4 2)) = true := by decide +kernel
theorem perm_43 : ((tabN 4 3).isPerm (arrs 4 3)) = true := by decide +kernel
theorem perm_52 : ((tabN 5 2).isPerm (arrs 5 2)) = true := by decide +kernel
theorem perm_53 : ((tabN 5 3).isPerm (arrs 5 3)) = true := by decide +kernel
theorem perm_54 : ((tabN 5 4).isPerm (arrs 5 4)) = true := by decide +kernel
theorem tab_perm {n m : Nat} (h : okNM n m) : (tabN n m).Perm (arrs n m) := by
  rcases h with ⟨rfl, rfl | rfl⟩ | ⟨rfl, rfl | rfl | rfl⟩
  · exact List.isPerm_iff.mp perm_42
  · exact List.isPerm_iff.mp perm_43
  · exact List.isPerm_iff.mp perm_52
  · exact List.isPerm_iff.mp perm_53
  · exact List.isPerm_iff.mp perm_54
def okRow (n m : Nat) (row : List Nat) : Bool := row.length == n && row.all (· ≤ m) && (List.range m).all (fun t => row.count t == 1)
theorem row_42 : ((arrs 4 2).all (okRow 4 2)) = true := by decide +kernel
theorem row_43 : ((arrs 4 3).all (okRow 4 3)) = true := by decide +kernel
theorem row_52 : ((arrs 5 2).all (okRow 5 2)) = true := by decide +kernel
theorem row_53 : ((arrs 5 3).all (okRow 5 3)) = true := by decide +kernel
theorem row_54 : ((arrs 5 4).all (okRow 5 4)) = true := by decide +kernel
theorem arrs_ok {n m : Nat} (h : okNM n m) : (arrs n m).all (okRow n m) = true := by
  rcases h with ⟨rfl, rfl | rfl⟩ | ⟨rfl, rfl | rfl | rfl⟩
  · exact row_42
  · exact row_43
  · exact row_52
  · exact row_53
  · exact row_54
theorem arrs_row {n m : Nat} (h : okNM n m) {row : List Nat} (hr : row ∈ arrs n m) : row.length = n ∧ (∀ t ∈ row, t ≤ m) ∧ ∀ t, t < m → row.count t = 1 := by
  have := List.all_eq_true.mp (arrs_ok h) row hr
  unfold okRow at this
  rw [Bool.and_eq_true, Bool.and_eq_true] at this
  obtain ⟨⟨h1, h2⟩, h3⟩ := this
  refine ⟨by simpa using h1, fun t ht => ?_, fun t ht => ?_⟩
  · simpa using List.all_eq_true.mp h2 t ht
  · simpa using List.all_eq_true.mp h3 t (List.mem_range.mpr ht)
def lenA (n m : Nat) : Nat := if n = 4 then (if m = 2 then 12 else 24) else (if m = 2 then 20 else if m = 3 then 60 else 120)
theorem len_42 : (arrs 4 2).length = 12 := by decide +kernel
theorem len_43 : (arrs 4 3).length = 24 := by decide +kernel
theorem len_52 : (arrs 5 2).length = 20 := by decide +kernel
theorem len_53 : (arrs 5 3).length = 60 := by decide +kernel
theorem len_54 : (arrs 5 4).length = 120 := by decide +kernel
theorem arrs_len {n m : Nat} (h : okNM n m) : (arrs n m).length ≤ 120 := by
  rcases h with ⟨rfl, rfl | rfl⟩ | ⟨rfl, rfl | rfl | rfl⟩
  · rw [len_42]; decide
  · rw [len_43]; decide
  · rw [len_52]; decide
  · rw [len_53]; decide
  · rw [len_54]; decide
theorem digs_all {b : Nat} (hb : 0 < b) : ∀ (k : Nat) (row : List Nat), row.length = k → (∀ t ∈ row, t < b) → ∃ c, c < b ^ k ∧ digs b k c = row := by
  intro k
  induction k with
  | zero => intro row hl _; exact ⟨0, by simp, by rw [List.length_eq_zero_iff.mp hl]; rfl⟩
  | succ k ih =>
    intro row hl ht
    cases row with
    | nil => simp at hl
    | cons t row =>
      obtain ⟨c, hc, e⟩ := ih row (by simpa using hl) (fun x hx => ht x (List.mem_cons_of_mem _ hx))
      have h0 := ht t List.mem_cons_self
      refine ⟨t + b * c, ?_, ?_⟩
      · rw [Nat.pow_succ]
        calc t + b * c < b + b * c := by omega
          _ = b * (c + 1) := by rw [Nat.mul_add, Nat.mul_one]; omega
          _ ≤ b * b ^ k := Nat.mul_le_mul_left b hc
          _ = b ^ k * b := Nat.mul_comm _ _
      · show (t + b * c) % b :: digs b k ((t + b * c) / b) = _
        rw [Nat.add_mul_mod_self_left, Nat.mod_eq_of_lt h0, Nat.add_mul_div_left t c hb, Nat.div_eq_of_lt h0, Nat.zero_add, e]
def covR (n m : Nat) : Bool := (List.range ((m + 1) ^ n)).all fun c => !okRow n m (digs (m + 1) n c) || (arrs n m).contains (digs (m + 1) n c)
theorem cov_42 : covR 4 2 = true := by decide +kernel
theorem cov_43 : covR 4 3 = true := by decide +kernel
theorem cov_52 : covR 5 2 = true := by decide +kernel
theorem cov_53 : covR 5 3 = true := by decide +kernel
theorem cov_54 : covR 5 4 = true := by decide +kernel
theorem arrs_cov {n m : Nat} (h : okNM n m) : covR n m = true := by
  rcases h with ⟨rfl, rfl | rfl⟩ | ⟨rfl, rfl | rfl | rfl⟩
  · exact cov_42
  · exact cov_43
  · exact cov_52
  · exact cov_53
  · exact cov_54
theorem arrs_all {n m : Nat} (h : okNM n m) {row : List Nat} (hl : row.length = n) (ht : ∀ t ∈ row, t ≤ m) (hc : ∀ t, t < m → row.count t = 1) : row ∈ arrs n m := by
  obtain ⟨c, hc2, e⟩ := digs_all (b := m + 1) (Nat.succ_pos m) n row hl (fun t h => Nat.lt_succ_of_le (ht t h))
  have h1 := List.all_eq_true.mp (arrs_cov h) c (List.mem_range.mpr hc2)
  rw [e, Bool.or_eq_true] at h1
  rcases h1 with h1 | h1
  · exfalso
    have : okRow n m row = true := by
      unfold okRow
      rw [Bool.and_eq_true, Bool.and_eq_true]
      refine ⟨⟨by simpa using hl, List.all_eq_true.mpr fun t q => by simpa using ht t q⟩, List.all_eq_true.mpr fun t q => by simpa using hc t (List.mem_range.mp q)⟩
    rw [this] at h1
    cases h1
  · simpa using h1
/-- a telling: 0 none, 1 + 2 letter (+ 1: seen second) -/
def tT (t first second : Nat) : Bool := t == 0 || (t - 1) / 2 == (if t % 2 = 1 then first else second)
/-- the telling at the beginning or the end of a line -/
def Pz.te (p : Pz) (l : Nat) (atEnd : Bool) : Nat := if l < 2 * p.n then p.tl (if l < p.n then (if atEnd then p.n else 3 * p.n) + l else (if atEnd then 2 * p.n else 0) + l - p.n) else 0
def Pz.says (p : Pz) (l : Nat) (row : List Nat) : Bool := tT (p.te l false) ((lets p.m row).getD 0 0) ((lets p.m row).getD 1 0) && tT (p.te l true) ((lets p.m row).getD (p.m - 1) 0) ((lets p.m row).getD (p.m - 2) 0)
/-- whether a line of cells can have a row -/
def fit (p : Pz) (w : Nat → Nat) (l : Nat) (row : List Nat) : Bool := ((List.range p.n).all fun k => (w (cellN p.n l k)).testBit (row.getD k 0)) && p.says l row
def fitL (p : Pz) (w : Nat → Nat) (l : Nat) : List (List Nat) := (arrs p.n p.m).filter (fit p w l)
def orAt (rows : List (List Nat)) (k : Nat) : Nat := rows.foldl (fun s r => s ||| 1 <<< r.getD k 0) 0
def poss (p : Pz) (w : Nat → Nat) (l k : Nat) : Nat := orAt (fitL p w l) k
def brk (p : Pz) (w : Nat → Nat) (l : Nat) : Bool := (fitL p w l).isEmpty
def brkSet (p : Pz) (w : Nat → Nat) : Nat := (List.range p.nL).foldl (fun s l => s ||| (if brk p w l then 1 <<< l else 0)) 0
