/-! what is left of a search: levels of a cell, the next thing, what cells can be
-/
set_option maxRecDepth 100000
def thgF (m a t : Nat) : List Nat := (List.range' t (m + 1 - t)).filter fun x => a.testBit x
theorem thgF_0 {m a : Nat} : thgF m a 0 = thg m a := by unfold thgF thg; rw [List.range_eq_range', Nat.sub_zero]
theorem thgF_end {m a : Nat} : thgF m a (m + 1) = [] := by unfold thgF; rw [Nat.sub_self]; rfl
theorem thgF_no {m a t : Nat} (ht : t ≤ m) (h : a.testBit t = false) : thgF m a t = thgF m a (t + 1) := by
  unfold thgF
  obtain ⟨k, hk⟩ : ∃ k, m + 1 - t = k + 1 := ⟨m - t, by omega⟩
  rw [hk, List.range'_succ, List.filter_cons_of_neg (by rw [h]; decide), show m + 1 - (t + 1) = k by omega]
theorem thgF_yes {m a t : Nat} (ht : t ≤ m) (h : a.testBit t = true) : thgF m a t = t :: thgF m a (t + 1) := by
  unfold thgF
  obtain ⟨k, hk⟩ : ∃ k, m + 1 - t = k + 1 := ⟨m - t, by omega⟩
  rw [hk, List.range'_succ, List.filter_cons_of_pos h, show m + 1 - (t + 1) = k by omega]
/-- the same lists, or the same up to order -/
def simL (ord : Bool) (a b : List (List Nat)) : Prop := a.Perm b ∧ (ord = true → a = b)
theorem simL.rf {ord : Bool} {a : List (List Nat)} : simL ord a a := ⟨List.Perm.refl _, fun _ => rfl⟩
theorem simL.of {ord : Bool} {a b : List (List Nat)} (e : a = b) : simL ord a b := by subst e; exact simL.rf
theorem simL.tr {ord : Bool} {a b c : List (List Nat)} (h : simL ord a b) (g : simL ord b c) : simL ord a c := ⟨h.1.trans g.1, fun o => (h.2 o).trans (g.2 o)⟩
theorem simL.sy {ord : Bool} {a b : List (List Nat)} (h : simL ord a b) : simL ord b a := ⟨h.1.symm, fun o => (h.2 o).symm⟩
theorem simL.ap {ord : Bool} {a b c d : List (List Nat)} (h : simL ord a b) (g : simL ord c d) : simL ord (a ++ c) (b ++ d) := ⟨h.1.append g.1, fun o => by rw [h.2 o, g.2 o]⟩
abbrev lvT : Type := Nat × Nat × (Nat → Nat)
def restV (p : Pz) : List lvT → List (List Nat)
  | [] => []
  | x :: r => splitL p x.2.2 x.1 (thgF p.m (x.2.2 x.1) x.2.1) ++ restV p r
def muV (m : Nat) : List lvT → Nat
  | [] => 0
  | x :: r => (m + 2 - x.2.1) * 7 ^ (25 - r.length) + muV m r
def uns (p : Pz) (u : Nat → Nat) : Nat := ((List.range (p.n * p.n)).map fun c => if pc (u c) = 1 then 0 else 1).sum
theorem uns_le {p : Pz} (hn : p.n = 4 ∨ p.n = 5) (u : Nat → Nat) : uns p u ≤ 25 := by
  have : uns p u ≤ ((List.range (p.n * p.n)).map fun _ => 1).sum := sum_le fun c _ => by split <;> decide
  rw [List.map_const', List.sum_replicate_nat, List.length_range] at this
  have := nn_le hn
  omega
theorem uns_pos {p : Pz} {u : Nat → Nat} {g : Nat} (hg : g < p.n * p.n) (h : pc (u g) ≠ 1) : 0 < uns p u := by
  have : ((List.range (p.n * p.n)).map fun _ => 0).sum < uns p u := sum_lt (fun c _ => Nat.zero_le _) ⟨g, List.mem_range.mpr hg, by rw [if_neg h]; decide⟩
  omega
theorem sub_single : ∀ a b : Fin 32, pc b.1 = 1 → a.1 &&& b.1 = a.1 → a.1 ≠ 0 → pc a.1 = 1 := by decide +kernel
theorem subB_and {a b : Nat} (h : subB a b) : a &&& b = a := by
  apply Nat.eq_of_testBit_eq
  intro i
  rw [Nat.testBit_and]
  cases q : a.testBit i with
  | false => rfl
  | true => rw [h i q]; rfl
theorem cell_row4 : ∀ c : Fin 16, cellN 4 (c.1 / 4) (c.1 % 4) = c.1 := by decide +kernel
theorem cell_row5 : ∀ c : Fin 25, cellN 5 (c.1 / 5) (c.1 % 5) = c.1 := by decide +kernel
theorem cell_row {n c : Nat} (hn : n = 4 ∨ n = 5) (hc : c < n * n) : cellN n (c / n) (c % n) = c ∧ c / n < n ∧ c % n < n := by
  refine ⟨?_, (Nat.div_lt_iff_lt_mul (by omega)).mpr hc, Nat.mod_lt _ (by omega)⟩
  rcases hn with rfl | rfl
  · exact cell_row4 ⟨c, hc⟩
  · exact cell_row5 ⟨c, hc⟩
theorem AC_ne {p : Pz} (hok : okNM p.n p.m) {u : Nat → Nat} (h : AC p u) {c : Nat} (hc : c < p.n * p.n) : u c ≠ 0 := by
  obtain ⟨e, h1, h2⟩ := cell_row hok.n45 hc
  have hL := nL_le hok
  obtain ⟨row, hr⟩ := brk_iff.mp (h (c / p.n) (by omega)).1
  have hf := (fit_iff.mp (mem_fitL.mp hr).2).1 _ h2
  rw [e] at hf
  intro z
  rw [z, Nat.zero_testBit] at hf
  cases hf
theorem pc_sh : ∀ t : Fin 5, pc (1 <<< t.1) = 1 := by decide +kernel
/-- a guess that does not break the board leaves fewer cells that are not settled -/
theorem uns_lt {p : Pz} (hok : okNM p.n p.m) {u u' : Nat → Nat} {g t : Nat} (hu : ∀ c, c < p.n * p.n → u c < 2 ^ (p.m + 1)) (hu' : ∀ c, c < p.n * p.n → u' c < 2 ^ (p.m + 1)) (hg : g < p.n * p.n) (ht : t ≤ p.m) (hp : pc (u g) ≠ 1) (hle : leW p u' (setC u g (1 <<< t))) (hac : AC p u') : uns p u' < uns p u := by
  have hm := hok.m24
  have h32 := pow_le hm.2.2
  have key : ∀ c, c < p.n * p.n → pc (setC u g (1 <<< t) c) = 1 → pc (u' c) = 1 := by
    intro c hc h
    have hb : setC u g (1 <<< t) c < 32 := by
      by_cases q : c = g
      · subst q; rw [setC_eq, Nat.one_shiftLeft]; exact Nat.pow_lt_pow_right (n := 5) (by decide) (by omega)
      · rw [setC_ne q]; exact Nat.lt_of_lt_of_le (hu c hc) h32
    exact sub_single ⟨u' c, Nat.lt_of_lt_of_le (hu' c hc) h32⟩ ⟨_, hb⟩ h (subB_and (hle c hc)) (AC_ne hok hac hc)
  refine sum_lt (fun c hc => ?_) ⟨g, List.mem_range.mpr hg, ?_⟩
  · have hc := List.mem_range.mp hc
    by_cases q : c = g
    · subst q
      rw [if_pos (key c hc (by rw [setC_eq]; exact pc_sh ⟨t, by omega⟩))]; exact Nat.zero_le _
    · by_cases q2 : pc (u c) = 1
      · rw [if_pos (key c hc (by rw [setC_ne q]; exact q2))]; exact Nat.zero_le _
      · rw [if_neg q2]; split <;> decide
  · rw [if_pos (key g hg (by rw [setC_eq]; exact pc_sh ⟨t, by omega⟩)), if_neg hp]; decide
theorem muV_step {m t t' len : Nat} (hm : m ≤ 4) (h1 : t ≤ t') (h2 : t' ≤ m) (hl : len ≤ 24) : (m + 2) * 7 ^ (25 - (len + 1)) + (m + 2 - (t' + 1)) * 7 ^ (25 - len) < (m + 2 - t) * 7 ^ (25 - len) := by
  have e : 25 - len = 25 - (len + 1) + 1 := by omega
  have hA : 0 < 7 ^ (25 - (len + 1)) := Nat.pow_pos (by decide)
  rw [e, Nat.pow_succ]
  generalize 7 ^ (25 - (len + 1)) = A at *
  have h3 : (m + 2 - (t' + 1) + 1) * (A * 7) ≤ (m + 2 - t) * (A * 7) := Nat.mul_le_mul_right _ (by omega)
  have h4 : (m + 2) * A ≤ 6 * A := Nat.mul_le_mul_right _ (by omega)
  rw [Nat.add_mul (m + 2 - (t' + 1)) 1] at h3
  omega
theorem muV_less {m t t' len : Nat} (h1 : t ≤ t') (h2 : t' ≤ m) : (m + 2 - (t' + 1)) * 7 ^ (25 - len) < (m + 2 - t) * 7 ^ (25 - len) :=
  Nat.mul_lt_mul_of_pos_right (by omega) (Nat.pow_pos (by decide))
theorem muV_pos {m t len : Nat} (h : t ≤ m + 1) : 0 < (m + 2 - t) * 7 ^ (25 - len) := Nat.mul_pos (by omega) (Nat.pow_pos (by decide))
