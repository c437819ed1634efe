/-! consistent lines: the plain law of closing -/
set_option maxRecDepth 100000
def subB (a b : Nat) : Prop := ∀ t, a.testBit t = true → b.testBit t = true
def leW (p : Pz) (v u : Nat → Nat) : Prop := ∀ c, c < p.n * p.n → subB (v c) (u c)
def ACl (p : Pz) (u : Nat → Nat) (l : Nat) : Prop := brk p u l = false ∧ ∀ k, k < p.n → subB (u (cellN p.n l k)) (poss p u l k)
def AC (p : Pz) (u : Nat → Nat) : Prop := ∀ l, l < p.nL → ACl p u l
def live (p : Pz) (u : Nat → Nat) : Prop := ∃ v, leW p v u ∧ AC p v
theorem subB.rf {a : Nat} : subB a a := fun _ h => h
theorem subB.trans {a b c : Nat} (h : subB a b) (g : subB b c) : subB a c := fun t q => g t (h t q)
theorem leW.rf {p : Pz} {u : Nat → Nat} : leW p u u := fun _ _ => subB.rf
theorem leW.trans {p : Pz} {a b c : Nat → Nat} (h : leW p a b) (g : leW p b c) : leW p a c := fun x hx => (h x hx).trans (g x hx)
theorem fit_iff {p : Pz} {u : Nat → Nat} {l : Nat} {row : List Nat} : fit p u l row = true ↔ (∀ k, k < p.n → (u (cellN p.n l k)).testBit (row.getD k 0) = true) ∧ p.says l row = true := by
  unfold fit; rw [Bool.and_eq_true, all_range]
theorem fit_mono {p : Pz} {u v : Nat → Nat} {l : Nat} {row : List Nat} (hl : ∀ k, k < p.n → subB (v (cellN p.n l k)) (u (cellN p.n l k))) (h : fit p v l row = true) : fit p u l row = true := by
  rw [fit_iff] at h ⊢
  exact ⟨fun k hk => hl k hk _ (h.1 k hk), h.2⟩
theorem mem_fitL {p : Pz} {u : Nat → Nat} {l : Nat} {row : List Nat} : row ∈ fitL p u l ↔ row ∈ arrs p.n p.m ∧ fit p u l row = true := by unfold fitL; exact List.mem_filter
theorem poss_bit {p : Pz} {u : Nat → Nat} {l k t : Nat} : (poss p u l k).testBit t = true ↔ ∃ row ∈ fitL p u l, row.getD k 0 = t := by
  unfold poss
  rw [orAt_bit, List.any_eq_true]
  simp only [beq_iff_eq]
theorem poss_mono {p : Pz} {u v : Nat → Nat} {l : Nat} (hl : ∀ k, k < p.n → subB (v (cellN p.n l k)) (u (cellN p.n l k))) (k : Nat) : subB (poss p v l k) (poss p u l k) := by
  intro t h
  rw [poss_bit] at h ⊢
  obtain ⟨row, h1, h2⟩ := h
  rw [mem_fitL] at h1
  exact ⟨row, mem_fitL.mpr ⟨h1.1, fit_mono hl h1.2⟩, h2⟩
theorem brk_iff {p : Pz} {u : Nat → Nat} {l : Nat} : brk p u l = false ↔ ∃ row, row ∈ fitL p u l := by
  unfold brk
  cases h : fitL p u l with
  | nil => simp
  | cons a b => simp only [List.isEmpty_cons]; exact ⟨fun _ => ⟨a, List.mem_cons_self⟩, fun _ => trivial⟩
theorem brk_mono {p : Pz} {u v : Nat → Nat} {l : Nat} (hl : ∀ k, k < p.n → subB (v (cellN p.n l k)) (u (cellN p.n l k))) (h : brk p v l = false) : brk p u l = false := by
  rw [brk_iff] at h ⊢
  obtain ⟨row, h1⟩ := h
  rw [mem_fitL] at h1
  exact ⟨row, mem_fitL.mpr ⟨h1.1, fit_mono hl h1.2⟩⟩
theorem fitL_congr {p : Pz} {u v : Nat → Nat} {l : Nat} (hl : ∀ k, k < p.n → v (cellN p.n l k) = u (cellN p.n l k)) : fitL p v l = fitL p u l := by
  unfold fitL
  apply List.filter_congr
  intro row _
  rw [Bool.eq_iff_iff, fit_iff, fit_iff]
  constructor
  · intro ⟨h1, h2⟩; exact ⟨fun k hk => by rw [← hl k hk]; exact h1 k hk, h2⟩
  · intro ⟨h1, h2⟩; exact ⟨fun k hk => by rw [hl k hk]; exact h1 k hk, h2⟩
theorem ACl_congr {p : Pz} {u v : Nat → Nat} {l : Nat} (hl : ∀ k, k < p.n → v (cellN p.n l k) = u (cellN p.n l k)) (h : ACl p u l) : ACl p v l := by
  unfold ACl brk poss at h ⊢
  rw [fitL_congr hl]
  exact ⟨h.1, fun k hk => by rw [hl k hk]; exact h.2 k hk⟩
theorem cell_inj4 : ∀ (l : Fin 10) (j k : Fin 4), cellN 4 l.1 j.1 = cellN 4 l.1 k.1 → j = k := by decide +kernel
theorem cell_inj5 : ∀ (l : Fin 12) (j k : Fin 5), cellN 5 l.1 j.1 = cellN 5 l.1 k.1 → j = k := by decide +kernel
theorem cell_inj {n l j k : Nat} (hn : n = 4 ∨ n = 5) (hl : l < 2 * n + 2) (hj : j < n) (hk : k < n) (h : cellN n l j = cellN n l k) : j = k := by
  rcases hn with rfl | rfl
  · exact congrArg Fin.val (cell_inj4 ⟨l, hl⟩ ⟨j, hj⟩ ⟨k, hk⟩ h)
  · exact congrArg Fin.val (cell_inj5 ⟨l, hl⟩ ⟨j, hj⟩ ⟨k, hk⟩ h)
/-- u' is u where the cells of line l are cut -/
def isCut (p : Pz) (u u' : Nat → Nat) (l : Nat) : Prop := (∀ k, k < p.n → u' (cellN p.n l k) = u (cellN p.n l k) &&& poss p u l k) ∧ ∀ c, c < p.n * p.n → (∀ k, k < p.n → cellN p.n l k ≠ c) → u' c = u c
theorem subB_and_l {a b : Nat} : subB (a &&& b) a := by intro t h; rw [Nat.testBit_and, Bool.and_eq_true] at h; exact h.1
theorem subB_and_r {a b : Nat} : subB (a &&& b) b := by intro t h; rw [Nat.testBit_and, Bool.and_eq_true] at h; exact h.2
theorem isCut.le {p : Pz} {u u' : Nat → Nat} {l : Nat} (h : isCut p u u' l) : leW p u' u := by
  intro c hc
  by_cases q : ∃ k, k < p.n ∧ cellN p.n l k = c
  · obtain ⟨k, hk, rfl⟩ := q
    rw [h.1 k hk]; exact subB_and_l
  · rw [h.2 c hc fun k hk e => q ⟨k, hk, e⟩]; exact subB.rf
theorem lineLe {p : Pz} (hok : okNM p.n p.m) {u v : Nat → Nat} (h : leW p v u) {l : Nat} (hl : l < p.nL) : ∀ k, k < p.n → subB (v (cellN p.n l k)) (u (cellN p.n l k)) := fun k hk => h _ (cellN_lt hok.n45 (by have := nL_le hok; omega) hk)
theorem isCut.keep {p : Pz} (hok : okNM p.n p.m) {u u' v : Nat → Nat} {l : Nat} (hl : l < p.nL) (h : isCut p u u' l) (hv : AC p v) (hle : leW p v u) : leW p v u' := by
  intro c hc
  by_cases q : ∃ k, k < p.n ∧ cellN p.n l k = c
  · obtain ⟨k, hk, rfl⟩ := q
    rw [h.1 k hk]
    intro t ht
    rw [Nat.testBit_and, Bool.and_eq_true]
    exact ⟨hle _ hc t ht, poss_mono (lineLe hok hle hl) k t ((hv l hl).2 k hk t ht)⟩
  · rw [h.2 c hc fun k hk e => q ⟨k, hk, e⟩]; exact hle c hc
theorem isCut.own {p : Pz} {u u' : Nat → Nat} {l : Nat} (h : isCut p u u' l) (hb : brk p u l = false) : ACl p u' l := by
  have hfit : ∀ row, row ∈ fitL p u l → row ∈ fitL p u' l := by
    intro row hr
    have hr2 := mem_fitL.mp hr
    have hf := fit_iff.mp hr2.2
    refine mem_fitL.mpr ⟨hr2.1, fit_iff.mpr ⟨fun k hk => ?_, hf.2⟩⟩
    rw [h.1 k hk, Nat.testBit_and, Bool.and_eq_true]
    exact ⟨hf.1 k hk, poss_bit.mpr ⟨row, hr, rfl⟩⟩
  refine ⟨?_, fun k hk t ht => ?_⟩
  · rw [brk_iff] at hb ⊢
    obtain ⟨row, hr⟩ := hb
    exact ⟨row, hfit row hr⟩
  · rw [h.1 k hk, Nat.testBit_and, Bool.and_eq_true] at ht
    obtain ⟨row, hr, e⟩ := poss_bit.mp ht.2
    exact poss_bit.mpr ⟨row, hfit row hr, e⟩
theorem dead_of {p : Pz} (hok : okNM p.n p.m) {u u0 : Nat → Nat} (hk : ∀ v, AC p v → leW p v u0 → leW p v u) {l : Nat} (hl : l < p.nL) (hb : brk p u l = true) : ¬ live p u0 := by
  rintro ⟨v, h1, h2⟩
  have := brk_mono (lineLe hok (hk v h2 h1) hl) (h2 l hl).1
  rw [this] at hb; cases hb
/-- how much is left to do -/
def bitsN (n : Nat) (u : Nat → Nat) : Nat := ((List.range (n * n)).map fun c => pc (u c)).sum
def pcL (s : Nat) : Nat := ((List.range 12).map fun l => (s.testBit l).toNat).sum
theorem pc_and : ∀ a b : Fin 32, pc (a.1 &&& b.1) ≤ pc a.1 ∧ (a.1 &&& b.1 ≠ a.1 → pc (a.1 &&& b.1) < pc a.1) := by decide +kernel
theorem sum_le {f g : Nat → Nat} : ∀ {L : List Nat}, (∀ x ∈ L, f x ≤ g x) → (L.map f).sum ≤ (L.map g).sum := by
  intro L
  induction L with
  | nil => intro _; exact Nat.le_refl _
  | cons a L ih =>
    intro h
    rw [List.map_cons, List.map_cons, List.sum_cons, List.sum_cons]
    exact Nat.add_le_add (h a List.mem_cons_self) (ih fun x hx => h x (List.mem_cons_of_mem _ hx))
theorem sum_lt {f g : Nat → Nat} : ∀ {L : List Nat}, (∀ x ∈ L, f x ≤ g x) → (∃ x ∈ L, f x < g x) → (L.map f).sum < (L.map g).sum := by
  intro L
  induction L with
  | nil => intro _ ⟨x, hx, _⟩; cases hx
  | cons a L ih =>
    intro h ⟨x, hx, hlt⟩
    rw [List.map_cons, List.map_cons, List.sum_cons, List.sum_cons]
    have h2 : ∀ x ∈ L, f x ≤ g x := fun x hx => h x (List.mem_cons_of_mem _ hx)
    rcases List.mem_cons.mp hx with rfl | hx
    · exact Nat.add_lt_add_of_lt_of_le hlt (sum_le h2)
    · exact Nat.add_lt_add_of_le_of_lt (h a List.mem_cons_self) (ih h2 ⟨x, hx, hlt⟩)
theorem pcL_le (s : Nat) : pcL s ≤ 12 := by
  have : pcL s ≤ ((List.range 12).map fun _ => 1).sum := sum_le fun x _ => by cases s.testBit x <;> decide
  exact this
theorem pcL_clr {s l : Nat} (hl : l < 12) (hb : s.testBit l = true) : pcL (clr s l) < pcL s := by
  apply sum_lt
  · intro x _
    rw [clr_bit]
    cases s.testBit x <;> by_cases h : x = l <;> simp [h]
  · refine ⟨l, List.mem_range.mpr hl, ?_⟩
    rw [clr_bit, hb]; simp
