/-! solutions: all boards of single things that are consistent
-/
set_option maxRecDepth 100000
def allV (b : Nat) : Nat → List (List Nat)
  | 0 => [[]]
  | k + 1 => (List.range b).flatMap fun t => (allV b k).map fun v => t :: v
theorem mem_allV {b : Nat} : ∀ {k : Nat} {v : List Nat}, v ∈ allV b k ↔ v.length = k ∧ ∀ t ∈ v, t < b := by
  intro k
  induction k with
  | zero =>
    intro v
    show v ∈ [[]] ↔ _
    rw [List.mem_singleton]
    constructor
    · rintro rfl; exact ⟨rfl, fun t h => by cases h⟩
    · intro ⟨h, _⟩; exact List.length_eq_zero_iff.mp h
  | succ k ih =>
    intro v
    show v ∈ (List.range b).flatMap _ ↔ _
    rw [List.mem_flatMap]
    constructor
    · rintro ⟨t, ht, hv⟩
      obtain ⟨w, hw, rfl⟩ := List.mem_map.mp hv
      obtain ⟨h1, h2⟩ := ih.mp hw
      refine ⟨by rw [List.length_cons, h1], fun x hx => ?_⟩
      rcases List.mem_cons.mp hx with rfl | hx
      · exact List.mem_range.mp ht
      · exact h2 x hx
    · intro ⟨h1, h2⟩
      cases v with
      | nil => cases h1
      | cons t w =>
        exact ⟨t, List.mem_range.mpr (h2 t List.mem_cons_self), List.mem_map.mpr ⟨w, ih.mpr ⟨by simpa using h1, fun x hx => h2 x (List.mem_cons_of_mem _ hx)⟩, rfl⟩⟩
def rowV (n : Nat) (v : List Nat) (l : Nat) : List Nat := (List.range n).map fun k => v.getD (cellN n l k) 0
/-- each line has an arrangement, as the tellings say -/
def okV (p : Pz) (v : List Nat) : Bool := (List.range p.nL).all fun l => (arrs p.n p.m).contains (rowV p.n v l) && p.says l (rowV p.n v l)
def inV (p : Pz) (u : Nat → Nat) (v : List Nat) : Bool := (List.range (p.n * p.n)).all fun c => (u c).testBit (v.getD c 0)
def sols (p : Pz) (u : Nat → Nat) : List (List Nat) := (allV (p.m + 1) (p.n * p.n)).filter fun v => okV p v && inV p u v
theorem mem_sols {p : Pz} {u : Nat → Nat} {v : List Nat} : v ∈ sols p u ↔ v ∈ allV (p.m + 1) (p.n * p.n) ∧ okV p v = true ∧ inV p u v = true := by
  unfold sols
  rw [List.mem_filter, Bool.and_eq_true]
def singV (v : List Nat) : Nat → Nat := fun c => 1 <<< v.getD c 0
theorem rowV_get {n k l : Nat} {v : List Nat} (hk : k < n) : (rowV n v l).getD k 0 = v.getD (cellN n l k) 0 := by
  unfold rowV
  rw [List.getD_eq_getElem?_getD, List.getElem?_map, List.getElem?_range hk]
  rfl
theorem sing_fit {p : Pz} {v : List Nat} {l : Nat} (h : okV p v = true) (hl : l < p.nL) : rowV p.n v l ∈ fitL p (singV v) l := by
  unfold okV at h
  rw [all_range] at h
  have h1 := h l hl
  rw [Bool.and_eq_true] at h1
  refine mem_fitL.mpr ⟨by simpa using h1.1, fit_iff.mpr ⟨fun k hk => ?_, h1.2⟩⟩
  rw [rowV_get hk]
  unfold singV
  rw [tbs]; simp
theorem sing_AC {p : Pz} {v : List Nat} (h : okV p v = true) : AC p (singV v) := by
  intro l hl
  have hf := sing_fit h hl
  refine ⟨brk_iff.mpr ⟨_, hf⟩, fun k hk t ht => poss_bit.mpr ⟨_, hf, ?_⟩⟩
  unfold singV at ht
  rw [tbs] at ht
  rw [rowV_get hk]
  exact (of_decide_eq_true ht).symm
theorem sing_le {p : Pz} {u : Nat → Nat} {v : List Nat} (h : inV p u v = true) : leW p (singV v) u := by
  intro c hc t ht
  unfold inV at h
  rw [all_range] at h
  unfold singV at ht
  rw [tbs] at ht
  rw [of_decide_eq_true ht]
  exact h c hc
theorem inV_mono {p : Pz} {u u' : Nat → Nat} {v : List Nat} (h : leW p u u') (hv : inV p u v = true) : inV p u' v = true := by
  unfold inV at hv ⊢
  rw [all_range] at hv ⊢
  exact fun c hc => h c hc _ (hv c hc)
theorem inV_of_sing {p : Pz} {u : Nat → Nat} {v : List Nat} (h : leW p (singV v) u) : inV p u v = true := by
  unfold inV
  rw [all_range]
  intro c hc
  refine h c hc _ ?_
  unfold singV
  rw [tbs]; simp
/-- closing keeps the solutions -/
theorem sols_close {p : Pz} {u u' : Nat → Nat} (hle : leW p u' u) (hk : ∀ v, AC p v → leW p v u → leW p v u') : sols p u' = sols p u := by
  unfold sols
  apply List.filter_congr
  intro v _
  rw [Bool.eq_iff_iff, Bool.and_eq_true, Bool.and_eq_true]
  constructor
  · intro ⟨h1, h2⟩; exact ⟨h1, inV_mono hle h2⟩
  · intro ⟨h1, h2⟩; exact ⟨h1, inV_of_sing (hk _ (sing_AC h1) (sing_le h2))⟩
theorem sols_dead {p : Pz} {u : Nat → Nat} (h : ¬ live p u) : sols p u = [] := by
  rw [List.eq_nil_iff_forall_not_mem]
  intro v hv
  have hv := mem_sols.mp hv
  exact h ⟨singV v, sing_le hv.2.2, sing_AC hv.2.1⟩
theorem allV_nodup {b : Nat} : ∀ k, (allV b k).Nodup := by
  intro k
  induction k with
  | zero => exact List.pairwise_singleton _ _
  | succ k ih =>
    show ((List.range b).flatMap _).Nodup
    unfold List.Nodup
    rw [List.pairwise_flatMap]
    refine ⟨fun t _ => ?_, ?_⟩
    · rw [List.pairwise_map]
      exact ih.imp fun h e => h (List.cons.inj e).2
    · refine List.nodup_range.imp fun h v hv w hw e => ?_
      obtain ⟨a, _, rfl⟩ := List.mem_map.mp hv
      obtain ⟨c, _, rfl⟩ := List.mem_map.mp hw
      exact h (List.cons.inj e).1
theorem sols_nodup {p : Pz} {u : Nat → Nat} : (sols p u).Nodup := (allV_nodup _).filter _
theorem only_bit : ∀ a : Fin 32, pc a.1 = 1 → a.1.testBit (onlyN a.1) = true ∧ onlyN a.1 < 5 ∧ ∀ t : Fin 5, a.1.testBit t.1 = true → t.1 = onlyN a.1 := by decide +kernel
theorem eq_singleton {α : Type} {L : List α} {a : α} (hn : L.Nodup) (h : ∀ x, x ∈ L ↔ x = a) : L = [a] := by
  cases L with
  | nil => have := (h a).mpr rfl; cases this
  | cons x L =>
    have hx := (h x).mp List.mem_cons_self
    subst hx
    cases L with
    | nil => rfl
    | cons y L =>
      have hy := (h y).mp (List.mem_cons_of_mem _ List.mem_cons_self)
      subst hy
      have := (List.nodup_cons.mp hn).1
      exact absurd List.mem_cons_self this
def vOf (p : Pz) (u : Nat → Nat) : List Nat := (List.range (p.n * p.n)).map fun c => onlyN (u c)
theorem vOf_get {p : Pz} {u : Nat → Nat} {c : Nat} (hc : c < p.n * p.n) : (vOf p u).getD c 0 = onlyN (u c) := by
  unfold vOf
  rw [List.getD_eq_getElem?_getD, List.getElem?_map, List.getElem?_range hc]
  rfl
theorem list_ext_getD {a b : List Nat} {n : Nat} (ha : a.length = n) (hb : b.length = n) (h : ∀ k, k < n → a.getD k 0 = b.getD k 0) : a = b := by
  apply List.ext_getElem (ha.trans hb.symm)
  intro k h1 h2
  have := h k (by omega)
  rw [List.getD_eq_getElem?_getD, List.getElem?_eq_getElem h1, List.getD_eq_getElem?_getD, List.getElem?_eq_getElem h2] at this
  exact this
theorem bit_le {m a t : Nat} (h : a < 2 ^ (m + 1)) (ht : a.testBit t = true) : t ≤ m := by
  rcases Nat.lt_or_ge m t with q | q
  · have := Nat.testBit_lt_two_pow (Nat.lt_of_lt_of_le h (Nat.pow_le_pow_right (n := 2) (by decide) (by omega : m + 1 ≤ t)))
    rw [this] at ht; cases ht
  · exact q
/-- a settled board without broken lines is one solution -/
theorem sols_done {p : Pz} (hok : okNM p.n p.m) {u : Nat → Nat} (hu : ∀ c, c < p.n * p.n → u c < 2 ^ (p.m + 1)) (h1 : ∀ c, c < p.n * p.n → pc (u c) = 1) (hb : ∀ l, l < p.nL → brk p u l = false) : sols p u = [vOf p u] := by
  have hn := hok.n45
  have hm := hok.m24
  have hL := nL_le hok
  have h32 := pow_le hm.2.2
  have hob : ∀ c, c < p.n * p.n → (u c).testBit (onlyN (u c)) = true ∧ ∀ t, (u c).testBit t = true → t = onlyN (u c) := by
    intro c hc
    obtain ⟨a1, a2, a3⟩ := only_bit ⟨u c, Nat.lt_of_lt_of_le (hu c hc) h32⟩ (h1 c hc)
    refine ⟨a1, fun t ht => ?_⟩
    have := bit_le (hu c hc) ht
    exact a3 ⟨t, by omega⟩ ht
  apply eq_singleton sols_nodup
  intro v
  rw [mem_sols, mem_allV]
  constructor
  · intro ⟨⟨hl, _⟩, _, hv⟩
    unfold inV at hv
    rw [all_range] at hv
    refine list_ext_getD hl (by unfold vOf; rw [List.length_map, List.length_range]) fun c hc => ?_
    rw [vOf_get hc]
    exact (hob c hc).2 _ (hv c hc)
  · rintro rfl
    refine ⟨⟨by unfold vOf; rw [List.length_map, List.length_range], fun t ht => ?_⟩, ?_, ?_⟩
    · unfold vOf at ht
      obtain ⟨c, hc, rfl⟩ := List.mem_map.mp ht
      have hc := List.mem_range.mp hc
      have := bit_le (hu c hc) (hob c hc).1
      omega
    · unfold okV
      rw [all_range]
      intro l hl
      obtain ⟨row, hr⟩ := brk_iff.mp (hb l hl)
      have hr2 := mem_fitL.mp hr
      have hf := fit_iff.mp hr2.2
      have e : rowV p.n (vOf p u) l = row := by
        refine list_ext_getD (n := p.n) (by unfold rowV; rw [List.length_map, List.length_range]) (arrs_row hok hr2.1).1 fun k hk => ?_
        have hc := cellN_lt hn (by omega : l < 2 * p.n + 2) hk
        rw [rowV_get hk, vOf_get hc]
        exact ((hob _ hc).2 _ (hf.1 k hk)).symm
      rw [e, Bool.and_eq_true]
      exact ⟨by simpa using hr2.1, hf.2⟩
    · unfold inV
      rw [all_range]
      intro c hc
      rw [vOf_get hc]
      exact (hob c hc).1
