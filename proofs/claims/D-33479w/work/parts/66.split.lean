/-! solutions split at a cell -/
set_option maxRecDepth 100000
def thg (m a : Nat) : List Nat := (List.range (m + 1)).filter fun t => a.testBit t
theorem mem_thg {m a t : Nat} : t ∈ thg m a ↔ t ≤ m ∧ a.testBit t = true := by
  unfold thg
  rw [List.mem_filter, List.mem_range, Nat.lt_succ_iff]
theorem inV_set {p : Pz} {u : Nat → Nat} {v : List Nat} {g t : Nat} (hg : g < p.n * p.n) : inV p (setC u g (1 <<< t)) v = true ↔ v.getD g 0 = t ∧ ∀ c, c < p.n * p.n → c ≠ g → (u c).testBit (v.getD c 0) = true := by
  unfold inV
  rw [all_range]
  constructor
  · intro h
    refine ⟨?_, fun c hc hne => ?_⟩
    · have := h g hg
      rw [setC_eq, tbs] at this
      exact of_decide_eq_true this
    · have := h c hc
      rwa [setC_ne hne] at this
  · intro ⟨h1, h2⟩ c hc
    by_cases q : c = g
    · subst q; rw [setC_eq, tbs, h1]; simp
    · rw [setC_ne q]; exact h2 c hc q
def splitL (p : Pz) (u : Nat → Nat) (g : Nat) (ts : List Nat) : List (List Nat) := ts.flatMap fun t => sols p (setC u g (1 <<< t))
theorem mem_splitL {p : Pz} {u : Nat → Nat} {g : Nat} (hg : g < p.n * p.n) {v : List Nat} : v ∈ splitL p u g (thg p.m (u g)) ↔ v ∈ sols p u := by
  unfold splitL
  rw [List.mem_flatMap]
  constructor
  · rintro ⟨t, ht, hv⟩
    rw [mem_thg] at ht
    rw [mem_sols] at hv ⊢
    obtain ⟨h1, h2⟩ := (inV_set hg).mp hv.2.2
    refine ⟨hv.1, hv.2.1, ?_⟩
    unfold inV
    rw [all_range]
    intro c hc
    by_cases q : c = g
    · subst q; rw [h1]; exact ht.2
    · exact h2 c hc q
  · intro hv
    rw [mem_sols] at hv
    have hi := hv.2.2
    unfold inV at hi
    rw [all_range] at hi
    have hlen := mem_allV.mp hv.1
    refine ⟨v.getD g 0, ?_, ?_⟩
    · rw [mem_thg]
      exact ⟨getD_le (fun t ht => Nat.le_of_lt_succ (hlen.2 t ht)) g, hi g hg⟩
    · rw [mem_sols]
      exact ⟨hv.1, hv.2.1, (inV_set hg).mpr ⟨rfl, fun c hc _ => hi c hc⟩⟩
theorem splitL_nodup {p : Pz} {u : Nat → Nat} {g : Nat} (hg : g < p.n * p.n) {ts : List Nat} (h : ts.Nodup) : (splitL p u g ts).Nodup := by
  unfold splitL List.Nodup
  rw [List.pairwise_flatMap]
  refine ⟨fun t _ => sols_nodup, h.imp fun hne v hv w hw e => ?_⟩
  subst e
  have h1 := ((inV_set hg).mp (mem_sols.mp hv).2.2).1
  have h2 := ((inV_set hg).mp (mem_sols.mp hw).2.2).1
  exact hne (h1.symm.trans h2)
theorem sols_split {p : Pz} {u : Nat → Nat} {g : Nat} (hg : g < p.n * p.n) : (splitL p u g (thg p.m (u g))).Perm (sols p u) := by
  refine (List.perm_ext_iff_of_nodup (splitL_nodup hg ?_) sols_nodup).mpr fun v => mem_splitL hg
  exact List.nodup_range.filter _
/-- ahead of another one: at the first place where they are different -/
def lexV (v w : List Nat) : Prop := ∃ c, v.getD c 0 < w.getD c 0 ∧ ∀ d, d < c → v.getD d 0 = w.getD d 0
theorem lexV_asymm {v w : List Nat} (h : lexV v w) (h' : lexV w v) : False := by
  obtain ⟨c, h1, h2⟩ := h
  obtain ⟨d, h3, h4⟩ := h'
  rcases Nat.lt_trichotomy c d with q | q | q
  · have := h4 c q; omega
  · subst q; omega
  · have := h2 d q; omega
theorem allV_lex {b : Nat} : ∀ k, (allV b k).Pairwise lexV := by
  intro k
  induction k with
  | zero => exact List.pairwise_singleton _ _
  | succ k ih =>
    show ((List.range b).flatMap _).Pairwise lexV
    rw [List.pairwise_flatMap]
    refine ⟨fun t _ => ?_, ?_⟩
    · rw [List.pairwise_map]
      refine ih.imp fun h => ?_
      obtain ⟨c, h1, h2⟩ := h
      refine ⟨c + 1, h1, fun d hd => ?_⟩
      cases d with
      | zero => rfl
      | succ d => exact h2 d (by omega)
    · refine List.pairwise_lt_range.imp fun h v hv w hw => ?_
      obtain ⟨a, _, rfl⟩ := List.mem_map.mp hv
      obtain ⟨c, _, rfl⟩ := List.mem_map.mp hw
      exact ⟨0, h, fun d hd => absurd hd (Nat.not_lt_zero _)⟩
theorem sols_lex {p : Pz} {u : Nat → Nat} : (sols p u).Pairwise lexV := (allV_lex _).filter _
/-- cells ahead are single things: the split is the list itself -/
theorem sols_first {p : Pz} (hok : okNM p.n p.m) {u : Nat → Nat} {g : Nat} (hg : g < p.n * p.n) (hu : ∀ c, c < p.n * p.n → u c < 2 ^ (p.m + 1)) (h1 : ∀ c, c < g → pc (u c) = 1) : splitL p u g (thg p.m (u g)) = sols p u := by
  have hm := hok.m24
  have h32 := pow_le hm.2.2
  refine List.Perm.eq_of_pairwise (le := lexV) (fun a b _ _ h h' => (lexV_asymm h h').elim) ?_ sols_lex (sols_split hg)
  unfold splitL
  rw [List.pairwise_flatMap]
  refine ⟨fun t _ => sols_lex, ?_⟩
  have hthg : (thg p.m (u g)).Pairwise (· < ·) := List.pairwise_lt_range.filter _
  refine hthg.imp fun hlt v hv w hw => ?_
  obtain ⟨a1, a2⟩ := (inV_set hg).mp (mem_sols.mp hv).2.2
  obtain ⟨b1, b2⟩ := (inV_set hg).mp (mem_sols.mp hw).2.2
  refine ⟨g, by omega, fun d hd => ?_⟩
  have hdn : d < p.n * p.n := by omega
  have c1 := a2 d hdn (by omega)
  have c2 := b2 d hdn (by omega)
  have k1 := bit_le (hu d hdn) c1
  have k2 := bit_le (hu d hdn) c2
  have := pc_one ⟨u d, Nat.lt_of_lt_of_le (hu d hdn) h32⟩ ⟨v.getD d 0, by omega⟩ ⟨w.getD d 0, by omega⟩ (h1 d hd) c1 c2
  exact congrArg Fin.val this
