/-! the component's reasons, filling, rows: they say the same
-/
set_option maxRecDepth 100000
theorem pc_setB_aux : ∀ (n : Fin 6) (s : Fin 32), s.1 < 2 ^ n.1 → pc s.1 = sumB (fun k => s.1.testBit k) n.1 := by decide +kernel
theorem sumB_congr {f g : Nat → Bool} : ∀ {N : Nat}, (∀ k, k < N → f k = g k) → sumB f N = sumB g N := by
  intro N
  induction N with
  | zero => intro _; rfl
  | succ N ih => intro h; rw [sumB_succ, sumB_succ, ih fun k hk => h k (by omega), h N (by omega)]
theorem pc_setB {f : Nat → Bool} {N : Nat} (hN : N ≤ 5) : pc (setB f N) = sumB f N := by
  have h1 := setB_lt f N
  have h2 : 2 ^ N ≤ 32 := Nat.pow_le_pow_right (n := 2) (by decide) hN
  rw [pc_setB_aux ⟨N, by omega⟩ ⟨setB f N, by omega⟩ h1]
  exact sumB_congr fun k hk => by rw [setB_bit, decide_eq_true hk, Bool.true_and]
theorem anyB_congr {f g : Nat → Bool} {N : Nat} (h : ∀ k, k < N → f k = g k) : anyB f N = anyB g N := by
  rw [Bool.eq_iff_iff, anyB_iff, anyB_iff]
  exact ⟨fun ⟨k, h1, h2⟩ => ⟨k, h1, by rw [← h k h1]; exact h2⟩, fun ⟨k, h1, h2⟩ => ⟨k, h1, by rw [h k h1]; exact h2⟩⟩
def gapC (n m : Nat) : Bool := (arrs n m).all fun r => r.count m == n - m
theorem gapC_42 : gapC 4 2 = true := by decide +kernel
theorem gapC_43 : gapC 4 3 = true := by decide +kernel
theorem gapC_52 : gapC 5 2 = true := by decide +kernel
theorem gapC_53 : gapC 5 3 = true := by decide +kernel
theorem gapC_54 : gapC 5 4 = true := by decide +kernel
theorem arrs_gaps {n m : Nat} (h : okNM n m) {row : List Nat} (hr : row ∈ arrs n m) : row.count m = n - m := by
  have : gapC n m = true := by
    rcases h with ⟨rfl, rfl | rfl⟩ | ⟨rfl, rfl | rfl | rfl⟩
    · exact gapC_42
    · exact gapC_43
    · exact gapC_52
    · exact gapC_53
    · exact gapC_54
  simpa using List.all_eq_true.mp this row hr
theorem count_sumB {m : Nat} : ∀ {row : List Nat}, row.count m = sumB (fun j => row.getD j 0 == m) row.length := by
  intro row
  have : ∀ k, k ≤ row.length → (row.take k).count m = sumB (fun j => row.getD j 0 == m) k := by
    intro k
    induction k with
    | zero => intro _; rfl
    | succ k ih =>
      intro hk
      rw [take_succ_getD (by omega), List.count_append, ih (by omega), sumB_succ, List.count_singleton]
      cases row.getD k 0 == m <;> rfl
  have h := this row.length (Nat.le_refl _)
  rwa [List.take_length] at h
theorem sumB_le_of {f g : Nat → Bool} : ∀ {N : Nat}, (∀ k, k < N → f k = true → g k = true) → sumB f N ≤ sumB g N := by
  intro N
  induction N with
  | zero => intro _; exact Nat.le_refl _
  | succ N ih =>
    intro h
    rw [sumB_succ, sumB_succ]
    have := ih fun k hk => h k (by omega)
    have h2 := h N (by omega)
    cases hf : f N with
    | false => simp only [Bool.toNat_false]; omega
    | true => rw [h2 hf]; simp only [Bool.toNat_true]; omega
theorem sumB_zero {f : Nat → Bool} {N : Nat} : sumB f N = 0 ↔ ∀ k, k < N → f k = false := by
  induction N with
  | zero => simp [sumB]
  | succ N ih =>
    rw [sumB_succ]
    constructor
    · intro h k hk
      have h1 : sumB f N = 0 := by omega
      rcases Nat.lt_or_ge k N with q | q
      · exact ih.mp h1 k q
      · have : k = N := by omega
        subst this
        cases hf : f k with
        | false => rfl
        | true => rw [hf] at h; simp at h
    · intro h
      rw [ih.mpr fun k hk => h k (by omega), h N (by omega)]; rfl
/-- one place left out -/
theorem sumB_but {f : Nat → Bool} {N j : Nat} (hj : j < N) : sumB f N = sumB (fun k => f k && decide (k ≠ j)) N + (f j).toNat := by
  induction N with
  | zero => omega
  | succ N ih =>
    rw [sumB_succ, sumB_succ]
    rcases Nat.lt_or_ge j N with q | q
    · have hne : N ≠ j := by omega
      rw [ih q, decide_eq_true hne, Bool.and_true]; omega
    · have : j = N := by omega
      subst this
      have e : sumB (fun k => f k && decide (k ≠ j)) j = sumB f j := sumB_congr fun k hk => by
        have : k ≠ j := by omega
        rw [decide_eq_true this, Bool.and_true]
      rw [e]
      simp
def stwN (p : Pz) (u : Nat → Nat) (l t c : Nat) : Nat := setB (othB p u l c t true) p.n
def hasO (p : Pz) (u : Nat → Nat) (l k t : Nat) : Bool := anyB (fun a => a != t && plcN p u l a == 1 <<< k) p.m
def byG (p : Pz) (u : Nat → Nat) (l k c t : Nat) : Bool := if t = p.m then pc (stwN p u l t c) == p.n - p.m else (plcN p u l p.m).testBit k && pc (plcN p u l p.m) == p.n - p.m
theorem cell_ne {p : Pz} (hok : okNM p.n p.m) {l j k : Nat} (hl : l < p.nL) (hj : j < p.n) (hk : k < p.n) : (cellN p.n l j != cellN p.n l k) = decide (j ≠ k) := by
  have hL := nL_le hok
  by_cases q : j = k
  · subst q; simp
  · have : cellN p.n l j ≠ cellN p.n l k := fun e => q (cell_inj hok.n45 (by omega) hj hk e)
    simp [q, this]
theorem hasO_eq {p : Pz} (hok : okNM p.n p.m) {u : Nat → Nat} {l k t : Nat} (hl : l < p.nL) (hk : k < p.n) (hb : brk p u l = false) : hasO p u l k t = anyB (r2B p u l (cellN p.n l k) t) p.m := by
  apply anyB_congr
  intro a ha
  unfold r2B
  congr 1
  rw [Bool.eq_iff_iff, beq_iff_eq, beq_iff_eq]
  unfold othN
  rw [sumB_zero]
  have ho : ∀ j, j < p.n → (othB p u l (cellN p.n l k) a false j = false ↔ (j ≠ k → (u (cellN p.n l j)).testBit a = false)) := by
    intro j hj
    unfold othB
    rw [cell_ne hok hl hj hk]
    by_cases q : j = k
    · simp [q]
    · simp [q]
  have hpl : ∀ j, (plcN p u l a).testBit j = (decide (j < p.n) && (u (cellN p.n l j)).testBit a) := fun j => setB_bit _ _ _
  constructor
  · intro e j hj
    rw [ho j hj]
    intro hne
    have := hpl j
    rw [e, tbs, decide_eq_true hj, Bool.true_and, decide_eq_false hne] at this
    exact this.symm
  · intro h
    apply Nat.eq_of_testBit_eq
    intro j
    rw [hpl, tbs]
    by_cases hj : j < p.n
    · rw [decide_eq_true hj, Bool.true_and]
      by_cases q : j = k
      · subst q
        rw [decide_eq_true rfl]
        obtain ⟨row, hr⟩ := brk_iff.mp hb
        have hm := mem_fitL.mp hr
        have hrow := arrs_row hok hm.1
        have hin : a ∈ row := List.count_pos_iff.mp (by rw [hrow.2.2 a ha]; decide)
        obtain ⟨i, hi, e⟩ := List.mem_iff_getElem.mp hin
        have hi2 : i < p.n := by rw [← hrow.1]; exact hi
        have hf := (fit_iff.mp hm.2).1 i hi2
        have e2 : row.getD i 0 = a := by rw [List.getD_eq_getElem?_getD, List.getElem?_eq_getElem hi]; exact e
        rw [e2] at hf
        by_cases q2 : i = j
        · rw [← q2]; exact hf
        · have := (ho i hi2).mp (h i hi2) q2
          rw [this] at hf; cases hf
      · rw [decide_eq_false q]
        exact (ho j hj).mp (h j hj) q
    · rw [decide_eq_false hj, Bool.false_and]
      have : ¬ j = k := by omega
      rw [decide_eq_false this]
theorem byG_eq {p : Pz} (hok : okNM p.n p.m) {u : Nat → Nat} {l k t : Nat} (hl : l < p.nL) (hk : k < p.n) (hb : brk p u l = false) : byG p u l k (cellN p.n l k) t = r3B p u l (cellN p.n l k) t := by
  have hn := hok.n45
  unfold byG r3B
  by_cases q : t = p.m
  · rw [if_pos q, if_pos q, q]
    unfold stwN
    rw [pc_setB (by omega)]
    show (othN p u l (cellN p.n l k) p.m true == _) = _
    have hle : othN p u l (cellN p.n l k) p.m true ≤ p.n - p.m := by
      obtain ⟨row, hr⟩ := brk_iff.mp hb
      have hm := mem_fitL.mp hr
      have hrow := arrs_row hok hm.1
      rw [← arrs_gaps hok hm.1, count_sumB, hrow.1]
      unfold othN
      refine sumB_le_of fun j hj h => ?_
      unfold othB at h
      rw [if_pos rfl, Bool.and_eq_true, beq_iff_eq] at h
      have hf := (fit_iff.mp hm.2).1 j hj
      rw [h.2, tbs] at hf
      simpa using hf
    rw [Bool.eq_iff_iff, beq_iff_eq, decide_eq_true_iff]
    omega
  · rw [if_neg q, if_neg q]
    have e1 : (plcN p u l p.m).testBit k = (u (cellN p.n l k)).testBit p.m := by
      unfold plcN; rw [setB_bit, decide_eq_true hk, Bool.true_and]
    have e2 : pc (plcN p u l p.m) = othN p u l (cellN p.n l k) p.m false + ((u (cellN p.n l k)).testBit p.m).toNat := by
      unfold plcN
      rw [pc_setB (by omega), sumB_but hk]
      congr 1
      unfold othN
      refine sumB_congr fun j hj => ?_
      unfold othB
      rw [cell_ne hok hl hj hk, if_neg (by decide), Bool.and_comm]
    rw [e1, e2]
    cases (u (cellN p.n l k)).testBit p.m <;> rfl
/-- what the component asks of a line for a reason -/
def rC (p : Pz) (u : Nat → Nat) (r l k c t : Nat) : Bool :=
  if r = 1 then decide (t < p.m) && decide (stwN p u l t c ≠ 0) else if r = 2 then hasO p u l k t else if r = 3 then byG p u l k c t else if r = 4 then anyB (r4B p u l c t) p.m else !(poss p u l k).testBit t
theorem setB_zero {f : Nat → Bool} {N : Nat} : setB f N = 0 ↔ sumB f N = 0 := by
  rw [sumB_zero]
  constructor
  · intro h k hk
    have := setB_bit f N k
    rw [h, Nat.zero_testBit, decide_eq_true hk, Bool.true_and] at this
    exact this.symm
  · intro h
    apply Nat.eq_of_testBit_eq
    intro k
    rw [setB_bit, Nat.zero_testBit]
    by_cases q : k < N
    · rw [h k q, Bool.and_false]
    · rw [decide_eq_false q, Bool.false_and]
theorem rC_eq {p : Pz} (hok : okNM p.n p.m) {u : Nat → Nat} {r l k t : Nat} (hl : l < p.nL) (hk : k < p.n) (hb : brk p u l = false) : rC p u r l k (cellN p.n l k) t = rB p u r l (cellN p.n l k) t := by
  unfold rC rB
  rw [hasO_eq hok hl hk hb, byG_eq hok hl hk hb, pinN_cell hok hl hk]
  have : decide (stwN p u l t (cellN p.n l k) ≠ 0) = decide (0 < othN p u l (cellN p.n l k) t true) := by
    rw [decide_eq_decide]
    unfold stwN othN
    rw [Ne, setB_zero]; omega
  rw [this]
/-- closed in a pass that changes nothing -/
def clsd (p : Pz) (u : Nat → Nat) : Prop := ∀ l, l < p.nL → ∀ k, k < p.n → subB (u (cellN p.n l k)) (poss p u l k)
def brkB (p : Pz) (u : Nat → Nat) : Bool := (List.range p.nL).any (brk p u)
theorem brkB_iff {p : Pz} {u : Nat → Nat} : brkB p u = false ↔ ∀ l, l < p.nL → brk p u l = false := by
  unfold brkB
  rw [← Bool.not_eq_true, any_range]
  constructor
  · intro h l hl
    cases q : brk p u l with
    | false => rfl
    | true => exact absurd ⟨l, hl, q⟩ h
  · rintro h ⟨l, hl, q⟩
    rw [h l hl] at q; cases q
theorem clsd_live {p : Pz} (hok : okNM p.n p.m) {u u' : Nat → Nat} (hc : clsd p u') (hle : leW p u' u) (hk : ∀ v, AC p v → leW p v u → leW p v u') : brkB p u' = true ↔ ¬ live p u := by
  constructor
  · intro hb
    unfold brkB at hb
    rw [any_range] at hb
    obtain ⟨l, hl, hb⟩ := hb
    exact dead_of hok hk hl hb
  · intro hl
    cases hb : brkB p u' with
    | true => rfl
    | false => exact absurd ⟨u', hle, fun l hl2 => ⟨brkB_iff.mp hb l hl2, hc l hl2⟩⟩ hl
theorem brk_sols {p : Pz} (hok : okNM p.n p.m) {u : Nat → Nat} {l : Nat} (hl : l < p.nL) (h : brk p u l = true) : sols p u = [] := sols_dead (dead_of hok (fun _ _ h => h) hl h)
/-- a row of cells that is settled with an arrangement -/
def setR (n : Nat) (u : Nat → Nat) (i : Nat) (R : List Nat) : Nat → Nat := fun c => if n * i ≤ c ∧ c < n * i + n then 1 <<< R.getD (c - n * i) 0 else u c
theorem setR_in {n : Nat} {u : Nat → Nat} {i k : Nat} {R : List Nat} (hk : k < n) : setR n u i R (n * i + k) = 1 <<< R.getD k 0 := by
  unfold setR; rw [if_pos (by omega), Nat.add_sub_cancel_left]
theorem setR_out {n : Nat} {u : Nat → Nat} {i c : Nat} {R : List Nat} (h : ¬ (n * i ≤ c ∧ c < n * i + n)) : setR n u i R c = u c := if_neg h
theorem inV_setR {p : Pz} {u : Nat → Nat} {v : List Nat} {i : Nat} {R : List Nat} (hi : i < p.n) (hR : R.length = p.n) (hv : v.length = p.n * p.n) : inV p (setR p.n u i R) v = true ↔ rowV p.n v i = R ∧ ∀ c, c < p.n * p.n → ¬ (p.n * i ≤ c ∧ c < p.n * i + p.n) → (u c).testBit (v.getD c 0) = true := by
  have hb : p.n * i + p.n ≤ p.n * p.n := by rw [← Nat.mul_succ]; exact Nat.mul_le_mul_left _ hi
  have hcell : ∀ k, cellN p.n i k = p.n * i + k := fun k => by unfold cellN; rw [if_pos hi]
  unfold inV
  rw [all_range]
  constructor
  · intro h
    refine ⟨list_ext_getD (n := p.n) (by unfold rowV; rw [List.length_map, List.length_range]) hR fun k hk => ?_, fun c hc hn => ?_⟩
    · have := h (p.n * i + k) (by omega)
      rw [setR_in hk, tbs] at this
      rw [rowV_get hk, hcell]
      exact of_decide_eq_true this
    · have := h c hc
      rwa [setR_out hn] at this
  · intro ⟨h1, h2⟩ c hc
    by_cases q : p.n * i ≤ c ∧ c < p.n * i + p.n
    · obtain ⟨k, rfl⟩ : ∃ k, c = p.n * i + k := ⟨c - p.n * i, by omega⟩
      have hk : k < p.n := by omega
      rw [setR_in hk, tbs, ← h1, rowV_get hk, hcell]
      simp
    · rw [setR_out q]; exact h2 c hc q
def splitR (p : Pz) (u : Nat → Nat) (i : Nat) (rows : List (List Nat)) : List (List Nat) := (rows.filter (fit p u i)).flatMap fun R => sols p (setR p.n u i R)
theorem sols_row {p : Pz} (hok : okNM p.n p.m) {u : Nat → Nat} {i : Nat} (hi : i < p.n) : (splitR p u i (arrs p.n p.m)).Perm (sols p u) := by
  have hn := hok.n45
  have hL := nL_le hok
  have hb : p.n * i + p.n ≤ p.n * p.n := by rw [← Nat.mul_succ]; exact Nat.mul_le_mul_left _ hi
  have hcell : ∀ k, cellN p.n i k = p.n * i + k := fun k => by unfold cellN; rw [if_pos hi]
  have hRl : ∀ R ∈ (arrs p.n p.m).filter (fit p u i), R.length = p.n := fun R hR => (arrs_row hok (List.mem_filter.mp hR).1).1
  refine (List.perm_ext_iff_of_nodup ?_ sols_nodup).mpr fun v => ?_
  · unfold splitR List.Nodup
    rw [List.pairwise_flatMap]
    refine ⟨fun R _ => sols_nodup, (List.Pairwise.and_mem.mp ((arrs_nodup hok).filter _)).imp fun {R S} hRS v hv w hw e => ?_⟩
    subst e
    have hv' := mem_sols.mp hv
    have hw' := mem_sols.mp hw
    have hlen := (mem_allV.mp hv'.1).1
    have h1 := ((inV_setR hi (hRl R hRS.1) hlen).mp hv'.2.2).1
    have h2 := ((inV_setR hi (hRl S hRS.2.1) hlen).mp hw'.2.2).1
    exact hRS.2.2 (h1.symm.trans h2)
  · unfold splitR
    rw [List.mem_flatMap]
    constructor
    · rintro ⟨R, hR, hv⟩
      have hv' := mem_sols.mp hv
      have hlen := (mem_allV.mp hv'.1).1
      obtain ⟨h1, h2⟩ := (inV_setR hi (hRl R hR) hlen).mp hv'.2.2
      refine mem_sols.mpr ⟨hv'.1, hv'.2.1, ?_⟩
      unfold inV
      rw [all_range]
      intro c hc
      by_cases q : p.n * i ≤ c ∧ c < p.n * i + p.n
      · obtain ⟨k, rfl⟩ : ∃ k, c = p.n * i + k := ⟨c - p.n * i, by omega⟩
        have hk : k < p.n := by omega
        have hf := (fit_iff.mp (List.mem_filter.mp hR).2).1 k hk
        rw [← h1, rowV_get hk, hcell] at hf
        exact hf
      · exact h2 c hc q
    · intro hv
      have hv' := mem_sols.mp hv
      have hlen := (mem_allV.mp hv'.1).1
      have hok2 := hv'.2.1
      unfold okV at hok2
      rw [all_range] at hok2
      have h0 := hok2 i (by omega)
      rw [Bool.and_eq_true] at h0
      have hin := hv'.2.2
      unfold inV at hin
      rw [all_range] at hin
      have hmem : rowV p.n v i ∈ (arrs p.n p.m).filter (fit p u i) := by
        rw [List.mem_filter]
        refine ⟨by simpa using h0.1, fit_iff.mpr ⟨fun k hk => ?_, h0.2⟩⟩
        rw [rowV_get hk]
        exact hin _ (by rw [hcell]; omega)
      exact ⟨_, hmem, mem_sols.mpr ⟨hv'.1, hv'.2.1, (inV_setR hi (hRl _ hmem) hlen).mpr ⟨rfl, fun c hc _ => hin c hc⟩⟩⟩
theorem agree_perm {F G : List (List Nat)} (h : F.Perm G) {c : Nat} : agreeB F c = agreeB G c := by
  have key : ∀ F : List (List Nat), agreeB F c = true ↔ ∀ v ∈ F, ∀ w ∈ F, v.getD c 0 = w.getD c 0 := by
    intro F
    unfold agreeB
    rw [List.all_eq_true]
    constructor
    · intro h v hv w hw
      have h1 := h v hv
      have h2 := h w hw
      rw [beq_iff_eq] at h1 h2
      exact h1.trans h2.symm
    · intro h v hv
      rw [beq_iff_eq]
      cases F with
      | nil => cases hv
      | cons a F => exact h v hv a List.mem_cons_self
  rw [Bool.eq_iff_iff, key, key]
  constructor
  · intro q v hv w hw; exact q v (h.mem_iff.mpr hv) w (h.mem_iff.mpr hw)
  · intro q v hv w hw; exact q v (h.mem_iff.mp hv) w (h.mem_iff.mp hw)
