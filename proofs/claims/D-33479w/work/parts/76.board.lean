/-! boards row by row
-/
set_option maxRecDepth 100000
def colOf (n l i : Nat) : Nat := if l < 2 * n then l - n else if l = 2 * n then i else n - 1 - i
def preL (n l : Nat) (rows : List (List Nat)) : List Nat := (List.range rows.length).map fun i => (rows.getD i []).getD (colOf n l i) 0
def stC (p : Pz) (rows : List (List Nat)) (r : List Nat) (c : Nat) : Bool := stepS p.n p.m (p.te (p.n + c) false) (p.te (p.n + c) true) (preL p.n (p.n + c) rows) (r.getD c 0)
def stA (p : Pz) (rows : List (List Nat)) (r : List Nat) (l : Nat) : Bool := stepD p.n p.m (preL p.n l rows) (r.getD (colOf p.n l rows.length) 0)
def stB (p : Pz) (rows : List (List Nat)) (r : List Nat) : Bool := (List.range p.n).all (stC p rows r) && (!p.dg || (stA p rows r (2 * p.n) && stA p rows r (2 * p.n + 1)))
def okR (p : Pz) (u : Nat → Nat) (rows : List (List Nat)) : Prop := ∀ i, i < rows.length → rows.getD i [] ∈ arrs p.n p.m ∧ fit p u i (rows.getD i []) = true ∧ stB p (rows.take i) (rows.getD i []) = true
theorem getD_cons_succ {α : Type} {x d : α} {l : List α} {k : Nat} : (x :: l).getD (k + 1) d = l.getD k d := rfl
theorem getD_app_r {α : Type} {a b : List α} {k : Nat} {d : α} : (a ++ b).getD (a.length + k) d = b.getD k d := by
  rw [List.getD_eq_getElem?_getD, List.getD_eq_getElem?_getD, List.getElem?_append_right (by omega), Nat.add_sub_cancel_left]
theorem flat_get {n : Nat} : ∀ {rows : List (List Nat)}, (∀ r ∈ rows, r.length = n) → ∀ i k, i < rows.length → k < n → rows.flatten.getD (n * i + k) 0 = (rows.getD i []).getD k 0 := by
  intro rows
  induction rows with
  | nil => intro _ i k hi; exact absurd hi (Nat.not_lt_zero _)
  | cons r rows ih =>
    intro h i k hi hk
    have hr : r.length = n := h r List.mem_cons_self
    rw [List.flatten_cons]
    cases i with
    | zero =>
      rw [Nat.mul_zero, Nat.zero_add]
      exact getD_app_lt (by omega)
    | succ i =>
      rw [getD_cons_succ, ← ih (fun x hx => h x (List.mem_cons_of_mem _ hx)) i k (Nat.lt_of_succ_lt_succ hi) hk, Nat.mul_succ, Nat.add_comm (n * i) n, Nat.add_assoc]
      have e : n + (n * i + k) = r.length + (n * i + k) := by rw [hr]
      rw [e, getD_app_r]
theorem flat_len {n : Nat} {rows : List (List Nat)} (h : ∀ r ∈ rows, r.length = n) : rows.flatten.length = n * rows.length := by
  induction rows with
  | nil => simp
  | cons r rows ih =>
    rw [List.flatten_cons, List.length_append, ih fun x hx => h x (List.mem_cons_of_mem _ hx), h r List.mem_cons_self, List.length_cons, Nat.mul_succ]
    omega
theorem cell_col {n l i : Nat} (hn : n = 4 ∨ n = 5) (hl : n ≤ l) (hl2 : l < 2 * n + 2) (hi : i < n) : cellN n l i = n * i + colOf n l i ∧ colOf n l i < n := by
  unfold cellN colOf
  rcases hn with rfl | rfl
  all_goals
    repeat' split
    all_goals omega
theorem preL_len {n l : Nat} {rows : List (List Nat)} : (preL n l rows).length = rows.length := by unfold preL; rw [List.length_map, List.length_range]
theorem preL_get {n l i : Nat} {rows : List (List Nat)} (hi : i < rows.length) : (preL n l rows).getD i 0 = (rows.getD i []).getD (colOf n l i) 0 := by
  unfold preL
  rw [List.getD_eq_getElem?_getD, List.getElem?_map, List.getElem?_range hi]; rfl
theorem take_getD {α : Type} {a : List α} {i k : Nat} {d : α} (h : k < i) : (a.take i).getD k d = a.getD k d := by
  rw [List.getD_eq_getElem?_getD, List.getD_eq_getElem?_getD, List.getElem?_take, if_pos h]
theorem preL_take {n l i : Nat} {rows : List (List Nat)} (hi : i ≤ rows.length) : preL n l (rows.take i) = (preL n l rows).take i := by
  have h1 : (rows.take i).length = i := by rw [List.length_take]; omega
  refine list_ext_getD (n := i) (by rw [preL_len, h1]) (by rw [List.length_take, preL_len]; omega) fun k hk => ?_
  rw [preL_get (by omega), take_getD hk, take_getD hk, preL_get (by omega)]
theorem preL_le {n l m : Nat} {rows : List (List Nat)} (h : ∀ r ∈ rows, ∀ t ∈ r, t ≤ m) : ∀ t ∈ preL n l rows, t ≤ m := by
  intro t ht
  unfold preL at ht
  obtain ⟨i, hi, rfl⟩ := List.mem_map.mp ht
  exact getD_le (h _ (getD_mem (List.mem_range.mp hi))) _
theorem preL_app {n l : Nat} {rows : List (List Nat)} {r : List Nat} : preL n l (rows ++ [r]) = preL n l rows ++ [r.getD (colOf n l rows.length) 0] := by
  have hl : (rows ++ [r]).length = rows.length + 1 := by rw [List.length_append]; rfl
  refine list_ext_getD (n := rows.length + 1) (by rw [preL_len, hl]) (by rw [List.length_append, preL_len]; rfl) fun k hk => ?_
  rw [preL_get (by omega)]
  rcases Nat.lt_or_ge k rows.length with q | q
  · rw [getD_app_lt q, getD_app_lt (by rw [preL_len]; exact q), preL_get q]
  · have e : k = rows.length := by omega
    rw [e, getD_app_eq]
    have := getD_app_eq (l := preL n l rows) (x := r.getD (colOf n l rows.length) 0) (d := 0)
    rw [preL_len] at this
    rw [this]
/-- the rows of a board, one by one, are those of a solution -/
theorem okR_sols {p : Pz} (hok : okNM p.n p.m) (hte : ∀ l z, p.te l z ≤ 2 * p.m) {u : Nat → Nat} {rows : List (List Nat)} (hlen : rows.length = p.n) (hr : ∀ r ∈ rows, r.length = p.n) : okR p u rows ↔ rows.flatten ∈ sols p u := by
  have hn := hok.n45
  have hm := hok.m24
  have hLn := nL_le hok
  have hnn : rows.flatten.length = p.n * p.n := by rw [flat_len hr, hlen]
  have hrow : ∀ i, i < p.n → rowV p.n rows.flatten i = rows.getD i [] := by
    intro i hi
    refine list_ext_getD (n := p.n) (by unfold rowV; rw [List.length_map, List.length_range]) (hr _ (getD_mem (by omega))) fun k hk => ?_
    rw [rowV_get hk, show cellN p.n i k = p.n * i + k by unfold cellN; rw [if_pos hi]]
    exact flat_get hr i k (by omega) hk
  have hcol : ∀ l, p.n ≤ l → l < p.nL → rowV p.n rows.flatten l = preL p.n l rows := by
    intro l h1 h2
    refine list_ext_getD (n := p.n) (by unfold rowV; rw [List.length_map, List.length_range]) (by rw [preL_len, hlen]) fun k hk => ?_
    obtain ⟨e, q⟩ := cell_col hn h1 (by omega) hk
    rw [rowV_get hk, e, flat_get hr k _ (by omega) q, preL_get (by omega)]
  have hte0 : ∀ l z, 2 * p.n ≤ l → p.te l z = 0 := by
    intro l z hl; unfold Pz.te; rw [if_neg (by omega)]
  have hdg : ∀ l, 2 * p.n ≤ l → l < p.nL → p.dg = true ∧ (l = 2 * p.n ∨ l = 2 * p.n + 1) := by
    intro l h1 h2
    unfold Pz.nL at h2
    cases hd : p.dg with
    | false => rw [hd] at h2; simp at h2; omega
    | true => rw [hd] at h2; simp at h2; exact ⟨rfl, by omega⟩
  have hdL : p.dg = true → p.nL = 2 * p.n + 2 := by intro h; unfold Pz.nL; rw [h]; rfl
  -- steps of a line are those of its places
  have stS : ∀ c, c < p.n → ((∀ i, i < p.n → stC p (rows.take i) (rows.getD i []) c = true) ↔ allS p.n p.m (p.te (p.n + c) false) (p.te (p.n + c) true) (preL p.n (p.n + c) rows) = true) := by
    intro c hc
    unfold allS
    rw [all_range]
    have e : ∀ i, i < p.n → stC p (rows.take i) (rows.getD i []) c = stepS p.n p.m (p.te (p.n + c) false) (p.te (p.n + c) true) ((preL p.n (p.n + c) rows).take i) ((preL p.n (p.n + c) rows).getD i 0) := by
      intro i hi
      unfold stC
      rw [preL_take (by omega), preL_get (by omega)]
      have : colOf p.n (p.n + c) i = c := by unfold colOf; rw [if_pos (by omega)]; omega
      rw [this]
    constructor
    · intro h i hi; rw [← e i hi]; exact h i hi
    · intro h i hi; rw [e i hi]; exact h i hi
  have stD : ∀ l, ((∀ i, i < p.n → stA p (rows.take i) (rows.getD i []) l = true) ↔ allD p.n p.m (preL p.n l rows) = true) := by
    intro l
    unfold allD
    rw [all_range]
    have e : ∀ i, i < p.n → stA p (rows.take i) (rows.getD i []) l = stepD p.n p.m ((preL p.n l rows).take i) ((preL p.n l rows).getD i 0) := by
      intro i hi
      unfold stA
      have : (rows.take i).length = i := by rw [List.length_take]; omega
      rw [preL_take (by omega), preL_get (by omega), this]
    constructor
    · intro h i hi; rw [← e i hi]; exact h i hi
    · intro h i hi; rw [e i hi]; exact h i hi
  have stBi : ∀ i, stB p (rows.take i) (rows.getD i []) = true ↔ (∀ c, c < p.n → stC p (rows.take i) (rows.getD i []) c = true) ∧ (p.dg = true → stA p (rows.take i) (rows.getD i []) (2 * p.n) = true ∧ stA p (rows.take i) (rows.getD i []) (2 * p.n + 1) = true) := by
    intro i
    unfold stB
    rw [Bool.and_eq_true, all_range]
    cases p.dg with
    | false => simp
    | true => simp
  have says0 : ∀ l row, 2 * p.n ≤ l → p.says l row = true := by
    intro l row h; unfold Pz.says; rw [hte0 l _ h, hte0 l _ h]; rfl
  rw [mem_sols]
  constructor
  · intro h
    have hle : ∀ r ∈ rows, ∀ t ∈ r, t ≤ p.m := by
      intro r hr2 t ht
      obtain ⟨i, hi, rfl⟩ := List.mem_iff_getElem.mp hr2
      have := (h i hi).1
      rw [List.getD_eq_getElem?_getD, List.getElem?_eq_getElem hi] at this
      exact (arrs_row hok this).2.1 t ht
    refine ⟨?_, ?_, ?_⟩
    · rw [mem_allV]
      refine ⟨hnn, fun t ht => ?_⟩
      obtain ⟨r, h1, h2⟩ := List.mem_flatten.mp ht
      exact Nat.lt_succ_of_le (hle r h1 t h2)
    · unfold okV
      rw [all_range]
      intro l hl
      rw [Bool.and_eq_true]
      rcases Nat.lt_or_ge l p.n with q | q
      · obtain ⟨h1, h2, -⟩ := h l (by omega)
        rw [hrow l q]
        exact ⟨by simpa using h1, (fit_iff.mp h2).2⟩
      · rw [hcol l q hl]
        have hpl : (preL p.n l rows).length = p.n := by rw [preL_len, hlen]
        rcases Nat.lt_or_ge l (2 * p.n) with q2 | q2
        · have e : p.n + (l - p.n) = l := by omega
          have h1 := (stS (l - p.n) (by omega)).mp fun i hi => ((stBi i).mp (h i (by omega)).2.2).1 (l - p.n) (by omega)
          rw [e] at h1
          obtain ⟨k1, k2, k3⟩ := (allS_iff hok hpl (preL_le hle) (hte _ _) (hte _ _)).mp h1
          refine ⟨by simpa using k1, ?_⟩
          unfold Pz.says
          rw [k2, k3]; rfl
        · obtain ⟨d1, d2⟩ := hdg l q2 hl
          have h1 := (stD l).mp fun i hi => by
            have := ((stBi i).mp (h i (by omega)).2.2).2 d1
            rcases d2 with rfl | rfl
            · exact this.1
            · exact this.2
          exact ⟨by simpa using (base_iff hok hpl (preL_le hle)).2.mp h1, says0 l _ q2⟩
    · unfold inV
      rw [all_range]
      intro c hc
      obtain ⟨e, h1, h2⟩ := cell_row hn hc
      have hf := (fit_iff.mp (h (c / p.n) (by omega)).2.1).1 _ h2
      rw [e] at hf
      have e2 : p.n * (c / p.n) + c % p.n = c := Nat.div_add_mod c p.n
      rw [← flat_get hr (c / p.n) (c % p.n) (by omega) h2, e2] at hf
      exact hf
  · intro ⟨h1, h2, h3⟩ i hi
    have hi2 : i < p.n := by omega
    unfold okV at h2
    rw [all_range] at h2
    unfold inV at h3
    rw [all_range] at h3
    have hv := mem_allV.mp h1
    have hle : ∀ r ∈ rows, ∀ t ∈ r, t ≤ p.m := fun r hr2 t ht => Nat.le_of_lt_succ (hv.2 t (List.mem_flatten.mpr ⟨r, hr2, ht⟩))
    have hk := h2 i (by omega)
    rw [Bool.and_eq_true, hrow i hi2] at hk
    refine ⟨by simpa using hk.1, fit_iff.mpr ⟨fun k hk2 => ?_, hk.2⟩, ?_⟩
    · rw [show cellN p.n i k = p.n * i + k by unfold cellN; rw [if_pos hi2], ← flat_get hr i k hi hk2]
      refine h3 _ ?_
      have : p.n * i + p.n ≤ p.n * p.n := by rw [← Nat.mul_succ]; exact Nat.mul_le_mul_left _ hi2
      omega
    · have hpl : ∀ l, (preL p.n l rows).length = p.n := fun l => by rw [preL_len, hlen]
      have hL : ∀ l, p.n ≤ l → l < p.nL → preL p.n l rows ∈ arrs p.n p.m ∧ p.says l (preL p.n l rows) = true := by
        intro l q1 q2
        have := h2 l q2
        rw [Bool.and_eq_true, hcol l q1 q2] at this
        exact ⟨by simpa using this.1, this.2⟩
      refine (stBi i).mpr ⟨fun c hc => ?_, fun hd => ?_⟩
      · obtain ⟨k1, k2⟩ := hL (p.n + c) (by omega) (by omega)
        unfold Pz.says at k2
        rw [Bool.and_eq_true] at k2
        exact (stS c hc).mpr ((allS_iff hok (hpl _) (preL_le hle) (hte _ _) (hte _ _)).mpr ⟨k1, k2.1, k2.2⟩) i hi2
      · have := hdL hd
        exact ⟨(stD _).mpr ((base_iff hok (hpl _) (preL_le hle)).2.mpr (hL (2 * p.n) (by omega) (by omega)).1) i hi2, (stD _).mpr ((base_iff hok (hpl _) (preL_le hle)).2.mpr (hL (2 * p.n + 1) (by omega) (by omega)).1) i hi2⟩
/-- all boards that go on behind some rows -/
def bR (p : Pz) (u : Nat → Nat) : Nat → List (List Nat) → List (List (List Nat))
  | 0, pre => [pre]
  | k + 1, pre => ((tabN p.n p.m).filter fun r => fit p u pre.length r && stB p pre r).flatMap fun r => bR p u k (pre ++ [r])
theorem mem_bR {p : Pz} {u : Nat → Nat} : ∀ {k : Nat} {pre rows : List (List Nat)}, rows ∈ bR p u k pre ↔ ∃ more, rows = pre ++ more ∧ more.length = k ∧ ∀ i, i < k → more.getD i [] ∈ tabN p.n p.m ∧ fit p u (pre.length + i) (more.getD i []) = true ∧ stB p (pre ++ more.take i) (more.getD i []) = true := by
  intro k
  induction k with
  | zero =>
    intro pre rows
    show rows ∈ [pre] ↔ _
    rw [List.mem_singleton]
    constructor
    · rintro rfl; exact ⟨[], by rw [List.append_nil], rfl, fun i hi => absurd hi (Nat.not_lt_zero _)⟩
    · rintro ⟨more, e, h, -⟩
      rw [e, List.length_eq_zero_iff.mp h, List.append_nil]
  | succ k ih =>
    intro pre rows
    show rows ∈ List.flatMap _ _ ↔ _
    rw [List.mem_flatMap]
    constructor
    · rintro ⟨r, h1, h2⟩
      obtain ⟨more, e, h3, h4⟩ := ih.mp h2
      rw [List.mem_filter, Bool.and_eq_true] at h1
      refine ⟨r :: more, by rw [e, List.append_assoc]; rfl, by rw [List.length_cons, h3], fun i hi => ?_⟩
      cases i with
      | zero => exact ⟨h1.1, h1.2.1, by rw [List.take_zero, List.append_nil]; exact h1.2.2⟩
      | succ i =>
        have := h4 i (by omega)
        rw [List.length_append] at this
        refine ⟨this.1, ?_, ?_⟩
        · rw [getD_cons_succ, show pre.length + (i + 1) = pre.length + [r].length + i by show _ = pre.length + 1 + i; omega]; exact this.2.1
        · rw [getD_cons_succ, List.take_succ_cons, ← List.singleton_append, ← List.append_assoc]; exact this.2.2
    · rintro ⟨more, e, h3, h4⟩
      cases more with
      | nil => cases h3
      | cons r more =>
        refine ⟨r, ?_, ih.mpr ⟨more, by rw [e, List.append_assoc]; rfl, by simpa using h3, fun i hi => ?_⟩⟩
        · rw [List.mem_filter, Bool.and_eq_true]
          have := h4 0 (Nat.succ_pos _)
          rw [List.take_zero, List.append_nil] at this
          exact this
        · have := h4 (i + 1) (by omega)
          rw [getD_cons_succ, List.take_succ_cons] at this
          refine ⟨this.1, ?_, ?_⟩
          · rw [List.length_append, show pre.length + [r].length + i = pre.length + (i + 1) by show pre.length + 1 + i = _; omega]; exact this.2.1
          · rw [List.append_assoc, List.singleton_append]; exact this.2.2
def nodB (n m : Nat) : Bool := decide (arrs n m).Nodup
theorem nod_42 : nodB 4 2 = true := by decide +kernel
theorem nod_43 : nodB 4 3 = true := by decide +kernel
theorem nod_52 : nodB 5 2 = true := by decide +kernel
theorem nod_53 : nodB 5 3 = true := by decide +kernel
theorem nod_54 : nodB 5 4 = true := by decide +kernel
theorem arrs_nodup {n m : Nat} (h : okNM n m) : (arrs n m).Nodup := by
  rcases h with ⟨rfl, rfl | rfl⟩ | ⟨rfl, rfl | rfl | rfl⟩
  · exact of_decide_eq_true nod_42
  · exact of_decide_eq_true nod_43
  · exact of_decide_eq_true nod_52
  · exact of_decide_eq_true nod_53
  · exact of_decide_eq_true nod_54
theorem bR_nodup {p : Pz} (hok : okNM p.n p.m) {u : Nat → Nat} : ∀ (k : Nat) (pre : List (List Nat)), (bR p u k pre).Nodup := by
  intro k
  induction k with
  | zero => intro pre; exact List.pairwise_singleton _ _
  | succ k ih =>
    intro pre
    show (List.flatMap _ _).Nodup
    unfold List.Nodup
    rw [List.pairwise_flatMap]
    refine ⟨fun r _ => ih _, ?_⟩
    have hT : (tabN p.n p.m).Nodup := (tab_perm hok).nodup_iff.mpr (arrs_nodup hok)
    refine (hT.filter _).imp fun hne v hv w hw e => ?_
    subst e
    obtain ⟨m1, e1, -⟩ := mem_bR.mp hv
    obtain ⟨m2, e2, -⟩ := mem_bR.mp hw
    rw [e1, List.append_assoc, List.append_assoc] at e2
    exact hne (List.cons.inj (List.append_cancel_left e2)).1
/-- as many boards as solutions -/
theorem bR_sols {p : Pz} (hok : okNM p.n p.m) (hte : ∀ l z, p.te l z ≤ 2 * p.m) {u : Nat → Nat} : (bR p u p.n []).length = (sols p u).length := by
  have hmem : ∀ rows, rows ∈ bR p u p.n [] ↔ rows.length = p.n ∧ okR p u rows := by
    intro rows
    rw [mem_bR]
    constructor
    · rintro ⟨more, e, h1, h2⟩
      rw [List.nil_append] at e
      subst e
      refine ⟨h1, fun i hi => ?_⟩
      obtain ⟨a, b, c⟩ := h2 i (by omega)
      rw [List.length_nil, Nat.zero_add] at b
      exact ⟨(tab_perm hok).mem_iff.mp a, b, c⟩
    · intro ⟨h1, h2⟩
      refine ⟨rows, rfl, h1, fun i hi => ?_⟩
      obtain ⟨a, b, c⟩ := h2 i (by omega)
      rw [List.length_nil, Nat.zero_add]
      exact ⟨(tab_perm hok).mem_iff.mpr a, b, c⟩
  have hrl : ∀ rows, okR p u rows → ∀ r ∈ rows, r.length = p.n := by
    intro rows h r hr
    obtain ⟨i, hi, rfl⟩ := List.mem_iff_getElem.mp hr
    have := (h i hi).1
    rw [List.getD_eq_getElem?_getD, List.getElem?_eq_getElem hi] at this
    exact (arrs_row hok this).1
  have hperm : ((bR p u p.n []).map List.flatten).Perm (sols p u) := by
    refine (List.perm_ext_iff_of_nodup ?_ sols_nodup).mpr fun v => ?_
    · unfold List.Nodup
      rw [List.pairwise_map]
      refine (List.Pairwise.and_mem.mp (bR_nodup hok p.n [])).imp fun {a b} hab e => ?_
      obtain ⟨ha, hb, hne⟩ := hab
      obtain ⟨a1, a2⟩ := (hmem a).mp ha
      obtain ⟨b1, b2⟩ := (hmem b).mp hb
      apply hne
      have la := hrl a a2
      have lb := hrl b b2
      apply List.ext_getElem (a1.trans b1.symm)
      intro i h1 h2
      refine list_ext_getD (la _ (List.getElem_mem h1)) (lb _ (List.getElem_mem h2)) fun k hk => ?_
      have e1 := flat_get la i k h1 hk
      have e2 := flat_get lb i k h2 hk
      rw [e] at e1
      have e3 := e1.symm.trans e2
      rw [List.getD_eq_getElem?_getD (l := a), List.getElem?_eq_getElem h1, List.getD_eq_getElem?_getD (l := b), List.getElem?_eq_getElem h2] at e3
      exact e3
    · rw [List.mem_map]
      constructor
      · rintro ⟨rows, h, rfl⟩
        obtain ⟨h1, h2⟩ := (hmem rows).mp h
        exact (okR_sols hok hte h1 (hrl rows h2)).mp h2
      · intro hv
        have hlen := (mem_allV.mp (mem_sols.mp hv).1).1
        let rows := (List.range p.n).map fun i => rowV p.n v i
        have r1 : rows.length = p.n := by simp [rows]
        have rget : ∀ i, i < p.n → rows.getD i [] = rowV p.n v i := by
          intro i hi
          rw [List.getD_eq_getElem?_getD]
          simp only [rows]
          rw [List.getElem?_map, List.getElem?_range hi]; rfl
        have r2 : ∀ r ∈ rows, r.length = p.n := by
          intro r hr
          obtain ⟨i, -, rfl⟩ := List.mem_map.mp hr
          unfold rowV; rw [List.length_map, List.length_range]
        have r3 : rows.flatten = v := by
          refine list_ext_getD (n := p.n * p.n) (by rw [flat_len r2, r1]) hlen fun c hc => ?_
          obtain ⟨e, h1, h2⟩ := cell_row hok.n45 hc
          have e2 : p.n * (c / p.n) + c % p.n = c := Nat.div_add_mod c p.n
          have := flat_get r2 (c / p.n) (c % p.n) (by omega) h2
          rw [e2, rget _ h1, rowV_get h2, e] at this
          exact this
        exact ⟨rows, (hmem rows).mpr ⟨r1, (okR_sols hok hte r1 r2).mpr (by rw [r3]; exact hv)⟩, r3⟩
  have := hperm.length_eq
  rwa [List.length_map] at this
