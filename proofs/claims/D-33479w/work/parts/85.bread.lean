/-! a board is read: lines
-/
set_option maxRecDepth 100000
theorem rest_less0 : ∀ s : Fin 4096, s.1 ≠ 0 → clr s.1 (ntz s.1) < s.1 := by decide +kernel
theorem rest_step {s : Nat} (hs : s < 4096) (h0 : s ≠ 0) : ∃ s', s' < s ∧ i3 s &&& (i3 s - 1) = i3 s' ∧ ∀ i, s'.testBit i = (s.testBit i && decide (i ≠ ntz s)) :=
  ⟨_, rest_less0 ⟨s, hs⟩ h0, rest_step0 ⟨s, hs⟩ h0, fun i => clr_bit _ _ _⟩
section BRD
variable {l : Launch} {G : aG} {I : Nat → Prop} {h : aH} {b a th : Nat} {F : List Nat} {p : Pz} {u : Nat → Nat}
theorem BD.ok (hB : BD I h b a th F p u) : okNM p.n p.m := hB.1.ok
theorem BD.bnd (hB : BD I h b a th F p u) : ∀ c, c < p.n * p.n → u c < 2 ^ (p.m + 1) := by
  obtain ⟨-, rb, f, -, -, hf, -⟩ := hB
  exact fun c hc => (hf c hc).2
theorem B_everything (hl : l.stackTraces = false) (hB : BD I h b a th F p u) : aC l G mX5_everything (wsN mX5_everything) 0 0 0 [.ref b] h (aP1 (some (.int (i3 (2 ^ (p.m + 1) - 1)))) h) := by
  obtain ⟨hP, rb, f, hb, ht, hf, -⟩ := hB
  obtain ⟨tl, ls, lo, ar, rw, T, L, R, sec, hok, -, -, -, -, ho, -⟩ := hP
  have hm := hok.m24
  refine A_X5_everything hl (vR_mk hb rfl (vI_mk ho rfl ⟨?_, rfl⟩))
  have e1 : (1 : Int32) <<< (i3 (p.m + 1) &&& 31) = i3 (1 <<< (p.m + 1)) := i3_shl (a := 1) (by omega)
  have h2 : 0 < 2 ^ (p.m + 1) := Nat.two_pow_pos _
  have e2 : i3 (2 ^ (p.m + 1)) - 1 = i3 (2 ^ (p.m + 1) - 1) := i3_sub (b := 1) h2
  rw [i3_succ, e1, Nat.one_shiftLeft, e2]
theorem B_isSettled (hl : l.stackTraces = false) (hB : BD I h b a th F p u) {c : Nat} (hc : c < p.n * p.n) : aC l G mX5_isSettled (wsN mX5_isSettled) 1 0 0 [.ref b, .int (i3 c)] h (aP1 (some (.int (bI (pc (u c) == 1)))) h) := by
  have hok := hB.ok
  obtain ⟨hP, rb, f, hb, ht, hf, -⟩ := hB
  have hnn := nn_le hok.n45
  have h32 := pow_le hok.m24.2.2
  have hfc := hf c hc
  refine A_X5_isSettled hl (vR_mk hb rfl (vA_mk ht rfl (by omega : c < 25) (by decide) ?_))
  rw [hfc.1]
  exact vC_p (B_isSingle hl (by omega)) (by decide) (by decide) (by decide) ⟨_, rfl, vB_bI, rfl, rfl⟩
theorem B_canHave (hl : l.stackTraces = false) (hB : BD I h b a th F p u) {i x : Nat} {row : List Nat} (hi : i < p.nL) (hr : rowA h x p.n row) (hrow : row ∈ arrs p.n p.m) :
    aC l G mX5_canHave (wsN mX5_canHave) 3 0 0 [.ref b, .int (i3 i), .ref x] h (aP1 (some (.int (bI (fit p u i row)))) h) := by
  have hok := hB.ok
  have hP0 := hB.1
  obtain ⟨hP, rb, f, hb, ht, hf, -⟩ := hB
  obtain ⟨tl, ls, lo, ar, rw, T, L, R, sec, -, -, -, -, -, ho, -, -, -, hls, hrw, hlo, hlo2, hA⟩ := hP
  have hn := hok.n45
  have hm := hok.m24
  have hL := nL_le hok
  have hnn := nn_le hn
  have h32 := pow_le hm.2.2
  have hr0 := hr
  obtain ⟨g, hg, hg2⟩ := hr
  obtain ⟨r1, lf, r2, r3⟩ := hrw i (by omega)
  have r3 := r3 hi
  have hrl := arrs_row hok hrow
  refine A_X5_canHave hl (vR_mk hb rfl (vR_mk ho rfl (vAR_mk hls rfl (by omega : i < 12) (by decide) r1 ?_)))
  have key := vloop (N := p.n) (T := fun j => (∀ k, k < j → (u (cellN p.n i k)).testBit (row.getD k 0) = true) → T_X5_canHave_13 l G 3 0 0 (aP1 (some (.int (bI (fit p u i row)))) h) b (i3 i) x (rw i) (i3 j) h 0 0) ?_ ?_ 0 (Nat.zero_le _) (fun k hk => absurd hk (Nat.not_lt_zero _))
  · exact key
  · intro hall
    refine A_X5_canHave_13 hl (vR_mk hb rfl (vI_mk ho rfl ⟨fun _ => vR_mk hb rfl ⟨⟨_, ho⟩, ?_⟩, fun q => absurd (by rw [i3_le (by omega) (by omega)]; exact Nat.le_refl _) q⟩))
    have e : fit p u i row = p.says i row := by
      unfold fit
      rw [all_range.mpr hall, Bool.true_and]
    rw [e]
    exact vC_p (B_isTrue hl hP0 (by omega) hr0 hrow) (by decide) (by decide) (by decide) ⟨_, rfl, vB_bI, rfl, rfl⟩
  · intro j hj ih hall
    have hq : ¬ p.n ≤ j := by omega
    have hc := cellN_lt hn (by omega : i < 2 * p.n + 2) hj
    have hfc := hf _ hc
    have hxj := getD_le hrl.2.1 j
    refine A_X5_canHave_13 hl (vR_mk hb rfl (vI_mk ho rfl ⟨fun q => absurd (by rwa [i3_le (by omega) (by omega)] at q) hq, fun _ => vR_mk hb rfl (vA_mk r2 rfl (by omega : j < 5) (by decide) ?_)⟩))
    rw [r3 j hj]
    refine vA_mk ht rfl (by omega) (by decide) (vA_mk hg rfl hj (by omega) ?_)
    rw [hfc.1, hg2 j hj]
    refine vC_p (B_has hl (by omega) (by omega)) (by decide) (by decide) (by decide) ⟨_, rfl, ?_⟩
    simp only [bI_eq0, i3_succ]
    refine ⟨fun q => ih fun k hk => ?_, fun q => ⟨?_, rfl⟩⟩
    · rcases Nat.lt_or_ge k j with z | z
      · exact hall k z
      · have : k = j := by omega
        subst this
        simpa using q
    · have e : fit p u i row = false := by
        cases z : fit p u i row with
        | false => rfl
        | true => rw [(fit_iff.mp z).1 j hj] at q; cases q
      rw [e]; rfl
theorem B_isLineBroken (hl : l.stackTraces = false) (hB : BD I h b a th F p u) {i : Nat} (hi : i < p.nL) :
    aC l G mX5_isLineBroken (wsN mX5_isLineBroken) 4 0 0 [.ref b, .int (i3 i)] h (aP1 (some (.int (bI (brk p u i)))) h) := by
  have hok := hB.ok
  have hB0 := hB
  obtain ⟨hP, rb, f, hb, ht, hf, -⟩ := hB
  obtain ⟨tl, ls, lo, ar, rw, T, L, R, sec, -, -, -, -, -, ho, -, -, -, hls, hrw, hlo, hlo2, hA⟩ := hP
  have hal := arrs_len hok
  have hA0 := hA
  obtain ⟨li, e, cap, fl, har, -⟩ := hA
  refine A_X5_isLineBroken hl ?_
  have key := vloop (N := (arrs p.n p.m).length) (T := fun j => (∀ k, k < j → fit p u i ((arrs p.n p.m).getD k []) = false) → T_X5_isLineBroken_2 l G 4 0 0 (aP1 (some (.int (bI (brk p u i)))) h) b (i3 i) (i3 j) h 0 0) ?_ ?_ 0 (Nat.zero_le _) (fun k hk => absurd hk (Nat.not_lt_zero _))
  · exact key
  · intro hall
    refine A_X5_isLineBroken_2 hl (vR_mk hb rfl (vO_mk (x := some ar) ho rfl ⟨_, rfl, ⟨_, har⟩, ?_⟩))
    refine vC_p (B_count hl hA0) (by decide) (by decide) (by decide) ⟨_, rfl, fun _ => ⟨?_, rfl⟩, fun q => absurd (by rw [i3_le (by omega) (by omega)]; exact Nat.le_refl _) q⟩
    have : brk p u i = true := by
      cases z : brk p u i with
      | true => rfl
      | false =>
        obtain ⟨row, hr⟩ := brk_iff.mp z
        have hm := mem_fitL.mp hr
        obtain ⟨k, hk, e⟩ := List.mem_iff_getElem.mp hm.1
        have := hall k hk
        rw [List.getD_eq_getElem?_getD, List.getElem?_eq_getElem hk, Option.getD_some, e, hm.2] at this
        cases this
    rw [this]; rfl
  · intro j hj ih hall
    obtain ⟨x, hx, -, hC⟩ := B_at (G := G) hl hA0 hj
    have hmem : (arrs p.n p.m).getD j [] ∈ arrs p.n p.m := getD_mem hj
    refine A_X5_isLineBroken_2 hl (vR_mk hb rfl (vO_mk (x := some ar) ho rfl ⟨_, rfl, ⟨_, har⟩, ?_⟩))
    refine vC_p (B_count hl hA0) (by decide) (by decide) (by decide) ⟨_, rfl, fun q => absurd (by rwa [i3_le (by omega) (by omega)] at q) (by omega : ¬ (arrs p.n p.m).length ≤ j), fun _ => vR_mk hb rfl (vO_mk (x := some ar) ho rfl ⟨_, rfl, ⟨_, har⟩, ?_⟩)⟩
    refine vC_p hC (by decide) (by decide) (by decide) ⟨_, rfl, ⟨_, hb⟩, ?_⟩
    refine vC_p (B_canHave hl hB0 hi hx hmem) (by decide) (by decide) (by decide) ⟨_, rfl, ?_⟩
    simp only [bI_eq0, i3_succ]
    refine ⟨fun q => ih fun k hk => ?_, fun q => ⟨?_, rfl⟩⟩
    · rcases Nat.lt_or_ge k j with z | z
      · exact hall k z
      · have : k = j := by omega
        subst this; exact q
    · have : brk p u i = false := brk_iff.mpr ⟨_, mem_fitL.mpr ⟨hmem, by simpa using q⟩⟩
      rw [this]; rfl
/-- what the places of a line can be, 5 bits for each place -/
def orPl (n : Nat) (rows : List (List Nat)) (s : Nat) : Nat := rows.foldl (fun s r => (List.range n).foldl (fun s k => s ||| 1 <<< (5 * k + r.getD k 0)) s) s
def linP (p : Pz) (u : Nat → Nat) (i : Nat) : Nat := orPl p.n (fitL p u i) 0
theorem fold_or_bit (g : Nat → Nat) (N s j : Nat) : ((List.range N).foldl (fun s k => s ||| 1 <<< g k) s).testBit j = (s.testBit j || (List.range N).any fun k => g k == j) := by
  induction N with
  | zero => simp
  | succ N ih =>
    rw [List.range_succ, List.foldl_append, List.any_append]
    show ((List.range N).foldl _ s ||| 1 <<< g N).testBit j = _
    rw [Nat.testBit_or, ih, tbs]
    have : decide (j = g N) = (g N == j) := by rw [Bool.eq_iff_iff, decide_eq_true_iff, beq_iff_eq]; exact ⟨Eq.symm, Eq.symm⟩
    rw [this, Bool.or_assoc]; simp
theorem orPl_bit (n : Nat) : ∀ (rows : List (List Nat)) (s j : Nat), (orPl n rows s).testBit j = (s.testBit j || rows.any fun r => (List.range n).any fun k => 5 * k + r.getD k 0 == j) := by
  intro rows
  induction rows with
  | nil => intro s j; simp [orPl]
  | cons r rows ih =>
    intro s j
    show (orPl n rows _).testBit j = _
    rw [ih, fold_or_bit (fun k => 5 * k + r.getD k 0), List.any_cons, Bool.or_assoc]
theorem orPl_lt {n : Nat} (hn : n ≤ 5) {rows : List (List Nat)} (h : ∀ r ∈ rows, ∀ t ∈ r, t ≤ 4) {s : Nat} (hs : s < 2 ^ 25) : orPl n rows s < 2 ^ 25 := by
  apply Nat.lt_pow_two_of_testBit
  intro j hj
  rw [orPl_bit, Nat.testBit_lt_two_pow (Nat.lt_of_lt_of_le hs (Nat.pow_le_pow_right (n := 2) (by decide) hj)), Bool.false_or]
  rw [← Bool.not_eq_true, List.any_eq_true]
  rintro ⟨r, hr, h2⟩
  rw [any_range] at h2
  obtain ⟨k, hk, e⟩ := h2
  have := getD_le (h r hr) k
  have e := beq_iff_eq.mp e
  omega
theorem linP_shr {p : Pz} (hok : okNM p.n p.m) {u : Nat → Nat} {i k : Nat} (hk : k < p.n) : (linP p u i >>> (5 * k)) % 32 = poss p u i k := by
  have hm := hok.m24
  have h32 := pow_le hm.2.2
  apply Nat.eq_of_testBit_eq
  intro j
  rw [show (32 : Nat) = 2 ^ 5 from rfl, Nat.testBit_mod_two_pow, Nat.testBit_shiftRight]
  unfold linP
  rw [orPl_bit, Nat.zero_testBit, Bool.false_or]
  by_cases hj : j < 5
  · rw [decide_eq_true hj, Bool.true_and]
    unfold poss
    rw [orAt_bit, Bool.eq_iff_iff, List.any_eq_true, List.any_eq_true]
    have hrl : ∀ r ∈ fitL p u i, ∀ k, r.getD k 0 ≤ 4 := fun r hr k => Nat.le_trans (getD_le (arrs_row hok (mem_fitL.mp hr).1).2.1 k) hm.2.2
    constructor
    · rintro ⟨r, hr, h2⟩
      rw [any_range] at h2
      obtain ⟨k2, hk2, e⟩ := h2
      have := hrl r hr k2
      have e := beq_iff_eq.mp e
      have : k2 = k := by omega
      subst this
      exact ⟨r, hr, by rw [beq_iff_eq]; omega⟩
    · rintro ⟨r, hr, h2⟩
      have h2 := beq_iff_eq.mp h2
      exact ⟨r, hr, any_range.mpr ⟨k, hk, by rw [beq_iff_eq]; omega⟩⟩
  · rw [decide_eq_false hj, Bool.false_and]
    have := poss_lt (p := p) (u := u) (l := i) (k := k) hok
    exact (Nat.testBit_lt_two_pow (Nat.lt_of_lt_of_le (Nat.lt_of_lt_of_le this h32) (Nat.pow_le_pow_right (n := 2) (by decide) (by omega : 5 ≤ j)))).symm
theorem B_linePossible (hl : l.stackTraces = false) (hB : BD I h b a th F p u) {i : Nat} (hi : i < p.nL) :
    aC l G mX5_linePossible (wsN mX5_linePossible) 4 0 0 [.ref b, .int (i3 i)] h (aP1 (some (.int (i3 (linP p u i)))) h) := by
  have hok := hB.ok
  have hB0 := hB
  obtain ⟨hP, rb, f, hb, ht, hf, -⟩ := hB
  obtain ⟨tl, ls, lo, ar, rw, T, L, R, sec, -, -, -, -, -, ho, -, -, -, hls, hrw, hlo, hlo2, hA⟩ := hP
  have hn := hok.n45
  have hm := hok.m24
  have hal := arrs_len hok
  have hA0 := hA
  obtain ⟨li, e, cap, fl, har, -⟩ := hA
  refine A_X5_linePossible hl ?_
  have e0 : (0 : Int32) = i3 0 := rfl
  have key := vloop (N := (arrs p.n p.m).length) (T := fun j => T_X5_linePossible_4 l G 4 0 0 (aP1 (some (.int (i3 (linP p u i)))) h) b (i3 i) (i3 (orPl p.n (((arrs p.n p.m).take j).filter (fit p u i)) 0)) (i3 j) h 0 0) ?_ ?_ 0 (Nat.zero_le _)
  · exact key
  · refine A_X5_linePossible_4 hl (vR_mk hb rfl (vO_mk (x := some ar) ho rfl ⟨_, rfl, ⟨_, har⟩, ?_⟩))
    refine vC_p (B_count hl hA0) (by decide) (by decide) (by decide) ⟨_, rfl, fun _ => ⟨?_, rfl⟩, fun q => absurd (by rw [i3_le (by omega) (by omega)]; exact Nat.le_refl _) q⟩
    rw [List.take_length]; rfl
  · intro j hj ih
    obtain ⟨x, hx, -, hC⟩ := B_at (G := G) hl hA0 hj
    have hmem : (arrs p.n p.m).getD j [] ∈ arrs p.n p.m := getD_mem hj
    have hx0 := hx
    obtain ⟨g, hg, hg2⟩ := hx
    rw [take_succ_getD' hj (d := []), filter_app1] at ih
    refine A_X5_linePossible_4 hl (vR_mk hb rfl (vO_mk (x := some ar) ho rfl ⟨_, rfl, ⟨_, har⟩, ?_⟩))
    refine vC_p (B_count hl hA0) (by decide) (by decide) (by decide) ⟨_, rfl, fun q => absurd (by rwa [i3_le (by omega) (by omega)] at q) (by omega : ¬ (arrs p.n p.m).length ≤ j), fun _ => vR_mk hb rfl (vO_mk (x := some ar) ho rfl ⟨_, rfl, ⟨_, har⟩, ?_⟩)⟩
    refine vC_p hC (by decide) (by decide) (by decide) ⟨_, rfl, ⟨_, hb⟩, ?_⟩
    refine vC_p (B_canHave hl hB0 hi hx0 hmem) (by decide) (by decide) (by decide) ⟨_, rfl, ?_⟩
    generalize hs : orPl p.n (((arrs p.n p.m).take j).filter (fit p u i)) 0 = s0 at ih ⊢
    -- from a place on
    have inner : ∀ k, k ≤ p.n → T_X5_linePossible_4 l G 4 0 0 (aP1 (some (.int (i3 (linP p u i)))) h) b (i3 i) (i3 ((List.range p.n).foldl (fun s k => s ||| 1 <<< (5 * k + ((arrs p.n p.m).getD j []).getD k 0)) s0)) (i3 j + 1) h 0 0 → T_X5_linePossible_54 l G 4 0 0 (aP1 (some (.int (i3 (linP p u i)))) h) b (i3 i) (i3 ((List.range k).foldl (fun s k => s ||| 1 <<< (5 * k + ((arrs p.n p.m).getD j []).getD k 0)) s0)) (i3 j) x (i3 k) h 0 0 := by
      intro k hk hfin
      revert k
      apply vloop
      · refine A_X5_linePossible_54 hl (vR_mk hb rfl (vI_mk ho rfl ⟨fun _ => hfin, fun q => absurd (by rw [i3_le (by omega) (by omega)]; exact Nat.le_refl _) q⟩))
      · intro k hk ih2
        have hxk := getD_le (arrs_row hok hmem).2.1 k
        refine A_X5_linePossible_54 hl (vR_mk hb rfl (vI_mk ho rfl ⟨fun q => absurd (by rwa [i3_le (by omega) (by omega)] at q) (by omega : ¬ p.n ≤ k), fun _ => vA_mk hg rfl hk (by omega) ?_⟩))
        intro v hv
        rw [hg2 k hk] at hv
        have o1 : (5 : Int32) * i3 k = i3 (5 * k) := i3_mul 5 k
        rw [o1, i3_add, i3_one (by omega), i3_or] at hv
        rw [hv, i3_succ]
        rw [List.range_succ, List.foldl_append] at ih2
        exact ih2
    simp only [bI_eq0]
    refine ⟨fun q => vR_mk hb rfl (vI_mk ho rfl ?_), fun q => ?_⟩
    · have q' : ¬ fit p u i ((arrs p.n p.m).getD j []) = true := by rw [q]; decide
      rw [if_neg q', List.append_nil, hs, ← i3_succ] at ih
      refine A_X5_linePossible_54 hl (vR_mk hb rfl (vI_mk ho rfl ⟨fun _ => ih, fun q => absurd (by rw [i3_le (by omega) (by omega)]; exact Nat.le_refl _) q⟩))
    · have q' : fit p u i ((arrs p.n p.m).getD j []) = true := by simpa using q
      rw [if_pos q'] at ih
      refine inner 0 (Nat.zero_le _) ?_
      have e2 : orPl p.n (((arrs p.n p.m).take j).filter (fit p u i) ++ [(arrs p.n p.m).getD j []]) 0 = (List.range p.n).foldl (fun s k => s ||| 1 <<< (5 * k + ((arrs p.n p.m).getD j []).getD k 0)) s0 := by
        rw [← hs]
        unfold orPl
        rw [List.foldl_append]; rfl
      rw [e2, ← i3_succ] at ih
      exact ih
theorem linP_lt (hok : okNM p.n p.m) {i : Nat} : linP p u i < 2 ^ 25 := by
  have hm := hok.m24
  exact orPl_lt (by have := hok.n45; omega) (fun r hr t ht => Nat.le_trans ((arrs_row hok (mem_fitL.mp hr).1).2.1 t ht) hm.2.2) (by decide)
theorem i3_poss (hok : okNM p.n p.m) {i k : Nat} (hk : k < p.n) : (i3 (linP p u i) >>> (((5 : Int32) * i3 k) &&& 31)) = i3 (linP p u i >>> (5 * k)) := by
  have hn := hok.n45
  have := linP_lt (u := u) hok (i := i)
  have o1 : (5 : Int32) * i3 k = i3 (5 * k) := i3_mul 5 k
  rw [o1, i3_shr (by omega) (by omega)]
theorem B_thingsIn (hl : l.stackTraces = false) (hB : BD I h b a th F p u) {i k : Nat} (hi : i < p.nL) (hk : k < p.n) :
    aC l G mX5_thingsIn (wsN mX5_thingsIn) 5 0 0 [.ref b, .int (i3 i), .int (i3 k)] h (aP1 (some (.int (i3 (poss p u i k)))) h) := by
  have hok := hB.ok
  have hB0 := hB
  obtain ⟨hP, rb, f, hb, ht, hf, -⟩ := hB
  refine A_X5_thingsIn hl ⟨⟨_, hb⟩, ?_⟩
  refine vC_p (B_linePossible hl hB0 hi) (by decide) (by decide) (by decide) ⟨_, rfl, ?_, rfl⟩
  have e31 : (31 : Int32) = i3 31 := rfl
  rw [i3_poss hok hk, e31, i3_and]
  have : linP p u i >>> (5 * k) &&& 31 = (linP p u i >>> (5 * k)) % 32 := Nat.and_two_pow_sub_one_eq_mod _ 5
  rw [this, linP_shr hok hk]
theorem B_brokenLines (hl : l.stackTraces = false) (hB : BD I h b a th F p u) : aC l G mX5_brokenLines (wsN mX5_brokenLines) 5 0 0 [.ref b] h (aP1 (some (.int (i3 (brkSet p u)))) h) := by
  have hok := hB.ok
  have hL := nL_le hok
  have hB0 := hB
  obtain ⟨hP, rb, f, hb, ht, hf, -⟩ := hB
  have hP0 := hP
  obtain ⟨tl, ls, lo, ar, rw, T, L, R, sec, -, -, -, -, -, ho, -⟩ := hP
  refine A_X5_brokenLines hl ?_
  have key := vloop (N := p.nL) (T := fun j => T_X5_brokenLines_4 l G 5 0 0 (aP1 (some (.int (i3 (brkSet p u)))) h) b (i3 (brkTo p u j)) (i3 j) h 0 0) ?_ ?_ 0 (Nat.zero_le _)
  · exact key
  · refine A_X5_brokenLines_4 hl (vR_mk hb rfl ⟨⟨_, ho⟩, ?_⟩)
    exact vC_p (B_lineCount hl hP0) (by decide) (by decide) (by decide) ⟨_, rfl, fun _ => ⟨rfl, rfl⟩, fun q => absurd (by rw [i3_le (by omega) (by omega)]; exact Nat.le_refl _) q⟩
  · intro j hj ih
    refine A_X5_brokenLines_4 hl (vR_mk hb rfl ⟨⟨_, ho⟩, ?_⟩)
    refine vC_p (B_lineCount hl hP0) (by decide) (by decide) (by decide) ⟨_, rfl, fun q => absurd (by rwa [i3_le (by omega) (by omega)] at q) (by omega : ¬ p.nL ≤ j), fun _ => ⟨⟨_, hb⟩, ?_⟩⟩
    refine vC_p (B_isLineBroken hl hB0 hj) (by decide) (by decide) (by decide) ⟨_, rfl, fun v hv => ?_⟩
    have : v = i3 (brkTo p u (j + 1)) := by
      rw [hv, brkTo_succ, ← i3_or, i3_one (by omega)]
      cases brk p u j <;> rfl
    rw [this, i3_succ]
    exact ih
theorem B_isBroken (hl : l.stackTraces = false) (hB : BD I h b a th F p u) : aC l G mX5_isBroken (wsN mX5_isBroken) 5 0 0 [.ref b] h (aP1 (some (.int (bI (brkB p u)))) h) := by
  have hok := hB.ok
  have hL := nL_le hok
  have hB0 := hB
  obtain ⟨hP, rb, f, hb, ht, hf, -⟩ := hB
  have hP0 := hP
  obtain ⟨tl, ls, lo, ar, rw, T, L, R, sec, -, -, -, -, -, ho, -⟩ := hP
  refine A_X5_isBroken hl ?_
  have key := vloop (N := p.nL) (T := fun j => (∀ k, k < j → brk p u k = false) → T_X5_isBroken_2 l G 5 0 0 (aP1 (some (.int (bI (brkB p u)))) h) b (i3 j) h 0 0) ?_ ?_ 0 (Nat.zero_le _) (fun k hk => absurd hk (Nat.not_lt_zero _))
  · exact key
  · intro hall
    refine A_X5_isBroken_2 hl (vR_mk hb rfl ⟨⟨_, ho⟩, ?_⟩)
    refine vC_p (B_lineCount hl hP0) (by decide) (by decide) (by decide) ⟨_, rfl, fun _ => ⟨?_, rfl⟩, fun q => absurd (by rw [i3_le (by omega) (by omega)]; exact Nat.le_refl _) q⟩
    rw [brkB_iff.mpr hall]; rfl
  · intro j hj ih hall
    refine A_X5_isBroken_2 hl (vR_mk hb rfl ⟨⟨_, ho⟩, ?_⟩)
    refine vC_p (B_lineCount hl hP0) (by decide) (by decide) (by decide) ⟨_, rfl, fun q => absurd (by rwa [i3_le (by omega) (by omega)] at q) (by omega : ¬ p.nL ≤ j), fun _ => ⟨⟨_, hb⟩, ?_⟩⟩
    refine vC_p (B_isLineBroken hl hB0 hj) (by decide) (by decide) (by decide) ⟨_, rfl, ?_⟩
    simp only [bI_eq0, i3_succ]
    refine ⟨fun q => ih fun k hk => ?_, fun q => ⟨?_, rfl⟩⟩
    · rcases Nat.lt_or_ge k j with z | z
      · exact hall k z
      · have : k = j := by omega
        subst this; exact q
    · have : brkB p u = true := by
        cases z : brkB p u with
        | true => rfl
        | false => rw [brkB_iff.mp z j hj] at q; exact absurd rfl q
      rw [this]; rfl
theorem B_isSolved (hl : l.stackTraces = false) (hB : BD I h b a th F p u) : aC l G mX5_isSolved (wsN mX5_isSolved) 6 0 0 [.ref b] h (aP1 (some (.int (bI (doneB p u && !brkB p u)))) h) := by
  have hok := hB.ok
  have hn := hok.n45
  have hnn := nn_le hn
  have hB0 := hB
  obtain ⟨hP, rb, f, hb, ht, hf, -⟩ := hB
  have hP0 := hP
  obtain ⟨tl, ls, lo, ar, rw, T, L, R, sec, -, -, -, -, -, ho, -⟩ := hP
  refine A_X5_isSolved hl ?_
  have key := vloop (N := p.n * p.n) (T := fun j => T_X5_isSolved_4 l G 6 0 0 (aP1 (some (.int (bI (doneB p u && !brkB p u)))) h) b (bI ((List.range j).foldl (fun a c => a && pc (u c) == 1) true)) (i3 j) h 0 0) ?_ ?_ 0 (Nat.zero_le _)
  · exact key
  · refine A_X5_isSolved_4 hl (vR_mk hb rfl ⟨⟨_, ho⟩, ?_⟩)
    refine vC_p (B_cellCount hl hP0) (by decide) (by decide) (by decide) ⟨_, rfl, fun _ => ?_, fun q => absurd (by rw [i3_le (by omega) (by omega)]; exact Nat.le_refl _) q⟩
    have e : (List.range (p.n * p.n)).foldl (fun a c => a && pc (u c) == 1) true = doneB p u := rfl
    rw [e]
    simp only [bI_eq0]
    refine ⟨fun q => ⟨by rw [q]; rfl, rfl⟩, fun q => ⟨⟨_, hb⟩, ?_⟩⟩
    have q' : doneB p u = true := by simpa using q
    refine vC_p (B_isBroken hl hB0) (by decide) (by decide) (by decide) ⟨_, rfl, vB_if, ?_⟩
    rw [q']
    cases brkB p u <;> exact ⟨rfl, rfl⟩
  · intro j hj ih
    refine A_X5_isSolved_4 hl (vR_mk hb rfl ⟨⟨_, ho⟩, ?_⟩)
    refine vC_p (B_cellCount hl hP0) (by decide) (by decide) (by decide) ⟨_, rfl, fun q => absurd (by rwa [i3_le (by omega) (by omega)] at q) (by omega : ¬ p.n * p.n ≤ j), fun _ => ⟨⟨_, hb⟩, ?_⟩⟩
    refine vC_p (B_isSettled hl hB0 hj) (by decide) (by decide) (by decide) ⟨_, rfl, ?_⟩
    rw [List.range_succ, List.foldl_append] at ih
    rw [i3_succ]
    have e : ∀ x y : Bool, bI x &&& bI y = bI (x && y) := by intro x y; cases x <;> cases y <;> rfl
    rw [e]
    exact ih
theorem B_isBrokenAt (hl : l.stackTraces = false) (hB : BD I h b a th F p u) {c : Nat} (hc : c < p.n * p.n) : aC l G mX5_isBrokenAt (wsN mX5_isBrokenAt) 5 0 0 [.ref b, .int (i3 c)] h (aP1 (some (.int (bI ((List.range p.nL).any fun i => (linesN p c).testBit i && brk p u i)))) h) := by
  have hok := hB.ok
  have hn := hok.n45
  have hL := nL_le hok
  have hnn := nn_le hn
  have hB0 := hB
  obtain ⟨hP, rb, f, hb, ht, hf, -⟩ := hB
  obtain ⟨tl, ls, lo, ar, rw, T, L, R, sec, -, -, -, -, -, ho, -, -, -, hls, hrw, hlo, hlo2, hA⟩ := hP
  have hll := linesN_lt hn hc
  have h12 := pow12 hok
  refine A_X5_isBrokenAt hl (vR_mk hb rfl (vR_mk ho rfl (vA_mk hlo rfl (by omega : c < 25) (by decide) ?_)))
  rw [hlo2 c hc]
  obtain ⟨res, hres⟩ : ∃ res, res = (List.range p.nL).any fun i => (linesN p c).testBit i && brk p u i := ⟨_, rfl⟩
  rw [← hres]
  -- the rest of the lines: those ahead are not broken
  have key : ∀ (k s : Nat), s < k → s < 4096 → (∀ i, s.testBit i = true → (linesN p c).testBit i = true) → (∀ i, (linesN p c).testBit i = true → s.testBit i = false → brk p u i = false) → T_X5_isBrokenAt_12 l G 5 0 0 (aP1 (some (.int (bI res))) h) b (bI false) (i3 s) h 0 0 := by
    intro k
    induction k with
    | zero => intro s hs; omega
    | succ k ih =>
      intro s hs hs2 hsub hdone
      have ez : (i3 s = 0) = (s = 0) := i3_eq (b := 0) (by omega) (by decide)
      refine A_X5_isBrokenAt_12 hl ?_
      unfold V_X5_isBrokenAt_12
      simp only [ez]
      refine ⟨fun q => ⟨vB_bI, ?_, rfl⟩, fun q => ⟨fun q2 => absurd rfl q2, fun _ => ?_⟩⟩
      · have : res = false := by
          rw [hres, ← Bool.not_eq_true, any_range]
          rintro ⟨i, hi, z⟩
          rw [Bool.and_eq_true] at z
          have := hdone i z.1 (by rw [q, Nat.zero_testBit])
          rw [this] at z; cases z.2
        rw [this]
      · obtain ⟨n1, n2, n3⟩ := ntz_spec q hs2
        have hlt : ntz s < p.nL := ((linesN_bit hn hc).mp (hsub _ n1)).1
        refine vC_p (B_ntz hl hs2 q) (by decide) (by decide) (by decide) ⟨_, rfl, ⟨_, hb⟩, ?_⟩
        refine vC_p (B_isLineBroken hl hB0 hlt) (by decide) (by decide) (by decide) ⟨_, rfl, ?_⟩
        obtain ⟨s', hs', e1, e2⟩ := rest_step hs2 q
        rw [e1]
        cases hbk : brk p u (ntz s) with
        | true =>
          refine A_X5_isBrokenAt_12 hl ?_
          have : res = true := by rw [hres, any_range]; exact ⟨_, hlt, by rw [hsub _ n1, hbk]; rfl⟩
          rw [this]
          exact ⟨fun _ => ⟨vB_bI, rfl, rfl⟩, fun _ => ⟨fun _ => ⟨vB_bI, rfl, rfl⟩, fun z => by cases z⟩⟩
        | false =>
          refine ih s' (by omega) (by omega) (fun i hi => hsub i (by rw [e2, Bool.and_eq_true] at hi; exact hi.1)) (fun i hi hz => ?_)
          rw [e2] at hz
          by_cases z : s.testBit i = true
          · rw [z, Bool.true_and] at hz
            have : i = ntz s := by simpa using hz
            rw [this]; exact hbk
          · exact hdone i hi (by simpa using z)
  exact key (linesN p c + 1) (linesN p c) (by omega) (by omega) (fun i hi => hi) (fun i h1 h2 => by rw [h1] at h2; cases h2)
end BRD
