/-! lists, looks, looksAtAll -/
set_option maxRecDepth 100000
def TC (st : MSt) : Prop := st.1 7 = 0 ∨ ∃ n m, TV st n m
theorem TC.to {a b : MSt} (h : TC a) (e3 : b.2.1 3 = a.2.1 3) (e4 : b.2.1 4 = a.2.1 4) (e7 : b.1 7 = a.1 7) (e8 : b.1 8 = a.1 8) (e9 : b.1 9 = a.1 9) : TC b := by
  rcases h with h | ⟨n, m, h⟩
  · exact Or.inl (e7.trans h)
  · exact Or.inr ⟨n, m, h.to e3 e4 e7 e8 e9⟩
def rowsTo (n m c : Nat) : List (List Nat) := ((List.range c).map (digs (m + 1) n)).filter (isRow m)
theorem rowsTo_succ (n m c : Nat) : rowsTo n m (c + 1) = rowsTo n m c ++ (if isRow m (digs (m + 1) n c) then [digs (m + 1) n c] else []) := by
  unfold rowsTo
  rw [List.range_succ, List.map_append, List.filter_append]
  congr 1
  show List.filter (isRow m) [digs (m + 1) n c] = _
  by_cases q : isRow m (digs (m + 1) n c) = true
  · rw [if_pos q, List.filter_cons, if_pos q]; rfl
  · rw [if_neg q, List.filter_cons, if_neg q]; rfl
theorem rowsTo_le {n m c : Nat} (hok : okNM n m) (hc : c ≤ (m + 1) ^ n) : (rowsTo n m c).length ≤ 120 := by
  refine Nat.le_trans ?_ (tab_len hok)
  exact (((List.range_sublist.mpr hc).map _).filter _).length_le
theorem S_lists {st : MSt} {p : Pz} {fuel : Nat} (h : MV st p) (hT : TC st) (hf : 3200 ≤ fuel) : ∃ st', S_X6_lists fuel st = some st' ∧ frm [3, 4] [7, 8, 9] st st' ∧ TV st' p.n p.m := by
  have hok := h.1
  have hn := hok.n45
  have hm := hok.m24
  have hnew : ∃ st', S_X6_lists_j38 fuel (i3 p.n) (i3 (p.m + 1)) st = some st' ∧ frm [3, 4] [7, 8, 9] st st' ∧ TV st' p.n p.m := by
    unfold S_X6_lists_j38
    simp only [onm_e, mI_a, h.2.2.1]
    generalize hu : mI (mI (mI st 7 (i3 p.n)) 8 (i3 p.m)) 9 0 = u
    have u7 : u.1 7 = i3 p.n := by rw [← hu, mI_ne (by decide), mI_ne (by decide), mI_eq]
    have u8 : u.1 8 = i3 p.m := by rw [← hu, mI_ne (by decide), mI_eq]
    have u9 : u.1 9 = i3 0 := by rw [← hu, mI_eq]; rfl
    have uf : frm [3, 4] [7, 8, 9] st u := by rw [← hu]; exact (((frm.rf).i (by simp)).i (by simp)).i (by simp)
    have hpow : ∀ j, j ≤ p.n → (p.m + 1) ^ j ≤ 3125 := fun j hj => Nat.le_trans (Nat.pow_le_pow_right (Nat.succ_pos _) hj) (by rcases hok with ⟨e, e2 | e2⟩ | ⟨e, e2 | e2 | e2⟩ <;> rw [e, e2] <;> decide)
    have key : S_X6_lists_c63 (fun y7_2 y7_3 u8 => S_X6_lists_c82 fuel y7_2 y7_3 0 u8) fuel (i3 p.n) (i3 (p.m + 1)) 1 0 u = S_X6_lists_c82 fuel (i3 (p.m + 1)) (i3 ((p.m + 1) ^ p.n)) 0 u := by
      have k1 := vloop (N := p.n) (T := fun j => ∀ f, p.n - j + 1 ≤ f → S_X6_lists_c63 (fun y7_2 y7_3 u8 => S_X6_lists_c82 fuel y7_2 y7_3 0 u8) f (i3 p.n) (i3 (p.m + 1)) (i3 ((p.m + 1) ^ j)) (i3 j) u = S_X6_lists_c82 fuel (i3 (p.m + 1)) (i3 ((p.m + 1) ^ p.n)) 0 u) ?_ ?_ 0 (Nat.zero_le _) fuel (by omega)
      · exact k1
      · intro f hf
        obtain ⟨f, rfl⟩ : ∃ k, f = k + 1 := ⟨f - 1, by omega⟩
        rw [S_X6_lists_c63]
        simp only [i3_le (a := p.n) (b := p.n) (by omega) (by omega), Nat.le_refl, if_true]
      · intro j hj ih f hf
        obtain ⟨f, rfl⟩ : ∃ k, f = k + 1 := ⟨f - 1, by omega⟩
        have hq : ¬ p.n ≤ j := by omega
        rw [S_X6_lists_c63]
        simp only [i3_le (a := p.n) (b := j) (by omega) (by omega), hq, if_false, onm_e, i3_mul, i3_succ]
        rw [← Nat.pow_succ]
        exact ih f (by omega)
    rw [key]
    have hP := hpow p.n (Nat.le_refl _)
    have k2 := st_loop (F := fun f j s => S_X6_lists_c82 f (i3 (p.m + 1)) (i3 ((p.m + 1) ^ p.n)) (i3 j) s)
      (I := fun j s => frm [3, 4] [7, 8, 9] st s ∧ s.1 7 = i3 p.n ∧ s.1 8 = i3 p.m ∧ TVk s p.n p.m (rowsTo p.n p.m j))
      (Q := fun s => frm [3, 4] [7, 8, 9] st s ∧ TV s p.n p.m) (N := (p.m + 1) ^ p.n) (B := 14) ?_ ?_ 0 (Nat.zero_le _) fuel u (by omega) ⟨uf, u7, u8, by rw [u9]; rfl, fun k hk => absurd hk (Nat.not_lt_zero _), fun k hk => absurd hk (Nat.not_lt_zero _)⟩
    · exact k2
    · intro f s _ ⟨h1, h2, h3, h4⟩
      rw [S_X6_lists_c82]
      simp only [i3_le (a := (p.m + 1) ^ p.n) (b := (p.m + 1) ^ p.n) (by omega) (by omega), Nat.le_refl, if_true]
      exact ⟨s, rfl, h1, hok, h2, h3, h4⟩
    · intro f j s hj hfb ⟨h1, h2, h3, h4⟩
      have hq : ¬ (p.m + 1) ^ p.n ≤ j := by omega
      have hle := rowsTo_le hok (c := j) (by omega)
      obtain ⟨s', g1, g2, g3⟩ := S_lays hok h2 h3 h4 (by omega) hj (fun hr => by
        have := rowsTo_le hok (c := j + 1) hj
        rw [rowsTo_succ, if_pos hr, List.length_append] at this
        have e : [digs (p.m + 1) p.n j].length = 1 := rfl
        omega) hfb
      refine ⟨s', ⟨h1.trans (g2.mono (by simp) (by simp)), (g2.2.1 7 (by simp)).trans h2, (g2.2.1 8 (by simp)).trans h3, by rw [rowsTo_succ]; exact g3⟩, ?_⟩
      rw [S_X6_lists_c82]
      simp only [i3_le (a := (p.m + 1) ^ p.n) (b := j) (by omega) (by omega), hq, if_false, g1, Option.bind_some, i3_succ]
  unfold S_X6_lists
  rw [h.2.1, h.2.2.1, onm_e, onm_e, i3_succ]
  by_cases q1 : st.1 7 = i3 p.n
  · rw [if_pos q1]
    by_cases q2 : st.1 8 = i3 p.m
    · rw [if_pos q2]
      rcases hT with hT | ⟨n', m', hT⟩
      · exfalso
        rw [q1] at hT
        have e : (i3 p.n = i3 0) = (p.n = 0) := i3_eq (by omega) (by decide)
        have hT2 : i3 p.n = i3 0 := hT
        rw [e] at hT2
        omega
      · have a := hT.1
        have e1 : n' = p.n := by
          have b := hT.2.1
          rw [q1, eq_comm, i3_eq (by have := a.n45; omega) (by omega)] at b
          exact b
        have e2 : m' = p.m := by
          have b := hT.2.2.1
          rw [q2, eq_comm, i3_eq (by have := a.m24; omega) (by omega)] at b
          exact b
        subst e1; subst e2
        exact ⟨st, rfl, frm.rf, hT⟩
    · rw [if_neg q2]; exact hnew
  · rw [if_neg q1]; exact hnew
theorem orAt_app (a : List (List Nat)) (r : List Nat) (k : Nat) : orAt (a ++ [r]) k = orAt a k ||| 1 <<< r.getD k 0 := by unfold orAt; rw [List.foldl_append]; rfl
theorem orAt_bit (k t : Nat) (rows : List (List Nat)) : (orAt rows k).testBit t = rows.any (fun r => r.getD k 0 == t) := by
  have : ∀ (rows : List (List Nat)) (s : Nat), (rows.foldl (fun s r => s ||| 1 <<< r.getD k 0) s).testBit t = (s.testBit t || rows.any (fun r => r.getD k 0 == t)) := by
    intro rows
    induction rows with
    | nil => intro s; simp
    | cons r rows ih =>
      intro s
      rw [List.foldl_cons, ih, Nat.testBit_or, tbs, List.any_cons, Bool.or_assoc]
      congr 2
      rw [Bool.eq_iff_iff, decide_eq_true_eq, beq_iff_eq]
      exact eq_comm
  unfold orAt
  rw [this, Nat.zero_testBit, Bool.false_or]
theorem any_perm {α : Type} {a b : List α} (h : a.Perm b) (f : α → Bool) : a.any f = b.any f := by
  rw [Bool.eq_iff_iff, List.any_eq_true, List.any_eq_true]
  exact ⟨fun ⟨x, hx, q⟩ => ⟨x, h.mem_iff.mp hx, q⟩, fun ⟨x, hx, q⟩ => ⟨x, h.mem_iff.mpr hx, q⟩⟩
theorem orAt_perm {a b : List (List Nat)} (h : a.Perm b) (k : Nat) : orAt a k = orAt b k := by
  apply Nat.eq_of_testBit_eq
  intro t
  rw [orAt_bit, orAt_bit, any_perm h]
theorem orAt_lt {m : Nat} {rows : List (List Nat)} (h : ∀ r ∈ rows, ∀ t ∈ r, t ≤ m) (k : Nat) : orAt rows k < 2 ^ (m + 1) := by
  apply Nat.lt_pow_two_of_testBit
  intro i hi
  rw [orAt_bit]
  cases q : rows.any fun r => r.getD k 0 == i with
  | false => rfl
  | true =>
    obtain ⟨r, hr, e⟩ := List.any_eq_true.mp q
    have e : r.getD k 0 = i := by simpa using e
    have := getD_le (h r hr) k
    omega
theorem fitT_perm {p : Pz} (h : okNM p.n p.m) (u : Nat → Nat) (l : Nat) : ((tabN p.n p.m).filter (fit p u l)).Perm (fitL p u l) := (tab_perm h).filter _
theorem take_succ_getD' {α : Type} {l : List α} {j : Nat} {d : α} (h : j < l.length) : l.take (j + 1) = l.take j ++ [l.getD j d] := by
  rw [List.take_succ, List.getElem?_eq_getElem h, List.getD_eq_getElem?_getD, List.getElem?_eq_getElem h]
  rfl
theorem filter_app1 {α : Type} (f : α → Bool) (a : List α) (x : α) : (a ++ [x]).filter f = a.filter f ++ (if f x then [x] else []) := by
  rw [List.filter_append]
  congr 1
  by_cases q : f x = true
  · rw [if_pos q, List.filter_cons, if_pos q]; rfl
  · rw [if_neg q, List.filter_cons, if_neg q]; rfl
theorem look_row {K : Int32 → Int32 → Int32 → Int32 → MSt → Option (Int32 × MSt)} {st : MSt} {n k fuel : Nat} {row : List Nat} {sn : Nat → Nat} {x1 x2 x3 : Int32} (hn : n = 4 ∨ n = 5) (h0 : st.2.1 0 0 = i3 n) (hk : k < 120) (h3 : ∀ j, j < n → st.2.1 3 (5 * k + j) = i3 (row.getD j 0)) (hr : ∀ j, row.getD j 0 ≤ 4)
    (hs : ∀ j, j < n → st.2.1 6 j = i3 (sn j)) (hf : 7 ≤ fuel) :
    ∃ st', (frm [6] [] st st' ∧ (∀ j, j < n → st'.2.1 6 j = i3 (sn j ||| 1 <<< row.getD j 0)) ∧ ∀ j, n ≤ j → st'.2.1 6 j = st.2.1 6 j) ∧ S_X6_looks_c55 K fuel x1 x2 x3 (i3 k) 0 st = K x1 x2 x3 (i3 k) st' := by
  have key := st_run (F := fun f j s => S_X6_looks_c55 K f x1 x2 x3 (i3 k) (i3 j) s) (K := fun s => K x1 x2 x3 (i3 k) s)
    (I := fun j s => frm [6] [] st s ∧ (∀ i, i < j → s.2.1 6 i = i3 (sn i ||| 1 <<< row.getD i 0)) ∧ ∀ i, j ≤ i → s.2.1 6 i = st.2.1 6 i) (N := n) (B := 0) ?_ ?_ 0 (Nat.zero_le _) fuel st (by omega) ⟨frm.rf, fun i h => absurd h (Nat.not_lt_zero _), fun _ _ => rfl⟩
  · exact key
  · intro f s _ ⟨h1, _, _⟩
    have e0 : s.2.1 0 = st.2.1 0 := h1.1 0 (by simp)
    rw [S_X6_looks_c55, e0, h0]
    simp only [i3_le (a := n) (b := n) (by omega) (by omega), Nat.le_refl, if_true]
  · intro f j s hj _ ⟨h1, h2, h4⟩
    have e0 : s.2.1 0 = st.2.1 0 := h1.1 0 (by simp)
    have e3 : s.2.1 3 = st.2.1 3 := h1.1 3 (by simp)
    have hq : ¬ n ≤ j := by omega
    have o1 : (5 : Int32) * i3 k + i3 j = i3 (5 * k + j) := by rw [show (5 : Int32) = i3 5 from rfl, i3_mul, i3_add]
    have esh : (1 : Int32) <<< (i3 (row.getD j 0) &&& 31) = i3 (1 <<< row.getD j 0) := i3_shl (a := 1) (by have := hr j; omega)
    refine ⟨mA s 6 j (i3 (sn j ||| 1 <<< row.getD j 0)), ⟨h1.a (by simp), fun i hi => ?_, fun i hi => ?_⟩, ?_⟩
    · rw [mA_eq]
      rcases Nat.lt_or_ge i j with q | q
      · rw [upd_ne (by omega)]; exact h2 i q
      · have : i = j := by omega
        subst this
        rw [upd_same]
    · rw [mA_eq, upd_ne (by omega)]; exact h4 i (by omega)
    · rw [S_X6_looks_c55, e0, h0]
      simp only [i3_le (a := n) (b := j) (by omega) (by omega), hq, if_false]
      rw [ob_e (by omega) (by decide), o1, ob_e (by omega) (by decide), ob_e (by omega) (by decide), onm_e, e3, h3 j hj, h4 j (Nat.le_refl _), hs j hj, esh, i3_or, i3_succ]
theorem S_looks {st : MSt} {p : Pz} {b l fuel : Nat} {u : Nat → Nat} (h : MV st p) (hT : TC st) (hu : LVw st b p.m u) (hb : b ≤ 725) (hl : l < 2 * p.n + 2) (hf : 3200 ≤ fuel) :
    ∃ st', S_X6_looks fuel (i3 b) (i3 l) st = some (i3 (fitL p u l).length, st') ∧ frm [3, 4, 6] [7, 8, 9] st st' ∧ TV st' p.n p.m ∧ ∀ k, k < p.n → st'.2.1 6 k = i3 (poss p u l k) := by
  have hok := h.1
  have hn := hok.n45
  have hm := hok.m24
  obtain ⟨s1, g1, g2, g3⟩ := S_lists h hT hf
  have hlen := tab_len hok
  unfold S_X6_looks
  rw [g1, Option.bind_some]
  obtain ⟨s2, ⟨k1, k2⟩, k3⟩ := st_run (F := fun f j s => S_X6_looks_c6 (fun y6_1 y6_2 u7 => S_X6_looks_c29 fuel y6_1 y6_2 0 0 u7) f (i3 b) (i3 l) (i3 j) s) (K := fun s => S_X6_looks_c29 fuel (i3 b) (i3 l) 0 0 s)
    (I := fun j s => frm [6] [] s1 s ∧ ∀ i, i < j → s.2.1 6 i = i3 0) (N := 5) (B := 0) (fun f s _ _ => by
      rw [S_X6_looks_c6]; exact if_pos (by decide)) (fun f j s hj _ ⟨h1, h2⟩ => by
      have hq : ¬ 5 ≤ j := by omega
      refine ⟨mA s 6 j 0, ⟨h1.a (by simp), fun i hi => ?_⟩, ?_⟩
      · rw [mA_eq]
        rcases Nat.lt_or_ge i j with q | q
        · rw [upd_ne (by omega)]; exact h2 i q
        · have : i = j := by omega
          subst this
          rw [upd_same]; rfl
      · rw [S_X6_looks_c6]
        have e5 : ((5 : Int32) ≤ i3 j) = (5 ≤ j) := i3_le (a := 5) (by decide) (by omega)
        simp only [e5, hq, if_false]
        rw [ob_e (by omega) (by decide), onm_e, i3_succ]) 0 (Nat.zero_le _) fuel s1 (by omega) ⟨frm.rf, fun i h => absurd h (Nat.not_lt_zero _)⟩
  refine Exists.imp (fun st' hh => ⟨k3.trans hh.1, hh.2⟩) (?_ : ∃ st', S_X6_looks_c29 fuel (i3 b) (i3 l) 0 0 s2 = some (i3 (fitL p u l).length, st') ∧ _)
  have f2 : frm [3, 4, 6] [7, 8, 9] st s2 := (g2.mono (by simp) (by simp)).trans (k1.mono (by simp) (by simp))
  have T2 : TV s2 p.n p.m := g3.to (k1.1 3 (by simp)) (k1.1 4 (by simp)) (k1.2.1 7 (by simp)) (k1.2.1 8 (by simp)) (k1.2.1 9 (by simp))
  have key := st_loop (F := fun f j (a : Nat × MSt) => S_X6_looks_c29 f (i3 b) (i3 l) (i3 a.1) (i3 j) a.2)
    (I := fun j a => a.1 = (((tabN p.n p.m).take j).filter (fit p u l)).length ∧ frm [3, 4, 6] [7, 8, 9] st a.2 ∧ frm [6] [] s2 a.2 ∧ ∀ i, i < p.n → a.2.2.1 6 i = i3 (orAt (((tabN p.n p.m).take j).filter (fit p u l)) i))
    (Q := fun r => r.1 = i3 (fitL p u l).length ∧ frm [3, 4, 6] [7, 8, 9] st r.2 ∧ TV r.2 p.n p.m ∧ ∀ k, k < p.n → r.2.2.1 6 k = i3 (poss p u l k)) (N := (tabN p.n p.m).length) (B := 14) ?_ ?_ 0 (Nat.zero_le _) fuel (0, s2) (by omega) ⟨rfl, f2, frm.rf, fun i hi => k2 i (by omega)⟩
  · obtain ⟨⟨r1, r2⟩, e1, e2, e3, e4, e5⟩ := key
    simp only at e2 e3 e4 e5
    subst e2
    exact ⟨r2, e1, e3, e4, e5⟩
  · intro f a _ ⟨h1, h2, h3, h4⟩
    obtain ⟨cn, s⟩ := a
    simp only at h1 h2 h3 h4 ⊢
    have T3 : TV s p.n p.m := T2.to (h3.1 3 (by simp)) (h3.1 4 (by simp)) (h3.2.1 7 (by simp)) (h3.2.1 8 (by simp)) (h3.2.1 9 (by simp))
    rw [S_X6_looks_c29, T3.2.2.2.1]
    simp only [i3_le (a := (tabN p.n p.m).length) (b := (tabN p.n p.m).length) (by omega) (by omega), Nat.le_refl, if_true]
    rw [List.take_length] at h1 h4
    refine ⟨_, rfl, ?_, h2, T3, fun k hk => ?_⟩
    · show i3 cn = _; rw [h1, (fitT_perm hok u l).length_eq]
    · show s.2.1 6 k = _; rw [h4 k hk, orAt_perm (fitT_perm hok u l)]; rfl
  · intro f j a hj hfb ⟨h1, h2, h3, h4⟩
    obtain ⟨cn, s⟩ := a
    simp only at h1 h2 h3 h4 ⊢
    have T3 : TV s p.n p.m := T2.to (h3.1 3 (by simp)) (h3.1 4 (by simp)) (h3.2.1 7 (by simp)) (h3.2.1 8 (by simp)) (h3.2.1 9 (by simp))
    have hq : ¬ (tabN p.n p.m).length ≤ j := by omega
    have hM : MV s p := h.to (h2.1 0 (by simp))
    have hU : LVw s b p.m u := hu.to (h2.1 5 (by simp))
    rw [S_X6_looks_c29, T3.2.2.2.1]
    simp only [i3_le (a := (tabN p.n p.m).length) (b := j) (by omega) (by omega), hq, if_false]
    rw [S_fits hM T3 hU hb hl hj (by omega), Option.bind_some, take_succ_getD' (d := []) hj, filter_app1]
    simp only [bI_eq0]
    cases hft : fit p u l ((tabN p.n p.m).getD j []) with
    | false =>
      simp only [if_true, Bool.false_eq_true, if_false, List.append_nil, i3_succ]
      exact ⟨(cn, s), ⟨h1, h2, h3, h4⟩, rfl⟩
    | true =>
      simp only [Bool.true_eq_false, if_false, if_true, i3_succ]
      have hrow := tab_row hok (getD_mem (d := []) hj)
      obtain ⟨s', ⟨r1, r2, r3⟩, r4⟩ := look_row (K := fun y11_1 y11_2 y11_3 y11_4 u12 => S_X6_looks_c29 f y11_1 y11_2 y11_3 (y11_4 + 1) u12) (x1 := i3 b) (x2 := i3 l) (x3 := i3 (cn + 1)) (fuel := f) (st := s) hn hM.2.1 (by omega) (T3.2.2.2.2.1 j hj) (fun i => Nat.le_trans (getD_le hrow.2.1 i) (by omega)) h4 (by omega)
      refine ⟨(cn + 1, s'), ⟨?_, h2.trans (r1.mono (by simp) (by simp)), h3.trans r1, fun i hi => ?_⟩, ?_⟩
      · rw [List.length_append, ← h1]; rfl
      · rw [orAt_app]; exact r2 i hi
      · rw [r4, i3_succ]
