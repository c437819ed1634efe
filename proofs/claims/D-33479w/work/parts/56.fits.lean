/-! the model's table of arrangements, and whether a line can have one -/
set_option maxRecDepth 100000
def endN (m : Nat) (row : List Nat) (i : Nat) : Nat := (lets m row).getD (if i = 0 then 0 else if i = 1 then 1 else if i = 2 then m - 1 else m - 2) 0
/-- k rows lie in the table -/
def TVk (st : MSt) (n m : Nat) (rows : List (List Nat)) : Prop := st.1 9 = i3 rows.length ∧ (∀ k, k < rows.length → ∀ j, j < n → st.2.1 3 (5 * k + j) = i3 ((rows.getD k []).getD j 0)) ∧ ∀ k, k < rows.length → ∀ i, i < 4 → st.2.1 4 (4 * k + i) = i3 (endN m (rows.getD k []) i)
def TV (st : MSt) (n m : Nat) : Prop := okNM n m ∧ st.1 7 = i3 n ∧ st.1 8 = i3 m ∧ TVk st n m (tabN n m)
theorem TV.to {a b : MSt} {n m : Nat} (h : TV a n m) (e3 : b.2.1 3 = a.2.1 3) (e4 : b.2.1 4 = a.2.1 4) (e7 : b.1 7 = a.1 7) (e8 : b.1 8 = a.1 8) (e9 : b.1 9 = a.1 9) : TV b n m := by unfold TV TVk; rw [e3, e4, e7, e8, e9]; exact h
theorem tab_len {n m : Nat} (h : okNM n m) : (tabN n m).length ≤ 120 := by rw [(tab_perm h).length_eq]; exact arrs_len h
theorem tab_row {n m : Nat} (h : okNM n m) {row : List Nat} (hr : row ∈ tabN n m) : row.length = n ∧ (∀ t ∈ row, t ≤ m) ∧ ∀ t, t < m → row.count t = 1 := arrs_row h ((tab_perm h).mem_iff.mp hr)
theorem getD_mem {α : Type} {l : List α} {k : Nat} {d : α} (h : k < l.length) : l.getD k d ∈ l := by
  rw [List.getD_eq_getElem?_getD, List.getElem?_eq_getElem h]; exact List.getElem_mem h
theorem getD_le {m : Nat} {row : List Nat} (h : ∀ t ∈ row, t ≤ m) (j : Nat) : row.getD j 0 ≤ m := by
  by_cases q : j < row.length
  · exact h _ (getD_mem q)
  · rw [List.getD_eq_getElem?_getD, List.getElem?_eq_none (by omega)]; exact Nat.zero_le _
theorem lets_le {m : Nat} {row : List Nat} (j : Nat) : (lets m row).getD j 0 ≤ m := getD_le (fun t ht => by
  have := (List.mem_filter.mp ht).2
  have : t < m := by simpa using this
  omega) j
theorem S_fits {st : MSt} {p : Pz} {b l k n : Nat} {u : Nat → Nat} (h : MV st p) (hT : TV st p.n p.m) (hu : LVw st b p.m u) (hb : b ≤ 725) (hl : l < 2 * p.n + 2) (hk : k < (tabN p.n p.m).length) (hn : 6 ≤ n) :
    S_X6_fits n (i3 b) (i3 l) (i3 k) st = some (bI (fit p u l ((tabN p.n p.m).getD k []))) := by
  obtain ⟨hok, h7, h8, hTk, hR, hE⟩ := hT
  have hE := hE k hk
  have hR := hR k hk
  have hlen := tab_len hok
  have hn45 := hok.n45
  have hm := hok.m24
  have h32 := pow_le hm.2.2
  generalize hrow : (tabN p.n p.m).getD k [] = row at hE hR ⊢
  have hmem : row ∈ tabN p.n p.m := by rw [← hrow]; exact getD_mem hk
  have hrow := tab_row hok hmem
  have hcl : ∀ j, j < p.n → cellN p.n l j < 25 := fun j hj => Nat.lt_of_lt_of_le (cellN_lt hok.n45 hl hj) (nn_le hok.n45)
  have htl : ∀ z, p.te l z < 20 := by
    intro z
    unfold Pz.te
    split
    · rename_i q
      have h2 := tell_lt (z := z) hok.n45 q
      have h3 := hok.n45
      have h4 := (h.2.2.2.2 _ (by omega : (if l < p.n then (if z = true then p.n else 3 * p.n) + l else (if z = true then 2 * p.n else 0) + l - p.n) < 20)).2
      omega
    · omega
  have hel : ∀ i, endN p.m row i < 20 := fun i => by have := lets_le (m := p.m) (row := row) (if i = 0 then 0 else if i = 1 then 1 else if i = 2 then p.m - 1 else p.m - 2); unfold endN; omega
  unfold S_X6_fits
  have key := all_loop (F := fun n j => S_X6_fits_c3 (fun y9_2 y9_3 => (S_X6_tellingOf y9_2 0 st).bind fun q11 => ob ((4 : Int32) * y9_3) 480 fun j12 => ob (((4 : Int32) * y9_3) + (1 : Int32)) 480 fun j14 => (S_X6_isTrue q11 (st.2.1 4 j12) (st.2.1 4 j14)).bind fun q16 => if q16 = 0 then some 0 else (S_X6_tellingOf y9_2 1 st).bind fun q18 => ob (((4 : Int32) * y9_3) + (2 : Int32)) 480 fun j19 => ob (((4 : Int32) * y9_3) + (3 : Int32)) 480 fun j21 => (S_X6_isTrue q18 (st.2.1 4 j19) (st.2.1 4 j21)).bind fun q23 => if q23 = 0 then some 0 else some 1) st n (i3 b) (i3 l) (i3 k) (i3 j))
    (f := fun j => (u (cellN p.n l j)).testBit (row.getD j 0)) (N := p.n) (B := 0) (Kt := some (bI (p.says l row))) (Kf := some 0) ?_ ?_ 0 (Nat.zero_le _) n (by have := hok.n45; omega)
  · rw [show (0 : Int32) = i3 0 from rfl]
    refine key.trans ?_
    rw [allFr0]
    unfold fit
    cases (List.range p.n).all fun j => (u (cellN p.n l j)).testBit (row.getD j 0) <;> rfl
  · intro n _
    show S_X6_fits_c3 _ st (n + 1) _ _ _ _ = _
    have e0 : (0 : Int32) = bI false := rfl
    have e1 : (1 : Int32) = bI true := rfl
    have a0 := hE 0 (by decide)
    have a1 := hE 1 (by decide)
    have a2 := hE 2 (by decide)
    have a3 := hE 3 (by decide)
    rw [S_X6_fits_c3, h.2.1]
    simp only [i3_le (a := p.n) (b := p.n) (by omega) (by omega), Nat.le_refl, if_true]
    have t0 : S_X6_tellingOf (i3 l) 0 st = some (i3 (p.te l false)) := S_tellingOf h hl (z := false)
    have t1 : S_X6_tellingOf (i3 l) 1 st = some (i3 (p.te l true)) := S_tellingOf h hl (z := true)
    rw [t0, t1]
    simp only [Option.bind_some]
    have o0 : (4 : Int32) * i3 k = i3 (4 * k + 0) := i3_mul 4 k
    have o1 : (4 : Int32) * i3 k + 1 = i3 (4 * k + 1) := by rw [o0]; exact i3_add _ 1
    have o2 : (4 : Int32) * i3 k + 2 = i3 (4 * k + 2) := by rw [o0]; exact i3_add _ 2
    have o3 : (4 : Int32) * i3 k + 3 = i3 (4 * k + 3) := by rw [o0]; exact i3_add _ 3
    rw [o1, o2, o3, o0, ob_e (by omega) (by decide), ob_e (by omega) (by decide), a0, a1, S_isTrue (Nat.lt_trans (htl _) (by decide)) (Nat.lt_trans (hel _) (by decide)) (Nat.lt_trans (hel _) (by decide))]
    simp only [Option.bind_some, bI_eq0]
    rw [ob_e (by omega) (by decide), ob_e (by omega) (by decide), a2, a3, S_isTrue (Nat.lt_trans (htl _) (by decide)) (Nat.lt_trans (hel _) (by decide)) (Nat.lt_trans (hel _) (by decide))]
    simp only [Option.bind_some, bI_eq0]
    unfold Pz.says
    show _ = some (bI (tT (p.te l false) (endN p.m row 0) (endN p.m row 1) && tT (p.te l true) (endN p.m row 2) (endN p.m row 3)))
    cases tT (p.te l false) (endN p.m row 0) (endN p.m row 1) <;> cases tT (p.te l true) (endN p.m row 2) (endN p.m row 3) <;> rfl
  · intro n j hj _
    show S_X6_fits_c3 _ st (n + 1) _ _ _ (i3 j) = _
    have hc := hcl j hj
    have hn5 := hok.n45
    have hu2 := hu _ hc
    rw [S_X6_fits_c3, h.2.1]
    have q : ¬ p.n ≤ j := by omega
    simp only [i3_le (a := p.n) (b := j) (by omega) (by omega), q, if_false]
    rw [S_cellAt h hl hj]
    simp only [Option.bind_some]
    have o1 : (5 : Int32) * i3 k + i3 j = i3 (5 * k + j) := by rw [show (5 : Int32) = i3 5 from rfl, i3_mul, i3_add]
    rw [i3_add, o1, ob_e (by omega) (by decide), ob_e (by omega) (by decide), hu2.1, hR j hj, S_has (by omega) (by have := getD_le hrow.2.1 j; omega)]
    simp only [Option.bind_some, bI_eq0]
    have o2 : i3 j + 1 = i3 (j + 1) := i3_succ j
    rw [o2]
    cases (u (cellN p.n l j)).testBit (row.getD j 0) <;> rfl
