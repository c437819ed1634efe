/-! what is seen from an edge; whether tellings are true
-/
set_option maxRecDepth 100000
def seqB (back : Bool) (row : List Nat) : List Nat := if back then row.reverse else row
def sawV (m : Nat) (row : List Nat) (back : Bool) (which : Nat) : Int32 := if which < (lets m (seqB back row)).length then i3 ((lets m (seqB back row)).getD which 0) else -1
theorem seqB_len {back : Bool} {row : List Nat} : (seqB back row).length = row.length := by cases back <;> simp [seqB]
theorem seqB_get {back : Bool} {row : List Nat} {j : Nat} (hj : j < row.length) : (seqB back row).getD j 0 = row.getD (if back then row.length - 1 - j else j) 0 := by
  cases back with
  | false => rfl
  | true =>
    show row.reverse.getD j 0 = row.getD (row.length - 1 - j) 0
    rw [List.getD_eq_getElem?_getD, List.getD_eq_getElem?_getD, List.getElem?_reverse hj]
theorem lets_take {m j : Nat} {xs : List Nat} (hj : j < xs.length) : (lets m (xs.take (j + 1))).length = (lets m (xs.take j)).length + (if xs.getD j 0 < m then 1 else 0) := by
  rw [take_succ_getD hj, lets_app]
theorem i3_predm {a : Nat} (h : 0 < a) : i3 a + (-1) = i3 (a - 1) := by
  obtain ⟨b, rfl⟩ : ∃ b, a = b + 1 := ⟨a - 1, by omega⟩
  exact encT_pred
section SEE
variable {l : Launch} {G : aG} {I : Nat → Prop} {h : aH}
theorem B_seen (hl : l.stackTraces = false) {m n k b : Nat} {row : List Nat} {back : Bool} (hr : rowA h b n row) (hlen : row.length = n) (hn : n < 100) (hm : m < 100) (hle : ∀ t ∈ row, t ≤ 100) (hk : k < 2147483648) :
    aC l G mX1_seen (wsN mX1_seen) 0 0 0 [.int (i3 m), .int (i3 k), .int (bI back), .ref b] h (aP1 (some (.int (sawV m row back k))) h) := by
  obtain ⟨f, hf, hf2⟩ := hr
  refine A_X1_seen hl ?_
  have hsl : (seqB back row).length = n := by rw [seqB_len, hlen]
  have key := vloop (N := n) (T := fun j => (lets m ((seqB back row).take j)).length ≤ k → T_X1_seen_6 l G 0 0 0 (aP1 (some (.int (sawV m row back k))) h) (i3 m) (bI back) b (i3 (k - (lets m ((seqB back row).take j)).length)) (i3 j) h 0 0) ?_ ?_ 0 (Nat.zero_le _) (Nat.zero_le _)
  · exact key
  · intro hc
    refine A_X1_seen_6 hl (vLen_mk hf 0 rfl ?_)
    refine ⟨fun _ => ⟨?_, rfl⟩, fun q => absurd (by show i3 n ≤ i3 n; rw [i3_le (by omega) (by omega)]; exact Nat.le_refl _) q⟩
    rw [← hsl, List.take_length] at hc
    unfold sawV
    rw [if_neg (by omega)]
  · intro j hj ih hc
    have hg : (seqB back row).getD j 0 = row.getD (if back then n - 1 - j else j) 0 := by rw [seqB_get (by omega), hlen]
    have ht := lets_take (m := m) (xs := seqB back row) (j := j) (by omega)
    have hidx : (if back = true then n - 1 - j else j) < n := by split <;> omega
    have hx : (seqB back row).getD j 0 ≤ 100 := by rw [hg]; exact getD_le hle _
    have hc5 : (lets m ((seqB back row).take j)).length ≤ j := by
      have := lets_len_le m ((seqB back row).take j)
      rw [List.length_take] at this
      omega
    have v30 : V_X1_seen_30 l G 0 0 0 (aP1 (some (.int (sawV m row back k))) h) (i3 m) (bI back) b (i3 (k - (lets m ((seqB back row).take j)).length)) (i3 j) (i3 (if back = true then n - 1 - j else j)) b h 0 0 := by
      refine vA_mk hf rfl hidx (by omega) ?_
      rw [hf2 _ hidx, ← hg]
      simp only [i3_le (a := m) (b := (seqB back row).getD j 0) (by omega) (by omega), i3_eq (a := k - (lets m ((seqB back row).take j)).length) (b := 0) (by omega) (by decide), i3_succ]
      have e0 : (i3 (k - (lets m ((seqB back row).take j)).length) = 0) = (k - (lets m ((seqB back row).take j)).length = 0) := i3_eq (b := 0) (by omega) (by decide)
      simp only [e0]
      refine ⟨fun q => ?_, fun q => ⟨fun q2 => ?_, fun q2 => ⟨?_, rfl⟩⟩⟩
      · rw [if_neg (by omega), Nat.add_zero] at ht
        rw [ht] at ih
        exact ih hc
      · rw [if_pos (by omega)] at ht
        rw [ht] at ih
        rw [i3_predm (by omega), show k - (lets m ((seqB back row).take j)).length - 1 = k - ((lets m ((seqB back row).take j)).length + 1) by omega]
        exact ih (by omega)
      · have e : (lets m ((seqB back row).take j)).length = k := by omega
        have hlt : (lets m (seqB back row)).getD (lets m ((seqB back row).take j)).length 0 = (seqB back row).getD j 0 := lets_get (by omega) (by omega)
        rw [if_pos (by omega)] at ht
        have hmono : (lets m ((seqB back row).take (j + 1))).length ≤ (lets m (seqB back row)).length := (List.take_sublist _ _).filter _ |>.length_le
        unfold sawV
        rw [if_pos (by omega), ← e, hlt]
    refine A_X1_seen_6 hl (vLen_mk hf 0 rfl ?_)
    have q0 : ¬ n ≤ j := by omega
    have eb : (bI back = 0) = (back = false) := bI_eq0
    refine ⟨fun q => absurd (by have q' : i3 n ≤ i3 j := q; rwa [i3_le (by omega) (by omega)] at q') q0, fun _ => ?_⟩
    rw [eb]
    refine ⟨fun q => A_X1_seen_30 hl ?_, fun q => vLen_mk hf 0 rfl (A_X1_seen_30 hl ?_)⟩
    · rw [q] at v30 ⊢; exact v30
    · have q' : back = true := by cases back with
        | false => exact absurd rfl q
        | true => rfl
      rw [q'] at v30 ⊢
      have e1 : i3 n - 1 = i3 (n - 1) := i3_sub (b := 1) (by omega)
      show V_X1_seen_30 l G 0 0 0 _ _ _ _ _ _ (i3 n - 1 - i3 j) _ h 0 0
      rw [e1, i3_sub (by omega)]
      exact v30
def trueAt (p : Pz) (e : Nat) (row : List Nat) : Bool := p.tl e == 0 || decide (sawV p.m row (backE p.n e) (if p.tl e % 2 = 1 then 0 else 1) = letV (p.tl e))
theorem B_isTrueAt (hl : l.stackTraces = false) {a e b : Nat} {F : List Nat} {p : Pz} {row : List Nat} (hp : PZ I h a F p) (he : e < 4 * p.n) (hr : rowA h b p.n row) (hlen : row.length = p.n) (hle : ∀ t ∈ row, t ≤ 100) :
    aC l G mX3_isTrueAt (wsN mX3_isTrueAt) 1 0 0 [.ref a, .int (i3 e), .ref b] h (aP1 (some (.int (bI (trueAt p e row)))) h) := by
  have hp0 := hp
  obtain ⟨tl, ls, lo, ar, rw, T, L, R, sec, hok, hb, -, -, -, ho, ht, ht2, ⟨hs1, hs2⟩, -⟩ := hp
  have hn := hok.n45
  have hm := hok.m24
  have he20 : e < 20 := by omega
  have htl := hb e he20
  refine A_X3_isTrueAt hl ?_
  refine vR_mk ho rfl (vA_mk ht rfl he20 (by decide) ?_)
  rw [ht2 e he20]
  have e1 : (letV (p.tl e) = -1) = (p.tl e = 0) := by
    unfold letV
    by_cases q : p.tl e = 0
    · rw [if_pos q]; simp [q]
    · rw [if_neg q, i3_m1 (by omega)]; simp [q]
  simp only [e1]
  unfold trueAt
  refine ⟨fun q => ⟨by rw [q]; rfl, rfl⟩, fun q => vI_mk ho rfl (vI_mk ho rfl ⟨⟨_, ho⟩, ?_⟩)⟩
  refine vC_p (B_looksBack hl hp0 he) (by decide) (by decide) (by decide) ⟨_, rfl, ?_⟩
  have hsec : i3 sec >>> (i3 e &&& 31) &&& 1 = i3 (if p.tl e % 2 = 1 then 0 else 1) := by
    rw [i3_has (by omega) (by omega), bI_nat]
    have := hs2 e he20
    unfold hasN
    rw [this]
    have q' : (p.tl e != 0) = true := by simpa using q
    rw [q', Bool.true_and]
    by_cases q2 : p.tl e % 2 = 1
    · rw [if_pos q2, q2]; rfl
    · have : p.tl e % 2 = 0 := by omega
      rw [if_neg q2, this]; rfl
  rw [hsec]
  refine vC_p (B_seen hl hr hlen (by omega) (by omega) hle (by split <;> omega)) (by decide) (by decide) (by decide) ⟨_, rfl, vB_if, ?_⟩
  have q' : (p.tl e == 0) = false := by simpa using q
  rw [q', Bool.false_or, bI_if]
  exact ⟨rfl, rfl⟩
def edgeN (n l : Nat) (z : Bool) : Nat := if l < n then (if z then n else 3 * n) + l else (if z then 2 * n else 0) + l - n
theorem B_edgeOf (hl : l.stackTraces = false) {a i : Nat} {F : List Nat} {p : Pz} (hp : PZ I h a F p) (hi : i < 2 * p.n) {z : Bool} :
    aC l G mX3_edgeOf (wsN mX3_edgeOf) 0 0 0 [.ref a, .int (i3 i), .int (bI z)] h (aP1 (some (.int (i3 (edgeN p.n i z)))) h) := by
  obtain ⟨tl, ls, lo, ar, rw, T, L, R, sec, hok, -, -, -, -, ho, -⟩ := hp
  have hn := hok.n45
  refine A_X3_edgeOf hl (vI_mk ho rfl ?_)
  simp only [i3_le (a := p.n) (b := i) (by omega) (by omega)]
  unfold edgeN
  have o2 : (2 : Int32) * i3 p.n = i3 (2 * p.n) := i3_mul 2 p.n
  have o3 : (3 : Int32) * i3 p.n = i3 (3 * p.n) := i3_mul 3 p.n
  have o0 : (0 : Int32) = i3 0 := rfl
  refine ⟨fun q => vI_mk ho rfl ⟨fun q2 => ?_, fun q2 => vI_mk ho rfl ?_⟩, fun q => ⟨fun q2 => vI_mk ho rfl ?_, fun q2 => vI_mk ho rfl ?_⟩⟩
  · have : z = false := by rw [bI_eq0] at q2; exact q2
    subst this
    rw [if_neg (by omega), o0, i3_sub q, i3_add]
    refine ⟨?_, rfl⟩
    congr 3
    show i3 (i - p.n + 0) = i3 (0 + i - p.n)
    congr 1; omega
  · have : z = true := by cases z with
      | false => exact absurd rfl q2
      | true => rfl
    subst this
    rw [if_neg (by omega), o2, i3_sub q, i3_add]
    refine ⟨?_, rfl⟩
    congr 3
    show i3 (i - p.n + 2 * p.n) = i3 (2 * p.n + i - p.n)
    congr 1; omega
  · have : z = false := by rw [bI_eq0] at q2; exact q2
    subst this
    rw [if_pos (by omega), o3, i3_add]
    exact ⟨by rw [Nat.add_comm]; rfl, rfl⟩
  · have : z = true := by cases z with
      | false => exact absurd rfl q2
      | true => rfl
    subst this
    rw [if_pos (by omega), i3_add]
    exact ⟨by rw [Nat.add_comm]; rfl, rfl⟩
theorem lets_arr {n m : Nat} (hok : okNM n m) {row : List Nat} (hr : row ∈ arrs n m) : (lets m row).length = m := by
  have := (arrs_gaps hok hr)
  have h2 := (arrs_row hok hr).1
  have h3 : (lets m row).length + row.count m = row.length := by
    have hle := (arrs_row hok hr).2.1
    unfold lets
    have : ∀ r : List Nat, (∀ t ∈ r, t ≤ m) → (r.filter (· < m)).length + r.count m = r.length := by
      intro r
      induction r with
      | nil => intro _; rfl
      | cons x r ih =>
        intro hx
        have h1 := ih fun t ht => hx t (List.mem_cons_of_mem _ ht)
        have h2 := hx x List.mem_cons_self
        rw [List.count_cons, List.length_cons]
        by_cases q : x = m
        · rw [List.filter_cons_of_neg (by simpa using (by omega : m ≤ x)), if_pos (by simpa using q)]; omega
        · rw [List.filter_cons_of_pos (by simpa using (by omega : x < m)), if_neg (by simpa using q), List.length_cons]; omega
    exact this row hle
  have hm := hok.m24
  omega
theorem tT_eq {p : Pz} (hok : okNM p.n p.m) {row : List Nat} (hr : row ∈ arrs p.n p.m) {i : Nat} (hi : i < 2 * p.n) (htl : ∀ e, e < 20 → p.tl e ≤ 2 * p.m) (z : Bool) :
    trueAt p (edgeN p.n i z) row = tT (p.te i z) ((lets p.m row).getD (if z then p.m - 1 else 0) 0) ((lets p.m row).getD (if z then p.m - 2 else 1) 0) := by
  have hn := hok.n45
  have hm := hok.m24
  have hll := lets_arr hok hr
  have hte : p.te i z = p.tl (edgeN p.n i z) := by unfold Pz.te edgeN; rw [if_pos hi]
  have helt : edgeN p.n i z < 4 * p.n := tell_lt hn hi
  have htl2 := htl (edgeN p.n i z) (by omega)
  have hback : backE p.n (edgeN p.n i z) = z := by
    unfold backE edgeN
    rcases hn with e | e
    all_goals
      rw [e] at hi ⊢
      cases z
      all_goals
        split
        all_goals
          simp only [Bool.false_eq_true, if_false, if_true]
          first
            | (have q1 : (0 + i - 4) / 4 = 0 := by omega
               rw [q1]; rfl)
            | (have q1 : (3 * 4 + i) / 4 = 3 := by omega
               rw [q1]; rfl)
            | (have q1 : (4 + i) / 4 = 1 := by omega
               rw [q1]; rfl)
            | (have q1 : (2 * 4 + i - 4) / 4 = 2 := by omega
               rw [q1]; rfl)
            | (have q1 : (0 + i - 5) / 5 = 0 := by omega
               rw [q1]; rfl)
            | (have q1 : (3 * 5 + i) / 5 = 3 := by omega
               rw [q1]; rfl)
            | (have q1 : (5 + i) / 5 = 1 := by omega
               rw [q1]; rfl)
            | (have q1 : (2 * 5 + i - 5) / 5 = 2 := by omega
               rw [q1]; rfl)
  have hrev : ∀ w, w < 2 → (lets p.m (seqB z row)).getD w 0 = (lets p.m row).getD (if z then p.m - 1 - w else w) 0 ∧ w < (lets p.m (seqB z row)).length := by
    intro w hw
    cases z with
    | false => exact ⟨rfl, by show w < (lets p.m row).length; omega⟩
    | true =>
      have e : lets p.m (seqB true row) = (lets p.m row).reverse := by
        show (row.reverse).filter _ = _
        rw [List.filter_reverse]; rfl
      rw [e]
      refine ⟨?_, by rw [List.length_reverse]; omega⟩
      rw [List.getD_eq_getElem?_getD, List.getElem?_reverse (by omega), hll, ← List.getD_eq_getElem?_getD]; rfl
  unfold trueAt tT
  rw [hte, hback]
  generalize p.tl (edgeN p.n i z) = t at htl2
  by_cases q : t = 0
  · rw [q]; rfl
  · have q' : (t == 0) = false := by simpa using q
    rw [q', Bool.false_or, Bool.false_or]
    unfold sawV letV
    rw [if_neg q]
    have hlt := fun j => lets_le (m := p.m) (row := row) j
    by_cases q2 : t % 2 = 1
    · obtain ⟨h1, h2⟩ := hrev 0 (by decide)
      rw [if_pos q2, if_pos q2, if_pos h2, h1, Nat.sub_zero]
      have := hlt (if z then p.m - 1 else 0)
      simp only [i3_eq (a := (lets p.m row).getD (if z then p.m - 1 else 0) 0) (b := (t - 1) / 2) (by omega) (by omega)]
      rw [Bool.eq_iff_iff, decide_eq_true_iff, beq_iff_eq]
      exact ⟨Eq.symm, Eq.symm⟩
    · obtain ⟨h1, h2⟩ := hrev 1 (by decide)
      rw [if_neg q2, if_neg q2, if_pos h2, h1, show p.m - 1 - 1 = p.m - 2 by omega]
      have := hlt (if z then p.m - 2 else 1)
      simp only [i3_eq (a := (lets p.m row).getD (if z then p.m - 2 else 1) 0) (b := (t - 1) / 2) (by omega) (by omega)]
      rw [Bool.eq_iff_iff, decide_eq_true_iff, beq_iff_eq]
      exact ⟨Eq.symm, Eq.symm⟩
theorem B_isTrue (hl : l.stackTraces = false) {a b i : Nat} {F : List Nat} {p : Pz} {row : List Nat} (hp : PZ I h a F p) (hi : i < 2 * p.n + 2) (hr : rowA h b p.n row) (hrow : row ∈ arrs p.n p.m) :
    aC l G mX3_isTrue (wsN mX3_isTrue) 2 0 0 [.ref a, .int (i3 i), .ref b] h (aP1 (some (.int (bI (p.says i row)))) h) := by
  have hp0 := hp
  obtain ⟨tl, ls, lo, ar, rw, T, L, R, sec, hok, hb, -, -, -, ho, -⟩ := hp
  have hn := hok.n45
  have hm := hok.m24
  obtain ⟨hlen, hle, -⟩ := arrs_row hok hrow
  have hle2 : ∀ t ∈ row, t ≤ 100 := fun t ht => by have := hle t ht; omega
  have o2 : (2 : Int32) * i3 p.n = i3 (2 * p.n) := i3_mul 2 p.n
  refine A_X3_isTrue hl (vI_mk ho rfl ?_)
  rw [o2]
  simp only [i3_le (a := 2 * p.n) (b := i) (by omega) (by omega)]
  refine ⟨fun q => ⟨?_, rfl⟩, fun q => ⟨⟨_, ho⟩, ?_⟩⟩
  · unfold Pz.says Pz.te
    rw [if_neg (by omega), if_neg (by omega)]; rfl
  · have hi2 : i < 2 * p.n := by omega
    have t1 := tT_eq hok hrow hi2 hb false
    have t2 := tT_eq hok hrow hi2 hb true
    have hs : p.says i row = (trueAt p (edgeN p.n i false) row && trueAt p (edgeN p.n i true) row) := by rw [t1, t2]; rfl
    rw [hs]
    refine vC_p (B_edgeOf hl hp0 hi2 (z := false)) (by decide) (by decide) (by decide) ⟨_, rfl, ⟨_, ho⟩, ?_⟩
    refine vC_p (B_isTrueAt hl hp0 (tell_lt hn hi2) hr hlen hle2) (by decide) (by decide) (by decide) ⟨_, rfl, ?_⟩
    simp only [bI_eq0]
    refine ⟨fun q => by rw [q]; exact ⟨rfl, rfl⟩, fun q => ⟨⟨_, ho⟩, ?_⟩⟩
    refine vC_p (B_edgeOf hl hp0 hi2 (z := true)) (by decide) (by decide) (by decide) ⟨_, rfl, ⟨_, ho⟩, ?_⟩
    refine vC_p (B_isTrueAt hl hp0 (tell_lt hn hi2) hr hlen hle2) (by decide) (by decide) (by decide) ⟨_, rfl, vB_if', ?_⟩
    have q' : trueAt p (edgeN p.n i false) row = true := by simpa using q
    rw [q', Bool.true_and]
    cases trueAt p (edgeN p.n i true) row <;> exact ⟨rfl, rfl⟩
end SEE
