/-! the model lists the arrangements -/
set_option maxRecDepth 100000
def tauN (m i : Nat) : Nat := if i = 0 then 0 else if i = 1 then 1 else if i = 2 then m - 1 else m - 2
def layE (st : MSt) (len m cnt v : Nat) (i : Nat) : Int32 := if cnt = tauN m i then i3 v else st.2.1 4 (4 * len + i)
def layS (st : MSt) (len m cnt v : Nat) : MSt := mA (mA (mA (mA st 4 (4 * len + 0) (layE st len m cnt v 0)) 4 (4 * len + 1) (layE st len m cnt v 1)) 4 (4 * len + 2) (layE st len m cnt v 2)) 4 (4 * len + 3) (layE st len m cnt v 3)
theorem lay_step {K : Int32 → Int32 → Int32 → MSt → Option MSt} {n len m cnt v : Nat} {x3 x8 : Int32} {st : MSt} (h8 : st.1 8 = i3 m) (h9 : st.1 9 = i3 len) (hl : len < 120) (hm : 2 ≤ m ∧ m ≤ 4) (hc : cnt < 5) :
    (if i3 cnt = 0 then S_X6_lays_j186 K n x3 (i3 cnt) x8 (i3 v) (i3 v) ((4 : Int32) * (st.1 9)) st else ob ((4 : Int32) * (st.1 9)) 480 fun j27 => S_X6_lays_j186 K n x3 (i3 cnt) x8 (i3 v) (st.2.1 4 j27) ((4 : Int32) * (st.1 9)) st) = K x3 (i3 (cnt + 1)) (x8 + 1) (layS st len m cnt v) := by
  have o0 : (4 : Int32) * i3 len = i3 (4 * len + 0) := i3_mul 4 len
  have o1 : i3 (4 * len + 0) + 1 = i3 (4 * len + 1) := i3_add _ 1
  have o2 : i3 (4 * len + 0) + 2 = i3 (4 * len + 2) := i3_add _ 2
  have o3 : i3 (4 * len + 0) + 3 = i3 (4 * len + 3) := i3_add _ 3
  have c0 : (i3 cnt = 0) = (cnt = 0) := i3_eq (b := 0) (by omega) (by decide)
  have c1 : (i3 cnt = 1) = (cnt = 1) := i3_eq (b := 1) (by omega) (by decide)
  have m1 : i3 m - 1 = i3 (m - 1) := i3_sub (b := 1) (by omega)
  have m2 : i3 m - 2 = i3 (m - 2) := i3_sub (b := 2) (by omega)
  have c2 : (i3 cnt = i3 (m - 1)) = (cnt = m - 1) := i3_eq (by omega) (by omega)
  have c3 : (i3 cnt = i3 (m - 2)) = (cnt = m - 2) := i3_eq (by omega) (by omega)
  have b0 : ∀ (β : Type) (K : Nat → Option β), ob (i3 (4 * len + 0)) 480 K = K (4 * len + 0) := fun _ _ => ob_e (by omega) (by decide)
  have b1 : ∀ (β : Type) (K : Nat → Option β), ob (i3 (4 * len + 1)) 480 K = K (4 * len + 1) := fun _ _ => ob_e (by omega) (by decide)
  have b2 : ∀ (β : Type) (K : Nat → Option β), ob (i3 (4 * len + 2)) 480 K = K (4 * len + 2) := fun _ _ => ob_e (by omega) (by decide)
  have b3 : ∀ (β : Type) (K : Nat → Option β), ob (i3 (4 * len + 3)) 480 K = K (4 * len + 3) := fun _ _ => ob_e (by omega) (by decide)
  have s1 : i3 cnt + 1 = i3 (cnt + 1) := i3_succ cnt
  have J : ∀ x : Int32, x = layE st len m cnt v 0 → S_X6_lays_j186 K n x3 (i3 cnt) x8 (i3 v) x (i3 (4 * len + 0)) st = K x3 (i3 (cnt + 1)) (x8 + 1) (layS st len m cnt v) := by
    intro x hx
    subst hx
    unfold S_X6_lays_j186 S_X6_lays_j223 S_X6_lays_j265 layS
    simp only [b0, b1, b2, b3, onm_e, mA_i, h8, h9, o0, o1, o2, o3, c0, c1, m1, m2, c2, c3, s1, mA_eq]
    have u1 : ∀ x, upd (st.2.1 4) (4 * len + 0) x (4 * len + 1) = st.2.1 4 (4 * len + 1) := fun x => upd_ne (by omega)
    have u2 : ∀ x y, upd (upd (st.2.1 4) (4 * len + 0) x) (4 * len + 1) y (4 * len + 2) = st.2.1 4 (4 * len + 2) := fun x y => by rw [upd_ne (by omega), upd_ne (by omega)]
    have u3 : ∀ x y z, upd (upd (upd (st.2.1 4) (4 * len + 0) x) (4 * len + 1) y) (4 * len + 2) z (4 * len + 3) = st.2.1 4 (4 * len + 3) := fun x y z => by rw [upd_ne (by omega), upd_ne (by omega), upd_ne (by omega)]
    simp only [u1, u2, u3]
    have t1 : layE st len m cnt v 1 = if cnt = 1 then i3 v else st.2.1 4 (4 * len + 1) := rfl
    have t2 : layE st len m cnt v 2 = if cnt = m - 1 then i3 v else st.2.1 4 (4 * len + 2) := rfl
    have t3 : layE st len m cnt v 3 = if cnt = m - 2 then i3 v else st.2.1 4 (4 * len + 3) := rfl
    rw [t1, t2, t3]
    by_cases q1 : cnt = 1 <;> by_cases q2 : cnt = m - 1 <;> by_cases q3 : cnt = m - 2
    all_goals first
      | (simp only [if_pos q1, if_pos q2, if_pos q3]; done)
      | (simp only [if_pos q1, if_pos q2, if_neg q3]; done)
      | (simp only [if_pos q1, if_neg q2, if_pos q3]; done)
      | (simp only [if_pos q1, if_neg q2, if_neg q3]; done)
      | (simp only [if_neg q1, if_pos q2, if_pos q3]; done)
      | (simp only [if_neg q1, if_pos q2, if_neg q3]; done)
      | (simp only [if_neg q1, if_neg q2, if_pos q3]; done)
      | (simp only [if_neg q1, if_neg q2, if_neg q3]; done)
  rw [h9, o0]
  simp only [c0, b0]
  by_cases q : cnt = 0
  · rw [if_pos q]
    exact J _ (by unfold layE tauN; rw [if_pos (by simpa using q)])
  · rw [if_neg q]
    exact J _ (by unfold layE tauN; rw [if_neg (by simpa using q)])
theorem digs_len {b : Nat} : ∀ k c, (digs b k c).length = k := by
  intro k
  induction k with
  | zero => intro c; rfl
  | succ k ih => intro c; show (digs b k (c / b)).length + 1 = _; rw [ih]
theorem digs_get {b : Nat} : ∀ k c j, j < k → (digs b k c).getD j 0 = c / b ^ j % b := by
  intro k
  induction k with
  | zero => intro c j h; omega
  | succ k ih =>
    intro c j h
    cases j with
    | zero => simp [digs]
    | succ j =>
      show (digs b k (c / b)).getD j 0 = _
      rw [ih _ _ (by omega), Nat.div_div_eq_div_mul, Nat.pow_succ, Nat.mul_comm]
theorem take_succ_getD {row : List Nat} {j : Nat} (h : j < row.length) : row.take (j + 1) = row.take j ++ [row.getD j 0] := by
  rw [List.take_succ, List.getElem?_eq_getElem h, List.getD_eq_getElem?_getD, List.getElem?_eq_getElem h]
  rfl
theorem maskN_app (a : List Nat) (t : Nat) : maskN (a ++ [t]) = maskN a ||| 1 <<< t := by unfold maskN; rw [List.foldl_append]; rfl
theorem lets_app (m : Nat) (a : List Nat) (t : Nat) : (lets m (a ++ [t])).length = (lets m a).length + (if t < m then 1 else 0) := by
  unfold lets
  rw [List.filter_append, List.length_append]
  by_cases q : t < m <;> simp [q]
theorem lets_len_le (m : Nat) (a : List Nat) : (lets m a).length ≤ a.length := List.length_filter_le _ _
theorem maskN_lt {m : Nat} : ∀ (a : List Nat), (∀ t ∈ a, t ≤ m) → maskN a < 2 ^ (m + 1) := by
  intro a
  unfold maskN
  have : ∀ (a : List Nat) (s : Nat), s < 2 ^ (m + 1) → (∀ t ∈ a, t ≤ m) → a.foldl (fun s t => s ||| 1 <<< t) s < 2 ^ (m + 1) := by
    intro a
    induction a with
    | nil => intro s hs _; exact hs
    | cons t a ih =>
      intro s hs ha
      rw [List.foldl_cons]
      refine ih _ (Nat.or_lt_two_pow hs ?_) (fun x hx => ha x (List.mem_cons_of_mem _ hx))
      rw [Nat.one_shiftLeft]
      exact Nat.pow_lt_pow_right (by decide) (by have := ha t List.mem_cons_self; omega)
  exact this a 0 (Nat.two_pow_pos _)
theorem getD_app_lt {α : Type} {l r : List α} {k : Nat} {d : α} (h : k < l.length) : (l ++ r).getD k d = l.getD k d := by
  rw [List.getD_eq_getElem?_getD, List.getD_eq_getElem?_getD, List.getElem?_append_left h]
theorem getD_app_eq {α : Type} {l : List α} {x d : α} : (l ++ [x]).getD l.length d = x := by
  rw [List.getD_eq_getElem?_getD, List.getElem?_append_right (Nat.le_refl _), Nat.sub_self]; rfl
theorem lets_get {m : Nat} {row : List Nat} {j : Nat} (h : j < row.length) (hm : row.getD j 0 < m) : (lets m row).getD (lets m (row.take j)).length 0 = row.getD j 0 := by
  have e : row = row.take j ++ (row.getD j 0 :: row.drop (j + 1)) := by
    conv => lhs; rw [← List.take_append_drop j row]
    congr 1
    rw [List.drop_eq_getElem_cons h, List.getD_eq_getElem?_getD, List.getElem?_eq_getElem h]; rfl
  have e2 : lets m row = lets m (row.take j) ++ (row.getD j 0 :: lets m (row.drop (j + 1))) := by
    conv => lhs; rw [e]
    unfold lets
    rw [List.filter_append, List.filter_cons, if_pos (by simpa using hm)]
  rw [e2, List.getD_eq_getElem?_getD, List.getElem?_append_right (Nat.le_refl _), Nat.sub_self]; rfl
theorem lay_second {n m len fuel : Nat} {row : List Nat} {st : MSt} (hok : okNM n m) (h7 : st.1 7 = i3 n) (h8 : st.1 8 = i3 m) (h9 : st.1 9 = i3 len) (hlen : len < 120) (hrl : row.length = n) (hrm : ∀ t ∈ row, t ≤ m) (hlt : (lets m row).length = m)
    (h3 : ∀ i, i < n → st.2.1 3 (5 * len + i) = i3 (row.getD i 0)) (hf : 7 ≤ fuel) : ∃ st', S_X6_lays_c126 fuel (i3 (5 * len)) 0 0 st = some st' ∧ frm [4] [9] st st' ∧ st'.1 9 = i3 (len + 1) ∧ (∀ q, q < 4 * len → st'.2.1 4 q = st.2.1 4 q) ∧ ∀ i, i < 4 → st'.2.1 4 (4 * len + i) = i3 ((lets m row).getD (tauN m i) 0) := by
  have hn := hok.n45
  have hm := hok.m24
  have key := st_loop (F := fun f j (a : Nat × MSt) => S_X6_lays_c126 f (i3 (5 * len)) (i3 a.1) (i3 j) a.2)
    (I := fun j a => a.1 = (lets m (row.take j)).length ∧ frm [4] [] st a.2 ∧ (∀ q, q < 4 * len → a.2.2.1 4 q = st.2.1 4 q) ∧ ∀ i, i < 4 → tauN m i < a.1 → a.2.2.1 4 (4 * len + i) = i3 ((lets m row).getD (tauN m i) 0))
    (Q := fun st' => frm [4] [9] st st' ∧ st'.1 9 = i3 (len + 1) ∧ (∀ q, q < 4 * len → st'.2.1 4 q = st.2.1 4 q) ∧ ∀ i, i < 4 → st'.2.1 4 (4 * len + i) = i3 ((lets m row).getD (tauN m i) 0)) (N := n) (B := 0) ?_ ?_ 0 (Nat.zero_le _) fuel (0, st) (by omega) ⟨rfl, frm.rf, fun _ _ => rfl, fun i _ h => absurd h (Nat.not_lt_zero _)⟩
  · obtain ⟨r, h1, h2⟩ := key
    exact ⟨r, h1, h2⟩
  · intro f a _ ⟨h1, h2, h4, h5⟩
    obtain ⟨cnt, s⟩ := a
    simp only at h1 h2 h4 h5 ⊢
    have e7 : s.1 7 = i3 n := (h2.2.1 7 (by simp)).trans h7
    have e9 : s.1 9 = i3 len := (h2.2.1 9 (by simp)).trans h9
    rw [S_X6_lays_c126, e7]
    simp only [i3_le (a := n) (b := n) (by omega) (by omega), Nat.le_refl, if_true, onm_e, e9]
    refine ⟨_, rfl, (h2.mono (by simp) (by simp)).i (by simp), ?_, h4, fun i hi => h5 i hi ?_⟩
    · rw [mI_eq, i3_succ]
    · rw [h1, List.take_of_length_le (by omega), hlt]
      unfold tauN
      repeat' split
      all_goals omega
  · intro f j a hj _ ⟨h1, h2, h4, h5⟩
    obtain ⟨cnt, s⟩ := a
    simp only at h1 h2 h4 h5 ⊢
    have e7 : s.1 7 = i3 n := (h2.2.1 7 (by simp)).trans h7
    have e8 : s.1 8 = i3 m := (h2.2.1 8 (by simp)).trans h8
    have e9 : s.1 9 = i3 len := (h2.2.1 9 (by simp)).trans h9
    have e3 : s.2.1 3 = st.2.1 3 := h2.1 3 (by simp)
    have hv : row.getD j 0 ≤ m := getD_le hrm j
    have hcnt : cnt ≤ j := by rw [h1]; refine Nat.le_trans (lets_len_le _ _) ?_; rw [List.length_take]; omega
    have hq : ¬ n ≤ j := by omega
    have hts := take_succ_getD (row := row) (j := j) (by omega)
    have hla := lets_app m (row.take j) (row.getD j 0)
    rw [← hts] at hla
    rw [S_X6_lays_c126, e7]
    simp only [i3_le (a := n) (b := j) (by omega) (by omega), hq, if_false]
    rw [i3_add, ob_e (by omega) (by decide), onm_e, e3, h3 j hj, e8, i3_succ]
    simp only [i3_le (a := m) (b := row.getD j 0) (by omega) (by omega)]
    by_cases hg : m ≤ row.getD j 0
    · refine ⟨(cnt, s), ⟨?_, h2, h4, h5⟩, if_pos hg⟩
      rw [hla, if_neg (by omega), ← h1]; rfl
    · refine ⟨(cnt + 1, layS s len m cnt (row.getD j 0)), ⟨?_, ?_, ?_, ?_⟩, ?_⟩
      · rw [hla, if_pos (by omega), ← h1]
      · exact (((h2.a (by simp)).a (by simp)).a (by simp)).a (by simp)
      · intro q hq2
        show (layS s len m cnt (row.getD j 0)).2.1 4 q = _
        unfold layS
        rw [mA_eq, upd_ne (by omega), mA_eq, upd_ne (by omega), mA_eq, upd_ne (by omega), mA_eq, upd_ne (by omega)]
        exact h4 q hq2
      · intro i hi ht
        have hval : layE s len m cnt (row.getD j 0) i = i3 ((lets m row).getD (tauN m i) 0) := by
          unfold layE
          by_cases q : cnt = tauN m i
          · rw [if_pos q, ← q, h1, lets_get (by omega) (by omega)]
          · rw [if_neg q]; exact h5 i hi (by omega)
        rw [← hval]
        show (layS s len m cnt (row.getD j 0)).2.1 4 (4 * len + i) = _
        have hi4 : i = 0 ∨ i = 1 ∨ i = 2 ∨ i = 3 := by omega
        unfold layS
        rcases hi4 with rfl | rfl | rfl | rfl
        · rw [mA_eq, upd_ne (by omega), mA_eq, upd_ne (by omega), mA_eq, upd_ne (by omega), mA_eq, upd_same]
        · rw [mA_eq, upd_ne (by omega), mA_eq, upd_ne (by omega), mA_eq, upd_same]
        · rw [mA_eq, upd_ne (by omega), mA_eq, upd_same]
        · rw [mA_eq, upd_same]
      · have := lay_step (K := S_X6_lays_c126 f) (n := f) (x3 := i3 (5 * len)) (x8 := i3 j) (v := row.getD j 0) e8 e9 hlen ⟨hm.1, hm.2.2⟩ (cnt := cnt) (by omega)
        rw [if_neg hg]
        rw [i3_succ] at this
        exact this
theorem pow_3125 {n m c : Nat} (hok : okNM n m) (hc : c < (m + 1) ^ n) : c < 3125 := by
  rcases hok with ⟨rfl, rfl | rfl⟩ | ⟨rfl, rfl | rfl | rfl⟩ <;> omega
theorem digs_row {n m c : Nat} : ∀ t ∈ digs (m + 1) n c, t ≤ m := by
  have : ∀ n c, ∀ t ∈ digs (m + 1) n c, t ≤ m := by
    intro n
    induction n with
    | zero => intro c t h; cases h
    | succ n ih =>
      intro c t h
      rcases List.mem_cons.mp h with rfl | h
      · exact Nat.le_of_lt_succ (Nat.mod_lt _ (Nat.succ_pos m))
      · exact ih _ t h
  exact this n c
theorem S_lays {n m c fuel : Nat} {rows : List (List Nat)} {st : MSt} (hok : okNM n m) (h7 : st.1 7 = i3 n) (h8 : st.1 8 = i3 m) (hT : TVk st n m rows) (hlen : rows.length < 121) (hc : c < (m + 1) ^ n) (hl : isRow m (digs (m + 1) n c) = true → rows.length < 120) (hf : 14 ≤ fuel) :
    ∃ st', S_X6_lays fuel (i3 c) (i3 (m + 1)) st = some st' ∧ frm [3, 4] [9] st st' ∧ TVk st' n m (rows ++ if isRow m (digs (m + 1) n c) then [digs (m + 1) n c] else []) := by
  have hn := hok.n45
  have hm := hok.m24
  have h32 := pow_le hm.2.2
  have hc3 := pow_3125 hok hc
  obtain ⟨h9, hR, hE⟩ := hT
  generalize hrow : digs (m + 1) n c = row at hl ⊢
  have hrl : row.length = n := by rw [← hrow]; exact digs_len _ _
  have hrg : ∀ j, j < n → row.getD j 0 = c / (m + 1) ^ j % (m + 1) := fun j hj => by rw [← hrow]; exact digs_get _ _ _ hj
  have hrm : ∀ t ∈ row, t ≤ m := by rw [← hrow]; exact digs_row
  generalize hlen2 : rows.length = len at h9 hR hE hlen hl
  have o1 : (5 : Int32) * i3 len = i3 (5 * len) := i3_mul 5 len
  unfold S_X6_lays
  rw [h9, onm_e, o1]
  have key := st_loop (F := fun f j (a : Nat × Nat × Nat × MSt) => S_X6_lays_c19 (fun y16_3 y16_4 y16_5 u17 => if y16_5 = (u17.1 8) then if (y16_4 &&& (((1 : Int32) <<< ((u17.1 8) &&& 31)) - (1 : Int32))) = (((1 : Int32) <<< ((u17.1 8) &&& 31)) - (1 : Int32)) then S_X6_lays_c126 fuel y16_3 0 0 u17 else some u17 else some u17) f (i3 (m + 1)) (i3 (5 * len)) (i3 a.1) (i3 a.2.1) (i3 a.2.2.1) (i3 j) a.2.2.2)
    (I := fun j a => a.1 = maskN (row.take j) ∧ a.2.1 = (lets m (row.take j)).length ∧ a.2.2.1 = c / (m + 1) ^ j ∧ frm [3] [] st a.2.2.2 ∧ (∀ q, q < 5 * len → a.2.2.2.2.1 3 q = st.2.1 3 q) ∧ ∀ i, i < j → a.2.2.2.2.1 3 (5 * len + i) = i3 (row.getD i 0))
    (Q := fun st' => frm [3, 4] [9] st st' ∧ TVk st' n m (rows ++ if isRow m row then [row] else [])) (N := n) (B := 0) ?_ ?_ 0 (Nat.zero_le _) fuel (0, 0, c, st) (by omega) ⟨rfl, rfl, by simp, frm.rf, fun _ _ => rfl, fun i h => absurd h (Nat.not_lt_zero _)⟩
  · obtain ⟨r, h1, h2⟩ := key
    exact ⟨r, h1, h2⟩
  · intro f a _ ⟨h1, h2, h3, h4, h5, h6⟩
    obtain ⟨met, lt, left, s⟩ := a
    simp only at h1 h2 h3 h4 h5 h6 ⊢
    have e7 : s.1 7 = i3 n := (h4.2.1 7 (by simp)).trans h7
    have e8 : s.1 8 = i3 m := (h4.2.1 8 (by simp)).trans h8
    have e9 : s.1 9 = i3 len := (h4.2.1 9 (by simp)).trans h9
    have e4 : s.2.1 4 = st.2.1 4 := h4.1 4 (by simp)
    rw [List.take_of_length_le (by omega)] at h1 h2
    have hmet : met < 32 := by rw [h1]; exact Nat.lt_of_lt_of_le (maskN_lt row hrm) h32
    have hltn : lt ≤ n := by rw [h2, ← hrl]; exact lets_len_le _ _
    have p1 : 0 < 2 ^ m := Nat.two_pow_pos _
    have p2 : 2 ^ m ≤ 16 := Nat.pow_le_pow_right (n := 2) (by decide) hm.2.2
    have es : (1 : Int32) <<< (i3 m &&& 31) - 1 = i3 (2 ^ m - 1) := by
      have e1 : (1 : Int32) <<< (i3 m &&& 31) = i3 (1 <<< m) := i3_shl (a := 1) (by omega)
      rw [e1, Nat.one_shiftLeft]
      exact i3_sub (b := 1) p1
    rw [S_X6_lays_c19, e7]
    simp only [i3_le (a := n) (b := n) (by omega) (by omega), Nat.le_refl, if_true, e8, es, i3_and, i3_eq (a := lt) (b := m) (by omega) (by omega)]
    have hand : met &&& (2 ^ m - 1) ≤ met := Nat.and_le_left
    simp only [i3_eq (a := met &&& (2 ^ m - 1)) (b := 2 ^ m - 1) (by omega) (by omega)]
    have hkeep : ∀ s' : MSt, s'.2.1 3 = s.2.1 3 → (∀ q, q < 4 * len → s'.2.1 4 q = st.2.1 4 q) → s'.1 9 = i3 len → TVk s' n m rows := by
      intro s' a3 a4 a9
      refine ⟨by rw [a9, hlen2], fun k hk j hj => ?_, fun k hk i hi => ?_⟩
      · rw [a3, h5 _ (by omega)]; exact hR k (by omega) j hj
      · rw [a4 _ (by omega)]; exact hE k (by omega) i hi
    by_cases hrw : isRow m row = true
    · have hb := hrw
      unfold isRow at hb
      rw [Bool.and_eq_true, Nat.one_shiftLeft] at hb
      have hb1 : (lets m row).length = m := by simpa using hb.1
      have hb2 : maskN row &&& (2 ^ m - 1) = 2 ^ m - 1 := by simpa using hb.2
      rw [if_pos (by rw [h2]; exact hb1), if_pos (by rw [h1]; exact hb2)]
      obtain ⟨st', g1, g2, g3, g4, g5⟩ := lay_second hok e7 e8 e9 (hl hrw) hrl hrm hb1 (fun i hi => h6 i hi) (fuel := fuel) (by omega)
      refine ⟨st', g1, (h4.mono (by simp) (by simp)).trans (g2.mono (by simp) (by simp)), ?_⟩
      rw [if_pos hrw]
      have k1 : st'.2.1 3 = s.2.1 3 := g2.1 3 (by simp)
      refine ⟨by rw [g3, List.length_append, hlen2]; rfl, fun k hk j hj => ?_, fun k hk i hi => ?_⟩
      · rw [List.length_append, hlen2] at hk
        rw [k1]
        rcases Nat.lt_or_ge k len with q | q
        · rw [h5 _ (by omega), getD_app_lt (by omega)]; exact hR k q j hj
        · have : k = len := by have : k < len + 1 := hk; omega
          subst this
          rw [h6 j hj, ← hlen2, getD_app_eq]
      · rw [List.length_append, hlen2] at hk
        rcases Nat.lt_or_ge k len with q | q
        · rw [g4 _ (by omega), e4, getD_app_lt (by omega)]; exact hE k q i hi
        · have : k = len := by have : k < len + 1 := hk; omega
          subst this
          rw [g5 i hi, ← hlen2, getD_app_eq]; rfl
    · have hr : ∃ r, (if lt = m then if met &&& (2 ^ m - 1) = 2 ^ m - 1 then S_X6_lays_c126 fuel (i3 (5 * len)) 0 0 s else some s else some s) = some r ∧ r = s := by
        by_cases q1 : lt = m
        · by_cases q2 : met &&& (2 ^ m - 1) = 2 ^ m - 1
          · exfalso
            apply hrw
            unfold isRow
            rw [Bool.and_eq_true, Nat.one_shiftLeft]
            exact ⟨by rw [← h2]; simpa using q1, by rw [← h1]; simpa using q2⟩
          · exact ⟨s, by rw [if_pos q1, if_neg q2], rfl⟩
        · exact ⟨s, by rw [if_neg q1], rfl⟩
      obtain ⟨r, g1, rfl⟩ := hr
      refine ⟨r, g1, h4.mono (by simp) (by simp), ?_⟩
      rw [if_neg hrw, List.append_nil]
      exact hkeep r rfl (fun q hq => by rw [e4]) e9
  · intro f j a hj _ ⟨h1, h2, h3, h4, h5, h6⟩
    obtain ⟨met, lt, left, s⟩ := a
    simp only at h1 h2 h3 h4 h5 h6 ⊢
    have e7 : s.1 7 = i3 n := (h4.2.1 7 (by simp)).trans h7
    have e8 : s.1 8 = i3 m := (h4.2.1 8 (by simp)).trans h8
    have hq : ¬ n ≤ j := by omega
    have hleft : left ≤ c := by rw [h3]; exact Nat.div_le_self _ _
    have hts := take_succ_getD (row := row) (j := j) (by omega)
    have hla := lets_app m (row.take j) (row.getD j 0)
    have hma := maskN_app (row.take j) (row.getD j 0)
    rw [← hts] at hla hma
    have hv : left % (m + 1) = row.getD j 0 := by rw [h3, hrg j hj]
    have hv2 : row.getD j 0 ≤ m := getD_le hrm j
    have hr : i3 left - i3 left / i3 (m + 1) * i3 (m + 1) = i3 (row.getD j 0) := by rw [i3_rem (by omega) (by omega), hv]
    have hd : i3 left / i3 (m + 1) = i3 (left / (m + 1)) := i3_div (by omega) (by omega)
    have hlt : lt ≤ j := by rw [h2]; refine Nat.le_trans (lets_len_le _ _) ?_; rw [List.length_take]; omega
    have hmet : met < 32 := by
      rw [h1]; exact Nat.lt_of_lt_of_le (maskN_lt _ (fun t ht => hrm t (List.mem_of_mem_take ht))) h32
    have esh : (1 : Int32) <<< (i3 (row.getD j 0) &&& 31) = i3 (1 <<< row.getD j 0) := i3_shl (a := 1) (by omega)
    rw [S_X6_lays_c19, e7]
    simp only [i3_le (a := n) (b := j) (by omega) (by omega), hq, if_false]
    rw [odz_e (by omega) (by omega), onm_e, odz_e (by omega) (by omega), onm_e, hr, hd, i3_add, ob_e (by omega) (by decide), onm_e, onm_e, mA_i, e8, esh, i3_or]
    simp only [i3_le (a := m) (b := row.getD j 0) (by omega) (by omega)]
    have hI : ∀ x : Nat, x = (lets m (row.take (j + 1))).length → (met ||| 1 <<< row.getD j 0) = maskN (row.take (j + 1)) ∧ x = (lets m (row.take (j + 1))).length ∧ left / (m + 1) = c / (m + 1) ^ (j + 1) ∧ frm [3] [] st (mA s 3 (5 * len + j) (i3 (row.getD j 0))) ∧ (∀ q, q < 5 * len → (mA s 3 (5 * len + j) (i3 (row.getD j 0))).2.1 3 q = st.2.1 3 q) ∧ ∀ i, i < j + 1 → (mA s 3 (5 * len + j) (i3 (row.getD j 0))).2.1 3 (5 * len + i) = i3 (row.getD i 0) := by
      intro x hx
      refine ⟨by rw [hma, h1], hx, by rw [h3, Nat.div_div_eq_div_mul, Nat.pow_succ], h4.a (by simp), fun q hq => ?_, fun i hi => ?_⟩
      · rw [mA_eq, upd_ne (by omega)]; exact h5 q hq
      · rw [mA_eq]
        rcases Nat.lt_or_ge i j with q | q
        · rw [upd_ne (by omega)]; exact h6 i q
        · have : i = j := by omega
          subst this
          rw [upd_same]
    have z0 : i3 lt + 0 = i3 lt := i3_add lt 0
    by_cases hg : m ≤ row.getD j 0
    · refine ⟨(met ||| 1 <<< row.getD j 0, lt, left / (m + 1), mA s 3 (5 * len + j) (i3 (row.getD j 0))), hI lt ?_, ?_⟩
      · rw [hla, if_neg (by omega), ← h2]; rfl
      · rw [if_pos hg, S_flag0]
        simp only [Option.bind_some, onm_e, z0, i3_succ]
    · refine ⟨(met ||| 1 <<< row.getD j 0, lt + 1, left / (m + 1), mA s 3 (5 * len + j) (i3 (row.getD j 0))), hI (lt + 1) ?_, ?_⟩
      · rw [hla, if_pos (by omega), ← h2]
      · rw [if_neg hg, S_flag1]
        simp only [Option.bind_some, onm_e, i3_succ]
