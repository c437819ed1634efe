/-! the model counts solutions row by row
-/
set_option maxRecDepth 100000
def rowsK (T : List (List Nat)) (K : Nat → Nat) (r : Nat) : List (List Nat) := (List.range r).map fun i => T.getD (K i) []
theorem rowsK_len {T : List (List Nat)} {K : Nat → Nat} {r : Nat} : (rowsK T K r).length = r := by unfold rowsK; rw [List.length_map, List.length_range]
theorem rowsK_get {T : List (List Nat)} {K : Nat → Nat} {r i : Nat} (hi : i < r) : (rowsK T K r).getD i [] = T.getD (K i) [] := by
  unfold rowsK
  rw [List.getD_eq_getElem?_getD, List.getElem?_map, List.getElem?_range hi]; rfl
theorem mask_take {pre : List Nat} {j : Nat} (hj : j < pre.length) : maskN (pre.take (j + 1)) = maskN (pre.take j) ||| 1 <<< pre.getD j 0 := by rw [take_succ_getD hj, maskN_app]
theorem count_take {pre : List Nat} {j m : Nat} (hj : j < pre.length) : (pre.take (j + 1)).count m = (pre.take j).count m + (if pre.getD j 0 = m then 1 else 0) := by
  rw [take_succ_getD hj, List.count_append, List.count_singleton]
  congr 1
  by_cases q : pre.getD j 0 = m
  · rw [q]; simp
  · have : (pre.getD j 0 == m) = false := by simpa using q
    rw [this, if_neg q]; rfl
section RW
variable {st : MSt} {p : Pz} {row k fuel : Nat} {K : Nat → Nat}
theorem rowsK_le (hok : okNM p.n p.m) (hK : ∀ i, i < row → st.2.1 9 i = i3 (K i) ∧ K i < (tabN p.n p.m).length) : ∀ r ∈ rowsK (tabN p.n p.m) K row, ∀ t ∈ r, t ≤ p.m := by
  intro r hr t ht
  unfold rowsK at hr
  obtain ⟨i, hi, rfl⟩ := List.mem_map.mp hr
  exact (tab_row hok (getD_mem (hK i (List.mem_range.mp hi)).2)).2.1 t ht
theorem S_standsAslant (h : MV st p) (hT : TV st p.n p.m) (hK : ∀ i, i < row → st.2.1 9 i = i3 (K i) ∧ K i < (tabN p.n p.m).length) (hrow : row < p.n) (hk : k < (tabN p.n p.m).length) (hf : 20 ≤ fuel) {z : Bool} :
    S_X6_standsAslant fuel (i3 row) (i3 k) (bI z) st = some (bI (stA p (rowsK (tabN p.n p.m) K row) ((tabN p.n p.m).getD k []) (if z then 2 * p.n else 2 * p.n + 1))) := by
  have hok := h.1
  have hn := hok.n45
  have hm := hok.m24
  have h32 := pow_le hm.2.2
  have hlen := tab_len hok
  obtain ⟨-, h7, h8, hTk, hR, -⟩ := hT
  obtain ⟨ln, hln⟩ : ∃ ln, ln = if z then 2 * p.n else 2 * p.n + 1 := ⟨_, rfl⟩
  have hcol : ∀ i, i < p.n → colOf p.n ln i = (if z then i else p.n - 1 - i) := by
    intro i hi
    unfold colOf
    cases z with
    | true => rw [if_pos rfl] at hln; rw [if_neg (by omega), if_pos hln, if_pos rfl]
    | false => rw [if_neg (by decide)] at hln; rw [if_neg (by omega), if_neg (by omega), if_neg (by decide)]
  rw [← hln]
  obtain ⟨pre, hpre⟩ : ∃ pre, pre = preL p.n ln (rowsK (tabN p.n p.m) K row) := ⟨_, rfl⟩
  have hpl : pre.length = row := by rw [hpre, preL_len, rowsK_len]
  have hple : ∀ t ∈ pre, t ≤ p.m := by rw [hpre]; exact preL_le (rowsK_le hok hK)
  have hpg : ∀ i, i < row → pre.getD i 0 = ((tabN p.n p.m).getD (K i) []).getD (if z then i else p.n - 1 - i) 0 := by
    intro i hi
    rw [hpre, preL_get (by rw [rowsK_len]; exact hi), rowsK_get hi, hcol i (by omega)]
  have hkx : ((tabN p.n p.m).getD k []).getD (if z then row else p.n - 1 - row) 0 ≤ p.m := getD_le (tab_row hok (getD_mem hk)).2.1 _
  have hmk : ∀ j, maskN (pre.take j) < 32 := fun j => Nat.lt_of_lt_of_le (maskN_lt _ fun t ht => hple t (List.mem_of_mem_take ht)) h32
  have hct : ∀ j, (pre.take j).count p.m ≤ 5 := by
    intro j
    have h1 := List.count_le_length (a := p.m) (l := pre.take j)
    rw [List.length_take] at h1
    omega
  have el : ∀ i, i < p.n → (if z = true then i3 i else (i3 p.n - 1 - i3 i)) = i3 (if z then i else p.n - 1 - i) := by
    intro i hi
    cases z with
    | true => rfl
    | false =>
      have : i3 p.n - 1 = i3 (p.n - 1) := i3_sub (b := 1) (by omega)
      rw [if_neg (by decide), if_neg (by decide), this, i3_sub (by omega)]
  have hcb : ∀ i, i < p.n → (if z then i else p.n - 1 - i) < p.n := by intro i hi; split <;> omega
  have e0 : (0 : Int32) = i3 0 := rfl
  unfold S_X6_standsAslant
  rw [h.2.1, onm_e, h.2.2.1, onm_e]
  have run : ∀ j, j ≤ row → ∀ f (Kk : Int32 → Int32 → Int32 → Int32 → Int32 → Int32 → Int32 → Option Int32), row - j + 1 ≤ f → S_X6_standsAslant_c25 Kk st f (i3 row) (i3 k) (bI z) (i3 p.n) (i3 p.m) (i3 (maskN (pre.take j))) (i3 ((pre.take j).count p.m)) (i3 j) = Kk (i3 row) (i3 k) (bI z) (i3 p.n) (i3 p.m) (i3 (maskN pre)) (i3 (pre.count p.m)) := by
    apply vloop
    · intro f Kk hf
      obtain ⟨f, rfl⟩ : ∃ k, f = k + 1 := ⟨f - 1, by omega⟩
      rw [S_X6_standsAslant_c25]
      simp only [i3_le (a := row) (b := row) (by omega) (by omega), Nat.le_refl, if_true]
      rw [← hpl, List.take_length]
    · intro j hj ih f Kk hf
      obtain ⟨f, rfl⟩ : ∃ k, f = k + 1 := ⟨f - 1, by omega⟩
      have hq : ¬ row ≤ j := by omega
      obtain ⟨hk1, hk2⟩ := hK j hj
      have hx := hpg j hj
      have hxle : pre.getD j 0 ≤ p.m := getD_le hple j
      have hcj := hcb j (by omega)
      have e5 : (5 : Int32) * i3 (K j) = i3 (5 * K j) := i3_mul 5 _
      have hcell := hR (K j) hk2 _ hcj
      have body : S_X6_standsAslant_j60 (S_X6_standsAslant_c25 Kk st f) st f (i3 row) (i3 k) (bI z) (i3 p.n) (i3 p.m) (i3 (maskN (pre.take j))) (i3 ((pre.take j).count p.m)) (i3 j) (if z = true then i3 j else (i3 p.n - 1 - i3 j)) ((5 : Int32) * i3 (K j)) = Kk (i3 row) (i3 k) (bI z) (i3 p.n) (i3 p.m) (i3 (maskN pre)) (i3 (pre.count p.m)) := by
        unfold S_X6_standsAslant_j60
        rw [el j (by omega), e5, i3_add, ob_e (by omega) (by decide), hcell, onm_e, ← hx, i3_one (by omega), i3_or, onm_e, ← mask_take (by omega)]
        simp only [i3_eq (a := pre.getD j 0) (b := p.m) (by omega) (by omega)]
        have ih2 := ih f Kk (by omega)
        rw [count_take (by omega)] at ih2
        by_cases q : pre.getD j 0 = p.m
        · rw [if_pos q] at ih2 ⊢
          rw [S_flag1, Option.bind_some, i3_succ, i3_succ, onm_e]
          exact ih2
        · rw [if_neg q] at ih2 ⊢
          rw [S_flag0, Option.bind_some, i3_succ, e0, i3_add, onm_e]
          exact ih2
      rw [S_X6_standsAslant_c25]
      simp only [i3_le (a := row) (b := j) (by omega) (by omega), hq, if_false]
      rw [ob_e (by omega) (by decide), hk1, ← body]
      cases z <;> rfl
  have r0 := run 0 (Nat.zero_le _) fuel (fun y7_1 y7_2 y7_3 y7_4 y7_5 y7_6 y7_7 => 
        if y7_3 = 0 then
          S_X6_standsAslant_j120 st fuel y7_4 y7_5 y7_6 y7_7 ((y7_4 - (1 : Int32)) - y7_1) ((5 : Int32) * y7_2)
        else
          S_X6_standsAslant_j120 st fuel y7_4 y7_5 y7_6 y7_7 y7_1 ((5 : Int32) * y7_2)) (by omega)
  rw [List.take_zero] at r0
  have r1 : S_X6_standsAslant_c25 (fun y7_1 y7_2 y7_3 y7_4 y7_5 y7_6 y7_7 => 
        if y7_3 = 0 then
          S_X6_standsAslant_j120 st fuel y7_4 y7_5 y7_6 y7_7 ((y7_4 - (1 : Int32)) - y7_1) ((5 : Int32) * y7_2)
        else
          S_X6_standsAslant_j120 st fuel y7_4 y7_5 y7_6 y7_7 y7_1 ((5 : Int32) * y7_2)) st fuel (i3 row) (i3 k) (bI z) (i3 p.n) (i3 p.m) 0 0 0 = _ := r0
  rw [r1]
  have hcr := hcb row hrow
  have hcell := hR k hk _ hcr
  obtain ⟨x, hx⟩ : ∃ x, x = ((tabN p.n p.m).getD k []).getD (if z then row else p.n - 1 - row) 0 := ⟨_, rfl⟩
  rw [← hx] at hcell hkx
  have e5 : (5 : Int32) * i3 k = i3 (5 * k) := i3_mul 5 _
  have hmk2 := hmk pre.length
  have hct2 := hct pre.length
  rw [List.take_length] at hmk2 hct2
  have fin : S_X6_standsAslant_j120 st fuel (i3 p.n) (i3 p.m) (i3 (maskN pre)) (i3 (pre.count p.m)) (if z = true then i3 row else (i3 p.n - 1 - i3 row)) ((5 : Int32) * i3 k) = some (bI (stA p (rowsK (tabN p.n p.m) K row) ((tabN p.n p.m).getD k []) ln)) := by
    unfold S_X6_standsAslant_j120 stA stepD
    rw [el row hrow, e5, i3_add, ob_e (by omega) (by decide), hcell, onm_e, rowsK_len, hcol row hrow, ← hx, ← hpre, i3_sub (by omega)]
    simp only [i3_eq (a := x) (b := p.m) (by omega) (by omega), i3_le (a := p.n - p.m) (b := pre.count p.m) (by omega) (by omega)]
    by_cases q : x = p.m
    · rw [if_pos q, if_pos q]
      by_cases q2 : p.n - p.m ≤ pre.count p.m
      · rw [if_pos q2, decide_eq_false (by omega)]; rfl
      · rw [if_neg q2, decide_eq_true (by omega)]; rfl
    · rw [if_neg q, if_neg q, S_has (by omega) (by omega), Option.bind_some]
      simp only [bI_eq0]
      cases (maskN pre).testBit x <;> rfl
  rw [← fin]
  cases z <;> rfl
theorem S_stands (h : MV st p) (hT : TV st p.n p.m) (hK : ∀ i, i < row → st.2.1 9 i = i3 (K i) ∧ K i < (tabN p.n p.m).length) (hrow : row < p.n) (hk : k < (tabN p.n p.m).length) (hf : 60 ≤ fuel) :
    S_X6_stands fuel (i3 row) (i3 k) st = some (bI (stB p (rowsK (tabN p.n p.m) K row) ((tabN p.n p.m).getD k []))) := by
  have hok := h.1
  have hn := hok.n45
  have hm := hok.m24
  have h32 := pow_le hm.2.2
  have h16 := p16 hm.2.2
  have hlen := tab_len hok
  have hte := h.te_le
  have hR := hT.2.2.2.2.1
  have e0 : (0 : Int32) = i3 0 := rfl
  unfold S_X6_stands
  rw [h.2.1, onm_e, h.2.2.1, onm_e]
  have key := all_loop (F := fun f j => S_X6_stands_c18 (fun y20_1 y20_2 => 
        if (st.2.1 0 2) = 0 then
          some 1
        else
          (S_X6_standsAslant fuel y20_1 y20_2 1 st).bind fun q23 =>
          if q23 = 0 then
            some 0
          else
            (S_X6_standsAslant fuel y20_1 y20_2 0 st).bind fun q25 =>
            if q25 = 0 then
              some 0
            else
              some 1) st f (i3 row) (i3 k) (i3 p.n) (i3 p.m) (i3 j))
    (f := stC p (rowsK (tabN p.n p.m) K row) ((tabN p.n p.m).getD k [])) (N := p.n) (B := 20)
    (Kt := some (bI (!p.dg || (stA p (rowsK (tabN p.n p.m) K row) ((tabN p.n p.m).getD k []) (2 * p.n) && stA p (rowsK (tabN p.n p.m) K row) ((tabN p.n p.m).getD k []) (2 * p.n + 1))))) (Kf := some 0) ?_ ?_ 0 (Nat.zero_le _) fuel (by omega)
  · rw [e0]
    refine key.trans ?_
    rw [allFr0]
    unfold stB
    cases (List.range p.n).all (stC p (rowsK (tabN p.n p.m) K row) ((tabN p.n p.m).getD k [])) <;> rfl
  · intro f _
    show S_X6_stands_c18 _ st (f + 1) _ _ _ _ _ = _
    rw [S_X6_stands_c18]
    simp only [i3_le (a := p.n) (b := p.n) (by omega) (by omega), Nat.le_refl, if_true, h.2.2.2.1]
    have ed : (i3 p.dg.toNat = 0) = (p.dg = false) := by cases p.dg <;> simp [i3]
    simp only [ed]
    cases hd : p.dg with
    | false => rw [if_pos rfl]; rfl
    | true =>
      have a1 : S_X6_standsAslant fuel (i3 row) (i3 k) 1 st = _ := S_standsAslant (z := true) h hT hK hrow hk (by omega)
      have a2 : S_X6_standsAslant fuel (i3 row) (i3 k) 0 st = _ := S_standsAslant (z := false) h hT hK hrow hk (by omega)
      rw [if_neg (by decide), a1, Option.bind_some]
      simp only [bI_eq0, if_true, Bool.not_true, Bool.false_or]
      cases stA p (rowsK (tabN p.n p.m) K row) ((tabN p.n p.m).getD k []) (2 * p.n) with
      | false => rfl
      | true =>
        rw [if_neg (by decide), a2, Option.bind_some]
        simp only [bI_eq0, Bool.false_eq_true, if_false, Bool.true_and]
        cases stA p (rowsK (tabN p.n p.m) K row) ((tabN p.n p.m).getD k []) (2 * p.n + 1) <;> rfl
  · intro f c hc hfb
    obtain ⟨pre, hpre⟩ : ∃ pre, pre = preL p.n (p.n + c) (rowsK (tabN p.n p.m) K row) := ⟨_, rfl⟩
    have hcolc : ∀ i, colOf p.n (p.n + c) i = c := by intro i; unfold colOf; rw [if_pos (by omega)]; omega
    have hpl : pre.length = row := by rw [hpre, preL_len, rowsK_len]
    have hple : ∀ t ∈ pre, t ≤ p.m := by rw [hpre]; exact preL_le (rowsK_le hok hK)
    have hpg : ∀ i, i < row → pre.getD i 0 = ((tabN p.n p.m).getD (K i) []).getD c 0 := by
      intro i hi
      rw [hpre, preL_get (by rw [rowsK_len]; exact hi), rowsK_get hi, hcolc]
    have hmk : ∀ j, maskN (pre.take j) < 32 := fun j => Nat.lt_of_lt_of_le (maskN_lt _ fun t ht => hple t (List.mem_of_mem_take ht)) h32
    have hq : ¬ p.n ≤ c := by omega
    show S_X6_stands_c18 _ st (f + 1) _ _ _ _ _ = _
    rw [S_X6_stands_c18]
    simp only [i3_le (a := p.n) (b := c) (by omega) (by omega), hq, if_false]
    have run : ∀ j, j ≤ row → ∀ f2 (Kk : Int32 → Int32 → Int32 → Int32 → Int32 → Int32 → Option Int32), row - j + 1 ≤ f2 → S_X6_stands_c30 Kk st f2 (i3 row) (i3 k) (i3 p.n) (i3 p.m) (i3 c) (i3 (maskN (pre.take j))) (i3 j) = Kk (i3 row) (i3 k) (i3 p.n) (i3 p.m) (i3 c) (i3 (maskN pre)) := by
      apply vloop
      · intro f2 Kk hf2
        obtain ⟨f2, rfl⟩ : ∃ k, f2 = k + 1 := ⟨f2 - 1, by omega⟩
        rw [S_X6_stands_c30]
        simp only [i3_le (a := row) (b := row) (by omega) (by omega), Nat.le_refl, if_true]
        rw [← hpl, List.take_length]
      · intro j hj ih f2 Kk hf2
        obtain ⟨f2, rfl⟩ : ∃ k, f2 = k + 1 := ⟨f2 - 1, by omega⟩
        have hq2 : ¬ row ≤ j := by omega
        obtain ⟨hk1, hk2⟩ := hK j hj
        have hx := hpg j hj
        have hxle : pre.getD j 0 ≤ p.m := getD_le hple j
        have e5 : (5 : Int32) * i3 (K j) = i3 (5 * K j) := i3_mul 5 _
        rw [S_X6_stands_c30]
        simp only [i3_le (a := row) (b := j) (by omega) (by omega), hq2, if_false]
        rw [ob_e (by omega) (by decide), hk1, e5, i3_add, ob_e (by omega) (by decide), hR (K j) hk2 c hc, ← hx, i3_one (by omega), i3_or, onm_e, ← mask_take (by omega), i3_succ]
        exact ih f2 Kk (by omega)
    have r0 := fun Kk => run 0 (Nat.zero_le _) f Kk (by omega)
    rw [List.take_zero] at r0
    have r1 : ∀ Kk, S_X6_stands_c30 Kk st f (i3 row) (i3 k) (i3 p.n) (i3 p.m) (i3 c) 0 0 = Kk (i3 row) (i3 k) (i3 p.n) (i3 p.m) (i3 c) (i3 (maskN pre)) := r0
    rw [r1]
    obtain ⟨x, hx⟩ : ∃ x, x = ((tabN p.n p.m).getD k []).getD c 0 := ⟨_, rfl⟩
    have hkx : x ≤ p.m := by rw [hx]; exact getD_le (tab_row hok (getD_mem hk)).2.1 _
    have e5 : (5 : Int32) * i3 k = i3 (5 * k) := i3_mul 5 _
    have hmk2 := hmk pre.length
    rw [List.take_length] at hmk2
    have hpp : 0 < 2 ^ p.m := Nat.two_pow_pos _
    have e1 : i3 (2 ^ p.m) - 1 = i3 (2 ^ p.m - 1) := i3_sub (b := 1) hpp
    have hml : maskN pre &&& (2 ^ p.m - 1) < 2 ^ p.m := by rw [Nat.and_two_pow_sub_one_eq_mod]; exact Nat.mod_lt _ hpp
    have hbl : befN p.m pre ≤ p.m := pc_mask_le pre p.m hm.2.2
    have hbe : pc (maskN pre &&& (2 ^ p.m - 1)) = befN p.m pre := rfl
    have hste : stC p (rowsK (tabN p.n p.m) K row) ((tabN p.n p.m).getD k []) c = stepS p.n p.m (p.te (p.n + c) false) (p.te (p.n + c) true) pre x := by
      unfold stC; rw [← hpre, ← hx]
    show (ob (5 * i3 k + i3 c) 605 fun j6 => onm (st.2.1 3 j6) fun v8 => _) = _
    rw [e5, i3_add, ob_e (by omega) (by decide), hR k hk c hc, onm_e, ← hx, i3_one (by omega), Nat.one_shiftLeft, e1, i3_and, S_many (by omega) (by omega), Option.bind_some, hbe]
    simp only [i3_eq (a := x) (b := p.m) (by omega) (by omega), i3_subLt (a := row) (b := befN p.m pre) (c := p.n) (d := p.m) (by omega) (by omega) (by omega) (by omega), i3_succ]
    rw [hste]
    unfold stepS
    by_cases q : x = p.m
    · rw [if_pos q, if_pos q]
      unfold gapS
      rw [hpl]
      by_cases q2 : row - befN p.m pre < p.n - p.m
      · rw [if_pos (by omega), decide_eq_true q2]; rfl
      · rw [if_neg (by omega), decide_eq_false q2]; rfl
    · rw [if_neg q, if_neg q, S_has (by omega) (by omega), Option.bind_some]
      simp only [bI_eq0]
      cases q2 : (maskN pre).testBit x with
      | true => rw [if_neg (by decide)]; rfl
      | false =>
        have hb' : befN p.m pre ≤ p.m - 1 := bef_pred ⟨p.m, by omega⟩ ⟨maskN pre &&& (2 ^ p.m - 1), by omega⟩ ⟨x, by omega⟩ (by show x < p.m; omega) hml (by
          show (maskN pre &&& (2 ^ p.m - 1)).testBit x = false
          rw [Nat.testBit_and, q2, Bool.false_and])
        have ht1 := hte (p.n + c) false
        have ht2 := hte (p.n + c) true
        have et1 : S_X6_tellingOf (i3 (p.n + c)) 0 st = some (i3 (p.te (p.n + c) false)) := S_tellingOf h (by omega) (z := false)
        have et2 : S_X6_tellingOf (i3 (p.n + c)) 1 st = some (i3 (p.te (p.n + c) true)) := S_tellingOf h (by omega) (z := true)
        have es : i3 p.m - 1 - i3 (befN p.m pre) = i3 (p.m - 1 - befN p.m pre) := by
          have : i3 p.m - 1 = i3 (p.m - 1) := i3_sub (b := 1) (by omega)
          rw [this, i3_sub hb']
        rw [if_pos rfl, i3_add, et1, Option.bind_some, S_isInOrder (by omega) (by omega) (by omega), Option.bind_some]
        simp only [bI_eq0, Bool.not_false, Bool.true_and, ordB_N]
        cases q3 : ordN (p.te (p.n + c) false) x (befN p.m pre) with
        | false => rw [if_pos rfl]; rfl
        | true =>
          rw [if_neg (by decide), et2, Option.bind_some, es, S_isInOrder (by omega) (by omega) (by omega), Option.bind_some]
          simp only [bI_eq0, Bool.true_and, ordB_N]
          cases q4 : ordN (p.te (p.n + c) true) x (p.m - 1 - befN p.m pre) with
          | false => rw [if_pos rfl]; rfl
          | true => rw [if_neg (by decide)]; rfl
end RW
def rowsS (T : List (List Nat)) : List Nat → List (List Nat)
  | [] => []
  | t :: r => rowsS T r ++ [T.getD (t - 1) []]
theorem rowsS_len {T : List (List Nat)} : ∀ {L : List Nat}, (rowsS T L).length = L.length := by
  intro L
  induction L with
  | nil => rfl
  | cons t r ih => show (rowsS T r ++ [_]).length = _; rw [List.length_append, ih]; rfl
def okB (p : Pz) (u : Nat → Nat) (pre : List (List Nat)) (k : Nat) : Bool := fit p u pre.length ((tabN p.n p.m).getD k []) && stB p pre ((tabN p.n p.m).getD k [])
def restB (p : Pz) (u : Nat → Nat) (pre : List (List Nat)) (t : Nat) : Nat := (((List.range' t ((tabN p.n p.m).length - t)).filter (okB p u pre)).map fun k => (bR p u (p.n - 1 - pre.length) (pre ++ [(tabN p.n p.m).getD k []])).length).sum
def remB (p : Pz) (u : Nat → Nat) : List Nat → Nat
  | [] => 0
  | t :: r => restB p u (rowsS (tabN p.n p.m) r) t + remB p u r
theorem restB_end {p : Pz} {u : Nat → Nat} {pre : List (List Nat)} : restB p u pre (tabN p.n p.m).length = 0 := by unfold restB; rw [Nat.sub_self]; rfl
theorem restB_no {p : Pz} {u : Nat → Nat} {pre : List (List Nat)} {t : Nat} (ht : t < (tabN p.n p.m).length) (h : okB p u pre t = false) : restB p u pre t = restB p u pre (t + 1) := by
  unfold restB
  obtain ⟨k, hk⟩ : ∃ k, (tabN p.n p.m).length - t = k + 1 := ⟨(tabN p.n p.m).length - t - 1, by omega⟩
  rw [hk, List.range'_succ, List.filter_cons_of_neg (by rw [h]; decide), show (tabN p.n p.m).length - (t + 1) = k by omega]
theorem restB_yes {p : Pz} {u : Nat → Nat} {pre : List (List Nat)} {t : Nat} (ht : t < (tabN p.n p.m).length) (h : okB p u pre t = true) : restB p u pre t = (bR p u (p.n - 1 - pre.length) (pre ++ [(tabN p.n p.m).getD t []])).length + restB p u pre (t + 1) := by
  unfold restB
  obtain ⟨k, hk⟩ : ∃ k, (tabN p.n p.m).length - t = k + 1 := ⟨(tabN p.n p.m).length - t - 1, by omega⟩
  rw [hk, List.range'_succ, List.filter_cons_of_pos h, show (tabN p.n p.m).length - (t + 1) = k by omega, List.map_cons, List.sum_cons]
theorem restB_all {p : Pz} {u : Nat → Nat} {pre : List (List Nat)} (hl : pre.length < p.n) : restB p u pre 0 = (bR p u (p.n - pre.length) pre).length := by
  obtain ⟨k, hk⟩ : ∃ k, p.n - pre.length = k + 1 := ⟨p.n - pre.length - 1, by omega⟩
  have hk2 : p.n - 1 - pre.length = k := by omega
  unfold restB
  rw [hk, hk2, Nat.sub_zero, ← List.range_eq_range']
  show _ = (List.flatMap _ _).length
  rw [List.length_flatMap]
  have hT : ∀ (T : List (List Nat)) (P : List Nat → Bool) (g : List Nat → Nat), (((List.range T.length).filter fun k => P (T.getD k [])).map fun k => g (T.getD k [])).sum = ((T.filter P).map g).sum := by
    intro T P g
    have e : T = (List.range T.length).map fun k => T.getD k [] := by
      apply List.ext_getElem (by rw [List.length_map, List.length_range])
      intro i h1 h2
      rw [List.getElem_map, List.getElem_range, List.getD_eq_getElem?_getD, List.getElem?_eq_getElem h1]; rfl
    conv => rhs; rw [e, List.filter_map, List.map_map]
    rfl
  exact hT (tabN p.n p.m) (fun r => fit p u pre.length r && stB p pre r) (fun r => (bR p u k (pre ++ [r])).length)
def muB (N : Nat) : List Nat → Nat
  | [] => 0
  | t :: r => (N + 2 - t) * 130 ^ (5 - r.length) + muB N r
def LSB (st : MSt) (N : Nat) : List Nat → Prop
  | [] => True
  | t :: r => st.2.1 9 r.length = encT t ∧ t ≤ N ∧ LSB st N r
theorem LSB.keep {st st' : MSt} {N : Nat} : ∀ {L : List Nat}, LSB st N L → (∀ q, q < L.length → st'.2.1 9 q = st.2.1 9 q) → LSB st' N L := by
  intro L
  induction L with
  | nil => intro _ _; trivial
  | cons t r ih => intro ⟨h1, h2, h3⟩ e; exact ⟨by rw [e _ (Nat.lt_succ_self _)]; exact h1, h2, ih h3 fun q hq => e q (Nat.lt_succ_of_lt hq)⟩
theorem LSB_K {st : MSt} {T : List (List Nat)} : ∀ {L : List Nat}, LSB st T.length L → (∀ t ∈ L, 0 < t) → ∃ K : Nat → Nat, (∀ i, i < L.length → st.2.1 9 i = i3 (K i) ∧ K i < T.length) ∧ rowsS T L = rowsK T K L.length := by
  intro L
  induction L with
  | nil => intro _ _; exact ⟨fun _ => 0, fun i hi => absurd hi (Nat.not_lt_zero _), rfl⟩
  | cons t r ih =>
    intro ⟨h1, h2, h3⟩ hp
    obtain ⟨K, k1, k2⟩ := ih h3 fun x hx => hp x (List.mem_cons_of_mem _ hx)
    have ht := hp t List.mem_cons_self
    obtain ⟨t0, rfl⟩ : ∃ k, t = k + 1 := ⟨t - 1, by omega⟩
    refine ⟨fun i => if i = r.length then t0 else K i, fun i hi => ?_, ?_⟩
    · have hi : i < r.length + 1 := hi
      dsimp only
      by_cases q : i = r.length
      · subst q
        rw [if_pos rfl]
        exact ⟨h1, h2⟩
      · rw [if_neg q]; exact k1 i (by omega)
    · show rowsS T r ++ [T.getD t0 []] = (List.range (r.length + 1)).map _
      rw [List.range_succ, List.map_append, k2]
      congr 1
      · unfold rowsK
        apply List.map_congr_left
        intro i hi
        have := List.mem_range.mp hi
        dsimp only
        rw [if_neg (by omega)]
      · show _ = [T.getD (if r.length = r.length then t0 else K r.length) []]
        rw [if_pos rfl]
theorem muB_step {N t t' len : Nat} (hN : N ≤ 120) (h1 : t ≤ t') (h2 : t' < N) (hl : len < 5) : (N + 2) * 130 ^ (5 - (len + 1)) + (N + 2 - (t' + 1)) * 130 ^ (5 - len) < (N + 2 - t) * 130 ^ (5 - len) := by
  have e : 5 - len = 5 - (len + 1) + 1 := by omega
  have hA : 0 < 130 ^ (5 - (len + 1)) := Nat.pow_pos (by decide)
  rw [e, Nat.pow_succ]
  generalize 130 ^ (5 - (len + 1)) = A at *
  have h3 : (N + 2 - (t' + 1) + 1) * (A * 130) ≤ (N + 2 - t) * (A * 130) := Nat.mul_le_mul_right _ (by omega)
  have h4 : (N + 2) * A ≤ 122 * A := Nat.mul_le_mul_right _ (by omega)
  rw [Nat.add_mul (N + 2 - (t' + 1)) 1] at h3
  omega
theorem muB_less {N t t' len : Nat} (h1 : t ≤ t') (h2 : t' < N) : (N + 2 - (t' + 1)) * 130 ^ (5 - len) < (N + 2 - t) * 130 ^ (5 - len) :=
  Nat.mul_lt_mul_of_pos_right (by omega) (Nat.pow_pos (by decide))
theorem S_rowsL {p : Pz} {u : Nat → Nat} : ∀ (μ : Nat) (L : List Nat) (C : Nat) (st : MSt) (fuel : Nat), MV st p → TV st p.n p.m → LVw st 50 p.m u → LSB st (tabN p.n p.m).length L → (∀ t ∈ L.tail, 0 < t) → L.length ≤ p.n → C ≤ 200 → muB (tabN p.n p.m).length L < μ → μ + 6000 ≤ fuel →
    ∃ st', S_X6_solutionsByRows_c32 fuel (i3 C) (encT L.length) st = some (i3 (min 200 (C + remB p u L)), st') ∧ frm [9] [] st st' := by
  intro μ
  induction μ with
  | zero => intro L C st fuel _ _ _ _ _ _ _ hmu _; exact absurd hmu (Nat.not_lt_zero _)
  | succ μ ih =>
    intro L C st fuel h hT hu hL hpos hLl hC hmu hf
    have hok := h.1
    have hn := hok.n45
    have hm := hok.m24
    have hlen := tab_len hok
    obtain ⟨f, rfl⟩ : ∃ k, fuel = k + 1 := ⟨fuel - 1, by omega⟩
    rw [S_X6_solutionsByRows_c32]
    cases L with
    | nil =>
      rw [if_pos (show encT ([] : List Nat).length < 0 by decide)]
      exact ⟨st, by rw [show min 200 (C + remB p u []) = C by show min 200 (C + 0) = C; omega], frm.rf⟩
    | cons t r =>
      obtain ⟨a1, a2, a3⟩ := hL
      have hLl : r.length + 1 ≤ p.n := hLl
      have hpos : ∀ t ∈ r, 0 < t := hpos
      have hel : encT (t :: r).length = i3 r.length := rfl
      rw [hel]
      have e2 : ((200 : Int32) ≤ i3 C) = (200 ≤ C) := i3_le (a := 200) (by decide) (by omega)
      simp only [i3_neg_lt (a := r.length) (by omega), if_false, e2]
      by_cases hq : 200 ≤ C
      · rw [if_pos hq]
        exact ⟨st, by rw [show min 200 (C + remB p u (t :: r)) = C by omega], frm.rf⟩
      rw [if_neg hq, ob_e (by omega) (by decide), a1, encT_succ, onm_e]
      obtain ⟨K, k1, k2⟩ := LSB_K a3 hpos
      have hpl : (rowsS (tabN p.n p.m) r).length = r.length := rowsS_len
      -- the next arrangement that stands
      have run : ∀ (j t fuel2 : Nat), (tabN p.n p.m).length - t = j → t ≤ (tabN p.n p.m).length → j + 70 ≤ fuel2 → ∃ t', t ≤ t' ∧ t' ≤ (tabN p.n p.m).length ∧ restB p u (rowsS (tabN p.n p.m) r) t = restB p u (rowsS (tabN p.n p.m) r) t' ∧ (t' < (tabN p.n p.m).length → okB p u (rowsS (tabN p.n p.m) r) t' = true) ∧ ∀ Kk, S_X6_solutionsByRows_c52 Kk fuel2 (i3 C) (i3 r.length) (i3 t) st = Kk (i3 C) (i3 r.length) (i3 t') st := by
        intro j
        induction j with
        | zero =>
          intro t fuel2 hj ht hf2
          obtain ⟨f2, rfl⟩ : ∃ k, fuel2 = k + 1 := ⟨fuel2 - 1, by omega⟩
          refine ⟨t, Nat.le_refl _, ht, rfl, fun q => by omega, fun Kk => ?_⟩
          rw [S_X6_solutionsByRows_c52, hT.2.2.2.1]
          simp only [i3_le (a := (tabN p.n p.m).length) (b := t) (by omega) (by omega)]
          rw [if_pos (by omega)]
        | succ j ih =>
          intro t fuel2 hj ht hf2
          obtain ⟨f2, rfl⟩ : ∃ k, fuel2 = k + 1 := ⟨fuel2 - 1, by omega⟩
          have hq2 : ¬ (tabN p.n p.m).length ≤ t := by omega
          have e50 : S_X6_fits f2 50 (i3 r.length) (i3 t) st = some (bI (fit p u r.length ((tabN p.n p.m).getD t []))) := S_fits (b := 50) h hT hu (by decide) (by omega) (by omega) (by omega)
          have body : ∀ Kk, S_X6_solutionsByRows_c52 Kk (f2 + 1) (i3 C) (i3 r.length) (i3 t) st = if okB p u (rowsS (tabN p.n p.m) r) t = true then Kk (i3 C) (i3 r.length) (i3 t) st else S_X6_solutionsByRows_c52 Kk f2 (i3 C) (i3 r.length) (i3 (t + 1)) st := by
            intro Kk
            rw [S_X6_solutionsByRows_c52, hT.2.2.2.1]
            simp only [i3_le (a := (tabN p.n p.m).length) (b := t) (by omega) (by omega), hq2, if_false]
            rw [e50, Option.bind_some]
            unfold okB
            rw [hpl]
            simp only [bI_eq0]
            cases fit p u r.length ((tabN p.n p.m).getD t []) with
            | false => rw [if_pos rfl, Bool.false_and, if_neg (by decide), i3_succ]
            | true =>
              rw [if_neg (by decide), S_stands h hT k1 (by omega) (by omega) (by omega), Option.bind_some, ← k2]
              simp only [bI_eq0, Bool.true_and]
              cases stB p (rowsS (tabN p.n p.m) r) ((tabN p.n p.m).getD t []) with
              | false => rw [if_pos rfl, if_neg (by decide), i3_succ]
              | true => rw [if_neg (by decide), if_pos rfl]
          cases q : okB p u (rowsS (tabN p.n p.m) r) t with
          | true => exact ⟨t, Nat.le_refl _, ht, rfl, fun _ => q, fun Kk => by rw [body, if_pos q]⟩
          | false =>
            obtain ⟨t', m1, m2, m3, m4, m5⟩ := ih (t + 1) f2 (by omega) (by omega) (by omega)
            exact ⟨t', by omega, m2, (restB_no (by omega) q).trans m3, m4, fun Kk => by rw [body, if_neg (by rw [q]; decide), m5]⟩
      obtain ⟨t', m1, m2, m3, m4, m5⟩ := run _ t f rfl a2 (by omega)
      rw [m5]
      show ∃ st', S_X6_solutionsByRows_j86 _ f _ _ _ _ = _ ∧ _
      unfold S_X6_solutionsByRows_j86
      rw [ob_e (by omega) (by decide), onm_e]
      have hM1 : MV (mA st 9 r.length (i3 t')) p := h.to (mA_ne (by decide))
      have hT1 : TV (mA st 9 r.length (i3 t')) p.n p.m := hT.to (mA_ne (by decide)) (mA_ne (by decide)) rfl rfl rfl
      have hU1 : LVw (mA st 9 r.length (i3 t')) 50 p.m u := hu.to (mA_ne (by decide))
      have hfr : frm [9] [] st (mA st 9 r.length (i3 t')) := frm.rf.a (by simp)
      have hr1 : LSB (mA st 9 r.length (i3 t')) (tabN p.n p.m).length r := a3.keep fun q hq => by rw [mA_eq, upd_ne (by omega)]
      have e9 : (mA st 9 r.length (i3 t')).1 9 = i3 (tabN p.n p.m).length := hT.2.2.2.1
      rw [e9, hM1.2.1]
      have hmu2 : ((tabN p.n p.m).length + 2 - t) * 130 ^ (5 - r.length) + muB (tabN p.n p.m).length r < μ + 1 := hmu
      have ep : i3 p.n - 1 = i3 (p.n - 1) := i3_sub (b := 1) (by omega)
      rw [ep]
      simp only [i3_eq (a := t') (b := (tabN p.n p.m).length) (by omega) (by omega), i3_eq (a := r.length) (b := p.n - 1) (by omega) (by omega)]
      by_cases hq2 : t' = (tabN p.n p.m).length
      · rw [if_pos hq2, encT_pred]
        have hp2 : 0 < ((tabN p.n p.m).length + 2 - t) * 130 ^ (5 - r.length) := Nat.mul_pos (by omega) (Nat.pow_pos (by decide))
        obtain ⟨st', d1, d2⟩ := ih r C _ f hM1 hT1 hU1 hr1 (fun x hx => hpos x (List.mem_of_mem_tail hx)) (by omega) hC (by omega) (by omega)
        refine ⟨st', ?_, hfr.trans d2⟩
        rw [d1]
        congr 5
        show remB p u r = restB p u _ t + remB p u r
        rw [m3, hq2, restB_end, Nat.zero_add]
      · rw [if_neg hq2]
        have hok2 := m4 (by omega)
        have hrem : remB p u (t :: r) = (bR p u (p.n - 1 - r.length) (rowsS (tabN p.n p.m) r ++ [(tabN p.n p.m).getD t' []])).length + remB p u ((t' + 1) :: r) := by
          show restB p u _ t + remB p u r = _ + (restB p u _ (t' + 1) + remB p u r)
          rw [m3, restB_yes (by omega) hok2, hpl, Nat.add_assoc]
        have hml := muB_less (N := (tabN p.n p.m).length) (len := r.length) m1 (by omega)
        have hLS : LSB (mA st 9 r.length (i3 t')) (tabN p.n p.m).length ((t' + 1) :: r) := ⟨by rw [mA_eq, upd_same]; rfl, by omega, hr1⟩
        by_cases hq3 : r.length = p.n - 1
        · rw [if_pos hq3, i3_succ]
          obtain ⟨st', d1, d2⟩ := ih ((t' + 1) :: r) (C + 1) _ f hM1 hT1 hU1 hLS hpos (by show r.length + 1 ≤ p.n; omega) (by omega) (by show ((tabN p.n p.m).length + 2 - (t' + 1)) * 130 ^ (5 - r.length) + muB (tabN p.n p.m).length r < μ; omega) (by omega)
          refine ⟨st', ?_, hfr.trans d2⟩
          have hd1 : S_X6_solutionsByRows_c32 f (i3 (C + 1)) (i3 r.length) (mA st 9 r.length (i3 t')) = _ := d1
          rw [hd1, hrem, show p.n - 1 - r.length = 0 by omega]
          congr 4
          show C + 1 + _ = C + (1 + _)
          omega
        · rw [if_neg hq3, i3_succ, ob_e (by omega) (by decide), onm_e]
          have e1 : (-1 : Int32) = encT 0 := rfl
          have hms := muB_step (N := (tabN p.n p.m).length) (len := r.length) hlen m1 (by omega) (by omega)
          obtain ⟨st', d1, d2⟩ := ih (0 :: (t' + 1) :: r) C (mA (mA st 9 r.length (i3 t')) 9 (r.length + 1) (-1)) f (hM1.to (mA_ne (by decide))) (hT1.to (mA_ne (by decide)) (mA_ne (by decide)) rfl rfl rfl) (hU1.to (mA_ne (by decide)))
            ⟨by rw [mA_eq]; exact upd_same, Nat.zero_le _, hLS.keep fun q hq => by rw [mA_eq, upd_ne]; exact Nat.ne_of_lt hq⟩
            (fun x hx => by
              rcases List.mem_cons.mp hx with rfl | hx
              · exact Nat.succ_pos _
              · exact hpos x hx) (by show r.length + 1 + 1 ≤ p.n; omega) hC (by show ((tabN p.n p.m).length + 2 - 0) * 130 ^ (5 - (r.length + 1)) + (((tabN p.n p.m).length + 2 - (t' + 1)) * 130 ^ (5 - r.length) + muB (tabN p.n p.m).length r) < μ; rw [Nat.sub_zero]; omega) (by omega)
          refine ⟨st', ?_, hfr.trans ((frm.rf.a (by simp)).trans d2)⟩
          have hd1 : S_X6_solutionsByRows_c32 f (i3 C) (i3 (r.length + 1)) (mA (mA st 9 r.length (i3 t')) 9 (r.length + 1) (-1)) = _ := d1
          rw [hd1, hrem]
          congr 5
          show restB p u (rowsS (tabN p.n p.m) ((t' + 1) :: r)) 0 + remB p u ((t' + 1) :: r) = _
          have hl2 : (rowsS (tabN p.n p.m) ((t' + 1) :: r)).length = r.length + 1 := rowsS_len
          rw [restB_all (by rw [hl2]; omega), hl2, show p.n - (r.length + 1) = p.n - 1 - r.length by omega]
          rfl
/-- fuel enough for counting by rows -/
def big130 (N fuel : Nat) : Prop := muB N [0] + 1 + 6000 ≤ fuel
theorem S_solutionsByRows {st : MSt} {p : Pz} {fuel : Nat} {w : Nat → Nat} (h : MV st p) (hT : TC st) (hw : CVw st p.m w) (hf : 10000 ≤ fuel) (hfu : big130 (tabN p.n p.m).length fuel) :
    ∃ st', S_X6_solutionsByRows fuel st = some (i3 (min 200 (sols p w).length), st') ∧ frm [3, 4, 5, 6, 9] [7, 8, 9] st st' ∧ TC st' := by
  have hok := h.1
  have hn := hok.n45
  have hm := hok.m24
  have hnn := nn_le hn
  have hLn := nL_le hok
  have hlen := tab_len hok
  have hpp : 0 < 2 ^ p.nL := Nat.two_pow_pos _
  obtain ⟨s1, a1, a2, a3, a4⟩ := S_loads (p := p) (b := 50) (fuel := fuel) hw (by decide) (by omega)
  have a1' : S_X6_loads fuel 50 st = some s1 := a1
  have hM1 : MV s1 p := h.to (a2.1 0 (by simp))
  have hT1 : TC s1 := hT.to (a2.1 3 (by simp)) (a2.1 4 (by simp)) (a2.2.1 7 (by simp)) (a2.2.1 8 (by simp)) (a2.2.1 9 (by simp))
  have hbl := bits_le hn hm.2.2 (fun c hc => (hw c hc).2)
  have hpl := pcL_le (2 ^ p.nL - 1)
  obtain ⟨rr, s3, u', c1, c2, ⟨c3, c3b⟩, c4, c5, c6, c7, c8⟩ := S_closes (b := 50) (by decide) (13 * bitsN p.n w + pcL (2 ^ p.nL - 1) + 1) w (2 ^ p.nL - 1) _ fuel hM1 hT1 a3 (by omega) (fun l hl hb => by
    rw [Nat.testBit_two_pow_sub_one, decide_eq_true hl] at hb; cases hb) (by omega) (by omega)
  have c1' : S_X6_closes fuel 50 (i3 (2 ^ p.nL - 1)) s1 = some (bI rr, s3) := c1
  have hM3 : MV s3 p := hM1.to (c2.1 0 (by simp))
  have fr3 : frm [3, 4, 5, 6] [7, 8, 9] st s3 := (a2.mono (by simp) (by simp)).trans c2
  unfold S_X6_solutionsByRows
  rw [a1', Option.bind_some, S_allLines hM1, Option.bind_some, c1', Option.bind_some]
  simp only [bI_eq0]
  cases rr with
  | false =>
    rw [if_pos rfl]
    refine ⟨s3, ?_, fr3.mono (by simp) (by simp), c3⟩
    rw [sols_dead (c8 rfl)]; rfl
  | true =>
    rw [if_neg (by decide), onm_e]
    obtain ⟨c7a, c7b⟩ := c7 rfl
    have hS : sols p w = sols p u' := (sols_close c6 c7b).symm
    have hp2 : 2 ≤ 2 ^ p.nL := Nat.pow_le_pow_right (n := 2) (i := 1) (by decide) (by omega)
    have hV : TV s3 p.n p.m := c3b (Or.inr (by omega))
    have hte := h.te_le
    obtain ⟨st', d1, d2⟩ := S_rowsL (p := p) (u := u') (muB (tabN p.n p.m).length [0] + 1) [0] 0 (mA s3 9 0 (-1)) fuel (hM3.to (mA_ne (by decide))) (hV.to (mA_ne (by decide)) (mA_ne (by decide)) rfl rfl rfl) (c5.to (mA_ne (by decide)))
      ⟨by rw [mA_eq]; exact upd_same, Nat.zero_le _, trivial⟩ (fun x hx => by cases hx) (by show 1 ≤ p.n; omega) (by decide) (Nat.lt_succ_self _) hfu
    have d1' : S_X6_solutionsByRows_c32 fuel 0 0 (mA s3 9 0 (-1)) = _ := d1
    have fr4 : frm [9] [] s3 st' := (frm.rf.a (by simp)).trans d2
    refine ⟨st', ?_, (fr3.mono (by simp) (by simp)).trans (fr4.mono (by simp) (by simp)), c3.to (fr4.1 3 (by simp)) (fr4.1 4 (by simp)) (fr4.2.1 7 (by simp)) (fr4.2.1 8 (by simp)) (fr4.2.1 9 (by simp))⟩
    rw [d1', hS, ← bR_sols hok hte]
    congr 4
    show 0 + (restB p u' [] 0 + 0) = _
    rw [restB_all (by show 0 < p.n; omega)]
    show 0 + ((bR p u' (p.n - 0) []).length + 0) = _
    rw [Nat.sub_zero]; omega
