/-! the model's methods that only read
-/
set_option maxRecDepth 100000
section MRD
variable {st : MSt} {S : ST}
theorem M_side (h : MS st S) : mO (fun _ => S_X6_side) [] (vi S.1.1.n, S) st :=
  mO_ok 0 (y := st.2.1 0 0) (st' := mI st 2 0) rfl (h.i (by decide)) rfl (by rw [h.mv.2.1])
theorem M_letterCount (h : MS st S) : mO (fun _ => S_X6_letterCount) [] (vi S.1.1.m, S) st :=
  mO_ok 0 (y := st.2.1 0 1) (st' := mI st 2 0) rfl (h.i (by decide)) rfl (by rw [h.mv.2.2.1])
theorem M_lineCount (h : MS st S) : mO (fun _ => S_X6_lineCount) [] (vi S.1.1.nL, S) st :=
  mO_ok 0 (y := i3 S.1.1.nL) (st' := mI st 2 0) (by show S_X6_lineCount st = _; unfold S_X6_lineCount; rw [S_lines h.mv]; rfl) (h.i (by decide)) rfl rfl
theorem M_tellingCount (h : MS st S) : mO S_X6_tellingCount [] (vi (toldN S.1.1), S) st :=
  mO_ok 30 (y := i3 (toldN S.1.1)) (st' := mI st 2 0) (by unfold S_X6_tellingCount; rw [S_tellings h.mv (Nat.le_refl _)]; rfl) (h.i (by decide)) rfl rfl
theorem M_undoCount (h : MS st S) : mO (fun _ => S_X6_undoCount) [] (vi S.2.1.length, S) st :=
  mO_ok 0 (y := st.1 0) (st' := mI st 2 0) rfl (h.i (by decide)) rfl (by rw [h.2.2.1.1])
theorem M_textLength (h : MS st S) : mO (fun _ => S_X6_textLength) [] (vi S.2.2.2.length, S) st :=
  mO_ok 0 (y := st.1 1) (st' := mI st 2 0) rfl (h.i (by decide)) rfl (by rw [h.2.2.2.2.1])
theorem M_tellingAt (h : MS st S) {e : Int32} : mO (fun _ => S_X6_tellingAt e) [exI] (tellingAtF S e, S) st := by
  have hv := h.mv
  have hn := hv.1.n45
  have hm := hv.1.m24
  cases q : isI e (4 * S.1.1.n) with
  | false =>
    rw [show tellingAtF S e = .inr exI by unfold tellingAtF; rw [q]; rfl]
    refine mO_ex 0 0 (y := 0) (st' := mI st 2 1) ?_ (h.i (by decide)) (by decide) rfl rfl
    show S_X6_tellingAt e st = _
    unfold S_X6_tellingAt
    rw [S_isEdge hv, Option.bind_some, q, S_goes1, go_f]; rfl
  | true =>
    obtain ⟨k, hk, rfl⟩ := isI_get (by omega) q
    have ht := hv.2.2.2.2 k (by omega)
    refine mO_ok 0 (y := letV (S.1.1.tl k)) (st' := mI st 2 0) ?_ (h.i (by decide)) rfl ?_
    · show S_X6_tellingAt (i3 k) st = _
      unfold S_X6_tellingAt
      rw [S_isEdge hv, Option.bind_some, q, S_goes1, go_t]
      show ob ((3 : Int32) + i3 k) 432 (fun j4 => (S_X6_letterOf (st.2.1 0 j4) (mI st 2 0)).bind fun q6 => some (q6, mI st 2 0)) = _
      rw [ob3 (by omega), ht.1, S_letterOf (by omega), Option.bind_some]
    · unfold tellingAtF; rw [q, if_pos rfl, i3_nat (by omega)]
theorem M_isSecond (h : MS st S) {e : Int32} : mO (fun _ => S_X6_isSecond e) [exI] (isSecondF S e, S) st := by
  have hv := h.mv
  have hn := hv.1.n45
  have hm := hv.1.m24
  cases q : isI e (4 * S.1.1.n) with
  | false =>
    rw [show isSecondF S e = .inr exI by unfold isSecondF; rw [q]; rfl]
    refine mO_ex 0 0 (y := 0) (st' := mI st 2 1) ?_ (h.i (by decide)) (by decide) rfl rfl
    show S_X6_isSecond e st = _
    unfold S_X6_isSecond
    rw [S_isEdge hv, Option.bind_some, q, S_goes1, go_f]; rfl
  | true =>
    obtain ⟨k, hk, rfl⟩ := isI_get (by omega) q
    obtain ⟨ht1, ht2⟩ := hv.2.2.2.2 k (by omega)
    refine mO_ok 0 (y := bI (S.1.1.tl k != 0 && S.1.1.tl k % 2 == 0)) (st' := mI st 2 0) ?_ (h.i (by decide)) rfl ?_
    · show S_X6_isSecond (i3 k) st = _
      unfold S_X6_isSecond
      rw [S_isEdge hv, Option.bind_some, q, S_goes1, go_t]
      show ob ((3 : Int32) + i3 k) 432 (fun j4 => if (st.2.1 0 j4) ≤ 0 then some ((0 : Int32), mI st 2 0) else ob ((3 : Int32) + i3 k) 432 fun j7 => if ((st.2.1 0 j7) - (st.2.1 0 j7) / 2 * 2) = 0 then some (1, mI st 2 0) else some (0, mI st 2 0)) = _
      have er : i3 (S.1.1.tl k) - i3 (S.1.1.tl k) / 2 * 2 = i3 (S.1.1.tl k % 2) := i3_rem (b := 2) (by omega) (by decide)
      have e0 : (i3 (S.1.1.tl k % 2) = 0) = (S.1.1.tl k % 2 = 0) := i3_eq (b := 0) (by omega) (by decide)
      rw [ob3 (by omega), ob3 (by omega), ht1, er]
      simp only [i3_neg_le (show S.1.1.tl k < 2147483648 by omega), e0]
      by_cases z : S.1.1.tl k = 0
      · rw [if_pos z, z]; rfl
      · rw [if_neg z]
        have e1 : (S.1.1.tl k != 0) = true := by simpa using z
        rw [e1, Bool.true_and]
        by_cases z2 : S.1.1.tl k % 2 = 0
        · rw [if_pos z2, z2]; rfl
        · rw [if_neg z2, show (S.1.1.tl k % 2 == 0) = false by simpa using z2]; rfl
    · unfold isSecondF; rw [q, if_pos rfl, i3_nat (by omega)]
theorem M_cellOf (h : MS st S) {e k : Int32} : mO (fun _ => S_X6_cellOf e k) [exI] (cellOfF S e k, S) st := by
  have hv := h.mv
  have hn := hv.1.n45
  have hL := nL_le hv.1
  cases q : isI e S.1.1.nL && isI k S.1.1.n with
  | false =>
    rw [show cellOfF S e k = .inr exI by unfold cellOfF; rw [q]; rfl]
    refine mO_ex 0 0 (y := 0) (st' := mI st 2 1) ?_ (h.i (by decide)) (by decide) rfl rfl
    show S_X6_cellOf e k st = _
    unfold S_X6_cellOf
    rw [S_isPlace hv, Option.bind_some, q, S_goes1, go_f]; rfl
  | true =>
    have q0 := q
    rw [Bool.and_eq_true] at q
    obtain ⟨l, hl, rfl⟩ := isI_get (by omega) q.1
    obtain ⟨k, hk, rfl⟩ := isI_get (by omega) q.2
    refine mO_ok 0 (y := i3 (cellN S.1.1.n l k)) (st' := mI st 2 0) ?_ (h.i (by decide)) rfl ?_
    · show S_X6_cellOf (i3 l) (i3 k) st = _
      unfold S_X6_cellOf
      rw [S_isPlace hv, Option.bind_some, q0, S_goes1, go_t]
      show (S_X6_cellAt (i3 l) (i3 k) (mI st 2 0)).bind (fun q4 => some (q4, mI st 2 0)) = _
      rw [S_cellAt (st := mI st 2 0) (hv.to rfl) (by omega) hk, Option.bind_some]
    · unfold cellOfF; rw [q0, if_pos rfl, i3_nat (by omega), i3_nat (by omega)]
theorem M_thingsOf (h : MS st S) {e : Int32} : mO (fun _ => S_X6_thingsOf e) [exI] (thingsOfF S e, S) st := by
  have hv := h.mv
  have hn := hv.1.n45
  have hnn := nn_le hn
  cases q : isI e (S.1.1.n * S.1.1.n) with
  | false =>
    rw [show thingsOfF S e = .inr exI by unfold thingsOfF; rw [q]; rfl]
    refine mO_ex 0 0 (y := 0) (st' := mI st 2 1) ?_ (h.i (by decide)) (by decide) rfl rfl
    show S_X6_thingsOf e st = _
    unfold S_X6_thingsOf
    rw [S_isCell hv, Option.bind_some, q, S_goes1, go_f]; rfl
  | true =>
    obtain ⟨k, hk, rfl⟩ := isI_get (by omega) q
    refine mO_ok 0 (y := i3 (S.1.2 k)) (st' := mI st 2 0) ?_ (h.i (by decide)) rfl ?_
    · show S_X6_thingsOf (i3 k) st = _
      unfold S_X6_thingsOf
      rw [S_isCell hv, Option.bind_some, q, S_goes1, go_t]
      show ob ((23 : Int32) + i3 k) 432 (fun j4 => some (st.2.1 0 j4, mI st 2 0)) = _
      rw [ob23 (by omega), (h.cv k (by omega)).1]
    · unfold thingsOfF; rw [q, if_pos rfl, i3_nat (by omega)]
theorem TC.fl {a b : MSt} {A I : List Nat} (h : TC a) (hf : frml A I a b) (hA : 3 ∉ A ∧ 4 ∉ A) (hI : 7 ∉ I ∧ 8 ∉ I ∧ 9 ∉ I) : TC b := h.to (hf.1 3 hA.1) (hf.1 4 hA.2) (hf.2 7 hI.1) (hf.2 8 hI.2.1) (hf.2 9 hI.2.2)
theorem MS.loads {n : Nat} (h : MS st S) (hf : 26 ≤ n) : ∃ s1, S_X6_loads n 0 st = some s1 ∧ frm [5] [] st s1 ∧ MS s1 S ∧ LVw s1 0 S.1.1.m S.1.2 := by
  obtain ⟨s1, a1, a2, a3, -⟩ := S_loads (p := S.1.1) (b := 0) (fuel := n) h.cv (by decide) hf
  exact ⟨s1, a1, a2, h.fl a2.l (by simp) (by simp) (h.1.fl a2.l (by simp) (by simp)), a3⟩
theorem S_brokenNow {n : Nat} (h : MS st S) (hf : 3300 ≤ n) : ∃ st', S_X6_brokenNow n st = some (i3 (brkSet S.1.1 S.1.2), st') ∧ frm [3, 4, 5, 6, 7] [7, 8, 9] st st' ∧ MS st' S := by
  obtain ⟨s1, a1, a2, a3, a4⟩ := h.loads (n := n) (by omega)
  obtain ⟨s2, b1, b2, b3, -⟩ := S_looksAtAll (b := 0) (fuel := n) a3.mv a3.1 a4 (by decide) hf
  have b1' : S_X6_looksAtAll n 0 s1 = some (i3 (brkSet S.1.1 S.1.2), s2) := b1
  refine ⟨s2, ?_, (a2.mono (by simp) (by simp)).trans (b2.mono (by simp) (by simp)), a3.fl b2.l (by simp) (by simp) b3⟩
  unfold S_X6_brokenNow
  rw [a1, Option.bind_some, b1', Option.bind_some]
theorem brkSet_lt {p : Pz} (hok : okNM p.n p.m) (u : Nat → Nat) : brkSet p u < 2147483648 := by
  have hL := nL_le hok
  refine Nat.lt_of_lt_of_le (show brkSet p u < 2 ^ p.nL from setB_lt (brk p u) p.nL) ?_
  exact Nat.le_trans (Nat.pow_le_pow_right (by decide) hL.1) (by decide)
theorem M_brokenLines (h : MS st S) : mO S_X6_brokenLines [] (vi (brkSet S.1.1 S.1.2), S) st := by
  obtain ⟨s1, a1, a2, a3⟩ := S_brokenNow (n := 3300) h (Nat.le_refl _)
  refine mO_ok 3300 (y := i3 (brkSet S.1.1 S.1.2)) (st' := mI s1 2 0) ?_ (a3.i (by decide)) rfl rfl
  unfold S_X6_brokenLines
  rw [a1]; rfl
theorem M_isBroken (h : MS st S) : mO S_X6_isBroken [] (.inl (some (.int (bI (brkB S.1.1 S.1.2)))), S) st := by
  have hok := h.mv.1
  obtain ⟨s1, a1, a2, a3⟩ := S_brokenNow (n := 3300) (h.i (k := 2) (v := 0) (by decide)) (Nat.le_refl _)
  refine mO_ok 3300 (y := bI (brkB S.1.1 S.1.2)) (st' := s1) ?_ a3 (a2.2.1 2 (by simp)) rfl
  unfold S_X6_isBroken
  rw [onm_e, a1, Option.bind_some]
  have e0 : (i3 (brkSet S.1.1 S.1.2) = 0) = (brkSet S.1.1 S.1.2 = 0) := i3_eq (b := 0) (brkSet_lt hok _) (by decide)
  simp only [e0, brkSet_B hok]
  cases brkB S.1.1 S.1.2 <;> rfl
theorem S_isSolution {st : MSt} {p : Pz} {b n : Nat} {u : Nat → Nat} (h : MV st p) (hT : TC st) (hu : LVw st b p.m u) (hb : b ≤ 725) (hf : 3400 ≤ n) : ∃ st', S_X6_isSolution n (i3 b) st = some (bI (doneB p u && !brkB p u), st') ∧ frm [3, 4, 6, 7] [7, 8, 9] st st' ∧ TC st' := by
  have hn := h.1.n45
  have hm := h.1.m24
  have h32 := pow_le hm.2.2
  have hnn := nn_le hn
  have key : S_X6_isSolution n (i3 b) st = if bI (doneB p u) = 0 then some (0, st) else (S_X6_looksAtAll n (i3 b) st).bind fun q11 => if q11.1 = 0 then some (1, q11.2) else some (0, q11.2) := by
    unfold S_X6_isSolution
    refine (fold_loop (F := fun f j (a : Bool) => S_X6_isSolution_c4 (fun y8_1 y8_2 u9 => if y8_2 = 0 then some (0, u9) else (S_X6_looksAtAll n y8_1 u9).bind fun q11 => if q11.1 = 0 then some (1, q11.2) else some (0, q11.2)) f (i3 b) (bI a) (i3 j) st) (g := fun c a => a && pc (u c) == 1) (K := fun a => if bI a = 0 then some (0, st) else (S_X6_looksAtAll n (i3 b) st).bind fun q11 => if q11.1 = 0 then some (1, q11.2) else some (0, q11.2)) (N := p.n * p.n) (B := 8) ?_ ?_ 0 (Nat.zero_le _) n true (by omega)).trans (by rw [foldFr0]; rfl)
    · intro f a _
      show S_X6_isSolution_c4 _ (f + 1) _ _ _ _ = _
      rw [S_X6_isSolution_c4, S_cells h, Option.bind_some]
      simp only [i3_le (a := p.n * p.n) (b := p.n * p.n) (by omega) (by omega), Nat.le_refl, if_true]
    · intro f j a hj hfb
      have hq : ¬ p.n * p.n ≤ j := by omega
      have hval := hu j (by omega)
      show S_X6_isSolution_c4 _ (f + 1) _ _ _ _ = S_X6_isSolution_c4 _ f _ (bI (a && pc (u j) == 1)) _ _
      rw [S_X6_isSolution_c4, S_cells h, Option.bind_some]
      simp only [i3_le (a := p.n * p.n) (b := j) (by omega) (by omega), hq, if_false]
      rw [i3_add, ob_e (by omega) (by decide), hval.1, S_isSettled (by omega) (by omega), Option.bind_some]
      simp only [bI_eq0, i3_succ]
      cases a with
      | false => rfl
      | true =>
        simp only [Bool.true_eq_false, if_false, Bool.true_and]
        cases pc (u j) == 1 <;> rfl
  rw [key]
  cases hd : doneB p u with
  | false => exact ⟨st, rfl, frm.rf, hT⟩
  | true =>
    obtain ⟨s2, b1, b2, b3, -⟩ := S_looksAtAll (fuel := n) h hT hu hb (by omega)
    refine ⟨s2, ?_, b2, b3⟩
    rw [if_neg (by decide), b1, Option.bind_some, Bool.true_and]
    have e0 : (i3 (brkSet p u) = 0) = (brkSet p u = 0) := i3_eq (b := 0) (brkSet_lt h.1 _) (by decide)
    simp only [e0, brkSet_B h.1]
    cases brkB p u <;> rfl
theorem M_isSolved (h : MS st S) : mO S_X6_isSolved [] (.inl (some (.int (bI (doneB S.1.1 S.1.2 && !brkB S.1.1 S.1.2)))), S) st := by
  obtain ⟨s1, a1, a2, a3, a4⟩ := (h.i (k := 2) (v := 0) (by decide)).loads (n := 3400) (by omega)
  obtain ⟨s2, b1, b2, b3⟩ := S_isSolution (b := 0) (n := 3400) a3.mv a3.1 a4 (by decide) (Nat.le_refl _)
  have b1' : S_X6_isSolution 3400 0 s1 = some (bI (doneB S.1.1 S.1.2 && !brkB S.1.1 S.1.2), s2) := b1
  refine mO_ok 3400 (y := bI (doneB S.1.1 S.1.2 && !brkB S.1.1 S.1.2)) (st' := s2) ?_ (a3.fl b2.l (by simp) (by simp) b3) ((b2.2.1 2 (by simp)).trans (a2.2.1 2 (by simp))) rfl
  unfold S_X6_isSolved
  rw [onm_e, a1, Option.bind_some, b1', Option.bind_some, onr_b]
theorem M_arrangements (h : MS st S) {e : Int32} : mO (fun n => S_X6_arrangements n e) [exI] (arrangementsF S e, S) st := by
  obtain ⟨s1, a1, a2, a3, a4⟩ := h.loads (n := 3200) (by omega)
  have hv := a3.mv
  have hL := nL_le hv.1
  cases q : isI e S.1.1.nL with
  | false =>
    rw [show arrangementsF S e = .inr exI by unfold arrangementsF; rw [q]; rfl]
    refine mO_ex 3200 0 (y := 0) (st' := mI s1 2 1) ?_ (a3.i (by decide)) (by decide) rfl rfl
    show S_X6_arrangements 3200 e st = _
    unfold S_X6_arrangements
    rw [a1, Option.bind_some, S_isLine hv, Option.bind_some, q, S_goes1, go_f]; rfl
  | true =>
    obtain ⟨k, hk, rfl⟩ := isI_get (by omega) q
    have a5 := a3.i (k := 2) (v := 0) (by decide)
    obtain ⟨s2, b1, b2, b3, -⟩ := S_looks (b := 0) (l := k) (fuel := 3200) a5.mv a5.1 (u := S.1.2) (a4.to rfl) (by decide) (by omega) (Nat.le_refl _)
    have b1' : S_X6_looks 3200 0 (i3 k) (mI s1 2 0) = some (i3 (fitL S.1.1 S.1.2 k).length, s2) := b1
    refine mO_ok 3200 (y := i3 (fitL S.1.1 S.1.2 k).length) (st' := s2) ?_ (a5.fl b2.l (by simp) (by simp) (Or.inr ⟨_, _, b3⟩)) (b2.2.1 2 (by simp)) ?_
    · show S_X6_arrangements 3200 (i3 k) st = _
      unfold S_X6_arrangements
      rw [a1, Option.bind_some, S_isLine hv, Option.bind_some, q, S_goes1, go_t]
      show (S_X6_looks 3200 0 (i3 k) (mI s1 2 0)).bind (fun q5 => some (q5.1, q5.2)) = _
      rw [b1', Option.bind_some]
    · unfold arrangementsF; rw [q, if_pos rfl, i3_nat (by omega)]
theorem M_arrangementsByCells (h : MS st S) {e : Int32} : mO (fun n => S_X6_arrangementsByCells n e) [exI] (arrangementsF S e, S) st := by
  have hv := h.mv
  have hL := nL_le hv.1
  cases q : isI e S.1.1.nL with
  | false =>
    rw [show arrangementsF S e = .inr exI by unfold arrangementsF; rw [q]; rfl]
    refine mO_ex 0 0 (y := 0) (st' := mI st 2 1) ?_ (h.i (by decide)) (by decide) rfl rfl
    show S_X6_arrangementsByCells 0 e st = _
    unfold S_X6_arrangementsByCells
    rw [S_isLine hv, Option.bind_some, q, S_goes1, go_f]; rfl
  | true =>
    obtain ⟨k, hk, rfl⟩ := isI_get (by omega) q
    have a5 := h.i (k := 2) (v := 0) (by decide)
    obtain ⟨s2, b1, b2⟩ := S_counts (l := k) (fuel := 200) a5.mv a5.cv (by omega) (Nat.le_refl _)
    refine mO_ok 200 (y := i3 (fitL S.1.1 S.1.2 k).length) (st' := s2) ?_ (a5.fl b2.l (by simp) (by simp) (a5.1.fl b2.l (by simp) (by simp))) (b2.2.1 2 (by simp)) ?_
    · show S_X6_arrangementsByCells 200 (i3 k) st = _
      unfold S_X6_arrangementsByCells
      rw [S_isLine hv, Option.bind_some, q, S_goes1, go_t]
      show (S_X6_counts 200 (i3 k) (mI st 2 0)).bind (fun q5 => some (q5.1, q5.2)) = _
      rw [b1, Option.bind_some]
    · unfold arrangementsF; rw [q, if_pos rfl, i3_nat (by omega)]
theorem M_thingsIn (h : MS st S) {e k : Int32} : mO (fun n => S_X6_thingsIn n e k) [exI] (thingsInF S e k, S) st := by
  have hv := h.mv
  have hn := hv.1.n45
  have hL := nL_le hv.1
  cases q : isI e S.1.1.nL && isI k S.1.1.n with
  | false =>
    rw [show thingsInF S e k = .inr exI by unfold thingsInF; rw [q]; rfl]
    refine mO_ex 0 0 (y := 0) (st' := mI st 2 1) ?_ (h.i (by decide)) (by decide) rfl rfl
    show S_X6_thingsIn 0 e k st = _
    unfold S_X6_thingsIn
    rw [S_isPlace hv, Option.bind_some, q, S_goes1, go_f]; rfl
  | true =>
    have q0 := q
    rw [Bool.and_eq_true] at q
    obtain ⟨l, hl, rfl⟩ := isI_get (by omega) q.1
    obtain ⟨k, hk, rfl⟩ := isI_get (by omega) q.2
    obtain ⟨s1, a1, a2, a3, a4⟩ := (h.i (k := 2) (v := 0) (by decide)).loads (n := 3200) (by omega)
    obtain ⟨s2, b1, b2, b3, b4⟩ := S_looks (b := 0) (l := l) (fuel := 3200) a3.mv a3.1 a4 (by decide) (by omega) (Nat.le_refl _)
    have b1' : S_X6_looks 3200 0 (i3 l) s1 = some (i3 (fitL S.1.1 S.1.2 l).length, s2) := b1
    refine mO_ok 3200 (y := i3 (poss S.1.1 S.1.2 l k)) (st' := s2) ?_ (a3.fl b2.l (by simp) (by simp) (Or.inr ⟨_, _, b3⟩)) ((b2.2.1 2 (by simp)).trans (a2.2.1 2 (by simp))) ?_
    · show S_X6_thingsIn 3200 (i3 l) (i3 k) st = _
      unfold S_X6_thingsIn
      rw [S_isPlace hv, Option.bind_some, q0, S_goes1, go_t]
      show (S_X6_loads 3200 0 (mI st 2 0)).bind (fun q4 => (S_X6_looks 3200 0 (i3 l) q4).bind fun q5 => ob (i3 k) 5 fun j6 => some (q5.2.2.1 6 j6, q5.2)) = _
      rw [a1, Option.bind_some, b1', Option.bind_some, ob_e (by omega) (by decide), b4 k hk]
    · unfold thingsInF; rw [q0, if_pos rfl, i3_nat (by omega), i3_nat (by omega)]
end MRD
