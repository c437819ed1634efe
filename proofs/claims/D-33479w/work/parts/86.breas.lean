/-! a board is read: reasons 1 to 5
-/
set_option maxRecDepth 100000
theorem bI_or (x y : Bool) : bI x ||| bI y = bI (x || y) := by cases x <;> cases y <;> rfl
theorem bI_or0 (x : Bool) : bI x ||| 0 = bI x := by cases x <;> rfl
theorem i3_or0 (x : Nat) : i3 x ||| 0 = i3 x := by
  have : i3 x ||| i3 0 = i3 (x ||| 0) := i3_or x 0
  rw [Nat.or_zero] at this
  exact this
section BRE
variable {l : Launch} {G : aG} {I : Nat → Prop} {h : aH} {b a th : Nat} {F : List Nat} {p : Pz} {u : Nat → Nat}
theorem B_placesWith (hl : l.stackTraces = false) (hB : BD I h b a th F p u) {i t : Nat} (hi : i < p.nL) (ht5 : t < 5) :
    aC l G mX5_placesWith (wsN mX5_placesWith) 1 0 0 [.ref b, .int (i3 i), .int (i3 t)] h (aP1 (some (.int (i3 (plcN p u i t)))) h) := by
  have hok := hB.ok
  obtain ⟨hP, rb, f, hb, ht, hf, -⟩ := hB
  obtain ⟨tl, ls, lo, ar, rw, T, L, R, sec, -, -, -, -, -, ho, -, -, -, hls, hrw, hlo, hlo2, hA⟩ := hP
  have hn := hok.n45
  have hm := hok.m24
  have hL := nL_le hok
  have hnn := nn_le hn
  have h32 := pow_le hm.2.2
  obtain ⟨r1, lf, r2, r3⟩ := hrw i (by omega)
  have r3 := r3 hi
  refine A_X5_placesWith hl ?_
  have key := vloop (N := p.n) (T := fun j => T_X5_placesWith_5 l G 1 0 0 (aP1 (some (.int (i3 (plcN p u i t)))) h) b (i3 i) (i3 t) (i3 (setB (fun k => (u (cellN p.n i k)).testBit t) j)) (i3 j) h 0 0) ?_ ?_ 0 (Nat.zero_le _)
  · exact key
  · exact A_X5_placesWith_5 hl (vR_mk hb rfl (vI_mk ho rfl ⟨fun _ => ⟨rfl, rfl⟩, fun q => absurd (by rw [i3_le (by omega) (by omega)]; exact Nat.le_refl _) q⟩))
  · intro j hj ih
    have hc := cellN_lt hn (by omega : i < 2 * p.n + 2) hj
    have hfc := hf _ hc
    refine A_X5_placesWith_5 hl (vR_mk hb rfl (vI_mk ho rfl ⟨fun q => absurd (by rwa [i3_le (by omega) (by omega)] at q) (by omega : ¬ p.n ≤ j), fun _ => vR_mk hb rfl (vR_mk hb rfl (vR_mk ho rfl (vAR_mk hls rfl (by omega : i < 12) (by decide) r1 (vA_mk r2 rfl (by omega : j < 5) (by decide) ?_))))⟩))
    rw [r3 j hj]
    refine vA_mk ht rfl (by omega) (by decide) ?_
    rw [hfc.1]
    refine vC_p (B_has hl (by omega) (by omega)) (by decide) (by decide) (by decide) ⟨_, rfl, fun v hv => ?_⟩
    have : v = i3 (setB (fun k => (u (cellN p.n i k)).testBit t) (j + 1)) := by
      rw [hv, setB_succ, ← i3_or, i3_one (by omega)]
      cases (u (cellN p.n i j)).testBit t <;> rfl
    rw [this, i3_succ]
    exact ih
theorem B_settledWith (hl : l.stackTraces = false) (hB : BD I h b a th F p u) {i t c : Nat} (hi : i < p.nL) (ht5 : t < 5) (hc25 : c < 25) :
    aC l G mX5_settledWith (wsN mX5_settledWith) 0 0 0 [.ref b, .int (i3 i), .int (i3 t), .int (i3 c)] h (aP1 (some (.int (i3 (stwN p u i t c)))) h) := by
  have hok := hB.ok
  obtain ⟨hP, rb, f, hb, ht, hf, -⟩ := hB
  obtain ⟨tl, ls, lo, ar, rw, T, L, R, sec, -, -, -, -, -, ho, -, -, -, hls, hrw, hlo, hlo2, hA⟩ := hP
  have hn := hok.n45
  have hm := hok.m24
  have hL := nL_le hok
  have hnn := nn_le hn
  have h32 := pow_le hm.2.2
  obtain ⟨r1, lf, r2, r3⟩ := hrw i (by omega)
  have r3 := r3 hi
  have h1t : 1 <<< t < 32 := by rw [Nat.one_shiftLeft]; exact Nat.pow_lt_pow_right (n := 5) (by decide) ht5
  refine A_X5_settledWith hl ?_
  have key := vloop (N := p.n) (T := fun j => T_X5_settledWith_6 l G 0 0 0 (aP1 (some (.int (i3 (stwN p u i t c)))) h) b (i3 i) (i3 t) (i3 c) (i3 (setB (othB p u i c t true) j)) (i3 j) h 0 0) ?_ ?_ 0 (Nat.zero_le _)
  · exact key
  · exact A_X5_settledWith_6 hl (vR_mk hb rfl (vI_mk ho rfl ⟨fun _ => ⟨rfl, rfl⟩, fun q => absurd (by rw [i3_le (by omega) (by omega)]; exact Nat.le_refl _) q⟩))
  · intro j hj ih
    have hc := cellN_lt hn (by omega : i < 2 * p.n + 2) hj
    have hfc := hf _ hc
    refine A_X5_settledWith_6 hl (vR_mk hb rfl (vI_mk ho rfl ⟨fun q => absurd (by rwa [i3_le (by omega) (by omega)] at q) (by omega : ¬ p.n ≤ j), fun _ => vR_mk hb rfl (vR_mk ho rfl (vAR_mk hls rfl (by omega : i < 12) (by decide) r1 (vA_mk r2 rfl (by omega : j < 5) (by decide) ?_)))⟩))
    rw [r3 j hj, i3_succ]
    simp only [i3_eq (a := cellN p.n i j) (b := c) (by omega) (by omega)]
    rw [setB_succ] at ih
    refine ⟨fun q => ?_, fun q => vR_mk hb rfl (vA_mk ht rfl (by omega) (by decide) fun v hv => ?_)⟩
    · have e : othB p u i c t true j = false := by
        unfold othB
        rw [q]; simp
      rw [e, if_neg (by decide), Nat.or_zero] at ih
      rw [i3_or0]; exact ih
    · rw [hfc.1, i3_one (by omega), i3_one (by omega)] at hv
      simp only [i3_eq (a := u (cellN p.n i j)) (b := 1 <<< t) (by omega) (by omega)] at hv
      have e : othB p u i c t true j = decide (u (cellN p.n i j) = 1 <<< t) := by
        unfold othB
        have : (cellN p.n i j != c) = true := by simpa using q
        rw [this, Bool.true_and, if_pos rfl, Bool.eq_iff_iff, beq_iff_eq, decide_eq_true_iff]
      rw [e] at ih
      by_cases q2 : u (cellN p.n i j) = 1 <<< t
      · rw [if_pos q2, i3_or] at hv
        rw [decide_eq_true q2, if_pos rfl] at ih
        rw [hv]; exact ih
      · rw [if_neg q2, i3_or0] at hv
        rw [decide_eq_false q2, if_neg (by decide), Nat.or_zero] at ih
        rw [hv]; exact ih
theorem B_placeIn (hl : l.stackTraces = false) (hB : BD I h b a th F p u) {i k : Nat} (hi : i < p.nL) (hk : k < p.n) :
    aC l G mX5_placeIn (wsN mX5_placeIn) 0 0 0 [.ref b, .int (i3 i), .int (i3 (cellN p.n i k))] h (aP1 (some (.int (i3 k))) h) := by
  have hok := hB.ok
  obtain ⟨hP, rb, f, hb, ht, hf, -⟩ := hB
  obtain ⟨tl, ls, lo, ar, rw, T, L, R, sec, -, -, -, -, -, ho, -, -, -, hls, hrw, hlo, hlo2, hA⟩ := hP
  have hn := hok.n45
  have hL := nL_le hok
  have hnn := nn_le hn
  have hck := cellN_lt hn (by omega : i < 2 * p.n + 2) hk
  obtain ⟨r1, lf, r2, r3⟩ := hrw i (by omega)
  have r3 := r3 hi
  refine A_X5_placeIn hl ?_
  have step : ∀ j, j ≤ k → (j < k → T_X5_placeIn_2 l G 0 0 0 (aP1 (some (.int (i3 k))) h) b (i3 i) (i3 (cellN p.n i k)) (i3 (j + 1)) h 0 0) → T_X5_placeIn_2 l G 0 0 0 (aP1 (some (.int (i3 k))) h) b (i3 i) (i3 (cellN p.n i k)) (i3 j) h 0 0 := by
    intro j hj ih
    have hc := cellN_lt hn (by omega : i < 2 * p.n + 2) (by omega : j < p.n)
    refine A_X5_placeIn_2 hl (vR_mk hb rfl (vR_mk ho rfl (vAR_mk hls rfl (by omega : i < 12) (by decide) r1 (vA_mk r2 rfl (by omega : j < 5) (by decide) ?_))))
    rw [r3 j (by omega), i3_succ]
    simp only [i3_eq (a := cellN p.n i j) (b := cellN p.n i k) (by omega) (by omega)]
    refine ⟨fun q => ?_, fun q => ?_⟩
    · have := cell_inj hn (by omega) (by omega) hk q
      rw [this]; exact ⟨rfl, rfl⟩
    · refine ih ?_
      rcases Nat.lt_or_ge j k with z | z
      · exact z
      · have : j = k := by omega
        subst this; exact absurd rfl q
  exact vloop (N := k) (T := fun j => T_X5_placeIn_2 l G 0 0 0 (aP1 (some (.int (i3 k))) h) b (i3 i) (i3 (cellN p.n i k)) (i3 j) h 0 0) (step k (Nat.le_refl _) fun q => absurd q (Nat.lt_irrefl _)) (fun j hj ih => step j (by omega) fun _ => ih) 0 (Nat.zero_le _)
theorem B_hasOther (hl : l.stackTraces = false) (hB : BD I h b a th F p u) {i k t : Nat} (hi : i < p.nL) (hk : k < p.n) (ht5 : t < 5) :
    aC l G mX5_hasOther (wsN mX5_hasOther) 2 0 0 [.ref b, .int (i3 i), .int (i3 (cellN p.n i k)), .int (i3 t)] h (aP1 (some (.int (bI (hasO p u i k t)))) h) := by
  have hok := hB.ok
  have hB0 := hB
  obtain ⟨hP, rb, f, hb, ht, hf, -⟩ := hB
  obtain ⟨tl, ls, lo, ar, rw, T, L, R, sec, -, -, -, -, -, ho, -⟩ := hP
  have hn := hok.n45
  have hm := hok.m24
  have h1t : 1 <<< k < 32 := by rw [Nat.one_shiftLeft]; exact Nat.pow_lt_pow_right (n := 5) (by decide) (by omega)
  refine A_X5_hasOther hl ⟨⟨_, hb⟩, ?_⟩
  refine vC_p (B_placeIn hl hB0 hi hk) (by decide) (by decide) (by decide) ⟨_, rfl, ?_⟩
  show T_X5_hasOther_16 l G 2 0 0 _ b (i3 i) (i3 t) ((1 : Int32) <<< (i3 k &&& 31)) (bI false) (i3 0) h 0 0
  rw [i3_one (by omega)]
  have key := vloop (N := p.m) (T := fun j => T_X5_hasOther_16 l G 2 0 0 (aP1 (some (.int (bI (hasO p u i k t)))) h) b (i3 i) (i3 t) (i3 (1 <<< k)) (bI (anyB (fun a => a != t && plcN p u i a == 1 <<< k) j)) (i3 j) h 0 0) ?_ ?_ 0 (Nat.zero_le _)
  · exact key
  · exact A_X5_hasOther_16 hl (vR_mk hb rfl (vI_mk ho rfl ⟨fun _ => ⟨vB_bI, rfl, rfl⟩, fun q => absurd (by rw [i3_le (by omega) (by omega)]; exact Nat.le_refl _) q⟩))
  · intro j hj ih
    have hpl := plcN_lt hn (p := p) (u := u) (l := i) (t := j)
    refine A_X5_hasOther_16 hl (vR_mk hb rfl (vI_mk ho rfl ⟨fun q => absurd (by rwa [i3_le (by omega) (by omega)] at q) (by omega : ¬ p.m ≤ j), fun _ => ?_⟩))
    rw [i3_succ]
    simp only [i3_eq (a := j) (b := t) (by omega) (by omega)]
    rw [anyB_succ] at ih
    refine ⟨fun q => ?_, fun q => ⟨⟨_, hb⟩, ?_⟩⟩
    · have : (j != t) = false := by rw [q]; simp
      rw [this, Bool.false_and, Bool.or_false] at ih
      rw [bI_or0]; exact ih
    · refine vC_p (B_placesWith hl hB0 hi (by omega)) (by decide) (by decide) (by decide) ⟨_, rfl, fun v hv => ?_⟩
      have q' : (j != t) = true := by simpa using q
      simp only [i3_eq (a := plcN p u i j) (b := 1 <<< k) (by omega) (by omega)] at hv
      have : v = bI (anyB (fun a => a != t && plcN p u i a == 1 <<< k) j || (j != t && plcN p u i j == 1 <<< k)) := by
        rw [hv, ← bI_or, q', Bool.true_and, bI_if]
        congr 2
      rw [this]; exact ih
theorem B_isByGaps (hl : l.stackTraces = false) (hB : BD I h b a th F p u) {i k t : Nat} (hi : i < p.nL) (hk : k < p.n) (ht5 : t ≤ p.m) :
    aC l G mX5_isByGaps (wsN mX5_isByGaps) 2 0 0 [.ref b, .int (i3 i), .int (i3 (cellN p.n i k)), .int (i3 t)] h (aP1 (some (.int (bI (byG p u i k (cellN p.n i k) t)))) h) := by
  have hok := hB.ok
  have hB0 := hB
  obtain ⟨hP, rb, f, hb, ht, hf, -⟩ := hB
  have hP0 := hP
  obtain ⟨tl, ls, lo, ar, rw, T, L, R, sec, -, -, -, -, -, ho, -⟩ := hP
  have hn := hok.n45
  have hm := hok.m24
  have hL := nL_le hok
  have hnn := nn_le hn
  have hck := cellN_lt hn (by omega : i < 2 * p.n + 2) hk
  have hpl := plcN_lt hn (p := p) (u := u) (l := i) (t := p.m)
  have hsw : stwN p u i t (cellN p.n i k) < 32 := by
    have := setB_lt (othB p u i (cellN p.n i k) t true) p.n
    have h2 : 2 ^ p.n ≤ 32 := Nat.pow_le_pow_right (n := 2) (by decide) (by omega : p.n ≤ 5)
    exact Nat.lt_of_lt_of_le this h2
  have hpc : ∀ x, pc x < 1000 := fun x => by unfold pc; omega
  refine A_X5_isByGaps hl (vR_mk hb rfl (vI_mk ho rfl ?_))
  simp only [i3_eq (a := t) (b := p.m) (by omega) (by omega)]
  unfold byG
  refine ⟨fun q => vR_mk hb rfl (vI_mk ho rfl ⟨⟨_, hb⟩, ?_⟩), fun q => ⟨⟨_, hb⟩, ?_⟩⟩
  · rw [if_neg q]
    refine vC_p (B_placesWith hl hB0 hi (by omega)) (by decide) (by decide) (by decide) ⟨_, rfl, ⟨_, hb⟩, ?_⟩
    refine vC_p (B_placeIn hl hB0 hi hk) (by decide) (by decide) (by decide) ⟨_, rfl, ?_⟩
    refine vC_p (B_has hl (by omega) (by omega)) (by decide) (by decide) (by decide) ⟨_, rfl, ?_⟩
    simp only [bI_eq0]
    refine ⟨fun q2 => by rw [q2]; exact ⟨rfl, rfl⟩, fun q2 => ?_⟩
    refine vC_p (B_bitCount hl hpl) (by decide) (by decide) (by decide) ⟨_, rfl, vR_mk hb rfl ⟨⟨_, ho⟩, ?_⟩⟩
    refine vC_p (B_gaps hl hP0) (by decide) (by decide) (by decide) ⟨_, rfl, vB_if, ?_⟩
    have q2' : (plcN p u i p.m).testBit k = true := by simpa using q2
    have := hpc (plcN p u i p.m)
    simp only [i3_eq (a := pc (plcN p u i p.m)) (b := p.n - p.m) (by omega) (by omega)]
    rw [q2', Bool.true_and, bI_if]
    exact ⟨by congr 3, rfl⟩
  · rw [if_pos q]
    refine vC_p (B_settledWith hl hB0 hi (by omega) (by omega)) (by decide) (by decide) (by decide) ⟨_, rfl, ?_⟩
    refine vC_p (B_bitCount hl hsw) (by decide) (by decide) (by decide) ⟨_, rfl, vR_mk hb rfl ⟨⟨_, ho⟩, ?_⟩⟩
    refine vC_p (B_gaps hl hP0) (by decide) (by decide) (by decide) ⟨_, rfl, vB_if, ?_⟩
    have := hpc (stwN p u i t (cellN p.n i k))
    simp only [i3_eq (a := pc (stwN p u i t (cellN p.n i k))) (b := p.n - p.m) (by omega) (by omega)]
    rw [bI_if]
    exact ⟨by congr 3, rfl⟩
theorem B_isInPair (hl : l.stackTraces = false) (hB : BD I h b a th F p u) {i k t : Nat} (hi : i < p.nL) (hk : k < p.n) (ht5 : t < 5) :
    aC l G mX5_isInPair (wsN mX5_isInPair) 2 0 0 [.ref b, .int (i3 i), .int (i3 (cellN p.n i k)), .int (i3 t)] h (aP1 (some (.int (bI (anyB (r4B p u i (cellN p.n i k) t) p.m)))) h) := by
  have hok := hB.ok
  have hB0 := hB
  obtain ⟨hP, rb, f, hb, ht, hf, -⟩ := hB
  obtain ⟨tl, ls, lo, ar, rw, T, L, R, sec, -, -, -, -, -, ho, -⟩ := hP
  have hn := hok.n45
  have hm := hok.m24
  have hpc : ∀ x, pc x < 1000 := fun x => by unfold pc; omega
  obtain ⟨res, hres⟩ : ∃ res, res = anyB (r4B p u i (cellN p.n i k) t) p.m := ⟨_, rfl⟩
  rw [← hres]
  refine A_X5_isInPair hl ⟨⟨_, hb⟩, ?_⟩
  refine vC_p (B_placeIn hl hB0 hi hk) (by decide) (by decide) (by decide) ⟨_, rfl, ?_⟩
  have key := vloop (N := p.m) (T := fun j => T_X5_isInPair_14 l G 2 0 0 (aP1 (some (.int (bI res))) h) b (i3 i) (i3 t) (i3 k) (bI (anyB (r4B p u i (cellN p.n i k) t) j)) (i3 j) h 0 0) ?_ ?_ 0 (Nat.zero_le _)
  · exact key
  · exact A_X5_isInPair_14 hl (vR_mk hb rfl (vI_mk ho rfl ⟨fun _ => by rw [hres]; exact ⟨vB_bI, rfl, rfl⟩, fun q => absurd (by rw [i3_le (by omega) (by omega)]; exact Nat.le_refl _) q⟩))
  · intro one hone ih
    have hpl := plcN_lt hn (p := p) (u := u) (l := i) (t := one)
    have hpp := hpc (plcN p u i one)
    refine A_X5_isInPair_14 hl (vR_mk hb rfl (vI_mk ho rfl ⟨fun q => absurd (by rwa [i3_le (by omega) (by omega)] at q) (by omega : ¬ p.m ≤ one), fun _ => ⟨⟨_, hb⟩, ?_⟩⟩))
    refine vC_p (B_placesWith hl hB0 hi (by omega)) (by decide) (by decide) (by decide) ⟨_, rfl, ?_⟩
    rw [anyB_succ] at ih
    have inner : ∀ j, j ≤ p.m → one + 1 ≤ j → ∀ acc : Bool, (acc || (List.range' j (p.m - j)).any (pairB p u i (cellN p.n i k) t one)) = (anyB (r4B p u i (cellN p.n i k) t) one || r4B p u i (cellN p.n i k) t one) → T_X5_isInPair_41 l G 2 0 0 (aP1 (some (.int (bI res))) h) b (i3 i) (i3 t) (i3 k) (bI acc) (i3 one) (i3 (plcN p u i one)) (i3 j) h 0 0 := by
      apply vloop
      · intro _ acc hacc
        refine A_X5_isInPair_41 hl (vR_mk hb rfl (vI_mk ho rfl ⟨fun _ => ?_, fun q => absurd (by rw [i3_le (by omega) (by omega)]; exact Nat.le_refl _) q⟩))
        rw [Nat.sub_self, List.range'_zero, List.any_nil, Bool.or_false] at hacc
        rw [i3_succ, hacc]
        exact ih
      · intro j hj ih2 hoj acc hacc
        obtain ⟨r, hr⟩ : ∃ r, p.m - j = r + 1 := ⟨p.m - j - 1, by omega⟩
        have hplj := plcN_lt hn (p := p) (u := u) (l := i) (t := j)
        rw [hr, List.range'_succ, List.any_cons, show r = p.m - (j + 1) by omega] at hacc
        refine A_X5_isInPair_41 hl (vR_mk hb rfl (vI_mk ho rfl ⟨fun q => absurd (by rwa [i3_le (by omega) (by omega)] at q) (by omega : ¬ p.m ≤ j), fun _ => ?_⟩))
        refine vC_p (B_has hl (by omega) (by omega)) (by decide) (by decide) (by decide) ⟨_, rfl, ?_⟩
        simp only [bI_eq0, i3_succ]
        have hpin : pinN p i (cellN p.n i k) = k := pinN_cell hok hi hk
        refine ⟨fun q => ?_, fun q => ⟨⟨_, hb⟩, ?_⟩⟩
        · have hf0 : ∀ x, pairB p u i (cellN p.n i k) t one x = false := by
            intro x; unfold pairB; rw [hpin, q, Bool.and_false]
          have hz : (List.range' (j + 1) (p.m - (j + 1))).any (pairB p u i (cellN p.n i k) t one) = false := by
            rw [← Bool.not_eq_true, List.any_eq_true]
            rintro ⟨x, -, hx⟩
            rw [hf0] at hx; cases hx
          rw [hf0, hz, Bool.or_false, Bool.or_false] at hacc
          rw [hacc]; exact ih
        · have q' : (plcN p u i one).testBit k = true := by simpa using q
          refine vC_p (B_placesWith hl hB0 hi (by omega)) (by decide) (by decide) (by decide) ⟨_, rfl, ?_⟩
          simp only [i3_eq (a := plcN p u i one) (b := plcN p u i j) (by omega) (by omega)]
          refine ⟨fun q2 => ?_, fun q2 => ?_⟩
          · have hf0 : pairB p u i (cellN p.n i k) t one j = false := by
              unfold pairB
              have : (plcN p u i one == plcN p u i j) = false := by simpa using q2
              rw [this]; simp
            rw [hf0, Bool.false_or] at hacc
            rw [bI_or0]; exact ih2 (by omega) acc hacc
          · refine vC_p (B_bitCount hl hpl) (by decide) (by decide) (by decide) ⟨_, rfl, fun v hv => ?_⟩
            have e2 : (i3 (pc (plcN p u i one)) = 2) = (pc (plcN p u i one) = 2) := i3_eq (b := 2) (by omega) (by decide)
            simp only [e2, i3_eq (a := t) (b := one) (by omega) (by omega), i3_eq (a := t) (b := j) (by omega) (by omega)] at hv
            have : v = bI (acc || pairB p u i (cellN p.n i k) t one j) := by
              rw [hv, ← bI_or]
              congr 1
              unfold pairB
              have e3 : (plcN p u i one == plcN p u i j) = true := by simpa using q2
              rw [hpin, q', e3, Bool.and_true, Bool.and_true]
              by_cases z1 : pc (plcN p u i one) = 2
              · by_cases z2 : t = one
                · simp [z1, z2, bI]
                · by_cases z3 : t = j
                  · simp [z1, z2, z3, bI]
                  · simp [z1, z2, z3, bI]
              · simp [z1, bI]
            rw [this]
            exact ih2 (by omega) _ (by rw [Bool.or_assoc]; exact hacc)
    have o1 : i3 one + 1 = i3 (one + 1) := i3_succ _
    rw [o1]
    exact inner (one + 1) (by omega) (Nat.le_refl _) _ rfl
theorem B_holdsIn (hl : l.stackTraces = false) (hB : BD I h b a th F p u) {i k r t : Nat} (hi : i < p.nL) (hk : k < p.n) (ht5 : t ≤ p.m) (hr : 1 ≤ r ∧ r ≤ 5) :
    aC l G mX5_holdsIn (wsN mX5_holdsIn) 6 0 0 [.ref b, .int (i3 i), .int (i3 r), .int (i3 (cellN p.n i k)), .int (i3 t)] h (aP1 (some (.int (bI (rC p u r i k (cellN p.n i k) t)))) h) := by
  have hok := hB.ok
  have hB0 := hB
  obtain ⟨hP, rb, f, hb, ht, hf, -⟩ := hB
  obtain ⟨tl, ls, lo, ar, rw, T, L, R, sec, -, -, -, -, -, ho, -⟩ := hP
  have hn := hok.n45
  have hm := hok.m24
  have hL := nL_le hok
  have hnn := nn_le hn
  have h32 := pow_le hm.2.2
  have hck := cellN_lt hn (by omega : i < 2 * p.n + 2) hk
  have hsw : stwN p u i t (cellN p.n i k) < 32 := by
    have := setB_lt (othB p u i (cellN p.n i k) t true) p.n
    have h2 : 2 ^ p.n ≤ 32 := Nat.pow_le_pow_right (n := 2) (by decide) (by omega : p.n ≤ 5)
    exact Nat.lt_of_lt_of_le this h2
  refine A_X5_holdsIn hl ?_
  unfold V_X5_holdsIn_0
  have e1 : (i3 r = 1) = (r = 1) := i3_eq (b := 1) (by omega) (by decide)
  have e2 : (i3 r = 2) = (r = 2) := i3_eq (b := 2) (by omega) (by decide)
  have e3 : (i3 r = 3) = (r = 3) := i3_eq (b := 3) (by omega) (by decide)
  have e4 : (i3 r = 4) = (r = 4) := i3_eq (b := 4) (by omega) (by decide)
  simp only [e1, e2, e3, e4]
  refine ⟨fun q => ?_, fun q => ⟨⟨_, hb⟩, ?_⟩, fun q => ⟨⟨_, hb⟩, ?_⟩, fun q => ⟨⟨_, hb⟩, ?_⟩, fun q1 q2 q3 q4 => ⟨⟨_, hb⟩, ?_⟩⟩
  · subst q
    refine vR_mk hb rfl (vI_mk ho rfl ?_)
    simp only [i3_le (a := p.m) (b := t) (by omega) (by omega)]
    refine ⟨fun q => ⟨?_, rfl⟩, fun q => ⟨⟨_, hb⟩, ?_⟩⟩
    · unfold rC
      rw [if_pos rfl, decide_eq_false (by omega : ¬ t < p.m)]; rfl
    · refine vC_p (B_settledWith hl hB0 hi (by omega) (by omega)) (by decide) (by decide) (by decide) ⟨_, rfl, vB_if', ?_⟩
      have e0 : (i3 (stwN p u i t (cellN p.n i k)) = 0) = (stwN p u i t (cellN p.n i k) = 0) := i3_eq (b := 0) (by omega) (by decide)
      simp only [e0]
      unfold rC
      rw [if_pos rfl, decide_eq_true (by omega : t < p.m), Bool.true_and, bI_if']
      exact ⟨rfl, rfl⟩
  · subst q
    refine vC_p (B_hasOther hl hB0 hi hk (by omega)) (by decide) (by decide) (by decide) ⟨_, rfl, vB_bI, rfl, rfl⟩
  · subst q
    refine vC_p (B_isByGaps hl hB0 hi hk ht5) (by decide) (by decide) (by decide) ⟨_, rfl, vB_bI, rfl, rfl⟩
  · subst q
    refine vC_p (B_isInPair hl hB0 hi hk (by omega)) (by decide) (by decide) (by decide) ⟨_, rfl, vB_bI, rfl, rfl⟩
  · have hpl := poss_lt (p := p) (u := u) (l := i) (k := k) hok
    refine vC_p (B_placeIn hl hB0 hi hk) (by decide) (by decide) (by decide) ⟨_, rfl, ⟨_, hb⟩, ?_⟩
    refine vC_p (B_thingsIn hl hB0 hi hk) (by decide) (by decide) (by decide) ⟨_, rfl, ?_⟩
    refine vC_p (B_has hl (by omega) (by omega)) (by decide) (by decide) (by decide) ⟨_, rfl, vB_if, ?_⟩
    unfold rC
    rw [if_neg q1, if_neg q2, if_neg q3, if_neg q4]
    cases (poss p u i k).testBit t <;> exact ⟨rfl, rfl⟩
theorem B_crossedOut (hl : l.stackTraces = false) (hB : BD I h b a th F p u) : aC l G mX5_crossedOut (wsN mX5_crossedOut) 1 0 0 [.ref b] h (aP1 (some (.int (i3 ((List.range (p.n * p.n)).map fun c => p.m + 1 - pc (u c)).sum))) h) := by
  have hok := hB.ok
  have hB0 := hB
  obtain ⟨hP, rb, f, hb, ht, hf, -⟩ := hB
  have hP0 := hP
  obtain ⟨tl, ls, lo, ar, rw, T, L, R, sec, -, -, -, -, -, ho, -⟩ := hP
  have hn := hok.n45
  have hm := hok.m24
  have hnn := nn_le hn
  have h32 := pow_le hm.2.2
  refine A_X5_crossedOut hl ?_
  have hpcm : ∀ c, c < p.n * p.n → pc (u c) ≤ p.m + 1 := fun c hc => (by decide +kernel : ∀ (m : Fin 6) (a : Fin 32), a.1 < 2 ^ m.1 → pc a.1 ≤ m.1) ⟨p.m + 1, by omega⟩ ⟨u c, by have := (hf c hc).2; omega⟩ (hf c hc).2
  have key := vloop (N := p.n * p.n) (T := fun j => T_X5_crossedOut_4 l G 1 0 0 (aP1 (some (.int (i3 ((List.range (p.n * p.n)).map fun c => p.m + 1 - pc (u c)).sum))) h) b (i3 ((List.range j).map fun c => p.m + 1 - pc (u c)).sum) (i3 j) h 0 0) ?_ ?_ 0 (Nat.zero_le _)
  · exact key
  · refine A_X5_crossedOut_4 hl (vR_mk hb rfl ⟨⟨_, ho⟩, ?_⟩)
    exact vC_p (B_cellCount hl hP0) (by decide) (by decide) (by decide) ⟨_, rfl, fun _ => ⟨rfl, rfl⟩, fun q => absurd (by rw [i3_le (by omega) (by omega)]; exact Nat.le_refl _) q⟩
  · intro j hj ih
    have hfc := hf j hj
    refine A_X5_crossedOut_4 hl (vR_mk hb rfl ⟨⟨_, ho⟩, ?_⟩)
    refine vC_p (B_cellCount hl hP0) (by decide) (by decide) (by decide) ⟨_, rfl, fun q => absurd (by rwa [i3_le (by omega) (by omega)] at q) (by omega : ¬ p.n * p.n ≤ j), fun _ => vR_mk hb rfl (vI_mk ho rfl (vR_mk hb rfl (vA_mk ht rfl (by omega : j < 25) (by decide) ?_)))⟩
    rw [hfc.1]
    refine vC_p (B_bitCount hl (by omega)) (by decide) (by decide) (by decide) ⟨_, rfl, ?_⟩
    show T_X5_crossedOut_4 l G 1 0 0 _ b (i3 _ + ((i3 p.m + (1 : Int32)) - i3 (pc (u j)))) (i3 j + 1) h 0 0
    rw [i3_succ, i3_succ, i3_sub (hpcm j hj), i3_add]
    rw [List.range_succ, List.map_append, List.sum_append] at ih
    exact ih
end BRE
