/-! the component's methods: lines that are settled, what is seen; sets of cells
-/
set_option maxRecDepth 100000
def rowOf (n : Nat) (w : Nat → Nat) (i : Nat) : List Nat := (List.range n).map fun k => ntz (w (cellN n i k))
def setdB (n : Nat) (w : Nat → Nat) (i : Nat) : Bool := (List.range n).all fun k => pc (w (cellN n i k)) == 1
def tfT (p : Pz) (w : Nat → Nat) (e : Nat) : Nat := if setdB p.n w (lineE p.n e) && isRow p.m (rowOf p.n w (lineE p.n e)) then 1 + 2 * (lets p.m (seqB (backE p.n e) (rowOf p.n w (lineE p.n e)))).getD 0 0 else p.tl e
def Pz.firsts (p : Pz) (w : Nat → Nat) (j : Nat) : Pz := (p.1, p.2.1, p.2.2.1, fun e => if e < j then tfT p w e else p.2.2.2 e)
def firstsF (S : ST) : aR × ST := (vi (toldN (S.1.1.firsts S.1.2 (4 * S.1.1.n))), setP (rcS true S) (S.1.1.firsts S.1.2 (4 * S.1.1.n)))
def seenF (S : ST) (e k : Int32) : aR := if isI e (4 * S.1.1.n) && !decide (k < 0) then .inl (some (.int (if setdB S.1.1.n S.1.2 (lineE S.1.1.n e.toNatClampNeg) then sawV S.1.1.m (rowOf S.1.1.n S.1.2 (lineE S.1.1.n e.toNatClampNeg)) (backE S.1.1.n e.toNatClampNeg) k.toNatClampNeg else -1))) else .inr exI
def lacc (f : Nat → Bool) : Nat → Int64
  | 0 => 0
  | j + 1 => lacc f j ||| (if bI (f j) = 0 then (0 : Int64) else (1 : Int64) <<< ((i3 j).toInt64 &&& 63))
def withF (S : ST) (t : Int32) : aR := if isI t (S.1.1.m + 1) then .inl (some (.long (lacc (fun c => (S.1.2 c).testBit t.toNatClampNeg) (S.1.1.n * S.1.1.n)))) else .inr exA
def settledF (S : ST) : aR := .inl (some (.long (lacc (fun c => pc (S.1.2 c) == 1) (S.1.1.n * S.1.1.n))))
def crossN (S : ST) : Nat := ((List.range (S.1.1.n * S.1.1.n)).map fun c => S.1.1.m + 1 - pc (S.1.2 c)).sum
def shareF (S : ST) : aR := .inl (some (.double (FP.ddiv (FP.i2d (i3 (crossN S))) (FP.i2d (i3 (S.1.1.n * S.1.1.n * (S.1.1.m + 1)))))))
theorem rowOf_len {n : Nat} {w : Nat → Nat} {i : Nat} : (rowOf n w i).length = n := by unfold rowOf; simp
theorem rowOf_get {n : Nat} {w : Nat → Nat} {i k : Nat} (hk : k < n) : (rowOf n w i).getD k 0 = ntz (w (cellN n i k)) := by
  unfold rowOf
  rw [List.getD_eq_getElem?_getD, List.getElem?_map, List.getElem?_range hk]; rfl
theorem pc_ntz : ∀ (m : Fin 5) (a : Fin 32), a.1 < 2 ^ (m.1 + 1) → pc a.1 = 1 → ntz a.1 ≤ m.1 ∧ a.1 = 1 <<< ntz a.1 := by decide +kernel
theorem rowOf_le {p : Pz} (hok : okNM p.n p.m) {w : Nat → Nat} {i : Nat} (hi : i < 2 * p.n + 2) (hw : ∀ c, c < p.n * p.n → w c < 2 ^ (p.m + 1)) (hs : setdB p.n w i = true) : ∀ t ∈ rowOf p.n w i, t ≤ p.m := by
  intro t ht
  have hm := hok.m24
  have h32 := pow_le hm.2.2
  obtain ⟨k, hk, rfl⟩ := List.mem_map.mp ht
  have hk := List.mem_range.mp hk
  have h1 := List.all_eq_true.mp hs k (List.mem_range.mpr hk)
  have hc := cellN_lt hok.n45 hi hk
  exact (pc_ntz ⟨p.m, by omega⟩ ⟨w (cellN p.n i k), by have := hw _ hc; omega⟩ (hw _ hc) (by simpa using h1)).1
theorem lineE_lt {n e : Nat} (hn : n = 4 ∨ n = 5) (he : e < 4 * n) : lineE n e < 2 * n := by
  unfold lineE
  have : e % n < n := Nat.mod_lt _ (by omega)
  split <;> omega
theorem msk_all : ∀ (m : Fin 5) (a : Fin 32), a.1 < 2 ^ (m.1 + 1) → decide (a.1 ||| 1 <<< m.1 = 2 ^ (m.1 + 1) - 1) = ((a.1 &&& (1 <<< m.1 - 1)) == 1 <<< m.1 - 1) := by decide +kernel
theorem mkN_lt {m : Nat} : ∀ (row : List Nat) (s : Nat), (∀ t ∈ row, t ≤ m) → s < 2 ^ (m + 1) → row.foldl (fun s t => s ||| 1 <<< t) s < 2 ^ (m + 1) := by
  intro row
  induction row with
  | nil => intro s _ hs; exact hs
  | cons t row ih =>
    intro s ht hs
    refine ih _ (fun y hy => ht y (List.mem_cons_of_mem _ hy)) (Nat.or_lt_two_pow hs ?_)
    rw [Nat.one_shiftLeft]
    exact Nat.pow_lt_pow_right (by decide) (by have := ht t List.mem_cons_self; omega)
theorem isRow_first {m : Nat} {row : List Nat} (h0 : 0 < m) (h : isRow m row = true) {z : Bool} : 0 < (lets m (seqB z row)).length ∧ (lets m (seqB z row)).getD 0 0 < m := by
  unfold isRow at h
  rw [Bool.and_eq_true] at h
  have h1 : (lets m row).length = m := by simpa using h.1
  have h2 : 0 < (lets m (seqB z row)).length := by
    cases z with
    | false => rw [show seqB false row = row from rfl, h1]; exact h0
    | true =>
      show 0 < (lets m row.reverse).length
      unfold lets at h1 ⊢
      rw [List.filter_reverse, List.length_reverse, h1]; exact h0
  refine ⟨h2, ?_⟩
  have := getD_mem (d := 0) h2
  have := (List.mem_filter.mp this).2
  simpa using this
theorem crs_ok : ∀ b ∈ [48, 64, 75, 100, 125], ∀ a : Fin 126, a.1 ≤ b → (FP.ddiv (FP.i2d (i3 a.1)) (FP.i2d (i3 b))) &&& 0x7fffffffffffffff ≤ 0x7ff0000000000000 := by decide +kernel
theorem firsts_eq {p : Pz} {w : Nat → Nat} {j : Nat} {f : Nat → Nat} (h : ∀ e, (if e < j then tfT p w e else p.tl e) = f e) : p.firsts w j = (p.1, p.2.1, p.2.2.1, f) := by
  unfold Pz.firsts
  have : (fun e => if e < j then tfT p w e else p.2.2.2 e) = f := funext h
  rw [this]
theorem firsts_0 {p : Pz} {w : Nat → Nat} : p.firsts w 0 = p := firsts_eq (f := p.2.2.2) (fun e => if_neg (Nat.not_lt_zero _))
theorem firsts_keep {p : Pz} {w : Nat → Nat} {j : Nat} (z : (setdB p.n w (lineE p.n j) && isRow p.m (rowOf p.n w (lineE p.n j))) = false) : p.firsts w (j + 1) = p.firsts w j := by
  refine firsts_eq fun e => ?_
  by_cases q : e = j
  · subst q
    rw [if_pos (Nat.lt_succ_self _), if_neg (Nat.lt_irrefl _)]
    unfold tfT
    rw [z]; rfl
  · by_cases q2 : e < j
    · rw [if_pos q2, if_pos (by omega)]
    · rw [if_neg q2, if_neg (by omega)]; rfl
theorem firsts_set {p : Pz} {w : Nat → Nat} {j : Nat} (z : (setdB p.n w (lineE p.n j) && isRow p.m (rowOf p.n w (lineE p.n j))) = true) : (p.firsts w j).setT j (1 + 2 * (lets p.m (seqB (backE p.n j) (rowOf p.n w (lineE p.n j)))).getD 0 0) = p.firsts w (j + 1) := by
  have hf : ∀ e, (if e < j + 1 then tfT p w e else p.tl e) = (fun e => if e = j then 1 + 2 * (lets p.m (seqB (backE p.n j) (rowOf p.n w (lineE p.n j)))).getD 0 0 else if e < j then tfT p w e else p.tl e) e := ?_
  · rw [firsts_eq hf]; rfl
  intro e
  show _ = if e = j then _ else if e < j then tfT p w e else p.tl e
  by_cases q : e = j
  · subst q
    rw [if_pos (Nat.lt_succ_self _), if_pos rfl]
    unfold tfT
    rw [z]; rfl
  · rw [if_neg q]
    by_cases q2 : e < j
    · rw [if_pos q2, if_pos (by omega)]
    · rw [if_neg q2, if_neg (by omega)]
section XD
variable {Z : zT} {l : Launch} {G : aG} {I : Nat → Prop} {h : aH} {tg : Nat → Nat} {x li sl sb : Nat} {A : adT} {p : Pz} {w : Nat → Nat} {hist : List stT} {slots : Nat → Option stT} {text : List Nat}
theorem WM.stp0 {h' : aH} (hM : WM Z I h tg x li sl sb A p w) (hk : kp (fun _ => False) h h') : stp (fun _ => False) I I h h' tg tg := by
  refine ⟨hk, fun _ h => h, fun q hq => ⟨?_, hM.I1 q hq⟩, fun _ _ => rfl⟩
  cases z : h q with
  | none => exact absurd z (hM.I0 q hq)
  | some y => rw [hk _ _ z id]; simp
theorem WM.grow {h' : aH} (hM : WM Z I h tg x li sl sb A p w) (hk : kp (fun _ => False) h h') : WM Z I h' tg x li sl sb A p w := hM.keep (hM.stp0 hk) (fun _ => False.elim)
theorem W4_grow {h' : aH} (hM : WM Z I h tg x li sl sb A p w) (hH : WH G I h tg li hist) (hL : WL I h tg sl slots) (hT : WT h tg sb text) (hk : kp (fun _ => False) h h') : WM Z I h' tg x li sl sb A p w ∧ WH G I h' tg li hist ∧ WL I h' tg sl slots ∧ WT h' tg sb text :=
  ⟨hM.grow hk, hH.keep (hM.stp0 hk) hM.I1 (fun _ => False.elim), hL.keep (hM.stp0 hk) hM.I1 (fun _ => False.elim), hT.keep (hM.stp0 hk) (fun _ => False.elim)⟩
theorem kp_fresh {S : Nat → Prop} {h h' : aH} {q : Nat} {e : aE} (hk : kp S h h') (hq : h q = none) : kp S h (aUp h' q e) := fun a y he hn => by
  rw [aUp_ne (fun z => by rw [z, hq] at he; cases he)]
  exact hk a y he hn
def slR (h : aH) (n : Nat) (w : Nat → Nat) (i : Nat) : Option Value → aH → Prop := fun v h' => kp (fun _ => False) h h' ∧ ((setdB n w i = true ∧ ∃ b, v = some (.ref b) ∧ rowA h' b n (rowOf n w i)) ∨ (setdB n w i = false ∧ v = some .null))
theorem B_settledLine (hl : l.stackTraces = false) (hM : WM Z I h tg x li sl sb A p w) {i : Nat} (hi : i < 2 * p.n) : aC l G mX1_settledLine (wsN mX1_settledLine) 1 1 5 [.ref x, .int (i3 i)] h (aPR (slR h p.n w i)) := by
  have hok := hM.ok
  have hn := hok.n45
  have hm := hok.m24
  have hnn := nn_le hn
  have h32 := pow_le hm.2.2
  have hL := nL_le hok
  obtain ⟨F, hB, -⟩ := hM.bd
  obtain ⟨hP, rb, f, hb, hth, hf, -⟩ := hB
  obtain ⟨tl, ls, lo, ar, rw, T, L, R, sec, -, -, -, -, -, ho, -, -, -, hls, hrw, -⟩ := hP
  obtain ⟨r1, g0, r2, r3⟩ := hrw i (by omega)
  refine A_X1_settledLine hl (vR_mk hM.obj rfl (vI_mk ho rfl ⟨p.n, by rw [i3_neg_lt (by omega)]; exact id, i3_nat (by omega), by omega, by decide, by omega, fun q hq _ => ?_⟩))
  have key := vloop (N := p.n) (T := fun j => ∀ h' g, kp (fun _ => False) h h' → h' q = some (aInts .int p.n g) → (∀ k, k < j → g k = i3 (ntz (w (cellN p.n i k))) ∧ pc (w (cellN p.n i k)) = 1) → T_X1_settledLine_12 l G 1 1 5 (aPR (slR h p.n w i)) x (i3 i) q (i3 j) h' (0 + 1) (0 + p.n)) ?_ ?_ 0 (Nat.zero_le _)
  · exact key _ _ (kp.new hq) aUp_eq (fun k hk => absurd hk (Nat.not_lt_zero _))
  · intro h' g hk hg hgk
    have o1 := hk _ _ hM.obj id
    have o2 := hk _ _ ho id
    refine A_X1_settledLine_12 hl (vR_mk o1 rfl (vI_mk o2 rfl ⟨fun _ => ⟨hk, Or.inl ⟨?_, q, rfl, g, hg, fun k hk2 => ?_⟩⟩, fun z => absurd (by show i3 p.n ≤ i3 p.n; rw [i3_le (by omega) (by omega)]; exact Nat.le_refl _) z⟩))
    · unfold setdB
      exact List.all_eq_true.mpr fun k hk2 => by have := (hgk k (List.mem_range.mp hk2)).2; simpa using this
    · rw [rowOf_get hk2]; exact (hgk k hk2).1
  · intro j hj ih h' g hk hg hgk
    have o1 := hk _ _ hM.obj id
    have o2 := hk _ _ ho id
    have o3 := hk _ _ hb id
    have o4 := hk _ _ hth id
    have o5 := hk _ _ hls id
    have o6 := hk _ _ r2 id
    have hc := cellN_lt hn (by omega : i < 2 * p.n + 2) hj
    have hwc := hf _ hc
    have eg : g0 j = i3 (cellN p.n i j) := r3 (by omega) j hj
    refine A_X1_settledLine_12 hl (vR_mk o1 rfl (vI_mk o2 rfl ⟨fun z => absurd (by have z' : i3 p.n ≤ i3 j := z; rwa [i3_le (by omega) (by omega)] at z') (by omega : ¬ p.n ≤ j), fun _ => vR_mk o1 rfl (vR_mk o3 rfl (vR_mk o1 rfl (vR_mk o2 rfl (vAR_mk o5 rfl (by omega : i < 12) (by decide) r1 (vA_mk o6 rfl (by omega : j < 5) (by decide) ?_)))))⟩))
    rw [eg]
    refine vA_mk o4 rfl (by omega : cellN p.n i j < 25) (by decide) ?_
    rw [hwc.1]
    refine vC_p (B_isSingle hl (by omega)) (by decide) (by decide) (by omega) ⟨_, rfl, fun z => ?_, fun z => ?_⟩
    · have z1 : pc (w (cellN p.n i j)) = 1 := by
        rw [bI_eq0] at z
        cases y : (pc (w (cellN p.n i j)) == 1) with
        | true => simpa using y
        | false => exact absurd y z
      refine vC_p (B_ntz hl (by omega) (fun y => by rw [y] at z1; exact absurd z1 (by decide))) (by decide) (by decide) (by omega) ⟨_, rfl, vSt_mk hg rfl hj (by omega) ?_⟩
      rw [i3_succ]
      refine ih _ _ (kp_fresh hk hq) aUp_eq fun k hk2 => ?_
      by_cases e : k = j
      · rw [e, upd_same]; exact ⟨rfl, z1⟩
      · rw [upd_ne e]; exact hgk k (by omega)
    · rw [bI_eq0] at z
      refine ⟨hk, Or.inr ⟨?_, rfl⟩⟩
      cases y : setdB p.n w i with
      | false => rfl
      | true => rw [List.all_eq_true.mp y j (List.mem_range.mpr hj)] at z; cases z
theorem B_isComplete (hl : l.stackTraces = false) (hM : WM Z I h tg x li sl sb A p w) {b : Nat} {row : List Nat} (hr : rowA h b p.n row) (hlen : row.length = p.n) (hle : ∀ t ∈ row, t ≤ p.m) : aC l G mX1_isComplete (wsN mX1_isComplete) 1 0 0 [.ref x, .ref b] h (aP1 (some (.int (bI (isRow p.m row)))) h) := by
  have hok := hM.ok
  have hn := hok.n45
  have hm := hok.m24
  have h32 := pow_le hm.2.2
  obtain ⟨F, hB, -⟩ := hM.bd
  have hB0 := hB
  obtain ⟨hP, rb, f, hb, hth, hf, -⟩ := hB
  obtain ⟨tl, ls, lo, ar, rw, T, L, R, sec, -, -, -, -, -, ho, -⟩ := hP
  obtain ⟨g, hg, hg2⟩ := hr
  refine A_X1_isComplete hl (vLen_mk hg 0 rfl ?_)
  have key := vloop (N := p.n) (T := fun j => T_X1_isComplete_15 l G 1 0 0 (aP1 (some (.int (bI (isRow p.m row)))) h) x (i3 (maskN (row.take j))) (i3 (lets p.m (row.take j)).length) b (i3 p.n) (i3 j) h 0 0) ?_ ?_ 0 (Nat.zero_le _)
  · exact key
  · rw [← hlen, List.take_length, hlen]
    have hll := lets_len_le p.m row
    have hmk : maskN row < 2 ^ (p.m + 1) := mkN_lt row 0 hle (Nat.two_pow_pos _)
    have e5 : (i3 (lets p.m row).length = i3 p.m) = ((lets p.m row).length = p.m) := i3_eq (by omega) (by omega)
    refine A_X1_isComplete_15 hl ⟨fun _ => vR_mk hM.obj rfl (vI_mk ho rfl ?_), fun z => absurd (by rw [i3_le (by omega) (by omega)]; exact Nat.le_refl _) z⟩
    rw [e5]
    refine ⟨fun z => ⟨?_, rfl⟩, fun z => vR_mk hM.obj rfl (vI_mk ho rfl (vR_mk hM.obj rfl ⟨⟨_, hb⟩, ?_⟩))⟩
    · unfold isRow
      have z' : ((lets p.m row).length == p.m) = false := by simpa using z
      rw [z']; rfl
    · refine vC_p (B_everything hl hB0) (by decide) (by decide) (by decide) ⟨_, rfl, ?_⟩
      have e1 : (1 : Int32) <<< (i3 p.m &&& 31) = i3 (1 <<< p.m) := i3_shl (a := 1) (by omega)
      have h1m : 1 <<< p.m < 32 := by rw [Nat.one_shiftLeft]; have := Nat.pow_lt_pow_right (a := 2) (by decide) (Nat.lt_succ_self p.m); omega
      have hor : maskN row ||| 1 <<< p.m < 2 ^ 5 := Nat.or_lt_two_pow (by omega) (by omega)
      rw [e1, i3_or]
      simp only [i3_eq (a := maskN row ||| 1 <<< p.m) (b := 2 ^ (p.m + 1) - 1) (by omega) (by omega)]
      rw [bI_if]
      refine ⟨vB_bI, ?_, rfl⟩
      have z' : ((lets p.m row).length == p.m) = true := by simpa using z
      have := msk_all ⟨p.m, by omega⟩ ⟨maskN row, by omega⟩ hmk
      simp only at this
      unfold isRow
      rw [this, z', Bool.true_and]
  · intro j hj ih
    have hj2 : j < row.length := by omega
    have hx := getD_le hle j
    have ht := take_succ_getD hj2
    have e1 : (1 : Int32) <<< (i3 (row.getD j 0) &&& 31) = i3 (1 <<< row.getD j 0) := i3_shl (a := 1) (by omega)
    refine A_X1_isComplete_15 hl ⟨fun z => absurd (by rwa [i3_le (by omega) (by omega)] at z) (by omega : ¬ p.n ≤ j), fun _ => vA_mk hg rfl hj (by omega) ?_⟩
    rw [hg2 j hj]
    refine vR_mk hM.obj rfl (vI_mk ho rfl fun v18 hv => ?_)
    have e2 : v18 = i3 (lets p.m (row.take (j + 1))).length := by
      rw [hv, ht, lets_app, ← i3_add]
      congr 1
      simp only [i3_le (a := p.m) (b := row.getD j 0) (by omega) (by omega)]
      by_cases q : p.m ≤ row.getD j 0
      · rw [if_pos q, if_neg (by omega)]; rfl
      · rw [if_neg q, if_pos (by omega)]; rfl
    have e3 : i3 (maskN (row.take j)) ||| (1 : Int32) <<< (i3 (row.getD j 0) &&& 31) = i3 (maskN (row.take (j + 1))) := by
      rw [e1, i3_or, ht]
      unfold maskN
      rw [List.foldl_append]; rfl
    rw [e2, e3, i3_succ]
    exact ih
end XD
section XD2
variable {Z : zT} {l : Launch} {G : aG} {h : aH} {x : Nat} {S : ST}
theorem B_seenFrom (hl : l.stackTraces = false) (hW : WS Z G h x S) {e k : Int32} : aC l G mX1_seenFrom (wsN mX1_seenFrom) 50 2000 150000 [.ref x, .int e, .int k] h (opP Z G x (seenF S e k, S)) := by
  have hW0 := hW
  obtain ⟨I, tg, li, sl, sb, A, hM, -⟩ := hW
  have hok := hM.ok
  have hn := hok.n45
  have hm := hok.m24
  refine A_X1_seenFrom hl ⟨⟨_, hM.obj⟩, ?_⟩
  refine vC_c (B_checkEdge hl hM) (by decide) (by decide) (by decide) (fun q => ⟨rfl, ?_⟩) (fun q => ⟨by unfold seenF; rw [q]; rfl, hW0⟩)
  rw [bI_if']
  have eN : decide (¬ k < 0) = !decide (k < 0) := by by_cases z : k < 0 <;> simp [z]
  refine vC_c (B_checkIndex hl) (by decide) (by decide) (by decide) (fun q2 => ⟨rfl, ?_⟩) (fun q2 => ⟨by unfold seenF; rw [q, ← eN, q2]; rfl, hW0⟩)
  have eF : seenF S e k = .inl (some (.int (if setdB S.1.1.n S.1.2 (lineE S.1.1.n e.toNatClampNeg) then sawV S.1.1.m (rowOf S.1.1.n S.1.2 (lineE S.1.1.n e.toNatClampNeg)) (backE S.1.1.n e.toNatClampNeg) k.toNatClampNeg else -1))) := by unfold seenF; rw [q, ← eN, q2]; rfl
  rw [eF]
  obtain ⟨ei, he, rfl⟩ := isI_get (by omega) q
  have hk0 : ¬ k < 0 := of_decide_eq_true q2
  obtain ⟨ki, hki, rfl⟩ : ∃ ki, ki < 2147483648 ∧ k = i3 ki := by
    have h1 : (0 : Int) ≤ k.toInt := by
      have hz : ¬ k.toInt < (0 : Int32).toInt := fun z => hk0 (Int32.lt_iff_toInt_lt.mpr z)
      have : (0 : Int32).toInt = 0 := rfl
      omega
    have h2 := k.toInt_lt
    refine ⟨k.toInt.toNat, by omega, ?_⟩
    apply Int32.toInt_inj.mp
    rw [i3_toInt (by omega)]
    omega
  rw [i3_nat (by omega), i3_nat hki]
  obtain ⟨F, hB, -⟩ := hM.bd
  obtain ⟨hP, rb, f, hb, hth, hf, -⟩ := hB
  have ho : ∃ fs, h A.1.2.1 = some (.inr (3, fs)) := by obtain ⟨tl, ls, lo, ar, rw, T, L, R, sec, -, -, -, -, -, ho, -⟩ := hP; exact ⟨_, ho⟩
  refine vR_mk hM.obj rfl ⟨ho, vC_p (B_lineAt hl hP he) (by decide) (by decide) (by decide) ⟨_, rfl, ⟨_, hM.obj⟩, ?_⟩⟩
  have hli := lineE_lt hn he
  refine vC_r (B_settledLine hl hM hli) (by decide) (by decide) (by decide) fun v h1 hR => ?_
  obtain ⟨hk1, hR⟩ := hR
  have hM1 := hM.grow hk1
  rcases hR with ⟨s1, b, rfl, hrow⟩ | ⟨s1, rfl⟩
  · refine ⟨some b, rfl, fun z => absurd z (by simp), fun q19 z => ?_⟩
    obtain rfl := Option.some.inj z
    obtain ⟨F1, hB1, -⟩ := hM1.bd
    have hP1 := hB1.1
    have ho1 : ∃ fs, h1 A.1.2.1 = some (.inr (3, fs)) := by obtain ⟨tl, ls, lo, ar, rw, T, L, R, sec, -, -, -, -, -, ho, -⟩ := hP1; exact ⟨_, ho⟩
    have hpi : vR h1 x 1 1 fun a => vI h1 a 3 5 fun y => y = i3 S.1.1.m := by
      obtain ⟨tl, ls, lo, ar, rw, T, L, R, sec, -, -, -, -, -, ho, -⟩ := hP1
      exact vR_mk hM1.obj rfl (vI_mk ho rfl rfl)
    obtain ⟨tl, ls, lo, ar, rw, T, L, R, sec, -, -, -, -, -, ho2, -⟩ := hP1
    have hP1 := hB1.1
    refine vR_mk hM1.obj rfl (vI_mk ho2 rfl (vR_mk hM1.obj rfl ⟨ho1, vC_p (B_looksBack hl hP1 he) (by decide) (by decide) (by decide) ⟨_, rfl, ?_⟩⟩))
    have hle := rowOf_le hok (i := lineE S.1.1.n ei) (by omega) (fun c hc => (hf c hc).2) s1
    refine vC_p (B_seen hl hrow rowOf_len (by omega) (by omega) (fun t ht => by have := hle t ht; omega) hki) (by decide) (by decide) (by decide) ⟨_, rfl, ?_, hW0.grow hk1⟩
    rw [s1, if_pos rfl]
  · refine ⟨none, rfl, fun _ => ⟨?_, hW0.grow hk1⟩, fun q19 z => by cases z⟩
    rw [s1]; rfl
theorem B_cellsWith (hl : l.stackTraces = false) (hW : WS Z G h x S) {t : Int32} : aC l G mX1_cellsWith (wsN mX1_cellsWith) 50 2000 150000 [.ref x, .int t] h (opP Z G x (withF S t, S)) := by
  have hW0 := hW
  obtain ⟨I, tg, li, sl, sb, A, hM, -⟩ := hW
  have hok := hM.ok
  have hn := hok.n45
  have hm := hok.m24
  have hnn := nn_le hn
  have h32 := pow_le hm.2.2
  refine A_X1_cellsWith hl ⟨⟨_, hM.obj⟩, ?_⟩
  refine vC_c (B_checkThing hl hM) (by decide) (by decide) (by decide) (fun q => ⟨rfl, ?_⟩) (fun q => ⟨by unfold withF; rw [q]; rfl, hW0⟩)
  have eF : withF S t = .inl (some (.long (lacc (fun c => (S.1.2 c).testBit t.toNatClampNeg) (S.1.1.n * S.1.1.n)))) := by unfold withF; rw [q]; rfl
  rw [eF]
  obtain ⟨ti, ht, rfl⟩ := isI_get (by omega) q
  rw [i3_nat (by omega)]
  obtain ⟨F, hB, -⟩ := hM.bd
  obtain ⟨hP, rb, f, hb, hth, hf, -⟩ := hB
  have hP0 := hP
  have ho : ∃ fs, h A.1.2.1 = some (.inr (3, fs)) := by obtain ⟨tl, ls, lo, ar, rw, T, L, R, sec, -, -, -, -, -, ho, -⟩ := hP; exact ⟨_, ho⟩
  have key := vloop (N := S.1.1.n * S.1.1.n) (T := fun j => ∀ c s, c ≤ 600 → s ≤ 60000 → T_X1_cellsWith_10 l G 50 2000 150000 (opP Z G x (.inl (some (.long (lacc (fun c => (S.1.2 c).testBit ti) (S.1.1.n * S.1.1.n)))), S)) x (i3 ti) (lacc (fun c => (S.1.2 c).testBit ti) j) (i3 j) h c s) ?_ ?_ 0 (Nat.zero_le _)
  · exact key _ _ (by decide) (by decide)
  · intro c s hc hs
    refine A_X1_cellsWith_10 hl (vR_mk hM.obj rfl ⟨ho, ?_⟩)
    exact vC_p (B_cellCount hl hP0) (by decide) (by omega) (by omega) ⟨_, rfl, fun _ => ⟨rfl, hW0⟩, fun z => absurd (by show i3 (S.1.1.n * S.1.1.n) ≤ i3 (S.1.1.n * S.1.1.n); rw [i3_le (by omega) (by omega)]; exact Nat.le_refl _) z⟩
  · intro j hj ih c s hc hs
    refine A_X1_cellsWith_10 hl (vR_mk hM.obj rfl ⟨ho, ?_⟩)
    refine vC_p (B_cellCount hl hP0) (by decide) (by omega) (by omega) ⟨_, rfl, fun z => absurd (by have z' : i3 (S.1.1.n * S.1.1.n) ≤ i3 j := z; rwa [i3_le (by omega) (by omega)] at z') (by omega : ¬ S.1.1.n * S.1.1.n ≤ j), fun _ => vR_mk hM.obj rfl (vR_mk hb rfl (vA_mk hth rfl (by omega : j < 25) (by decide) ?_))⟩
    have := (hf j hj).2
    rw [(hf j hj).1]
    refine vC_p (B_has hl (by omega) (by omega)) (by decide) (by omega) (by omega) ⟨_, rfl, fun v15 hv => ?_⟩
    rw [i3_succ]
    have e : v15 = lacc (fun c => (S.1.2 c).testBit ti) (j + 1) := hv
    rw [e]
    exact ih c s hc hs
theorem B_xsettled (hl : l.stackTraces = false) (hW : WS Z G h x S) : aC l G mX1_settled (wsN mX1_settled) 50 2000 150000 [.ref x] h (opP Z G x (settledF S, S)) := by
  have hW0 := hW
  obtain ⟨I, tg, li, sl, sb, A, hM, -⟩ := hW
  have hok := hM.ok
  have hn := hok.n45
  have hnn := nn_le hn
  obtain ⟨F, hB, -⟩ := hM.bd
  have hB0 := hB
  obtain ⟨hP, rb, f, hb, hth, hf, -⟩ := hB
  have hP0 := hP
  have ho : ∃ fs, h A.1.2.1 = some (.inr (3, fs)) := by obtain ⟨tl, ls, lo, ar, rw, T, L, R, sec, -, -, -, -, -, ho, -⟩ := hP; exact ⟨_, ho⟩
  have key := vloop (N := S.1.1.n * S.1.1.n) (T := fun j => ∀ c s, c ≤ 600 → s ≤ 60000 → T_X1_settled_4 l G 50 2000 150000 (opP Z G x (settledF S, S)) x (lacc (fun c => pc (S.1.2 c) == 1) j) (i3 j) h c s) ?_ ?_ 0 (Nat.zero_le _)
  · exact A_X1_settled hl (key _ _ (by decide) (by decide))
  · intro c s hc hs
    refine A_X1_settled_4 hl (vR_mk hM.obj rfl ⟨ho, ?_⟩)
    exact vC_p (B_cellCount hl hP0) (by decide) (by omega) (by omega) ⟨_, rfl, fun _ => ⟨rfl, hW0⟩, fun z => absurd (by show i3 (S.1.1.n * S.1.1.n) ≤ i3 (S.1.1.n * S.1.1.n); rw [i3_le (by omega) (by omega)]; exact Nat.le_refl _) z⟩
  · intro j hj ih c s hc hs
    refine A_X1_settled_4 hl (vR_mk hM.obj rfl ⟨ho, ?_⟩)
    refine vC_p (B_cellCount hl hP0) (by decide) (by omega) (by omega) ⟨_, rfl, fun z => absurd (by have z' : i3 (S.1.1.n * S.1.1.n) ≤ i3 j := z; rwa [i3_le (by omega) (by omega)] at z') (by omega : ¬ S.1.1.n * S.1.1.n ≤ j), fun _ => vR_mk hM.obj rfl ⟨⟨_, hb⟩, ?_⟩⟩
    refine vC_p (B_isSettled hl hB0 hj) (by decide) (by omega) (by omega) ⟨_, rfl, fun v15 hv => ?_⟩
    rw [i3_succ]
    have e : v15 = lacc (fun c => pc (S.1.2 c) == 1) (j + 1) := hv
    rw [e]
    exact ih c s hc hs
theorem cross_le {p : Pz} {w : Nat → Nat} : ∀ N : Nat, ((List.range N).map fun c => p.m + 1 - pc (w c)).sum ≤ N * (p.m + 1) := by
  intro N
  induction N with
  | zero => exact Nat.zero_le _
  | succ N ih =>
    rw [List.range_succ, List.map_append, List.sum_append, Nat.succ_mul]
    simp only [List.map_cons, List.map_nil, List.sum_cons, List.sum_nil]
    omega
theorem B_crossedShare (hl : l.stackTraces = false) (hW : WS Z G h x S) : aC l G mX1_crossedShare (wsN mX1_crossedShare) 50 2000 150000 [.ref x] h (opP Z G x (shareF S, S)) := by
  have hW0 := hW
  obtain ⟨I, tg, li, sl, sb, A, hM, -⟩ := hW
  have hok := hM.ok
  obtain ⟨F, hB, -⟩ := hM.bd
  have hB0 := hB
  obtain ⟨hP, rb, f, hb, hth, hf, -⟩ := hB
  have hP0 := hP
  obtain ⟨tl, ls, lo, ar, rw, T, L, R, sec, -, -, -, -, -, ho, -⟩ := hP
  refine A_X1_crossedShare hl (vR_mk hM.obj rfl ⟨⟨_, hb⟩, ?_⟩)
  refine vC_p (B_crossedOut hl hB0) (by decide) (by decide) (by decide) ⟨_, rfl, vR_mk hM.obj rfl ⟨⟨_, ho⟩, ?_⟩⟩
  refine vC_p (B_cellCount hl hP0) (by decide) (by decide) (by decide) ⟨_, rfl, vR_mk hM.obj rfl (vI_mk ho rfl ?_)⟩
  rw [i3_succ, i3_mul]
  refine ⟨?_, rfl, hW0⟩
  have hle := cross_le (p := S.1.1) (w := S.1.2) (S.1.1.n * S.1.1.n)
  have hmem : S.1.1.n * S.1.1.n * (S.1.1.m + 1) ∈ [48, 64, 75, 100, 125] := by
    rcases hok with ⟨e1, e2 | e2⟩ | ⟨e1, e2 | e2 | e2⟩ <;> rw [e1, e2] <;> decide
  have h125 : S.1.1.n * S.1.1.n * (S.1.1.m + 1) ≤ 125 := by
    rcases hok with ⟨e1, e2 | e2⟩ | ⟨e1, e2 | e2 | e2⟩ <;> rw [e1, e2] <;> decide
  exact crs_ok _ hmem ⟨_, Nat.lt_of_le_of_lt hle (by omega)⟩ hle
theorem B_tellFirsts (hl : l.stackTraces = false) (hW : WS Z G h x S) : aC l G mX1_tellFirsts (wsN mX1_tellFirsts) 50 2000 150000 [.ref x] h (opP Z G x (firstsF S)) := by
  have hx : ∃ fs, h x = some (.inr (1, fs)) := by obtain ⟨I, tg, li, sl, sb, A, hM, -⟩ := hW; exact ⟨_, hM.obj⟩
  have hok : okNM S.1.1.n S.1.1.m := by obtain ⟨I, tg, li, sl, sb, A, hM, -⟩ := hW; exact hM.ok
  have hn := hok.n45
  have hm := hok.m24
  refine A_X1_tellFirsts hl ⟨hx, ?_⟩
  refine vC_r (B_recordZ hl hW (z := true)) (by decide) (by decide) (by decide) fun v h1 hR => ?_
  refine ⟨hR.1, ?_⟩
  have hR2 : WS Z G h1 x ((S.1.1.firsts S.1.2 0, S.1.2), (rcS true S).2) := by
    rw [firsts_0]; exact hR.2
  have key := vloop (N := 4 * S.1.1.n) (T := fun j => ∀ h' c s, c ≤ 512 + (j + 1) → s ≤ 49607 + 5 * (j + 1) → WS Z G h' x ((S.1.1.firsts S.1.2 j, S.1.2), (rcS true S).2) → T_X1_tellFirsts_7 l G 50 2000 150000 (opP Z G x (firstsF S)) x (i3 j) h' c s) ?_ ?_ 0 (Nat.zero_le _)
  · exact key h1 _ _ (by decide) (by decide) hR2
  · intro h' c s hc hs hW'
    obtain ⟨I1, tg1, li1, sl1, sb1, A1, hM1, hH1, hL1, hT1⟩ := hW'
    have hW' : WS Z G h' x ((S.1.1.firsts S.1.2 (4 * S.1.1.n), S.1.2), (rcS true S).2) := ⟨I1, tg1, li1, sl1, sb1, A1, hM1, hH1, hL1, hT1⟩
    obtain ⟨F1, hP1, tF1, hFs1⟩ := hM1.pzF
    have ho : ∃ fs, h' A1.1.2.1 = some (.inr (3, fs)) := by obtain ⟨tl, ls, lo, ar, rw, T, L, R, sec, hok, -, -, -, -, ho, -⟩ := hP1; exact ⟨_, ho⟩
    refine A_X1_tellFirsts_7 hl (vR_mk hM1.obj rfl ⟨ho, ?_⟩)
    refine vC_p (B_edgeCount hl hP1) (by decide) (by omega) (by omega) ⟨_, rfl, fun _ => vR_mk hM1.obj rfl ⟨ho, ?_⟩, fun z => absurd (by show i3 (4 * S.1.1.n) ≤ i3 (4 * S.1.1.n); rw [i3_le (by omega) (by omega)]; exact Nat.le_refl _) z⟩
    exact vC_p (B_told hl hP1) (by decide) (by omega) (by omega) ⟨_, rfl, rfl, hW'⟩
  · intro j hj ih h' c s hc hs hW'
    obtain ⟨I1, tg1, li1, sl1, sb1, A1, hM1, hH1, hL1, hT1⟩ := hW'
    obtain ⟨F1, hP1, tF1, hFs1⟩ := hM1.pzF
    have ho : ∃ fs, h' A1.1.2.1 = some (.inr (3, fs)) := by obtain ⟨tl, ls, lo, ar, rw, T, L, R, sec, hok, -, -, -, -, ho, -⟩ := hP1; exact ⟨_, ho⟩
    have hj' : j < 4 * (S.1.1.firsts S.1.2 j).n := hj
    have hli : lineE S.1.1.n j < 2 * S.1.1.n := lineE_lt hn hj
    have hfw : ∀ c, c < S.1.1.n * S.1.1.n → S.1.2 c < 2 ^ (S.1.1.m + 1) := by
      obtain ⟨F, hB, -⟩ := hM1.bd
      obtain ⟨-, rb, f, hb, hth, hf, -⟩ := hB
      exact fun c hc => (hf c hc).2
    refine A_X1_tellFirsts_7 hl (vR_mk hM1.obj rfl ⟨ho, ?_⟩)
    refine vC_p (B_edgeCount hl hP1) (by decide) (by omega) (by omega) ⟨_, rfl, fun z => absurd (by have z' : i3 (4 * S.1.1.n) ≤ i3 j := z; rwa [i3_le (by omega) (by omega)] at z') (by omega : ¬ 4 * S.1.1.n ≤ j), fun _ => vR_mk hM1.obj rfl ⟨ho, ?_⟩⟩
    refine vC_p (B_lineAt hl hP1 hj') (by decide) (by omega) (by omega) ⟨_, rfl, ⟨_, hM1.obj⟩, ?_⟩
    refine vC_r (B_settledLine hl hM1 (i := lineE S.1.1.n j) hli) (by decide) (by omega) (by omega) fun v2 h2 hR2 => ?_
    obtain ⟨hk2, hR2⟩ := hR2
    obtain ⟨hM2, hH2, hL2, hT2⟩ := W4_grow hM1 hH1 hL1 hT1 hk2
    have hW2 : WS Z G h2 x ((S.1.1.firsts S.1.2 j, S.1.2), (rcS true S).2) := ⟨I1, tg1, li1, sl1, sb1, A1, hM2, hH2, hL2, hT2⟩
    rcases hR2 with ⟨s1, b, rfl, hrow⟩ | ⟨s1, rfl⟩
    · have s1 : setdB S.1.1.n S.1.2 (lineE S.1.1.n j) = true := s1
      have hrow : rowA h2 b S.1.1.n (rowOf S.1.1.n S.1.2 (lineE S.1.1.n j)) := hrow
      have hle := rowOf_le hok (i := lineE S.1.1.n j) (by omega) hfw s1
      refine ⟨some b, rfl, fun z => absurd z (by simp), fun q19 z => ?_⟩
      obtain rfl := Option.some.inj z
      refine ⟨⟨_, hM2.obj⟩, vC_p (B_isComplete hl hM2 hrow rowOf_len hle) (by decide) (by omega) (by omega) ⟨_, rfl, fun z2 => ?_, fun z2 => ?_⟩⟩
      · rw [bI_eq0] at z2
        rw [i3_succ]
        refine ih h2 _ _ (by omega) (by omega) ?_
        rw [firsts_keep (by rw [s1]; exact z2)]
        exact hW2
      · rw [bI_eq0] at z2
        have z3 : isRow S.1.1.m (rowOf S.1.1.n S.1.2 (lineE S.1.1.n j)) = true := by
          cases y : isRow S.1.1.m (rowOf S.1.1.n S.1.2 (lineE S.1.1.n j)) with
          | true => rfl
          | false => exact absurd y z2
        obtain ⟨F2, hP2, tF2, hFs2⟩ := hM2.pzF
        have hP20 := hP2
        have ho2 : ∃ fs, h2 A1.1.2.1 = some (.inr (3, fs)) := by obtain ⟨tl, ls, lo, ar, rw, T, L, R, sec, hok, -, -, -, -, ho, -⟩ := hP2; exact ⟨_, ho⟩
        obtain ⟨tl, ls, lo, ar, rw, T, L, R, sec, -, -, -, -, -, ho3, -⟩ := hP2
        obtain ⟨f1, f2⟩ := isRow_first (z := backE S.1.1.n j) (by omega) z3
        refine vR_mk hM2.obj rfl (vR_mk hM2.obj rfl (vI_mk ho3 rfl (vR_mk hM2.obj rfl ⟨ho2, vC_p (B_looksBack hl hP20 hj') (by decide) (by omega) (by omega) ⟨_, rfl, ?_⟩⟩)))
        refine vC_p (B_seen hl (m := S.1.1.m) (k := 0) hrow rowOf_len (by omega) (by omega) (fun t ht => by have := hle t ht; omega) (by decide)) (by decide) (by omega) (by omega) ⟨_, rfl, ho2, ?_⟩
        have e1 : sawV S.1.1.m (rowOf S.1.1.n S.1.2 (lineE S.1.1.n j)) (backE S.1.1.n j) 0 = letV (1 + 2 * (lets S.1.1.m (seqB (backE S.1.1.n j) (rowOf S.1.1.n S.1.2 (lineE S.1.1.n j)))).getD 0 0) := by
          unfold sawV letV
          rw [if_pos f1, if_neg (by omega)]
          congr 1; omega
        have ht3 := B_tell3 (G := G) hl hP20 (e := j) (t := 1 + 2 * (lets S.1.1.m (seqB (backE S.1.1.n j) (rowOf S.1.1.n S.1.2 (lineE S.1.1.n j)))).getD 0 0) (by omega) (show _ ≤ 2 * S.1.1.m by omega)
        have e2 : (1 + 2 * (lets S.1.1.m (seqB (backE S.1.1.n j) (rowOf S.1.1.n S.1.2 (lineE S.1.1.n j)))).getD 0 0 != 0 && (1 + 2 * (lets S.1.1.m (seqB (backE S.1.1.n j) (rowOf S.1.1.n S.1.2 (lineE S.1.1.n j)))).getD 0 0) % 2 == 0) = false := by
          rw [show (1 + 2 * (lets S.1.1.m (seqB (backE S.1.1.n j) (rowOf S.1.1.n S.1.2 (lineE S.1.1.n j)))).getD 0 0) % 2 = 1 by omega]; simp
        rw [e2, ← e1] at ht3
        refine vC_r ht3 (by decide) (by omega) (by omega) fun v4 h4 hR4 => ?_
        obtain ⟨rfl, k4, hP4⟩ := hR4
        refine ⟨_, rfl, ?_⟩
        rw [i3_succ]
        refine ih h4 _ _ (by omega) (by omega) ?_
        have hIk : ∀ q, I1 q → h4 q ≠ none := fun q hq => by
          cases y : h2 q with
          | none => exact absurd y (hM2.I0 q hq)
          | some y2 => rw [k4 _ _ y (fun w => by have := tF2 q w; have := hM2.I1 q hq; omega)]; simp
        rw [firsts_set (by rw [s1, z3]; rfl)] at hP4
        exact WS_setP hM2 hH2 hL2 hT2 rfl rfl hP4 tF2 hFs2 k4 extI.rf hIk
    · have s1 : setdB S.1.1.n S.1.2 (lineE S.1.1.n j) = false := s1
      refine ⟨none, rfl, fun _ => ?_, fun q19 z => by cases z⟩
      rw [i3_succ]
      refine ih h2 _ _ (by omega) (by omega) ?_
      rw [firsts_keep (by rw [s1]; rfl)]
      exact hW2
end XD2
