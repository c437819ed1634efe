/-! letters exchanged; new puzzles, boards and desks
-/
set_option maxRecDepth 100000
theorem exN_lt {x one other m : Nat} (h1 : one < m) (h2 : other < m) (hx : x < m) : exN x one other < m := by
  unfold exN
  split
  · exact h2
  · split
    · exact h1
    · exact hx
theorem exT_le {t one other m : Nat} (h1 : one < m) (h2 : other < m) (ht : t ≤ 2 * m) : exT t one other ≤ 2 * m := by
  unfold exT
  split
  · exact Nat.zero_le _
  · have := exN_lt h1 h2 (by omega : (t - 1) / 2 < m)
    omega
theorem exT_let {t one other : Nat} : letV (exT t one other) = if t = 0 then -1 else i3 (exN ((t - 1) / 2) one other) := by
  unfold exT letV
  by_cases q : t = 0
  · rw [if_pos q, if_pos q]; rfl
  · rw [if_neg q, if_neg q, if_neg (by omega)]
    congr 1; omega
theorem exT_par {t one other : Nat} : (exT t one other != 0 && exT t one other % 2 == 0) = (t != 0 && t % 2 == 0) := by
  unfold exT
  by_cases q : t = 0
  · rw [if_pos q, q]
  · rw [if_neg q]
    have q1 : (t != 0) = true := by simpa using q
    have q2 : (1 + 2 * exN ((t - 1) / 2) one other + (t - 1) % 2 != 0) = true := by simp
    rw [q1, q2, Bool.true_and, Bool.true_and, Bool.eq_iff_iff, beq_iff_eq, beq_iff_eq]
    omega
section EXC
variable {l : Launch} {G : aG} {I : Nat → Prop} {h : aH} {a : Nat} {F : List Nat} {p : Pz}
theorem B_exchange3 (hl : l.stackTraces = false) (hP : PZ I h a F p) {one other : Nat} (h1 : one < p.m) (h2 : other < p.m) : aC l G mX3_exchange (wsN mX3_exchange) 1 0 0 [.ref a, .int (i3 one), .int (i3 other)] h
    (aPR fun v h' => v = some (.int (i3 (sumB (fun e => p.tl e != 0 && ((p.tl e - 1) / 2 == one || (p.tl e - 1) / 2 == other)) (4 * p.n)))) ∧ kp (· ∈ F) h h' ∧ PZ I h' a F (p.exch one other)) := by
  have hP0 := hP
  have hok := hP.ok
  have hn := hok.n45
  have hm := hok.m24
  obtain ⟨tl, ls, lo, rw, ar, T, sec, hW, hA, hb, hT, hs1, hs2, hr, L, hlo, hlo2⟩ := hP.pw
  have ho := hW.2.2.2.1
  obtain ⟨m1, m2, m3, m4, m5⟩ := hW.mem
  obtain ⟨w1, w2, w3, w4, w5, w6, w7, w8, w9, w10, w11⟩ := hW.ne
  have hIt : ∀ q, I q → ¬ q = tl := fun q hq z => hW.2.2.1 tl m2 (by rw [← z]; exact hq)
  refine A_X3_exchange hl ?_
  -- a heap on the way
  have hpz : ∀ (h' : aH) (T' : Nat → Int32) (j : Nat), j ≤ 4 * p.n → kp (· = tl) h h' → h' tl = some (aInts .int 20 T') → (∀ e, e < 20 → T' e = letV (if e < j then exT (p.tl e) one other else p.tl e)) → PZ I h' a F (p.1, p.2.1, p.2.2.1, fun e => if e < j then exT (p.2.2.2 e) one other else p.2.2.2 e) := by
    intro h' T' j hj k e1 e2
    have hW1 : PW I h' a F tl ls lo rw (some ar) T' (i3 p.n) (i3 p.m) (i3 sec) (bI p.dg) := by
      refine hW.kp k w1 (Ne.symm w5) hIt e1 (fun i hi => ?_) ⟨L, k _ _ hlo (Ne.symm w6)⟩
      obtain ⟨f, y, -⟩ := hr i hi
      exact ⟨f, k _ _ y (Ne.symm (w7 i hi))⟩
    refine PW.pz (p := (p.1, p.2.1, p.2.2.1, fun e => if e < j then exT (p.2.2.2 e) one other else p.2.2.2 e)) hok hW1 (hA.kp k hIt (fun _ h => h)) (fun x hx => ?_) e2 hs1 (fun x hx => ?_) (fun i hi => ?_) (L := L) (k _ _ hlo (Ne.symm w6)) hlo2
    · show (if x < j then exT (p.tl x) one other else p.tl x) ≤ 2 * p.m
      split
      · exact exT_le h1 h2 (hb x hx)
      · exact hb x hx
    · show _ = ((if x < j then exT (p.tl x) one other else p.tl x) != 0 && (if x < j then exT (p.tl x) one other else p.tl x) % 2 == 0)
      split
      · rw [exT_par]; exact hs2 x hx
      · exact hs2 x hx
    · obtain ⟨f, y1, y2⟩ := hr i hi
      exact ⟨f, k _ _ y1 (Ne.symm (w7 i hi)), y2⟩
  have loop := vloop (N := 4 * p.n) (T := fun j => ∀ (h' : aH) (T' : Nat → Int32), kp (· = tl) h h' → h' tl = some (aInts .int 20 T') → (∀ e, e < 20 → T' e = letV (if e < j then exT (p.tl e) one other else p.tl e)) → T_X3_exchange_5 l G 1 0 0 (aPR fun v h' => v = some (.int (i3 (sumB (fun e => p.tl e != 0 && ((p.tl e - 1) / 2 == one || (p.tl e - 1) / 2 == other)) (4 * p.n)))) ∧ kp (· ∈ F) h h' ∧ PZ I h' a F (p.exch one other)) a (i3 one) (i3 other) (i3 (sumB (fun e => p.tl e != 0 && ((p.tl e - 1) / 2 == one || (p.tl e - 1) / 2 == other)) j)) (i3 j) h' 0 0) ?_ ?_ 0 (Nat.zero_le _) h T kp.rf hW.2.2.2.2.1 (fun e he => by rw [if_neg (Nat.not_lt_zero _)]; exact hT e he)
  · exact loop
  · intro h' T' k e1 e2
    have hPj := hpz h' T' _ (Nat.le_refl _) k e1 e2
    have hPx : PZ I h' a F (p.exch one other) := hPj
    refine A_X3_exchange_5 hl ⟨⟨_, k _ _ ho w1⟩, ?_⟩
    exact vC_p (B_edgeCount hl hPx) (by decide) (by decide) (by decide) ⟨_, rfl, fun _ => ⟨rfl, k.mono fun q z => by rw [z]; exact m2, hPx⟩, fun q => absurd (by show i3 (4 * p.n) ≤ i3 (4 * p.n); rw [i3_le (by omega) (by omega)]; exact Nat.le_refl _) q⟩
  · intro j hj ih h' T' k e1 e2
    have hPj := hpz h' T' j (by omega) k e1 e2
    have hoj := k _ _ ho w1
    have hbj := hb j (by omega)
    have hTj : T' j = letV (p.tl j) := by rw [e2 j (by omega), if_neg (Nat.lt_irrefl _)]
    have hexch : aC l G mX3_exchanged (wsN mX3_exchanged) 0 0 0 [.ref a, .int (letV (p.tl j)), .int (i3 one), .int (i3 other)] h' (aP1 (some (.int (letV (exT (p.tl j) one other)))) h') := by
      refine A_X3_exchanged hl ⟨?_, rfl⟩
      rw [exT_let]
      unfold letV
      by_cases q : p.tl j = 0
      · rw [if_pos q, if_pos q]
        simp only [i3_m1' (a := one) (by omega), i3_m1' (a := other) (by omega), if_false]
      · rw [if_neg q, if_neg q]
        simp only [i3_eq (a := (p.tl j - 1) / 2) (b := one) (by omega) (by omega), i3_eq (a := (p.tl j - 1) / 2) (b := other) (by omega) (by omega)]
        unfold exN
        repeat' split
        all_goals rfl
    have t53 : ∀ z : Bool, z = (p.tl j != 0 && ((p.tl j - 1) / 2 == one || (p.tl j - 1) / 2 == other)) → T_X3_exchange_53 l G 1 0 0 (aPR fun v h' => v = some (.int (i3 (sumB (fun e => p.tl e != 0 && ((p.tl e - 1) / 2 == one || (p.tl e - 1) / 2 == other)) (4 * p.n)))) ∧ kp (· ∈ F) h h' ∧ PZ I h' a F (p.exch one other)) a (i3 one) (i3 other) (i3 j) (bI z) (i3 (sumB (fun e => p.tl e != 0 && ((p.tl e - 1) / 2 == one || (p.tl e - 1) / 2 == other)) j)) h' 0 0 := by
      intro z hz
      refine A_X3_exchange_53 hl (vR_mk hoj rfl (vR_mk hoj rfl (vA_mk e1 rfl (by omega : j < 20) (by decide) ⟨⟨_, hoj⟩, ?_⟩)))
      rw [hTj]
      refine vC_p hexch (by decide) (by decide) (by decide) ⟨_, rfl, vSt_mk e1 rfl (by omega : j < 20) (by decide) ?_⟩
      have es : i3 (sumB (fun e => p.tl e != 0 && ((p.tl e - 1) / 2 == one || (p.tl e - 1) / 2 == other)) j) + bI z = i3 (sumB (fun e => p.tl e != 0 && ((p.tl e - 1) / 2 == one || (p.tl e - 1) / 2 == other)) (j + 1)) := by
        rw [bI_nat, i3_add, sumB_succ, hz]
      rw [es, i3_succ]
      refine ih _ (upd T' j (letV (exT (p.tl j) one other))) (k.tr (kp.up rfl)) aUp_eq (fun e he => ?_)
      by_cases q : e = j
      · rw [q, upd_same, if_pos (Nat.lt_succ_self _)]
      · rw [upd_ne q, e2 e he]
        by_cases q2 : e < j
        · rw [if_pos q2, if_pos (by omega)]
        · rw [if_neg q2, if_neg (by omega)]
    refine A_X3_exchange_5 hl ⟨⟨_, hoj⟩, ?_⟩
    refine vC_p (B_edgeCount hl hPj) (by decide) (by decide) (by decide) ⟨_, rfl, fun q => absurd (by have q' : i3 (4 * p.n) ≤ i3 j := q; rwa [i3_le (by omega) (by omega)] at q') (by omega : ¬ 4 * p.n ≤ j), fun _ => vR_mk hoj rfl (vA_mk e1 rfl (by omega : j < 20) (by decide) ?_)⟩
    rw [hTj]
    by_cases q : p.tl j = 0
    · have el : letV (p.tl j) = -1 := by unfold letV; rw [if_pos q]
      rw [el]
      exact ⟨fun _ => t53 false (by rw [q]; rfl), fun z => absurd rfl z⟩
    · have el : letV (p.tl j) = i3 ((p.tl j - 1) / 2) := by unfold letV; rw [if_neg q]
      have q' : (p.tl j != 0) = true := by simpa using q
      rw [el] at hTj ⊢
      refine ⟨fun z => ?_, fun _ => vR_mk hoj rfl (vA_mk e1 rfl (by omega : j < 20) (by decide) ?_)⟩
      · rw [i3_m1 (by omega)] at z; exact absurd z id
      · rw [hTj, i3_eq (by omega) (by omega)]
        refine ⟨fun z => t53 true (by rw [q', z]; simp), fun z => vR_mk hoj rfl (vA_mk e1 rfl (by omega : j < 20) (by decide) ?_)⟩
        rw [hTj]
        simp only [i3_eq (a := (p.tl j - 1) / 2) (b := other) (by omega) (by omega)]
        rw [bI_if]
        refine t53 _ ?_
        rw [q', Bool.true_and]
        have z' : ((p.tl j - 1) / 2 == one) = false := by simpa using z
        rw [z', Bool.false_or, Bool.eq_iff_iff, decide_eq_true_iff, beq_iff_eq]
end EXC
theorem grid_nodup {q N : Nat} : ((List.range N).map fun i => q + 1 + i).Nodup := by
  unfold List.Nodup
  rw [List.pairwise_map]
  exact List.nodup_range.imp fun h e => h (by omega)
theorem grid_q {h : aH} {q n k : Nat} : aGrid h q n k q = some (aRefs (.array .int) n (fun i => some (q + 1 + i))) := if_pos rfl
theorem grid_row {h : aH} {q n k i : Nat} (hi : i < n) : aGrid h q n k (q + 1 + i) = some (aInts .int k (fun _ => 0)) := by unfold aGrid; rw [if_neg (by omega), if_pos (by omega)]
theorem grid_kp {S : Nat → Prop} {h : aH} {q n k : Nat} (hq : ∀ j, q ≤ j → h j = none) : kp S h (aGrid h q n k) := fun x y hx _ => by
  have : x < q := by
    rcases Nat.lt_or_ge x q with z | z
    · exact z
    · rw [hq x z] at hx; cases hx
  unfold aGrid
  rw [if_neg (by omega), if_neg (by omega)]; exact hx
theorem lt_of_some {h : aH} {q x : Nat} {y : aE} (hq : ∀ j, q ≤ j → h j = none) (hx : h x = some y) : x < q := by
  rcases Nat.lt_or_ge x q with z | z
  · exact z
  · rw [hq x z] at hx; cases hx
/-- a board's cells, with any numbers in them -/
def BRD (h : aH) (b a th : Nat) (FB : List Nat) (f : Nat → Int32) : Prop := ∃ (rb : Nat) (rr : Nat → Nat) (R : Nat → Option Nat), FB = b :: th :: rb :: (List.range 5).map rr ∧ h b = some (aObj 5 [.ref a, .ref th, .ref rb]) ∧ h th = some (aInts .int 25 f) ∧ h rb = some (aRefs (.array .int) 5 R) ∧ ∀ i, i < 5 → R i = some (rr i) ∧ ∃ g : Nat → Int32, h (rr i) = some (aInts .int 5 g)
theorem BRD.kp {S : Nat → Prop} {h h' : aH} {b a th : Nat} {FB : List Nat} {f : Nat → Int32} (hB : BRD h b a th FB f) (hk : kp S h h') (hS : ∀ q ∈ FB, ¬ S q) : BRD h' b a th FB f := by
  obtain ⟨rb, rr, R, e, h1, h2, h3, h4⟩ := hB
  refine ⟨rb, rr, R, e, hk _ _ h1 (hS _ (by rw [e]; simp)), hk _ _ h2 (hS _ (by rw [e]; simp)), hk _ _ h3 (hS _ (by rw [e]; simp)), fun i hi => ?_⟩
  obtain ⟨k1, g, k2⟩ := h4 i hi
  refine ⟨k1, g, hk _ _ k2 (hS _ ?_)⟩
  rw [e]
  simp only [List.mem_cons, List.mem_map, List.mem_range]
  exact Or.inr (Or.inr (Or.inr ⟨i, hi, rfl⟩))
theorem BRD.bdr {I : Nat → Prop} {h : aH} {b a th : Nat} {F FB : List Nat} {f : Nat → Int32} {p : Pz} (hB : BRD h b a th FB f) (hP : PZ I h a F p) (hd : ∀ q ∈ FB, q ∉ F ∧ ¬ I q) : BDr I h b a th F p f := by
  obtain ⟨rb, rr, R, e, h1, h2, h3, h4⟩ := hB
  have m1 := hd b (by rw [e]; simp)
  have m2 := hd th (by rw [e]; simp)
  exact ⟨hP, rb, h1, h2, m1.1, m2.1, m1.2, m2.2⟩
theorem BRD.rows {I : Nat → Prop} {h : aH} {b a th : Nat} {F FB : List Nat} {f : Nat → Int32} (hB : BRD h b a th FB f) (hd : ∀ q ∈ FB, q ∉ F ∧ ¬ I q) (hN : FB.Nodup) : ∃ rr, RBv I h b F rr ∧ ∀ i, i < 5 → rr i ∈ FB := by
  obtain ⟨rb, rr, R, e, h1, h2, h3, h4⟩ := hB
  have hm : ∀ i, i < 5 → rr i ∈ FB := fun i hi => by
    rw [e]
    simp only [List.mem_cons, List.mem_map, List.mem_range]
    exact Or.inr (Or.inr (Or.inr ⟨i, hi, rfl⟩))
  refine ⟨rr, ⟨a, th, rb, R, h1, h3, fun i hi => ?_⟩, hm⟩
  obtain ⟨k1, k2⟩ := h4 i hi
  refine ⟨k1, k2, (hd _ (hm i hi)).1, (hd _ (hm i hi)).2, fun j hj z => ?_⟩
  rw [e, List.nodup_cons, List.nodup_cons, List.nodup_cons] at hN
  have n11 := hN.2.2.2
  unfold List.Nodup at n11
  rw [List.pairwise_map] at n11
  have key : ∀ i j, i < j → j < 5 → rr i ≠ rr j := fun i j hij hj => by
    have := List.pairwise_iff_getElem.mp n11 i j (by rw [List.length_range]; omega) (by rw [List.length_range]; exact hj) hij
    rw [List.getElem_range, List.getElem_range] at this
    exact this
  rcases Nat.lt_trichotomy i j with q | q | q
  · exact absurd z (key i j q hj)
  · exact q
  · exact absurd z.symm (key j i q hi)
section NEW
variable {l : Launch} {G : aG} {I : Nat → Prop} {h : aH} {a : Nat} {F : List Nat} {p : Pz}
theorem B_init3 (hl : l.stackTraces = false) (ho : h a = some (aObj 3 [.null, .null, .null, .null, .int 0, .int 0, .int 0, .int 0])) (hIa : ¬ I a) (hI0 : ∀ q, I q → h q ≠ none) :
    aC l G mX3_init (wsN mX3_init) 16 258 24728 [.ref a] h (aPR fun v h' => v = none ∧ ∃ I' F, extI I I' h ∧ (∀ q, I' q → h' q ≠ none) ∧ kp (· = a) h h' ∧ (∀ q ∈ F, q = a ∨ h q = none) ∧ PZ I' h' a F (Pz.new 4 3)) := by
  refine A_X3_init hl ⟨by decide, 20, by decide, rfl, by decide, by decide, by decide, fun tl htl _ => ?_⟩
  have nta : tl ≠ a := fun z => by rw [z, ho] at htl; cases htl
  refine vPut_mk (by rw [aUp_ne (Ne.symm nta)]; exact ho) (by show 0 < 8; decide) ⟨12, 5, by decide, by decide, rfl, rfl, by decide, by decide, by decide, by decide, fun ls hls _ => ?_⟩
  generalize hg2 : aUp (aUp h tl (aInts .int 20 fun _ => 0)) a (.inr (3, [Value.null, .null, .null, .null, .int 0, .int 0, .int 0, .int 0].set 0 (.ref tl))) = h2 at hls ⊢
  have o2 : h2 a = some (aObj 3 [.ref tl, .null, .null, .null, .int 0, .int 0, .int 0, .int 0]) := by rw [← hg2]; exact aUp_eq
  have t2 : h2 tl = some (aInts .int 20 fun _ => 0) := by rw [← hg2, aUp_ne nta]; exact aUp_eq
  have k2 : kp (· = a) h h2 := by rw [← hg2]; exact (kp.new htl).tr (kp.up rfl)
  have la := lt_of_some hls o2
  have lt := lt_of_some hls t2
  have o3 : aGrid h2 ls 12 5 a = some (aObj 3 [.ref tl, .null, .null, .null, .int 0, .int 0, .int 0, .int 0]) := grid_kp (S := fun _ => False) hls _ _ o2 id
  refine vPut_mk o3 (by show 1 < 8; decide) ⟨25, by decide, rfl, by decide, by decide, by decide, fun lo hlo _ => ?_⟩
  generalize hg4 : aUp (aGrid h2 ls 12 5) a (.inr (3, [Value.ref tl, .null, .null, .null, .int 0, .int 0, .int 0, .int 0].set 1 (.ref ls))) = h4 at hlo ⊢
  have o4 : h4 a = some (aObj 3 [.ref tl, .ref ls, .null, .null, .int 0, .int 0, .int 0, .int 0]) := by rw [← hg4]; exact aUp_eq
  have t4 : h4 tl = some (aInts .int 20 fun _ => 0) := by rw [← hg4, aUp_ne nta]; exact grid_kp (S := fun _ => False) hls _ _ t2 id
  have g4 : h4 ls = some (aRefs (.array .int) 12 (fun i => some (ls + 1 + i))) := by rw [← hg4, aUp_ne (by omega)]; exact grid_q
  have r4 : ∀ i, i < 12 → h4 (ls + 1 + i) = some (aInts .int 5 fun _ => 0) := fun i hi => by rw [← hg4, aUp_ne (by omega)]; exact grid_row hi
  have k4 : kp (· = a) h h4 := by rw [← hg4]; exact (k2.tr (grid_kp hls)).tr (kp.up rfl)
  have nla : lo ≠ a := fun z => by rw [z, o4] at hlo; cases hlo
  have nlt : lo ≠ tl := fun z => by rw [z, t4] at hlo; cases hlo
  have nls : lo ≠ ls := fun z => by rw [z, g4] at hlo; cases hlo
  have nlr : ∀ i, i < 12 → lo ≠ ls + 1 + i := fun i hi z => by rw [z, r4 i hi] at hlo; cases hlo
  refine vPut_mk (by rw [aUp_ne (Ne.symm nla)]; exact o4) (by show 2 < 8; decide) ?_
  generalize hg6 : aUp (aUp h4 lo (aInts .int 25 fun _ => 0)) a (.inr (3, [Value.ref tl, .ref ls, .null, .null, .int 0, .int 0, .int 0, .int 0].set 2 (.ref lo))) = h6
  have o6 : h6 a = some (aObj 3 [.ref tl, .ref ls, .ref lo, .null, .int 0, .int 0, .int 0, .int 0]) := by rw [← hg6]; exact aUp_eq
  have k6 : kp (· = a) h h6 := by rw [← hg6]; exact (k4.tr (kp.new hlo)).tr (kp.up rfl)
  have low : ∀ x, h2 x = none → x ≠ a → h x = none := fun x hx hxa => by
    cases w : h x with
    | none => rfl
    | some y => rw [k2 _ _ w hxa] at hx; cases hx
  have low4 : ∀ x, h4 x = none → x ≠ a → h x = none := fun x hx hxa => by
    cases w : h x with
    | none => rfl
    | some y => rw [k4 _ _ w hxa] at hx; cases hx
  have fresh : ∀ q ∈ a :: tl :: ls :: lo :: (List.range 12).map (fun i => ls + 1 + i), q = a ∨ h q = none := by
    intro q hq
    simp only [List.mem_cons, List.mem_map, List.mem_range] at hq
    rcases hq with rfl | rfl | rfl | rfl | ⟨i, hi, rfl⟩
    · exact Or.inl rfl
    · exact Or.inr htl
    · exact Or.inr (low _ (hls _ (Nat.le_refl _)) (by omega))
    · exact Or.inr (low4 _ hlo nla)
    · exact Or.inr (low _ (hls _ (by omega)) (by omega))
  have hW : PW I h6 a (a :: tl :: ls :: lo :: (List.range 12).map (fun i => ls + 1 + i)) tl ls lo (fun i => ls + 1 + i) none (fun _ => 0) 0 0 0 0 := by
    refine ⟨rfl, ?_, fun q hq hI => ?_, o6, ?_, ⟨_, ?_, fun i hi => rfl⟩, fun i hi => ⟨fun _ => 0, ?_⟩, ⟨fun _ => 0, ?_⟩, fun ar he => by cases he⟩
    · simp only [List.nodup_cons, List.mem_cons, List.mem_map, List.mem_range, not_or, not_exists, not_and]
      refine ⟨⟨Ne.symm nta, by omega, Ne.symm nla, fun i hi => by omega⟩, ⟨by omega, Ne.symm nlt, fun i hi => by omega⟩, ⟨Ne.symm nls, fun i hi => by omega⟩, fun i hi z => nlr i hi z.symm, grid_nodup⟩
    · rcases fresh q hq with z | z
      · exact hIa (by rw [← z]; exact hI)
      · exact hI0 q hI z
    · rw [← hg6, aUp_ne nta, aUp_ne (Ne.symm nlt)]; exact t4
    · rw [← hg6, aUp_ne (by omega), aUp_ne (Ne.symm nls)]; exact g4
    · show h6 (ls + 1 + i) = _
      rw [← hg6, aUp_ne (by omega), aUp_ne (Ne.symm (nlr i hi))]; exact r4 i hi
    · rw [← hg6, aUp_ne nla]; exact aUp_eq
  have hI6 : ∀ q, I q → h6 q ≠ none := by
    intro q hq
    cases w : h q with
    | none => exact absurd w (hI0 q hq)
    | some y => rw [k6 _ _ w (fun z => hIa (by rw [← z]; exact hq))]; simp
  refine ⟨⟨_, o6⟩, ?_⟩
  refine vC_r (B_begin (n := 4) (m := 3) hl (Or.inl ⟨rfl, Or.inr rfl⟩) hW hI6) (by decide) (by decide) (by decide) fun v h7 hR => ?_
  obtain ⟨hv, I', ⟨i1, i2⟩, i3', k7, hP⟩ := hR
  have hPn : ∀ q ∈ a :: tl :: ls :: lo :: (List.range 12).map (fun i => ls + 1 + i), ¬ I' q := by
    obtain ⟨_, _, _, _, _, _, _, _, _, _, _, _, _, hn, _⟩ := hP; exact hn
  refine ⟨hv, rfl, I', _, ⟨i1, fun q hq => ?_⟩, i3', fun x y hx hxa => ?_, fresh, hP⟩
  · rcases i2 q hq with z | z
    · exact Or.inl z
    · by_cases w : q = a
      · exact absurd hq (hPn q (by rw [w]; simp))
      · cases y : h q with
        | none => exact Or.inr rfl
        | some e => rw [k6 _ _ y w] at z; cases z
  · refine k7 _ _ (k6 _ _ hx hxa) (fun z => ?_)
    rcases fresh x z with w | w
    · exact hxa w
    · rw [w] at hx; cases hx
theorem B_init5 (hl : l.stackTraces = false) {b : Nat} (hP : PZ I h a F p) (ho : h b = some (aObj 5 [.null, .null, .null])) (hbF : b ∉ F) (hIb : ¬ I b) (hI0 : ∀ q, I q → h q ≠ none) (hF0 : ∀ q ∈ F, h q ≠ none) :
    aC l G mX5_init (wsN mX5_init) 2 7 55 [.ref b, .ref a] h (aPR fun v h' => v = none ∧ kp (· = b) h h' ∧ ∃ th FB f, BRD h' b a th FB f ∧ FB.Nodup ∧ (∀ q ∈ FB, q = b ∨ h q = none) ∧ ∀ c, c < p.n * p.n → f c = i3 (2 ^ (p.m + 1) - 1)) := by
  refine A_X5_init hl ⟨by decide, 25, by decide, rfl, by decide, by decide, by decide, fun th hth _ => ?_⟩
  have ntb : th ≠ b := fun z => by rw [z, ho] at hth; cases hth
  refine vPut_mk (by rw [aUp_ne (Ne.symm ntb)]; exact ho) (by show 1 < 3; decide) ⟨5, 5, by decide, by decide, rfl, rfl, by decide, by decide, by decide, by decide, fun rb hrb _ => ?_⟩
  generalize hg2 : aUp (aUp h th (aInts .int 25 fun _ => 0)) b (.inr (5, [Value.null, .null, .null].set 1 (.ref th))) = h2 at hrb ⊢
  have o2 : h2 b = some (aObj 5 [.null, .ref th, .null]) := by rw [← hg2]; exact aUp_eq
  have t2 : h2 th = some (aInts .int 25 fun _ => 0) := by rw [← hg2, aUp_ne ntb]; exact aUp_eq
  have k2 : kp (· = b) h h2 := by rw [← hg2]; exact (kp.new hth).tr (kp.up rfl)
  have lb := lt_of_some hrb o2
  have lt := lt_of_some hrb t2
  have o3 : aGrid h2 rb 5 5 b = some (aObj 5 [.null, .ref th, .null]) := grid_kp (S := fun _ => False) hrb _ _ o2 id
  refine vPut_mk o3 (by show 2 < 3; decide) (vPut_mk aUp_eq (by show 0 < 3; decide) ?_)
  generalize hg4 : aUp (aUp (aGrid h2 rb 5 5) b (.inr (5, [Value.null, .ref th, .null].set 2 (.ref rb)))) b (.inr (5, ([Value.null, .ref th, .null].set 2 (.ref rb)).set 0 (.ref a))) = h4
  have o4 : h4 b = some (aObj 5 [.ref a, .ref th, .ref rb]) := by rw [← hg4]; exact aUp_eq
  have t4 : h4 th = some (aInts .int 25 fun _ => 0) := by rw [← hg4, aUp_ne ntb, aUp_ne ntb]; exact grid_kp (S := fun _ => False) hrb _ _ t2 id
  have g4 : h4 rb = some (aRefs (.array .int) 5 (fun i => some (rb + 1 + i))) := by rw [← hg4, aUp_ne (by omega), aUp_ne (by omega)]; exact grid_q
  have r4 : ∀ i, i < 5 → h4 (rb + 1 + i) = some (aInts .int 5 fun _ => 0) := fun i hi => by rw [← hg4, aUp_ne (by omega), aUp_ne (by omega)]; exact grid_row hi
  have k4 : kp (· = b) h h4 := by rw [← hg4]; exact ((k2.tr (grid_kp hrb)).tr (kp.up rfl)).tr (kp.up rfl)
  have fresh : ∀ q ∈ b :: th :: rb :: (List.range 5).map (fun i => rb + 1 + i), q = b ∨ h q = none := by
    have low : ∀ x, h2 x = none → x ≠ b → h x = none := fun x hx hxa => by
      cases w : h x with
      | none => rfl
      | some y => rw [k2 _ _ w hxa] at hx; cases hx
    intro q hq
    simp only [List.mem_cons, List.mem_map, List.mem_range] at hq
    rcases hq with rfl | rfl | rfl | ⟨i, hi, rfl⟩
    · exact Or.inl rfl
    · exact Or.inr hth
    · exact Or.inr (low _ (hrb _ (Nat.le_refl _)) (by omega))
    · exact Or.inr (low _ (hrb _ (by omega)) (by omega))
  have hN : (b :: th :: rb :: (List.range 5).map (fun i => rb + 1 + i)).Nodup := by
    simp only [List.nodup_cons, List.mem_cons, List.mem_map, List.mem_range, not_or, not_exists, not_and]
    exact ⟨⟨Ne.symm ntb, by omega, fun i hi => by omega⟩, ⟨by omega, fun i hi => by omega⟩, fun i hi => by omega, grid_nodup⟩
  have hPn : ∀ q ∈ F, ¬ I q := by
    obtain ⟨_, _, _, _, _, _, _, _, _, _, _, _, _, hn, _⟩ := hP; exact hn
  have hB4 : BRD h4 b a th (b :: th :: rb :: (List.range 5).map (fun i => rb + 1 + i)) (fun _ => 0) := ⟨rb, _, _, rfl, o4, t4, g4, fun i hi => ⟨rfl, _, r4 i hi⟩⟩
  have hP4 : PZ I h4 a F p := hP.kp k4 (fun q hq z => hbF (by rw [← z]; exact hq)) (fun q hq z => hIb (by rw [← z]; exact hq)) (fun _ h => h) hPn
  have hd : ∀ q ∈ b :: th :: rb :: (List.range 5).map (fun i => rb + 1 + i), q ∉ F ∧ ¬ I q := by
    intro q hq
    rcases fresh q hq with z | z
    · rw [z]; exact ⟨hbF, hIb⟩
    · exact ⟨fun w => hF0 q w z, fun w => hI0 q w z⟩
  refine ⟨⟨_, o4⟩, ?_⟩
  refine vC_r (B_clear hl (hB4.bdr hP4 hd)) (by decide) (by decide) (by decide) fun v h5 hR => ?_
  obtain ⟨hv, k5, g, e5, e6, -⟩ := hR
  refine ⟨_, hv, rfl, fun x y hx hxb => ?_, th, _, g, ⟨rb, _, _, rfl, k5 _ _ o4 (Ne.symm ntb), e5, k5 _ _ g4 (by omega), fun i hi => ⟨rfl, _, k5 _ _ (r4 i hi) (by omega)⟩⟩, hN, fresh, e6⟩
  refine k5 _ _ (k4 _ _ hx hxb) (fun z => ?_)
  rw [z, hth] at hx; cases hx
end NEW
