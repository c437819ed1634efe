/-! the component's methods: solutions
-/
set_option maxRecDepth 100000
def resN (p : Pz) (w : Nat → Nat) : Nat := min 200 (sols p w).length
def countF (S : ST) : aR := vi (resN S.1.1 S.1.2)
def firstF (S : ST) (c : Int32) : aR := if isI c (S.1.1.n * S.1.1.n) then .inl (some (.int (if sols S.1.1 S.1.2 = [] then -1 else i3 (((sols S.1.1 S.1.2).headD []).getD c.toNatClampNeg 0)))) else .inr exI
def sameF (S : ST) : aR := .inl (some (.long (if resN S.1.1 S.1.2 = 0 ∨ resN S.1.1 S.1.2 = 200 then 0 else l3 (sameN S.1.1 (sols S.1.1 S.1.2)))))
def neededF (S : ST) (e : Int32) : aR := if isI e (4 * S.1.1.n) then (if S.1.1.tl e.toNatClampNeg = 0 then .inr exS else .inl (some (.int (bI (decide (resN S.1.1 S.1.2 < resN (S.1.1.setT e.toNatClampNeg 0) S.1.2)))))) else .inr exI
theorem resV_len {p : Pz} {ord : Bool} {most : Nat} {F all : List (List Nat)} (h : resV p ord most F all) : F.length = min most all.length := by
  obtain ⟨h1, R, ⟨h2, -⟩, h3⟩ := h
  have := h2.length_eq
  rw [List.length_append] at this
  by_cases q : F.length < most
  · rw [h3 q] at this
    simp at this
    omega
  · omega
theorem resV_all {p : Pz} {ord : Bool} {most : Nat} {F all : List (List Nat)} (h : resV p ord most F all) (hl : F.length < most) : F.Perm all := by
  obtain ⟨h1, R, ⟨h2, -⟩, h3⟩ := h
  rw [h3 hl, List.append_nil] at h2
  exact h2
theorem resV_head {p : Pz} {F all : List (List Nat)} (h : resV p true 1 F all) (h0 : F ≠ []) : all ≠ [] ∧ F.headD [] = all.headD [] := by
  obtain ⟨h1, R, ⟨-, h2⟩, h3⟩ := h
  have e := h2 rfl
  cases F with
  | nil => exact absurd rfl h0
  | cons x F => rw [← e]; exact ⟨by simp, rfl⟩
theorem setT_setT {p : Pz} {e t : Nat} (h : t = p.tl e) : (p.setT e 0).setT e t = p := by
  obtain ⟨n, m, dg, tl⟩ := p
  subst h
  unfold Pz.setT
  refine congrArg (fun f => (n, m, dg, f)) (funext fun x => ?_)
  by_cases q : x = e
  · rw [if_pos q, q]; rfl
  · rw [if_neg q]
    exact if_neg q
section XF
variable {Z : zT} {l : Launch} {G : aG} {h : aH} {x : Nat} {S : ST}
theorem B_found (hl : l.stackTraces = false) (hW : WS Z G h x S) {wanted : Nat} {ord : Bool} (hw : wanted ≤ 1000) (hw0 : 0 < wanted) : aC l G mX1_found (wsN mX1_found) 40 2 29 [.ref x, .int (i3 wanted), .int (bI ord)] h (aPR fun v h' => ∃ fo fi Q, v = some (.ref fo) ∧ WS Z G h' x S ∧ FO h' fo fi wanted S.1.1 Q ∧ resV S.1.1 ord wanted Q (sols S.1.1 S.1.2)) := by
  obtain ⟨I, tg, li, sl, sb, A, hM, hH, hL, hT⟩ := hW
  obtain ⟨⟨rbf, ff, of1, of2⟩, -, tf7⟩ := hM.fobj
  refine A_X1_found hl (vR_mk hM.obj rfl (vR_mk hM.obj rfl ⟨⟨_, of1⟩, ?_⟩))
  refine vC_copyTo hl hM (by decide) (by decide) (by decide) fun v h1 hR1 => ?_
  obtain ⟨hv, k1, g1, e1, e2⟩ := hR1
  obtain ⟨tg1, a1, a2, a3, a4⟩ := W4_further hM hH hL hT k1 ⟨_, e1⟩
  obtain ⟨F1, hB1, hTB1, -⟩ := a1.fb e1 e2
  have hb1 : ∃ fs, h1 A.2.2.2.1 = some (.inr (5, fs)) := by obtain ⟨-, _, _, z, -⟩ := hB1; exact ⟨_, z⟩
  refine ⟨hv, vR_mk a1.obj rfl ⟨hb1, ?_⟩⟩
  refine vC_r (B_solutions hl hB1 (ord := ord) hw hw0 a1.I0) (by decide) (by decide) (by decide) fun v3 h3 hR3 => ?_
  obtain ⟨fo, fi, Q, rfl, n1, n2, k3, hB3, hF3, hr⟩ := hR3
  obtain ⟨-, rb3, g3, hb3, hth3, hf3, -⟩ := hB3
  obtain ⟨tg4, b1, b2, b3, b4⟩ := W4_further a1 a2 a3 a4 k3 ⟨_, hth3⟩
  exact ⟨fo, rfl, fo, fi, Q, rfl, ⟨I, tg4, li, sl, sb, A, b1, b2, b3, b4⟩, hF3, hr⟩
theorem B_count0 (hl : l.stackTraces = false) (hW : WS Z G h x S) : aC l G mX1_solutionCount (wsN mX1_solutionCount) 42 2 29 [.ref x] h (aPR fun v h' => v = some (.int (i3 (resN S.1.1 S.1.2))) ∧ WS Z G h' x S) := by
  have hx : ∃ fs, h x = some (.inr (1, fs)) := by obtain ⟨I, tg, li, sl, sb, A, hM, -⟩ := hW; exact ⟨_, hM.obj⟩
  refine A_X1_solutionCount hl ⟨hx, ?_⟩
  refine vC_r (B_found hl hW (wanted := 200) (ord := false) (by decide) (by decide)) (by decide) (by decide) (by decide) fun v h1 hR => ?_
  obtain ⟨fo, fi, Q, rfl, hW1, ⟨ff, sm, f1, -⟩, hr⟩ := hR
  refine ⟨fo, rfl, vI_mk f1 rfl ⟨?_, hW1⟩⟩
  rw [resV_len hr]; rfl
theorem B_solutionCount (hl : l.stackTraces = false) (hW : WS Z G h x S) : aC l G mX1_solutionCount (wsN mX1_solutionCount) 50 2000 150000 [.ref x] h (opP Z G x (countF S, S)) := by
  have hx : ∃ fs, h x = some (.inr (1, fs)) := by obtain ⟨I, tg, li, sl, sb, A, hM, -⟩ := hW; exact ⟨_, hM.obj⟩
  refine A_X1_solutionCount hl ⟨hx, ?_⟩
  refine vC_r (B_found hl hW (wanted := 200) (ord := false) (by decide) (by decide)) (by decide) (by decide) (by decide) fun v h1 hR => ?_
  obtain ⟨fo, fi, Q, rfl, hW1, ⟨ff, sm, f1, -⟩, hr⟩ := hR
  refine ⟨fo, rfl, vI_mk f1 rfl ⟨?_, hW1⟩⟩
  rw [resV_len hr]; rfl
theorem B_firstThing (hl : l.stackTraces = false) (hW : WS Z G h x S) {c : Int32} : aC l G mX1_firstThing (wsN mX1_firstThing) 50 2000 150000 [.ref x, .int c] h (opP Z G x (firstF S c, S)) := by
  have hW0 := hW
  obtain ⟨I, tg, li, sl, sb, A, hM, -⟩ := hW
  have hok := hM.ok
  have hn := hok.n45
  have hnn := nn_le hn
  refine A_X1_firstThing hl ⟨⟨_, hM.obj⟩, ?_⟩
  refine vC_c (B_checkCell hl hM) (by decide) (by decide) (by decide) (fun q => ⟨rfl, ⟨_, hM.obj⟩, ?_⟩) (fun q => ⟨by unfold firstF; rw [q]; rfl, hW0⟩)
  have eF : firstF S c = .inl (some (.int (if sols S.1.1 S.1.2 = [] then -1 else i3 (((sols S.1.1 S.1.2).headD []).getD c.toNatClampNeg 0)))) := by unfold firstF; rw [q]; rfl
  rw [eF]
  obtain ⟨ci, hc, rfl⟩ := isI_get (by omega) q
  rw [i3_nat (by omega)]
  refine vC_r (B_found hl hW0 (wanted := 1) (ord := true) (by decide) (by decide)) (by decide) (by decide) (by decide) fun v h1 hR => ?_
  obtain ⟨fo, fi, Q, rfl, hW1, ⟨ff, sm, f1, f2, f3, f4, f5⟩, hr⟩ := hR
  have hQ1 : Q.length ≤ 1 := hr.1
  have e0 : (i3 Q.length = 0) = (Q.length = 0) := i3_eq (b := 0) (by omega) (by decide)
  refine ⟨fo, rfl, vI_mk f1 rfl ?_⟩
  rw [e0]
  refine ⟨fun q0 => vR_mk f1 rfl ?_, fun q0 => ⟨?_, hW1⟩⟩
  · have hne : Q ≠ [] := fun e => q0 (by rw [e]; rfl)
    obtain ⟨g1, g2⟩ := resV_head hr hne
    obtain ⟨g3, g4⟩ := f5 hne ci hc
    refine vA_mk f2 rfl (by omega : ci < 25) (by decide) ?_
    rw [g3]
    have h5 : ∀ t : Fin 5, 1 <<< t.1 < 4096 ∧ 1 <<< t.1 ≠ 0 ∧ ntz (1 <<< t.1) = t.1 := by decide +kernel
    obtain ⟨y1, y2, y3⟩ := h5 ⟨_, g4⟩
    refine vC_p (B_ntz hl y1 y2) (by decide) (by decide) (by decide) ⟨_, rfl, ?_, hW1⟩
    have y3' : ntz (1 <<< (Q.headD []).getD ci 0) = (Q.headD []).getD ci 0 := y3
    rw [y3', if_neg g1, g2]
  · have hs : sols S.1.1 S.1.2 = [] := by
      have := resV_len hr
      exact List.length_eq_zero_iff.mp (by omega)
    rw [if_pos hs]
theorem B_sameInAll (hl : l.stackTraces = false) (hW : WS Z G h x S) : aC l G mX1_sameInAll (wsN mX1_sameInAll) 50 2000 150000 [.ref x] h (opP Z G x (sameF S, S)) := by
  have hx : ∃ fs, h x = some (.inr (1, fs)) := by obtain ⟨I, tg, li, sl, sb, A, hM, -⟩ := hW; exact ⟨_, hM.obj⟩
  refine A_X1_sameInAll hl ⟨hx, ?_⟩
  refine vC_r (B_found hl hW (wanted := 200) (ord := false) (by decide) (by decide)) (by decide) (by decide) (by decide) fun v h1 hR => ?_
  obtain ⟨fo, fi, Q, rfl, hW1, ⟨ff, sm, f1, f2, f3, f4, f5⟩, hr⟩ := hR
  have hW10 := hW1
  obtain ⟨I, tg, li, sl, sb, A, hM, -⟩ := hW1
  have hok := hM.ok
  have hn := hok.n45
  have hnn := nn_le hn
  obtain ⟨F, hP⟩ := hM.pz
  have hlen := resV_len hr
  have e0 : (i3 Q.length = 0) = (Q.length = 0) := i3_eq (b := 0) (by omega) (by decide)
  have e2 : (i3 Q.length = 200) = (Q.length = 200) := i3_eq (b := 200) (by omega) (by decide)
  refine ⟨fo, rfl, vR_mk hM.obj rfl ⟨hM.pobj, vC_p (B_cellCount hl hP) (by decide) (by decide) (by decide) ⟨_, rfl, fun v10 hv10 => vI_mk f1 rfl ?_⟩⟩⟩
  rw [e0]
  refine ⟨fun q0 => ⟨?_, hW10⟩, fun q0 => vI_mk f1 rfl ?_⟩
  · unfold sameF resN
    rw [if_pos (Or.inl (by omega))]
  · rw [e2]
    refine ⟨fun q2 => vI_mk f1 rfl ⟨?_, hW10⟩, fun q2 => ⟨?_, hW10⟩⟩
    · unfold sameF resN
      rw [if_neg (by omega)]
      have hp := resV_all hr (by omega)
      have e5 : v10 = i3 (2 ^ (S.1.1.n * S.1.1.n) - 1) := by
        rw [hv10, show (1 : Int32) = i3 1 from rfl, i3_shl (by omega), Nat.one_shiftLeft]
        exact i3_sub (b := 1) (Nat.two_pow_pos _)
      have e6 : sm &&& (2 ^ (S.1.1.n * S.1.1.n) - 1) = sameN S.1.1 (sols S.1.1 S.1.2) := by
        refine Nat.eq_of_testBit_eq fun c => ?_
        unfold sameN
        rw [Nat.testBit_and, Nat.testBit_two_pow_sub_one, setB_bit]
        by_cases q : c < S.1.1.n * S.1.1.n
        · rw [decide_eq_true q, Bool.and_true, Bool.true_and, f4 c q, agree_perm hp]
        · rw [decide_eq_false q, Bool.and_false, Bool.false_and]
      rw [e5, i3_and, e6]
      rw [i3_long]
      have := setB_lt (agreeB (sols S.1.1 S.1.2)) (S.1.1.n * S.1.1.n)
      have h25 : 2 ^ (S.1.1.n * S.1.1.n) ≤ 2 ^ 25 := Nat.pow_le_pow_right (n := 2) (by decide) hnn
      unfold sameN
      omega
    · unfold sameF resN
      rw [if_pos (Or.inr (by omega))]
theorem B_isNeeded (hl : l.stackTraces = false) (hW : WS Z G h x S) {e : Int32} : aC l G mX1_isNeeded (wsX mX1_isNeeded) 50 2000 150000 [.ref x, .int e] h (opP Z G x (neededF S e, S)) := by
  have hW0 := hW
  obtain ⟨I, tg, li, sl, sb, A, hM, -⟩ := hW
  have hok := hM.ok
  have hn := hok.n45
  have hm := hok.m24
  obtain ⟨F, hP⟩ := hM.pz
  obtain ⟨tl, ls, lo, ar, rw, T, L, R, sec, -, hbd, -, -, -, ho, hT1, hT2, ⟨hs1, hs2⟩, -⟩ := hP
  refine A_X1_isNeeded hl ⟨⟨_, hM.obj⟩, ?_⟩
  refine vC_c (B_checkEdge hl hM) (by decide) (by decide) (by decide) (fun q => ⟨rfl, vR_mk hM.obj rfl (vR_mk ho rfl ?_)⟩) (fun q => ⟨by unfold neededF; rw [q]; rfl, hW0⟩)
  have q0 := q
  obtain ⟨ei, he, rfl⟩ := isI_get (by omega) q
  have hb := hbd ei (by omega)
  have eF : neededF S (i3 ei) = (if S.1.1.tl ei = 0 then .inr exS else .inl (some (.int (bI (decide (resN S.1.1 S.1.2 < resN (S.1.1.setT ei 0) S.1.2)))))) := by unfold neededF; rw [q0, i3_nat (by omega)]; rfl
  refine vA_mk hT1 rfl (by omega : ei < 20) (by decide) ?_
  rw [hT2 ei (by omega)]
  simp only [letV_m1 (t := S.1.1.tl ei) (by omega)]
  rw [bI_if']
  refine vC_c (B_checkState hl) (by decide) (by decide) (by decide) (fun q3 => ⟨rfl, vR_mk hM.obj rfl (vI_mk ho rfl ?_)⟩) (fun q3 => ?_)
  · have q4 : ¬ S.1.1.tl ei = 0 := of_decide_eq_true q3
    rw [eF, if_neg q4]
    refine vC_p (B_has hl (by omega) (by omega)) (by decide) (by decide) (by decide) ⟨_, rfl, ⟨_, hM.obj⟩, ?_⟩
    rw [hs2 ei (by omega)]
    refine vC_r (B_count0 hl hW0) (by decide) (by decide) (by decide) fun v1 h1 hR1 => ?_
    obtain ⟨rfl, hW1⟩ := hR1
    obtain ⟨I1, tg1, li1, sl1, sb1, A1, hM1, hH1, hL1, hTx1⟩ := hW1
    obtain ⟨F1, hP1, tF1, hFs1⟩ := hM1.pzF
    have ht3 : aC l G mX3_tell (wsN mX3_tell) 0 0 0 [.ref A1.1.2.1, .int (i3 ei), .int (-1), .int 0] h1 _ := B_tell3 (G := G) hl hP1 (e := ei) (t := 0) (by omega) (Nat.zero_le _)
    refine ⟨_, rfl, vR_mk hM1.obj rfl ⟨hM1.pobj, ?_⟩⟩
    refine vC_r ht3 (by decide) (by decide) (by decide) fun v2 h2 hR2 => ?_
    obtain ⟨rfl, k2, hP2⟩ := hR2
    have hIk : ∀ q, I1 q → h2 q ≠ none := fun q hq => by
      cases z2 : h1 q with
      | none => exact absurd z2 (hM1.I0 q hq)
      | some y => rw [k2 _ _ z2 (fun w => by have := tF1 q w; have := hM1.I1 q hq; omega)]; simp
    have hW2 : WS Z G h2 x ((S.1.1.setT ei 0, S.1.2), S.2) := WS_setP (p' := S.1.1.setT ei 0) hM1 hH1 hL1 hTx1 rfl rfl hP2 tF1 hFs1 k2 extI.rf hIk
    have hx2 := k2 _ _ hM1.obj (fun w => by have := tF1 x w; have := hM1.2.1.1; omega)
    refine ⟨_, rfl, ⟨_, hx2⟩, ?_⟩
    refine ⟨42, 2, 29, _, B_count0 hl hW2, by decide, by decide, by decide, fun v3 h3 hR3 => ?_, fun E h3 hR3 => by exact hR3⟩
    obtain ⟨rfl, hW3⟩ := hR3
    obtain ⟨I3, tg3, li3, sl3, sb3, A3, hM3, hH3, hL3, hTx3⟩ := hW3
    obtain ⟨F3, hP3, tF3, hFs3⟩ := hM3.pzF
    have hP3 : PZ I3 h3 A3.1.2.1 F3 (S.1.1.setT ei 0) := hP3
    have ht4 := B_tell3 (G := G) hl hP3 (e := ei) (t := S.1.1.tl ei) (by omega) hb
    rw [setT_setT rfl] at ht4
    refine ⟨_, rfl, vR_mk hM3.obj rfl ⟨hM3.pobj, ?_⟩⟩
    refine vC_r ht4 (by decide) (by decide) (by decide) fun v4 h4 hR4 => ?_
    obtain ⟨rfl, k4, hP4⟩ := hR4
    have hIk4 : ∀ q, I3 q → h4 q ≠ none := fun q hq => by
      cases z2 : h3 q with
      | none => exact absurd z2 (hM3.I0 q hq)
      | some y => rw [k4 _ _ z2 (fun w => by have := tF3 q w; have := hM3.I1 q hq; omega)]; simp
    have hW4 : WS Z G h4 x ((S.1.1, S.1.2), S.2) := WS_setP (p' := S.1.1) hM3 hH3 hL3 hTx3 rfl rfl hP4 tF3 hFs3 k4 extI.rf hIk4
    have r1 : resN S.1.1 S.1.2 ≤ 200 := Nat.min_le_left _ _
    have r2 : resN (S.1.1.setT ei 0) S.1.2 ≤ 200 := Nat.min_le_left _ _
    refine ⟨_, rfl, ?_⟩
    have e9 : (if i3 (resN (S.1.1.setT ei 0) S.1.2) ≤ i3 (resN S.1.1 S.1.2) then (0 : Int32) else 1) = bI (decide (resN S.1.1 S.1.2 < resN (S.1.1.setT ei 0) S.1.2)) := by
      rw [bI_if']
      congr 1
      rw [decide_eq_decide, i3_le (by omega) (by omega)]
      omega
    show vB (if i3 (resN (S.1.1.setT ei 0) S.1.2) ≤ i3 (resN S.1.1 S.1.2) then (0 : Int32) else 1) ∧ _
    rw [e9]
    exact ⟨vB_bI, rfl, hW4⟩
  · have q4 : S.1.1.tl ei = 0 := by
      have := of_decide_eq_false q3
      omega
    exact ⟨by rw [eF, if_pos q4], hW0⟩
end XF
