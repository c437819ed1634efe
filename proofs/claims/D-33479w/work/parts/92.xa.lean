/-! the component's methods: checks, and those that only read
-/
set_option maxRecDepth 100000
abbrev exI : String := "java/lang/IndexOutOfBoundsException"
abbrev exA : String := "java/lang/IllegalArgumentException"
abbrev exS : String := "java/lang/IllegalStateException"
abbrev vi (n : Nat) : aR := .inl (some (.int (i3 n)))
/-- an answer, and the state behind it -/
def opP (Z : zT) (G : aG) (x : Nat) (O : aR × ST) : aR → aH → Prop := fun r h' => r = O.1 ∧ WS Z G h' x O.2
section CHK
variable {Z : zT} {h : aH} {l : Launch} {G : aG} {M2 : aM} {ws : List Cond} {d d2 mc mc2 ms ms2 c s : Nat} {as : List Value} {X : String → aH → Nat → Nat → Prop}
theorem vC_c {K : Option Value → aH → Nat → Nat → Prop} {b : Bool} {E : String} (hC : aC l G M2 ws d2 mc2 ms2 as h (chk b E h)) (hd : d2 + 1 ≤ d) (hc : c + mc2 ≤ mc) (hs : s + ms2 ≤ ms) (kk : b = true → K none h (c + mc2) (s + ms2)) (kx : b = false → X E h (c + mc2) (s + ms2)) : vC l G M2 ws d mc ms as h c s X K := by
  refine ⟨d2, mc2, ms2, _, hC, hd, hc, hs, fun v h' q => ?_, fun E' h' q => ?_⟩
  · obtain ⟨rfl, q⟩ := q
    cases b with
    | true => cases q; exact kk rfl
    | false => cases q
  · obtain ⟨rfl, q⟩ := q
    cases b with
    | true => cases q
    | false => cases q; exact kx rfl
end CHK
section XA
variable {Z : zT} {l : Launch} {G : aG} {I : Nat → Prop} {h : aH} {tg : Nat → Nat} {x li sl sb : Nat} {A : adT} {p : Pz} {w : Nat → Nat}
theorem WM.pz (hM : WM Z I h tg x li sl sb A p w) : ∃ F, PZ I h A.1.2.1 F p := by
  obtain ⟨F, hB, -⟩ := hM.bd
  exact ⟨F, hB.1⟩
theorem B_checkEdge (hl : l.stackTraces = false) (hM : WM Z I h tg x li sl sb A p w) {e : Int32} : aC l G mX1_checkEdge (wsN mX1_checkEdge) 7 1 6 [.ref x, .int e] h (chk (isI e (4 * p.n)) exI h) := by
  obtain ⟨F, hP⟩ := hM.pz
  have hn := hP.ok.n45
  have hP0 := hP
  obtain ⟨tl, ls, lo, ar, rw, T, L, R, sec, hok, -, -, -, -, ho, -⟩ := hP
  refine A_X1_checkEdge hl (vR_mk hM.obj rfl ⟨⟨_, ho⟩, ?_⟩)
  refine vC_p (B_edgeCount hl hP0) (by decide) (by decide) (by decide) ⟨_, rfl, ?_⟩
  refine vC_p (B_isIn hl (by omega) (by omega)) (by decide) (by decide) (by decide) ⟨_, rfl, ?_⟩
  refine vC_c (B_checkIndex hl) (by decide) (by decide) (by decide) (fun q => ⟨rfl, rfl, by rw [q]; rfl⟩) (fun q => ⟨rfl, by rw [q]; rfl⟩)
theorem B_checkCell (hl : l.stackTraces = false) (hM : WM Z I h tg x li sl sb A p w) {e : Int32} : aC l G mX1_checkCell (wsN mX1_checkCell) 7 1 6 [.ref x, .int e] h (chk (isI e (p.n * p.n)) exI h) := by
  obtain ⟨F, hP⟩ := hM.pz
  have hn := hP.ok.n45
  have hnn := nn_le hn
  have h0 : 0 < p.n * p.n := Nat.mul_pos (by omega) (by omega)
  have hP0 := hP
  obtain ⟨tl, ls, lo, ar, rw, T, L, R, sec, hok, -, -, -, -, ho, -⟩ := hP
  refine A_X1_checkCell hl (vR_mk hM.obj rfl ⟨⟨_, ho⟩, ?_⟩)
  refine vC_p (B_cellCount hl hP0) (by decide) (by decide) (by decide) ⟨_, rfl, ?_⟩
  refine vC_p (B_isIn hl h0 (by omega)) (by decide) (by decide) (by decide) ⟨_, rfl, ?_⟩
  refine vC_c (B_checkIndex hl) (by decide) (by decide) (by decide) (fun q => ⟨rfl, rfl, by rw [q]; rfl⟩) (fun q => ⟨rfl, by rw [q]; rfl⟩)
theorem B_checkLine (hl : l.stackTraces = false) (hM : WM Z I h tg x li sl sb A p w) {e : Int32} : aC l G mX1_checkLine (wsN mX1_checkLine) 7 1 6 [.ref x, .int e] h (chk (isI e p.nL) exI h) := by
  obtain ⟨F, hP⟩ := hM.pz
  have hn := hP.ok.n45
  have hL := nL_le hP.ok
  have hP0 := hP
  obtain ⟨tl, ls, lo, ar, rw, T, L, R, sec, hok, -, -, -, -, ho, -⟩ := hP
  refine A_X1_checkLine hl (vR_mk hM.obj rfl ⟨⟨_, ho⟩, ?_⟩)
  refine vC_p (B_lineCount hl hP0) (by decide) (by decide) (by decide) ⟨_, rfl, ?_⟩
  refine vC_p (B_isIn hl (by omega) (by omega)) (by decide) (by decide) (by decide) ⟨_, rfl, ?_⟩
  refine vC_c (B_checkIndex hl) (by decide) (by decide) (by decide) (fun q => ⟨rfl, rfl, by rw [q]; rfl⟩) (fun q => ⟨rfl, by rw [q]; rfl⟩)
theorem B_checkPlace (hl : l.stackTraces = false) (hM : WM Z I h tg x li sl sb A p w) {e k : Int32} : aC l G mX1_checkPlace (wsN mX1_checkPlace) 8 2 12 [.ref x, .int e, .int k] h (chk (isI e p.nL && isI k p.n) exI h) := by
  obtain ⟨F, hP⟩ := hM.pz
  have hn := hP.ok.n45
  have hP0 := hP
  obtain ⟨tl, ls, lo, ar, rw, T, L, R, sec, hok, -, -, -, -, ho, -⟩ := hP
  refine A_X1_checkPlace hl ⟨⟨_, hM.obj⟩, ?_⟩
  refine vC_c (B_checkLine hl hM) (by decide) (by decide) (by decide) (fun q => ⟨rfl, vR_mk hM.obj rfl (vI_mk ho rfl ?_)⟩) (fun q => ⟨rfl, by rw [q]; rfl⟩)
  refine vC_p (B_isIn hl (by omega) (by omega)) (by decide) (by decide) (by decide) ⟨_, rfl, ?_⟩
  refine vC_c (B_checkIndex hl) (by decide) (by decide) (by decide) (fun q2 => ⟨rfl, rfl, by rw [q, q2]; rfl⟩) (fun q2 => ⟨rfl, by rw [q, q2]; rfl⟩)
theorem B_checkLetter (hl : l.stackTraces = false) (hM : WM Z I h tg x li sl sb A p w) {e : Int32} : aC l G mX1_checkLetter (wsN mX1_checkLetter) 7 1 6 [.ref x, .int e] h (chk (isI e p.m) exA h) := by
  obtain ⟨F, hP⟩ := hM.pz
  have hm := hP.ok.m24
  obtain ⟨tl, ls, lo, ar, rw, T, L, R, sec, hok, -, -, -, -, ho, -⟩ := hP
  refine A_X1_checkLetter hl (vR_mk hM.obj rfl (vI_mk ho rfl ?_))
  refine vC_p (B_isIn hl (by omega) (by omega)) (by decide) (by decide) (by decide) ⟨_, rfl, ?_⟩
  refine vC_c (B_checkArgument hl) (by decide) (by decide) (by decide) (fun q => ⟨rfl, rfl, by rw [q]; rfl⟩) (fun q => ⟨rfl, by rw [q]; rfl⟩)
theorem B_checkThing (hl : l.stackTraces = false) (hM : WM Z I h tg x li sl sb A p w) {e : Int32} : aC l G mX1_checkThing (wsN mX1_checkThing) 7 1 6 [.ref x, .int e] h (chk (isI e (p.m + 1)) exA h) := by
  obtain ⟨F, hP⟩ := hM.pz
  have hm := hP.ok.m24
  obtain ⟨tl, ls, lo, ar, rw, T, L, R, sec, hok, -, -, -, -, ho, -⟩ := hP
  have e1 : i3 p.m = i3 (p.m + 1) - 1 := (i3_sub (b := 1) (by omega : 1 ≤ p.m + 1)).symm
  refine A_X1_checkThing hl (vR_mk hM.obj rfl (vI_mk ho rfl ?_))
  rw [e1]
  refine vC_p (B_isIn hl (by omega) (by omega)) (by decide) (by decide) (by decide) ⟨_, rfl, ?_⟩
  refine vC_c (B_checkArgument hl) (by decide) (by decide) (by decide) (fun q => ⟨rfl, rfl, by rw [q]; rfl⟩) (fun q => ⟨rfl, by rw [q]; rfl⟩)
/-- new things beside what stands -/
theorem WS.grow {h' : aH} {S : ST} (hW : WS Z G h x S) (hk : kp (fun _ => False) h h') : WS Z G h' x S := by
  obtain ⟨I, tg, li, sl, sb, A, hM, hH, hL, hT⟩ := hW
  have hIt := hM.I1
  have st : stp (fun _ => False) I I h h' tg tg := by
    refine ⟨hk, fun _ h => h, fun q hq => ⟨?_, hIt q hq⟩, fun _ _ => rfl⟩
    cases z : h q with
    | none => exact absurd z (hM.I0 q hq)
    | some y => rw [hk _ _ z id]; simp
  exact ⟨I, tg, li, sl, sb, A, hM.keep st (fun _ => False.elim), hH.keep st hIt (fun _ => False.elim), hL.keep st hIt (fun _ => False.elim), hT.keep st (fun _ => False.elim)⟩
end XA
section XB
variable {Z : zT} {l : Launch} {G : aG} {h : aH} {x : Nat} {S : ST}
theorem B_side (hl : l.stackTraces = false) (hW : WS Z G h x S) : aC l G mX1_side (wsN mX1_side) 50 2000 150000 [.ref x] h (opP Z G x (vi S.1.1.n, S)) := by
  have hW0 := hW
  obtain ⟨I, tg, li, sl, sb, A, hM, -⟩ := hW
  obtain ⟨F, hP⟩ := hM.pz
  obtain ⟨tl, ls, lo, ar, rw, T, L, R, sec, hok, -, -, -, -, ho, -⟩ := hP
  exact A_X1_side hl (vR_mk hM.obj rfl (vI_mk ho rfl ⟨rfl, hW0⟩))
theorem B_letterCount (hl : l.stackTraces = false) (hW : WS Z G h x S) : aC l G mX1_letterCount (wsN mX1_letterCount) 50 2000 150000 [.ref x] h (opP Z G x (vi S.1.1.m, S)) := by
  have hW0 := hW
  obtain ⟨I, tg, li, sl, sb, A, hM, -⟩ := hW
  obtain ⟨F, hP⟩ := hM.pz
  obtain ⟨tl, ls, lo, ar, rw, T, L, R, sec, hok, -, -, -, -, ho, -⟩ := hP
  exact A_X1_letterCount hl (vR_mk hM.obj rfl (vI_mk ho rfl ⟨rfl, hW0⟩))
theorem B_xlineCount (hl : l.stackTraces = false) (hW : WS Z G h x S) : aC l G mX1_lineCount (wsN mX1_lineCount) 50 2000 150000 [.ref x] h (opP Z G x (vi S.1.1.nL, S)) := by
  have hW0 := hW
  obtain ⟨I, tg, li, sl, sb, A, hM, -⟩ := hW
  obtain ⟨F, hP⟩ := hM.pz
  have hP0 := hP
  obtain ⟨tl, ls, lo, ar, rw, T, L, R, sec, hok, -, -, -, -, ho, -⟩ := hP
  exact A_X1_lineCount hl (vR_mk hM.obj rfl ⟨⟨_, ho⟩, vC_p (B_lineCount hl hP0) (by decide) (by decide) (by decide) ⟨_, rfl, rfl, hW0⟩⟩)
theorem B_tellingCount (hl : l.stackTraces = false) (hW : WS Z G h x S) : aC l G mX1_tellingCount (wsN mX1_tellingCount) 50 2000 150000 [.ref x] h (opP Z G x (vi (toldN S.1.1), S)) := by
  have hW0 := hW
  obtain ⟨I, tg, li, sl, sb, A, hM, -⟩ := hW
  obtain ⟨F, hP⟩ := hM.pz
  have hP0 := hP
  obtain ⟨tl, ls, lo, ar, rw, T, L, R, sec, hok, -, -, -, -, ho, -⟩ := hP
  exact A_X1_tellingCount hl (vR_mk hM.obj rfl ⟨⟨_, ho⟩, vC_p (B_told hl hP0) (by decide) (by decide) (by decide) ⟨_, rfl, rfl, hW0⟩⟩)
def tellingAtF (S : ST) (e : Int32) : aR := if isI e (4 * S.1.1.n) then .inl (some (.int (letV (S.1.1.tl e.toNatClampNeg)))) else .inr exI
theorem B_tellingAt (hl : l.stackTraces = false) (hW : WS Z G h x S) {e : Int32} : aC l G mX1_tellingAt (wsN mX1_tellingAt) 50 2000 150000 [.ref x, .int e] h (opP Z G x (tellingAtF S e, S)) := by
  have hW0 := hW
  obtain ⟨I, tg, li, sl, sb, A, hM, -⟩ := hW
  obtain ⟨F, hP⟩ := hM.pz
  have hn := hP.ok.n45
  obtain ⟨tl, ls, lo, ar, rw, T, L, R, sec, hok, -, -, -, -, ho, ht, ht2, -⟩ := hP
  refine A_X1_tellingAt hl ⟨⟨_, hM.obj⟩, ?_⟩
  refine vC_c (B_checkEdge hl hM) (by decide) (by decide) (by decide) (fun q => ⟨rfl, vR_mk hM.obj rfl (vR_mk ho rfl ?_)⟩) (fun q => ⟨by unfold tellingAtF; rw [q]; rfl, hW0⟩)
  obtain ⟨k, hk, rfl⟩ := isI_get (by omega) q
  refine vA_mk ht rfl (by omega : k < 20) (by decide) ⟨?_, hW0⟩
  unfold tellingAtF
  rw [q, if_pos rfl, ht2 k (by omega), i3_nat (by omega)]
def isSecondF (S : ST) (e : Int32) : aR := if isI e (4 * S.1.1.n) then .inl (some (.int (bI (S.1.1.tl e.toNatClampNeg != 0 && S.1.1.tl e.toNatClampNeg % 2 == 0)))) else .inr exI
theorem B_isSecond (hl : l.stackTraces = false) (hW : WS Z G h x S) {e : Int32} : aC l G mX1_isSecond (wsN mX1_isSecond) 50 2000 150000 [.ref x, .int e] h (opP Z G x (isSecondF S e, S)) := by
  have hW0 := hW
  obtain ⟨I, tg, li, sl, sb, A, hM, -⟩ := hW
  obtain ⟨F, hP⟩ := hM.pz
  have hn := hP.ok.n45
  obtain ⟨tl, ls, lo, ar, rw, T, L, R, sec, hok, -, -, -, -, ho, ht, ht2, ⟨hs1, hs2⟩, -⟩ := hP
  refine A_X1_isSecond hl ⟨⟨_, hM.obj⟩, ?_⟩
  refine vC_c (B_checkEdge hl hM) (by decide) (by decide) (by decide) (fun q => ⟨rfl, vR_mk hM.obj rfl (vI_mk ho rfl ?_)⟩) (fun q => ⟨by unfold isSecondF; rw [q]; rfl, hW0⟩)
  obtain ⟨k, hk, rfl⟩ := isI_get (by omega) q
  refine vC_p (B_has hl (by omega) (by omega)) (by decide) (by decide) (by decide) ⟨_, rfl, vB_bI, ?_, hW0⟩
  unfold isSecondF
  rw [q, if_pos rfl, hs2 k (by omega), i3_nat (by omega)]
def cellOfF (S : ST) (e k : Int32) : aR := if isI e S.1.1.nL && isI k S.1.1.n then vi (cellN S.1.1.n e.toNatClampNeg k.toNatClampNeg) else .inr exI
theorem B_xcellOf (hl : l.stackTraces = false) (hW : WS Z G h x S) {e k : Int32} : aC l G mX1_cellOf (wsN mX1_cellOf) 50 2000 150000 [.ref x, .int e, .int k] h (opP Z G x (cellOfF S e k, S)) := by
  have hW0 := hW
  obtain ⟨I, tg, li, sl, sb, A, hM, -⟩ := hW
  obtain ⟨F, hP⟩ := hM.pz
  have hn := hP.ok.n45
  have hL := nL_le hP.ok
  obtain ⟨tl, ls, lo, ar, rw, T, L, R, sec, hok, -, -, -, -, ho, ht, ht2, -, hls, hrw, -⟩ := hP
  refine A_X1_cellOf hl ⟨⟨_, hM.obj⟩, ?_⟩
  refine vC_c (B_checkPlace hl hM) (by decide) (by decide) (by decide) (fun q => ⟨rfl, vR_mk hM.obj rfl (vR_mk ho rfl ?_)⟩) (fun q => ⟨by unfold cellOfF; rw [q]; rfl, hW0⟩)
  have q0 := q
  rw [Bool.and_eq_true] at q
  obtain ⟨i, hi, rfl⟩ := isI_get (by omega) q.1
  obtain ⟨j, hj, rfl⟩ := isI_get (by omega) q.2
  obtain ⟨r1, f, r2, r3⟩ := hrw i (by omega)
  refine vAR_mk hls rfl (by omega : i < 12) (by decide) r1 (vA_mk r2 rfl (by omega : j < 5) (by decide) ⟨?_, hW0⟩)
  unfold cellOfF
  rw [q0, if_pos rfl, r3 hi j hj, i3_nat (by omega), i3_nat (by omega)]
def thingsOfF (S : ST) (e : Int32) : aR := if isI e (S.1.1.n * S.1.1.n) then vi (S.1.2 e.toNatClampNeg) else .inr exI
theorem B_thingsOf (hl : l.stackTraces = false) (hW : WS Z G h x S) {e : Int32} : aC l G mX1_thingsOf (wsN mX1_thingsOf) 50 2000 150000 [.ref x, .int e] h (opP Z G x (thingsOfF S e, S)) := by
  have hW0 := hW
  obtain ⟨I, tg, li, sl, sb, A, hM, -⟩ := hW
  obtain ⟨F, hB, -⟩ := hM.bd
  have hn := hB.ok.n45
  have hnn := nn_le hn
  obtain ⟨hP, rb, f, hb, ht, hf, -⟩ := hB
  refine A_X1_thingsOf hl ⟨⟨_, hM.obj⟩, ?_⟩
  refine vC_c (B_checkCell hl hM) (by decide) (by decide) (by decide) (fun q => ⟨rfl, vR_mk hM.obj rfl (vR_mk hb rfl ?_)⟩) (fun q => ⟨by unfold thingsOfF; rw [q]; rfl, hW0⟩)
  obtain ⟨k, hk, rfl⟩ := isI_get (by omega) q
  refine vA_mk ht rfl (by omega : k < 25) (by decide) ⟨?_, hW0⟩
  unfold thingsOfF
  rw [q, if_pos rfl, (hf k hk).1, i3_nat (by omega)]
theorem B_xisBroken (hl : l.stackTraces = false) (hW : WS Z G h x S) : aC l G mX1_isBroken (wsN mX1_isBroken) 50 2000 150000 [.ref x] h (opP Z G x (.inl (some (.int (bI (brkB S.1.1 S.1.2)))), S)) := by
  have hW0 := hW
  obtain ⟨I, tg, li, sl, sb, A, hM, -⟩ := hW
  obtain ⟨F, hB, -⟩ := hM.bd
  have hB0 := hB
  obtain ⟨hP, rb, f, hb, -⟩ := hB
  exact A_X1_isBroken hl (vR_mk hM.obj rfl ⟨⟨_, hb⟩, vC_p (B_isBroken hl hB0) (by decide) (by decide) (by decide) ⟨_, rfl, vB_bI, rfl, hW0⟩⟩)
theorem B_xisSolved (hl : l.stackTraces = false) (hW : WS Z G h x S) : aC l G mX1_isSolved (wsN mX1_isSolved) 50 2000 150000 [.ref x] h (opP Z G x (.inl (some (.int (bI (doneB S.1.1 S.1.2 && !brkB S.1.1 S.1.2)))), S)) := by
  have hW0 := hW
  obtain ⟨I, tg, li, sl, sb, A, hM, -⟩ := hW
  obtain ⟨F, hB, -⟩ := hM.bd
  have hB0 := hB
  obtain ⟨hP, rb, f, hb, -⟩ := hB
  exact A_X1_isSolved hl (vR_mk hM.obj rfl ⟨⟨_, hb⟩, vC_p (B_isSolved hl hB0) (by decide) (by decide) (by decide) ⟨_, rfl, vB_bI, rfl, hW0⟩⟩)
theorem B_xbrokenLines (hl : l.stackTraces = false) (hW : WS Z G h x S) : aC l G mX1_brokenLines (wsN mX1_brokenLines) 50 2000 150000 [.ref x] h (opP Z G x (vi (brkSet S.1.1 S.1.2), S)) := by
  have hW0 := hW
  obtain ⟨I, tg, li, sl, sb, A, hM, -⟩ := hW
  obtain ⟨F, hB, -⟩ := hM.bd
  have hB0 := hB
  obtain ⟨hP, rb, f, hb, -⟩ := hB
  exact A_X1_brokenLines hl (vR_mk hM.obj rfl ⟨⟨_, hb⟩, vC_p (B_brokenLines hl hB0) (by decide) (by decide) (by decide) ⟨_, rfl, rfl, hW0⟩⟩)
def arrangementsF (S : ST) (e : Int32) : aR := if isI e S.1.1.nL then vi (fitL S.1.1 S.1.2 e.toNatClampNeg).length else .inr exI
theorem B_xarrangements (hl : l.stackTraces = false) (hW : WS Z G h x S) {e : Int32} : aC l G mX1_arrangements (wsN mX1_arrangements) 50 2000 150000 [.ref x, .int e] h (opP Z G x (arrangementsF S e, S)) := by
  have hW0 := hW
  obtain ⟨I, tg, li, sl, sb, A, hM, -⟩ := hW
  obtain ⟨F, hB, -⟩ := hM.bd
  have hL := nL_le hB.ok
  have hB0 := hB
  obtain ⟨hP, rb, f, hb, -⟩ := hB
  refine A_X1_arrangements hl ⟨⟨_, hM.obj⟩, ?_⟩
  refine vC_c (B_checkLine hl hM) (by decide) (by decide) (by decide) (fun q => ⟨rfl, vR_mk hM.obj rfl ⟨⟨_, hb⟩, ?_⟩⟩) (fun q => ⟨by unfold arrangementsF; rw [q]; rfl, hW0⟩)
  obtain ⟨k, hk, rfl⟩ := isI_get (by omega) q
  refine vC_r (B_arrangements hl hB0 hk hM.I0) (by decide) (by decide) (by decide) fun v h1 hR => ?_
  obtain ⟨rfl, k1⟩ := hR
  refine ⟨_, rfl, ?_, hW0.grow k1⟩
  unfold arrangementsF
  rw [q, if_pos rfl, i3_nat (by omega)]
theorem B_byCells (hl : l.stackTraces = false) (hW : WS Z G h x S) {e : Int32} : aC l G mX1_arrangementsByCells (wsN mX1_arrangementsByCells) 50 2000 150000 [.ref x, .int e] h (opP Z G x (arrangementsF S e, S)) := by
  have hW0 := hW
  obtain ⟨I, tg, li, sl, sb, A, hM, -⟩ := hW
  obtain ⟨F, hB, -⟩ := hM.bd
  have hok := hB.ok
  have hn := hok.n45
  have hL := nL_le hok
  have hB0 := hB
  obtain ⟨hP, rb, f, hb, ht, hf, m1, m2, m3, m4⟩ := hB
  have hFs := PZ_some hP
  have hobj : ∃ fs, h A.1.2.1 = some (.inr (3, fs)) ∧ fs[4]? = some (.int (i3 S.1.1.n)) := by
    obtain ⟨tl, ls, lo, ar, rw, T, L, R, sec, -, -, -, -, -, ho, -⟩ := hP
    exact ⟨_, ho, rfl⟩
  obtain ⟨fs, ho, ho4⟩ := hobj
  refine A_X1_arrangementsByCells hl ⟨⟨_, hM.obj⟩, ?_⟩
  refine vC_c (B_checkLine hl hM) (by decide) (by decide) (by decide) (fun q => ⟨rfl, vR_mk hM.obj rfl (vR_mk hM.obj rfl (vI_mk ho ho4 ⟨S.1.1.n, by rw [i3_neg_lt (by omega)]; exact id, i3_nat (by omega), by omega, by decide, by omega, fun y hy _ => ?_⟩))⟩) (fun q => ⟨by unfold arrangementsF; rw [q]; rfl, hW0⟩)
  obtain ⟨k, hk, rfl⟩ := isI_get (by omega) q
  have k0 : kp (fun _ => False) h (aUp h y (aInts .int S.1.1.n fun _ => 0)) := kp.new hy
  have nyt : y ≠ A.1.2.2.2 := fun z => by rw [z, ht] at hy; cases hy
  have nyb : y ≠ A.1.2.2.1 := fun z => by rw [z, hb] at hy; cases hy
  have nyF : y ∉ F := fun z => hFs y z hy
  have nyI : ¬ I y := fun z => hM.I0 y z hy
  have hB1 : BD I (aUp h y (aInts .int S.1.1.n fun _ => 0)) A.1.2.2.1 A.1.2.1 A.1.2.2.2 F S.1.1 S.1.2 := hB0.oth (th2 := y) (k0.mono fun _ => False.elim) (Ne.symm nyt) (Ne.symm nyb) nyF nyI
  have hc := B_countFrom (G := G) hl hk nyt nyb nyF nyI S.1.1.n (aUp h y (aInts .int S.1.1.n fun _ => 0)) (fun _ => 0) [] (Nat.zero_add _) hB1 aUp_eq (fun j hj => absurd hj (Nat.not_lt_zero _)) ⟨fun t ht => (by cases ht), fun j hj => absurd hj (Nat.not_lt_zero _)⟩
  have e0 : mskN S.1.1.m [] = 0 := by unfold mskN maskN; simp
  rw [e0] at hc
  refine ⟨⟨_, k0 _ _ hb id⟩, ?_⟩
  refine vC_r hc (by omega) (by decide) (by omega) fun v h1 hR => ?_
  obtain ⟨rfl, k1, -⟩ := hR
  refine ⟨_, rfl, ?_, hW0.grow fun q2 y2 hy2 _ => k1 _ _ (k0 _ _ hy2 id) (fun z => by rw [z, hy] at hy2; cases hy2)⟩
  unfold arrangementsF
  rw [q, if_pos rfl, i3_nat (by omega), ext_fit hok]
def thingsInF (S : ST) (e k : Int32) : aR := if isI e S.1.1.nL && isI k S.1.1.n then vi (poss S.1.1 S.1.2 e.toNatClampNeg k.toNatClampNeg) else .inr exI
theorem B_xthingsIn (hl : l.stackTraces = false) (hW : WS Z G h x S) {e k : Int32} : aC l G mX1_thingsIn (wsN mX1_thingsIn) 50 2000 150000 [.ref x, .int e, .int k] h (opP Z G x (thingsInF S e k, S)) := by
  have hW0 := hW
  obtain ⟨I, tg, li, sl, sb, A, hM, -⟩ := hW
  obtain ⟨F, hB, -⟩ := hM.bd
  have hn := hB.ok.n45
  have hL := nL_le hB.ok
  have hB0 := hB
  obtain ⟨hP, rb, f, hb, -⟩ := hB
  refine A_X1_thingsIn hl ⟨⟨_, hM.obj⟩, ?_⟩
  refine vC_c (B_checkPlace hl hM) (by decide) (by decide) (by decide) (fun q => ⟨rfl, vR_mk hM.obj rfl ⟨⟨_, hb⟩, ?_⟩⟩) (fun q => ⟨by unfold thingsInF; rw [q]; rfl, hW0⟩)
  have q0 := q
  rw [Bool.and_eq_true] at q
  obtain ⟨i, hi, rfl⟩ := isI_get (by omega) q.1
  obtain ⟨j, hj, rfl⟩ := isI_get (by omega) q.2
  refine vC_p (B_thingsIn hl hB0 hi hj) (by decide) (by decide) (by decide) ⟨_, rfl, ?_, hW0⟩
  unfold thingsInF
  rw [q0, if_pos rfl, i3_nat (by omega), i3_nat (by omega)]
theorem B_undoCount (hl : l.stackTraces = false) (hW : WS Z G h x S) : aC l G mX1_undoCount (wsN mX1_undoCount) 50 2000 150000 [.ref x] h (opP Z G x (vi S.2.1.length, S)) := by
  have hW0 := hW
  obtain ⟨I, tg, li, sl, sb, A, hM, hH, -⟩ := hW
  exact A_X1_undoCount hl (vR_mk hM.obj rfl ⟨hH.obj, vC_p (B_hsize hl hH) (by decide) (by decide) (by decide) ⟨_, rfl, rfl, hW0⟩⟩)
theorem B_textLength (hl : l.stackTraces = false) (hW : WS Z G h x S) : aC l G mX1_textLength (wsN mX1_textLength) 50 2000 150000 [.ref x] h (opP Z G x (vi S.2.2.2.length, S)) := by
  have hW0 := hW
  obtain ⟨I, tg, li, sl, sb, A, hM, -, -, -, va, -, hV, -⟩ := hW
  have hV0 := hV
  obtain ⟨cap, f, mk, ho, -⟩ := hV
  exact A_X1_textLength hl (vR_mk hM.obj rfl ⟨⟨_, ho⟩, vC_p (B_sblen hl hV0) (by decide) (by decide) (by decide) ⟨_, rfl, rfl, hW0⟩⟩)
end XB
