/-! the component's methods: steps and reasons
-/
set_option maxRecDepth 100000
noncomputable def nextV (p : Pz) (w : Nat → Nat) (most : Nat) : Int32 := Classical.epsilon (stepX p w most)
noncomputable def stepsV (p : Pz) (w : Nat → Nat) (most : Nat) : Nat × (Nat → Nat) := @Classical.epsilon (Nat × (Nat → Nat)) ⟨(0, w)⟩ fun r => stepsR p most r.1 w r.2
noncomputable def rsnV (p : Pz) (w : Nat → Nat) (c x : Nat) : Int32 := Classical.epsilon (rsnX p w c x)
theorem nextV_eq {p : Pz} {w : Nat → Nat} {most : Nat} {y : Int32} (h : stepX p w most y) : nextV p w most = y := stepX_uniq (Classical.epsilon_spec (p := stepX p w most) ⟨y, h⟩) h
theorem rsnV_eq {p : Pz} {w : Nat → Nat} {c x : Nat} {y : Int32} (h : rsnX p w c x y) : rsnV p w c x = y := rsnX_uniq (Classical.epsilon_spec (p := rsnX p w c x) ⟨y, h⟩) h
theorem stepsV_eq {p : Pz} {w w' : Nat → Nat} {most k : Nat} (h : stepsR p most k w w') : stepsV p w most = (k, w') := by
  have h0 : ∃ r : Nat × (Nat → Nat), stepsR p most r.1 w r.2 := ⟨(k, w'), h⟩
  have h1 : stepsR p most (stepsV p w most).1 w (stepsV p w most).2 := Classical.epsilon_spec h0
  obtain ⟨e1, e2⟩ := stepsR_uniq h1 h
  exact Prod.ext e1 e2
noncomputable def nextF (S : ST) : aR := .inl (some (.int (nextV S.1.1 S.1.2 6)))
noncomputable def stepF (S : ST) : aR × ST := if nextV S.1.1 S.1.2 6 = -1 then (.inr exS, S) else (vi ((nextV S.1.1 S.1.2 6).toNatClampNeg / 1000), setW (rcS true S) (setC S.1.2 ((nextV S.1.1 S.1.2 6).toNatClampNeg % 1000 / 10) (clr (S.1.2 ((nextV S.1.1 S.1.2 6).toNatClampNeg % 1000 / 10)) ((nextV S.1.1 S.1.2 6).toNatClampNeg % 10))))
noncomputable def stepAllF (S : ST) (r : Int32) : aR × ST := if inI r 1 6 then (vi (stepsV S.1.1 S.1.2 r.toNatClampNeg).1, setW (rcS true S) (stepsV S.1.1 S.1.2 r.toNatClampNeg).2) else (.inr exA, S)
noncomputable def upToF (S : ST) (r : Int32) : aR := if inI r 1 6 then vi (stepsV S.1.1 S.1.2 r.toNatClampNeg).1 else .inr exA
def solvB (p : Pz) (u : Nat → Nat) : Bool := doneB p u && !brkB p u
noncomputable def hardR (p : Pz) (w : Nat → Nat) : Nat → Nat → Nat
  | 0, _ => 7
  | k + 1, r => if solvB p (stepsV p w r).2 then r else hardR p w k (r + 1)
noncomputable def hardF (S : ST) : aR := vi (if solvB S.1.1 S.1.2 then 0 else hardR S.1.1 S.1.2 6 1)
noncomputable def reasonF (S : ST) (c t : Int32) : aR := if isI c (S.1.1.n * S.1.1.n) then (if isI t (S.1.1.m + 1) then .inl (some (.int (if (S.1.2 c.toNatClampNeg).testBit t.toNatClampNeg && !(pc (S.1.2 c.toNatClampNeg) == 1) && !brkB S.1.1 S.1.2 then rsnV S.1.1 S.1.2 c.toNatClampNeg t.toNatClampNeg else 0))) else .inr exA) else .inr exI
section XEW
variable {Z : zT} {G : aG} {I : Nat → Prop} {h h' : aH} {tg : Nat → Nat} {x li sl sb : Nat} {A : adT} {p : Pz} {w u : Nat → Nat} {hist : List stT} {slots : Nat → Option stT} {text : List Nat} {g : Nat → Int32}
theorem WM.tobj (hM : WM Z I h tg x li sl sb A p w) : (∃ rb f, h A.2.1 = some (aObj 5 [.ref A.1.2.1, .ref A.2.2.1, .ref rb]) ∧ h A.2.2.1 = some (aInts .int 25 f)) ∧ tg A.2.1 = 6 ∧ tg A.2.2.1 = 6 := by
  obtain ⟨-, -, -, F, FB, FT, FU, -, -, ⟨⟨f, hT⟩, tT, -⟩, -⟩ := hM
  obtain ⟨m1, m2⟩ := hT.mem
  obtain ⟨rb, rr, R, -, a1, a2, -⟩ := hT
  exact ⟨⟨rb, f, a1, a2⟩, tT _ m1, tT _ m2⟩
theorem WM.fobj (hM : WM Z I h tg x li sl sb A p w) : (∃ rb f, h A.2.2.2.1 = some (aObj 5 [.ref A.1.2.1, .ref A.2.2.2.2, .ref rb]) ∧ h A.2.2.2.2 = some (aInts .int 25 f)) ∧ tg A.2.2.2.1 = 7 ∧ tg A.2.2.2.2 = 7 := by
  obtain ⟨-, -, -, F, FB, FT, FU, -, -, -, ⟨f, hT⟩, tT, -⟩ := hM
  obtain ⟨m1, m2⟩ := hT.mem
  obtain ⟨rb, rr, R, -, a1, a2, -⟩ := hT
  exact ⟨⟨rb, f, a1, a2⟩, tT _ m1, tT _ m2⟩
/-- the further board with some things, and the board for trying beside it -/
theorem WM.fb (hM : WM Z I h tg x li sl sb A p w) (hg : h A.2.2.2.2 = some (aInts .int 25 g)) (hgw : ∀ c, c < p.n * p.n → g c = i3 (u c) ∧ u c < 2 ^ (p.m + 1)) : ∃ F, BD I h A.2.2.2.1 A.1.2.1 A.2.2.2.2 F p u ∧ TB I h A.2.2.2.1 A.2.2.2.2 A.1.2.1 A.2.1 A.2.2.1 F p ∧ ∀ q ∈ F, tg q = 4 := by
  obtain ⟨⟨hI, hZ⟩, -, -, F, FB, FT, FU, ⟨hP, tF⟩, -, ⟨⟨ft, hT⟩, tT, nT⟩, ⟨fu, hU⟩, tU, nU⟩ := hM
  obtain ⟨m1, m2⟩ := hU.mem
  obtain ⟨k1, k2⟩ := hT.mem
  have hU2 : BRD h A.2.2.2.1 A.1.2.1 A.2.2.2.2 FU g := by
    obtain ⟨rb, rr, R, eB, a1, a2, a3, a4⟩ := hU
    exact ⟨rb, rr, R, eB, a1, hg, a3, a4⟩
  refine ⟨F, (hU2.bdr hP fun q hq => ⟨fun z => ?_, fun z => ?_⟩).bd hgw, ⟨⟨ft, hT.bdr hP fun q hq => ⟨fun z => ?_, fun z => ?_⟩⟩, fun e => ?_, fun e => ?_, fun e => ?_⟩, tF⟩
  · have := tF q z; have := tU q hq; omega
  · have := (hI q z).2; have := tU q hq; omega
  · have := tF q z; have := tT q hq; omega
  · have := (hI q z).2; have := tT q hq; omega
  · have y1 := tU _ m2; have := tT _ k2; rw [e] at y1; omega
  · have y1 := tU _ m1; have := tT _ k2; rw [e] at y1; omega
  · have := tU _ m2; have := tT _ k1; rw [e] at this; omega
/-- only the two other boards' things changed: all else stands -/
theorem W4_tried (hM : WM Z I h tg x li sl sb A p w) (hH : WH G I h tg li hist) (hL : WL I h tg sl slots) (hT : WT h tg sb text) (hk : kp (fun q => q = A.2.2.1 ∨ q = A.2.2.2.2) h h') (h1 : ∃ f, h' A.2.2.1 = some (aInts .int 25 f)) (h2 : ∃ f, h' A.2.2.2.2 = some (aInts .int 25 f)) : ∃ tg', WM Z I h' tg' x li sl sb A p w ∧ WH G I h' tg' li hist ∧ WL I h' tg' sl slots ∧ WT h' tg' sb text := by
  obtain ⟨tg', st, hM'⟩ := hM.tried hk h1 h2
  have t6 := hM.tobj.2.2
  have t7 := hM.fobj.2.2
  have hS : ∀ q, (q = A.2.2.1 ∨ q = A.2.2.2.2) → tg q = 6 ∨ tg q = 7 := fun q z => z.elim (fun e => Or.inl (by rw [e]; exact t6)) (fun e => Or.inr (by rw [e]; exact t7))
  exact ⟨tg', hM', hH.keep st hM.I1 (fun q z => by have := hS q z; omega), hL.keep st hM.I1 (fun q z => by have := hS q z; omega), hT.keep st (fun q z => by have := hS q z; omega)⟩
/-- the trial board alone changed -/
theorem W4_trial (hM : WM Z I h tg x li sl sb A p w) (hH : WH G I h tg li hist) (hL : WL I h tg sl slots) (hT : WT h tg sb text) (hk : kp (· = A.2.2.1) h h') (h1 : ∃ f, h' A.2.2.1 = some (aInts .int 25 f)) : ∃ tg', WM Z I h' tg' x li sl sb A p w ∧ WH G I h' tg' li hist ∧ WL I h' tg' sl slots ∧ WT h' tg' sb text := by
  obtain ⟨⟨rb, f, -, hf⟩, -, t7⟩ := hM.fobj
  have t6 := hM.tobj.2.2
  exact W4_tried hM hH hL hT (hk.mono fun q z => Or.inl z) h1 ⟨f, hk _ _ hf (fun e => by rw [e, t6] at t7; cases t7)⟩
/-- the further board alone changed -/
theorem W4_further (hM : WM Z I h tg x li sl sb A p w) (hH : WH G I h tg li hist) (hL : WL I h tg sl slots) (hT : WT h tg sb text) (hk : kp (· = A.2.2.2.2) h h') (h1 : ∃ f, h' A.2.2.2.2 = some (aInts .int 25 f)) : ∃ tg', WM Z I h' tg' x li sl sb A p w ∧ WH G I h' tg' li hist ∧ WL I h' tg' sl slots ∧ WT h' tg' sb text := by
  obtain ⟨⟨rb, f, -, hf⟩, -, t6⟩ := hM.tobj
  have t7 := hM.fobj.2.2
  exact W4_tried hM hH hL hT (hk.mono fun q z => Or.inr z) ⟨f, hk _ _ hf (fun e => by rw [e, t7] at t6; cases t6)⟩ h1
end XEW
section XE
variable {Z : zT} {l : Launch} {G : aG} {h : aH} {x : Nat} {S : ST}
theorem WM.bobj {I : Nat → Prop} {tg : Nat → Nat} {li sl sb : Nat} {A : adT} {p : Pz} {w : Nat → Nat} (hM : WM Z I h tg x li sl sb A p w) : ∃ fs, h A.1.2.2.1 = some (.inr (5, fs)) := by
  obtain ⟨F, hB, -⟩ := hM.bd
  obtain ⟨-, rb, f, hb, -⟩ := hB
  exact ⟨_, hb⟩
theorem WM.pobj {I : Nat → Prop} {tg : Nat → Nat} {li sl sb : Nat} {A : adT} {p : Pz} {w : Nat → Nat} (hM : WM Z I h tg x li sl sb A p w) : ∃ fs, h A.1.2.1 = some (.inr (3, fs)) := by
  obtain ⟨F, hP⟩ := hM.pz
  obtain ⟨tl, ls, lo, ar, rw, T, L, R, sec, -, -, -, -, -, ho, -⟩ := hP
  exact ⟨_, ho⟩
/-- the further board set to what is now -/
theorem vC_copyTo (hl : l.stackTraces = false) {I : Nat → Prop} {tg : Nat → Nat} {li sl sb : Nat} {A : adT} {p : Pz} {w : Nat → Nat} (hM : WM Z I h tg x li sl sb A p w) {d mc ms c s : Nat} {X : String → aH → Nat → Nat → Prop} {K : Option Value → aH → Nat → Nat → Prop} (hd : 2 ≤ d) (hc : c ≤ mc) (hs : s ≤ ms) (kk : ∀ v h', v = none ∧ kp (· = A.2.2.2.2) h h' ∧ (∃ g', h' A.2.2.2.2 = some (aInts .int 25 g') ∧ ∀ c, c < p.n * p.n → g' c = i3 (w c) ∧ w c < 2 ^ (p.m + 1)) → K v h' (c + 0) (s + 0)) : vC l G mX5_setThings (wsN mX5_setThings) d mc ms [.ref A.2.2.2.1, .ref A.1.2.2.1] h c s X K := by
  have hn := hM.ok.n45
  have hnn := nn_le hn
  obtain ⟨F, hB, -⟩ := hM.bd
  obtain ⟨-, rb, f, hb, hth, hf, -⟩ := hB
  obtain ⟨⟨rb2, f2, o1, o2⟩, -⟩ := hM.fobj
  refine vC_r (B_setThings hl hb hth o1 o2) (by omega) (by omega) (by omega) fun v h' hr => ?_
  obtain ⟨hv, k, g', e1, e2⟩ := hr
  exact kk v h' ⟨hv, k, g', e1, fun c hc => by rw [e2 c (by omega)]; exact hf c hc⟩
theorem B_nextStep (hl : l.stackTraces = false) (hW : WS Z G h x S) : aC l G mX1_nextStep (wsN mX1_nextStep) 50 2000 150000 [.ref x] h (opP Z G x (nextF S, S)) := by
  obtain ⟨I, tg, li, sl, sb, A, hM, hH, hL, hT⟩ := hW
  obtain ⟨F, hB, hTB, -⟩ := hM.tb
  refine A_X1_nextStep hl (vR_mk hM.obj rfl (vR_mk hM.obj rfl ⟨hM.bobj, ?_⟩))
  refine vC_r (B_next hl hB hTB (most := 6) (by decide)) (by decide) (by decide) (by decide) fun v h1 hR => ?_
  obtain ⟨y, rfl, hy, k1, hB1, ⟨f1, hT1⟩, -⟩ := hR
  obtain ⟨tg1, a1, a2, a3, a4⟩ := W4_trial hM hH hL hT k1 (by obtain ⟨-, -, -, z, -⟩ := hT1; exact ⟨_, z⟩)
  exact ⟨_, rfl, by unfold nextF; rw [nextV_eq hy], I, tg1, li, sl, sb, A, a1, a2, a3, a4⟩
theorem B_step (hl : l.stackTraces = false) (hW : WS Z G h x S) : aC l G mX1_step (wsN mX1_step) 50 2000 150000 [.ref x] h (opP Z G x (stepF S)) := by
  obtain ⟨I, tg, li, sl, sb, A, hM, hH, hL, hT⟩ := hW
  obtain ⟨F, hB, hTB, -⟩ := hM.tb
  have hn := hM.ok.n45
  have hm := hM.ok.m24
  have hnn := nn_le hn
  refine A_X1_step hl (vR_mk hM.obj rfl (vR_mk hM.obj rfl ⟨hM.bobj, ?_⟩))
  refine vC_r (B_next hl hB hTB (most := 6) (by decide)) (by decide) (by decide) (by decide) fun v h1 hR => ?_
  obtain ⟨y, rfl, hy, k1, hB1, ⟨f1, hT1⟩, -⟩ := hR
  obtain ⟨tg1, a1, a2, a3, a4⟩ := W4_trial hM hH hL hT k1 (by obtain ⟨-, -, -, z, -⟩ := hT1; exact ⟨_, z⟩)
  have hW1 : WS Z G h1 x S := ⟨I, tg1, li, sl, sb, A, a1, a2, a3, a4⟩
  have ey := nextV_eq hy
  refine ⟨_, rfl, ?_⟩
  simp only [bI_if']
  refine vC_c (B_checkState hl) (by decide) (by decide) (by decide) (fun q => ⟨rfl, ⟨_, a1.obj⟩, ?_⟩) (fun q => ?_)
  · have q' : ¬ y = -1 := of_decide_eq_true q
    rcases hy with ⟨r, c, t, hs, e⟩ | ⟨-, e⟩
    · have hcd := hs.2.1
      have hr : r ≤ 6 := hcd.2.1
      have hc := hcd.2.2.1
      have ht := hcd.2.2.2.1
      have eF : stepF S = (vi r, setW (rcS true S) (setC S.1.2 c (clr (S.1.2 c) t))) := by
        unfold stepF
        rw [ey, if_neg q', e, i3_nat (by omega), show (1000 * r + 10 * c + t) / 1000 = r by omega, show (1000 * r + 10 * c + t) % 1000 / 10 = c by omega, show (1000 * r + 10 * c + t) % 10 = t by omega]
      rw [eF, e]
      refine vC_r (B_recordZ hl hW1 (z := true)) (by decide) (by decide) (by decide) fun v h2 hR2 => ?_
      obtain ⟨hv, I2, tg2, li2, sl2, sb2, A2, hM2, hH2, hL2, hT2⟩ := hR2
      rw [rcS_1] at hM2
      obtain ⟨F2, hB2, -⟩ := hM2.bd
      refine ⟨hv, vR_mk hM2.obj rfl ⟨hM2.bobj, ?_⟩⟩
      refine vC_r (B_make hl hB2 hr hc ht) (by decide) (by decide) (by decide) fun v3 h3 hR3 => ?_
      obtain ⟨rfl, k3, hB3⟩ := hR3
      obtain ⟨-, rb3, f3, hb3, ht3, hf3, -⟩ := hB3
      exact ⟨_, rfl, rfl, WS_setW hM2 hH2 hL2 hT2 k3 ht3 hf3⟩
    · exact absurd e q'
  · have q' : y = -1 := by
      have := of_decide_eq_false q
      exact Decidable.not_not.mp this
    have eF : stepF S = (.inr exS, S) := by unfold stepF; rw [ey, if_pos q']
    rw [eF]
    exact ⟨rfl, hW1⟩
theorem B_checkReason (hl : l.stackTraces = false) {r : Int32} : aC l G mX1_checkReason (wsN mX1_checkReason) 8 1 6 [.int r] h (chk (inI r 1 6) exA h) := by
  refine A_X1_checkReason hl (vC_p (B_isInG hl) (by decide) (by decide) (by decide) ⟨_, rfl, ?_⟩)
  refine vC_c (B_checkArgument hl) (by decide) (by decide) (by decide) (fun q => ⟨rfl, rfl, by rw [q]; rfl⟩) (fun q => ⟨rfl, by rw [q]; rfl⟩)
theorem B_xstepAll (hl : l.stackTraces = false) (hW : WS Z G h x S) {r : Int32} : aC l G mX1_stepAll (wsN mX1_stepAll) 50 2000 150000 [.ref x, .int r] h (opP Z G x (stepAllF S r)) := by
  have hx : ∃ fs, h x = some (.inr (1, fs)) := by obtain ⟨I, tg, li, sl, sb, A, hM, -⟩ := hW; exact ⟨_, hM.obj⟩
  refine A_X1_stepAll hl ?_
  refine vC_c (B_checkReason hl) (by decide) (by decide) (by decide) (fun q => ⟨rfl, hx, ?_⟩) (fun q => ⟨by unfold stepAllF; rw [q]; rfl, by unfold stepAllF; rw [q]; exact hW⟩)
  have eF : stepAllF S r = (vi (stepsV S.1.1 S.1.2 r.toNatClampNeg).1, setW (rcS true S) (stepsV S.1.1 S.1.2 r.toNatClampNeg).2) := by unfold stepAllF; rw [q]; rfl
  rw [eF]
  obtain ⟨k, hk1, hk2, rfl⟩ := inI_get (a := 1) (b := 6) (by decide) (by decide) q
  rw [i3_nat (by omega)]
  refine vC_r (B_recordZ hl hW (z := true)) (by decide) (by decide) (by decide) fun v h2 hR2 => ?_
  obtain ⟨hv, I2, tg2, li2, sl2, sb2, A2, hM2, hH2, hL2, hT2⟩ := hR2
  rw [rcS_1] at hM2
  obtain ⟨F2, hB2, hTB2, -⟩ := hM2.tb
  refine ⟨hv, vR_mk hM2.obj rfl (vR_mk hM2.obj rfl ⟨hM2.bobj, ?_⟩)⟩
  refine vC_r (B_stepAll hl hB2 hTB2 (most := k) (by omega)) (by decide) (by decide) (by decide) fun v3 h3 hR3 => ?_
  obtain ⟨kk, u', rfl, hst, k3, hB3, ⟨f3, hT3⟩, -⟩ := hR3
  refine ⟨_, rfl, by rw [stepsV_eq hst], ?_⟩
  rw [stepsV_eq hst]
  obtain ⟨⟨rbt, ft, t1, t2⟩, tg6, tg6b⟩ := hM2.tobj
  obtain ⟨-, rb3, g3, hb3, hth3, hf3, -⟩ := hB3
  obtain ⟨-, rbt3, o3, ot3, -⟩ := hT3
  -- the trial's things first, then the board's
  have tb5 : tg2 A2.1.2.2.2 = 5 := by obtain ⟨F, -, -, z, -⟩ := hM2.bd; exact z
  have hne : A2.1.2.2.2 ≠ A2.2.2.1 := fun e => by rw [e, tg6b] at tb5; cases tb5
  obtain ⟨F0, hB0, -⟩ := hM2.bd
  obtain ⟨-, rb0, f0, hb0, hth0, hf0, -⟩ := hB0
  have km : kp (· = A2.2.2.1) h2 (aUp h3 A2.1.2.2.2 (aInts .int 25 f0)) := fun q e he hq => by
    by_cases z : q = A2.1.2.2.2
    · rw [z, aUp_eq, ← hth0, ← z, he]
    · rw [aUp_ne z]
      exact k3 q e he (fun y => y.elim z hq)
  obtain ⟨tg4, a1, a2, a3, a4⟩ := W4_trial hM2 hH2 hL2 hT2 km ⟨f3, by rw [aUp_ne (Ne.symm hne)]; exact ot3⟩
  have kf : kp (· = A2.1.2.2.2) (aUp h3 A2.1.2.2.2 (aInts .int 25 f0)) h3 := fun q e he hq => by
    rw [aUp_ne hq] at he; exact he
  exact WS_setW a1 a2 a3 a4 kf hth3 hf3
theorem B_stepsUpTo (hl : l.stackTraces = false) (hW : WS Z G h x S) {r : Int32} : aC l G mX1_stepsUpTo (wsN mX1_stepsUpTo) 50 2000 150000 [.ref x, .int r] h (opP Z G x (upToF S r, S)) := by
  have hW0 := hW
  obtain ⟨I, tg, li, sl, sb, A, hM, hH, hL, hT⟩ := hW
  refine A_X1_stepsUpTo hl ?_
  obtain ⟨⟨rbf, ff, of1, of2⟩, -, tf7⟩ := hM.fobj
  refine vC_c (B_checkReason hl) (by decide) (by decide) (by decide) (fun q => ⟨rfl, vR_mk hM.obj rfl (vR_mk hM.obj rfl ⟨⟨_, of1⟩, ?_⟩)⟩) (fun q => ⟨by unfold upToF; rw [q]; rfl, hW0⟩)
  have eF : upToF S r = vi (stepsV S.1.1 S.1.2 r.toNatClampNeg).1 := by unfold upToF; rw [q]; rfl
  rw [eF]
  obtain ⟨k, hk1, hk2, rfl⟩ := inI_get (a := 1) (b := 6) (by decide) (by decide) q
  rw [i3_nat (by omega)]
  refine vC_copyTo hl hM (by decide) (by decide) (by decide) fun v h1 hR1 => ?_
  obtain ⟨hv, k1, g1, e1, e2⟩ := hR1
  obtain ⟨tg1, a1, a2, a3, a4⟩ := W4_further hM hH hL hT k1 ⟨_, e1⟩
  obtain ⟨F1, hB1, hTB1, -⟩ := a1.fb e1 e2
  have hb1 : ∃ fs, h1 A.2.2.2.1 = some (.inr (5, fs)) := by obtain ⟨-, _, _, z, -⟩ := hB1; exact ⟨_, z⟩
  refine ⟨hv, vR_mk a1.obj rfl (vR_mk a1.obj rfl ⟨hb1, ?_⟩)⟩
  refine vC_r (B_stepAll hl hB1 hTB1 (most := k) (by omega)) (by decide) (by decide) (by decide) fun v3 h3 hR3 => ?_
  obtain ⟨kk, u', rfl, hst, k3, hB3, ⟨f3, hT3⟩, -⟩ := hR3
  refine ⟨_, rfl, by rw [stepsV_eq hst], ?_⟩
  obtain ⟨-, rb3, g3, hb3, hth3, hf3, -⟩ := hB3
  obtain ⟨-, rbt3, o3, ot3, -⟩ := hT3
  obtain ⟨tg4, b1, b2, b3, b4⟩ := W4_tried a1 a2 a3 a4 (k3.mono fun q z => z.elim Or.inr Or.inl) ⟨_, ot3⟩ ⟨_, hth3⟩
  exact ⟨I, tg4, li, sl, sb, A, b1, b2, b3, b4⟩
theorem B_hardness (hl : l.stackTraces = false) (hW : WS Z G h x S) : aC l G mX1_hardness (wsN mX1_hardness) 50 2000 150000 [.ref x] h (opP Z G x (hardF S, S)) := by
  have loop : ∀ k r h1, r + k = 7 → 1 ≤ r → WS Z G h1 x S → T_X1_hardness_14 l G 50 2000 150000 (opP Z G x (vi (hardR S.1.1 S.1.2 k r), S)) x (i3 r) h1 0 0 := by
    intro k
    induction k with
    | zero =>
      intro r h1 hr h0 hW1
      have : r = 7 := by omega
      subst this
      exact A_X1_hardness_14 hl ⟨fun _ => ⟨rfl, hW1⟩, fun q => absurd (by decide) q⟩
    | succ k ih =>
      intro r h1 hr h0 hW1
      obtain ⟨I, tg, li, sl, sb, A, hM, hH, hL, hT⟩ := hW1
      obtain ⟨⟨rbf, ff, of1, of2⟩, -, tf7⟩ := hM.fobj
      have e6 : ((6 : Int32) < i3 r) = (6 < r) := i3_lt (a := 6) (by decide) (by omega)
      refine A_X1_hardness_14 hl ⟨fun q => absurd (by rwa [e6] at q) (by omega : ¬ 6 < r), fun _ => vR_mk hM.obj rfl (vR_mk hM.obj rfl ⟨⟨_, of1⟩, ?_⟩)⟩
      refine vC_copyTo hl hM (by decide) (by decide) (by decide) fun v h2 hR1 => ?_
      obtain ⟨hv, k1, g1, e1, e2⟩ := hR1
      obtain ⟨tg1, a1, a2, a3, a4⟩ := W4_further hM hH hL hT k1 ⟨_, e1⟩
      obtain ⟨F1, hB1, hTB1, -⟩ := a1.fb e1 e2
      have hb1 : ∃ fs, h2 A.2.2.2.1 = some (.inr (5, fs)) := by obtain ⟨-, _, _, z, -⟩ := hB1; exact ⟨_, z⟩
      refine ⟨hv, vR_mk a1.obj rfl (vR_mk a1.obj rfl ⟨hb1, ?_⟩)⟩
      refine vC_r (B_stepAll hl hB1 hTB1 (most := r) (by omega)) (by decide) (by decide) (by decide) fun v3 h3 hR3 => ?_
      obtain ⟨kk, u', rfl, hst, k3, hB3, ⟨f3, hT3⟩, -⟩ := hR3
      have hB30 := hB3
      obtain ⟨-, rb3, g3, hb3, hth3, hf3, -⟩ := hB3
      obtain ⟨-, rbt3, o3, ot3, -⟩ := hT3
      obtain ⟨tg4, b1, b2, b3, b4⟩ := W4_tried a1 a2 a3 a4 (k3.mono fun q z => z.elim Or.inr Or.inl) ⟨_, ot3⟩ ⟨_, hth3⟩
      have hW3 : WS Z G h3 x S := ⟨I, tg4, li, sl, sb, A, b1, b2, b3, b4⟩
      refine ⟨_, rfl, vR_mk b1.obj rfl ⟨⟨_, hb3⟩, vC_p (B_isSolved hl hB30) (by decide) (by decide) (by decide) ⟨_, rfl, fun q => ?_, fun q => ?_⟩⟩⟩
      · rw [bI_eq0] at q
        have eH : hardR S.1.1 S.1.2 (k + 1) r = hardR S.1.1 S.1.2 k (r + 1) := by
          show (if solvB S.1.1 (stepsV S.1.1 S.1.2 r).2 then r else hardR S.1.1 S.1.2 k (r + 1)) = _
          rw [stepsV_eq hst]
          exact if_neg (by unfold solvB; rw [q]; decide)
        rw [eH, i3_succ]
        exact ih (r + 1) h3 (by omega) (by omega) hW3
      · rw [bI_eq0] at q
        have q' : (doneB S.1.1 u' && !brkB S.1.1 u') = true := by
          cases z : (doneB S.1.1 u' && !brkB S.1.1 u') with
          | true => rfl
          | false => exact absurd z q
        have eH : hardR S.1.1 S.1.2 (k + 1) r = r := by
          show (if solvB S.1.1 (stepsV S.1.1 S.1.2 r).2 then r else hardR S.1.1 S.1.2 k (r + 1)) = _
          rw [stepsV_eq hst]
          exact if_pos q'
        exact ⟨by rw [eH], hW3⟩
  have hW0 := hW
  obtain ⟨I, tg, li, sl, sb, A, hM, hH, hL, hT⟩ := hW
  obtain ⟨F, hB, -⟩ := hM.bd
  refine A_X1_hardness hl (vR_mk hM.obj rfl ⟨hM.bobj, vC_p (B_isSolved hl hB) (by decide) (by decide) (by decide) ⟨_, rfl, fun q => ?_, fun q => ?_⟩⟩)
  · rw [bI_eq0] at q
    have e : hardF S = vi (hardR S.1.1 S.1.2 6 1) := by
      unfold hardF solvB
      rw [q]; rfl
    rw [e]
    exact loop 6 1 h rfl (by decide) hW0
  · rw [bI_eq0] at q
    have q' : (doneB S.1.1 S.1.2 && !brkB S.1.1 S.1.2) = true := by
      cases z : (doneB S.1.1 S.1.2 && !brkB S.1.1 S.1.2) with
      | true => rfl
      | false => exact absurd z q
    have e : hardF S = vi 0 := by
      unfold hardF solvB
      rw [q']; rfl
    rw [e]
    exact ⟨rfl, hW0⟩
theorem B_xreasonFor (hl : l.stackTraces = false) (hW : WS Z G h x S) {c t : Int32} : aC l G mX1_reasonFor (wsN mX1_reasonFor) 50 2000 150000 [.ref x, .int c, .int t] h (opP Z G x (reasonF S c t, S)) := by
  have hW0 := hW
  obtain ⟨I, tg, li, sl, sb, A, hM, hH, hL, hT⟩ := hW
  have hok := hM.ok
  have hn := hok.n45
  have hm := hok.m24
  have hnn := nn_le hn
  have h32 := pow_le hm.2.2
  obtain ⟨F, hB, hTB, -⟩ := hM.tb
  have hB0 := hB
  obtain ⟨-, rb, f, hb, hth, hf, -⟩ := hB
  refine A_X1_reasonFor hl ⟨⟨_, hM.obj⟩, ?_⟩
  refine vC_c (B_checkCell hl hM) (by decide) (by decide) (by decide) (fun q => ⟨rfl, ⟨_, hM.obj⟩, ?_⟩) (fun q => ⟨by unfold reasonF; rw [q]; rfl, hW0⟩)
  refine vC_c (B_checkThing hl hM) (by decide) (by decide) (by decide) (fun q2 => ⟨rfl, vR_mk hM.obj rfl (vR_mk hb rfl ?_)⟩) (fun q2 => ⟨by unfold reasonF; rw [q, q2]; rfl, hW0⟩)
  have eF : reasonF S c t = .inl (some (.int (if (S.1.2 c.toNatClampNeg).testBit t.toNatClampNeg && !(pc (S.1.2 c.toNatClampNeg) == 1) && !brkB S.1.1 S.1.2 then rsnV S.1.1 S.1.2 c.toNatClampNeg t.toNatClampNeg else 0))) := by unfold reasonF; rw [q, q2]; rfl
  rw [eF]
  obtain ⟨ci, hc, rfl⟩ := isI_get (by omega) q
  obtain ⟨ti, ht, rfl⟩ := isI_get (by omega) q2
  rw [i3_nat (by omega), i3_nat (by omega)]
  have hfc := hf ci hc
  refine vA_mk hth rfl (by omega : ci < 25) (by decide) ?_
  rw [hfc.1]
  refine vC_p (B_has hl (by omega) (by omega)) (by decide) (by decide) (by decide) ⟨_, rfl, fun z => ?_, fun z => vR_mk hM.obj rfl ⟨⟨_, hb⟩, vC_p (B_isSettled hl hB0 hc) (by decide) (by decide) (by decide) ⟨_, rfl, fun z2 => ?_, fun z2 => vR_mk hM.obj rfl ⟨⟨_, hb⟩, vC_p (B_isBroken hl hB0) (by decide) (by decide) (by decide) ⟨_, rfl, ?_⟩⟩⟩⟩⟩
  · rw [bI_eq0] at z
    refine A_X1_reasonFor_51 hl ⟨?_, hW0⟩
    rw [z]; rfl
  · rw [bI_eq0] at z z2
    refine A_X1_reasonFor_51 hl ⟨?_, hW0⟩
    have z3 : (pc (S.1.2 ci) == 1) = true := by
      cases y : (pc (S.1.2 ci) == 1) with
      | true => rfl
      | false => exact absurd y z2
    rw [z3, Bool.not_true, Bool.and_false, Bool.false_and]; rfl
  · rw [bI_eq0] at z z2
    have z1 : (S.1.2 ci).testBit ti = true := by
      cases y : (S.1.2 ci).testBit ti with
      | true => rfl
      | false => exact absurd y z
    refine ⟨fun z4 => ⟨?_, hW0⟩, fun z4 => vR_mk hM.obj rfl (vR_mk hM.obj rfl ⟨⟨_, hb⟩, ?_⟩)⟩
    · have : brkB S.1.1 S.1.2 = true := by
        cases y : brkB S.1.1 S.1.2 with
        | true => rfl
        | false => rw [y] at z4; exact absurd z4 (by decide)
      rw [this, Bool.not_true, Bool.and_false]; rfl
    · have hbr : brkB S.1.1 S.1.2 = false := by
        cases y : brkB S.1.1 S.1.2 with
        | false => rfl
        | true => rw [y] at z4; exact absurd (by decide) z4
      refine vC_r (B_reasonFor hl hB0 hTB hbr hc (by omega : ti ≤ S.1.1.m)) (by decide) (by decide) (by decide) fun v h1 hR => ?_
      obtain ⟨y, rfl, hy, k1, hB1, ⟨f1, hT1⟩, -⟩ := hR
      obtain ⟨tg1, a1, a2, a3, a4⟩ := W4_trial hM hH hL hT k1 (by obtain ⟨-, -, -, z, -⟩ := hT1; exact ⟨_, z⟩)
      refine ⟨_, rfl, ?_, I, tg1, li, sl, sb, A, a1, a2, a3, a4⟩
      rw [z1, z2, hbr, rsnV_eq hy]; rfl
end XE
