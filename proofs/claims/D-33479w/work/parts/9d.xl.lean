/-! commands done, beside the reader's things
-/
set_option maxRecDepth 100000
def opQ (Z : zT) (G : aG) (h : aH) (x : Nat) (Q : Nat → Prop) (O : aR × ST) : aR → aH → Prop := fun r h' => r = O.1 ∧ WSQ Z G h' x O.2 Q ∧ kp (fun q => ¬ Q q) h h'
def thV (m v : Nat) : Int32 := if v = 5 then i3 m else if v < m then i3 v else -1
def execF (S : ST) (c : cmT) : aR × ST :=
  if c.1 = 42 then untellF false S (i3 c.2.1)
  else if c.1 = 58 then settleF false S (i3 c.2.1) (thV S.1.1.m c.2.2.1)
  else if c.1 = 61 then tellF false S (i3 c.2.1) (if c.2.2.1 = 5 then i3 S.1.1.m else i3 c.2.2.1) (decide (c.2.2.2 = 1))
  else strikeF false S (i3 c.2.1) (thV S.1.1.m c.2.2.1)
theorem Q_keep {S Q : Nat → Prop} {h h' : aH} {tg tg' : Nat → Nat} (hQ : ∀ q, Q q → tg q = 13 ∧ h q ≠ none) (hk : kp S h h') (hS : ∀ q, S q → tg q ≠ 13) (ht : ∀ q, h q ≠ none → tg' q = tg q) : (∀ q, Q q → tg' q = 13 ∧ h' q ≠ none) ∧ kp (fun q => ¬ Q q) h h' := by
  have hQk : ∀ q e, h q = some e → Q q → h' q = some e := fun q e he hq => hk q e he (fun z => hS q z (hQ q hq).1)
  refine ⟨fun q hq => ?_, fun q e he hn => hQk q e he (Classical.not_not.mp hn)⟩
  obtain ⟨q1, q2⟩ := hQ q hq
  cases z : h q with
  | none => exact absurd z q2
  | some e => exact ⟨by rw [ht q q2]; exact q1, by rw [hQk q e z hq]; simp⟩
section XL
variable {Z : zT} {l : Launch} {G : aG} {h : aH} {x : Nat} {S : ST} {Q : Nat → Prop}
theorem opQ_rf {o : aR} (hW : WSQ Z G h x S Q) : opQ Z G h x Q (o, S) o h := ⟨rfl, hW, kp.rf⟩
theorem B_record0 (hl : l.stackTraces = false) : aC l G mX1_recordIf (wsN mX1_recordIf) 0 0 0 [.ref x, .int 0] h (aP1 none h) := A_X1_recordIf hl ⟨fun q => absurd rfl q, fun _ => ⟨rfl, rfl⟩⟩
theorem WSQ_setW {I : Nat → Prop} {h' : aH} {tg : Nat → Nat} {li sl sb : Nat} {A : adT} {w' : Nat → Nat} {g : Nat → Int32} (hM : WM Z I h tg x li sl sb A S.1.1 S.1.2) (hH : WH G I h tg li S.2.1) (hL : WL I h tg sl S.2.2.1) (hT : WT h tg sb S.2.2.2) (hQ : ∀ q, Q q → tg q = 13 ∧ h q ≠ none) (hk : kp (· = A.1.2.2.2) h h') (hg : h' A.1.2.2.2 = some (aInts .int 25 g)) (hg2 : ∀ c, c < S.1.1.n * S.1.1.n → g c = i3 (w' c) ∧ w' c < 2 ^ (S.1.1.m + 1)) : WSQ Z G h' x (setW S w') Q ∧ kp (fun q => ¬ Q q) h h' := by
  obtain ⟨F, -, -, t5, -⟩ := hM.bd
  obtain ⟨tg', to, a, b, c, d⟩ := W4_setW hM hH hL hT hk hg hg2
  obtain ⟨q1, q2⟩ := Q_keep hQ hk (fun q z => by rw [z, t5]; decide) to
  exact ⟨⟨I, tg', li, sl, sb, A, a, b, c, d, q1⟩, q2⟩
theorem WSQ_setP {I : Nat → Prop} {h' : aH} {tg : Nat → Nat} {li sl sb : Nat} {A : adT} {p' : Pz} {F : List Nat} (hM : WM Z I h tg x li sl sb A S.1.1 S.1.2) (hH : WH G I h tg li S.2.1) (hL : WL I h tg sl S.2.2.1) (hT : WT h tg sb S.2.2.2) (hQ : ∀ q, Q q → tg q = 13 ∧ h q ≠ none) (hn : p'.n = S.1.1.n) (hm : p'.m = S.1.1.m) (hP' : PZ I h' A.1.2.1 F p') (tF : ∀ q ∈ F, tg q = 4) (hFs : ∀ q ∈ F, h q ≠ none) (hk : kp (· ∈ F) h h') (hI' : ∀ q, I q → h' q ≠ none) : WSQ Z G h' x (setP S p') Q ∧ kp (fun q => ¬ Q q) h h' := by
  obtain ⟨F0, hB, -, t5, -⟩ := hM.bd
  obtain ⟨hP, rb, f, hb, ht, hf, -⟩ := hB
  obtain ⟨tg', to, a, b, c, d⟩ := W4_set hM hH hL hT hP' tF hFs (hk.mono fun q z => Or.inl z) extI.rf hI' (hk _ _ ht (fun z => by have := tF _ z; omega)) (fun c hc => by rw [hn] at hc; rw [hm]; exact hf c hc)
  obtain ⟨q1, q2⟩ := Q_keep hQ hk (fun q z => by rw [tF q z]; decide) to
  exact ⟨⟨I, tg', li, sl, sb, A, a, b, c, d, q1⟩, q2⟩
theorem B_settleQ (hl : l.stackTraces = false) (hW : WSQ Z G h x S Q) {c t : Int32} : aC l G mX1_settle (wsN mX1_settle) 10 3 18 [.ref x, .int c, .int t, .int 0] h (opQ Z G h x Q (settleF false S c t)) := by
  have hW0 := hW
  obtain ⟨I, tg, li, sl, sb, A, hM, hH, hL, hT, hQ⟩ := hW
  have hok := hM.ok
  have hn := hok.n45
  have hm := hok.m24
  have hnn := nn_le hn
  refine A_X1_settle hl ⟨⟨_, hM.obj⟩, ?_⟩
  refine vC_c (B_checkCell hl hM) (by decide) (by decide) (by decide) (fun q => ⟨rfl, ⟨_, hM.obj⟩, ?_⟩) (fun q => by unfold settleF; rw [q]; exact opQ_rf hW0)
  refine vC_c (B_checkThing hl hM) (by decide) (by decide) (by decide) (fun q2 => ⟨rfl, ⟨_, hM.obj⟩, ?_⟩) (fun q2 => by unfold settleF; rw [q, q2]; exact opQ_rf hW0)
  have eF : settleF false S c t = (vi (S.1.2 c.toNatClampNeg), setW S (setC S.1.2 c.toNatClampNeg (1 <<< t.toNatClampNeg))) := by unfold settleF; rw [q, q2]; rfl
  rw [eF]
  obtain ⟨ci, hc, rfl⟩ := isI_get (by omega) q
  obtain ⟨ti, ht, rfl⟩ := isI_get (by omega) q2
  rw [i3_nat (by omega), i3_nat (by omega)]
  refine vC_p (B_record0 hl) (by decide) (by decide) (by decide) ⟨rfl, ?_⟩
  obtain ⟨F1, hB1, -⟩ := hM.bd
  obtain ⟨-, rb, f, hb, hth, hf, -⟩ := hB1
  have hv2 : 1 <<< ti < 2 ^ (S.1.1.m + 1) := by rw [Nat.one_shiftLeft]; exact Nat.pow_lt_pow_right (by decide) ht
  refine vR_mk hM.obj rfl (vR_mk hb rfl (vA_mk hth rfl (by omega : ci < 25) (by decide) (vR_mk hM.obj rfl (vR_mk hb rfl (vSt_mk hth rfl (by omega : ci < 25) (by decide) ?_)))))
  rw [i3_one (by omega)]
  have hfin : ∀ g : Nat → Int32, (∀ y, y < S.1.1.n * S.1.1.n → g y = i3 (setC S.1.2 ci (1 <<< ti) y) ∧ setC S.1.2 ci (1 <<< ti) y < 2 ^ (S.1.1.m + 1)) → WSQ Z G (aUp h A.1.2.2.2 (aInts .int 25 g)) x (setW S (setC S.1.2 ci (1 <<< ti))) Q ∧ kp (fun q => ¬ Q q) h (aUp h A.1.2.2.2 (aInts .int 25 g)) := fun g hg => WSQ_setW hM hH hL hT hQ (kp.up rfl) aUp_eq hg
  refine ⟨by rw [(hf ci hc).1], hfin _ fun y hy => ?_⟩
  by_cases e : y = ci
  · rw [e, upd_same, setC_eq]; exact ⟨rfl, hv2⟩
  · rw [upd_ne e, setC_ne e]; exact hf y hy
theorem B_strikeQ (hl : l.stackTraces = false) (hW : WSQ Z G h x S Q) {c t : Int32} : aC l G mX1_strike (wsN mX1_strike) 10 3 18 [.ref x, .int c, .int t, .int 0] h (opQ Z G h x Q (strikeF false S c t)) := by
  have hW0 := hW
  obtain ⟨I, tg, li, sl, sb, A, hM, hH, hL, hT, hQ⟩ := hW
  have hok := hM.ok
  have hn := hok.n45
  have hm := hok.m24
  have hnn := nn_le hn
  have h32 := pow_le hm.2.2
  refine A_X1_strike hl ⟨⟨_, hM.obj⟩, ?_⟩
  refine vC_c (B_checkCell hl hM) (by decide) (by decide) (by decide) (fun q => ⟨rfl, ⟨_, hM.obj⟩, ?_⟩) (fun q => by unfold strikeF; rw [q]; exact opQ_rf hW0)
  obtain ⟨F, hB, t4, t5, t5b⟩ := hM.bd
  obtain ⟨-, rb, f, hb, hth, hf, -⟩ := hB
  refine vC_c (B_checkThing hl hM) (by decide) (by decide) (by decide) (fun q2 => ⟨rfl, vR_mk hM.obj rfl (vR_mk hb rfl ?_)⟩) (fun q2 => by unfold strikeF; rw [q, q2]; exact opQ_rf hW0)
  have q0 := q
  have q20 := q2
  obtain ⟨ci, hc, rfl⟩ := isI_get (by omega) q
  obtain ⟨ti, ht, rfl⟩ := isI_get (by omega) q2
  have hwc := hf ci hc
  have eF : strikeF false S (i3 ci) (i3 ti) = if (S.1.2 ci).testBit ti then (vi (clr (S.1.2 ci) ti), setW S (setC S.1.2 ci (clr (S.1.2 ci) ti))) else (.inr exS, S) := by
    unfold strikeF
    rw [q0, q20, i3_nat (by omega), i3_nat (by omega)]; rfl
  refine vA_mk hth rfl (by omega : ci < 25) (by decide) ?_
  rw [hwc.1]
  refine vC_p (B_has hl (by omega) (by omega)) (by decide) (by decide) (by decide) ⟨_, rfl, ?_⟩
  refine vC_c (B_checkState hl) (by decide) (by decide) (by decide) (fun q3 => ⟨rfl, ⟨_, hM.obj⟩, ?_⟩) (fun q3 => by rw [eF, q3]; exact opQ_rf hW0)
  rw [eF, if_pos q3]
  refine vC_p (B_record0 hl) (by decide) (by decide) (by decide) ⟨rfl, ?_⟩
  have hbt : A.1.2.2.1 ≠ A.1.2.2.2 := fun e => by rw [e, hth] at hb; cases hb
  have hxt : x ≠ A.1.2.2.2 := fun e => by have := hM.2.1.1; rw [e] at this; omega
  refine vR_mk hM.obj rfl (vR_mk hb rfl (vA_mk hth rfl (by omega : ci < 25) (by decide) ?_))
  rw [(hf ci hc).1, i3_clr (by omega)]
  refine vSt_mk hth rfl (by omega : ci < 25) (by decide) (vR_mk (by rw [aUp_ne hxt]; exact hM.obj) rfl (vR_mk (by rw [aUp_ne hbt]; exact hb) rfl (vA_mk aUp_eq rfl (by omega : ci < 25) (by decide) ?_)))
  rw [upd_same]
  have hfin : ∀ g : Nat → Int32, (∀ y, y < S.1.1.n * S.1.1.n → g y = i3 (setC S.1.2 ci (clr (S.1.2 ci) ti) y) ∧ setC S.1.2 ci (clr (S.1.2 ci) ti) y < 2 ^ (S.1.1.m + 1)) → WSQ Z G (aUp h A.1.2.2.2 (aInts .int 25 g)) x (setW S (setC S.1.2 ci (clr (S.1.2 ci) ti))) Q ∧ kp (fun q => ¬ Q q) h (aUp h A.1.2.2.2 (aInts .int 25 g)) := fun g hg => WSQ_setW hM hH hL hT hQ (kp.up rfl) aUp_eq hg
  refine ⟨rfl, hfin _ fun y hy => ?_⟩
  by_cases e : y = ci
  · rw [e, upd_same, setC_eq]; exact ⟨rfl, clr_lt (hf ci hc).2⟩
  · rw [upd_ne e, setC_ne e]; exact hf y hy
theorem B_tellQ (hl : l.stackTraces = false) (hW : WSQ Z G h x S Q) {sec : Bool} {e t : Int32} : aC l G mX1_tell (wsN mX1_tell) 10 3 18 [.ref x, .int e, .int t, .int (bI sec), .int 0] h (opQ Z G h x Q (tellF false S e t sec)) := by
  have hW0 := hW
  obtain ⟨I, tg, li, sl, sb, A, hM, hH, hL, hT, hQ⟩ := hW
  have hok := hM.ok
  have hn := hok.n45
  have hm := hok.m24
  refine A_X1_tell hl ⟨⟨_, hM.obj⟩, ?_⟩
  refine vC_c (B_checkEdge hl hM) (by decide) (by decide) (by decide) (fun q => ⟨rfl, ⟨_, hM.obj⟩, ?_⟩) (fun q => by unfold tellF; rw [q]; exact opQ_rf hW0)
  refine vC_c (B_checkLetter hl hM) (by decide) (by decide) (by decide) (fun q2 => ⟨rfl, ⟨_, hM.obj⟩, ?_⟩) (fun q2 => by unfold tellF; rw [q, q2]; exact opQ_rf hW0)
  have eF : tellF false S e t sec = (.inl (some (.int (letV (S.1.1.tl e.toNatClampNeg)))), setP S (S.1.1.setT e.toNatClampNeg (1 + 2 * t.toNatClampNeg + sec.toNat))) := by unfold tellF; rw [q, q2]; rfl
  rw [eF]
  obtain ⟨ei, he, rfl⟩ := isI_get (by omega) q
  obtain ⟨ti, ht, rfl⟩ := isI_get (by omega) q2
  rw [i3_nat (by omega), i3_nat (by omega)]
  refine vC_p (B_record0 hl) (by decide) (by decide) (by decide) ⟨rfl, ?_⟩
  obtain ⟨F1, hP1, tF1, hFs1⟩ := hM.pzF
  have hsn : sec.toNat ≤ 1 := by cases sec <;> decide
  have ht3 := B_tell3 (G := G) hl hP1 (e := ei) (t := 1 + 2 * ti + sec.toNat) (by omega) (by omega)
  have e1 : letV (1 + 2 * ti + sec.toNat) = i3 ti := by unfold letV; rw [if_neg (by omega)]; congr 1; omega
  have e2 : (1 + 2 * ti + sec.toNat != 0 && (1 + 2 * ti + sec.toNat) % 2 == 0) = sec := by
    cases sec with
    | false => show (1 + 2 * ti + 0 != 0 && (1 + 2 * ti + 0) % 2 == 0) = false; rw [show (1 + 2 * ti + 0) % 2 = 1 by omega]; simp
    | true => show (1 + 2 * ti + 1 != 0 && (1 + 2 * ti + 1) % 2 == 0) = true; rw [show (1 + 2 * ti + 1) % 2 = 0 by omega, show 1 + 2 * ti + 1 = (2 * ti + 1) + 1 by omega]; simp
  rw [e1, e2] at ht3
  refine vR_mk hM.obj rfl ⟨hM.pobj, ?_⟩
  refine vC_r ht3 (by decide) (by decide) (by decide) fun v2 h2 hR2 => ?_
  obtain ⟨rfl, k2, hP2⟩ := hR2
  refine ⟨_, rfl, rfl, ?_⟩
  have hIk : ∀ q, I q → h2 q ≠ none := fun q hq => by
    cases z2 : h q with
    | none => exact absurd z2 (hM.I0 q hq)
    | some y => rw [k2 _ _ z2 (fun w => by have := tF1 q w; have := hM.I1 q hq; omega)]; simp
  exact WSQ_setP (p' := S.1.1.setT ei (1 + 2 * ti + sec.toNat)) hM hH hL hT hQ rfl rfl hP2 tF1 hFs1 k2 hIk
theorem B_untellQ (hl : l.stackTraces = false) (hW : WSQ Z G h x S Q) {e : Int32} : aC l G mX1_untell (wsN mX1_untell) 10 3 18 [.ref x, .int e, .int 0] h (opQ Z G h x Q (untellF false S e)) := by
  have hW0 := hW
  obtain ⟨I, tg, li, sl, sb, A, hM, hH, hL, hTx, hQ⟩ := hW
  have hok := hM.ok
  have hn := hok.n45
  have hm := hok.m24
  obtain ⟨F, hP⟩ := hM.pz
  obtain ⟨tl, ls, lo, ar, rw, T, L, R, sec, -, hbd, -, -, -, ho, hT1, hT2, -⟩ := hP
  refine A_X1_untell hl ⟨⟨_, hM.obj⟩, ?_⟩
  refine vC_c (B_checkEdge hl hM) (by decide) (by decide) (by decide) (fun q => ⟨rfl, vR_mk hM.obj rfl (vR_mk ho rfl ?_)⟩) (fun q => by unfold untellF; rw [q]; exact opQ_rf hW0)
  have q0 := q
  obtain ⟨ei, he, rfl⟩ := isI_get (by omega) q
  have hb := hbd ei (by omega)
  have eF : untellF false S (i3 ei) = if S.1.1.tl ei = 0 then (.inr exS, S) else (vi (toldN (S.1.1.setT ei 0)), setP S (S.1.1.setT ei 0)) := by unfold untellF; rw [q0, i3_nat (by omega)]; rfl
  refine vA_mk hT1 rfl (by omega : ei < 20) (by decide) ?_
  rw [hT2 ei (by omega)]
  simp only [letV_m1 (t := S.1.1.tl ei) (by omega)]
  rw [bI_if']
  refine vC_c (B_checkState hl) (by decide) (by decide) (by decide) (fun q3 => ⟨rfl, ⟨_, hM.obj⟩, ?_⟩) (fun q3 => ?_)
  · have q4 : ¬ S.1.1.tl ei = 0 := of_decide_eq_true q3
    rw [eF, if_neg q4]
    refine vC_p (B_record0 hl) (by decide) (by decide) (by decide) ⟨rfl, ?_⟩
    obtain ⟨F1, hP1, tF1, hFs1⟩ := hM.pzF
    have ht3 : aC l G mX3_tell (wsN mX3_tell) 0 0 0 [.ref A.1.2.1, .int (i3 ei), .int (-1), .int 0] h _ := B_tell3 (G := G) hl hP1 (e := ei) (t := 0) (by omega) (Nat.zero_le _)
    refine vR_mk hM.obj rfl ⟨hM.pobj, ?_⟩
    refine vC_r ht3 (by decide) (by decide) (by decide) fun v2 h2 hR2 => ?_
    obtain ⟨rfl, k2, hP2⟩ := hR2
    have hIk : ∀ q, I q → h2 q ≠ none := fun q hq => by
      cases z2 : h q with
      | none => exact absurd z2 (hM.I0 q hq)
      | some y => rw [k2 _ _ z2 (fun w => by have := tF1 q w; have := hM.I1 q hq; omega)]; simp
    have hfin := WSQ_setP (p' := S.1.1.setT ei 0) hM hH hL hTx hQ rfl rfl hP2 tF1 hFs1 k2 hIk
    have hx2 := k2 _ _ hM.obj (fun w => by have := tF1 x w; have := hM.2.1.1; omega)
    have ho2 : ∃ fs, h2 A.1.2.1 = some (.inr (3, fs)) := by obtain ⟨tl, ls, lo, ar, rw, T, L, R, sec, hok, -, -, -, -, ho, -⟩ := hP2; exact ⟨_, ho⟩
    refine ⟨_, rfl, vR_mk hx2 rfl ⟨ho2, ?_⟩⟩
    exact vC_p (B_told hl hP2) (by decide) (by decide) (by decide) ⟨_, rfl, rfl, hfin⟩
  · have q4 : S.1.1.tl ei = 0 := by
      have := of_decide_eq_false q3
      omega
    rw [eF, if_pos q4]
    exact opQ_rf hW0
theorem vC_oQ {M2 : aM} {ws : List Cond} {d d2 mc mc2 ms ms2 c s : Nat} {as : List Value} {O : aR × ST} {K : Option Value → aH → Nat → Nat → Prop} {X : String → aH → Nat → Nat → Prop} (hC : aC l G M2 ws d2 mc2 ms2 as h (opQ Z G h x Q O)) (hd : d2 + 1 ≤ d) (hc : c + mc2 ≤ mc) (hs : s + ms2 ≤ ms) (kk : ∀ v h', O.1 = .inl v → opQ Z G h x Q O (.inl v) h' → K v h' (c + mc2) (s + ms2)) (kx : ∀ E h', O.1 = .inr E → opQ Z G h x Q O (.inr E) h' → X E h' (c + mc2) (s + ms2)) : vC l G M2 ws d mc ms as h c s X K :=
  ⟨d2, mc2, ms2, _, hC, hd, hc, hs, fun v h' q => kk v h' q.1.symm q, fun E h' q => kx E h' q.1.symm q⟩
def okc (c : cmT) : Prop := (c.1 = 42 ∨ c.1 = 58 ∨ c.1 = 61 ∨ c.1 = 33) ∧ c.2.1 < 100 ∧ c.2.2.1 ≤ 5 ∧ c.2.2.2 ≤ 1
theorem B_execute (hl : l.stackTraces = false) (hW : WSQ Z G h x S Q) {a : Nat} {g : Nat → Int32} {c : cmT} (ha : h a = some (aInts .int 4 g)) (he : enc g c) (hc : okc c) : aC l G mX1_execute (wsN mX1_execute) 11 3 18 [.ref x, .ref a] h (opQ Z G h x Q (execF S c)) := by
  obtain ⟨e0, e1, e2, e3⟩ := he
  obtain ⟨c0, c1, c2, c3⟩ := hc
  obtain ⟨code, num, v, fg⟩ := c
  have e0 : g 0 = i3 code := e0
  have e1 : g 1 = i3 num := e1
  have e2 : g 2 = i3 v := e2
  have e3 : g 3 = i3 fg := e3
  have c0 : code = 42 ∨ code = 58 ∨ code = 61 ∨ code = 33 := c0
  have c1 : num < 100 := c1
  have c2 : v ≤ 5 := c2
  have c3 : fg ≤ 1 := c3
  have hx : ∃ fs, h x = some (.inr (1, fs)) := by obtain ⟨I, tg, li, sl, sb, A, hM, -⟩ := hW; exact ⟨_, hM.obj⟩
  have hm : S.1.1.m ≤ 4 := by obtain ⟨I, tg, li, sl, sb, A, hM, -⟩ := hW; exact hM.ok.m24.2.2
  have hmR : ∀ K : Int32 → Prop, K (i3 S.1.1.m) → vR h x 1 1 fun a2 => vI h a2 3 5 K := by
    intro K hK
    obtain ⟨I, tg, li, sl, sb, A, hM, -⟩ := hW
    obtain ⟨F, hP⟩ := hM.pz
    obtain ⟨tl, ls, lo, ar, rw, T, L, R, sec, -, -, -, -, -, ho, -⟩ := hP
    exact vR_mk hM.obj rfl (vI_mk ho rfl hK)
  have e5 : (i3 v = 5) = (v = 5) := i3_eq (b := 5) (by omega) (by decide)
  have k42 : (i3 code = 42) = (code = 42) := i3_eq (b := 42) (by omega) (by decide)
  have k58 : (i3 code = 58) = (code = 58) := i3_eq (b := 58) (by omega) (by decide)
  have k61 : (i3 code = 61) = (code = 61) := i3_eq (b := 61) (by omega) (by decide)
  have t50 : ∀ (b : Bool) (th : Int32), th = (if v = 5 then i3 S.1.1.m else i3 v) → (if bI b = 0 then ((-1) : Int32) else th) = thV S.1.1.m v → T_X1_execute_50 l G 11 3 18 (opQ Z G h x Q (execF S (code, num, v, fg))) x a (i3 num) th (bI b) h 0 0 := by
    intro b th hth hb
    refine A_X1_execute_50 hl (vA_mk ha rfl (k := 0) (by decide) (by decide) ?_)
    rw [e0, k42, k58, k61]
    refine ⟨fun q => ⟨hx, ?_⟩, fun q => ⟨hx, ?_⟩, fun q => vA_mk ha rfl (k := 3) (by decide) (by decide) ⟨hx, ?_⟩, fun q1 q2 q3 => ⟨hx, ?_⟩⟩
    · have eF : execF S (code, num, v, fg) = untellF false S (i3 num) := if_pos q
      rw [eF]
      exact vC_oQ (B_untellQ hl hW) (by decide) (by decide) (by decide) (fun v h' e hh => by obtain ⟨y, rfl⟩ := untellF_int e; exact ⟨_, rfl, hh⟩) (fun E h' _ hh => hh)
    · have eF : execF S (code, num, v, fg) = settleF false S (i3 num) (thV S.1.1.m v) := by
        unfold execF
        rw [if_neg (by show ¬ code = 42; omega), if_pos q]
      rw [eF, hb]
      exact vC_oQ (B_settleQ hl hW) (by decide) (by decide) (by decide) (fun v h' e hh => by obtain ⟨y, rfl⟩ := settleF_int e; exact ⟨_, rfl, hh⟩) (fun E h' _ hh => hh)
    · have eF : execF S (code, num, v, fg) = tellF false S (i3 num) (if v = 5 then i3 S.1.1.m else i3 v) (decide (fg = 1)) := by
        unfold execF
        rw [if_neg (by show ¬ code = 42; omega), if_neg (by show ¬ code = 58; omega), if_pos q]
      have ef : (if g 3 = 1 then (1 : Int32) else 0) = bI (decide (fg = 1)) := by
        have : (i3 fg = 1) = (fg = 1) := i3_eq (b := 1) (by omega) (by decide)
        rw [e3, bI_if]
        simp only [this]
      rw [eF, ef, hth]
      exact vC_oQ (B_tellQ hl hW) (by decide) (by decide) (by decide) (fun v h' e hh => by obtain ⟨y, rfl⟩ := tellF_int e; exact ⟨_, rfl, hh⟩) (fun E h' _ hh => hh)
    · have eF : execF S (code, num, v, fg) = strikeF false S (i3 num) (thV S.1.1.m v) := by
        unfold execF
        rw [if_neg q1, if_neg q2, if_neg q3]
      rw [eF, hb]
      exact vC_oQ (B_strikeQ hl hW) (by decide) (by decide) (by decide) (fun v h' e hh => by obtain ⟨y, rfl⟩ := strikeF_int e; exact ⟨_, rfl, hh⟩) (fun E h' _ hh => hh)
  have t24 : ∀ th : Int32, th = (if v = 5 then i3 S.1.1.m else i3 v) → T_X1_execute_24 l G 11 3 18 (opQ Z G h x Q (execF S (code, num, v, fg))) x a (i3 num) th h 0 0 := by
    intro th hth
    refine A_X1_execute_24 hl (vA_mk ha rfl (k := 2) (by decide) (by decide) (hmR _ ?_))
    rw [e2, i3_lt (by omega) (by omega)]
    refine ⟨fun q => t50 true th hth ?_, fun q => vA_mk ha rfl (k := 2) (by decide) (by decide) ?_⟩
    · rw [if_neg (by decide), hth]
      unfold thV
      rw [if_neg (by omega), if_neg (by omega), if_pos q]
    · rw [e2, bI_if]
      simp only [e5]
      refine t50 _ th hth ?_
      unfold thV
      by_cases z : v = 5
      · rw [decide_eq_true z, if_neg (by decide), hth, if_pos z, if_pos z]
      · rw [decide_eq_false z, if_pos (by decide), if_neg z, if_neg q]
  refine A_X1_execute hl (vA_mk ha rfl (k := 1) (by decide) (by decide) (vA_mk ha rfl (k := 2) (by decide) (by decide) ?_))
  rw [e1, e2, e5]
  refine ⟨fun q => vA_mk ha rfl (k := 2) (by decide) (by decide) ?_, fun q => hmR _ ?_⟩
  · rw [e2]; exact t24 _ (by rw [if_neg q])
  · exact t24 _ (by rw [if_pos q])
theorem exec_ex {c : cmT} {E : String} (h : (execF S c).1 = .inr E) : (execF S c).2 = S ∧ (E = exI ∨ E = exA ∨ E = exS) := by
  unfold execF at h ⊢
  have u : ∀ e, (untellF false S e).1 = .inr E → (untellF false S e).2 = S ∧ (E = exI ∨ E = exA ∨ E = exS) := by
    intro e h
    unfold untellF at h ⊢
    split at h
    · split at h
      · rename_i a b; rw [if_pos a, if_pos b]; cases h; exact ⟨rfl, Or.inr (Or.inr rfl)⟩
      · cases h
    · rename_i a; rw [if_neg a]; cases h; exact ⟨rfl, Or.inl rfl⟩
  have s : ∀ e f, (settleF false S e f).1 = .inr E → (settleF false S e f).2 = S ∧ (E = exI ∨ E = exA ∨ E = exS) := by
    intro e f h
    unfold settleF at h ⊢
    split at h
    · split at h
      · cases h
      · rename_i a b; rw [if_pos a, if_neg b]; cases h; exact ⟨rfl, Or.inr (Or.inl rfl)⟩
    · rename_i a; rw [if_neg a]; cases h; exact ⟨rfl, Or.inl rfl⟩
  have k : ∀ e f, (strikeF false S e f).1 = .inr E → (strikeF false S e f).2 = S ∧ (E = exI ∨ E = exA ∨ E = exS) := by
    intro e f h
    unfold strikeF at h ⊢
    split at h
    · split at h
      · split at h
        · cases h
        · rename_i a b d; rw [if_pos a, if_pos b, if_neg d]; cases h; exact ⟨rfl, Or.inr (Or.inr rfl)⟩
      · rename_i a b; rw [if_pos a, if_neg b]; cases h; exact ⟨rfl, Or.inr (Or.inl rfl)⟩
    · rename_i a; rw [if_neg a]; cases h; exact ⟨rfl, Or.inl rfl⟩
  have t : ∀ e f b, (tellF false S e f b).1 = .inr E → (tellF false S e f b).2 = S ∧ (E = exI ∨ E = exA ∨ E = exS) := by
    intro e f b h
    unfold tellF at h ⊢
    split at h
    · split at h
      · cases h
      · rename_i a b; rw [if_pos a, if_neg b]; cases h; exact ⟨rfl, Or.inr (Or.inl rfl)⟩
    · rename_i a; rw [if_neg a]; cases h; exact ⟨rfl, Or.inl rfl⟩
  by_cases q : c.1 = 42
  · rw [if_pos q] at h ⊢; exact u _ h
  · rw [if_neg q] at h ⊢
    by_cases q : c.1 = 58
    · rw [if_pos q] at h ⊢; exact s _ _ h
    · rw [if_neg q] at h ⊢
      by_cases q : c.1 = 61
      · rw [if_pos q] at h ⊢; exact t _ _ _ h
      · rw [if_neg q] at h ⊢; exact k _ _ h
end XL
