/-! the component's methods: cells and tellings are changed
-/
set_option maxRecDepth 100000
def rcS (z : Bool) (S : ST) : ST := if z then (S.1, recL S.2.1 S.1, S.2.2.1, S.2.2.2) else S
def setW (S : ST) (w : Nat → Nat) : ST := ((S.1.1, w), S.2)
def setP (S : ST) (p : Pz) : ST := ((p, S.1.2), S.2)
theorem rcS_1 {z : Bool} {S : ST} : (rcS z S).1 = S.1 := by cases z <;> rfl
section SETS
variable {Z : zT} {G : aG} {I I' : Nat → Prop} {h h' : aH} {tg : Nat → Nat} {x li sl sb : Nat} {A : adT} {p p' : Pz} {w w' : Nat → Nat} {hist : List stT} {slots : Nat → Option stT} {text : List Nat} {F : List Nat} {g : Nat → Int32}
theorem WM.pzF (hM : WM Z I h tg x li sl sb A p w) : ∃ F, PZ I h A.1.2.1 F p ∧ (∀ q ∈ F, tg q = 4) ∧ ∀ q ∈ F, h q ≠ none := by
  obtain ⟨F, hB, tF, -⟩ := hM.bd
  exact ⟨F, hB.1, tF, PZ_some hB.1⟩
/-- the puzzle and the board are other ones now -/
theorem W4_set (hM : WM Z I h tg x li sl sb A p w) (hH : WH G I h tg li hist) (hL : WL I h tg sl slots) (hT : WT h tg sb text) (hP' : PZ I' h' A.1.2.1 F p') (tF : ∀ q ∈ F, tg q = 4) (hFs : ∀ q ∈ F, h q ≠ none) (hk : kp (fun q => q ∈ F ∨ q = A.1.2.2.2) h h') (hext : extI I I' h) (hI' : ∀ q, I' q → h' q ≠ none) (hg : h' A.1.2.2.2 = some (aInts .int 25 g)) (hg2 : ∀ c, c < p'.n * p'.n → g c = i3 (w' c) ∧ w' c < 2 ^ (p'.m + 1)) : ∃ tg', (∀ q, h q ≠ none → tg' q = tg q) ∧ WM Z I' h' tg' x li sl sb A p' w' ∧ WH G I' h' tg' li hist ∧ WL I' h' tg' sl slots ∧ WT h' tg' sb text := by
  have hIt := hM.I1
  have hM0 := hM
  obtain ⟨⟨hI, hZ⟩, ⟨x1, x2⟩, ⟨d1, d2⟩, F0, FB, FT, FU, -, ⟨⟨f, hB, hf⟩, tB, nB⟩, ⟨⟨ft, hTt⟩, tT, nT⟩, ⟨fu, hU⟩, tU, nU⟩ := hM
  obtain ⟨m1, m2⟩ := hB.mem
  have tth := tB _ m2
  obtain ⟨tg', htg⟩ : ∃ tg' : Nat → Nat, tg' = fun q => @ite _ (h q ≠ none) (Classical.propDecidable _) (tg q) 1 := ⟨_, rfl⟩
  have tgo : ∀ q, h q ≠ none → tg' q = tg q := fun q hq => by rw [htg]; exact if_pos hq
  have hS : ∀ q, (q ∈ F ∨ q = A.1.2.2.2) → tg q = 4 ∨ tg q = 5 := fun q z => z.elim (fun e => Or.inl (tF q e)) (fun e => Or.inr (by rw [e]; exact tth))
  have st : stp (fun q => q ∈ F ∨ q = A.1.2.2.2) I I' h h' tg tg' := by
    refine ⟨hk, hext.1, fun q hq => ⟨hI' q hq, ?_⟩, tgo⟩
    rcases hext.2 q hq with z | z
    · rw [tgo q (hI q z).1]; exact (hI q z).2
    · rw [htg]
      show @ite _ (h q ≠ none) (Classical.propDecidable _) (tg q) 1 = 1
      rw [if_neg (by rw [z]; exact fun y => y rfl)]
  have hBn : BRD h' A.1.2.2.1 A.1.2.1 A.1.2.2.2 FB g := by
    obtain ⟨rb, rr, R, eB, a1, a2, a3, a4⟩ := hB
    have mem : ∀ q ∈ FB, q ≠ A.1.2.2.2 → ¬ (q ∈ F ∨ q = A.1.2.2.2) := fun q hq z e => e.elim (fun e => by have := tF q e; have := tB q hq; omega) z
    refine ⟨rb, rr, R, eB, hk _ _ a1 (mem _ m1 (fun z => by rw [z, a2] at a1; cases a1)), hg, hk _ _ a3 (mem _ (by rw [eB]; simp) (fun z => by rw [z, a2] at a3; cases a3)), fun i hi => ?_⟩
    obtain ⟨b1, g0, b2⟩ := a4 i hi
    refine ⟨b1, g0, hk _ _ b2 (mem _ ?_ (fun z => by rw [z, a2] at b2; cases b2))⟩
    rw [eB]
    simp only [List.mem_cons, List.mem_map, List.mem_range]
    exact Or.inr (Or.inr (Or.inr ⟨i, hi, rfl⟩))
  refine ⟨tg', tgo, ⟨⟨st.2.2.1, fun q e z => ⟨hk _ _ (hZ q e z).1 (fun w => by have := hS q w; have := (hZ q e z).2; omega), by rw [tgo q (by rw [(hZ q e z).1]; simp)]; exact (hZ q e z).2⟩⟩, ⟨by rw [tgo x (by rw [x2]; simp)]; exact x1, hk _ _ x2 (fun z => by have := hS x z; omega)⟩, ⟨by rw [tgo _ (by rw [d2]; simp)]; exact d1, hk _ _ d2 (fun z => by have := hS _ z; omega)⟩, F, FB, FT, FU, ⟨hP', fun q hq => by rw [tgo q (hFs q hq)]; exact tF q hq⟩, ⟨⟨g, hBn, hg2⟩, fun q hq => by rw [tgo q (BRD_some hB q hq)]; exact tB q hq, nB⟩, ⟨⟨ft, hTt.kp hk (fun q hq z => by have := hS q z; have := tT q hq; omega)⟩, fun q hq => by rw [tgo q (BRD_some hTt q hq)]; exact tT q hq, nT⟩, ⟨fu, hU.kp hk (fun q hq z => by have := hS q z; have := tU q hq; omega)⟩, fun q hq => by rw [tgo q (BRD_some hU q hq)]; exact tU q hq, nU⟩, hH.keep st hIt (fun q z => by have := hS q z; omega), hL.keep st hIt (fun q z => by have := hS q z; omega), hT.keep st (fun q z => by have := hS q z; omega)⟩
theorem WS_set (hM : WM Z I h tg x li sl sb A p w) (hH : WH G I h tg li hist) (hL : WL I h tg sl slots) (hT : WT h tg sb text) (hP' : PZ I' h' A.1.2.1 F p') (tF : ∀ q ∈ F, tg q = 4) (hFs : ∀ q ∈ F, h q ≠ none) (hk : kp (fun q => q ∈ F ∨ q = A.1.2.2.2) h h') (hext : extI I I' h) (hI' : ∀ q, I' q → h' q ≠ none) (hg : h' A.1.2.2.2 = some (aInts .int 25 g)) (hg2 : ∀ c, c < p'.n * p'.n → g c = i3 (w' c) ∧ w' c < 2 ^ (p'.m + 1)) : WS Z G h' x ((p', w'), hist, slots, text) := by
  obtain ⟨tg', -, a, b, c, d⟩ := W4_set hM hH hL hT hP' tF hFs hk hext hI' hg hg2
  exact ⟨I', tg', li, sl, sb, A, a, b, c, d⟩
/-- the board's things alone -/
theorem W4_setW (hM : WM Z I h tg x li sl sb A p w) (hH : WH G I h tg li hist) (hL : WL I h tg sl slots) (hT : WT h tg sb text) (hk : kp (· = A.1.2.2.2) h h') (hg : h' A.1.2.2.2 = some (aInts .int 25 g)) (hg2 : ∀ c, c < p.n * p.n → g c = i3 (w' c) ∧ w' c < 2 ^ (p.m + 1)) : ∃ tg', (∀ q, h q ≠ none → tg' q = tg q) ∧ WM Z I h' tg' x li sl sb A p w' ∧ WH G I h' tg' li hist ∧ WL I h' tg' sl slots ∧ WT h' tg' sb text := by
  obtain ⟨F, hB, tF, t5, -⟩ := hM.bd
  have hP := hB.1
  have hIk : ∀ q, I q → ¬ q = A.1.2.2.2 := fun q hq z => by have := hM.I1 q hq; rw [z] at this; omega
  have hPn : ∀ q ∈ F, ¬ I q := fun q hq z => by have := hM.I1 q z; have := tF q hq; omega
  refine W4_set hM hH hL hT (hP.kp hk (fun q hq z => by have := tF q hq; rw [z] at this; omega) hIk (fun _ h => h) hPn) tF (PZ_some hP) (hk.mono fun q z => Or.inr z) extI.rf (fun q hq => ?_) hg hg2
  cases z : h q with
  | none => exact absurd z (hM.I0 q hq)
  | some y => rw [hk _ _ z (hIk q hq)]; simp
theorem WS_setW (hM : WM Z I h tg x li sl sb A p w) (hH : WH G I h tg li hist) (hL : WL I h tg sl slots) (hT : WT h tg sb text) (hk : kp (· = A.1.2.2.2) h h') (hg : h' A.1.2.2.2 = some (aInts .int 25 g)) (hg2 : ∀ c, c < p.n * p.n → g c = i3 (w' c) ∧ w' c < 2 ^ (p.m + 1)) : WS Z G h' x ((p, w'), hist, slots, text) := by
  obtain ⟨tg', -, a, b, c, d⟩ := W4_setW hM hH hL hT hk hg hg2
  exact ⟨I, tg', li, sl, sb, A, a, b, c, d⟩
/-- the puzzle alone: of the same side and letters -/
theorem WS_setP (hM : WM Z I h tg x li sl sb A p w) (hH : WH G I h tg li hist) (hL : WL I h tg sl slots) (hT : WT h tg sb text) (hn : p'.n = p.n) (hm : p'.m = p.m) (hP' : PZ I' h' A.1.2.1 F p') (tF : ∀ q ∈ F, tg q = 4) (hFs : ∀ q ∈ F, h q ≠ none) (hk : kp (· ∈ F) h h') (hext : extI I I' h) (hI' : ∀ q, I' q → h' q ≠ none) : WS Z G h' x ((p', w), hist, slots, text) := by
  obtain ⟨F0, hB, -, t5, -⟩ := hM.bd
  obtain ⟨hP, rb, f, hb, ht, hf, -⟩ := hB
  exact WS_set hM hH hL hT hP' tF hFs (hk.mono fun q z => Or.inl z) hext hI' (hk _ _ ht (fun z => by have := tF _ z; omega)) (fun c hc => by rw [hn] at hc; rw [hm]; exact hf c hc)
end SETS
section XW
variable {Z : zT} {l : Launch} {G : aG} {h : aH} {x : Nat} {S : ST}
theorem B_recordZ (hl : l.stackTraces = false) (hW : WS Z G h x S) {z : Bool} : aC l G mX1_recordIf (wsN mX1_recordIf) 19 512 49607 [.ref x, .int (bI z)] h (aPR fun v h' => v = none ∧ WS Z G h' x (rcS z S)) := by
  cases z with
  | true => exact B_record hl hW
  | false => exact A_X1_recordIf hl ⟨fun q => absurd rfl q, fun _ => ⟨rfl, hW⟩⟩
def settleF (z : Bool) (S : ST) (c t : Int32) : aR × ST := if isI c (S.1.1.n * S.1.1.n) then (if isI t (S.1.1.m + 1) then (vi (S.1.2 c.toNatClampNeg), setW (rcS z S) (setC S.1.2 c.toNatClampNeg (1 <<< t.toNatClampNeg))) else (.inr exA, S)) else (.inr exI, S)
theorem B_settle (hl : l.stackTraces = false) (hW : WS Z G h x S) {z : Bool} {c t : Int32} : aC l G mX1_settle (wsN mX1_settle) 20 600 50000 [.ref x, .int c, .int t, .int (bI z)] h (opP Z G x (settleF z S c t)) := by
  have hW0 := hW
  obtain ⟨I, tg, li, sl, sb, A, hM, -⟩ := hW
  have hok := hM.ok
  have hn := hok.n45
  have hm := hok.m24
  have hnn := nn_le hn
  refine A_X1_settle hl ⟨⟨_, hM.obj⟩, ?_⟩
  refine vC_c (B_checkCell hl hM) (by decide) (by decide) (by decide) (fun q => ⟨rfl, ⟨_, hM.obj⟩, ?_⟩) (fun q => ⟨by unfold settleF; rw [q]; rfl, by unfold settleF; rw [q]; exact hW0⟩)
  refine vC_c (B_checkThing hl hM) (by decide) (by decide) (by decide) (fun q2 => ⟨rfl, ⟨_, hM.obj⟩, ?_⟩) (fun q2 => ⟨by unfold settleF; rw [q, q2]; rfl, by unfold settleF; rw [q, q2]; exact hW0⟩)
  have eF : settleF z S c t = (vi (S.1.2 c.toNatClampNeg), setW (rcS z S) (setC S.1.2 c.toNatClampNeg (1 <<< t.toNatClampNeg))) := by unfold settleF; rw [q, q2]; rfl
  rw [eF]
  obtain ⟨ci, hc, rfl⟩ := isI_get (by omega) q
  obtain ⟨ti, ht, rfl⟩ := isI_get (by omega) q2
  rw [i3_nat (by omega), i3_nat (by omega)]
  refine vC_r (B_recordZ hl hW0) (by decide) (by decide) (by decide) fun v h1 hR => ?_
  obtain ⟨hv, I1, tg1, li1, sl1, sb1, A1, hM1, hH1, hL1, hT1⟩ := hR
  rw [rcS_1] at hM1
  obtain ⟨F1, hB1, -⟩ := hM1.bd
  obtain ⟨-, rb, f, hb, hth, hf, -⟩ := hB1
  have hv2 : 1 <<< ti < 2 ^ (S.1.1.m + 1) := by rw [Nat.one_shiftLeft]; exact Nat.pow_lt_pow_right (by decide) ht
  refine ⟨hv, vR_mk hM1.obj rfl (vR_mk hb rfl (vA_mk hth rfl (by omega : ci < 25) (by decide) (vR_mk hM1.obj rfl (vR_mk hb rfl (vSt_mk hth rfl (by omega : ci < 25) (by decide) ?_)))))⟩
  rw [i3_one (by omega)]
  refine ⟨by rw [(hf ci hc).1], ?_⟩
  have hfin : ∀ g : Nat → Int32, (∀ y, y < S.1.1.n * S.1.1.n → g y = i3 (setC S.1.2 ci (1 <<< ti) y) ∧ setC S.1.2 ci (1 <<< ti) y < 2 ^ (S.1.1.m + 1)) → WS Z G (aUp h1 A1.1.2.2.2 (aInts .int 25 g)) x ((S.1.1, setC S.1.2 ci (1 <<< ti)), (rcS z S).2) := fun g hg => WS_setW hM1 hH1 hL1 hT1 (kp.up rfl) aUp_eq hg
  unfold setW
  rw [rcS_1]
  exact hfin _ fun y hy => by
    by_cases e : y = ci
    · rw [e, upd_same, setC_eq]; exact ⟨rfl, hv2⟩
    · rw [upd_ne e, setC_ne e]; exact hf y hy
def putF (S : ST) (c t : Int32) : aR × ST := settleF true S c t
theorem opP_x {O : aR × ST} {E : String} {h' : aH} {P : aR → aH → Prop} (hP : P = opP Z G x O) (hr : O.1 = .inr E) (hW : WS Z G h' x O.2) : P (.inr E) h' := by subst hP; exact ⟨hr.symm, hW⟩
/-- a call that hands on what it is told -/
theorem vC_o {M2 : aM} {ws : List Cond} {d d2 mc mc2 ms ms2 c s : Nat} {as : List Value} {O : aR × ST} {K : Option Value → aH → Nat → Nat → Prop} {X : String → aH → Nat → Nat → Prop} (hC : aC l G M2 ws d2 mc2 ms2 as h (opP Z G x O)) (hd : d2 + 1 ≤ d) (hc : c + mc2 ≤ mc) (hs : s + ms2 ≤ ms) (kk : ∀ v h', O.1 = .inl v → WS Z G h' x O.2 → K v h' (c + mc2) (s + ms2)) (kx : ∀ E h', O.1 = .inr E → WS Z G h' x O.2 → X E h' (c + mc2) (s + ms2)) : vC l G M2 ws d mc ms as h c s X K :=
  ⟨d2, mc2, ms2, _, hC, hd, hc, hs, fun v h' q => kk v h' q.1.symm q.2, fun E h' q => kx E h' q.1.symm q.2⟩
theorem settleF_int {z : Bool} {c t : Int32} {v : Option Value} (e : (settleF z S c t).1 = .inl v) : ∃ y : Int32, v = some (.int y) := by
  unfold settleF at e
  split at e
  · split at e
    · cases e; exact ⟨_, rfl⟩
    · cases e
  · cases e
theorem B_put (hl : l.stackTraces = false) (hW : WS Z G h x S) {c t : Int32} : aC l G mX1_put (wsN mX1_put) 50 2000 150000 [.ref x, .int c, .int t] h (opP Z G x (putF S c t)) := by
  have hx : ∃ fs, h x = some (.inr (1, fs)) := by obtain ⟨I, tg, li, sl, sb, A, hM, -⟩ := hW; exact ⟨_, hM.obj⟩
  refine A_X1_put hl ⟨hx, ?_⟩
  refine vC_o (B_settle hl hW (z := true)) (by decide) (by decide) (by decide) (fun v h' e hW' => ?_) (fun E h' e hW' => ⟨e.symm, hW'⟩)
  obtain ⟨y, rfl⟩ := settleF_int e
  exact ⟨y, rfl, e.symm, hW'⟩
def strikeF (z : Bool) (S : ST) (c t : Int32) : aR × ST := if isI c (S.1.1.n * S.1.1.n) then (if isI t (S.1.1.m + 1) then (if (S.1.2 c.toNatClampNeg).testBit t.toNatClampNeg then (vi (clr (S.1.2 c.toNatClampNeg) t.toNatClampNeg), setW (rcS z S) (setC S.1.2 c.toNatClampNeg (clr (S.1.2 c.toNatClampNeg) t.toNatClampNeg))) else (.inr exS, S)) else (.inr exA, S)) else (.inr exI, S)
theorem strikeF_int {z : Bool} {c t : Int32} {v : Option Value} (e : (strikeF z S c t).1 = .inl v) : ∃ y : Int32, v = some (.int y) := by
  unfold strikeF at e
  split at e
  · split at e
    · split at e
      · cases e; exact ⟨_, rfl⟩
      · cases e
    · cases e
  · cases e
theorem B_strike (hl : l.stackTraces = false) (hW : WS Z G h x S) {z : Bool} {c t : Int32} : aC l G mX1_strike (wsN mX1_strike) 20 600 50000 [.ref x, .int c, .int t, .int (bI z)] h (opP Z G x (strikeF z S c t)) := by
  have hW0 := hW
  obtain ⟨I, tg, li, sl, sb, A, hM, -⟩ := hW
  have hok := hM.ok
  have hn := hok.n45
  have hm := hok.m24
  have hnn := nn_le hn
  have h32 := pow_le hm.2.2
  refine A_X1_strike hl ⟨⟨_, hM.obj⟩, ?_⟩
  refine vC_c (B_checkCell hl hM) (by decide) (by decide) (by decide) (fun q => ⟨rfl, ⟨_, hM.obj⟩, ?_⟩) (fun q => ⟨by unfold strikeF; rw [q]; rfl, by unfold strikeF; rw [q]; exact hW0⟩)
  obtain ⟨F, hB, -⟩ := hM.bd
  obtain ⟨-, rb0, f0, hb0, hth0, hf0, -⟩ := hB
  refine vC_c (B_checkThing hl hM) (by decide) (by decide) (by decide) (fun q2 => ⟨rfl, vR_mk hM.obj rfl (vR_mk hb0 rfl ?_)⟩) (fun q2 => ⟨by unfold strikeF; rw [q, q2]; rfl, by unfold strikeF; rw [q, q2]; exact hW0⟩)
  have q0 := q
  have q20 := q2
  obtain ⟨ci, hc, rfl⟩ := isI_get (by omega) q
  obtain ⟨ti, ht, rfl⟩ := isI_get (by omega) q2
  have hwc := hf0 ci hc
  have eF : strikeF z S (i3 ci) (i3 ti) = if (S.1.2 ci).testBit ti then (vi (clr (S.1.2 ci) ti), setW (rcS z S) (setC S.1.2 ci (clr (S.1.2 ci) ti))) else (.inr exS, S) := by
    unfold strikeF
    rw [q0, q20, i3_nat (by omega), i3_nat (by omega)]; rfl
  refine vA_mk hth0 rfl (by omega : ci < 25) (by decide) ?_
  rw [hwc.1]
  refine vC_p (B_has hl (by omega) (by omega)) (by decide) (by decide) (by decide) ⟨_, rfl, ?_⟩
  refine vC_c (B_checkState hl) (by decide) (by decide) (by decide) (fun q3 => ⟨rfl, ⟨_, hM.obj⟩, ?_⟩) (fun q3 => ⟨by rw [eF, q3]; rfl, by rw [eF, q3]; exact hW0⟩)
  rw [eF, if_pos q3]
  refine vC_r (B_recordZ hl hW0) (by decide) (by decide) (by decide) fun v h1 hR => ?_
  obtain ⟨hv, I1, tg1, li1, sl1, sb1, A1, hM1, hH1, hL1, hT1⟩ := hR
  rw [rcS_1] at hM1
  obtain ⟨F1, hB1, t4, t5, t5b⟩ := hM1.bd
  obtain ⟨-, rb, f, hb, hth, hf, -⟩ := hB1
  have hbt : A1.1.2.2.1 ≠ A1.1.2.2.2 := fun e => by rw [e, hth] at hb; cases hb
  have hxt : x ≠ A1.1.2.2.2 := fun e => by have := hM1.2.1.1; rw [e] at this; omega
  refine ⟨hv, vR_mk hM1.obj rfl (vR_mk hb rfl (vA_mk hth rfl (by omega : ci < 25) (by decide) ?_))⟩
  rw [(hf ci hc).1, i3_clr (by omega)]
  refine vSt_mk hth rfl (by omega : ci < 25) (by decide) (vR_mk (by rw [aUp_ne hxt]; exact hM1.obj) rfl (vR_mk (by rw [aUp_ne hbt]; exact hb) rfl (vA_mk aUp_eq rfl (by omega : ci < 25) (by decide) ?_)))
  rw [upd_same]
  refine ⟨rfl, ?_⟩
  have hfin : ∀ g : Nat → Int32, (∀ y, y < S.1.1.n * S.1.1.n → g y = i3 (setC S.1.2 ci (clr (S.1.2 ci) ti) y) ∧ setC S.1.2 ci (clr (S.1.2 ci) ti) y < 2 ^ (S.1.1.m + 1)) → WS Z G (aUp h1 A1.1.2.2.2 (aInts .int 25 g)) x ((S.1.1, setC S.1.2 ci (clr (S.1.2 ci) ti)), (rcS z S).2) := fun g hg => WS_setW hM1 hH1 hL1 hT1 (kp.up rfl) aUp_eq hg
  unfold setW
  rw [rcS_1]
  exact hfin _ fun y hy => by
    by_cases e : y = ci
    · rw [e, upd_same, setC_eq]; exact ⟨rfl, clr_lt (hf ci hc).2⟩
    · rw [upd_ne e, setC_ne e]; exact hf y hy
theorem B_crossOut (hl : l.stackTraces = false) (hW : WS Z G h x S) {c t : Int32} : aC l G mX1_crossOut (wsN mX1_crossOut) 50 2000 150000 [.ref x, .int c, .int t] h (opP Z G x (strikeF true S c t)) := by
  have hx : ∃ fs, h x = some (.inr (1, fs)) := by obtain ⟨I, tg, li, sl, sb, A, hM, -⟩ := hW; exact ⟨_, hM.obj⟩
  refine A_X1_crossOut hl ⟨hx, ?_⟩
  refine vC_o (B_strike hl hW (z := true)) (by decide) (by decide) (by decide) (fun v h' e hW' => ?_) (fun E h' e hW' => ⟨e.symm, hW'⟩)
  obtain ⟨y, rfl⟩ := strikeF_int e
  exact ⟨y, rfl, e.symm, hW'⟩
def tellF (z : Bool) (S : ST) (e t : Int32) (sec : Bool) : aR × ST := if isI e (4 * S.1.1.n) then (if isI t S.1.1.m then (.inl (some (.int (letV (S.1.1.tl e.toNatClampNeg)))), setP (rcS z S) (S.1.1.setT e.toNatClampNeg (1 + 2 * t.toNatClampNeg + sec.toNat))) else (.inr exA, S)) else (.inr exI, S)
theorem tellF_int {z sec : Bool} {c t : Int32} {v : Option Value} (e : (tellF z S c t sec).1 = .inl v) : ∃ y : Int32, v = some (.int y) := by
  unfold tellF at e
  split at e
  · split at e
    · cases e; exact ⟨_, rfl⟩
    · cases e
  · cases e
theorem B_xtell (hl : l.stackTraces = false) (hW : WS Z G h x S) {z sec : Bool} {e t : Int32} : aC l G mX1_tell (wsN mX1_tell) 20 600 50000 [.ref x, .int e, .int t, .int (bI sec), .int (bI z)] h (opP Z G x (tellF z S e t sec)) := by
  have hW0 := hW
  obtain ⟨I, tg, li, sl, sb, A, hM, -⟩ := hW
  have hok := hM.ok
  have hn := hok.n45
  have hm := hok.m24
  refine A_X1_tell hl ⟨⟨_, hM.obj⟩, ?_⟩
  refine vC_c (B_checkEdge hl hM) (by decide) (by decide) (by decide) (fun q => ⟨rfl, ⟨_, hM.obj⟩, ?_⟩) (fun q => ⟨by unfold tellF; rw [q]; rfl, by unfold tellF; rw [q]; exact hW0⟩)
  refine vC_c (B_checkLetter hl hM) (by decide) (by decide) (by decide) (fun q2 => ⟨rfl, ⟨_, hM.obj⟩, ?_⟩) (fun q2 => ⟨by unfold tellF; rw [q, q2]; rfl, by unfold tellF; rw [q, q2]; exact hW0⟩)
  have eF : tellF z S e t sec = (.inl (some (.int (letV (S.1.1.tl e.toNatClampNeg)))), setP (rcS z S) (S.1.1.setT e.toNatClampNeg (1 + 2 * t.toNatClampNeg + sec.toNat))) := by unfold tellF; rw [q, q2]; rfl
  rw [eF]
  obtain ⟨ei, he, rfl⟩ := isI_get (by omega) q
  obtain ⟨ti, ht, rfl⟩ := isI_get (by omega) q2
  rw [i3_nat (by omega), i3_nat (by omega)]
  refine vC_r (B_recordZ hl hW0) (by decide) (by decide) (by decide) fun v h1 hR => ?_
  obtain ⟨hv, I1, tg1, li1, sl1, sb1, A1, hM1, hH1, hL1, hT1⟩ := hR
  rw [rcS_1] at hM1
  obtain ⟨F1, hP1, tF1, hFs1⟩ := hM1.pzF
  have hsn : sec.toNat ≤ 1 := by cases sec <;> decide
  have ht3 := B_tell3 (G := G) hl hP1 (e := ei) (t := 1 + 2 * ti + sec.toNat) (by omega) (by omega)
  have e1 : letV (1 + 2 * ti + sec.toNat) = i3 ti := by unfold letV; rw [if_neg (by omega)]; congr 1; omega
  have e2 : (1 + 2 * ti + sec.toNat != 0 && (1 + 2 * ti + sec.toNat) % 2 == 0) = sec := by
    cases sec with
    | false => show (1 + 2 * ti + 0 != 0 && (1 + 2 * ti + 0) % 2 == 0) = false; rw [show (1 + 2 * ti + 0) % 2 = 1 by omega]; simp
    | true => show (1 + 2 * ti + 1 != 0 && (1 + 2 * ti + 1) % 2 == 0) = true; rw [show (1 + 2 * ti + 1) % 2 = 0 by omega, show 1 + 2 * ti + 1 = (2 * ti + 1) + 1 by omega]; simp
  rw [e1, e2] at ht3
  have ho : ∃ fs, h1 A1.1.2.1 = some (.inr (3, fs)) := by obtain ⟨tl, ls, lo, ar, rw, T, L, R, sec, hok, -, -, -, -, ho, -⟩ := hP1; exact ⟨_, ho⟩
  refine ⟨hv, vR_mk hM1.obj rfl ⟨ho, ?_⟩⟩
  refine vC_r ht3 (by decide) (by decide) (by decide) fun v2 h2 hR2 => ?_
  obtain ⟨rfl, k2, hP2⟩ := hR2
  refine ⟨_, rfl, rfl, ?_⟩
  have hIk : ∀ q, I1 q → h2 q ≠ none := fun q hq => by
    cases z2 : h1 q with
    | none => exact absurd z2 (hM1.I0 q hq)
    | some y => rw [k2 _ _ z2 (fun w => by have := tF1 q w; have := hM1.I1 q hq; omega)]; simp
  have := WS_setP (p' := S.1.1.setT ei (1 + 2 * ti + sec.toNat)) hM1 hH1 hL1 hT1 rfl rfl hP2 tF1 hFs1 k2 extI.rf hIk
  unfold setP
  rw [rcS_1]
  exact this
theorem B_setTelling (hl : l.stackTraces = false) (hW : WS Z G h x S) {e t : Int32} {sec : Bool} : aC l G mX1_setTelling (wsN mX1_setTelling) 50 2000 150000 [.ref x, .int e, .int t, .int (bI sec)] h (opP Z G x (tellF true S e t sec)) := by
  have hx : ∃ fs, h x = some (.inr (1, fs)) := by obtain ⟨I, tg, li, sl, sb, A, hM, -⟩ := hW; exact ⟨_, hM.obj⟩
  refine A_X1_setTelling hl ⟨hx, ?_⟩
  refine vC_o (B_xtell hl hW (z := true)) (by decide) (by decide) (by decide) (fun v h' e hW' => ?_) (fun E h' e hW' => ⟨e.symm, hW'⟩)
  obtain ⟨y, rfl⟩ := tellF_int e
  exact ⟨y, rfl, e.symm, hW'⟩
def untellF (z : Bool) (S : ST) (e : Int32) : aR × ST := if isI e (4 * S.1.1.n) then (if S.1.1.tl e.toNatClampNeg = 0 then (.inr exS, S) else (vi (toldN (S.1.1.setT e.toNatClampNeg 0)), setP (rcS z S) (S.1.1.setT e.toNatClampNeg 0))) else (.inr exI, S)
theorem untellF_int {z : Bool} {c : Int32} {v : Option Value} (e : (untellF z S c).1 = .inl v) : ∃ y : Int32, v = some (.int y) := by
  unfold untellF at e
  split at e
  · split at e
    · cases e
    · cases e; exact ⟨_, rfl⟩
  · cases e
theorem letV_m1 {t : Nat} (h : t < 1000) : (letV t = -1) = (t = 0) := by
  unfold letV
  by_cases q : t = 0
  · rw [if_pos q]; simp [q]
  · rw [if_neg q, i3_m1 (by omega)]; simp [q]
theorem B_untell (hl : l.stackTraces = false) (hW : WS Z G h x S) {z : Bool} {e : Int32} : aC l G mX1_untell (wsN mX1_untell) 20 600 50000 [.ref x, .int e, .int (bI z)] h (opP Z G x (untellF z S e)) := by
  have hW0 := hW
  obtain ⟨I, tg, li, sl, sb, A, hM, -⟩ := hW
  have hok := hM.ok
  have hn := hok.n45
  have hm := hok.m24
  obtain ⟨F, hP⟩ := hM.pz
  obtain ⟨tl, ls, lo, ar, rw, T, L, R, sec, -, hbd, -, -, -, ho, hT1, hT2, -⟩ := hP
  refine A_X1_untell hl ⟨⟨_, hM.obj⟩, ?_⟩
  refine vC_c (B_checkEdge hl hM) (by decide) (by decide) (by decide) (fun q => ⟨rfl, vR_mk hM.obj rfl (vR_mk ho rfl ?_)⟩) (fun q => ⟨by unfold untellF; rw [q]; rfl, by unfold untellF; rw [q]; exact hW0⟩)
  have q0 := q
  obtain ⟨ei, he, rfl⟩ := isI_get (by omega) q
  have hb := hbd ei (by omega)
  have eF : untellF z S (i3 ei) = if S.1.1.tl ei = 0 then (.inr exS, S) else (vi (toldN (S.1.1.setT ei 0)), setP (rcS z S) (S.1.1.setT ei 0)) := by unfold untellF; rw [q0, i3_nat (by omega)]; rfl
  refine vA_mk hT1 rfl (by omega : ei < 20) (by decide) ?_
  rw [hT2 ei (by omega)]
  simp only [letV_m1 (t := S.1.1.tl ei) (by omega)]
  rw [bI_if']
  refine vC_c (B_checkState hl) (by decide) (by decide) (by decide) (fun q3 => ⟨rfl, ⟨_, hM.obj⟩, ?_⟩) (fun q3 => ?_)
  · have q4 : ¬ S.1.1.tl ei = 0 := of_decide_eq_true q3
    rw [eF, if_neg q4]
    refine vC_r (B_recordZ hl hW0) (by decide) (by decide) (by decide) fun v h1 hR => ?_
    obtain ⟨hv, I1, tg1, li1, sl1, sb1, A1, hM1, hH1, hL1, hT1⟩ := hR
    rw [rcS_1] at hM1
    obtain ⟨F1, hP1, tF1, hFs1⟩ := hM1.pzF
    have ht3 : aC l G mX3_tell (wsN mX3_tell) 0 0 0 [.ref A1.1.2.1, .int (i3 ei), .int (-1), .int 0] h1 _ := B_tell3 (G := G) hl hP1 (e := ei) (t := 0) (by omega) (Nat.zero_le _)
    have ho1 : ∃ fs, h1 A1.1.2.1 = some (.inr (3, fs)) := by obtain ⟨tl, ls, lo, ar, rw, T, L, R, sec, hok, -, -, -, -, ho, -⟩ := hP1; exact ⟨_, ho⟩
    refine ⟨hv, vR_mk hM1.obj rfl ⟨ho1, ?_⟩⟩
    refine vC_r ht3 (by decide) (by decide) (by decide) fun v2 h2 hR2 => ?_
    obtain ⟨rfl, k2, hP2⟩ := hR2
    have hIk : ∀ q, I1 q → h2 q ≠ none := fun q hq => by
      cases z2 : h1 q with
      | none => exact absurd z2 (hM1.I0 q hq)
      | some y => rw [k2 _ _ z2 (fun w => by have := tF1 q w; have := hM1.I1 q hq; omega)]; simp
    have hfin := WS_setP (p' := S.1.1.setT ei 0) hM1 hH1 hL1 hT1 rfl rfl hP2 tF1 hFs1 k2 extI.rf hIk
    have hx2 := k2 _ _ hM1.obj (fun w => by have := tF1 x w; have := hM1.2.1.1; omega)
    have ho2 : ∃ fs, h2 A1.1.2.1 = some (.inr (3, fs)) := by obtain ⟨tl, ls, lo, ar, rw, T, L, R, sec, hok, -, -, -, -, ho, -⟩ := hP2; exact ⟨_, ho⟩
    refine ⟨_, rfl, vR_mk hx2 rfl ⟨ho2, ?_⟩⟩
    refine vC_p (B_told hl hP2) (by decide) (by decide) (by decide) ⟨_, rfl, rfl, ?_⟩
    unfold setP
    rw [rcS_1]
    exact hfin
  · have q4 : S.1.1.tl ei = 0 := by
      have := of_decide_eq_false q3
      omega
    exact ⟨by rw [eF, if_pos q4], by rw [eF, if_pos q4]; exact hW0⟩
theorem B_clearTelling (hl : l.stackTraces = false) (hW : WS Z G h x S) {e : Int32} : aC l G mX1_clearTelling (wsN mX1_clearTelling) 50 2000 150000 [.ref x, .int e] h (opP Z G x (untellF true S e)) := by
  have hx : ∃ fs, h x = some (.inr (1, fs)) := by obtain ⟨I, tg, li, sl, sb, A, hM, -⟩ := hW; exact ⟨_, hM.obj⟩
  refine A_X1_clearTelling hl ⟨hx, ?_⟩
  refine vC_o (B_untell hl hW (z := true)) (by decide) (by decide) (by decide) (fun v h' e hW' => ?_) (fun E h' e hW' => ⟨e.symm, hW'⟩)
  obtain ⟨y, rfl⟩ := untellF_int e
  exact ⟨y, rfl, e.symm, hW'⟩
end XW
