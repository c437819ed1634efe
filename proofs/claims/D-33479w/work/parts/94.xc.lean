/-! the component's methods: all cells cleared, diagonals turned, a new puzzle, letters exchanged
-/
set_option maxRecDepth 100000
def inI (x lo hi : Int32) : Bool := if x < lo then false else if hi < x then false else true
def startB (n m : Int32) : Bool := inI n 4 5 && inI m 2 (n - 1)
def allN (m : Nat) : Nat := 2 ^ (m + 1) - 1
def startF (S : ST) (n m : Int32) : aR × ST := if startB n m then (vi (n.toNatClampNeg * n.toNatClampNeg), ((Pz.new n.toNatClampNeg m.toNatClampNeg, fun _ => allN m.toNatClampNeg), recL S.2.1 S.1, S.2.2.1, S.2.2.2)) else (.inr exA, S)
def clrW (n m : Nat) (w : Nat → Nat) (c : Nat) : Nat := if c < n * n then allN m else w c
def clearF (S : ST) : aR × ST := (vi (sumB (fun c => decide (S.1.2 c ≠ allN S.1.1.m)) (S.1.1.n * S.1.1.n)), setW (rcS true S) (clrW S.1.1.n S.1.1.m S.1.2))
def turnF (S : ST) : aR × ST := (.inl (some (.int (bI (!S.1.1.dg)))), setP (rcS true S) S.1.1.turn)
def exM (v one other : Nat) : Nat := if v.testBit one = v.testBit other then v else v ^^^ (1 <<< one ||| 1 <<< other)
def exW (w : Nat → Nat) (one other j : Nat) (c : Nat) : Nat := if c < j then exM (w c) one other else w c
def exchF (S : ST) (a b : Int32) : aR × ST := if isI a S.1.1.m then (if isI b S.1.1.m then (vi (sumB (fun e => S.1.1.tl e != 0 && ((S.1.1.tl e - 1) / 2 == a.toNatClampNeg || (S.1.1.tl e - 1) / 2 == b.toNatClampNeg)) (4 * S.1.1.n)), ((S.1.1.exch a.toNatClampNeg b.toNatClampNeg, exW S.1.2 a.toNatClampNeg b.toNatClampNeg (S.1.1.n * S.1.1.n)), recL S.2.1 S.1, S.2.2.1, S.2.2.2)) else (.inr exA, S)) else (.inr exA, S)
theorem inI_get {x : Int32} {a b : Nat} (ha : a < 2147483648) (hb : b < 2147483648) (h : inI x (i3 a) (i3 b) = true) : ∃ k, a ≤ k ∧ k ≤ b ∧ x = i3 k := by
  unfold inI at h
  by_cases q : x < i3 a
  · rw [if_pos q] at h; cases h
  · rw [if_neg q] at h
    by_cases q2 : i3 b < x
    · rw [if_pos q2] at h; cases h
    · have h1 : (a : Int) ≤ x.toInt := by
        rw [Int32.lt_iff_toInt_lt, i3_toInt ha] at q; omega
      have h2 : x.toInt ≤ (b : Int) := by
        rw [Int32.lt_iff_toInt_lt, i3_toInt hb] at q2; omega
      refine ⟨x.toInt.toNat, by omega, by omega, ?_⟩
      apply Int32.toInt_inj.mp
      rw [i3_toInt (by omega)]
      omega
theorem startB_get {n m : Int32} (h : startB n m = true) : ∃ a b, okNM a b ∧ n = i3 a ∧ m = i3 b := by
  unfold startB at h
  rw [Bool.and_eq_true] at h
  obtain ⟨a, ha1, ha2, rfl⟩ := inI_get (a := 4) (b := 5) (by decide) (by decide) h.1
  have h2 := h.2
  rw [i3_pred (by omega)] at h2
  obtain ⟨b, hb1, hb2, rfl⟩ := inI_get (a := 2) (b := a - 1) (by decide) (by omega) h2
  exact ⟨a, b, by unfold okNM; omega, rfl, rfl⟩
theorem exM_lt {m v one other : Nat} (h1 : one < m) (h2 : other < m) (hv : v < 2 ^ (m + 1)) : exM v one other < 2 ^ (m + 1) := by
  unfold exM
  split
  · exact hv
  · refine Nat.xor_lt_two_pow hv (Nat.or_lt_two_pow ?_ ?_)
    · rw [Nat.one_shiftLeft]; exact Nat.pow_lt_pow_right (by decide) (by omega)
    · rw [Nat.one_shiftLeft]; exact Nat.pow_lt_pow_right (by decide) (by omega)
section XC
variable {Z : zT} {l : Launch} {G : aG} {h : aH} {x : Nat} {S : ST}
theorem B_isInG (hl : l.stackTraces = false) {a b c : Int32} : aC l G mX1_isIn (wsN mX1_isIn) 0 0 0 [.int a, .int b, .int c] h (aP1 (some (.int (bI (inI a b c)))) h) := by
  refine A_X1_isIn hl ?_
  have e : (if a < b then (0 : Int32) else if c < a then (0 : Int32) else 1) = bI (inI a b c) := by
    unfold inI
    by_cases q : a < b
    · rw [if_pos q, if_pos q]; rfl
    · rw [if_neg q, if_neg q]
      by_cases q2 : c < a
      · rw [if_pos q2, if_pos q2]; rfl
      · rw [if_neg q2, if_neg q2]; rfl
  unfold V_X1_isIn_0
  rw [e]
  exact ⟨vB_bI, rfl, rfl⟩
theorem B_clearCells (hl : l.stackTraces = false) (hW : WS Z G h x S) : aC l G mX1_clearCells (wsN mX1_clearCells) 50 2000 150000 [.ref x] h (opP Z G x (clearF S)) := by
  have hx : ∃ fs, h x = some (.inr (1, fs)) := by obtain ⟨I, tg, li, sl, sb, A, hM, -⟩ := hW; exact ⟨_, hM.obj⟩
  refine A_X1_clearCells hl ⟨hx, ?_⟩
  refine vC_r (B_recordZ hl hW (z := true)) (by decide) (by decide) (by decide) fun v h1 hR => ?_
  obtain ⟨hv, I1, tg1, li1, sl1, sb1, A1, hM1, hH1, hL1, hT1⟩ := hR
  rw [rcS_1] at hM1
  have hm := hM1.ok.m24
  have h32 := pow_le hm.2.2
  obtain ⟨F1, hB1, -⟩ := hM1.bd
  obtain ⟨f, hBr, hf⟩ := hB1.raw
  have hb : ∃ fs, h1 A1.1.2.2.1 = some (.inr (5, fs)) := by obtain ⟨_, _, hb, _⟩ := hBr; exact ⟨_, hb⟩
  refine ⟨hv, vR_mk hM1.obj rfl ⟨hb, ?_⟩⟩
  refine vC_r (B_clear hl hBr) (by decide) (by decide) (by decide) fun v2 h2 hR2 => ?_
  obtain ⟨rfl, k2, g, hg, g1, g2⟩ := hR2
  refine ⟨_, rfl, ?_, ?_⟩
  · show Sum.inl _ = Sum.inl _
    congr 4
    refine sumB_congr fun c hc => ?_
    have := (hf c hc)
    rw [this.1]
    unfold allN
    simp only [ne_eq, i3_eq (a := S.1.2 c) (b := 2 ^ (S.1.1.m + 1) - 1) (by omega) (by omega)]
  · have hfin := WS_setW (g := g) (w' := clrW S.1.1.n S.1.1.m S.1.2) hM1 hH1 hL1 hT1 k2 hg (fun c hc => by
      rw [g1 c hc]
      unfold clrW
      rw [if_pos hc]
      unfold allN
      have := Nat.two_pow_pos (S.1.1.m + 1)
      exact ⟨rfl, by omega⟩)
    exact hfin
theorem B_turnDiagonals (hl : l.stackTraces = false) (hW : WS Z G h x S) : aC l G mX1_turnDiagonals (wsN mX1_turnDiagonals) 50 2000 150000 [.ref x] h (opP Z G x (turnF S)) := by
  have hx : ∃ fs, h x = some (.inr (1, fs)) := by obtain ⟨I, tg, li, sl, sb, A, hM, -⟩ := hW; exact ⟨_, hM.obj⟩
  refine A_X1_turnDiagonals hl ⟨hx, ?_⟩
  refine vC_r (B_recordZ hl hW (z := true)) (by decide) (by decide) (by decide) fun v h1 hR => ?_
  obtain ⟨hv, I1, tg1, li1, sl1, sb1, A1, hM1, hH1, hL1, hT1⟩ := hR
  rw [rcS_1] at hM1
  obtain ⟨F1, hP1, tF1, hFs1⟩ := hM1.pzF
  have ho : ∃ fs, h1 A1.1.2.1 = some (.inr (3, fs)) := by obtain ⟨tl, ls, lo, ar, rw, T, L, R, sec, hok, -, -, -, -, ho, -⟩ := hP1; exact ⟨_, ho⟩
  refine ⟨hv, vR_mk hM1.obj rfl ⟨ho, ?_⟩⟩
  refine vC_r (B_turn3 hl hP1 hM1.I0) (by decide) (by decide) (by decide) fun v2 h2 hR2 => ?_
  obtain ⟨hv2, I2, ext2, hI2, k2, hP2⟩ := hR2
  have hx2 := k2 _ _ hM1.obj (fun w => by have := tF1 x w; have := hM1.2.1.1; omega)
  have hfin := WS_setP (p' := S.1.1.turn) hM1 hH1 hL1 hT1 rfl rfl hP2 tF1 hFs1 k2 ext2 hI2
  obtain ⟨tl, ls, lo, ar, rw, T, L, R, sec, hok, -, -, -, -, ho2, -⟩ := hP2
  exact ⟨hv2, vR_mk hx2 rfl (vI_mk ho2 rfl ⟨vB_bI, rfl, hfin⟩)⟩
theorem B_start (hl : l.stackTraces = false) (hW : WS Z G h x S) {n m : Int32} : aC l G mX1_start (wsN mX1_start) 50 2000 150000 [.ref x, .int n, .int m] h (opP Z G x (startF S n m)) := by
  have hx : ∃ fs, h x = some (.inr (1, fs)) := by obtain ⟨I, tg, li, sl, sb, A, hM, -⟩ := hW; exact ⟨_, hM.obj⟩
  have t25 : ∀ z : Bool, z = startB n m → T_X1_start_25 l G 50 2000 150000 (opP Z G x (startF S n m)) x n m (bI z) h 0 0 := by
    intro z hz
    refine A_X1_start_25 hl ?_
    refine vC_c (B_checkArgument hl) (by decide) (by decide) (by decide) (fun q => ⟨rfl, hx, ?_⟩) (fun q => ⟨by unfold startF; rw [← hz, q]; rfl, by unfold startF; rw [← hz, q]; exact hW⟩)
    rw [hz] at q
    have eF : startF S n m = (vi (n.toNatClampNeg * n.toNatClampNeg), ((Pz.new n.toNatClampNeg m.toNatClampNeg, fun _ => allN m.toNatClampNeg), recL S.2.1 S.1, S.2.2.1, S.2.2.2)) := by unfold startF; rw [q]; rfl
    rw [eF]
    obtain ⟨a, b, hok, rfl, rfl⟩ := startB_get q
    have ha := hok.n45
    have hb := hok.m24
    have h32 := pow_le hb.2.2
    rw [i3_nat (by omega), i3_nat (by omega)]
    refine vC_r (B_recordZ hl hW (z := true)) (by decide) (by decide) (by decide) fun v h1 hR => ?_
    obtain ⟨hv, I1, tg1, li1, sl1, sb1, A1, hM1, hH1, hL1, hT1⟩ := hR
    rw [rcS_1] at hM1
    have hM1' := hM1
    obtain ⟨F1, hP1, tF1, hFs1⟩ := hM1.pzF
    have ho : ∃ fs, h1 A1.1.2.1 = some (.inr (3, fs)) := by obtain ⟨tl, ls, lo, ar, rw, T, L, R, sec, hok, -, -, -, -, ho, -⟩ := hP1; exact ⟨_, ho⟩
    obtain ⟨tl, ls, lo, rw, ar, T, sec, hWp, hA, -⟩ := hP1.pw
    refine ⟨hv, vR_mk hM1.obj rfl ⟨ho, ?_⟩⟩
    refine vC_r (B_begin hl hok hWp hM1.I0) (by decide) (by decide) (by decide) fun v2 h2 hR2 => ?_
    obtain ⟨hv2, I2, ext2, hI2, k2, hP2⟩ := hR2
    have hx2 := k2 _ _ hM1.obj (fun w => by have := tF1 x w; have := hM1.2.1.1; omega)
    obtain ⟨⟨hI, hZ⟩, -, -, F0, FB, FT, FU, -, ⟨⟨f, hBd, -⟩, tB, nB⟩, -⟩ := hM1'
    obtain ⟨m1, m2⟩ := hBd.mem
    have hB2 : BRD h2 A1.1.2.2.1 A1.1.2.1 A1.1.2.2.2 FB f := hBd.kp k2 (fun q hq z => by have := tF1 q z; have := tB q hq; omega)
    have hI2n : ∀ q ∈ FB, ¬ I2 q := fun q hq z => by
      rcases ext2.2 q z with y | y
      · have := (hI q y).2; have := tB q hq; omega
      · exact BRD_some hBd q hq y
    have hBr2 : BDr I2 h2 A1.1.2.2.1 A1.1.2.1 A1.1.2.2.2 F1 (Pz.new a b) f := hB2.bdr hP2 fun q hq => ⟨fun z => by have := tF1 q z; have := tB q hq; omega, hI2n q hq⟩
    have hb2 : ∃ fs, h2 A1.1.2.2.1 = some (.inr (5, fs)) := by obtain ⟨_, _, hb, _⟩ := hBr2; exact ⟨_, hb⟩
    refine ⟨hv2, vR_mk hx2 rfl ⟨hb2, ?_⟩⟩
    refine vC_r (B_clear hl hBr2) (by decide) (by decide) (by decide) fun v3 h3 hR3 => ?_
    obtain ⟨rfl, k3, g, hg, g1, g2⟩ := hR3
    have t5 := tB _ m2
    have hP3 : PZ I2 h3 A1.1.2.1 F1 (Pz.new a b) := (hBr2.set k3 hg).1
    have hx3 := k3 _ _ hx2 (fun w => by have := hM1.2.1.1; rw [w] at this; omega)
    have ho3 : ∃ fs, h3 A1.1.2.1 = some (.inr (3, fs)) := by obtain ⟨tl, ls, lo, ar, rw, T, L, R, sec, hok, -, -, -, -, ho, -⟩ := hP3; exact ⟨_, ho⟩
    refine ⟨_, rfl, vR_mk hx3 rfl ⟨ho3, ?_⟩⟩
    refine vC_p (B_cellCount hl hP3) (by decide) (by decide) (by decide) ⟨_, rfl, rfl, ?_⟩
    refine WS_set hM1 hH1 hL1 hT1 hP3 tF1 hFs1 ((k2.mono fun q z => Or.inl z).tr (k3.mono fun q z => Or.inr z)) ext2 (fun q hq => ?_) hg (fun c hc => ?_)
    · cases z : h2 q with
      | none => exact absurd z (hI2 q hq)
      | some y => rw [k3 _ _ z (fun e => hI2n _ m2 (by rw [← e]; exact hq))]; simp
    · rw [g1 c hc]
      have := Nat.two_pow_pos (b + 1)
      refine ⟨rfl, ?_⟩
      show 2 ^ (b + 1) - 1 < 2 ^ (b + 1)
      omega
  refine A_X1_start hl ?_
  refine vC_p (B_isInG hl) (by decide) (by decide) (by decide) ⟨_, rfl, fun q => ?_, fun q => ?_⟩
  · rw [bI_eq0] at q
    exact t25 false (by unfold startB; rw [q]; rfl)
  · rw [bI_eq0] at q
    have q' : inI n 4 5 = true := by cases w : inI n 4 5 with
      | true => rfl
      | false => exact absurd w q
    refine vC_p (B_isInG hl) (by decide) (by decide) (by decide) ⟨_, rfl, ?_⟩
    have e : (if bI (inI m 2 (n - 1)) = 0 then (0 : Int32) else 1) = bI (inI m 2 (n - 1)) := by cases inI m 2 (n - 1) <;> rfl
    have w := t25 _ (show inI m 2 (n - 1) = startB n m by unfold startB; rw [q', Bool.true_and])
    rw [← e] at w
    exact w
theorem B_exchange (hl : l.stackTraces = false) (hW : WS Z G h x S) {a b : Int32} : aC l G mX1_exchange (wsN mX1_exchange) 50 2000 150000 [.ref x, .int a, .int b] h (opP Z G x (exchF S a b)) := by
  have hW0 := hW
  obtain ⟨I, tg, li, sl, sb, A, hM, -⟩ := hW
  have hok := hM.ok
  have hn := hok.n45
  have hm := hok.m24
  have hnn := nn_le hn
  have h32 := pow_le hm.2.2
  have hx : ∃ fs, h x = some (.inr (1, fs)) := ⟨_, hM.obj⟩
  refine A_X1_exchange hl ⟨hx, ?_⟩
  refine vC_c (B_checkLetter hl hM) (by decide) (by decide) (by decide) (fun q => ⟨rfl, hx, ?_⟩) (fun q => ⟨by unfold exchF; rw [q]; rfl, by unfold exchF; rw [q]; exact hW0⟩)
  refine vC_c (B_checkLetter hl hM) (by decide) (by decide) (by decide) (fun q2 => ⟨rfl, hx, ?_⟩) (fun q2 => ⟨by unfold exchF; rw [q, q2]; rfl, by unfold exchF; rw [q, q2]; exact hW0⟩)
  have eF : exchF S a b = (vi (sumB (fun e => S.1.1.tl e != 0 && ((S.1.1.tl e - 1) / 2 == a.toNatClampNeg || (S.1.1.tl e - 1) / 2 == b.toNatClampNeg)) (4 * S.1.1.n)), ((S.1.1.exch a.toNatClampNeg b.toNatClampNeg, exW S.1.2 a.toNatClampNeg b.toNatClampNeg (S.1.1.n * S.1.1.n)), recL S.2.1 S.1, S.2.2.1, S.2.2.2)) := by unfold exchF; rw [q, q2]; rfl
  rw [eF]
  obtain ⟨one, h1, rfl⟩ := isI_get (by omega) q
  obtain ⟨other, h2, rfl⟩ := isI_get (by omega) q2
  rw [i3_nat (by omega), i3_nat (by omega)]
  refine vC_r (B_recordZ hl hW0 (z := true)) (by decide) (by decide) (by decide) fun v h3 hR => ?_
  refine ⟨hR.1, ?_⟩
  have hR2 : WS Z G h3 x ((S.1.1, exW S.1.2 one other 0), (rcS true S).2) := hR.2
  have key := vloop (N := S.1.1.n * S.1.1.n) (T := fun j => ∀ h' c s, c ≤ 600 → s ≤ 60000 → WS Z G h' x ((S.1.1, exW S.1.2 one other j), (rcS true S).2) → T_X1_exchange_17 l G 50 2000 150000 (opP Z G x (vi (sumB (fun e => S.1.1.tl e != 0 && ((S.1.1.tl e - 1) / 2 == one || (S.1.1.tl e - 1) / 2 == other)) (4 * S.1.1.n)), ((S.1.1.exch one other, exW S.1.2 one other (S.1.1.n * S.1.1.n)), recL S.2.1 S.1, S.2.2.1, S.2.2.2))) x (i3 one) (i3 other) (i3 j) h' c s) ?_ ?_ 0 (Nat.zero_le _)
  · exact key h3 _ _ (by decide) (by decide) hR2
  · intro h' c s hc hs hW'
    obtain ⟨I1, tg1, li1, sl1, sb1, A1, hM1, hH1, hL1, hT1⟩ := hW'
    obtain ⟨F1, hP1, tF1, hFs1⟩ := hM1.pzF
    have ho : ∃ fs, h' A1.1.2.1 = some (.inr (3, fs)) := by obtain ⟨tl, ls, lo, ar, rw, T, L, R, sec, hok, -, -, -, -, ho, -⟩ := hP1; exact ⟨_, ho⟩
    refine A_X1_exchange_17 hl (vR_mk hM1.obj rfl ⟨ho, ?_⟩)
    refine vC_p (B_cellCount hl hP1) (by decide) (by omega) (by omega) ⟨_, rfl, fun _ => vR_mk hM1.obj rfl ⟨ho, ?_⟩, fun q => absurd (by show i3 (S.1.1.n * S.1.1.n) ≤ i3 (S.1.1.n * S.1.1.n); rw [i3_le (by omega) (by omega)]; exact Nat.le_refl _) q⟩
    refine vC_r (B_exchange3 hl hP1 h1 h2) (by decide) (by omega) (by omega) fun v2 h4 hR4 => ?_
    obtain ⟨rfl, k4, hP4⟩ := hR4
    refine ⟨_, rfl, rfl, ?_⟩
    have hIk : ∀ q, I1 q → h4 q ≠ none := fun q hq => by
      cases z2 : h' q with
      | none => exact absurd z2 (hM1.I0 q hq)
      | some y => rw [k4 _ _ z2 (fun w => by have := tF1 q w; have := hM1.I1 q hq; omega)]; simp
    exact WS_setP hM1 hH1 hL1 hT1 rfl rfl hP4 tF1 hFs1 k4 extI.rf hIk
  · intro j hj ih h' c s hc hs hW'
    obtain ⟨I1, tg1, li1, sl1, sb1, A1, hM1, hH1, hL1, hT1⟩ := hW'
    obtain ⟨F1, hB1, -⟩ := hM1.bd
    obtain ⟨hP1, rb, f, hb, ht, hf, -⟩ := hB1
    have ho : ∃ fs, h' A1.1.2.1 = some (.inr (3, fs)) := by obtain ⟨tl, ls, lo, ar, rw, T, L, R, sec, hok, -, -, -, -, ho, -⟩ := hP1; exact ⟨_, ho⟩
    have hf : ∀ c, c < S.1.1.n * S.1.1.n → f c = i3 (exW S.1.2 one other j c) ∧ exW S.1.2 one other j c < 2 ^ (S.1.1.m + 1) := hf
    have hj25 : j < 25 := by omega
    have hwj : exW S.1.2 one other j j = S.1.2 j := by unfold exW; rw [if_neg (Nat.lt_irrefl _)]
    have hfj := hf j hj
    rw [hwj] at hfj
    refine A_X1_exchange_17 hl (vR_mk hM1.obj rfl ⟨ho, ?_⟩)
    refine vC_p (B_cellCount hl hP1) (by decide) (by omega) (by omega) ⟨_, rfl, fun q => absurd (by have q' : i3 (S.1.1.n * S.1.1.n) ≤ i3 j := q; rwa [i3_le (by omega) (by omega)] at q') (by omega : ¬ S.1.1.n * S.1.1.n ≤ j), fun _ => vR_mk hM1.obj rfl (vR_mk hb rfl (vA_mk ht rfl hj25 (by decide) ?_))⟩
    rw [hfj.1]
    refine vC_p (B_has hl (by omega) (by omega)) (by decide) (by omega) (by omega) ⟨_, rfl, vR_mk hM1.obj rfl (vR_mk hb rfl (vA_mk ht rfl hj25 (by decide) ?_))⟩
    rw [hfj.1]
    refine vC_p (B_has hl (by omega) (by omega)) (by decide) (by omega) (by omega) ⟨_, rfl, vR_mk hM1.obj rfl (vR_mk hb rfl (vA_mk ht rfl hj25 (by decide) (vSt_mk ht rfl hj25 (by decide) ?_)))⟩
    have ex : f j ^^^ (if (if bI ((S.1.2 j).testBit one) = bI ((S.1.2 j).testBit other) then (0 : Int32) else 1) = 0 then (0 : Int32) else ((1 : Int32) <<< (i3 one &&& 31)) ||| ((1 : Int32) <<< (i3 other &&& 31))) = i3 (exM (S.1.2 j) one other) := by
      rw [hfj.1]
      unfold exM
      by_cases q : (S.1.2 j).testBit one = (S.1.2 j).testBit other
      · have e1 : (if bI ((S.1.2 j).testBit one) = bI ((S.1.2 j).testBit other) then (0 : Int32) else 1) = 0 := if_pos (congrArg bI q)
        rw [e1, if_pos rfl, if_pos q]
        show i3 (S.1.2 j) ^^^ i3 0 = _
        rw [i3_xor, Nat.xor_zero]
      · have q' : ¬ bI ((S.1.2 j).testBit one) = bI ((S.1.2 j).testBit other) := by
          intro z
          cases w1 : (S.1.2 j).testBit one <;> cases w2 : (S.1.2 j).testBit other <;> rw [w1, w2] at q z <;> first | exact q rfl | exact absurd z (by decide)
        have e1 : (if bI ((S.1.2 j).testBit one) = bI ((S.1.2 j).testBit other) then (0 : Int32) else 1) = 1 := if_neg q'
        rw [e1, if_neg (by decide), if_neg q, show (1 : Int32) = i3 1 from rfl, i3_shl (by omega), i3_shl (by omega), i3_or, i3_xor]
    rw [ex, i3_succ]
    refine ih _ c s hc hs ?_
    have hfin : ∀ g : Nat → Int32, (∀ y, y < S.1.1.n * S.1.1.n → g y = i3 (exW S.1.2 one other (j + 1) y) ∧ exW S.1.2 one other (j + 1) y < 2 ^ (S.1.1.m + 1)) → WS Z G (aUp h' A1.1.2.2.2 (aInts .int 25 g)) x ((S.1.1, exW S.1.2 one other (j + 1)), (rcS true S).2) := fun g hg => WS_setW hM1 hH1 hL1 hT1 (kp.up rfl) aUp_eq hg
    refine hfin _ fun y hy => ?_
    by_cases e : y = j
    · rw [e, upd_same]
      unfold exW
      rw [if_pos (Nat.lt_succ_self _)]
      exact ⟨rfl, exM_lt h1 h2 hfj.2⟩
    · rw [upd_ne e]
      have e2 : exW S.1.2 one other (j + 1) y = exW S.1.2 one other j y := by
        unfold exW
        by_cases z : y < j
        · rw [if_pos z, if_pos (by omega)]
        · rw [if_neg z, if_neg (by omega)]
      rw [e2]
      exact hf y hy
end XC
