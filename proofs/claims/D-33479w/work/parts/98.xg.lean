/-! the component's methods: solutions row by row; the mirror
-/
set_option maxRecDepth 100000
def mirC (n c : Nat) : Nat := c % n * n + c / n
def mirE (n e : Nat) : Nat := (3 - e / n) * n + e % n
def mirW (n : Nat) (w : Nat → Nat) (j d : Nat) : Nat := if d < n * n ∧ mirC n d < j then w (mirC n d) else w d
def Pz.mir (p : Pz) (j : Nat) : Pz := (p.1, p.2.1, p.2.2.1, fun e => if e < 4 * p.n ∧ mirE p.n e < j then p.tl (mirE p.n e) else p.tl e)
def mirrorF (S : ST) : aR × ST := (vi (toldN (S.1.1.mir (4 * S.1.1.n))), ((S.1.1.mir (4 * S.1.1.n), mirW S.1.1.n S.1.2 (S.1.1.n * S.1.1.n)), (rcS true S).2))
theorem mirC_inv {n c : Nat} (hn : n = 4 ∨ n = 5) (hc : c < n * n) : mirC n c < n * n ∧ mirC n (mirC n c) = c := by
  unfold mirC
  rcases hn with rfl | rfl <;> omega
theorem mirE_dec4 : ∀ e : Fin 16, mirE 4 e.1 < 16 ∧ mirE 4 (mirE 4 e.1) = e.1 := by decide +kernel
theorem mirE_dec5 : ∀ e : Fin 20, mirE 5 e.1 < 20 ∧ mirE 5 (mirE 5 e.1) = e.1 := by decide +kernel
theorem mirE_inv {n e : Nat} (hn : n = 4 ∨ n = 5) (he : e < 4 * n) : mirE n e < 4 * n ∧ mirE n (mirE n e) = e := by
  rcases hn with rfl | rfl
  · exact mirE_dec4 ⟨e, he⟩
  · exact mirE_dec5 ⟨e, he⟩
theorem mirW_lt {n : Nat} {w : Nat → Nat} {j k N : Nat} (hn : n = 4 ∨ n = 5) (hk : k < n * n) (hw : ∀ c, c < n * n → w c < N) : mirW n w j k < N := by
  unfold mirW
  split
  · exact hw _ (mirC_inv hn hk).1
  · exact hw _ hk
theorem mirW_step {n : Nat} {w : Nat → Nat} {j d : Nat} (hn : n = 4 ∨ n = 5) (hj : j < n * n) (hd : d < n * n) : mirW n w (j + 1) d = if d = mirC n j then w j else mirW n w j d := by
  have h1 := mirC_inv hn hj
  have h2 := mirC_inv hn hd
  unfold mirW
  by_cases q : d = mirC n j
  · rw [if_pos q, q, if_pos ⟨h1.1, by omega⟩, h1.2]
  · rw [if_neg q]
    have : mirC n d ≠ j := fun e => q (by rw [← e, h2.2])
    by_cases q2 : mirC n d < j
    · rw [if_pos ⟨hd, by omega⟩, if_pos ⟨hd, q2⟩]
    · rw [if_neg (by omega), if_neg (by omega)]
theorem mir_step {p : Pz} {j : Nat} (hn : p.n = 4 ∨ p.n = 5) (hj : j < 4 * p.n) : (p.mir j).setT (mirE p.n j) (p.tl j) = p.mir (j + 1) := by
  obtain ⟨n, m, dg, tl⟩ := p
  have hn : n = 4 ∨ n = 5 := hn
  have hj : j < 4 * n := hj
  have h1 := mirE_inv hn hj
  refine congrArg (fun f => (n, m, dg, f)) (funext fun x => ?_)
  show (if x = mirE n j then tl j else if x < 4 * n ∧ mirE n x < j then tl (mirE n x) else tl x) = if x < 4 * n ∧ mirE n x < j + 1 then tl (mirE n x) else tl x
  by_cases q : x = mirE n j
  · rw [if_pos q, q, if_pos ⟨h1.1, by omega⟩, h1.2]
  · rw [if_neg q]
    by_cases hx : x < 4 * n
    · have h2 := mirE_inv hn hx
      have : mirE n x ≠ j := fun e => q (by rw [← e, h2.2])
      by_cases q2 : mirE n x < j
      · rw [if_pos ⟨hx, q2⟩, if_pos ⟨hx, by omega⟩]
      · rw [if_neg (by omega), if_neg (by omega)]
    · rw [if_neg (by omega), if_neg (by omega)]
theorem mir_0 {p : Pz} : p.mir 0 = p := by
  obtain ⟨n, m, dg, tl⟩ := p
  refine congrArg (fun f => (n, m, dg, f)) (funext fun x => ?_)
  exact if_neg (by omega)
theorem BRD_rows2 {I : Nat → Prop} {h : aH} {b a th : Nat} {F FB : List Nat} {f : Nat → Int32} (hB : BRD h b a th FB f) (hd : ∀ q ∈ FB, q ∉ F ∧ ¬ I q) (hN : FB.Nodup) : ∃ rr, RBv I h b F rr ∧ (∀ i, i < 5 → rr i ∈ FB) ∧ ∀ h' f', kp (rowS th rr 0) h h' → h' th = some (aInts .int 25 f') → RBv I h' b F rr → BRD h' b a th FB f' := by
  have hB0 := hB
  obtain ⟨rb, rr, R, e, h1, h2, h3, h4⟩ := hB
  have hm : ∀ i, i < 5 → rr i ∈ FB := fun i hi => by
    rw [e]
    simp only [List.mem_cons, List.mem_map, List.mem_range]
    exact Or.inr (Or.inr (Or.inr ⟨i, hi, rfl⟩))
  refine ⟨rr, ⟨a, th, rb, R, h1, h3, fun i hi => ?_⟩, hm, fun h' f' hk hf' hR' => ?_⟩
  · obtain ⟨k1, k2⟩ := h4 i hi
    refine ⟨k1, k2, (hd _ (hm i hi)).1, (hd _ (hm i hi)).2, fun j hj z => ?_⟩
    rw [e, List.nodup_cons, List.nodup_cons, List.nodup_cons] at hN
    have n11 := hN.2.2.2
    unfold List.Nodup at n11
    rw [List.pairwise_map] at n11
    have key : ∀ i j, i < j → j < 5 → rr i ≠ rr j := fun i j hij hj => by
      have := List.pairwise_iff_getElem.mp n11 i j (by rw [List.length_range]; omega) (by rw [List.length_range]; exact hj) hij
      rw [List.getElem_range, List.getElem_range] at this
      exact this
    rcases Nat.lt_trichotomy i j with q | q | q
    · exact absurd z (key i j q hj)
    · exact q
    · exact absurd z.symm (key j i q hi)
  · have hn : ∀ q, (∃ y : Nat × List Value, h q = some (.inr y)) ∨ (∃ n g, h q = some (aRefs (.array .int) n g)) → ¬ rowS th rr 0 q := by
      intro q hq z
      have hz : ∃ n g, h q = some (aInts .int n g) := by
        rcases z with z | ⟨i, -, hi, z⟩
        · rw [z]; exact ⟨_, _, h2⟩
        · obtain ⟨-, g, k2⟩ := h4 i hi
          rw [z]; exact ⟨_, _, k2⟩
      obtain ⟨n, g, hz⟩ := hz
      rcases hq with ⟨y, hy⟩ | ⟨n2, g2, hy⟩
      · rw [hz] at hy; cases hy
      · rw [hz] at hy; cases hy
    obtain ⟨_, _, _, _, -, -, c3⟩ := hR'
    exact ⟨rb, rr, R, e, hk _ _ h1 (hn _ (Or.inl ⟨_, h1⟩)), hf', hk _ _ h3 (hn _ (Or.inr ⟨_, _, h3⟩)), fun i hi => ⟨(h4 i hi).1, (c3 i hi).2.1⟩⟩
section XGW
variable {Z : zT} {G : aG} {I : Nat → Prop} {h h' : aH} {tg : Nat → Nat} {x li sl sb : Nat} {A : adT} {p : Pz} {w : Nat → Nat} {hist : List stT} {slots : Nat → Option stT} {text : List Nat}
/-- the further board's own things and rows changed -/
theorem W4_rows (hM : WM Z I h tg x li sl sb A p w) (hH : WH G I h tg li hist) (hL : WL I h tg sl slots) (hT : WT h tg sb text) {F : List Nat} (hF : ∀ q ∈ F, tg q = 4) : ∃ rr, RBv I h A.2.2.2.1 F rr ∧ ∀ h', kp (rowS A.2.2.2.2 rr 0) h h' → (∃ f, h' A.2.2.2.2 = some (aInts .int 25 f)) → RBv I h' A.2.2.2.1 F rr → ∃ tg', WM Z I h' tg' x li sl sb A p w ∧ WH G I h' tg' li hist ∧ WL I h' tg' sl slots ∧ WT h' tg' sb text := by
  have hM0 := hM
  obtain ⟨⟨hI, hZ⟩, ⟨x1, x2⟩, ⟨d1, d2⟩, F0, FB, FT, FU, ⟨hP, tF⟩, ⟨⟨f, hB, hf⟩, tB, nB⟩, ⟨⟨ft, hTt⟩, tT, nT⟩, ⟨fu, hU⟩, tU, nU⟩ := hM
  obtain ⟨rr, hR, hm, hnew⟩ := BRD_rows2 hU (I := I) (F := F) (fun q hq => ⟨fun z => by have := hF q z; have := tU q hq; omega, fun z => by have := (hI q z).2; have := tU q hq; omega⟩) nU
  refine ⟨rr, hR, fun h' hk hf' hR' => ?_⟩
  obtain ⟨m1, m2⟩ := hU.mem
  have hS : ∀ q, rowS A.2.2.2.2 rr 0 q → tg q = 7 := fun q z => by
    rcases z with z | ⟨i, -, hi, z⟩
    · rw [z]; exact tU _ m2
    · rw [z]; exact tU _ (hm i hi)
  have hIk : ∀ q, I q → h' q ≠ none := fun q hq => by
    cases z : h q with
    | none => exact absurd z (hI q hq).1
    | some y => rw [hk _ _ z (fun e => by have := hS q e; have := (hI q hq).2; omega)]; simp
  have st : stp (rowS A.2.2.2.2 rr 0) I I h h' tg tg := ⟨hk, fun _ h => h, fun q hq => ⟨hIk q hq, (hI q hq).2⟩, fun _ _ => rfl⟩
  have hPn : ∀ q ∈ F0, ¬ I q := fun q hq z => by have := (hI q z).2; have := tF q hq; omega
  obtain ⟨gf, hgf⟩ := hf'
  exact ⟨tg, ⟨⟨fun q hq => ⟨hIk q hq, (hI q hq).2⟩, fun q e z => ⟨hk _ _ (hZ q e z).1 (fun w => by have := hS q w; have := (hZ q e z).2; omega), (hZ q e z).2⟩⟩, ⟨x1, hk _ _ x2 (fun z => by have := hS x z; omega)⟩, ⟨d1, hk _ _ d2 (fun z => by have := hS _ z; omega)⟩, F0, FB, FT, FU, ⟨hP.kp hk (fun q hq z => by have := hS q z; have := tF q hq; omega) (fun q hq z => by have := hS q z; have := (hI q hq).2; omega) (fun _ h => h) hPn, tF⟩, ⟨⟨f, hB.kp hk (fun q hq z => by have := hS q z; have := tB q hq; omega), hf⟩, tB, nB⟩, ⟨⟨ft, hTt.kp hk (fun q hq z => by have := hS q z; have := tT q hq; omega)⟩, tT, nT⟩, ⟨gf, hnew h' gf hk hgf hR'⟩, tU, nU⟩, hH.keep st hM0.I1 (fun q z => by have := hS q z; omega), hL.keep st hM0.I1 (fun q z => by have := hS q z; omega), hT.keep st (fun q z => by have := hS q z; omega)⟩
/-- new things: whose they are can be chosen -/
theorem W4_tag (hM : WM Z I h tg x li sl sb A p w) (hH : WH G I h tg li hist) (hL : WL I h tg sl slots) (hT : WT h tg sb text) (k : Nat) (hk : kp (fun _ => False) h h') : ∃ tg', (∀ q, h q ≠ none → tg' q = tg q) ∧ (∀ q, h q = none → tg' q = k) ∧ WM Z I h' tg' x li sl sb A p w ∧ WH G I h' tg' li hist ∧ WL I h' tg' sl slots ∧ WT h' tg' sb text := by
  obtain ⟨tg', htg⟩ : ∃ tg' : Nat → Nat, tg' = fun q => @ite _ (h q ≠ none) (Classical.propDecidable _) (tg q) k := ⟨_, rfl⟩
  have tgo : ∀ q, h q ≠ none → tg' q = tg q := fun q hq => by rw [htg]; exact if_pos hq
  have tgn : ∀ q, h q = none → tg' q = k := fun q hq => by
    rw [htg]
    exact if_neg (fun z => z hq)
  have st : stp (fun _ => False) I I h h' tg tg' := by
    refine ⟨hk, fun _ h => h, fun q hq => ⟨?_, by rw [tgo q (hM.I0 q hq)]; exact hM.I1 q hq⟩, tgo⟩
    cases z : h q with
    | none => exact absurd z (hM.I0 q hq)
    | some y => rw [hk _ _ z id]; simp
  exact ⟨tg', tgo, tgn, hM.keep st (fun _ => False.elim), hH.keep st hM.I1 (fun _ => False.elim), hL.keep st hM.I1 (fun _ => False.elim), hT.keep st (fun _ => False.elim)⟩
end XGW
section XG
variable {Z : zT} {l : Launch} {G : aG} {h : aH} {x : Nat} {S : ST}
theorem B_countByRows (hl : l.stackTraces = false) (hW : WS Z G h x S) : aC l G mX1_solutionCountByRows (wsN mX1_solutionCountByRows) 50 2000 150000 [.ref x] h (opP Z G x (countF S, S)) := by
  obtain ⟨I, tg, li, sl, sb, A, hM, hH, hL, hT⟩ := hW
  have hok := hM.ok
  have hn := hok.n45
  obtain ⟨⟨rbf, ff, of1, of2⟩, -, tf7⟩ := hM.fobj
  refine A_X1_solutionCountByRows hl (vR_mk hM.obj rfl (vR_mk hM.obj rfl ⟨⟨_, of1⟩, ?_⟩))
  refine vC_copyTo hl hM (by decide) (by decide) (by decide) fun v h1 hR1 => ?_
  obtain ⟨hv, k1, g1, e1, e2⟩ := hR1
  obtain ⟨tg1, a1, a2, a3, a4⟩ := W4_further hM hH hL hT k1 ⟨_, e1⟩
  obtain ⟨F1, hB1, hTB1, tF1⟩ := a1.fb e1 e2
  have hW1 : WS Z G h1 x S := ⟨I, tg1, li, sl, sb, A, a1, a2, a3, a4⟩
  have hb1 : ∃ fs, h1 A.2.2.2.1 = some (.inr (5, fs)) := by obtain ⟨-, _, _, z, -⟩ := hB1; exact ⟨_, z⟩
  refine ⟨hv, vR_mk a1.obj rfl ⟨hb1, vC_p (B_isBroken hl hB1) (by decide) (by decide) (by decide) ⟨_, rfl, ?_⟩⟩⟩
  simp only [bI_eq0]
  refine ⟨fun q => vR_mk a1.obj rfl ⟨hb1, ?_⟩, fun q => ⟨?_, hW1⟩⟩
  · obtain ⟨rr, hR, hnew⟩ := W4_rows a1 a2 a3 a4 tF1
    have hcb := B_countBoth (l := l) (G := G) hl S.1.1.n h1 S.1.2 0 200 rfl (Nat.zero_le _) (by decide) (by decide) hB1 hR (fun c hc => absurd hc (by omega))
    refine vC_r hcb (by omega) (by decide) (by decide) fun v3 h3 hR3 => ?_
    obtain ⟨rfl, k3, hB3, hR3⟩ := hR3
    obtain ⟨-, rb3, g3, hb3, hth3, hf3, -⟩ := hB3
    obtain ⟨tg4, b1, b2, b3, b4⟩ := hnew h3 k3 ⟨_, hth3⟩ hR3
    exact ⟨_, rfl, rfl, I, tg4, li, sl, sb, A, b1, b2, b3, b4⟩
  · have q' : brkB S.1.1 S.1.2 = true := by simpa using q
    unfold brkB at q'
    rw [any_range] at q'
    obtain ⟨i, hi, hz⟩ := q'
    have hs : sols S.1.1 S.1.2 = [] := brk_sols hok hi hz
    unfold countF resN
    rw [hs]; rfl
theorem B_mirrored (hl : l.stackTraces = false) {I : Nat → Prop} {a : Nat} {F : List Nat} {p : Pz} (hP : PZ I h a F p) {c : Nat} (hc : c < p.n * p.n) : aC l G mX3_mirrored (wsN mX3_mirrored) 0 0 0 [.ref a, .int (i3 c)] h (aP1 (some (.int (i3 (mirC p.n c)))) h) := by
  have hn := hP.ok.n45
  have hnn := nn_le hn
  obtain ⟨tl, ls, lo, ar, rw, T, L, R, sec, hok, -, -, -, -, ho, -⟩ := hP
  have h0 : ¬ i3 p.n = 0 := by have e0 : (i3 p.n = 0) = (p.n = 0) := i3_eq (b := 0) (by omega) (by decide); rw [e0]; omega
  refine A_X3_mirrored hl (vI_mk ho rfl ⟨h0, vI_mk ho rfl (vI_mk ho rfl ⟨h0, ?_, rfl⟩)⟩)
  rw [i3_rem (by omega) (by omega), i3_div (by omega) (by omega), i3_mul, i3_add]
  rfl
theorem B_mirroredEdge (hl : l.stackTraces = false) {I : Nat → Prop} {a : Nat} {F : List Nat} {p : Pz} (hP : PZ I h a F p) {e : Nat} (he : e < 4 * p.n) : aC l G mX3_mirroredEdge (wsN mX3_mirroredEdge) 0 0 0 [.ref a, .int (i3 e)] h (aP1 (some (.int (i3 (mirE p.n e)))) h) := by
  have hn := hP.ok.n45
  obtain ⟨tl, ls, lo, ar, rw, T, L, R, sec, hok, -, -, -, -, ho, -⟩ := hP
  have h0 : ¬ i3 p.n = 0 := by have e0 : (i3 p.n = 0) = (p.n = 0) := i3_eq (b := 0) (by omega) (by decide); rw [e0]; omega
  have h3 : e / p.n ≤ 3 := by
    have : e / p.n < 4 := by rw [Nat.div_lt_iff_lt_mul (by omega)]; omega
    omega
  refine A_X3_mirroredEdge hl (vI_mk ho rfl ⟨h0, vI_mk ho rfl (vI_mk ho rfl ⟨h0, ?_, rfl⟩)⟩)
  have e3 : (3 : Int32) - i3 (e / p.n) = i3 (3 - e / p.n) := i3_sub (a := 3) h3
  rw [i3_rem (by omega) (by omega), i3_div (by omega) (by omega), e3, i3_mul, i3_add]
  rfl
def WE (Z : zT) (G : aG) (h : aH) (x : Nat) (S : ST) (w : Nat → Nat) : Prop := ∃ (I : Nat → Prop) (tg : Nat → Nat) (li sl sb : Nat) (A : adT) (g : Nat → Int32), WM Z I h tg x li sl sb A S.1.1 S.1.2 ∧ WH G I h tg li S.2.1 ∧ WL I h tg sl S.2.2.1 ∧ WT h tg sb S.2.2.2 ∧ h A.2.2.2.2 = some (aInts .int 25 g) ∧ ∀ c, c < S.1.1.n * S.1.1.n → g c = i3 (w c) ∧ w c < 2 ^ (S.1.1.m + 1)
def WK (Z : zT) (G : aG) (h : aH) (x : Nat) (S : ST) (a : Nat) (T : Nat → Int32) : Prop := ∃ (I : Nat → Prop) (tg : Nat → Nat) (li sl sb : Nat) (A : adT), WM Z I h tg x li sl sb A S.1.1 S.1.2 ∧ WH G I h tg li S.2.1 ∧ WL I h tg sl S.2.2.1 ∧ WT h tg sb S.2.2.2 ∧ tg a = 13 ∧ h a = some (aInts .int 20 T)
theorem B_mirror (hl : l.stackTraces = false) (hW : WS Z G h x S) : aC l G mX1_mirror (wsN mX1_mirror) 50 2000 150000 [.ref x] h (opP Z G x (mirrorF S)) := by
  have hx : ∃ fs, h x = some (.inr (1, fs)) := by obtain ⟨I, tg, li, sl, sb, A, hM, -⟩ := hW; exact ⟨_, hM.obj⟩
  have hok : okNM S.1.1.n S.1.1.m := by obtain ⟨I, tg, li, sl, sb, A, hM, -⟩ := hW; exact hM.ok
  have hn := hok.n45
  have hm := hok.m24
  have hnn := nn_le hn
  have hw : ∀ c, c < S.1.1.n * S.1.1.n → S.1.2 c < 2 ^ (S.1.1.m + 1) := by
    obtain ⟨I, tg, li, sl, sb, A, hM, -⟩ := hW
    obtain ⟨F, hB, -⟩ := hM.bd
    exact hB.bnd
  have htl : ∀ e, e < 20 → S.1.1.tl e ≤ 2 * S.1.1.m := by
    obtain ⟨I, tg, li, sl, sb, A, hM, -⟩ := hW
    obtain ⟨F, hP⟩ := hM.pz
    obtain ⟨tl, ls, lo, ar, rw, T, L, R, sec, -, hbd, -⟩ := hP
    exact hbd
  refine A_X1_mirror hl ⟨hx, ?_⟩
  refine vC_r (B_recordZ hl hW (z := true)) (by decide) (by decide) (by decide) fun v h1 hR => ?_
  obtain ⟨hv, I1, tg1, li1, sl1, sb1, A1, hM1, hH1, hL1, hT1⟩ := hR
  rw [rcS_1] at hM1
  obtain ⟨⟨rbf, ff, of1, of2⟩, -, tf7⟩ := hM1.fobj
  refine ⟨hv, vR_mk hM1.obj rfl (vR_mk hM1.obj rfl ⟨⟨_, of1⟩, ?_⟩)⟩
  refine vC_copyTo hl hM1 (by decide) (by decide) (by decide) fun v h2 hR1 => ?_
  obtain ⟨hv2, k1, g1, e1, e2⟩ := hR1
  obtain ⟨tg2, a1, a2, a3, a4⟩ := W4_further hM1 hH1 hL1 hT1 k1 ⟨_, e1⟩
  refine ⟨hv2, ?_⟩
  -- the tellings
  have edges := vloop (N := 4 * S.1.1.n) (T := fun j => ∀ h' c s a T sec, c ≤ 600 → s ≤ 60000 → (∀ e, e < 20 → T e = letV (S.1.1.tl e)) → sec < 2 ^ 20 → (∀ e, e < 20 → sec.testBit e = (S.1.1.tl e != 0 && S.1.1.tl e % 2 == 0)) → WK Z G h' x ((S.1.1.mir j, mirW S.1.1.n S.1.2 (S.1.1.n * S.1.1.n)), (rcS true S).2) a T → T_X1_mirror_90 l G 50 2000 150000 (opP Z G x (mirrorF S)) x a (i3 sec) (i3 j) h' c s) ?_ ?_
  · -- the cells
    have cells := vloop (N := S.1.1.n * S.1.1.n) (T := fun j => ∀ h' c s, c ≤ 512 → s ≤ 49607 → WE Z G h' x ((S.1.1, mirW S.1.1.n S.1.2 j), (rcS true S).2) S.1.2 → T_X1_mirror_18 l G 50 2000 150000 (opP Z G x (mirrorF S)) x (i3 j) h' c s) ?_ ?_ 0 (Nat.zero_le _)
    · refine cells h2 _ _ (by decide) (by decide) ⟨I1, tg2, li1, sl1, sb1, A1, g1, ?_, a2, a3, a4, e1, e2⟩
      have e0 : mirW S.1.1.n S.1.2 0 = S.1.2 := funext fun d => by unfold mirW; exact if_neg (by omega)
      show WM Z I1 h2 tg2 x li1 sl1 sb1 A1 S.1.1 (mirW S.1.1.n S.1.2 0)
      rw [e0]; exact a1
    · intro h' c s hc hs hE
      obtain ⟨I3, tg3, li3, sl3, sb3, A3, g3, hM3, hH3, hL3, hT3, eg3, eg4⟩ := hE
      have hM3 : WM Z I3 h' tg3 x li3 sl3 sb3 A3 S.1.1 (mirW S.1.1.n S.1.2 (S.1.1.n * S.1.1.n)) := hM3
      obtain ⟨F3, hP3⟩ := hM3.pz
      have hP30 := hP3
      obtain ⟨tl, ls, lo, ar, rw, T, L, R, sec, -, -, eF, -, -, ho, hT1', hT2', ⟨hs1, hs2⟩, -⟩ := hP3
      refine A_X1_mirror_18 hl (vR_mk hM3.obj rfl ⟨hM3.pobj, vC_p (B_cellCount hl hP30) (by decide) (by omega) (by omega) ⟨_, rfl, fun _ => ?_, fun z => absurd (by show i3 (S.1.1.n * S.1.1.n) ≤ i3 (S.1.1.n * S.1.1.n); rw [i3_le (by omega) (by omega)]; exact Nat.le_refl _) z⟩⟩)
      refine ⟨20, by decide, rfl, by decide, by omega, by omega, fun a7 ha7 _ => ?_⟩
      have kn : kp (fun _ => False) h' (aUp h' a7 (aInts .int 20 fun _ => 0)) := kp.new ha7
      refine vR_mk (kn _ _ hM3.obj id) rfl (vI_mk (kn _ _ ho id) rfl (vR_mk (kn _ _ hM3.obj id) rfl (vR_mk (kn _ _ ho id) rfl ⟨by decide, ?_⟩)))
      refine vCpyI_mk (sp := 0) (dp := 0) (n := 20) (kn _ _ hT1' id) aUp_eq rfl rfl rfl (by decide) (by decide) (by decide) (by decide) ?_
      have kn2 : ∀ e, kp (fun _ => False) h' (aUp (aUp h' a7 (aInts .int 20 fun _ => 0)) a7 e) := fun e => kp_fresh kn ha7
      obtain ⟨tg4, t1, t2, b1, b2, b3, b4⟩ := W4_tag hM3 hH3 hL3 hT3 13 (kn2 (aInts .int 20 (va_cpy T (fun _ => 0) 0 0 20)))
      refine edges 0 (Nat.zero_le _) _ _ _ a7 (va_cpy T (fun _ => 0) 0 0 20) sec (by omega) (by omega) (fun e he => ?_) hs1 hs2 ⟨I3, tg4, li3, sl3, sb3, A3, ?_, b2, b3, b4, t2 a7 ha7, aUp_eq⟩
      · unfold va_cpy
        rw [if_pos (by omega)]
        rw [show 0 + (e - 0) = e by omega]
        exact hT2' e he
      · show WM Z I3 _ tg4 x li3 sl3 sb3 A3 (S.1.1.mir 0) _
        rw [mir_0]; exact b1
    · intro j hj ih h' c s hc hs hE
      obtain ⟨I3, tg3, li3, sl3, sb3, A3, g3, hM3, hH3, hL3, hT3, eg3, eg4⟩ := hE
      have hM3 : WM Z I3 h' tg3 x li3 sl3 sb3 A3 S.1.1 (mirW S.1.1.n S.1.2 j) := hM3
      obtain ⟨F3, hB3, tF3, t5, t5b⟩ := hM3.bd
      obtain ⟨hP3, rb, f, hb, hth, hf, -⟩ := hB3
      obtain ⟨⟨rbf3, ff3, of31, of32⟩, tg7a, tg7⟩ := hM3.fobj
      have hmj := mirC_inv hn hj
      refine A_X1_mirror_18 hl (vR_mk hM3.obj rfl ⟨hM3.pobj, vC_p (B_cellCount hl hP3) (by decide) (by omega) (by omega) ⟨_, rfl, fun z => absurd (by have z' : i3 (S.1.1.n * S.1.1.n) ≤ i3 j := z; rwa [i3_le (by omega) (by omega)] at z') (by omega : ¬ S.1.1.n * S.1.1.n ≤ j), fun _ => vR_mk hM3.obj rfl (vR_mk hb rfl (vR_mk hM3.obj rfl ⟨hM3.pobj, ?_⟩))⟩⟩)
      refine vC_p (B_mirrored hl hP3 hj) (by decide) (by omega) (by omega) ⟨_, rfl, vR_mk hM3.obj rfl (vR_mk of31 rfl (vA_mk eg3 rfl (by omega : j < 25) (by decide) ?_))⟩
      have hgj := eg4 j hj
      rw [hgj.1]
      refine vSt_mk hth rfl (by omega : mirC S.1.1.n j < 25) (by decide) ?_
      rw [i3_succ]
      have hne : A3.2.2.2.2 ≠ A3.1.2.2.2 := fun e => by rw [e, t5] at tg7; cases tg7
      have hfin : ∀ g : Nat → Int32, (∀ y, y < S.1.1.n * S.1.1.n → g y = i3 (mirW S.1.1.n S.1.2 (j + 1) y) ∧ mirW S.1.1.n S.1.2 (j + 1) y < 2 ^ (S.1.1.m + 1)) → WE Z G (aUp h' A3.1.2.2.2 (aInts .int 25 g)) x ((S.1.1, mirW S.1.1.n S.1.2 (j + 1)), (rcS true S).2) S.1.2 := fun g hg => by
        obtain ⟨tg5, -, c1, c2, c3, c4⟩ := W4_setW hM3 hH3 hL3 hT3 (kp.up rfl) aUp_eq hg
        exact ⟨I3, tg5, li3, sl3, sb3, A3, g3, c1, c2, c3, c4, by rw [aUp_ne hne]; exact eg3, eg4⟩
      refine ih _ c s hc hs (hfin _ fun y hy => ?_)
      rw [mirW_step hn hj hy]
      by_cases q : y = mirC S.1.1.n j
      · rw [q, upd_same, if_pos rfl]
        exact ⟨rfl, hgj.2⟩
      · rw [upd_ne q, if_neg q]
        exact hf y hy
  · intro h' c s a T sec hc hs hT hs1 hs2 hK
    obtain ⟨I3, tg3, li3, sl3, sb3, A3, hM3, hH3, hL3, hT3, ta, ha⟩ := hK
    have hW3 : WS Z G h' x ((S.1.1.mir (4 * S.1.1.n), mirW S.1.1.n S.1.2 (S.1.1.n * S.1.1.n)), (rcS true S).2) := ⟨I3, tg3, li3, sl3, sb3, A3, hM3, hH3, hL3, hT3⟩
    have hM3 : WM Z I3 h' tg3 x li3 sl3 sb3 A3 (S.1.1.mir (4 * S.1.1.n)) (mirW S.1.1.n S.1.2 (S.1.1.n * S.1.1.n)) := hM3
    obtain ⟨F3, hP3⟩ := hM3.pz
    refine A_X1_mirror_90 hl (vR_mk hM3.obj rfl ⟨hM3.pobj, vC_p (B_edgeCount hl hP3) (by decide) (by omega) (by omega) ⟨_, rfl, fun _ => vR_mk hM3.obj rfl ⟨hM3.pobj, ?_⟩, fun z => absurd (by show i3 (4 * S.1.1.n) ≤ i3 (4 * S.1.1.n); rw [i3_le (by omega) (by omega)]; exact Nat.le_refl _) z⟩⟩)
    exact vC_p (B_told hl hP3) (by decide) (by omega) (by omega) ⟨_, rfl, rfl, hW3⟩
  · intro j hj ih h' c s a T sec hc hs hT hs1 hs2 hK
    obtain ⟨I3, tg3, li3, sl3, sb3, A3, hM3, hH3, hL3, hT3, ta, ha⟩ := hK
    have hM3 : WM Z I3 h' tg3 x li3 sl3 sb3 A3 (S.1.1.mir j) (mirW S.1.1.n S.1.2 (S.1.1.n * S.1.1.n)) := hM3
    obtain ⟨F3, hP3, tF3, hFs3⟩ := hM3.pzF
    have hj' : j < 4 * (S.1.1.mir j).n := hj
    have hmj := mirE_inv hn hj
    refine A_X1_mirror_90 hl (vR_mk hM3.obj rfl ⟨hM3.pobj, vC_p (B_edgeCount hl hP3) (by decide) (by omega) (by omega) ⟨_, rfl, fun z => absurd (by have z' : i3 (4 * S.1.1.n) ≤ i3 j := z; rwa [i3_le (by omega) (by omega)] at z') (by omega : ¬ 4 * S.1.1.n ≤ j), fun _ => vR_mk hM3.obj rfl (vR_mk hM3.obj rfl ⟨hM3.pobj, ?_⟩)⟩⟩)
    refine vC_p (B_mirroredEdge hl hP3 hj') (by decide) (by omega) (by omega) ⟨_, rfl, vA_mk ha rfl (by omega : j < 20) (by decide) ?_⟩
    refine vC_p (B_has hl (by omega) (by omega)) (by decide) (by omega) (by omega) ⟨_, rfl, hM3.pobj, ?_⟩
    rw [hT j (by omega), hs2 j (by omega)]
    have ht3 := B_tell3 (G := G) hl hP3 (e := mirE S.1.1.n j) (t := S.1.1.tl j) (by omega) (htl j (by omega))
    rw [mir_step hn hj] at ht3
    refine vC_r ht3 (by decide) (by omega) (by omega) fun v4 h4 hR4 => ?_
    obtain ⟨rfl, k4, hP4⟩ := hR4
    refine ⟨_, rfl, ?_⟩
    rw [i3_succ]
    have hIk : ∀ q, I3 q → h4 q ≠ none := fun q hq => by
      cases y : h' q with
      | none => exact absurd y (hM3.I0 q hq)
      | some y2 => rw [k4 _ _ y (fun w => by have := tF3 q w; have := hM3.I1 q hq; omega)]; simp
    have haF : a ∉ F3 := fun z => by have := tF3 a z; omega
    obtain ⟨F0, hB0, -, t5, -⟩ := hM3.bd
    obtain ⟨-, rb0, f0, hb0, ht0, hf0, -⟩ := hB0
    obtain ⟨tg5, to5, c1, c2, c3, c4⟩ := W4_set (p' := S.1.1.mir (j + 1)) (w' := mirW S.1.1.n S.1.2 (S.1.1.n * S.1.1.n)) hM3 hH3 hL3 hT3 hP4 tF3 hFs3 (k4.mono fun q z => Or.inl z) extI.rf hIk (k4 _ _ ht0 (fun z => by have := tF3 _ z; omega)) hf0
    exact ih h4 c s a T sec hc hs hT hs1 hs2 ⟨I3, tg5, li3, sl3, sb3, A3, c1, c2, c3, c4, by rw [to5 a (by rw [ha]; simp)]; exact ta, k4 _ _ ha haF⟩
end XG
