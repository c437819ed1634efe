/-! the component's methods: undo, save, load
-/
set_option maxRecDepth 100000
def undoF (S : ST) : aR × ST := match S.2.1.getLast? with
  | none => (.inr exS, S)
  | some s => (vi S.2.1.dropLast.length, (s, S.2.1.dropLast, S.2.2.1, S.2.2.2))
def saveF (S : ST) (i : Int32) : aR × ST := if inI i 0 1 then (vi (toldN S.1.1), (S.1, S.2.1, (fun j => if j = i.toNatClampNeg then some S.1 else S.2.2.1 j), S.2.2.2)) else (.inr exI, S)
def loadF (S : ST) (i : Int32) : aR × ST := if inI i 0 1 then (match S.2.2.1 i.toNatClampNeg with
  | none => (.inr exS, S)
  | some s => (vi (toldN s.1), (s, recL S.2.1 S.1, S.2.2.1, S.2.2.2))) else (.inr exI, S)
theorem erase_last {α : Type} {x : α} : ∀ {L : List α}, (L ++ [x]).eraseIdx L.length = L := by
  intro L
  induction L with
  | nil => rfl
  | cons y L ih => show y :: (L ++ [x]).eraseIdx L.length = y :: L; rw [ih]
theorem snoc_of {α : Type} : ∀ {L : List α}, L ≠ [] → ∃ L' x, L = L' ++ [x] := by
  intro L h
  exact ⟨L.dropLast, L.getLast h, (List.dropLast_concat_getLast h).symm⟩
section XHW
variable {Z : zT} {l : Launch} {G : aG} {I I1 : Nat → Prop} {h h1 : aH} {tg : Nat → Nat} {x li sl sb : Nat} {A : adT} {p p' : Pz} {w u' : Nat → Nat} {hist : List stT} {slots : Nat → Option stT} {text : List Nat} {FD FD' : List Nat}
theorem W4_copied (hM : WM Z I h tg x li sl sb A p w) (hH : WH G I h tg li hist) (hL : WL I h tg sl slots) (hT : WT h tg sb text) (ext1 : extI I I1 h) (i1 : ∀ q, I1 q → h1 q ≠ none) (k1 : kp (fun _ => False) h h1) (hF1 : ∀ q ∈ FD', h q = none) (hn : ∀ q ∈ FD', ¬ I1 q) (k : Nat) : ∃ tg1, (∀ q, h q ≠ none → tg1 q = tg q) ∧ (∀ q ∈ FD', tg1 q = k) ∧ WM Z I1 h1 tg1 x li sl sb A p w ∧ WH G I1 h1 tg1 li hist ∧ WL I1 h1 tg1 sl slots ∧ WT h1 tg1 sb text := by
  have hIt := hM.I1
  have hI0 := hM.I0
  obtain ⟨tg1, htg1⟩ : ∃ tg1 : Nat → Nat, tg1 = fun q => @ite _ (h q ≠ none) (Classical.propDecidable _) (tg q) (@ite _ (q ∈ FD') (Classical.propDecidable _) k 1) := ⟨_, rfl⟩
  have tgo : ∀ q, h q ≠ none → tg1 q = tg q := fun q hq => by rw [htg1]; exact if_pos hq
  have tgn : ∀ q ∈ FD', tg1 q = k := fun q hq => by
    rw [htg1]
    show @ite _ (h q ≠ none) (Classical.propDecidable _) (tg q) _ = k
    rw [if_neg (by rw [hF1 q hq]; exact fun z => z rfl), if_pos hq]
  have st1 : stp (fun _ => False) I I1 h h1 tg tg1 := by
    refine ⟨k1, ext1.1, fun q hq => ⟨i1 q hq, ?_⟩, tgo⟩
    rcases ext1.2 q hq with z | z
    · rw [tgo q (hI0 q z)]; exact hIt q z
    · rw [htg1]
      show @ite _ (h q ≠ none) (Classical.propDecidable _) (tg q) _ = 1
      rw [if_neg (by rw [z]; exact fun y => y rfl), if_neg (fun y => hn q y hq)]
  exact ⟨tg1, tgo, tgn, hM.keep st1 (fun _ => False.elim), hH.keep st1 hIt (fun _ => False.elim), hL.keep st1 hIt (fun _ => False.elim), hT.keep st1 (fun _ => False.elim)⟩
/-- the state is set to what a desk holds -/
theorem B_setAllW (hl : l.stackTraces = false) (hM : WM Z I h tg x li sl sb A p w) {d2 k : Nat} (hD2 : DK I h d2 FD p' u') (ht : ∀ q ∈ FD, tg q = k) (hk : k ≠ 3 ∧ k ≠ 4 ∧ k ≠ 5) :
    aC l G mX2_setAll (wsN mX2_setAll) 16 243 24611 [.ref A.1.1, .ref d2] h (aPR fun v h' => v = none ∧ ∃ I' F g, PZ I' h' A.1.2.1 F p' ∧ (∀ q ∈ F, tg q = 4) ∧ (∀ q ∈ F, h q ≠ none) ∧ kp (fun q => q ∈ F ∨ q = A.1.2.2.2) h h' ∧ extI I I' h ∧ (∀ q, I' q → h' q ≠ none) ∧ h' A.1.2.2.2 = some (aInts .int 25 g) ∧ ∀ c, c < p'.n * p'.n → g c = i3 (u' c) ∧ u' c < 2 ^ (p'.m + 1)) := by
  have hdo := hM.2.2.1.2
  have hdt := hM.2.2.1.1
  obtain ⟨F, hB, tF, t5, t5b⟩ := hM.bd
  obtain ⟨hP, rb, f, hb, hth, hf, n1, n2, n3, n4⟩ := hB
  have hFs := PZ_some hP
  obtain ⟨a2, b2, th2, F2, FB2, f2, e2, hN2, hn2, ho2, hP2, hB2, hf2⟩ := hD2
  have s0 : d2 ∈ FD := by rw [e2]; simp
  have s1 : ∀ q ∈ F2, q ∈ FD := fun q hq => by rw [e2]; exact List.mem_cons_of_mem _ (List.mem_append_left _ hq)
  have s2 : ∀ q ∈ FB2, q ∈ FD := fun q hq => by rw [e2]; exact List.mem_cons_of_mem _ (List.mem_append_right _ hq)
  obtain ⟨tl, ls, lo, rw', ar, T, sec, hW, -⟩ := hP.pw
  refine A_X2_setAll hl (vR_mk hdo rfl (vR_mk ho2 rfl ⟨⟨_, hW.2.2.2.1⟩, ?_⟩))
  refine vC_r (B_setAll3 hl hW hP2 (fun q hq z => by have := ht q (s1 q hq); have := tF q z; omega) hM.I0) (by decide) (by decide) (by decide) fun v h2 hR => ?_
  obtain ⟨hv, I2, ext2, i2, k2, hP3⟩ := hR
  refine ⟨hv, ?_⟩
  have od2 := k2 _ _ hdo (fun z => by have := tF _ z; omega)
  have od22 := k2 _ _ ho2 (fun z => by have := tF _ z; have := ht _ s0; omega)
  have ob2 := k2 _ _ hb n1
  have oth2 := k2 _ _ hth n2
  have hB22 := hB2.kp k2 (fun q hq z => by have := ht q (s2 q hq); have := tF q z; omega)
  obtain ⟨rb2, rr2, R2, eB2, c1, c2, c3, c4⟩ := hB22
  refine vR_mk od2 rfl (vR_mk od22 rfl ⟨⟨_, ob2⟩, ?_⟩)
  refine vC_r (B_setThings hl c1 c2 ob2 oth2) (by decide) (by decide) (by decide) fun v2 h3 hR2 => ?_
  obtain ⟨hv2, k3, g, e3, hg⟩ := hR2
  have hnn := nn_le hP2.ok.n45
  have hI2n : ¬ I2 A.1.2.2.2 := fun z => by
    rcases ext2.2 _ z with y | y
    · exact n4 y
    · rw [hth] at y; cases y
  have hPn : ∀ q ∈ F, ¬ I2 q := by obtain ⟨_, _, _, _, _, _, _, _, _, _, _, _, _, hn, _⟩ := hP3; exact hn
  refine ⟨hv2, rfl, I2, F, g, hP3.kp k3 (fun q hq z => n2 (by rw [← z]; exact hq)) (fun q hq z => hI2n (by rw [← z]; exact hq)) (fun _ h => h) hPn, tF, hFs, (k2.mono fun q z => Or.inl z).tr (k3.mono fun q z => Or.inr z), ext2, fun q hq => ?_, e3, fun c hc => ?_⟩
  · cases z : h2 q with
    | none => exact absurd z (i2 q hq)
    | some y => rw [k3 _ _ z (fun e => hI2n (by rw [← e]; exact hq))]; simp
  · rw [hg c (by omega)]; exact hf2 c hc
end XHW
section XH
variable {Z : zT} {l : Launch} {G : aG} {h : aH} {x : Nat} {S : ST}
theorem B_isEmpty (hl : l.stackTraces = false) {I : Nat → Prop} {tg : Nat → Nat} {li : Nat} {hist : List stT} (hH : WH G I h tg li hist) : aC l G mJ2_isEmpty (wsN mJ2_isEmpty) 0 0 0 [.ref li] h (aP1 (some (.int (bI (decide (hist.length = 0))))) h) := by
  obtain ⟨-, hs, eo, ⟨⟨mo, lo⟩, -⟩, -, hlen, h6, -⟩ := hH
  have e0 : (i3 hs.length = 0) = (hist.length = 0) := by
    have : (i3 hs.length = 0) = (hs.length = 0) := i3_eq (b := 0) (by omega) (by decide)
    rw [this, hlen]
  refine A_J2_isEmpty hl (vI_mk lo rfl ?_)
  rw [List.length_map]
  simp only [e0]
  rw [bI_if]
  exact ⟨vB_bI, rfl, rfl⟩
theorem B_undo (hl : l.stackTraces = false) (hW : WS Z G h x S) : aC l G mX1_undo (wsN mX1_undo) 50 2000 150000 [.ref x] h (opP Z G x (undoF S)) := by
  have hW0 := hW
  obtain ⟨⟨p, w⟩, hist, slots, text⟩ := S
  obtain ⟨I, tg, li, sl, sb, A, hM, hH, hL, hT⟩ := hW
  have hM : WM Z I h tg x li sl sb A p w := hM
  have hH : WH G I h tg li hist := hH
  have hL : WL I h tg sl slots := hL
  have hT : WT h tg sb text := hT
  have hx := hM.obj
  have h6 : hist.length ≤ 6 := by obtain ⟨-, hs, eo, -, -, e, h6, -⟩ := hH; omega
  refine A_X1_undo hl (vR_mk hx rfl ⟨hH.obj, vC_p (B_isEmpty hl hH) (by decide) (by decide) (by decide) ⟨_, rfl, ?_⟩⟩)
  have eb : (if bI (decide (hist.length = 0)) = 0 then (1 : Int32) else 0) = bI (decide (hist ≠ [])) := by
    cases hist with
    | nil => rfl
    | cons a b => rfl
  simp only [eb]
  refine vC_c (B_checkState hl) (by decide) (by decide) (by decide) (fun q => ⟨rfl, ?_⟩) (fun q => ?_)
  · obtain ⟨hist', s0, rfl⟩ := snoc_of (of_decide_eq_true q)
    have eF : undoF ((p, w), hist' ++ [s0], slots, text) = (vi hist'.length, (s0, hist', slots, text)) := by
      unfold undoF
      simp
    rw [eF]
    have hIt := hM.I1
    have hH0 := hH
    have hl6 : hist'.length < 6 := by rw [List.length_append] at h6; exact h6
    refine vR_mk hx rfl (vR_mk hx rfl (vR_mk hx rfl ⟨hH.obj, vC_p (B_hsize hl hH) (by decide) (by decide) (by decide) ⟨_, rfl, hH.obj, ?_⟩⟩))
    have e1 : i3 (hist' ++ [s0]).length - 1 = i3 hist'.length := by
      rw [List.length_append]; exact i3_sub (b := 1) (by show 1 ≤ hist'.length + 1; omega)
    rw [e1]
    obtain ⟨t8, hsL, eo, hLs, t9, hlen, hl6', hN, h20, hDs⟩ := hH
    have hDm : ∀ y ∈ hsL, tg y.1 = y.2.2 ∧ 20 ≤ y.2.2 := by
      intro y hy
      obtain ⟨i, hi, e⟩ := List.mem_iff_getElem.mp hy
      obtain ⟨d1, d2⟩ := hDs i hi
      rw [List.getD_eq_getElem?_getD, List.getElem?_eq_getElem hi, Option.getD_some, e] at d1 d2
      have hmem : y.1 ∈ y.2.1 := by obtain ⟨_, _, _, _, _, _, eF, _⟩ := d1; rw [eF]; simp
      exact ⟨d2 _ hmem, h20 y hy⟩
    rw [List.length_append] at hlen
    have hlen : hsL.length = hist'.length + 1 := hlen
    obtain ⟨hs', y0, rfl⟩ := snoc_of (L := hsL) (fun e => by rw [e] at hlen; cases hlen)
    have hlen3 : hs'.length = hist'.length := by rw [List.length_append] at hlen; exact Nat.succ.inj hlen
    refine vC_r (B_remove (i := hist'.length) hl hLs (by rw [List.length_map, List.length_append, hlen3]; exact Nat.lt_succ_self _) (fun e => by have := t9 li e; omega) (fun y hy => ?_)) (by decide) (by decide) (by decide) fun v h1 hR => ?_
    · obtain ⟨y2, hy2, rfl⟩ := List.mem_map.mp hy
      obtain ⟨w1, w2⟩ := hDm y2 hy2
      exact ⟨fun e => by rw [e] at w1; omega, fun e => by have := t9 _ e; omega⟩
    · obtain ⟨hv, k1, hLs1⟩ := hR
      have hS1 : ∀ q, (q = li ∨ eo = some q) → tg q = 8 ∨ tg q = 9 := fun q z => z.elim (fun e => Or.inl (by rw [e]; exact t8)) (fun e => Or.inr (t9 q e))
      have st1 : stp (fun q => q = li ∨ eo = some q) I I h h1 tg tg := by
        refine ⟨k1, fun _ h => h, fun q hq => ⟨?_, hIt q hq⟩, fun _ _ => rfl⟩
        cases z : h q with
        | none => exact absurd z (hM.I0 q hq)
        | some y => rw [k1 _ _ z (fun e => by have := hS1 q e; have := hIt q hq; omega)]; simp
      have hM1 := hM.keep st1 (fun q z => by have := hS1 q z; omega)
      have hL1 := hL.keep st1 hIt (fun q z => by have := hS1 q z; omega)
      have hT1 := hT.keep st1 (fun q z => by have := hS1 q z; omega)
      have hlast := hDs hs'.length (by rw [List.length_append]; exact Nat.lt_succ_self _)
      rw [getD_app_eq, hlen3, getD_app_eq] at hlast
      have hk0 := h20 y0 (List.mem_append_right _ List.mem_cons_self)
      obtain ⟨dd1, dd2⟩ := hlast.1.stp st1 hIt hlast.2 (by omega) (fun q z => by have := hS1 q z; omega)
      have hH1 : WH G I h1 tg li hist' := by
        refine ⟨t8, hs', eo, ?_, t9, hlen3, by rw [List.length_append] at hl6'; omega, ?_, fun y hy => h20 y (List.mem_append_left _ hy), fun i hi => ?_⟩
        · have : ((hs' ++ [y0]).map (·.1)).eraseIdx hist'.length = hs'.map (·.1) := by
            rw [List.map_append, ← hlen3]
            have := erase_last (L := hs'.map (·.1)) (x := y0.1)
            rw [List.length_map] at this
            exact this
          rw [this] at hLs1
          exact hLs1
        · rw [List.map_append, List.nodup_append] at hN; exact hN.1
        · obtain ⟨d1, d2⟩ := hDs i (by rw [List.length_append]; omega)
          rw [getD_app_lt hi, getD_app_lt (by omega)] at d1
          rw [getD_app_lt hi] at d2
          have h20i := h20 _ (List.mem_append_left [y0] (getD_mem (d := (0, [], 0)) hi))
          exact d1.stp st1 hIt d2 (by omega) (fun q z => by have := hS1 q z; omega)
      have hfst : ((hs' ++ [y0]).map (·.1)).getD hist'.length 0 = y0.1 := by
        rw [List.map_append, ← hlen3]
        have := getD_app_eq (l := hs'.map (·.1)) (x := y0.1) (d := 0)
        rw [List.length_map] at this
        exact this
      have hcast : ∃ fs, h1 y0.1 = some (.inr (2, fs)) := by
        obtain ⟨_, _, _, _, _, _, _, _, _, ho, _⟩ := dd1
        exact ⟨_, ho⟩
      refine ⟨y0.1, by rw [hv, hfst], hcast, ⟨_, hM1.2.2.1.2⟩, ?_⟩
      refine vC_r (B_setAllW hl hM1 dd1 dd2 (by omega)) (by decide) (by decide) (by decide) fun v2 h2 hR2 => ?_
      obtain ⟨hv2, I2, F2, g2, p1, p2, p3, p4, p5, p6, p7, p8⟩ := hR2
      obtain ⟨tg2, -, a1, a2, a3, a4⟩ := W4_set hM1 hH1 hL1 hT1 p1 p2 p3 p4 p5 p6 p7 p8
      refine ⟨hv2, vR_mk a1.obj rfl ⟨a2.obj, vC_p (B_hsize hl a2) (by decide) (by decide) (by decide) ⟨_, rfl, rfl, I2, tg2, li, sl, sb, A, a1, a2, a3, a4⟩⟩⟩
  · have e0 : hist = [] := Decidable.not_not.mp (of_decide_eq_false q)
    subst e0
    exact ⟨rfl, hW0⟩
theorem B_saveState (hl : l.stackTraces = false) (hW : WS Z G h x S) {i : Int32} : aC l G mX1_saveState (wsN mX1_saveState) 50 2000 150000 [.ref x, .int i] h (opP Z G x (saveF S i)) := by
  have hW0 := hW
  obtain ⟨⟨p, w⟩, hist, slots, text⟩ := S
  obtain ⟨I, tg, li, sl, sb, A, hM, hH, hL, hT⟩ := hW
  have hM : WM Z I h tg x li sl sb A p w := hM
  have hH : WH G I h tg li hist := hH
  have hL : WL I h tg sl slots := hL
  have hT : WT h tg sb text := hT
  refine A_X1_saveState hl ?_
  refine vC_p (B_isInG hl) (by decide) (by decide) (by decide) ⟨_, rfl, ?_⟩
  refine vC_c (B_checkIndex hl) (by decide) (by decide) (by decide) (fun q => ⟨rfl, vR_mk hM.obj rfl (vR_mk hM.obj rfl ⟨⟨_, hM.2.2.1.2⟩, ?_⟩)⟩) (fun q => ⟨by unfold saveF; rw [q]; rfl, by unfold saveF; rw [q]; exact hW0⟩)
  have eF : saveF ((p, w), hist, slots, text) i = (vi (toldN p), ((p, w), hist, (fun j => if j = i.toNatClampNeg then some (p, w) else slots j), text)) := by unfold saveF; rw [q]; rfl
  rw [eF]
  obtain ⟨k, -, hk2, rfl⟩ := inI_get (a := 0) (b := 1) (by decide) (by decide) q
  rw [i3_nat (by omega)]
  obtain ⟨FD, hD, htD⟩ := hM.dk
  refine vC_r (B_copy2 hl hD hM.I0) (by decide) (by decide) (by decide) fun v h1 hR => ?_
  obtain ⟨d', rfl, hd', I1, FD', ext1, i1, k1, hF1, hD1⟩ := hR
  have hn1 : ∀ q ∈ FD', ¬ I1 q := by obtain ⟨_, _, _, _, _, _, _, _, hn, _⟩ := hD1; exact hn
  obtain ⟨tg1, to1, tn1, a1, a2, a3, a4⟩ := W4_copied hM hH hL hT ext1 i1 k1 hF1 hn1 (14 + k)
  obtain ⟨fo, ho'⟩ : ∃ fo, h1 d' = some (.inr (2, fo)) := by obtain ⟨_, _, _, _, _, _, _, _, _, ho, _⟩ := hD1; exact ⟨_, ho⟩
  have a30 := a3
  obtain ⟨t10, g, hg, hsl⟩ := a3
  refine ⟨d', rfl, 2, g, _, hg, i3_in (by omega) (by omega), ho', ?_⟩
  rw [i3_nat (by omega)]
  have kS : kp (· = sl) h1 (aUp h1 sl (aRefs (.object "EdgeLetters$Desk") 2 (va_up g k (some d')))) := kp.up rfl
  have hIt := a1.I1
  have hSt : ∀ q, q = sl → tg1 q = 10 := fun q e => by rw [e]; exact t10
  have st1 : stp (· = sl) I1 I1 h1 (aUp h1 sl (aRefs (.object "EdgeLetters$Desk") 2 (va_up g k (some d')))) tg1 tg1 := by
    refine ⟨kS, fun _ h => h, fun q hq => ⟨?_, hIt q hq⟩, fun _ _ => rfl⟩
    cases z : h1 q with
    | none => exact absurd z (a1.I0 q hq)
    | some y => rw [kS _ _ z (fun e => by have := hSt q e; have := hIt q hq; omega)]; simp
  have b1 := a1.keep st1 (fun q z => by have := hSt q z; omega)
  have b2 := a2.keep st1 hIt (fun q z => by have := hSt q z; omega)
  have b4 := a4.keep st1 (fun q z => by have := hSt q z; omega)
  have b3 : WL I1 (aUp h1 sl (aRefs (.object "EdgeLetters$Desk") 2 (va_up g k (some d')))) tg1 sl (fun j => if j = k then some (p, w) else slots j) := by
    refine ⟨t10, _, aUp_eq, fun j hj => ?_⟩
    show ((if j = k then some (p, w) else slots j) = none → _) ∧ ∀ s, (if j = k then some (p, w) else slots j) = some s → _
    by_cases e : j = k
    · subst e
      refine ⟨fun z => (by rw [if_pos rfl] at z; cases z), fun s hs => ?_⟩
      rw [if_pos rfl] at hs
      obtain rfl := Option.some.inj hs
      refine ⟨d', FD', by unfold va_up; rw [if_pos rfl], ?_, tn1⟩
      exact (hD1.stp st1 hIt tn1 (by omega) (fun q z => by have := hSt q z; omega)).1
    · obtain ⟨s1, s2⟩ := hsl j hj
      have eg : va_up g k (some d') j = g j := by unfold va_up; rw [if_neg e]
      refine ⟨fun z => ?_, fun s hs => ?_⟩
      · rw [if_neg e] at z; rw [eg]; exact s1 z
      · rw [if_neg e] at hs
        obtain ⟨d, FDj, w1, w2, w3⟩ := s2 s hs
        exact ⟨d, FDj, by rw [eg]; exact w1, (w2.stp st1 hIt w3 (by omega) (fun q z => by have := hSt q z; omega)).1, w3⟩
  obtain ⟨F, hP⟩ := b1.pz
  exact vR_mk b1.obj rfl ⟨b1.pobj, vC_p (B_told hl hP) (by decide) (by decide) (by decide) ⟨_, rfl, rfl, I1, tg1, li, sl, sb, A, b1, b2, b3, b4⟩⟩
theorem B_loadState (hl : l.stackTraces = false) (hW : WS Z G h x S) {i : Int32} : aC l G mX1_loadState (wsN mX1_loadState) 50 2000 150000 [.ref x, .int i] h (opP Z G x (loadF S i)) := by
  have hW0 := hW
  obtain ⟨I, tg, li, sl, sb, A, hM, hH, hL, hT⟩ := hW
  refine A_X1_loadState hl ?_
  refine vC_p (B_isInG hl) (by decide) (by decide) (by decide) ⟨_, rfl, ?_⟩
  refine vC_c (B_checkIndex hl) (by decide) (by decide) (by decide) (fun q => ⟨rfl, vR_mk hM.obj rfl ?_⟩) (fun q => ⟨by unfold loadF; rw [q]; rfl, by unfold loadF; rw [q]; exact hW0⟩)
  have q0 := q
  obtain ⟨k, -, hk2, rfl⟩ := inI_get (a := 0) (b := 1) (by decide) (by decide) q
  obtain ⟨t10, g, hg, hsl⟩ := hL
  obtain ⟨s1, s2⟩ := hsl k (by omega)
  have eF : ∀ o, S.2.2.1 k = o → loadF S (i3 k) = (match o with
    | none => (.inr exS, S)
    | some s => (vi (toldN s.1), (s, recL S.2.1 S.1, S.2.2.1, S.2.2.2))) := by
    intro o ho
    unfold loadF
    rw [q0, i3_nat (by omega), ho]; rfl
  refine ⟨2, g, hg, i3_in (by omega) (by omega), ?_⟩
  rw [i3_nat (by omega)]
  cases hs : S.2.2.1 k with
  | none =>
    rw [eF none hs, s1 hs]
    refine ⟨fun _ => A_X1_loadState_23 hl ?_, fun q31 z => by cases z⟩
    refine vC_c (b := false) (B_checkState (b := false) hl) (by decide) (by decide) (by decide) (fun z => by cases z) (fun _ => ⟨rfl, hW0⟩)
  | some s =>
    obtain ⟨d, FDk, w1, -⟩ := s2 s hs
    rw [eF (some s) hs, w1]
    refine ⟨fun z => (by cases z), fun q31 z => A_X1_loadState_23 hl ?_⟩
    refine vC_c (b := true) (B_checkState (b := true) hl) (by decide) (by decide) (by decide) (fun _ => ⟨rfl, ⟨_, hM.obj⟩, ?_⟩) (fun z => by cases z)
    refine vC_r (B_recordZ hl hW0 (z := true)) (by decide) (by decide) (by decide) fun v h2 hR2 => ?_
    obtain ⟨hv, I2, tg2, li2, sl2, sb2, A2, hM2, hH2, hL2, hT2⟩ := hR2
    have hL20 := hL2
    obtain ⟨u10, g2, hg2, hsl2⟩ := hL2
    obtain ⟨d2, FD2, y1, y2, y3⟩ := (hsl2 k (by omega)).2 s hs
    refine ⟨hv, vR_mk hM2.obj rfl (vR_mk hM2.obj rfl ⟨2, g2, hg2, i3_in (by omega) (by omega), ⟨_, hM2.2.2.1.2⟩, ?_⟩)⟩
    rw [i3_nat (by omega), y1]
    refine vC_r (B_setAllW hl hM2 y2 y3 (by omega)) (by decide) (by decide) (by decide) fun v3 h3 hR3 => ?_
    obtain ⟨hv3, I3, F3, g3, p1, p2, p3, p4, p5, p6, p7, p8⟩ := hR3
    obtain ⟨tg3, -, a1, a2, a3, a4⟩ := W4_set hM2 hH2 hL20 hT2 p1 p2 p3 p4 p5 p6 p7 p8
    obtain ⟨F4, hP4⟩ := a1.pz
    exact ⟨hv3, vR_mk a1.obj rfl ⟨a1.pobj, vC_p (B_told hl hP4) (by decide) (by decide) (by decide) ⟨_, rfl, rfl, I3, tg3, li2, sl2, sb2, A2, a1, a2, a3, a4⟩⟩⟩
end XH
