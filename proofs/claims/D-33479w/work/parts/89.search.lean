/-! the component's search
-/
set_option maxRecDepth 100000
theorem i3_m1and (x : Nat) : i3 x &&& (-1) = i3 x := by
  apply Int32.toBitVec_inj.mp
  rw [Int32.toBitVec_and]
  have e : (-1 : Int32).toBitVec = BitVec.allOnes 32 := rfl
  rw [e, BitVec.and_allOnes]
/-- what was found: its object, the first one, how many, what is the same in all -/
def FO (h : aH) (fo fi wanted : Nat) (p : Pz) (S : List (List Nat)) : Prop := ∃ (ff : Nat → Int32) (sm : Nat), h fo = some (aObj 7 [.int (i3 wanted), .ref fi, .int (i3 S.length), .int (i3 sm)]) ∧ h fi = some (aInts .int 25 ff) ∧ sm < 2 ^ 25 ∧ (∀ c, c < p.n * p.n → sm.testBit c = agreeB S c) ∧ (S ≠ [] → ∀ c, c < p.n * p.n → ff c = i3 (1 <<< (S.headD []).getD c 0) ∧ (S.headD []).getD c 0 < 5)
theorem FO.kp {S : Nat → Prop} {h h' : aH} {fo fi wanted : Nat} {p : Pz} {L : List (List Nat)} (hF : FO h fo fi wanted p L) (hk : kp S h h') (h1 : ¬ S fo) (h2 : ¬ S fi) : FO h' fo fi wanted p L := by
  obtain ⟨ff, sm, a, b, c⟩ := hF
  exact ⟨ff, sm, hk _ _ a h1, hk _ _ b h2, c⟩
theorem only_sh : ∀ t : Fin 32, pc t.1 = 1 → t.1 = 1 <<< onlyN t.1 ∧ onlyN t.1 < 5 := by decide +kernel
theorem sh_inj : ∀ a b : Fin 5, (1 <<< a.1 = 1 <<< b.1) → a = b := by decide +kernel
section SRC
variable {l : Launch} {G : aG} {I : Nat → Prop} {h : aH} {b a th : Nat} {F : List Nat} {p : Pz} {u : Nat → Nat}
theorem B_add8 (hl : l.stackTraces = false) (hB : BD I h b a th F p u) {fo fi wanted : Nat} {S : List (List Nat)} (hF : FO h fo fi wanted p S) (hne : fi ≠ th) (hd : ∀ c, c < p.n * p.n → pc (u c) = 1) (hS : S.length < 1000) :
    aC l G mX8_add (wsN mX8_add) 1 0 0 [.ref fo, .ref th] h (aPR fun v h' => v = none ∧ kp (fun q => q = fo ∨ q = fi) h h' ∧ FO h' fo fi wanted p (S ++ [vOf p u])) := by
  have hok := hB.ok
  have hn := hok.n45
  have hm := hok.m24
  have hnn := nn_le hn
  have h32 := pow_le hm.2.2
  obtain ⟨hP, rb, f, hb, ht, hf, -⟩ := hB
  obtain ⟨ff, sm, o1, o2, o3, o4, o5⟩ := hF
  have e0 : (i3 S.length = 0) = (S.length = 0) := i3_eq (b := 0) (by omega) (by decide)
  have hfo : fo ≠ fi := fun e => by rw [e, o2] at o1; cases o1
  have hfo2 : fo ≠ th := fun e => by rw [e, ht] at o1; cases o1
  -- the loop over the cells, with the first one
  have loop : ∀ (h1 : aH) (ff1 : Nat → Int32), kp (fun q => q = fo ∨ q = fi) h h1 → h1 fo = some (aObj 7 [.int (i3 wanted), .ref fi, .int (i3 (S.length + 1)), .int (i3 sm)]) → h1 fi = some (aInts .int 25 ff1) → (∀ c, c < p.n * p.n → ff1 c = i3 (1 <<< ((S ++ [vOf p u]).headD []).getD c 0) ∧ ((S ++ [vOf p u]).headD []).getD c 0 < 5) →
      T_X8_add_31 l G 1 0 0 (aPR fun v h' => v = none ∧ kp (fun q => q = fo ∨ q = fi) h h' ∧ FO h' fo fi wanted p (S ++ [vOf p u])) fo th (i3 0) h1 0 0 := by
    intro h1 ff1 k1 q1 q2 q3
    have key := vloop (N := 25) (T := fun j => ∀ (h2 : aH) (sm2 : Nat), kp (fun q => q = fo ∨ q = fi) h h2 → h2 fo = some (aObj 7 [.int (i3 wanted), .ref fi, .int (i3 (S.length + 1)), .int (i3 sm2)]) → h2 fi = some (aInts .int 25 ff1) → sm2 < 2 ^ 25 → (∀ c, c < p.n * p.n → sm2.testBit c = if c < j then agreeB (S ++ [vOf p u]) c else agreeB S c) → T_X8_add_31 l G 1 0 0 (aPR fun v h' => v = none ∧ kp (fun q => q = fo ∨ q = fi) h h' ∧ FO h' fo fi wanted p (S ++ [vOf p u])) fo th (i3 j) h2 0 0) ?_ ?_ 0 (Nat.zero_le _) h1 sm k1 q1 q2 o3 (fun c hc => by rw [if_neg (Nat.not_lt_zero _)]; exact o4 c hc)
    · exact key
    · intro h2 sm2 k2 r1 r2 r3 r4
      refine A_X8_add_31 hl ⟨fun _ => ⟨rfl, k2, ff1, sm2, ?_, r2, r3, fun c hc => ?_, fun _ => q3⟩, fun q => absurd (by decide) q⟩
      · rw [List.length_append]; exact r1
      · rw [r4 c hc, if_pos (by omega)]
    · intro j hj ih h2 sm2 k2 r1 r2 r3 r4
      have ht2 : h2 th = some (aInts .int 25 f) := k2 _ _ ht (fun e => e.elim (fun e => hfo2 e.symm) fun e => hne e.symm)
      have e25 : ((25 : Int32) ≤ i3 j) = (25 ≤ j) := i3_le (a := 25) (by decide) (by omega)
      refine A_X8_add_31 hl ⟨fun q => absurd (by rwa [e25] at q) (by omega : ¬ 25 ≤ j), fun _ => vI_mk r1 rfl (vA_mk ht2 rfl hj (by decide) (vR_mk r1 rfl (vA_mk r2 rfl hj (by decide) (vPut_mk r1 (by show 3 < 4; decide) ?_))))⟩
      have hval : i3 sm2 &&& (if f j = ff1 j then (-1 : Int32) else ((1 : Int32) <<< (i3 j &&& 31)) ^^^ (-1)) = i3 (if f j = ff1 j then sm2 else clr sm2 j) := by
        by_cases q : f j = ff1 j
        · rw [if_pos q, if_pos q, i3_m1and]
        · rw [if_neg q, if_neg q, i3_clr (by omega)]
      rw [i3_succ]
      refine ih _ (if f j = ff1 j then sm2 else clr sm2 j) (k2.tr (kp.up (Or.inl rfl))) ?_ ?_ ?_ fun c hc => ?_
      · rw [aUp_eq, hval]; rfl
      · rw [aUp_ne (Ne.symm hfo)]; exact r2
      · split
        · exact r3
        · exact clr_lt r3
      · have hb2 : (if f j = ff1 j then sm2 else clr sm2 j).testBit c = (sm2.testBit c && (decide (c ≠ j) || decide (f j = ff1 j))) := by
          by_cases q : f j = ff1 j
          · rw [if_pos q, decide_eq_true q, Bool.or_true, Bool.and_true]
          · rw [if_neg q, clr_bit, decide_eq_false q, Bool.or_false]
        rw [hb2, r4 c hc]
        rcases Nat.lt_trichotomy c j with q | q | q
        · have : c ≠ j := by omega
          rw [if_pos q, if_pos (by omega), decide_eq_true this, Bool.true_or, Bool.and_true]
        · subst q
          rw [if_neg (Nat.lt_irrefl _), if_pos (Nat.lt_succ_self _), agree_app, vOf_get hc]
          have hs := only_sh ⟨u c, Nat.lt_of_lt_of_le (hf c hc).2 h32⟩ (hd c hc)
          have hs1 : u c = 1 <<< onlyN (u c) := hs.1
          have hs2 : onlyN (u c) < 5 := hs.2
          obtain ⟨g1, g2⟩ := q3 c hc
          have hlt : ∀ x, x < 5 → 1 <<< x < 2147483648 := fun x hx => by rw [Nat.one_shiftLeft]; exact Nat.lt_of_lt_of_le (Nat.pow_lt_pow_right (n := 5) (by decide) hx) (by decide)
          have e1 : (f c = ff1 c) = (onlyN (u c) = ((S ++ [vOf p u]).headD []).getD c 0) := by
            have q1 : f c = i3 (1 <<< onlyN (u c)) := by rw [(hf c hc).1]; exact congrArg i3 hs1
            rw [q1, g1, i3_eq (hlt _ hs2) (hlt _ g2), eq_iff_iff]
            exact ⟨fun e => congrArg Fin.val (sh_inj ⟨_, hs2⟩ ⟨_, g2⟩ e), fun e => by rw [e]⟩
          simp only [e1]
          have : decide (c ≠ c) = false := by simp
          rw [this, Bool.false_or]
          congr 1
        · have : c ≠ j := by omega
          rw [if_neg (by omega), if_neg (by omega), decide_eq_true this, Bool.true_or, Bool.and_true]
  refine A_X8_add hl (vI_mk o1 rfl ?_)
  simp only [e0]
  have fst : ∀ c, c < p.n * p.n → f c = i3 (1 <<< onlyN (u c)) ∧ onlyN (u c) < 5 := by
    intro c hc
    have hs := only_sh ⟨u c, Nat.lt_of_lt_of_le (hf c hc).2 h32⟩ (hd c hc)
    have hs1 : u c = 1 <<< onlyN (u c) := hs.1
    exact ⟨by rw [(hf c hc).1]; exact congrArg i3 hs1, hs.2⟩
  refine ⟨fun q => vI_mk o1 rfl (vPut_mk o1 (by show 2 < 4; decide) ?_), fun q => vR_mk o1 rfl ⟨by decide, vCpyI_mk (sp := 0) (dp := 0) (n := 25) ht o2 rfl rfl rfl (by decide) (by decide) (by decide) (by decide) ?_⟩⟩
  · refine loop _ ff (kp.up (Or.inl rfl)) (by rw [aUp_eq, i3_succ]; rfl) (by rw [aUp_ne (Ne.symm hfo)]; exact o2) fun c hc => ?_
    have hne : S ≠ [] := fun e => q (by rw [e]; rfl)
    have := o5 hne c hc
    cases S with
    | nil => exact absurd rfl hne
    | cons x S => exact this
  · have hnil : S = [] := List.length_eq_zero_iff.mp q
    have o1' : aUp h fi (aInts .int 25 (va_cpy f ff 0 0 25)) fo = some (aObj 7 [.int (i3 wanted), .ref fi, .int (i3 S.length), .int (i3 sm)]) := by rw [aUp_ne hfo]; exact o1
    refine vI_mk o1' rfl (vPut_mk o1' (by show 2 < 4; decide) ?_)
    refine loop _ (va_cpy f ff 0 0 25) ((kp.up (Or.inr rfl)).tr (kp.up (Or.inl rfl))) (by rw [aUp_eq, i3_succ]; rfl) (by rw [aUp_ne (Ne.symm hfo)]; exact aUp_eq) fun c hc => ?_
    have : va_cpy f ff 0 0 25 c = f c := by
      unfold va_cpy
      rw [if_pos (by omega)]
      congr 1; omega
    rw [this, hnil]
    show f c = i3 (1 <<< (vOf p u).getD c 0) ∧ (vOf p u).getD c 0 < 5
    rw [vOf_get hc]
    exact fst c hc
theorem B_nextCell (hl : l.stackTraces = false) (hB : BD I h b a th F p u) {ord : Bool} :
    ∃ best, guessI u ord (p.n * p.n) best ∧ aC l G mX5_nextCell (wsN mX5_nextCell) 2 0 0 [.ref b, .int (bI ord)] h (aP1 (some (.int (encB best))) h) := by
  have hok := hB.ok
  have hn := hok.n45
  have hm := hok.m24
  have hnn := nn_le hn
  have h32 := pow_le hm.2.2
  have hB0 := hB
  obtain ⟨hP, rb, f, hb, ht, hf, -⟩ := hB
  have hP0 := hP
  obtain ⟨tl, ls, lo, ar, rw, T, L, R, sec, -, -, -, -, -, ho, -⟩ := hP
  -- the choice, cell by cell
  have step : ∀ c, c < p.n * p.n → ∀ best, guessI u ord c best → ∃ best', guessI u ord (c + 1) best' ∧ ∀ Q : aR → aH → Prop, T_X5_nextCell_4 l G 2 0 0 Q b (bI ord) (encB best') (i3 (c + 1)) h 0 0 → T_X5_nextCell_4 l G 2 0 0 Q b (bI ord) (encB best) (i3 c) h 0 0 := by
    intro j hj best hI
    have keep : (pc (u j) = 1 ∨ ∃ g, best = some g) → guessI u ord (j + 1) best := by
      intro hk
      refine ⟨fun e c hc => ?_, fun g hg => ?_⟩
      · rcases Nat.lt_or_ge c j with q | q
        · exact hI.1 e c q
        · have : c = j := by omega
          subst this
          rcases hk with hk | ⟨g, hk⟩
          · exact hk
          · rw [e] at hk; cases hk
      · obtain ⟨b1, b2, b3⟩ := hI.2 g hg
        exact ⟨by omega, b2, b3⟩
    have take : pc (u j) ≠ 1 → (ord = true → best = none) → guessI u ord (j + 1) (some j) := by
      intro hp ho
      refine ⟨fun e => (by cases e), fun g hg => ?_⟩
      cases hg
      exact ⟨Nat.lt_succ_self _, hp, fun h => hI.1 (ho h)⟩
    have hfj := hf j hj
    have pj : pc (u j) < 1000 := by unfold pc; omega
    have t50 : ∀ (z : Bool) (best' : Option Nat) (Q : aR → aH → Prop), (if pc (u j) = 1 then best' = best else if z then best' = some j else best' = best) → T_X5_nextCell_4 l G 2 0 0 Q b (bI ord) (encB best') (i3 (j + 1)) h 0 0 → T_X5_nextCell_50 l G 2 0 0 Q b (bI ord) (encB best) (i3 j) (bI z) h 0 0 := by
      intro z best' Q hz hT
      refine A_X5_nextCell_50 hl ⟨⟨_, hb⟩, ?_⟩
      refine vC_p (B_isSettled hl hB0 hj) (by decide) (by decide) (by decide) ⟨_, rfl, fun v hv => ?_⟩
      rw [i3_succ]
      have : v = encB best' := by
        rw [hv]
        by_cases q : pc (u j) = 1
        · rw [if_pos q] at hz
          have : (pc (u j) == 1) = true := by simpa using q
          rw [this, hz]; rfl
        · rw [if_neg q] at hz
          have : (pc (u j) == 1) = false := by simpa using q
          rw [this]
          cases z with
          | true => rw [if_pos rfl] at hz; rw [hz]; rfl
          | false => rw [if_neg (by decide)] at hz; rw [hz]; rfl
      rw [this]; exact hT
    -- which way out
    have fin : ∀ z : Bool, (z = true → ord = true → best = none) → (z = false → ∃ g, best = some g) → ∃ best', guessI u ord (j + 1) best' ∧ (if pc (u j) = 1 then best' = best else if z then best' = some j else best' = best) := by
      intro z hz1 hz2
      by_cases q : pc (u j) = 1
      · exact ⟨best, keep (Or.inl q), by rw [if_pos q]⟩
      · cases z with
        | true => exact ⟨some j, take q (hz1 rfl), by rw [if_neg q]; rfl⟩
        | false => exact ⟨best, keep (Or.inr (hz2 rfl)), by rw [if_neg q]; rfl⟩
    have head : ∀ (Q : aR → aH → Prop), ((encB best = -1 → T_X5_nextCell_50 l G 2 0 0 Q b (bI ord) (encB best) (i3 j) 1 h 0 0) ∧ (¬ encB best = -1 → (¬ bI ord = 0 → T_X5_nextCell_50 l G 2 0 0 Q b (bI ord) (encB best) (i3 j) 0 h 0 0) ∧ (bI ord = 0 → ∃ g, best = some g ∧ T_X5_nextCell_50 l G 2 0 0 Q b (bI ord) (encB best) (i3 j) (if pc (u g) ≤ pc (u j) then (0 : Int32) else 1) h 0 0))) → T_X5_nextCell_4 l G 2 0 0 Q b (bI ord) (encB best) (i3 j) h 0 0 := by
      intro Q hq
      refine A_X5_nextCell_4 hl (vR_mk hb rfl ⟨⟨_, ho⟩, ?_⟩)
      refine vC_p (B_cellCount hl hP0) (by decide) (by decide) (by decide) ⟨_, rfl, fun q => absurd (by rwa [i3_le (by omega) (by omega)] at q) (by omega : ¬ p.n * p.n ≤ j), fun _ => ⟨hq.1, fun q1 => ⟨(hq.2 q1).1, fun q2 => ?_⟩⟩⟩
      obtain ⟨g, hg, hT⟩ := (hq.2 q1).2 q2
      have hg2 := hI.2 g hg
      have hfg := hf g (by omega)
      have pg : pc (u g) < 1000 := by unfold pc; omega
      refine vR_mk hb rfl (vA_mk ht rfl (by omega : j < 25) (by decide) ?_)
      rw [hfj.1]
      refine vC_p (B_bitCount hl (by omega)) (by decide) (by decide) (by decide) ⟨_, rfl, vR_mk hb rfl (vA_mk ht (show encB best = i3 g by rw [hg]; rfl) (by omega : g < 25) (by decide) ?_)⟩
      rw [hfg.1]
      refine vC_p (B_bitCount hl (by omega)) (by decide) (by decide) (by decide) ⟨_, rfl, ?_⟩
      simp only [i3_le (a := pc (u g)) (b := pc (u j)) (by omega) (by omega)]
      exact hT
    cases hbst : best with
    | none =>
      obtain ⟨best', g1, g2⟩ := fin true (fun _ _ => hbst) (fun q => by cases q)
      rw [← hbst]
      refine ⟨best', g1, fun Q hT => head Q ⟨fun _ => t50 true best' Q g2 hT, fun q => absurd (by rw [hbst]; rfl) q⟩⟩
    | some g =>
      have hg := hI.2 g hbst
      have hne : ¬ encB best = -1 := by rw [hbst]; show ¬ i3 g = -1; rw [i3_m1 (by omega)]; exact id
      rw [← hbst]
      cases ho2 : ord with
      | true =>
        obtain ⟨best', g1, g2⟩ := fin false (fun q => by cases q) (fun _ => ⟨g, hbst⟩)
        rw [ho2] at g1 head t50
        exact ⟨best', g1, fun Q hT => head Q ⟨fun q => absurd q hne, fun _ => ⟨fun _ => t50 false best' Q g2 hT, fun q => by cases q⟩⟩⟩
      | false =>
        by_cases q : pc (u g) ≤ pc (u j)
        · obtain ⟨best', g1, g2⟩ := fin false (fun q => by cases q) (fun _ => ⟨g, hbst⟩)
          rw [ho2] at g1 head t50
          exact ⟨best', g1, fun Q hT => head Q ⟨fun q => absurd q hne, fun _ => ⟨fun q2 => absurd rfl q2, fun _ => ⟨g, hbst, by rw [if_pos q]; exact t50 false best' Q g2 hT⟩⟩⟩⟩
        · obtain ⟨best', g1, g2⟩ := fin true (fun _ h => by rw [ho2] at h; cases h) (fun q => by cases q)
          rw [ho2] at g1 head t50
          exact ⟨best', g1, fun Q hT => head Q ⟨fun q => absurd q hne, fun _ => ⟨fun q2 => absurd rfl q2, fun _ => ⟨g, hbst, by rw [if_neg q]; exact t50 true best' Q g2 hT⟩⟩⟩⟩
  have all : ∀ j, j ≤ p.n * p.n → ∃ best, guessI u ord j best ∧ ∀ Q : aR → aH → Prop, T_X5_nextCell_4 l G 2 0 0 Q b (bI ord) (encB best) (i3 j) h 0 0 → T_X5_nextCell_4 l G 2 0 0 Q b (bI ord) (encB none) (i3 0) h 0 0 := by
    intro j
    induction j with
    | zero => intro _; exact ⟨none, ⟨fun _ c hc => absurd hc (Nat.not_lt_zero _), fun g hg => by cases hg⟩, fun Q hT => hT⟩
    | succ j ih =>
      intro hj
      obtain ⟨best, g1, g2⟩ := ih (by omega)
      obtain ⟨best', g3, g4⟩ := step j (by omega) best g1
      exact ⟨best', g3, fun Q hT => g2 Q (g4 Q hT)⟩
  obtain ⟨best, g1, g2⟩ := all _ (Nat.le_refl _)
  refine ⟨best, g1, A_X5_nextCell hl (g2 _ ?_)⟩
  refine A_X5_nextCell_4 hl (vR_mk hb rfl ⟨⟨_, ho⟩, ?_⟩)
  exact vC_p (B_cellCount hl hP0) (by decide) (by decide) (by decide) ⟨_, rfl, fun _ => ⟨rfl, rfl⟩, fun q => absurd (by rw [i3_le (by omega) (by omega)]; exact Nat.le_refl _) q⟩
theorem thg_rest {m s s' : Nat} (hs : s < 2 ^ (m + 1)) (h0 : s ≠ 0) (h4 : s < 4096) (e : ∀ i, s'.testBit i = (s.testBit i && decide (i ≠ ntz s))) : thg m s = ntz s :: thg m s' := by
  obtain ⟨n1, n2, n3⟩ := ntz_spec h0 h4
  have hx : ntz s ≤ m := bit_le hs n1
  have hno : ∀ t, t ≤ ntz s → thgF m s t = thgF m s (ntz s) := by
    intro t ht
    have : ∀ d t, ntz s - t = d → t ≤ ntz s → thgF m s t = thgF m s (ntz s) := by
      intro d
      induction d with
      | zero => intro t h1 h2; rw [show t = ntz s by omega]
      | succ d ih => intro t h1 h2; rw [thgF_no (by omega) (n3 t (by omega))]; exact ih (t + 1) (by omega) (by omega)
    exact this _ t rfl ht
  have hno' : ∀ t, t ≤ ntz s + 1 → thgF m s' t = thgF m s' (ntz s + 1) := by
    intro t ht
    have : ∀ d t, ntz s + 1 - t = d → t ≤ ntz s + 1 → thgF m s' t = thgF m s' (ntz s + 1) := by
      intro d
      induction d with
      | zero => intro t h1 h2; rw [show t = ntz s + 1 by omega]
      | succ d ih =>
        intro t h1 h2
        have hb : s'.testBit t = false := by
          rw [e]
          by_cases q : t = ntz s
          · rw [decide_eq_false (fun z => z q), Bool.and_false]
          · rw [n3 t (by omega), Bool.false_and]
        rw [thgF_no (by omega) hb]; exact ih (t + 1) (by omega) (by omega)
    exact this _ t rfl ht
  rw [← thgF_0, ← thgF_0, hno 0 (Nat.zero_le _), hno' 0 (Nat.zero_le _), thgF_yes hx n1]
  congr 1
  unfold thgF
  apply List.filter_congr
  intro t ht
  have := (List.mem_range'.mp ht)
  obtain ⟨i, _, e2⟩ := this
  rw [e, decide_eq_true (by omega : t ≠ ntz s), Bool.and_true]
def srcR (I : Nat → Prop) (h : aH) (b a th : Nat) (F : List Nat) (p : Pz) (u : Nat → Nat) (fo fi wanted : Nat) (ord : Bool) (S : List (List Nat)) : Option Value → aH → Prop := fun v h' => v = none ∧ kp (fun q => q = th ∨ q = fo ∨ q = fi) h h' ∧ BD I h' b a th F p u ∧ ∃ S', FO h' fo fi wanted p S' ∧ resV p ord wanted S' (S ++ sols p u)
theorem B_search (hl : l.stackTraces = false) {fo fi wanted : Nat} {ord : Bool} (hne : fi ≠ th) (hfb : b ≠ fo) (hF : fo ∉ F ∧ fi ∉ F) (hI : ¬ I fo ∧ ¬ I fi) (hw : wanted ≤ 1000) : ∀ (μ : Nat) (h : aH) (u : Nat → Nat) (S : List (List Nat)), uns p u < μ → BD I h b a th F p u → FO h fo fi wanted p S → S.length < wanted → brkB p u = false →
    aC l G mX5_search (wsN mX5_search) (7 + uns p u) 0 0 [.ref b, .int (bI ord), .ref fo] h (aPR (srcR I h b a th F p u fo fi wanted ord S)) := by
  intro μ
  induction μ with
  | zero => intro h u S hmu; exact absurd hmu (Nat.not_lt_zero _)
  | succ μ ih =>
    intro h u S hmu hB hFO hS hbr
    have hok := hB.ok
    have hn := hok.n45
    have hm := hok.m24
    have hnn := nn_le hn
    have h32 := pow_le hm.2.2
    have hL := nL_le hok
    have hbnd := hB.bnd
    have hB0 := hB
    obtain ⟨hP, rb, f, hb, ht, hf, m1, m2, m3, m4⟩ := hB
    have hFO0 := hFO
    obtain ⟨ff, sm, o1, o2, -⟩ := hFO
    have hfo2 : fo ≠ th := fun e => by rw [e, ht] at o1; cases o1
    have hbt : b ≠ th := fun e => by rw [e, ht] at hb; cases hb
    have hbi : b ≠ fi := fun e => by rw [e, o2] at hb; cases hb
    obtain ⟨best, hg, hC⟩ := B_nextCell (G := G) (ord := ord) hl hB0
    refine A_X5_search hl ⟨⟨_, hb⟩, ?_⟩
    refine vC_p hC (by omega) (by decide) (by decide) ⟨_, rfl, fun q => ?_, fun q => ?_⟩
    · cases best with
      | none => exact absurd rfl q
      | some g =>
        obtain ⟨g1, g2, g3⟩ := hg.2 g rfl
        have hfg := hf g g1
        have hup := uns_pos g1 g2
        refine vR_mk hb rfl (vA_mk ht rfl (by omega : g < 25) (by decide) ?_)
        rw [hfg.1]
        show T_X5_search_32 l G (7 + uns p u) 0 0 _ b (bI ord) fo (i3 g) (i3 (u g)) (i3 (u g)) h 0 0
        have hsplit : simL ord (splitL p u g (thg p.m (u g))) (sols p u) := ⟨sols_split g1, fun ho => sols_first hok g1 hbnd (g3 ho)⟩
        -- heaps on the way
        have bdk : ∀ (h1 : aH) (v : Nat), BD I h1 b a th F p (setC u g v) → FO h1 fo fi wanted p S → True := fun _ _ _ _ => trivial
        have exit : ∀ (s : Nat) (h1 : aH) (v : Nat) (S1 : List (List Nat)), s < 32 → (s = 0 ∨ wanted ≤ S1.length) → S1.length ≤ wanted → kp (fun q => q = th ∨ q = fo ∨ q = fi) h h1 → BD I h1 b a th F p (setC u g v) → FO h1 fo fi wanted p S1 → resV p ord wanted S1 (S ++ sols p u) → T_X5_search_32 l G (7 + uns p u) 0 0 (aPR (srcR I h b a th F p u fo fi wanted ord S)) b (bI ord) fo (i3 g) (i3 (u g)) (i3 s) h1 0 0 := by
          intro s h1 v S1 hs hx hS1 hk hB1 hF1 hres
          have hB2 := hB1
          obtain ⟨_, _, f1, hb1, ht1, hf1, -⟩ := hB1
          have hF2 := hF1
          obtain ⟨ff1, sm1, p1, p2, -⟩ := hF1
          have back : (aPR (srcR I h b a th F p u fo fi wanted ord S)) (.inl none) (aUp h1 th (aInts .int 25 (upd f1 g (i3 (u g))))) := by
            refine ⟨rfl, hk.tr (kp.up (Or.inl rfl)), hB2.set (kp.up rfl) aUp_eq fun c hc => ?_, S1, hF2.kp (S := (· = th)) (kp.up rfl) hfo2 hne, hres⟩
            by_cases e : c = g
            · subst e; rw [upd_same]; exact ⟨rfl, hbnd c hc⟩
            · rw [upd_ne e]
              have := hf1 c hc
              rw [setC_ne e] at this
              exact this
          have ez : (i3 s = 0) = (s = 0) := i3_eq (b := 0) (by omega) (by decide)
          refine A_X5_search_32 hl ⟨fun _ => vR_mk hb1 rfl (vSt_mk ht1 rfl (by omega : g < 25) (by decide) back), fun q0 => vI_mk p1 rfl (vI_mk p1 rfl ⟨fun _ => vR_mk hb1 rfl (vSt_mk ht1 rfl (by omega : g < 25) (by decide) back), fun q1 => ?_⟩)⟩
          rw [i3_le (by omega) (by omega)] at q1
          rw [ez] at q0
          rcases hx with hx | hx
          · exact absurd hx q0
          · exact absurd hx q1
        have loop : ∀ (k s : Nat) (h1 : aH) (v : Nat) (S1 : List (List Nat)), s < k → s < 2 ^ (p.m + 1) → (∀ i, s.testBit i = true → (u g).testBit i = true) → S1.length ≤ wanted → kp (fun q => q = th ∨ q = fo ∨ q = fi) h h1 → BD I h1 b a th F p (setC u g v) → FO h1 fo fi wanted p S1 → (∀ S', resV p ord wanted S' (S1 ++ splitL p u g (thg p.m s)) → resV p ord wanted S' (S ++ sols p u)) → T_X5_search_32 l G (7 + uns p u) 0 0 (aPR (srcR I h b a th F p u fo fi wanted ord S)) b (bI ord) fo (i3 g) (i3 (u g)) (i3 s) h1 0 0 := by
          intro k
          induction k with
          | zero => intro s h1 v S1 hs; exact absurd hs (Nat.not_lt_zero _)
          | succ k ihk =>
            intro s h1 v S1 hs hsm hsub hS1 hk hB1 hF1 hcon
            have hs32 : s < 32 := by omega
            by_cases hx : s = 0 ∨ wanted ≤ S1.length
            · refine exit s h1 v S1 hs32 hx hS1 hk hB1 hF1 (hcon S1 ⟨hS1, _, simL.rf, fun q => ?_⟩)
              rcases hx with hx | hx
              · subst hx
                have : thg p.m 0 = [] := by unfold thg; rw [List.filter_eq_nil_iff]; intro i _; simp
                rw [this]; rfl
              · omega
            · have hx0 : s ≠ 0 := fun e => hx (Or.inl e)
              have hx1 : ¬ wanted ≤ S1.length := fun e => hx (Or.inr e)
              have hB2 := hB1
              obtain ⟨hP1, rb1, f1, hb1, ht1, hf1, -⟩ := hB1
              have hF2 := hF1
              obtain ⟨ff1, sm1, p1, p2, -⟩ := hF1
              have ez : (i3 s = 0) = (s = 0) := i3_eq (b := 0) (by omega) (by decide)
              obtain ⟨n1, n2, n3⟩ := ntz_spec hx0 (by omega : s < 4096)
              have hxm : ntz s ≤ p.m := bit_le hsm n1
              have hv : 1 <<< ntz s < 2 ^ (p.m + 1) := by rw [Nat.one_shiftLeft]; exact Nat.pow_lt_pow_right (by decide) (by omega)
              obtain ⟨s', hs', e1, e2⟩ := rest_step (by omega : s < 4096) hx0
              have hth := thg_rest hsm hx0 (by omega) e2
              have hcon2 : ∀ S', resV p ord wanted S' (S1 ++ (sols p (setC u g (1 <<< ntz s)) ++ splitL p u g (thg p.m s'))) → resV p ord wanted S' (S ++ sols p u) := by
                intro S' hr
                refine hcon S' ?_
                rw [hth]; exact hr
              refine A_X5_search_32 hl ⟨fun q0 => absurd (by rwa [ez] at q0) hx0, fun _ => vI_mk p1 rfl (vI_mk p1 rfl ⟨fun q1 => absurd (by rwa [i3_le (by omega) (by omega)] at q1) hx1, fun _ => vR_mk hb1 rfl ?_⟩)⟩
              refine vC_p (B_lowest hl hs32 hx0) (by omega) (by decide) (by decide) ⟨_, rfl, vSt_mk ht1 rfl (by omega : g < 25) (by decide) ?_⟩
              have k2 : kp (· = th) h1 (aUp h1 th (aInts .int 25 (upd f1 g (i3 (1 <<< ntz s))))) := kp.up rfl
              have hB3 : BD I (aUp h1 th (aInts .int 25 (upd f1 g (i3 (1 <<< ntz s))))) b a th F p (setC u g (1 <<< ntz s)) := hB2.set k2 aUp_eq fun c hc => by
                by_cases e : c = g
                · subst e; rw [upd_same, setC_eq]; exact ⟨rfl, hv⟩
                · rw [upd_ne e, setC_ne e]
                  have := hf1 c hc
                  rw [setC_ne e] at this
                  exact this
              have hF3 := hF2.kp (S := (· = th)) k2 hfo2 hne
              have hk3 : kp (fun q => q = th ∨ q = fo ∨ q = fi) h (aUp h1 th (aInts .int 25 (upd f1 g (i3 (1 <<< ntz s))))) := hk.tr (k2.mono fun q e => Or.inl e)
              have hb3 : (aUp h1 th (aInts .int 25 (upd f1 g (i3 (1 <<< ntz s))))) b = some (aObj 5 [.ref a, .ref th, .ref rb1]) := by rw [aUp_ne hbt]; exact hb1
              refine ⟨⟨_, hb3⟩, ?_⟩
              refine vC_p (B_isBrokenAt hl hB3 g1) (by omega) (by decide) (by decide) ⟨_, rfl, ?_⟩
              simp only [bI_eq0]
              rw [e1]
              refine ⟨fun q => ?_, fun q => ⟨⟨_, hb3⟩, ?_⟩⟩
              · have hz : sols p (setC u g (1 <<< ntz s)) = [] := by
                  have q' : ((List.range p.nL).any fun i => (linesN p g).testBit i && brk p (setC u g (1 <<< ntz s)) i) = true := by simpa using q
                  rw [any_range] at q'
                  obtain ⟨i, hi, hz⟩ := q'
                  rw [Bool.and_eq_true] at hz
                  exact brk_sols hok hi hz.2
                refine ihk s' _ (1 <<< ntz s) S1 (by omega) (by omega) (fun i hi => hsub i (by rw [e2, Bool.and_eq_true] at hi; exact hi.1)) hS1 hk3 hB3 hF3 (fun S' hr => hcon2 S' ?_)
                rw [hz, List.nil_append]; exact hr
              · have hbr2 : brkB p (setC u g (1 <<< ntz s)) = false := by
                  rw [brkB_iff]
                  intro i hi
                  by_cases hi2 : (linesN p g).testBit i = true
                  · cases hz : brk p (setC u g (1 <<< ntz s)) i with
                    | false => rfl
                    | true =>
                      have : ((List.range p.nL).any fun i => (linesN p g).testBit i && brk p (setC u g (1 <<< ntz s)) i) = true := any_range.mpr ⟨i, hi, by rw [hi2, hz]; rfl⟩
                      rw [this] at q; cases q
                  · have hcc : ∀ k, k < p.n → setC u g (1 <<< ntz s) (cellN p.n i k) = u (cellN p.n i k) := by
                      intro k hk
                      refine setC_ne fun e => hi2 ?_
                      exact (linesN_bit hn g1).mpr ⟨hi, k, hk, e⟩
                    unfold brk
                    rw [fitL_congr hcc]
                    exact brkB_iff.mp hbr i hi
                have hun : uns p (setC u g (1 <<< ntz s)) < uns p u := by
                  refine sum_lt (fun c hc => ?_) ⟨g, List.mem_range.mpr g1, ?_⟩
                  · by_cases e : c = g
                    · subst e
                      rw [setC_eq, if_pos (pc_sh ⟨ntz s, by omega⟩)]; exact Nat.zero_le _
                    · rw [setC_ne e]; exact Nat.le_refl _
                  · rw [setC_eq, if_pos (pc_sh ⟨ntz s, by omega⟩), if_neg g2]; decide
                refine vC_r (ih _ _ S1 (by omega) hB3 hF3 (by omega) hbr2) (by omega) (by decide) (by decide) fun v2 h4 hR4 => ?_
                obtain ⟨hv4, hk4, hB4, S2, hF4, hr4⟩ := hR4
                refine ⟨hv4, ?_⟩
                have hr40 := hr4
                obtain ⟨l1, R2, l2, l3⟩ := hr4
                by_cases hfull : S2.length < wanted
                · refine ihk s' h4 (1 <<< ntz s) S2 (by omega) (by omega) (fun i hi => hsub i (by rw [e2, Bool.and_eq_true] at hi; exact hi.1)) l1 (hk3.tr hk4) hB4 hF4 (fun S' hr => hcon2 S' ?_)
                  obtain ⟨r1, R', r2, r3⟩ := hr
                  rw [l3 hfull, List.append_nil] at l2
                  refine ⟨r1, R', r2.tr ?_, r3⟩
                  rw [← List.append_assoc]
                  exact l2.ap simL.rf
                · refine exit s' h4 (1 <<< ntz s) S2 (by omega) (Or.inr (by omega)) l1 (hk3.tr hk4) hB4 hF4 (hcon2 S2 ⟨l1, R2 ++ splitL p u g (thg p.m s'), ?_, fun z => absurd z hfull⟩)
                  rw [← List.append_assoc, ← List.append_assoc]
                  exact l2.ap simL.rf
        refine loop (u g + 1) (u g) h (u g) S (Nat.lt_succ_self _) hfg.2 (fun i hi => hi) (by omega) kp.rf ?_ hFO0 (fun S' hr => ?_)
        · have : setC u g (u g) = u := by
            funext c
            unfold setC
            split
            · rename_i e; rw [e]
            · rfl
          rw [this]; exact hB0
        · obtain ⟨r1, R', r2, r3⟩ := hr
          exact ⟨r1, R', r2.tr (simL.rf.ap hsplit), r3⟩
    · cases best with
      | some g =>
        have q' : i3 g = -1 := q
        rw [i3_m1 (by have := (hg.2 g rfl).1; omega)] at q'
        exact absurd q' id
      | none =>
        have hd := hg.1 rfl
        refine vR_mk hb rfl ⟨⟨_, o1⟩, ?_⟩
        refine vC_r (B_add8 hl hB0 hFO0 hne hd (by omega)) (by omega) (by decide) (by decide) fun v h1 hR1 => ?_
        obtain ⟨hv, hk, hF1⟩ := hR1
        refine ⟨hv, rfl, hk.mono fun q e => Or.inr e, ?_, S ++ [vOf p u], hF1, ?_, [], ?_, fun _ => rfl⟩
        · have hPn : ∀ q ∈ F, ¬ I q := by
            obtain ⟨tl, ls, lo, ar, rw, T, L, R, sec, _, _, _, _, hn, _⟩ := hP
            exact hn
          exact ⟨hP.kp hk (fun q hq e => e.elim (fun e => hF.1 (by rw [← e]; exact hq)) fun e => hF.2 (by rw [← e]; exact hq)) (fun q hq e => e.elim (fun e => hI.1 (by rw [← e]; exact hq)) fun e => hI.2 (by rw [← e]; exact hq)) (fun _ h => h) hPn, rb, f, hk _ _ hb (fun e => e.elim hfb hbi), hk _ _ ht (fun e => e.elim (fun e => hfo2 e.symm) fun e => hne e.symm), hf, m1, m2, m3, m4⟩
        · rw [List.length_append]; exact hS
        · rw [sols_done hok hbnd hd (fun i hi => brkB_iff.mp hbr i hi), List.append_nil]
          exact simL.rf
theorem B_solutions (hl : l.stackTraces = false) (hB : BD I h b a th F p u) {wanted : Nat} {ord : Bool} (hw : wanted ≤ 1000) (hw0 : 0 < wanted) (hI0 : ∀ q, I q → h q ≠ none) :
    aC l G mX5_solutions (wsN mX5_solutions) 33 2 29 [.ref b, .int (i3 wanted), .int (bI ord)] h (aPR fun v h' => ∃ fo fi S, v = some (.ref fo) ∧ h fo = none ∧ h fi = none ∧ kp (· = th) h h' ∧ BD I h' b a th F p u ∧ FO h' fo fi wanted p S ∧ resV p ord wanted S (sols p u)) := by
  have hok := hB.ok
  have hn := hok.n45
  have hL := nL_le hok
  have hB0 := hB
  obtain ⟨hP, rb, f, hb, ht, hf, m1, m2, m3, m4⟩ := hB
  have hPn : (∀ q ∈ F, ¬ I q) ∧ ∀ q ∈ F, h q ≠ none := by
    obtain ⟨tl, ls, lo, ar, rw, T, L, R, sec, _, _, eF, _, hn, w1, w2, _, _, w3, w4, w5, _⟩ := hP
    refine ⟨hn, fun q hq => ?_⟩
    rw [eF] at hq
    simp only [List.mem_cons, List.mem_map, List.mem_range] at hq
    rcases hq with rfl | rfl | rfl | rfl | ⟨i, hi, rfl⟩
    · rw [w1]; simp
    · rw [w2]; simp
    · rw [w3]; simp
    · rw [w5]; simp
    · obtain ⟨-, g, w, -⟩ := w4 i hi; rw [w]; simp
  refine A_X5_solutions hl ⟨by decide, by decide, fun fo hfo _ => ?_⟩
  have hbf : b ≠ fo := fun e => by rw [e, hfo] at hb; cases hb
  have htf : th ≠ fo := fun e => by rw [e, hfo] at ht; cases ht
  have hFf : fo ∉ F := fun e => hPn.2 _ e hfo
  have hIf : ¬ I fo := fun e => hI0 _ e hfo
  -- the object Found with its first solution's array
  have hinit : aC l G mX8_init (wsN mX8_init) 1 1 25 [.ref fo, .int (i3 wanted)] (aUp h fo (aObj 7 [.int 0, .null, .int 0, .int 0])) (aPR fun v h' => v = none ∧ ∃ fi, h fi = none ∧ fi ≠ fo ∧ kp (fun _ => False) h h' ∧ FO h' fo fi wanted p []) := by
    refine A_X8_init hl ⟨by decide, 25, by decide, rfl, by decide, by decide, by decide, fun fi hfi _ => ?_⟩
    have hne : fi ≠ fo := fun e => by rw [e, aUp_eq] at hfi; cases hfi
    rw [aUp_ne hne] at hfi
    have q1 : aUp (aUp h fo (aObj 7 [.int 0, .null, .int 0, .int 0])) fi (aInts .int 25 fun _ => 0) fo = some (aObj 7 [.int 0, .null, .int 0, .int 0]) := by rw [aUp_ne (Ne.symm hne)]; exact aUp_eq
    refine vPut_mk q1 (by show 1 < 4; decide) (vPut_mk aUp_eq (by show 3 < 4; decide) (vPut_mk aUp_eq (by show 0 < 4; decide) ⟨rfl, fi, hfi, hne, ?_, fun _ => 0, 33554431, ?_, ?_, by decide, fun c hc => ?_, fun e => absurd rfl e⟩))
    · intro q e he _
      have y1 : q ≠ fo := fun z => by rw [z, hfo] at he; cases he
      have y2 : q ≠ fi := fun z => by rw [z, hfi] at he; cases he
      rw [aUp_ne y1, aUp_ne y1, aUp_ne y1, aUp_ne y2, aUp_ne y1]; exact he
    · rw [aUp_eq]; rfl
    · rw [aUp_ne hne, aUp_ne hne, aUp_ne hne]; exact aUp_eq
    · have hnn := nn_le hn
      rw [show (33554431 : Nat) = 2 ^ 25 - 1 from rfl, Nat.testBit_two_pow_sub_one, decide_eq_true (by omega)]; rfl
  refine vC_r hinit (by decide) (by decide) (by decide) fun v h1 hR1 => ?_
  obtain ⟨hv, fi, hfi, hne, hk1, hF1⟩ := hR1
  refine ⟨hv, ?_⟩
  have htfi : fi ≠ th := fun e => by rw [← e, hfi] at ht; cases ht
  have hFi : fi ∉ F := fun e => hPn.2 _ e hfi
  have hIi : ¬ I fi := fun e => hI0 _ e hfi
  have hB1 : BD I h1 b a th F p u := ⟨hP.kp hk1 (fun _ _ => id) (fun _ _ => id) (fun _ h => h) hPn.1, rb, f, hk1 _ _ hb id, hk1 _ _ ht id, hf, m1, m2, m3, m4⟩
  have hF10 := hF1
  obtain ⟨ff1, sm1, p1, -⟩ := hF1
  refine ⟨⟨_, hk1 _ _ hb id⟩, ?_⟩
  refine vC_p (B_isBroken hl hB1) (by decide) (by decide) (by decide) ⟨_, rfl, ?_⟩
  simp only [bI_eq0]
  refine ⟨fun q => ⟨fo, fi, [], rfl, hfo, hfi, hk1.mono (fun _ e => False.elim e), hB1, hF10, Nat.zero_le _, [], ?_, fun _ => rfl⟩, fun q => ⟨⟨_, hk1 _ _ hb id⟩, ?_⟩⟩
  · have q' : brkB p u = true := by simpa using q
    unfold brkB at q'
    rw [any_range] at q'
    obtain ⟨i, hi, hz⟩ := q'
    rw [brk_sols hok hi hz]; exact simL.rf
  · have hul := uns_le hn u
    refine vC_r (B_search hl htfi hbf ⟨hFf, hFi⟩ ⟨hIf, hIi⟩ hw (uns p u + 1) h1 u [] (Nat.lt_succ_self _) hB1 hF10 hw0 q) (by omega) (by decide) (by decide) fun v2 h2 hR2 => ?_
    obtain ⟨hv2, hk2, hB2, S, hF2, hr⟩ := hR2
    refine ⟨hv2, fo, fi, S, rfl, hfo, hfi, ?_, hB2, hF2, hr⟩
    intro q e he hs
    refine hk2 q e (hk1 q e he id) ?_
    rintro (z | z | z)
    · exact hs z
    · rw [z, hfo] at he; cases he
    · rw [z, hfi] at he; cases he
end SRC
