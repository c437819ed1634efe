/-! a text read: where it fails, its commands
-/
set_option maxRecDepth 100000
def pAllF (t : List Nat) : Nat → Nat → Option (List cmT) × Nat
  | 0, q => (none, q)
  | k + 1, q => match pCmd t q with
    | (none, r) => (none, r)
    | (some c, r) => if t.length ≤ r then (some [c], r) else if isC t r 59 then ((pAllF t k (r + 1)).1.map (c :: ·), (pAllF t k (r + 1)).2) else (none, r)
def pAll (t : List Nat) : Option (List cmT) × Nat := pAllF t 100 0
def pCont (t : List Nat) (k r : Nat) : Option (List cmT) × Nat := if t.length ≤ r then (some [], r) else if isC t r 59 then pAllF t k (r + 1) else (none, r)
def errF (S : ST) : aR := .inl (some (.int (match pAll S.2.2.2 with
  | (none, q) => i3 q
  | (some _, _) => -1)))
theorem pAllF_c {t : List Nat} {k q r : Nat} {c : cmT} (h : pCmd t q = (some c, r)) : pAllF t (k + 1) q = ((pCont t k r).1.map (c :: ·), (pCont t k r).2) := by
  unfold pCont
  rw [pAllF, h]
  show (if t.length ≤ r then _ else _) = _
  by_cases h1 : t.length ≤ r
  · rw [if_pos h1, if_pos h1]; rfl
  · rw [if_neg h1, if_neg h1]
    by_cases h2 : isC t r 59 = true
    · rw [if_pos h2, if_pos h2]
    · rw [if_neg h2, if_neg h2]; rfl
theorem pAllF_n {t : List Nat} {k q r : Nat} (h : pCmd t q = (none, r)) : pAllF t (k + 1) q = (none, r) := by
  rw [pAllF, h]
theorem pLet_le {t : List Nat} {q : Nat} : q ≤ (pLet t q).2 ∧ (pLet t q).2 ≤ q + 1 := by
  unfold pLet
  split
  · exact ⟨by show q ≤ q + 1; omega, Nat.le_refl _⟩
  · exact ⟨Nat.le_refl _, by show q ≤ q + 1; omega⟩
theorem pThing_le {t : List Nat} {q : Nat} : q ≤ (pThing t q).2 ∧ (pThing t q).2 ≤ q + 1 := by
  unfold pThing
  split
  · exact ⟨by show q ≤ q + 1; omega, Nat.le_refl _⟩
  · exact pLet_le
theorem pArg_le {t : List Nat} {k q : Nat} : q ≤ (pArg t k q).2 ∧ (pArg t k q).2 ≤ q + 3 ∧ ((pArg t k q).1 ≠ none → q < (pArg t k q).2) := by
  unfold pArg
  split
  · have h1 := pLet_le (t := t) (q := q + 1 + (isC t (q + 1) 39).toNat)
    have h2 : (isC t (q + 1) 39).toNat ≤ 1 := by cases isC t (q + 1) 39 <;> decide
    show q ≤ (pLet t (q + 1 + (isC t (q + 1) 39).toNat)).2 ∧ (pLet t (q + 1 + (isC t (q + 1) 39).toNat)).2 ≤ q + 3 ∧ (_ → q < (pLet t (q + 1 + (isC t (q + 1) 39).toNat)).2)
    exact ⟨by omega, by omega, fun _ => by omega⟩
  · split
    · have h1 := pThing_le (t := t) (q := q + 1)
      show q ≤ (pThing t (q + 1)).2 ∧ (pThing t (q + 1)).2 ≤ q + 3 ∧ (_ → q < (pThing t (q + 1)).2)
      exact ⟨by omega, by omega, fun _ => by omega⟩
    · split
      · have h1 := pThing_le (t := t) (q := q + 1)
        show q ≤ (pThing t (q + 1)).2 ∧ (pThing t (q + 1)).2 ≤ q + 3 ∧ (_ → q < (pThing t (q + 1)).2)
        exact ⟨by omega, by omega, fun _ => by omega⟩
      · split
        · exact ⟨by show q ≤ q + 1; omega, by show q + 1 ≤ q + 3; omega, fun _ => by show q < q + 1; omega⟩
        · exact ⟨by show q ≤ q; omega, by show q ≤ q + 3; omega, fun z => absurd rfl z⟩
theorem pNum_ge {t : List Nat} {q : Nat} : q ≤ (pNum t q).2 := by
  unfold pNum
  split
  · split
    · show q ≤ q + 2; omega
    · show q ≤ q + 1; omega
  · exact Nat.le_refl _
theorem pCmd_le {t : List Nat} {q r : Nat} {o : Option cmT} (h : pCmd t q = (o, r)) : q ≤ r ∧ r ≤ q + 5 ∧ (o ≠ none → q < r) := by
  unfold pCmd at h
  have h1 := pNum_le (t := t) (q := q)
  have h2 := pNum_ge (t := t) (q := q)
  cases hN : pNum t q with
  | mk o1 q1 =>
    rw [hN] at h h1 h2
    have h1 : q1 ≤ q + 2 := h1
    have h2 : q ≤ q1 := h2
    cases o1 with
    | none =>
      injection h with e1 e2
      subst e1; subst e2
      exact ⟨h2, by omega, fun z => absurd rfl z⟩
    | some k =>
      have h : pArg t k q1 = (o, r) := h
      have h3 := pArg_le (t := t) (k := k) (q := q1)
      rw [h] at h3
      obtain ⟨a, b, c⟩ := h3
      exact ⟨by have : q1 ≤ r := a; omega, by have : r ≤ q1 + 3 := b; omega, fun z => by have : q1 < r := c z; omega⟩
section TXE
variable {Z : zT} {l : Launch} {G : aG} {h0 h : aH} {r li pos x : Nat} {fl : Bool} {t : List Nat} {as : List Nat} {eo : Option Nat} {cs : List cmT}
def riR (G : aG) (h0 : aH) (r x : Nat) (t : List Nat) : Option Value → aH → Prop := fun v h' => v = none ∧ ∃ li pos fl as eo cs, RDR G h0 h' r li pos fl x t as eo cs ∧ pos < 200 ∧ (fl = false → pAll t = (some cs, pos)) ∧ (fl = true → pAll t = (none, pos))
theorem map_cons_app {c : cmT} {cs : List cmT} {o : Option (List cmT)} : (o.map (c :: ·)).map (cs ++ ·) = o.map ((cs ++ [c]) ++ ·) := by
  cases o with
  | none => rfl
  | some l => simp
theorem B_readSign (hl : l.stackTraces = false) (ho : h r = some (RO li pos false x)) (hT : TX h x t) (hp : pos < 1000) {c : Nat} (hc : c < 128) : aC l G mX9_readSign (wsN mX9_readSign) 7 0 0 [.ref r, .int (i3 c)] h (aPR fun v h' => v = none ∧ h' = aUp h r (RO li (pos + (isC t pos c).toNat) (!isC t pos c) x)) := by
  refine A_X9_readSign hl ⟨⟨_, ho⟩, vC_r (B_skips hl ho hT hp hc) (by decide) (by decide) (by decide) fun v h1 hR => ?_⟩
  obtain ⟨rfl, rfl⟩ := hR
  refine ⟨_, rfl, ?_⟩
  have e : (if bI (isC t pos c) = 0 then (1 : Int32) else 0) = bI (!isC t pos c) := by cases isC t pos c <;> rfl
  simp only [e]
  have ho1 : (aUp h r (RO li (pos + (isC t pos c).toNat) false x)) r = some (RO li (pos + (isC t pos c).toNat) false x) := aUp_eq
  refine ⟨vB_bI, vPut_mk ho1 (by show 2 < 4; decide) ?_⟩
  rw [ro_set rfl, aUp_aUp]
  exact ⟨rfl, rfl⟩
/-- the rest is read -/
theorem ri_loop (hl : l.stackTraces = false) : ∀ (k : Nat) (h : aH) (pos : Nat) (fl : Bool) (as : List Nat) (eo : Option Nat) (cs : List cmT) (c s : Nat), (fl = false → 99 ≤ k + pos) → as.length ≤ pos + 1 → (fl = false → as.length ≤ pos) → pos < 100 → c ≤ 2 * as.length + 2 → s ≤ 204 * as.length + 40 → RDR G h0 h r li pos fl x t as eo cs → (fl = false → pAll t = ((pCont t k pos).1.map (cs ++ ·), (pCont t k pos).2)) → (fl = true → pAll t = (none, pos)) → T_X9_init_24 l G 10 400 40000 (aPR (riR G h0 r x t)) r x h c s := by
  intro k
  induction k with
  | zero =>
    intro h pos fl as eo cs c s hkp has has2 hp hc hs hR hA hB
    have hT := hR.2.2.2.2
    have ho := hR.2.2.1
    have hT0 := hT
    obtain ⟨fs, sb, va, h1, h2, hV, hlen, -⟩ := hT
    obtain ⟨cap, f, mk, o1, -⟩ := hV
    refine A_X9_init_24 hl (vI_mk ho rfl ⟨fun z => ⟨rfl, li, pos, fl, as, eo, cs, hR, by omega, fun y => ?_, hB⟩, fun z => ?_⟩)
    · rw [y] at z; exact absurd rfl z
    · rw [bI_eq0] at z
      subst z
      have hkp := hkp rfl
      obtain ⟨fs', sb', va', h1', h2', hV', -⟩ := hT0
      rw [h1] at h1'
      injection h1' with h1'
      injection h1' with h1'
      injection h1' with _ h1'
      subst h1'
      rw [h2] at h2'
      injection h2' with h2'
      injection h2' with h2'
      subst h2'
      refine vI_mk ho rfl (vR_mk h1 h2 ⟨⟨_, o1⟩, vC_p (B_sblen hl hV') (by decide) (by omega) (by omega) ⟨_, rfl, fun _ => ⟨rfl, li, pos, false, as, eo, cs, hR, by omega, fun _ => ?_, fun y => (by cases y)⟩, fun q => absurd (by rw [i3_le (by omega) (by omega)]; omega) q⟩⟩)
      have hA := hA rfl
      unfold pCont at hA
      rw [if_pos (by omega)] at hA
      rw [hA]; simp
  | succ k ih =>
    intro h pos fl as eo cs c s hkp has has2 hp hc hs hR hA hB
    have hT := hR.2.2.2.2
    have ho := hR.2.2.1
    have hT0 := hT
    obtain ⟨fs, sb, va, h1, h2, hV, hlen, -⟩ := hT
    obtain ⟨cap, f, mk, o1, -⟩ := hV
    refine A_X9_init_24 hl (vI_mk ho rfl ⟨fun z => ⟨rfl, li, pos, fl, as, eo, cs, hR, by omega, fun y => ?_, hB⟩, fun z => ?_⟩)
    · rw [y] at z; exact absurd rfl z
    · rw [bI_eq0] at z
      subst z
      have hA := hA rfl
      have hkp := hkp rfl
      have has2 := has2 rfl
      have hT1 := hT0
      obtain ⟨fs', sb', va', h1', h2', hV', -⟩ := hT0
      rw [h1] at h1'
      injection h1' with h1'
      injection h1' with h1'
      injection h1' with _ h1'
      subst h1'
      rw [h2] at h2'
      injection h2' with h2'
      injection h2' with h2'
      subst h2'
      refine vI_mk ho rfl (vR_mk h1 h2 ⟨⟨_, o1⟩, vC_p (B_sblen hl hV') (by decide) (by omega) (by omega) ⟨_, rfl, fun q => ⟨rfl, li, pos, false, as, eo, cs, hR, by omega, fun _ => ?_, fun y => (by cases y)⟩, fun q => ⟨⟨_, ho⟩, ?_⟩⟩⟩)
      · rw [i3_le (by omega) (by omega)] at q
        unfold pCont at hA
        rw [if_pos q] at hA
        rw [hA]; simp
      · rw [i3_le (by omega) (by omega)] at q
        refine vC_r (B_readSign hl ho hT1 (by omega) (c := 59) (by decide)) (by decide) (by omega) (by omega) fun v h3 hR3 => ?_
        obtain ⟨rfl, rfl⟩ := hR3
        have hR4 := hR.ro (p2 := pos + (isC t pos 59).toNat) (f2 := !isC t pos 59)
        have hb1 : (isC t pos 59).toNat ≤ 1 := by cases isC t pos 59 <;> decide
        refine ⟨rfl, ⟨_, hR4.2.2.1⟩, ?_⟩
        refine vC_r (B_readCommand hl (by omega) (by omega) hR4) (by decide) (by omega) (by omega) fun v h5 hR5 => ?_
        obtain ⟨rfl, a, eo', c', pos', fl', hR6, hP⟩ := hR5
        refine ⟨rfl, ?_⟩
        have hla : (as ++ [a]).length = as.length + 1 := by rw [List.length_append]; rfl
        unfold pCont at hA
        rw [if_neg q] at hA
        cases h59 : isC t pos 59 with
        | false =>
          rw [h59] at hP hA
          rcases hP with ⟨-, y, -⟩ | ⟨rfl, ⟨-, y⟩ | ⟨y, -⟩⟩
          · cases y
          · have y : pos' = pos := y
            subst y
            refine ih h5 pos' true _ eo' _ _ _ (fun w => by cases w) (by omega) (fun w => by cases w) hp (by omega) (by omega) hR6 (fun w => by cases w) (fun _ => hA)
          · cases y
        | true =>
          rw [h59] at hP hA
          have hA : pAll t = ((pAllF t (k + 1) (pos + 1)).1.map (cs ++ ·), (pAllF t (k + 1) (pos + 1)).2) := hA
          rcases hP with ⟨rfl, -, hC⟩ | ⟨rfl, ⟨y, -⟩ | ⟨-, hC⟩⟩
          · have hC : pCmd t (pos + 1) = (some c', pos') := hC
            obtain ⟨g1, g2, g3⟩ := pCmd_le hC
            have g3 := g3 (by simp)
            by_cases w : pos' < 100
            · refine ih h5 pos' false _ eo' _ _ _ (fun _ => by omega) (by omega) (fun _ => by omega) w (by omega) (by omega) hR6 (fun _ => ?_) (fun w => by cases w)
              rw [hA, pAllF_c hC, map_cons_app]
            · omega
          · cases y
          · have hC : pCmd t (pos + 1) = (none, pos') := hC
            obtain ⟨g1, g2, -⟩ := pCmd_le hC
            refine ih h5 pos' true _ eo' _ _ _ (fun w => by cases w) (by omega) (fun w => by cases w) (by omega) (by omega) (by omega) hR6 (fun w => by cases w) (fun _ => ?_)
            rw [hA, pAllF_n hC]; rfl
theorem B_init9 (hl : l.stackTraces = false) (hr : h0 r = none) (hT : TX h0 x t) : aC l G mX9_init (wsN mX9_init) 10 400 40000 [.ref r, .ref x] (aUp h0 r (aObj 8 [.null, .int 0, .int 0, .null])) (aPR (riR G h0 r x t)) := by
  have k0 : ∀ e, kp (fun _ => False) h0 (aUp h0 r e) := fun e => kp.new hr
  refine A_X9_init hl (vPut_mk aUp_eq (by show 3 < 4; decide) ⟨by decide, by decide, by decide, fun li hli hli2 => ?_⟩)
  rw [aUp_aUp] at hli2 ⊢
  have hlr : li ≠ r := fun e => by rw [e, aUp_eq] at hli2; cases hli2
  have hl0 : h0 li = none := by rw [aUp_ne hlr] at hli2; exact hli2
  refine vC_r (B_linit hl aUp_eq) (by decide) (by decide) (by decide) fun v h1 hR => ?_
  obtain ⟨hv, k1, hL⟩ := hR
  have ho1 : h1 r = some (aObj 8 [.null, .int 0, .int 0, .ref x]) := k1 _ _ (by rw [aUp_ne (Ne.symm hlr), aUp_eq]; rfl) (Ne.symm hlr)
  refine ⟨hv, vPut_mk ho1 (by show 0 < 4; decide) ?_⟩
  have e1 : aUp h1 r (.inr (8, [Value.null, .int 0, .int 0, .ref x].set 0 (.ref li))) = aUp h1 r (RO li 0 false x) := rfl
  rw [e1]
  have kk : kp (fun _ => False) h0 (aUp h1 r (RO li 0 false x)) := by
    refine kp_fresh (fun q e hq _ => ?_) hr
    have hqr : q ≠ r := fun z => by rw [z, hr] at hq; cases hq
    have hql : q ≠ li := fun z => by rw [z, hl0] at hq; cases hq
    exact k1 q e (by rw [aUp_ne hql, aUp_ne hqr]; exact hq) hql
  have hR2 : RDR G h0 (aUp h1 r (RO li 0 false x)) r li 0 false x t [] none [] := by
    refine ⟨kk, ⟨hr, hl0, (fun e he => by cases he), fun y hy => by cases hy⟩, aUp_eq, ⟨hL.kp (S := (· = r)) (kp.up rfl) hlr (fun e he => by cases he) (fun y hy => by cases hy), rfl, fun i hi => absurd hi (Nat.not_lt_zero _)⟩, ?_⟩
    obtain ⟨fs, sb, va, h1', h2', hV, h3, h4⟩ := hT
    have hV0 := hV
    exact ⟨fs, sb, va, kk _ _ h1' id, h2', hV0.kp kk id id, h3, h4⟩
  refine ⟨⟨_, hR2.2.2.1⟩, ?_⟩
  refine vC_r (B_readCommand hl (by decide) (by decide) hR2) (by decide) (by decide) (by decide) fun v2 h5 hR5 => ?_
  obtain ⟨rfl, a, eo', c', pos', fl', hR6, hP⟩ := hR5
  refine ⟨rfl, ?_⟩
  rcases hP with ⟨rfl, -, hC⟩ | ⟨rfl, ⟨y, -⟩ | ⟨-, hC⟩⟩
  · obtain ⟨g1, g2, g3⟩ := pCmd_le hC
    have g3 := g3 (by simp)
    refine ri_loop hl 99 h5 pos' false _ eo' _ _ _ (fun _ => by omega) (by show 1 ≤ pos' + 1; omega) (fun _ => by show 1 ≤ pos'; omega) (by omega) (by show 0 + 1 + 0 + 2 ≤ 2 * 1 + 2; decide) (by show 0 + 3 + 0 + 204 ≤ 204 * 1 + 40; decide) hR6 (fun _ => ?_) (fun w => by cases w)
    show pAllF t (99 + 1) 0 = _
    rw [pAllF_c hC]
    cases (pCont t 99 pos').1 <;> rfl
  · cases y
  · obtain ⟨g1, g2, -⟩ := pCmd_le hC
    refine ri_loop hl 99 h5 pos' true _ eo' _ _ _ (fun w => by cases w) (by show 1 ≤ pos' + 1; omega) (fun w => by cases w) (by omega) (by show 0 + 1 + 0 + 2 ≤ 2 * 1 + 2; decide) (by show 0 + 3 + 0 + 204 ≤ 204 * 1 + 40; decide) hR6 (fun w => by cases w) (fun _ => ?_)
    exact pAllF_n hC
end TXE
section TXF
variable {Z : zT} {l : Launch} {G : aG} {h : aH} {x : Nat} {S : ST}
theorem WS.tx (hW : WS Z G h x S) : TX h x S.2.2.2 := by
  obtain ⟨I, tg, li, sl, sb, A, hM, hH, hL, hT⟩ := hW
  obtain ⟨-, va, -, hV, hl, hc⟩ := hT
  exact ⟨_, sb, va, hM.obj, rfl, hV, hl, hc⟩
theorem B_textError (hl : l.stackTraces = false) (hW : WS Z G h x S) : aC l G mX1_textError (wsN mX1_textError) 50 2000 150000 [.ref x] h (opP Z G x (errF S, S)) := by
  refine A_X1_textError hl ⟨by decide, by decide, fun r hr _ => ?_⟩
  refine vC_r (B_init9 hl hr hW.tx) (by decide) (by decide) (by decide) fun v h1 hR => ?_
  obtain ⟨rfl, li, pos, fl, as, eo, cs, hR, hp, hA, hB⟩ := hR
  have hW1 := hW.grow hR.1
  have ho := hR.2.2.1
  refine ⟨rfl, vI_mk ho rfl ⟨fun q => ⟨?_, hW1⟩, fun q => vI_mk ho rfl ⟨?_, hW1⟩⟩⟩
  · rw [bI_eq0] at q
    unfold errF
    rw [hA q]
  · rw [bI_eq0] at q
    unfold errF
    rw [hB (by simpa using q)]
end TXF
