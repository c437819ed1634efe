/-! commands read out of a text
-/
set_option maxRecDepth 100000
/-- a command: its sign, number, thing, whether it is seen second -/
abbrev cmT : Type := Nat × Nat × Nat × Nat
def digB (t : List Nat) (q : Nat) : Bool := decide (48 ≤ t.getD q 0 ∧ t.getD q 0 ≤ 57)
def isC (t : List Nat) (q c : Nat) : Bool := t.getD q 0 == c
def pNum (t : List Nat) (q : Nat) : Option Nat × Nat := if digB t q then (if 0 < t.getD q 0 - 48 ∧ digB t (q + 1) = true then (some (10 * (t.getD q 0 - 48) + (t.getD (q + 1) 0 - 48)), q + 2) else (some (t.getD q 0 - 48), q + 1)) else (none, q)
def pLet (t : List Nat) (q : Nat) : Option Nat × Nat := if 65 ≤ t.getD q 0 ∧ t.getD q 0 ≤ 68 then (some (t.getD q 0 - 65), q + 1) else (none, q)
def pThing (t : List Nat) (q : Nat) : Option Nat × Nat := if isC t q 46 then (some 5, q + 1) else pLet t q
def mkC (c k f : Nat) (r : Option Nat × Nat) : Option cmT × Nat := (r.1.map fun v => (c, k, v, f), r.2)
def pArg (t : List Nat) (k q : Nat) : Option cmT × Nat :=
  if isC t q 61 then mkC 61 k (isC t (q + 1) 39).toNat (pLet t (q + 1 + (isC t (q + 1) 39).toNat))
  else if isC t q 58 then mkC 58 k 0 (pThing t (q + 1))
  else if isC t q 33 then mkC 33 k 0 (pThing t (q + 1))
  else if isC t q 42 then (some (42, k, 0, 0), q + 1)
  else (none, q)
def pCmd (t : List Nat) (q : Nat) : Option cmT × Nat := match pNum t q with
  | (none, r) => (none, r)
  | (some k, r) => pArg t k r
/-- the reader's object -/
def RO (li pos : Nat) (fl : Bool) (x : Nat) : aE := aObj 8 [.ref li, .int (i3 pos), .int (bI fl), .ref x]
def TX (h : aH) (x : Nat) (t : List Nat) : Prop := ∃ (fs : List Value) (sb va : Nat), h x = some (.inr (1, fs)) ∧ fs[7]? = some (.ref sb) ∧ SBV h sb va t ∧ t.length ≤ 80 ∧ ∀ c ∈ t, 33 ≤ c ∧ c ≤ 126
theorem getD_dec {t : List Nat} (ht : ∀ c ∈ t, 33 ≤ c ∧ c ≤ 126) (q : Nat) : t.getD q 0 < 128 := by
  by_cases h : q < t.length
  · have := ht _ (getD_mem (d := 0) h); omega
  · rw [List.getD_eq_getElem?_getD, List.getElem?_eq_none (by omega)]; decide
theorem getD_in {t : List Nat} {q : Nat} (h : t.getD q 0 ≠ 0) : q < t.length := by
  rcases Nat.lt_or_ge q t.length with y | y
  · exact y
  · rw [List.getD_eq_getElem?_getD, List.getElem?_eq_none (by omega)] at h; exact absurd rfl h
theorem inI_i3 {c a b : Nat} (hc : c < 2147483648) (ha : a < 2147483648) (hb : b < 2147483648) : inI (i3 c) (i3 a) (i3 b) = decide (a ≤ c ∧ c ≤ b) := by
  unfold inI
  simp only [i3_lt hc ha, i3_lt hb hc]
  by_cases q : c < a
  · rw [if_pos q, decide_eq_false (by omega)]
  · rw [if_neg q]
    by_cases q2 : b < c
    · rw [if_pos q2, decide_eq_false (by omega)]
    · rw [if_neg q2, decide_eq_true (by omega)]
def idxV (c : Nat) : Int32 := if c = 61 then 0 else if c = 42 then 1 else if c = 58 then 2 else if c = 33 then 3 else -1
theorem b8 : ∀ c : Fin 128, (i3 c.1).toInt8.toInt32 = i3 c.1 := by decide +kernel
theorem canE : ∀ c : Fin 128, (if i3 c.1 < 0 then (0 : Int32) else if 255 < i3 c.1 then (0 : Int32) else 1) = 1 := by decide +kernel
section IXO
variable {Z : zT} {l : Launch} {G : aG} {h : aH}
theorem B_indexOf (hl : l.stackTraces = false) {c : Nat} (hc : c < 128) : aC l G mJ9_indexOf (wsN mJ9_indexOf) 3 0 0 [.ref G.2.1.2.1, .int (i3 c)] h (aP1 (some (.int (idxV c))) h) := by
  have hch : aC l G mJ20_indexOfChar (wsN mJ20_indexOfChar) 0 0 0 [.ref G.2.1.2.2.1, .int (i3 c), .int 0, .int 4] h (aP1 (some (.int (idxV c))) h) := by
    refine A_J20_indexOfChar hl ?_
    show T_J20_indexOfChar_7 l G 0 0 0 _ 4 (i3 c).toInt8.toInt32 0 h 0 0
    have e1 := b8 ⟨c, hc⟩
    simp only at e1
    rw [e1]
    have t : ∀ k j : Nat, k + j = 4 → (∀ i, i < j → aLit i ≠ i3 c) → T_J20_indexOfChar_7 l G 0 0 0 (aP1 (some (.int (idxV c))) h) 4 (i3 c) (i3 j) h 0 0 := by
      intro k
      have hL : ∀ i, i < 4 → aLit i ≠ i3 c → c ≠ [61, 42, 58, 33].getD i 0 := by
        intro i hi hne e
        apply hne
        rw [e]
        have : ∀ i : Fin 4, aLit i.1 = i3 ([61, 42, 58, 33].getD i.1 0) := by decide +kernel
        exact this ⟨i, hi⟩
      induction k with
      | zero =>
        intro j hj hno
        have : j = 4 := by omega
        subst this
        refine A_J20_indexOfChar_7 hl ⟨fun _ => ⟨?_, rfl⟩, fun q => absurd (by decide) q⟩
        have h0 : c ≠ 61 := hL 0 (by decide) (hno 0 (by decide))
        have h1 : c ≠ 42 := hL 1 (by decide) (hno 1 (by decide))
        have h2 : c ≠ 58 := hL 2 (by decide) (hno 2 (by decide))
        have h3 : c ≠ 33 := hL 3 (by decide) (hno 3 (by decide))
        unfold idxV
        rw [if_neg h0, if_neg h1, if_neg h2, if_neg h3]
      | succ k ih =>
        intro j hj hno
        have e4 : ((4 : Int32) ≤ i3 j) = (4 ≤ j) := i3_le (a := 4) (by decide) (by omega)
        refine A_J20_indexOfChar_7 hl ⟨fun q => absurd (by rwa [e4] at q) (by omega : ¬ 4 ≤ j), fun _ => ⟨i3_in (by omega) (by omega), ?_⟩⟩
        rw [i3_nat (by omega), i3_succ]
        refine ⟨fun q => ih (j + 1) (by omega) (fun i hi => ?_), fun q => ⟨?_, rfl⟩⟩
        · by_cases z : i = j
          · subst z; exact q
          · exact hno i (by omega)
        · have hj4 : j = 0 ∨ j = 1 ∨ j = 2 ∨ j = 3 := by omega
          have hcj : c = [61, 42, 58, 33].getD j 0 := by
            have : ∀ i : Fin 4, ∀ c : Fin 128, aLit i.1 = i3 c.1 → c.1 = [61, 42, 58, 33].getD i.1 0 := by decide +kernel
            exact this ⟨j, by omega⟩ ⟨c, hc⟩ q
          rcases hj4 with rfl | rfl | rfl | rfl <;> rw [hcj] <;> rfl
    exact t 4 0 rfl (fun i hi => absurd hi (Nat.not_lt_zero _))
  have hix : aC l G mJ20_indexOf (wsN mJ20_indexOf) 1 0 0 [.ref G.2.1.2.2.1, .int (i3 c), .int 0, .int 4] h (aP1 (some (.int (idxV c))) h) := by
    have hcan : aC l G mJ20_canEncode (wsN mJ20_canEncode) 0 0 0 [.int (i3 c)] h (aP1 (some (.int 1)) h) := by
      refine A_J20_canEncode hl ?_
      unfold V_J20_canEncode_0
      have e := canE ⟨c, hc⟩
      simp only at e
      rw [e]
      exact ⟨vB_bI (b := true), rfl, rfl⟩
    refine A_J20_indexOf hl (vC_p hcan (by decide) (by decide) (by decide) ⟨_, rfl, fun _ => ?_, fun q => absurd q (by decide)⟩)
    refine vC_p (B_max hl (a := 0) (b := 0) (by decide) (by decide)) (by decide) (by decide) (by decide) ⟨_, rfl, ?_⟩
    refine vC_p (B_min hl (a := 4) (b := 4) (by decide) (by decide)) (by decide) (by decide) (by decide) ⟨_, rfl, fun _ => ?_, fun q => absurd (by decide) q⟩
    exact vC_p hch (by decide) (by decide) (by decide) ⟨_, rfl, rfl, rfl⟩
  have h2 : aC l G mJ9_indexOf_2 (wsN mJ9_indexOf_2) 2 0 0 [.ref G.2.1.2.1, .int (i3 c), .int 0] h (aP1 (some (.int (idxV c))) h) := by
    have hlat : aC l G mJ9_isLatin1 (wsN mJ9_isLatin1) 0 0 0 [.ref G.2.1.2.1] h (aP1 (some (.int 1)) h) := A_J9_isLatin1 hl ⟨rfl, rfl⟩
    have hcod : aC l G mJ9_coder (wsN mJ9_coder) 0 0 0 [.ref G.2.1.2.1] h (aP1 (some (.int 0)) h) := A_J9_coder hl ⟨rfl, rfl⟩
    have hlen : aC l G mJ9_length (wsN mJ9_length) 1 0 0 [.ref G.2.1.2.1] h (aP1 (some (.int 4)) h) := A_J9_length hl (vC_p hcod (by decide) (by decide) (by decide) ⟨_, rfl, rfl, rfl⟩)
    refine A_J9_indexOf_2 hl (vC_p hlat (by decide) (by decide) (by decide) ⟨_, rfl, fun q => absurd q (by decide), fun _ => ?_⟩)
    refine vC_p hlen (by decide) (by decide) (by decide) ⟨_, rfl, ?_⟩
    exact vC_p hix (by decide) (by decide) (by decide) ⟨_, rfl, rfl, rfl⟩
  exact A_J9_indexOf hl (vC_p h2 (by decide) (by decide) (by decide) ⟨_, rfl, rfl, rfl⟩)
end IXO
section RDS
variable {Z : zT} {l : Launch} {G : aG} {h : aH} {r li pos x : Nat} {fl : Bool} {t : List Nat}
theorem TX_kp {S : Nat → Prop} {h' : aH} (hT : TX h x t) (hk : kp S h h') (hS : ∀ q, S q → (∃ fs, h q = some (.inr (8, fs))) ∨ (∃ fs, h q = some (.inr (9, fs))) ∨ ∃ n f, h q = some (aRefs (.object "java/lang/Object") n f)) : TX h' x t := by
  obtain ⟨fs, sb, va, h1, h2, hV, h3, h4⟩ := hT
  have hV0 := hV
  obtain ⟨cap, f, mk, o1, o2, -⟩ := hV
  refine ⟨fs, sb, va, hk _ _ h1 (fun z => ?_), h2, hV0.kp hk (fun z => ?_) (fun z => ?_), h3, h4⟩
  · rcases hS _ z with ⟨_, w⟩ | ⟨_, w⟩ | ⟨_, _, w⟩ <;> rw [h1] at w <;> cases w
  · rcases hS _ z with ⟨_, w⟩ | ⟨_, w⟩ | ⟨_, _, w⟩ <;> rw [o1] at w <;> cases w
  · rcases hS _ z with ⟨_, w⟩ | ⟨_, w⟩ | ⟨_, _, w⟩ <;> rw [o2] at w <;> cases w
theorem TX.small (hT : TX h x t) (q : Nat) : t.getD q 0 < 128 := by
  obtain ⟨fs, sb, va, h1, h2, hV, h3, h4⟩ := hT
  exact getD_dec h4 q
theorem B_next9 (hl : l.stackTraces = false) (ho : h r = some (RO li pos fl x)) (hT : TX h x t) (hp : pos < 1000) : aC l G mX9_next (wsN mX9_next) 5 0 0 [.ref r] h (aP1 (some (.int (i3 (t.getD pos 0)))) h) := by
  have hsm := hT.small pos
  obtain ⟨fs, sb, va, h1, h2, hV, h3, h4⟩ := hT
  have hV0 := hV
  obtain ⟨cap, f, mk, o1, o2, -⟩ := hV
  refine A_X9_next hl (vI_mk ho rfl (vR_mk ho rfl (vR_mk h1 h2 ⟨⟨_, o1⟩, vC_p (B_sblen hl hV0) (by decide) (by decide) (by decide) ⟨_, rfl, fun q => ?_, fun q => ?_⟩⟩)))
  · rw [i3_le (by omega) (by omega)] at q
    refine ⟨?_, rfl⟩
    rw [List.getD_eq_getElem?_getD, List.getElem?_eq_none (by omega)]; rfl
  · rw [i3_le (by omega) (by omega)] at q
    refine vR_mk ho rfl (vR_mk h1 h2 (vI_mk ho rfl ⟨⟨_, o1⟩, vC_p (B_charAt hl hV0 (k := pos) (by omega) rfl hsm) (by decide) (by decide) (by decide) ⟨_, rfl, ?_, rfl, rfl⟩⟩))
    rw [charW, charV ⟨_, hsm⟩]
theorem B_seesDigit (hl : l.stackTraces = false) (ho : h r = some (RO li pos false x)) (hT : TX h x t) (hp : pos < 1000) : aC l G mX9_seesDigit (wsN mX9_seesDigit) 6 0 0 [.ref r] h (aP1 (some (.int (bI (digB t pos)))) h) := by
  have hsm := hT.small pos
  refine A_X9_seesDigit hl (vI_mk ho rfl ⟨fun q => absurd rfl q, fun _ => ⟨⟨_, ho⟩, vC_p (B_next9 hl ho hT hp) (by decide) (by decide) (by decide) ⟨_, rfl, vC_p (B_isInG hl) (by decide) (by decide) (by decide) ⟨_, rfl, ?_⟩⟩⟩⟩)
  have e : inI (i3 (t.getD pos 0)) 48 57 = digB t pos := inI_i3 (a := 48) (b := 57) (by omega) (by decide) (by decide)
  have e2 : (if bI (digB t pos) = 0 then (0 : Int32) else 1) = bI (digB t pos) := by cases digB t pos <;> rfl
  show vB (if bI (inI (i3 (t.getD pos 0)) 48 57) = 0 then (0 : Int32) else 1) ∧ aP1 _ h (.inl (some (.int (if bI (inI (i3 (t.getD pos 0)) 48 57) = 0 then (0 : Int32) else 1)))) h
  rw [e, e2]
  exact ⟨vB_bI, rfl, rfl⟩
theorem digB_in {q : Nat} (h : digB t q = true) : q < t.length ∧ 48 ≤ t.getD q 0 ∧ t.getD q 0 ≤ 57 := by
  have := of_decide_eq_true h
  exact ⟨getD_in (by omega), this⟩
theorem ro_set {h : aH} {z : Int32} {b : Bool} (hz : z = bI b) : aUp h r (.inr (8, [Value.ref li, .int (i3 pos), .int (bI fl), .ref x].set 2 (.int z))) = aUp h r (RO li pos b x) := by subst hz; rfl
theorem ro_pos {h : aH} {p2 : Nat} {z : Int32} (hz : z = i3 p2) : aUp h r (.inr (8, [Value.ref li, .int (i3 pos), .int (bI fl), .ref x].set 1 (.int z))) = aUp h r (RO li p2 fl x) := by subst hz; rfl
theorem aUp_aUp {h : aH} {a : Nat} {e e' : aE} : aUp (aUp h a e) a e' = aUp h a e' := by
  funext q
  by_cases z : q = a
  · subst z; rw [aUp_eq, aUp_eq]
  · rw [aUp_ne z, aUp_ne z, aUp_ne z]
theorem TX_ro {e : aE} (hT : TX h x t) (ho : h r = some (RO li pos fl x)) : TX (aUp h r e) x t := TX_kp hT (kp.up (S := (· = r)) rfl) (fun q z => by subst z; exact Or.inl ⟨_, ho⟩)
/-- a character that is there -/
theorem vC_char (hl : l.stackTraces = false) (hT : TX h x t) {k : Nat} (hk : k < t.length) {fs : List Value} {sb : Nat} (h1 : h x = some (.inr (1, fs))) (h2 : fs[7]? = some (.ref sb)) : (∃ fs, h sb = some (.inr (10, fs))) ∧ aC l G mJ8_charAt (wsN mJ8_charAt) 4 0 0 [.ref sb, .int (i3 k)] h (aP1 (some (.int (i3 (t.getD k 0)))) h) := by
  have hsm := hT.small k
  obtain ⟨fs', sb', va, h1', h2', hV, h3, h4⟩ := hT
  rw [h1'] at h1
  injection h1 with h1
  injection h1 with h1
  injection h1 with _ h1
  subst h1
  rw [h2'] at h2
  injection h2 with h2
  injection h2 with h2
  subst h2
  refine ⟨?_, B_charAt hl hV hk rfl hsm⟩
  obtain ⟨cap, f, mk, o1, o2, -⟩ := hV
  exact ⟨_, o1⟩
def rdR (h : aH) (r li x : Nat) (o : Option Nat × Nat) (dv : Nat) : Option Value → aH → Prop := fun v h' => v = some (.int (i3 (o.1.getD dv))) ∧ h' = aUp h r (RO li o.2 o.1.isNone x)
theorem B_readDigit (hl : l.stackTraces = false) (ho : h r = some (RO li pos false x)) (hT : TX h x t) (hp : pos < 1000) : aC l G mX9_readDigit (wsN mX9_readDigit) 7 0 0 [.ref r] h (aPR (rdR h r li x (if digB t pos then (some (t.getD pos 0 - 48), pos + 1) else (none, pos)) 0)) := by
  refine A_X9_readDigit hl ⟨⟨_, ho⟩, vC_p (B_seesDigit hl ho hT hp) (by decide) (by decide) (by decide) ⟨_, rfl, ?_⟩⟩
  have e1 : (if bI (digB t pos) = 0 then (1 : Int32) else 0) = bI (!digB t pos) := by cases digB t pos <;> rfl
  simp only [e1]
  refine ⟨vB_bI, vPut_mk ho (by show 2 < 4; decide) ?_⟩
  rw [ro_set rfl]
  have ho2 : (aUp h r (RO li pos (!digB t pos) x)) r = some (RO li pos (!digB t pos) x) := aUp_eq
  refine vI_mk ho2 rfl ?_
  simp only [bI_eq0]
  refine ⟨fun q => vI_mk ho2 rfl (vPut_mk ho2 (by show 1 < 4; decide) ?_), fun q => ?_⟩
  · have q' : digB t pos = true := by simpa using q
    obtain ⟨q1, q2, q3⟩ := digB_in q'
    rw [ro_pos (i3_succ pos), aUp_aUp, q']
    have ho3 : (aUp h r (RO li (pos + 1) (!true) x)) r = some (RO li (pos + 1) (!true) x) := aUp_eq
    have hT3 : TX (aUp h r (RO li (pos + 1) (!true) x)) x t := TX_ro hT ho
    have hT30 := hT3
    obtain ⟨fs, sb, va, h1, h2, -⟩ := hT3
    obtain ⟨c1, c2⟩ := vC_char hl hT30 (k := pos) (G := G) q1 h1 h2
    refine vR_mk ho3 rfl (vR_mk h1 h2 (vI_mk ho3 rfl ⟨c1, ?_⟩))
    rw [i3_pred (by omega)]
    refine vC_p c2 (by decide) (by decide) (by decide) ⟨_, rfl, ?_⟩
    rw [if_pos rfl]
    refine ⟨?_, rfl⟩
    have e48 : i3 (t.getD pos 0) - 48 = i3 (t.getD pos 0 - 48) := i3_sub (b := 48) q2
    rw [e48]; rfl
  · have q' : digB t pos = false := by simpa using q
    rw [q', if_neg (by decide)]
    exact ⟨rfl, rfl⟩
theorem B_readNumber (hl : l.stackTraces = false) (ho : h r = some (RO li pos false x)) (hT : TX h x t) (hp : pos < 900) : aC l G mX9_readNumber (wsN mX9_readNumber) 8 0 0 [.ref r] h (aPR (rdR h r li x (pNum t pos) 0)) := by
  have hsm := hT.small pos
  have hsm1 := hT.small (pos + 1)
  refine A_X9_readNumber hl ⟨⟨_, ho⟩, vC_r (B_readDigit hl ho hT (by omega)) (by decide) (by decide) (by decide) fun v h1 hR => ?_⟩
  obtain ⟨rfl, rfl⟩ := hR
  refine ⟨_, rfl, ?_⟩
  by_cases q : digB t pos = true
  · rw [if_pos q]
    obtain ⟨q1, q2, q3⟩ := digB_in q
    have ho1 : (aUp h r (RO li (pos + 1) false x)) r = some (RO li (pos + 1) false x) := aUp_eq
    have hT1 : TX (aUp h r (RO li (pos + 1) false x)) x t := TX_ro hT ho
    show (i3 (t.getD pos 0 - 48) ≤ 0 → aPR (rdR h r li x (pNum t pos) 0) (.inl (some (.int (i3 (t.getD pos 0 - 48))))) (aUp h r (RO li (pos + 1) false x))) ∧ (¬ i3 (t.getD pos 0 - 48) ≤ 0 → _)
    rw [i3_neg_le (by omega)]
    refine ⟨fun z => ?_, fun z => ⟨⟨_, ho1⟩, vC_p (B_seesDigit hl ho1 hT1 (by omega)) (by decide) (by decide) (by decide) ⟨_, rfl, fun z2 => ?_, fun z2 => ⟨⟨_, ho1⟩, ?_⟩⟩⟩⟩
    · unfold pNum
      rw [if_pos q, if_neg (by omega)]
      exact ⟨rfl, rfl⟩
    · rw [bI_eq0] at z2
      unfold pNum
      rw [if_pos q, if_neg (by rw [z2]; simp)]
      exact ⟨rfl, rfl⟩
    · rw [bI_eq0] at z2
      have z3 : digB t (pos + 1) = true := by cases y : digB t (pos + 1) with
        | true => rfl
        | false => exact absurd y z2
      refine vC_r (B_readDigit hl ho1 hT1 (by omega)) (by decide) (by decide) (by decide) fun v h2 hR2 => ?_
      rw [if_pos z3] at hR2
      obtain ⟨rfl, rfl⟩ := hR2
      refine ⟨_, rfl, ?_⟩
      unfold pNum
      rw [if_pos q, if_pos ⟨by omega, z3⟩]
      refine ⟨?_, aUp_aUp⟩
      show some (Value.int ((10 : Int32) * i3 (t.getD pos 0 - 48) + i3 (t.getD (pos + 1) 0 - 48))) = some (.int (i3 (10 * (t.getD pos 0 - 48) + (t.getD (pos + 1) 0 - 48))))
      have e10 : (10 : Int32) * i3 (t.getD pos 0 - 48) = i3 (10 * (t.getD pos 0 - 48)) := i3_mul 10 _
      rw [e10, i3_add]
  · rw [if_neg q]
    refine ⟨fun _ => ?_, fun z => absurd (by show (0 : Int32) ≤ 0; decide) z⟩
    unfold pNum
    rw [if_neg q]
    exact ⟨rfl, rfl⟩
theorem B_skips (hl : l.stackTraces = false) (ho : h r = some (RO li pos false x)) (hT : TX h x t) (hp : pos < 1000) {c : Nat} (hc : c < 128) : aC l G mX9_skips (wsN mX9_skips) 6 0 0 [.ref r, .int (i3 c)] h (aPR fun v h' => v = some (.int (bI (isC t pos c))) ∧ h' = aUp h r (RO li (pos + (isC t pos c).toNat) false x)) := by
  have hsm := hT.small pos
  refine A_X9_skips hl (vI_mk ho rfl ⟨fun q => absurd rfl q, fun _ => ⟨⟨_, ho⟩, vC_p (B_next9 hl ho hT hp) (by decide) (by decide) (by decide) ⟨_, rfl, vI_mk ho rfl (vPut_mk ho (by show 1 < 4; decide) ?_)⟩⟩⟩)
  have e1 : (if i3 (t.getD pos 0) = i3 c then (1 : Int32) else 0) = bI (isC t pos c) := by
    rw [bI_if]
    congr 1
    rw [Bool.eq_iff_iff, decide_eq_true_iff, i3_eq (by omega) (by omega)]
    unfold isC
    simp
  have e2 : (if bI (isC t pos c) = 0 then (0 : Int32) else 1) = i3 (isC t pos c).toNat := by cases isC t pos c <;> rfl
  rw [e1, e2, ro_pos (i3_add pos _)]
  exact ⟨vB_bI, rfl, rfl⟩
theorem B_readLetter (hl : l.stackTraces = false) (ho : h r = some (RO li pos false x)) (hT : TX h x t) (hp : pos < 1000) : aC l G mX9_readLetter (wsN mX9_readLetter) 6 0 0 [.ref r] h (aPR (rdR h r li x (pLet t pos) 0)) := by
  have hsm := hT.small pos
  refine A_X9_readLetter hl (vI_mk ho rfl ⟨fun q => absurd rfl q, fun _ => ⟨⟨_, ho⟩, vC_p (B_next9 hl ho hT hp) (by decide) (by decide) (by decide) ⟨_, rfl, vC_p (B_isInG hl) (by decide) (by decide) (by decide) ⟨_, rfl, ?_⟩⟩⟩⟩)
  have e : inI (i3 (t.getD pos 0)) 65 68 = decide (65 ≤ t.getD pos 0 ∧ t.getD pos 0 ≤ 68) := inI_i3 (a := 65) (b := 68) (by omega) (by decide) (by decide)
  have e2 : ∀ b : Bool, (if bI b = 0 then (1 : Int32) else 0) = bI (!b) := fun b => by cases b <;> rfl
  show T_X9_readLetter_27 l G 6 0 0 (aPR (rdR h r li x (pLet t pos) 0)) r (if bI (inI (i3 (t.getD pos 0)) 65 68) = 0 then (1 : Int32) else 0) r h 0 0
  rw [e, e2]
  refine A_X9_readLetter_27 hl ⟨vB_bI, vPut_mk ho (by show 2 < 4; decide) ?_⟩
  rw [ro_set rfl]
  by_cases q : 65 ≤ t.getD pos 0 ∧ t.getD pos 0 ≤ 68
  · rw [decide_eq_true q]
    have q1 : pos < t.length := getD_in (by omega)
    have ho2 : (aUp h r (RO li pos (!true) x)) r = some (RO li pos (!true) x) := aUp_eq
    refine vI_mk ho2 rfl ⟨fun _ => vI_mk ho2 rfl (vPut_mk ho2 (by show 1 < 4; decide) ?_), fun z => absurd rfl z⟩
    rw [ro_pos (i3_succ pos), aUp_aUp]
    have ho3 : (aUp h r (RO li (pos + 1) (!true) x)) r = some (RO li (pos + 1) (!true) x) := aUp_eq
    have hT3 : TX (aUp h r (RO li (pos + 1) (!true) x)) x t := TX_ro hT ho
    have hT30 := hT3
    obtain ⟨fs, sb, va, h1, h2, -⟩ := hT3
    obtain ⟨c1, c2⟩ := vC_char hl hT30 (k := pos) (G := G) q1 h1 h2
    refine vR_mk ho3 rfl (vR_mk h1 h2 (vI_mk ho3 rfl ⟨c1, ?_⟩))
    rw [i3_pred (by omega)]
    refine vC_p c2 (by decide) (by decide) (by decide) ⟨_, rfl, ?_⟩
    unfold pLet
    rw [if_pos q]
    refine ⟨?_, rfl⟩
    have e65 : i3 (t.getD pos 0) - 65 = i3 (t.getD pos 0 - 65) := i3_sub (b := 65) q.1
    show some (Value.int (i3 (t.getD pos 0) - 65)) = _
    rw [e65]; rfl
  · rw [decide_eq_false q]
    have ho2 : (aUp h r (RO li pos (!false) x)) r = some (RO li pos (!false) x) := aUp_eq
    refine vI_mk ho2 rfl ⟨fun z => absurd z (by decide), fun _ => ?_⟩
    unfold pLet
    rw [if_neg q]
    exact ⟨rfl, rfl⟩
theorem B_readThing (hl : l.stackTraces = false) (ho : h r = some (RO li pos false x)) (hT : TX h x t) (hp : pos < 1000) : aC l G mX9_readThing (wsN mX9_readThing) 7 0 0 [.ref r] h (aPR (rdR h r li x (pThing t pos) 0)) := by
  refine A_X9_readThing hl ⟨⟨_, ho⟩, vC_r (B_skips hl ho hT hp (c := 46) (by decide)) (by decide) (by decide) (by decide) fun v h1 hR => ?_⟩
  obtain ⟨rfl, rfl⟩ := hR
  refine ⟨_, rfl, ?_⟩
  simp only [bI_eq0]
  cases q : isC t pos 46 with
  | true =>
    refine ⟨fun z => (by cases z), fun _ => ?_⟩
    unfold pThing
    rw [q]
    exact ⟨rfl, rfl⟩
  | false =>
    have ho1 : (aUp h r (RO li (pos + false.toNat) false x)) r = some (RO li pos false x) := aUp_eq
    refine ⟨fun _ => ⟨⟨_, ho1⟩, vC_r (B_readLetter hl ho1 (TX_ro hT ho) hp) (by decide) (by decide) (by decide) fun v h2 hR2 => ?_⟩, fun z => absurd rfl z⟩
    obtain ⟨rfl, rfl⟩ := hR2
    refine ⟨_, rfl, ?_⟩
    unfold pThing
    rw [q]
    exact ⟨rfl, aUp_aUp⟩
end RDS
