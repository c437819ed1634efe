/-! commands read: all of a text
-/
set_option maxRecDepth 100000
def enc (g : Nat → Int32) (c : cmT) : Prop := g 0 = i3 c.1 ∧ g 1 = i3 c.2.1 ∧ g 2 = i3 c.2.2.1 ∧ g 3 = i3 c.2.2.2
/-- the list of commands -/
def RL (G : aG) (h : aH) (li : Nat) (as : List Nat) (eo : Option Nat) (cs : List cmT) : Prop := LST G h li as eo ∧ as.length = cs.length ∧ ∀ i, i < as.length → ∃ g, h (as.getD i 0) = some (aInts .int 4 g) ∧ enc g (cs.getD i (0, 0, 0, 0))
/-- the reader over an older heap: all of it is new -/
def RDR (G : aG) (h0 h : aH) (r li pos : Nat) (fl : Bool) (x : Nat) (t : List Nat) (as : List Nat) (eo : Option Nat) (cs : List cmT) : Prop := kp (fun _ => False) h0 h ∧ (h0 r = none ∧ h0 li = none ∧ (∀ e, eo = some e → h0 e = none) ∧ ∀ y ∈ as, h0 y = none) ∧ h r = some (RO li pos fl x) ∧ RL G h li as eo cs ∧ TX h x t
/-- what a command's reading leads to -/
def rcP (t : List Nat) (pos : Nat) (fl : Bool) (c : cmT) (pos' : Nat) (fl' : Bool) : Prop := (fl' = false ∧ fl = false ∧ pCmd t pos = (some c, pos')) ∨ (fl' = true ∧ ((fl = true ∧ pos' = pos) ∨ (fl = false ∧ pCmd t pos = (none, pos'))))
section RCS
variable {Z : zT} {l : Launch} {G : aG} {h0 h : aH} {r li pos x : Nat} {fl : Bool} {t : List Nat} {as : List Nat} {eo : Option Nat} {cs : List cmT}
theorem RDR.ro {p2 : Nat} {f2 : Bool} (hR : RDR G h0 h r li pos fl x t as eo cs) : RDR G h0 (aUp h r (RO li p2 f2 x)) r li p2 f2 x t as eo cs := by
  obtain ⟨hk, ⟨n1, n2, n3, n4⟩, ho, ⟨hL, hlen, hc⟩, hT⟩ := hR
  have hL0 := hL
  obtain ⟨⟨mo, lo⟩, -, -, -, he⟩ := hL
  have kk : kp (· = r) h (aUp h r (RO li p2 f2 x)) := kp.up rfl
  have hasr : ∀ i, i < as.length → ¬ as.getD i 0 = r := fun i hi e => by
    obtain ⟨g, w, -⟩ := hc i hi
    rw [e, ho] at w; cases w
  refine ⟨kp_fresh hk n1, ⟨n1, n2, n3, n4⟩, aUp_eq, ⟨hL0.kp kk (fun e => by rw [e, ho] at lo; cases lo) (fun e he2 z => ?_) (fun y hy z => ?_), hlen, fun i hi => ?_⟩, TX_ro hT ho⟩
  · obtain ⟨cap, f, w, -⟩ := he e he2
    rw [z, ho] at w; cases w
  · obtain ⟨i, hi, e⟩ := List.mem_iff_getElem.mp hy
    refine hasr i hi ?_
    rw [List.getD_eq_getElem?_getD, List.getElem?_eq_getElem hi, Option.getD_some, e]; exact z
  · obtain ⟨g, w1, w2⟩ := hc i hi
    exact ⟨g, by rw [aUp_ne (hasr i hi)]; exact w1, w2⟩
def rcR (G : aG) (h0 : aH) (r li : Nat) (x : Nat) (t : List Nat) (pos : Nat) (fl : Bool) (as : List Nat) (cs : List cmT) : Option Value → aH → Prop := fun v h' => v = none ∧ ∃ a eo' c pos' fl', RDR G h0 h' r li pos' fl' x t (as ++ [a]) eo' (cs ++ [c]) ∧ rcP t pos fl c pos' fl'
/-- the command is laid into the list -/
theorem rc_add (hl : l.stackTraces = false) {q0 : Nat} {f0 : Bool} {pos1 : Nat} {fl1 : Bool} {h1 : aH} (hn : as.length < 121) (hR : RDR G h0 h1 r li pos1 fl1 x t as eo cs) {code num fg lt : Nat} (hP : rcP t q0 f0 (code, num, lt, fg) pos1 fl1) : T_X9_readCommand_133 l G 9 2 204 (aPR (rcR G h0 r li x t q0 f0 as cs)) r (i3 num) (i3 code) (i3 fg) (i3 lt) h1 0 0 := by
  obtain ⟨hk, ⟨n1, n2, n3, n4⟩, ho, ⟨hL, hlen, hc⟩, hT⟩ := hR
  have hL0 := hL
  obtain ⟨⟨mo, lo⟩, -, hob, -, he⟩ := hL
  refine A_X9_readCommand_133 hl ⟨4, by decide, rfl, by decide, by decide, by decide, fun a ha _ => ?_⟩
  refine vSt_mk aUp_eq rfl (k := 0) (by decide) (by decide) (vSt_mk aUp_eq rfl (k := 1) (by decide) (by decide) (vSt_mk aUp_eq rfl (k := 2) (by decide) (by decide) (vSt_mk aUp_eq rfl (k := 3) (by decide) (by decide) ?_)))
  rw [aUp_aUp, aUp_aUp, aUp_aUp, aUp_aUp]
  obtain ⟨g, hg⟩ : ∃ g : Nat → Int32, g = upd (upd (upd (upd (fun _ => 0) 0 (i3 code)) 1 (i3 num)) 2 (i3 lt)) 3 (i3 fg) := ⟨_, rfl⟩
  rw [← hg]
  have henc : enc g (code, num, lt, fg) := by subst hg; exact ⟨rfl, rfl, rfl, rfl⟩
  have ka : kp (fun _ => False) h1 (aUp h1 a (aInts .int 4 g)) := kp.new ha
  have har : a ≠ r := fun e => by rw [e, ho] at ha; cases ha
  have hal : a ≠ li := fun e => by rw [e, lo] at ha; cases ha
  have hL1 : LST G (aUp h1 a (aInts .int 4 g)) li as eo := hL0.kp ka id (fun _ _ => id) (fun _ _ => id)
  have hasn : ∀ y ∈ as, y ≠ li ∧ eo ≠ some y := by
    intro y hy
    obtain ⟨i, hi, e⟩ := List.mem_iff_getElem.mp hy
    obtain ⟨gi, w, -⟩ := hc i hi
    rw [List.getD_eq_getElem?_getD, List.getElem?_eq_getElem hi, Option.getD_some, e] at w
    refine ⟨fun z => (by rw [z, lo] at w; cases w), fun z => ?_⟩
    obtain ⟨cap, f, w2, -⟩ := he y z
    rw [w] at w2; cases w2
  refine vR_mk (ka _ _ ho id) rfl ⟨⟨_, ka _ _ lo id⟩, ?_⟩
  refine vC_r (B_add hl hL1 (Or.inl ⟨4, g, aUp_eq⟩) hn hal (fun e => ?_) (fun e => ?_) hasn) (by decide) (by decide) (by decide) fun v h2 hR2 => ?_
  · obtain ⟨cap, f, w, -⟩ := he a e
    rw [ha] at w; cases w
  · obtain ⟨cap, f, w, -⟩ := he li e
    rw [lo] at w; cases w
  · obtain ⟨rfl, k2, eo', hL2, hee⟩ := hR2
    have hSn : ∀ q, (q = li ∨ eo = some q) → (∃ fs, (aUp h1 a (aInts .int 4 g)) q = some (.inr (8, fs))) ∨ (∃ fs, (aUp h1 a (aInts .int 4 g)) q = some (.inr (9, fs))) ∨ ∃ n f, (aUp h1 a (aInts .int 4 g)) q = some (aRefs (.object "java/lang/Object") n f) := by
      rintro q (rfl | e)
      · exact Or.inr (Or.inl ⟨_, ka _ _ lo id⟩)
      · obtain ⟨cap, f, w, -⟩ := he q e
        exact Or.inr (Or.inr ⟨_, _, ka _ _ w id⟩)
    have hrS : ¬ (r = li ∨ eo = some r) := by
      rintro (e | e)
      · rw [e, lo] at ho; cases ho
      · obtain ⟨cap, f, w, -⟩ := he r e
        rw [ho] at w; cases w
    refine ⟨_, rfl, rfl, a, eo', (code, num, lt, fg), pos1, fl1, ⟨?_, ⟨n1, n2, fun e he2 => ?_, fun y hy => ?_⟩, k2 _ _ (ka _ _ ho id) hrS, ⟨hL2, by rw [List.length_append, List.length_append, hlen]; rfl, fun i hi => ?_⟩, TX_kp (TX_kp hT ka (fun _ => False.elim)) k2 hSn⟩, hP⟩
    · intro q e hq _
      refine k2 q e (ka _ _ (hk _ _ hq id) id) ?_
      rintro (z | z)
      · rw [z, n2] at hq; cases hq
      · rw [n3 q z] at hq; cases hq
    · rcases hee with z | ⟨e', z1, z2⟩
      · exact n3 e (by rw [← z]; exact he2)
      · have := Option.some.inj (z1.symm.trans he2)
        subst this
        cases w : h0 e' with
        | none => rfl
        | some y => rw [ka _ _ (hk _ _ w id) id] at z2; cases z2
    · rcases List.mem_append.mp hy with hy | hy
      · exact n4 y hy
      · rw [List.mem_singleton.mp hy]
        cases w : h0 a with
        | none => rfl
        | some e => rw [hk _ _ w id] at ha; cases ha
    · rw [List.length_append] at hi
      have hi : i < as.length + 1 := hi
      by_cases q : i = as.length
      · subst q
        rw [getD_app_eq, hlen, getD_app_eq]
        exact ⟨g, k2 _ _ aUp_eq (fun z => z.elim hal (fun e => by obtain ⟨cap, f, w, -⟩ := he a e; rw [ha] at w; cases w)), henc⟩
      · have hi2 : i < as.length := by omega
        rw [getD_app_lt hi2, getD_app_lt (by omega)]
        obtain ⟨gi, w1, w2⟩ := hc i hi2
        have hm := hasn _ (getD_mem (d := 0) hi2)
        exact ⟨gi, k2 _ _ (ka _ _ w1 id) (fun z => z.elim hm.1 hm.2), w2⟩
/-- what follows the sign -/
theorem rc_98 (hl : l.stackTraces = false) {q0 : Nat} {f0 : Bool} {pos1 : Nat} {fl1 : Bool} {h1 : aH} (hn : as.length < 121) (hp : pos1 < 900) (hR : RDR G h0 h1 r li pos1 fl1 x t as eo cs) {code num fg : Nat} (hcd : code < 128)
    (hF : fl1 = true → rcP t q0 f0 (code, num, 0, fg) pos1 true)
    (hS : fl1 = false → ∀ c pos' fl', (if code = 42 then (c = (code, num, 0, fg) ∧ pos' = pos1 ∧ fl' = false) else ∃ o, o = (if code = 61 then pLet t pos1 else pThing t pos1) ∧ c = (code, num, o.1.getD 0, fg) ∧ pos' = o.2 ∧ fl' = o.1.isNone) → rcP t q0 f0 c pos' fl') :
    T_X9_readCommand_98 l G 9 2 204 (aPR (rcR G h0 r li x t q0 f0 as cs)) r (i3 num) (i3 code) (i3 fg) h1 0 0 := by
  have hR0 := hR
  obtain ⟨hk, ⟨n1, n2, n3, n4⟩, ho, hRL, hT⟩ := hR
  have e42 : (i3 code = 42) = (code = 42) := i3_eq (b := 42) (by omega) (by decide)
  have e61 : (i3 code = 61) = (code = 61) := i3_eq (b := 61) (by omega) (by decide)
  cases fl1 with
  | true => exact A_X9_readCommand_98 hl (vI_mk ho rfl ⟨fun _ => rc_add hl (lt := 0) hn hR0 (hF rfl), fun z => absurd z (by decide)⟩)
  | false =>
    have hS := hS rfl
    refine A_X9_readCommand_98 hl (vI_mk ho rfl ⟨fun z => absurd rfl z, fun _ => ?_⟩)
    rw [e42, e61]
    refine ⟨fun q42 => ⟨fun q61 => ⟨⟨_, ho⟩, ?_⟩, fun q61 => ⟨⟨_, ho⟩, ?_⟩⟩, fun q42 => ?_⟩
    · refine vC_r (B_readThing hl ho hT (by omega)) (by decide) (by decide) (by decide) fun v h2 hR2 => ?_
      obtain ⟨rfl, rfl⟩ := hR2
      refine ⟨_, rfl, rc_add hl hn hR0.ro (hS _ _ _ ?_)⟩
      rw [if_neg q42]
      exact ⟨_, rfl, by rw [if_neg q61], by rw [if_neg q61], by rw [if_neg q61]⟩
    · refine vC_r (B_readLetter hl ho hT (by omega)) (by decide) (by decide) (by decide) fun v h2 hR2 => ?_
      obtain ⟨rfl, rfl⟩ := hR2
      refine ⟨_, rfl, rc_add hl hn hR0.ro (hS _ _ _ ?_)⟩
      rw [if_neg q42]
      exact ⟨_, rfl, by rw [if_pos q61], by rw [if_pos q61], by rw [if_pos q61]⟩
    · refine rc_add hl (lt := 0) hn hR0 (hS _ _ _ ?_)
      rw [if_pos q42]
      exact ⟨rfl, rfl, rfl⟩
theorem rc_54f (hl : l.stackTraces = false) {q0 : Nat} {f0 fl1 : Bool} {pos1 : Nat} {h1 : aH} (hn : as.length < 121) (hp : pos1 < 890) (hR : RDR G h0 h1 r li pos1 fl1 x t as eo cs) {c num : Nat} (hc : c < 128) (h61 : c ≠ 61) (hF : ∀ c', rcP t q0 f0 c' pos1 true) : T_X9_readCommand_54 l G 9 2 204 (aPR (rcR G h0 r li x t q0 f0 as cs)) r (i3 num) (i3 c) (bI true) r h1 0 0 := by
  have ho := hR.2.2.1
  refine A_X9_readCommand_54 hl ⟨vB_bI (b := true), vPut_mk ho (by show 2 < 4; decide) ?_⟩
  rw [ro_set (b := true) rfl]
  have ho2 : (aUp h1 r (RO li pos1 true x)) r = some (RO li pos1 true x) := aUp_eq
  have e0 : i3 pos1 + (if bI true = 0 then (1 : Int32) else 0) = i3 pos1 := by
    show i3 pos1 + i3 0 = _
    rw [i3_add]; rfl
  refine vI_mk ho2 rfl (vI_mk ho2 rfl (vPut_mk ho2 (by show 1 < 4; decide) ?_))
  rw [ro_pos e0, aUp_aUp]
  have e61 : (i3 c = 61) = (c = 61) := i3_eq (b := 61) (by omega) (by decide)
  rw [e61]
  refine ⟨fun _ => ?_, fun z => absurd z h61⟩
  exact rc_98 hl (fg := 0) hn (by omega) hR.ro hc (fun _ => hF _) (fun z => by cases z)
theorem rc_54t (hl : l.stackTraces = false) {q0 : Nat} {pos1 : Nat} {h1 : aH} (hn : as.length < 121) (hp : pos1 < 890) (hR : RDR G h0 h1 r li pos1 false x t as eo cs) {c num : Nat} (hc : c = t.getD pos1 0) (hin : c = 61 ∨ c = 42 ∨ c = 58 ∨ c = 33) (hC : pCmd t q0 = pArg t num pos1) : T_X9_readCommand_54 l G 9 2 204 (aPR (rcR G h0 r li x t q0 false as cs)) r (i3 num) (i3 c) (bI false) r h1 0 0 := by
  have ho := hR.2.2.1
  have hT := hR.2.2.2.2
  refine A_X9_readCommand_54 hl ⟨vB_bI (b := false), vPut_mk ho (by show 2 < 4; decide) ?_⟩
  rw [ro_set (b := false) rfl]
  have ho2 : (aUp h1 r (RO li pos1 false x)) r = some (RO li pos1 false x) := aUp_eq
  have e0 : i3 pos1 + (if bI false = 0 then (1 : Int32) else 0) = i3 (pos1 + 1) := i3_succ pos1
  refine vI_mk ho2 rfl (vI_mk ho2 rfl (vPut_mk ho2 (by show 1 < 4; decide) ?_))
  rw [ro_pos e0, aUp_aUp]
  have e61 : (i3 c = 61) = (c = 61) := i3_eq (b := 61) (by omega) (by decide)
  rw [e61]
  have isc : ∀ k, isC t pos1 k = decide (c = k) := fun k => by unfold isC; rw [← hc, Bool.eq_iff_iff, decide_eq_true_iff, beq_iff_eq]
  have hR2 := hR.ro (p2 := pos1 + 1) (f2 := false)
  refine ⟨fun q61 => ?_, fun q61 => ⟨⟨_, hR2.2.2.1⟩, ?_⟩⟩
  · refine rc_98 hl (fg := 0) hn (by omega) hR2 (by omega) (fun z => by cases z) (fun _ c' pos' fl' hh => ?_)
    by_cases q42 : c = 42
    · rw [if_pos q42] at hh
      obtain ⟨rfl, rfl, rfl⟩ := hh
      refine Or.inl ⟨rfl, rfl, ?_⟩
      rw [hC]
      unfold pArg
      rw [isc, isc, isc, isc, q42]; rfl
    · rw [if_neg q42] at hh
      obtain ⟨o, ho', rfl, rfl, rfl⟩ := hh
      rw [if_neg q61] at ho'
      have hA : pArg t num pos1 = mkC c num 0 (pThing t (pos1 + 1)) := by
        unfold pArg
        rw [isc, isc, isc]
        rcases hin with rfl | rfl | rfl | rfl
        · exact absurd rfl q61
        · exact absurd rfl q42
        · rfl
        · rfl
      rw [hA, ← ho'] at hC
      cases ho1 : o.1 with
      | none => exact Or.inr ⟨rfl, Or.inr ⟨rfl, by rw [hC]; unfold mkC; rw [ho1]; rfl⟩⟩
      | some v => exact Or.inl ⟨rfl, rfl, by rw [hC]; unfold mkC; rw [ho1]; rfl⟩
  · refine vC_r (B_skips hl hR2.2.2.1 hR2.2.2.2.2 (by omega) (c := 39) (by decide)) (by decide) (by decide) (by decide) fun v h2 hS => ?_
    obtain ⟨rfl, rfl⟩ := hS
    refine ⟨_, rfl, ?_⟩
    have hR3 := hR2.ro (p2 := pos1 + 1 + (isC t (pos1 + 1) 39).toNat) (f2 := false)
    have hz : (isC t (pos1 + 1) 39).toNat ≤ 1 := by cases isC t (pos1 + 1) 39 <;> decide
    have ez : (if bI (isC t (pos1 + 1) 39) = 0 then (0 : Int32) else 1) = i3 (isC t (pos1 + 1) 39).toNat := by cases isC t (pos1 + 1) 39 <;> rfl
    show T_X9_readCommand_98 l G 9 2 204 _ r (i3 num) (i3 c) (if bI (isC t (pos1 + 1) 39) = 0 then (0 : Int32) else 1) _ 0 0
    rw [ez]
    refine rc_98 hl hn (by omega) hR3 (by omega) (fun z => by cases z) (fun _ c' pos' fl' hh => ?_)
    rw [if_neg (by omega), if_pos q61] at hh
    obtain ⟨o, ho', rfl, rfl, rfl⟩ := hh
    have hA : pArg t num pos1 = mkC c num (isC t (pos1 + 1) 39).toNat o := by
      unfold pArg
      rw [isc, decide_eq_true q61, q61, ho']; rfl
    rw [hA] at hC
    cases ho1 : o.1 with
    | none => exact Or.inr ⟨rfl, Or.inr ⟨rfl, by rw [hC]; unfold mkC; rw [ho1]; rfl⟩⟩
    | some v => exact Or.inl ⟨rfl, rfl, by rw [hC]; unfold mkC; rw [ho1]; rfl⟩
theorem pNum_le {q : Nat} : (pNum t q).2 ≤ q + 2 := by
  unfold pNum
  split
  · split
    · exact Nat.le_refl _
    · show q + 1 ≤ q + 2; omega
  · show q ≤ q + 2; omega
theorem B_readCommand (hl : l.stackTraces = false) (hn : as.length < 121) (hp : pos < 800) (hR : RDR G h0 h r li pos fl x t as eo cs) : aC l G mX9_readCommand (wsN mX9_readCommand) 9 2 204 [.ref r] h (aPR (rcR G h0 r li x t pos fl as cs)) := by
  have hR0 := hR
  obtain ⟨hk, ⟨n1, n2, n3, n4⟩, ho, hRL, hT⟩ := hR
  cases fl with
  | true =>
    refine A_X9_readCommand hl (vI_mk ho rfl ⟨fun z => absurd z (by decide), fun _ => A_X9_readCommand_15 hl (vI_mk ho rfl ⟨fun z => absurd z (by decide), fun _ => vI_mk ho rfl ⟨fun _ => ?_, fun z => absurd z (by decide)⟩⟩)⟩)
    exact rc_54f hl (c := 0) (num := 0) hn (by omega) hR0 (by decide) (by decide) (fun c' => Or.inr ⟨rfl, Or.inl ⟨rfl, rfl⟩⟩)
  | false =>
    refine A_X9_readCommand hl (vI_mk ho rfl ⟨fun _ => ⟨⟨_, ho⟩, ?_⟩, fun z => absurd rfl z⟩)
    refine vC_r (B_readNumber hl ho hT (by omega)) (by decide) (by decide) (by decide) fun v h1 hR1 => ?_
    obtain ⟨rfl, rfl⟩ := hR1
    refine ⟨_, rfl, ?_⟩
    have hR1 := hR0.ro (p2 := (pNum t pos).2) (f2 := (pNum t pos).1.isNone)
    have pl := pNum_le (t := t) (q := pos)
    cases hN : pNum t pos with
    | mk o q1 =>
      rw [hN] at hR1 pl
      have pl : q1 ≤ pos + 2 := pl
      cases o with
      | none =>
        have hR1 : RDR G h0 (aUp h r (RO li q1 true x)) r li q1 true x t as eo cs := hR1
        have ho2 : (aUp h r (RO li q1 true x)) r = some (RO li q1 true x) := aUp_eq
        have hC : pCmd t pos = (none, q1) := by unfold pCmd; rw [hN]
        refine A_X9_readCommand_15 hl (vI_mk ho2 rfl ⟨fun z => absurd z (by decide), fun _ => vI_mk ho2 rfl ⟨fun _ => ?_, fun z => absurd z (by decide)⟩⟩)
        exact rc_54f hl (c := 0) (num := 0) hn (by omega) hR1 (by decide) (by decide) (fun c' => Or.inr ⟨rfl, Or.inr ⟨rfl, hC⟩⟩)
      | some k =>
        have hR1 : RDR G h0 (aUp h r (RO li q1 false x)) r li q1 false x t as eo cs := hR1
        have ho2 : (aUp h r (RO li q1 false x)) r = some (RO li q1 false x) := aUp_eq
        have hT2 : TX (aUp h r (RO li q1 false x)) x t := hR1.2.2.2.2
        have hsm := hT2.small q1
        have hC : pCmd t pos = pArg t k q1 := by unfold pCmd; rw [hN]
        refine A_X9_readCommand_15 hl (vI_mk ho2 rfl ⟨fun _ => ⟨⟨_, ho2⟩, vC_p (B_next9 hl ho2 hT2 (by omega)) (by decide) (by decide) (by decide) ⟨_, rfl, vI_mk ho2 rfl ⟨fun z => absurd rfl z, fun _ => ?_⟩⟩⟩, fun z => absurd rfl z⟩)
        refine vC_p (B_indexOf hl hsm) (by decide) (by decide) (by decide) ⟨_, rfl, ?_⟩
        show T_X9_readCommand_54 l G 9 2 204 (aPR (rcR G h0 r li x t pos false as cs)) r (i3 k) (i3 (t.getD q1 0)) (if 0 ≤ idxV (t.getD q1 0) then (0 : Int32) else 1) r (aUp h r (RO li q1 false x)) 0 0
        have hix : ∀ c : Fin 128, (if 0 ≤ idxV c.1 then (0 : Int32) else 1) = bI (decide (¬ (c.1 = 61 ∨ c.1 = 42 ∨ c.1 = 58 ∨ c.1 = 33))) := by decide +kernel
        have e1 := hix ⟨_, hsm⟩
        simp only at e1
        rw [e1]
        by_cases w : t.getD q1 0 = 61 ∨ t.getD q1 0 = 42 ∨ t.getD q1 0 = 58 ∨ t.getD q1 0 = 33
        · rw [decide_eq_false (fun z => z w)]
          exact rc_54t hl hn (by omega) hR1 rfl w hC
        · rw [decide_eq_true w]
          refine rc_54f hl hn (by omega) hR1 hsm (fun z => w (Or.inl z)) (fun c' => Or.inr ⟨rfl, Or.inr ⟨rfl, ?_⟩⟩)
          rw [hC]
          unfold pArg isC
          have w1 : (t.getD q1 0 == 61) = false := by rw [beq_eq_false_iff_ne]; exact fun z => w (Or.inl z)
          have w2 : (t.getD q1 0 == 58) = false := by rw [beq_eq_false_iff_ne]; exact fun z => w (Or.inr (Or.inr (Or.inl z)))
          have w3 : (t.getD q1 0 == 33) = false := by rw [beq_eq_false_iff_ne]; exact fun z => w (Or.inr (Or.inr (Or.inr z)))
          have w4 : (t.getD q1 0 == 42) = false := by rw [beq_eq_false_iff_ne]; exact fun z => w (Or.inr (Or.inl z))
          rw [w1, w2, w3, w4]; rfl
end RCS
