/-! the component's whole state
-/
set_option maxRecDepth 100000
abbrev stT : Type := Pz × (Nat → Nat)
/-- what is now, what was recorded, the slots, the text -/
abbrev ST : Type := stT × List stT × (Nat → Option stT) × List Nat
/-- the addresses of the objects: desk, puzzle, board, its things, trial, its things, further, its things -/
abbrev adT : Type := (Nat × Nat × Nat × Nat) × (Nat × Nat × Nat × Nat)
/-- what lies there beside the component, and is never touched -/
abbrev zT : Type := Nat → Option aE
/-- what stands always: the object x, its desk, puzzle and boards. tg: whose an address is -/
def WM (Z : zT) (I : Nat → Prop) (h : aH) (tg : Nat → Nat) (x li sl sb : Nat) (A : adT) (p : Pz) (w : Nat → Nat) : Prop :=
  ((∀ q, I q → h q ≠ none ∧ tg q = 1) ∧ ∀ q e, Z q = some e → h q = some e ∧ tg q = 13) ∧ (tg x = 2 ∧ h x = some (aObj 1 [.ref A.1.1, .ref A.1.2.1, .ref A.1.2.2.1, .ref A.2.1, .ref A.2.2.2.1, .ref li, .ref sl, .ref sb])) ∧ (tg A.1.1 = 3 ∧ h A.1.1 = some (aObj 2 [.ref A.1.2.1, .ref A.1.2.2.1])) ∧
  ∃ (F FB FT FU : List Nat), (PZ I h A.1.2.1 F p ∧ ∀ q ∈ F, tg q = 4) ∧ ((∃ f, BRD h A.1.2.2.1 A.1.2.1 A.1.2.2.2 FB f ∧ ∀ c, c < p.n * p.n → f c = i3 (w c) ∧ w c < 2 ^ (p.m + 1)) ∧ (∀ q ∈ FB, tg q = 5) ∧ FB.Nodup) ∧ ((∃ f, BRD h A.2.1 A.1.2.1 A.2.2.1 FT f) ∧ (∀ q ∈ FT, tg q = 6) ∧ FT.Nodup) ∧ ((∃ f, BRD h A.2.2.2.1 A.1.2.1 A.2.2.2.2 FU f) ∧ (∀ q ∈ FU, tg q = 7) ∧ FU.Nodup)
/-- what was recorded -/
def WH (G : aG) (I : Nat → Prop) (h : aH) (tg : Nat → Nat) (li : Nat) (hist : List stT) : Prop := tg li = 8 ∧ ∃ (hs : List (Nat × List Nat × Nat)) (eo : Option Nat), LST G h li (hs.map (·.1)) eo ∧ (∀ e, eo = some e → tg e = 9) ∧ hs.length = hist.length ∧ hs.length ≤ 6 ∧ (hs.map (·.2.2)).Nodup ∧ (∀ k ∈ hs, 20 ≤ k.2.2) ∧ ∀ i, i < hs.length → DK I h (hs.getD i (0, [], 0)).1 (hs.getD i (0, [], 0)).2.1 (hist.getD i ((0, 0, false, fun _ => 0), fun _ => 0)).1 (hist.getD i ((0, 0, false, fun _ => 0), fun _ => 0)).2 ∧ ∀ q ∈ (hs.getD i (0, [], 0)).2.1, tg q = (hs.getD i (0, [], 0)).2.2
/-- the slots -/
def WL (I : Nat → Prop) (h : aH) (tg : Nat → Nat) (sl : Nat) (slots : Nat → Option stT) : Prop := tg sl = 10 ∧ ∃ g : Nat → Option Nat, h sl = some (aRefs (.object "EdgeLetters$Desk") 2 g) ∧ ∀ i, i < 2 → (slots i = none → g i = none) ∧ ∀ s, slots i = some s → ∃ d FD, g i = some d ∧ DK I h d FD s.1 s.2 ∧ ∀ q ∈ FD, tg q = 14 + i
/-- the text -/
def WT (h : aH) (tg : Nat → Nat) (sb : Nat) (text : List Nat) : Prop := tg sb = 11 ∧ ∃ va, tg va = 12 ∧ SBV h sb va text ∧ text.length ≤ 80 ∧ ∀ c ∈ text, 33 ≤ c ∧ c ≤ 126
def WS (Z : zT) (G : aG) (h : aH) (x : Nat) (S : ST) : Prop := ∃ (I : Nat → Prop) (tg : Nat → Nat) (li sl sb : Nat) (A : adT), WM Z I h tg x li sl sb A S.1.1 S.1.2 ∧ WH G I h tg li S.2.1 ∧ WL I h tg sl S.2.2.1 ∧ WT h tg sb S.2.2.2
/-- the same, beside other things (Q) that are not its own -/
def WSQ (Z : zT) (G : aG) (h : aH) (x : Nat) (S : ST) (Q : Nat → Prop) : Prop := ∃ (I : Nat → Prop) (tg : Nat → Nat) (li sl sb : Nat) (A : adT), WM Z I h tg x li sl sb A S.1.1 S.1.2 ∧ WH G I h tg li S.2.1 ∧ WL I h tg sl S.2.2.1 ∧ WT h tg sb S.2.2.2 ∧ ∀ q, Q q → tg q = 13 ∧ h q ≠ none
theorem WS.q {Z : zT} {G : aG} {h : aH} {x : Nat} {S : ST} (hW : WS Z G h x S) : WSQ Z G h x S (fun _ => False) := by
  obtain ⟨I, tg, li, sl, sb, A, a, b, c, d⟩ := hW
  exact ⟨I, tg, li, sl, sb, A, a, b, c, d, fun _ => False.elim⟩
theorem WSQ.ws {Z : zT} {G : aG} {h : aH} {x : Nat} {S : ST} {Q : Nat → Prop} (hW : WSQ Z G h x S Q) : WS Z G h x S := by
  obtain ⟨I, tg, li, sl, sb, A, a, b, c, d, -⟩ := hW
  exact ⟨I, tg, li, sl, sb, A, a, b, c, d⟩
/-- a step: addresses outside S keep what they hold; what stays for ever may grow; tags of old addresses stay -/
def stp (S : Nat → Prop) (I I' : Nat → Prop) (h h' : aH) (tg tg' : Nat → Nat) : Prop := kp S h h' ∧ (∀ q, I q → I' q) ∧ (∀ q, I' q → h' q ≠ none ∧ tg' q = 1) ∧ ∀ q, h q ≠ none → tg' q = tg q
section KEEP
variable {Z : zT} {G : aG} {S I I' : Nat → Prop} {h h' : aH} {tg tg' : Nat → Nat}
theorem DK.stp {d : Nat} {FD : List Nat} {p : Pz} {u : Nat → Nat} {k : Nat} (hD : DK I h d FD p u) (hs : stp S I I' h h' tg tg') (hI : ∀ q, I q → tg q = 1) (ht : ∀ q ∈ FD, tg q = k) (hk1 : k ≠ 1) (hS : ∀ q, S q → tg q ≠ k ∧ tg q ≠ 1) : DK I' h' d FD p u ∧ ∀ q ∈ FD, tg' q = k := by
  obtain ⟨hk, h1, h2, h3⟩ := hs
  have ht' : ∀ q ∈ FD, tg' q = k := fun q hq => by rw [h3 q (DK_some hD q hq)]; exact ht q hq
  refine ⟨hD.kp hk (fun q hq z => (hS q z).1 (ht q hq)) (fun q hq z => (hS q z).2 (hI q hq)) h1 (fun q hq z => hk1 ?_), ht'⟩
  rw [← ht' q hq]; exact (h2 q z).2
theorem WH.keep {li : Nat} {hist : List stT} (hW : WH G I h tg li hist) (hs : stp S I I' h h' tg tg') (hI : ∀ q, I q → tg q = 1) (hS : ∀ q, S q → tg q ≠ 1 ∧ tg q ≠ 8 ∧ tg q ≠ 9 ∧ tg q < 20) : WH G I' h' tg' li hist := by
  obtain ⟨h8, hsL, eo, hL, h9, hlen, h6, hN, h20, hD⟩ := hW
  have hL0 := hL
  obtain ⟨⟨mo, lo⟩, -, hob, -, hsome⟩ := hL
  have hDm : ∀ y ∈ hsL, tg y.1 = y.2.2 ∧ 20 ≤ y.2.2 := by
    intro y hy
    obtain ⟨i, hi, e⟩ := List.mem_iff_getElem.mp hy
    obtain ⟨d1, d2⟩ := hD i hi
    rw [List.getD_eq_getElem?_getD, List.getElem?_eq_getElem hi, Option.getD_some, e] at d1 d2
    obtain ⟨_, _, _, _, _, _, eF, _⟩ := d1
    exact ⟨d2 _ (by rw [eF]; simp), h20 y hy⟩
  refine ⟨by rw [hs.2.2.2 li (by rw [lo]; simp)]; exact h8, hsL, eo, hL0.kp hs.1 (fun z => (hS li z).2.1 h8) (fun e he z => (hS e z).2.2.1 (h9 e he)) (fun y hy z => ?_), fun e he => ?_, hlen, h6, hN, h20, fun i hi => ?_⟩
  · obtain ⟨y2, hy2, rfl⟩ := List.mem_map.mp hy
    obtain ⟨w1, w2⟩ := hDm y2 hy2
    have := (hS _ z).2.2.2
    omega
  · obtain ⟨cap, f, w, -⟩ := hsome e he
    rw [hs.2.2.2 e (by rw [w]; simp)]; exact h9 e he
  · obtain ⟨d1, d2⟩ := hD i hi
    have h20i := h20 _ (getD_mem (d := (0, [], 0)) hi)
    exact d1.stp hs hI d2 (by omega) (fun q z => ⟨fun e => by have := (hS q z).2.2.2; omega, (hS q z).1⟩)
theorem WL.keep {sl : Nat} {slots : Nat → Option stT} (hW : WL I h tg sl slots) (hs : stp S I I' h h' tg tg') (hI : ∀ q, I q → tg q = 1) (hS : ∀ q, S q → tg q ≠ 1 ∧ tg q ≠ 10 ∧ tg q ≠ 14 ∧ tg q ≠ 15) : WL I' h' tg' sl slots := by
  obtain ⟨h10, g, hg, hd⟩ := hW
  refine ⟨by rw [hs.2.2.2 sl (by rw [hg]; simp)]; exact h10, g, hs.1 _ _ hg (fun z => (hS sl z).2.1 h10), fun i hi => ⟨(hd i hi).1, fun s he => ?_⟩⟩
  obtain ⟨d, FD, w1, w2, w3⟩ := (hd i hi).2 s he
  obtain ⟨y1, y2⟩ := w2.stp hs hI w3 (by omega) (fun q z => ⟨fun e => by have := hS q z; omega, (hS q z).1⟩)
  exact ⟨d, FD, w1, y1, y2⟩
theorem WT.keep {sb : Nat} {text : List Nat} (hW : WT h tg sb text) (hs : stp S I I' h h' tg tg') (hS : ∀ q, S q → tg q ≠ 11 ∧ tg q ≠ 12) : WT h' tg' sb text := by
  obtain ⟨h11, va, h12, hV, hl, hc⟩ := hW
  have hV0 := hV
  obtain ⟨cap, f, mk, w1, w2, -⟩ := hV
  exact ⟨by rw [hs.2.2.2 sb (by rw [w1]; simp)]; exact h11, va, by rw [hs.2.2.2 va (by rw [w2]; simp)]; exact h12, hV0.kp hs.1 (fun z => (hS sb z).1 h11) (fun z => (hS va z).2 h12), hl, hc⟩
theorem WM.I1 {x li sl sb : Nat} {A : adT} {p : Pz} {w : Nat → Nat} (hM : WM Z I h tg x li sl sb A p w) : ∀ q, I q → tg q = 1 := fun q hq => (hM.1.1 q hq).2
theorem WM.I0 {x li sl sb : Nat} {A : adT} {p : Pz} {w : Nat → Nat} (hM : WM Z I h tg x li sl sb A p w) : ∀ q, I q → h q ≠ none := fun q hq => (hM.1.1 q hq).1
/-- nothing of the main things changes -/
theorem WM.keep {x li sl sb : Nat} {A : adT} {p : Pz} {w : Nat → Nat} (hM : WM Z I h tg x li sl sb A p w) (hs : stp S I I' h h' tg tg') (hS : ∀ q, S q → (tg q = 0 ∨ 8 ≤ tg q) ∧ tg q ≠ 13) : WM Z I' h' tg' x li sl sb A p w := by
  obtain ⟨⟨hI, hZ⟩, ⟨x1, x2⟩, ⟨d1, d2⟩, F, FB, FT, FU, ⟨hP, tF⟩, ⟨⟨f, hB, hf⟩, tB, nB⟩, ⟨⟨ft, hT⟩, tT, nT⟩, ⟨fu, hU⟩, tU, nU⟩ := hM
  obtain ⟨hk, i1, i2, i3'⟩ := hs
  have tF' : ∀ q ∈ F, tg' q = 4 := fun q hq => by rw [i3' q (PZ_some hP q hq)]; exact tF q hq
  refine ⟨⟨fun q hq => i2 q hq, fun q e z => ⟨hk _ _ (hZ q e z).1 (fun w => by have := hS q w; have := (hZ q e z).2; omega), by rw [i3' q (by rw [(hZ q e z).1]; simp)]; exact (hZ q e z).2⟩⟩, ⟨by rw [i3' x (by rw [x2]; simp)]; exact x1, hk _ _ x2 (fun z => by have := hS x z; omega)⟩, ⟨by rw [i3' _ (by rw [d2]; simp)]; exact d1, hk _ _ d2 (fun z => by have := hS _ z; omega)⟩, F, FB, FT, FU, ⟨hP.kp hk (fun q hq z => by have := hS q z; have := tF q hq; omega) (fun q hq z => by have := hS q z; have := (hI q hq).2; omega) i1 (fun q hq z => by have := (i2 q z).2; have := tF' q hq; omega), tF'⟩, ⟨⟨f, hB.kp hk (fun q hq z => by have := hS q z; have := tB q hq; omega), hf⟩, fun q hq => by rw [i3' q (BRD_some hB q hq)]; exact tB q hq, nB⟩, ⟨⟨ft, hT.kp hk (fun q hq z => by have := hS q z; have := tT q hq; omega)⟩, fun q hq => by rw [i3' q (BRD_some hT q hq)]; exact tT q hq, nT⟩, ⟨fu, hU.kp hk (fun q hq z => by have := hS q z; have := tU q hq; omega)⟩, fun q hq => by rw [i3' q (BRD_some hU q hq)]; exact tU q hq, nU⟩
end KEEP
section USE
variable {Z : zT} {G : aG} {I : Nat → Prop} {h : aH} {tg : Nat → Nat} {x li sl sb : Nat} {A : adT} {p : Pz} {w : Nat → Nat}
theorem WM.obj (hM : WM Z I h tg x li sl sb A p w) : h x = some (aObj 1 [.ref A.1.1, .ref A.1.2.1, .ref A.1.2.2.1, .ref A.2.1, .ref A.2.2.2.1, .ref li, .ref sl, .ref sb]) := hM.2.1.2
theorem WM.ok (hM : WM Z I h tg x li sl sb A p w) : okNM p.n p.m := by
  obtain ⟨-, -, -, F, FB, FT, FU, ⟨hP, -⟩, -⟩ := hM
  exact hP.ok
/-- the board now -/
theorem WM.bd (hM : WM Z I h tg x li sl sb A p w) : ∃ F, BD I h A.1.2.2.1 A.1.2.1 A.1.2.2.2 F p w ∧ (∀ q ∈ F, tg q = 4) ∧ tg A.1.2.2.2 = 5 ∧ tg A.1.2.2.1 = 5 := by
  obtain ⟨⟨hI, hZ⟩, -, -, F, FB, FT, FU, ⟨hP, tF⟩, ⟨⟨f, hB, hf⟩, tB, nB⟩, -⟩ := hM
  obtain ⟨m1, m2⟩ := hB.mem
  refine ⟨F, (hB.bdr hP fun q hq => ⟨fun z => ?_, fun z => ?_⟩).bd hf, tF, tB _ m2, tB _ m1⟩
  · have := tF q z; have := tB q hq; omega
  · have := (hI q z).2; have := tB q hq; omega
/-- the board for trying, beside it -/
theorem WM.tb (hM : WM Z I h tg x li sl sb A p w) : ∃ F, BD I h A.1.2.2.1 A.1.2.1 A.1.2.2.2 F p w ∧ TB I h A.1.2.2.1 A.1.2.2.2 A.1.2.1 A.2.1 A.2.2.1 F p ∧ tg A.2.2.1 = 6 := by
  obtain ⟨⟨hI, hZ⟩, -, -, F, FB, FT, FU, ⟨hP, tF⟩, ⟨⟨f, hB, hf⟩, tB, nB⟩, ⟨⟨ft, hT⟩, tT, nT⟩, -⟩ := hM
  obtain ⟨m1, m2⟩ := hB.mem
  obtain ⟨k1, k2⟩ := hT.mem
  refine ⟨F, (hB.bdr hP fun q hq => ⟨fun z => ?_, fun z => ?_⟩).bd hf, ⟨⟨ft, hT.bdr hP fun q hq => ⟨fun z => ?_, fun z => ?_⟩⟩, fun e => ?_, fun e => ?_, fun e => ?_⟩, tT _ k2⟩
  · have := tF q z; have := tB q hq; omega
  · have := (hI q z).2; have := tB q hq; omega
  · have := tF q z; have := tT q hq; omega
  · have := (hI q z).2; have := tT q hq; omega
  · have y1 := tB _ m2; have := tT _ k2; rw [e] at y1; omega
  · have y1 := tB _ m1; have := tT _ k2; rw [e] at y1; omega
  · have := tB _ m2; have := tT _ k1; rw [e] at this; omega
/-- only the two other boards' things changed -/
theorem WM.tried {h' : aH} (hM : WM Z I h tg x li sl sb A p w) (hk : kp (fun q => q = A.2.2.1 ∨ q = A.2.2.2.2) h h') (h1 : ∃ f, h' A.2.2.1 = some (aInts .int 25 f)) (h2 : ∃ f, h' A.2.2.2.2 = some (aInts .int 25 f)) : ∃ tg', stp (fun q => q = A.2.2.1 ∨ q = A.2.2.2.2) I I h h' tg tg' ∧ WM Z I h' tg' x li sl sb A p w := by
  obtain ⟨⟨hI, hZ⟩, ⟨x1, x2⟩, ⟨d1, d2⟩, F, FB, FT, FU, ⟨hP, tF⟩, ⟨⟨f, hB, hf⟩, tB, nB⟩, ⟨⟨ft, hT⟩, tT, nT⟩, ⟨fu, hU⟩, tU, nU⟩ := hM
  obtain ⟨m1, m2⟩ := hB.mem
  obtain ⟨k1, k2⟩ := hT.mem
  obtain ⟨u1, u2⟩ := hU.mem
  have t6 := tT _ k2
  have t7 := tU _ u2
  have hS : ∀ q, (q = A.2.2.1 ∨ q = A.2.2.2.2) → tg q = 6 ∨ tg q = 7 := fun q z => z.elim (fun e => Or.inl (by rw [e]; exact t6)) (fun e => Or.inr (by rw [e]; exact t7))
  have hPn : ∀ q ∈ F, ¬ I q := fun q hq z => by have := (hI q z).2; have := tF q hq; omega
  have hIk : ∀ q, I q → h' q ≠ none := fun q hq => by
    cases z : h q with
    | none => exact absurd z (hI q hq).1
    | some y => rw [hk _ _ z (fun e => by have := hS q e; have := (hI q hq).2; omega)]; simp
  obtain ⟨g1, e1⟩ := h1
  obtain ⟨g2, e2⟩ := h2
  have hTn : ∃ g, BRD h' A.2.1 A.1.2.1 A.2.2.1 FT g := by
    obtain ⟨rb, rr, R, eT, a1, a2, a3, a4⟩ := hT
    have mem : ∀ q ∈ FT, q ≠ A.2.2.1 → ¬ (q = A.2.2.1 ∨ q = A.2.2.2.2) := fun q hq z e => e.elim z (fun e => by have := tT q hq; rw [e, t7] at this; omega)
    refine ⟨g1, rb, rr, R, eT, hk _ _ a1 (mem _ k1 (fun z => by rw [z, a2] at a1; cases a1)), e1, hk _ _ a3 (mem _ (by rw [eT]; simp) (fun z => by rw [z, a2] at a3; cases a3)), fun i hi => ?_⟩
    obtain ⟨b1, g, b2⟩ := a4 i hi
    refine ⟨b1, g, hk _ _ b2 (mem _ ?_ (fun z => by rw [z, a2] at b2; cases b2))⟩
    rw [eT]
    simp only [List.mem_cons, List.mem_map, List.mem_range]
    exact Or.inr (Or.inr (Or.inr ⟨i, hi, rfl⟩))
  have hUn : ∃ g, BRD h' A.2.2.2.1 A.1.2.1 A.2.2.2.2 FU g := by
    obtain ⟨rb, rr, R, eT, a1, a2, a3, a4⟩ := hU
    have mem : ∀ q ∈ FU, q ≠ A.2.2.2.2 → ¬ (q = A.2.2.1 ∨ q = A.2.2.2.2) := fun q hq z e => e.elim (fun e => by have := tU q hq; rw [e, t6] at this; omega) z
    refine ⟨g2, rb, rr, R, eT, hk _ _ a1 (mem _ u1 (fun z => by rw [z, a2] at a1; cases a1)), e2, hk _ _ a3 (mem _ (by rw [eT]; simp) (fun z => by rw [z, a2] at a3; cases a3)), fun i hi => ?_⟩
    obtain ⟨b1, g, b2⟩ := a4 i hi
    refine ⟨b1, g, hk _ _ b2 (mem _ ?_ (fun z => by rw [z, a2] at b2; cases b2))⟩
    rw [eT]
    simp only [List.mem_cons, List.mem_map, List.mem_range]
    exact Or.inr (Or.inr (Or.inr ⟨i, hi, rfl⟩))
  refine ⟨tg, ⟨hk, fun _ h => h, fun q hq => ⟨hIk q hq, (hI q hq).2⟩, fun _ _ => rfl⟩, ⟨fun q hq => ⟨hIk q hq, (hI q hq).2⟩, fun q e z => ⟨hk _ _ (hZ q e z).1 (fun w => by have := hS q w; have := (hZ q e z).2; omega), (hZ q e z).2⟩⟩, ⟨x1, hk _ _ x2 (fun z => by have := hS x z; omega)⟩, ⟨d1, hk _ _ d2 (fun z => by have := hS _ z; omega)⟩, F, FB, FT, FU, ⟨hP.kp hk (fun q hq z => by have := hS q z; have := tF q hq; omega) (fun q hq z => by have := hS q z; have := (hI q hq).2; omega) (fun _ h => h) hPn, tF⟩, ⟨⟨f, hB.kp hk (fun q hq z => by have := hS q z; have := tB q hq; omega), hf⟩, tB, nB⟩, ⟨hTn, tT, nT⟩, hUn, tU, nU⟩
end USE
