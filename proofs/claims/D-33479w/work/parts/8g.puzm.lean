/-! the puzzle's methods that write
-/
set_option maxRecDepth 100000
def Pz.new (n m : Nat) : Pz := (n, m, false, fun _ => 0)
def Pz.turn (p : Pz) : Pz := (p.1, p.2.1, !p.2.2.1, p.2.2.2)
def exN (x one other : Nat) : Nat := if x = one then other else if x = other then one else x
def exT (t one other : Nat) : Nat := if t = 0 then 0 else 1 + 2 * exN ((t - 1) / 2) one other + (t - 1) % 2
def Pz.exch (p : Pz) (one other : Nat) : Pz := (p.1, p.2.1, p.2.2.1, fun e => if e < 4 * p.1 then exT (p.2.2.2 e) one other else p.2.2.2 e)
section PZM
variable {l : Launch} {G : aG} {I : Nat → Prop} {h : aH} {a : Nat} {F : List Nat} {p : Pz}
theorem B_begin (hl : l.stackTraces = false) {tl ls lo n m : Nat} {rw : Nat → Nat} {aro : Option Nat} {T : Nat → Int32} {x4 x5 x6 x7 : Int32} (hok : okNM n m) (hW : PW I h a F tl ls lo rw aro T x4 x5 x6 x7) (hI0 : ∀ q, I q → h q ≠ none) :
    aC l G mX3_begin (wsN mX3_begin) 15 243 24611 [.ref a, .int (i3 n), .int (i3 m)] h (aPR (prpR I h a F (Pz.new n m))) := by
  have hW1 : PW I (aUp h a (.inr (3, [Value.ref tl, .ref ls, .ref lo, va_rf aro, .int x4, .int x5, .int x6, .int x7].set 4 (.int (i3 n))))) a F tl ls lo rw aro T (i3 n) x5 x6 x7 := hW.obj hW.2.2.2.2.2.2.2.2
  have hW2 : PW I (aUp (aUp h a (.inr (3, [Value.ref tl, .ref ls, .ref lo, va_rf aro, .int x4, .int x5, .int x6, .int x7].set 4 (.int (i3 n))))) a (.inr (3, [Value.ref tl, .ref ls, .ref lo, va_rf aro, .int (i3 n), .int x5, .int x6, .int x7].set 5 (.int (i3 m))))) a F tl ls lo rw aro T (i3 n) (i3 m) x6 x7 := hW1.obj hW1.2.2.2.2.2.2.2.2
  generalize hh1 : aUp h a (.inr (3, [Value.ref tl, .ref ls, .ref lo, va_rf aro, .int x4, .int x5, .int x6, .int x7].set 4 (.int (i3 n)))) = h1 at hW1 hW2
  generalize hh2 : aUp h1 a (.inr (3, [Value.ref tl, .ref ls, .ref lo, va_rf aro, .int (i3 n), .int x5, .int x6, .int x7].set 5 (.int (i3 m)))) = h2 at hW2
  have hW3 : PW I (aUp h2 a (.inr (3, [Value.ref tl, .ref ls, .ref lo, va_rf aro, .int (i3 n), .int (i3 m), .int x6, .int x7].set 6 (.int 0)))) a F tl ls lo rw aro T (i3 n) (i3 m) (i3 0) x7 := hW2.obj hW2.2.2.2.2.2.2.2.2
  generalize hh3 : aUp h2 a (.inr (3, [Value.ref tl, .ref ls, .ref lo, va_rf aro, .int (i3 n), .int (i3 m), .int x6, .int x7].set 6 (.int 0))) = h3 at hW3
  have hW4 : PW I (aUp h3 a (.inr (3, [Value.ref tl, .ref ls, .ref lo, va_rf aro, .int (i3 n), .int (i3 m), .int (i3 0), .int x7].set 7 (.int 0)))) a F tl ls lo rw aro T (i3 n) (i3 m) (i3 0) (bI false) := hW3.obj hW3.2.2.2.2.2.2.2.2
  generalize hh4 : aUp h3 a (.inr (3, [Value.ref tl, .ref ls, .ref lo, va_rf aro, .int (i3 n), .int (i3 m), .int (i3 0), .int x7].set 7 (.int 0))) = h4 at hW4
  have haF := hW.mem.1
  have k4 : kp (· ∈ F) h h4 := by
    rw [← hh4, ← hh3, ← hh2, ← hh1]
    exact ((((kp.up (S := (· ∈ F)) haF).tr (kp.up haF)).tr (kp.up haF)).tr (kp.up haF))
  have keepI : ∀ h', kp (· ∈ F) h h' → ∀ q, I q → h' q ≠ none := by
    intro h' k q hq
    cases w : h q with
    | none => exact absurd w (hI0 q hq)
    | some y => rw [k _ _ w (fun z => hW.2.2.1 q z hq)]; simp
  -- the tellings
  have loop := vloop (N := 20) (T := fun j => ∀ (h5 : aH) (T5 : Nat → Int32), kp (· ∈ F) h h5 → PW I h5 a F tl ls lo rw aro T5 (i3 n) (i3 m) (i3 0) (bI false) → (∀ e, e < j → T5 e = -1) → T_X3_begin_22 l G 15 243 24611 (aPR (prpR I h a F (Pz.new n m))) a (i3 j) h5 0 0) ?_ ?_ 0 (Nat.zero_le _) h4 T k4 hW4 (fun e he => absurd he (Nat.not_lt_zero _))
  · refine A_X3_begin hl (vPut_mk hW.2.2.2.1 (by show 4 < 8; decide) ?_)
    rw [hh1]
    refine vPut_mk hW1.2.2.2.1 (by show 5 < 8; decide) ?_
    rw [hh2]
    refine vPut_mk hW2.2.2.2.1 (by show 6 < 8; decide) ?_
    rw [hh3]
    refine vPut_mk hW3.2.2.2.1 (by show 7 < 8; decide) ?_
    rw [hh4]
    exact loop
  · intro h5 T5 k5 hW5 hT5
    have ho5 := hW5.2.2.2.1
    refine A_X3_begin_22 hl ⟨fun _ => ⟨⟨_, ho5⟩, ?_⟩, fun q => absurd (by decide) q⟩
    refine vC_r (B_prepare (p := Pz.new n m) hl hok hW5 (fun e he => Nat.zero_le _) (fun e he => (hT5 e he).trans rfl) (by decide) (fun e he => by rw [Nat.zero_testBit]; rfl) (keepI h5 k5)) (by decide) (by decide) (by decide) fun v h6 hR => ?_
    obtain ⟨hv, I', ⟨i1, i2⟩, i3', k6, hP⟩ := hR
    refine ⟨hv, rfl, I', ⟨i1, fun q hq => ?_⟩, i3', k5.tr k6, hP⟩
    rcases i2 q hq with z | z
    · exact Or.inl z
    · by_cases w : q ∈ F
      · exact absurd hq (by obtain ⟨_, _, _, _, _, _, _, _, _, _, _, _, _, hn, _⟩ := hP; exact hn q w)
      · cases y : h q with
        | none => exact Or.inr rfl
        | some e => have := k5 _ _ y w; rw [z] at this; cases this
  · intro j hj ih h5 T5 k5 hW5 hT5
    have ho5 := hW5.2.2.2.1
    have e20 : ((20 : Int32) ≤ i3 j) = (20 ≤ j) := i3_le (a := 20) (by decide) (by omega)
    obtain ⟨w1, w2, w3, w4, w5, w6, w7, w8, w9, w10, w11⟩ := hW5.ne
    have hm5 := hW5.mem
    refine A_X3_begin_22 hl ⟨fun q => absurd (by rwa [e20] at q) (by omega : ¬ 20 ≤ j), fun _ => vR_mk ho5 rfl (vSt_mk hW5.2.2.2.2.1 rfl hj (by decide) ?_)⟩
    rw [i3_succ]
    have k6 : kp (· = tl) h5 (aUp h5 tl (aInts .int 20 (upd T5 j (-1)))) := kp.up rfl
    refine ih _ (upd T5 j (-1)) (k5.tr (k6.mono fun q e => by rw [e]; exact hm5.2.1)) (hW5.kp k6 w1 (Ne.symm w5) (fun q hq e => hW5.2.2.1 tl hm5.2.1 (by rw [← e]; exact hq)) aUp_eq (fun i hi => ?_) ?_) (fun e he => ?_)
    · obtain ⟨f, y⟩ := hW5.2.2.2.2.2.2.1 i hi
      exact ⟨f, by rw [aUp_ne (Ne.symm (w7 i hi))]; exact y⟩
    · obtain ⟨L, y⟩ := hW5.2.2.2.2.2.2.2.1
      exact ⟨L, by rw [aUp_ne (Ne.symm w6)]; exact y⟩
    · by_cases q : e = j
      · rw [q, upd_same]
      · rw [upd_ne q]; exact hT5 e (by omega)
theorem prpR.mono {h1 h2 : aH} {v : Option Value} (hR : prpR I h1 a F p v h2) (hk : kp (· ∈ F) h h1) : prpR I h a F p v h2 := by
  obtain ⟨hv, I', ⟨i1, i2⟩, i3', k6, hP⟩ := hR
  refine ⟨hv, I', ⟨i1, fun q hq => ?_⟩, i3', hk.tr k6, hP⟩
  rcases i2 q hq with z | z
  · exact Or.inl z
  · by_cases w : q ∈ F
    · exact absurd hq (by obtain ⟨_, _, _, _, _, _, _, _, _, _, _, _, _, hn, _⟩ := hP; exact hn q w)
    · cases y : h q with
      | none => exact Or.inr rfl
      | some e => have := hk _ _ y w; rw [z] at this; cases this
theorem B_turn3 (hl : l.stackTraces = false) (hP : PZ I h a F p) (hI0 : ∀ q, I q → h q ≠ none) : aC l G mX3_turnDiagonals (wsN mX3_turnDiagonals) 15 243 24611 [.ref a] h (aPR (prpR I h a F p.turn)) := by
  have hok := hP.ok
  obtain ⟨tl, ls, lo, rw, ar, T, sec, hW, hA, hb, hT, hs1, hs2, -⟩ := hP.pw
  have ho := hW.2.2.2.1
  have haF := hW.mem.1
  have e : (if bI p.dg = 0 then (1 : Int32) else 0) = bI (!p.dg) := by cases p.dg <;> rfl
  refine A_X3_turnDiagonals hl (vI_mk ho rfl ⟨vB_if, vPut_mk ho (by show 7 < 8; decide) ?_⟩)
  rw [e]
  have hW1 : PW I (aUp h a (.inr (3, [Value.ref tl, .ref ls, .ref lo, va_rf (some ar), .int (i3 p.n), .int (i3 p.m), .int (i3 sec), .int (bI p.dg)].set 7 (.int (bI (!p.dg)))))) a F tl ls lo rw (some ar) T (i3 p.n) (i3 p.m) (i3 sec) (bI (!p.dg)) := hW.obj hW.2.2.2.2.2.2.2.2
  generalize hh1 : aUp h a (.inr (3, [Value.ref tl, .ref ls, .ref lo, va_rf (some ar), .int (i3 p.n), .int (i3 p.m), .int (i3 sec), .int (bI p.dg)].set 7 (.int (bI (!p.dg))))) = h1 at hW1
  have k1 : kp (· ∈ F) h h1 := by rw [← hh1]; exact kp.up haF
  have hI1 : ∀ q, I q → h1 q ≠ none := by
    intro q hq
    cases w : h q with
    | none => exact absurd w (hI0 q hq)
    | some y => rw [k1 _ _ w (fun z => hW.2.2.1 q z hq)]; simp
  show vIs h1 a 3 _
  refine ⟨⟨_, hW1.2.2.2.1⟩, ?_⟩
  refine vC_r (B_prepare (p := p.turn) hl hok hW1 hb hT hs1 hs2 hI1) (by decide) (by decide) (by decide) fun v h2 hR => ?_
  have hv := hR.1
  subst hv
  exact ⟨rfl, hR.mono k1⟩
theorem B_setAll3 (hl : l.stackTraces = false) {b : Nat} {F2 : List Nat} {tl ls lo : Nat} {rw : Nat → Nat} {aro : Option Nat} {T : Nat → Int32} {x4 x5 x6 x7 : Int32} (hW : PW I h a F tl ls lo rw aro T x4 x5 x6 x7) (hP : PZ I h b F2 p) (hd : ∀ q ∈ F2, q ∉ F) (hI0 : ∀ q, I q → h q ≠ none) :
    aC l G mX3_setAll (wsN mX3_setAll) 15 243 24611 [.ref a, .ref b] h (aPR (prpR I h a F p)) := by
  have hok := hP.ok
  obtain ⟨tl2, ls2, lo2, rw2, ar, T2, sec, hW2, hA, hb, hT, hs1, hs2, -⟩ := hP.pw
  obtain ⟨m1, m2, m3, m4, m5⟩ := hW.mem
  have hbF : b ∉ F := hd b hW2.mem.1
  have ho := hW.2.2.2.1
  have ho2 := hW2.2.2.2.1
  obtain ⟨w1, w2, w3, w4, w5, w6, w7, w8, w9, w10, w11⟩ := hW.ne
  -- what is kept of the other one
  have keepB : ∀ h', kp (· ∈ F) h h' → h' b = some (aObj 3 [.ref tl2, .ref ls2, .ref lo2, .ref ar, .int (i3 p.n), .int (i3 p.m), .int (i3 sec), .int (bI p.dg)]) := fun h' k => k _ _ ho2 hbF
  have hIF : ∀ q, I q → ¬ q ∈ F := fun q hq z => hW.2.2.1 q z hq
  refine A_X3_setAll hl (vR_mk ho2 rfl (vR_mk ho rfl ⟨by decide, vCpyI_mk (sp := 0) (dp := 0) (n := 20) hW2.2.2.2.2.1 hW.2.2.2.2.1 rfl rfl rfl (by decide) (by decide) (by decide) (by decide) ?_⟩))
  have k1 : kp (· = tl) h (aUp h tl (aInts .int 20 (va_cpy T2 T 0 0 20))) := kp.up rfl
  have hW1 : PW I (aUp h tl (aInts .int 20 (va_cpy T2 T 0 0 20))) a F tl ls lo rw aro (va_cpy T2 T 0 0 20) x4 x5 x6 x7 := by
    refine hW.kp k1 w1 (Ne.symm w5) (fun q hq e => hIF q hq (by rw [e]; exact m2)) aUp_eq (fun i hi => ?_) ?_
    · obtain ⟨f, y⟩ := hW.2.2.2.2.2.2.1 i hi
      exact ⟨f, by rw [aUp_ne (Ne.symm (w7 i hi))]; exact y⟩
    · obtain ⟨L, y⟩ := hW.2.2.2.2.2.2.2.1
      exact ⟨L, by rw [aUp_ne (Ne.symm w6)]; exact y⟩
  generalize hh1 : aUp h tl (aInts .int 20 (va_cpy T2 T 0 0 20)) = h1 at hW1 k1 ⊢
  have q1 : kp (· ∈ F) h h1 := k1.mono fun q e => by rw [e]; exact m2
  have hTc : ∀ e, e < 20 → va_cpy T2 T 0 0 20 e = letV (p.tl e) := by
    intro e he
    unfold va_cpy
    rw [if_pos (by omega), Nat.zero_add, Nat.sub_zero]; exact hT e he
  have har1 : ∀ h', kp (· ∈ F) h h' → ARR I h' ar p.n p.m := fun h' k => hA.kp k hIF (fun _ h => h)
  refine vI_mk (keepB h1 q1) rfl (vPut_mk hW1.2.2.2.1 (by show 4 < 8; decide) ?_)
  have hWa : PW I (aUp h1 a (.inr (3, [Value.ref tl, .ref ls, .ref lo, va_rf aro, .int x4, .int x5, .int x6, .int x7].set 4 (.int (i3 p.n))))) a F tl ls lo rw aro (va_cpy T2 T 0 0 20) (i3 p.n) x5 x6 x7 := hW1.obj hW1.2.2.2.2.2.2.2.2
  have qa : kp (· ∈ F) h1 (aUp h1 a (.inr (3, [Value.ref tl, .ref ls, .ref lo, va_rf aro, .int x4, .int x5, .int x6, .int x7].set 4 (.int (i3 p.n))))) := kp.up m1
  generalize aUp h1 a (.inr (3, [Value.ref tl, .ref ls, .ref lo, va_rf aro, .int x4, .int x5, .int x6, .int x7].set 4 (.int (i3 p.n)))) = h2 at hWa qa ⊢
  have q2 := q1.tr qa
  refine vI_mk (keepB h2 q2) rfl (vPut_mk hWa.2.2.2.1 (by show 5 < 8; decide) ?_)
  have hWb : PW I (aUp h2 a (.inr (3, [Value.ref tl, .ref ls, .ref lo, va_rf aro, .int (i3 p.n), .int x5, .int x6, .int x7].set 5 (.int (i3 p.m))))) a F tl ls lo rw aro (va_cpy T2 T 0 0 20) (i3 p.n) (i3 p.m) x6 x7 := hWa.obj hWa.2.2.2.2.2.2.2.2
  have qb : kp (· ∈ F) h2 (aUp h2 a (.inr (3, [Value.ref tl, .ref ls, .ref lo, va_rf aro, .int (i3 p.n), .int x5, .int x6, .int x7].set 5 (.int (i3 p.m))))) := kp.up m1
  generalize aUp h2 a (.inr (3, [Value.ref tl, .ref ls, .ref lo, va_rf aro, .int (i3 p.n), .int x5, .int x6, .int x7].set 5 (.int (i3 p.m)))) = h3 at hWb qb ⊢
  have q3 := q2.tr qb
  refine vI_mk (keepB h3 q3) rfl (vPut_mk hWb.2.2.2.1 (by show 6 < 8; decide) ?_)
  have hWc : PW I (aUp h3 a (.inr (3, [Value.ref tl, .ref ls, .ref lo, va_rf aro, .int (i3 p.n), .int (i3 p.m), .int x6, .int x7].set 6 (.int (i3 sec))))) a F tl ls lo rw aro (va_cpy T2 T 0 0 20) (i3 p.n) (i3 p.m) (i3 sec) x7 := hWb.obj hWb.2.2.2.2.2.2.2.2
  have qc : kp (· ∈ F) h3 (aUp h3 a (.inr (3, [Value.ref tl, .ref ls, .ref lo, va_rf aro, .int (i3 p.n), .int (i3 p.m), .int x6, .int x7].set 6 (.int (i3 sec))))) := kp.up m1
  generalize aUp h3 a (.inr (3, [Value.ref tl, .ref ls, .ref lo, va_rf aro, .int (i3 p.n), .int (i3 p.m), .int x6, .int x7].set 6 (.int (i3 sec)))) = h4 at hWc qc ⊢
  have q4 := q3.tr qc
  refine vI_mk (keepB h4 q4) rfl ⟨vB_bI, vPut_mk hWc.2.2.2.1 (by show 7 < 8; decide) ?_⟩
  have hWd : PW I (aUp h4 a (.inr (3, [Value.ref tl, .ref ls, .ref lo, va_rf aro, .int (i3 p.n), .int (i3 p.m), .int (i3 sec), .int x7].set 7 (.int (bI p.dg))))) a F tl ls lo rw aro (va_cpy T2 T 0 0 20) (i3 p.n) (i3 p.m) (i3 sec) (bI p.dg) := hWc.obj hWc.2.2.2.2.2.2.2.2
  have qd : kp (· ∈ F) h4 (aUp h4 a (.inr (3, [Value.ref tl, .ref ls, .ref lo, va_rf aro, .int (i3 p.n), .int (i3 p.m), .int (i3 sec), .int x7].set 7 (.int (bI p.dg))))) := kp.up m1
  generalize aUp h4 a (.inr (3, [Value.ref tl, .ref ls, .ref lo, va_rf aro, .int (i3 p.n), .int (i3 p.m), .int (i3 sec), .int x7].set 7 (.int (bI p.dg)))) = h5 at hWd qd ⊢
  have q5 := q4.tr qd
  refine vO_mk (x := some ar) (keepB h5 q5) rfl (vPut_mk hWd.2.2.2.1 (by show 3 < 8; decide) ?_)
  have hWe : PW I (aUp h5 a (.inr (3, [Value.ref tl, .ref ls, .ref lo, va_rf aro, .int (i3 p.n), .int (i3 p.m), .int (i3 sec), .int (bI p.dg)].set 3 (va_rf (some ar))))) a F tl ls lo rw (some ar) (va_cpy T2 T 0 0 20) (i3 p.n) (i3 p.m) (i3 sec) (bI p.dg) := hWd.obj (fun ar' he => by cases he; exact ⟨_, _, hok, har1 h5 q5⟩)
  have qe : kp (· ∈ F) h5 (aUp h5 a (.inr (3, [Value.ref tl, .ref ls, .ref lo, va_rf aro, .int (i3 p.n), .int (i3 p.m), .int (i3 sec), .int (bI p.dg)].set 3 (va_rf (some ar))))) := kp.up m1
  generalize aUp h5 a (.inr (3, [Value.ref tl, .ref ls, .ref lo, va_rf aro, .int (i3 p.n), .int (i3 p.m), .int (i3 sec), .int (bI p.dg)].set 3 (va_rf (some ar)))) = h6 at hWe qe ⊢
  have q6 := q5.tr qe
  have hI6 : ∀ q, I q → h6 q ≠ none := by
    intro q hq
    cases w : h q with
    | none => exact absurd w (hI0 q hq)
    | some y => rw [q6 _ _ w (hIF q hq)]; simp
  refine ⟨⟨_, hWe.2.2.2.1⟩, ?_⟩
  refine vC_r (B_prepare hl hok hWe hb hTc hs1 hs2 hI6) (by decide) (by decide) (by decide) fun v h7 hR => ?_
  have hv := hR.1
  subst hv
  exact ⟨rfl, hR.mono q6⟩
theorem B_told (hl : l.stackTraces = false) (hP : PZ I h a F p) : aC l G mX3_told (wsN mX3_told) 1 0 0 [.ref a] h (aP1 (some (.int (i3 (toldN p)))) h) := by
  have hP0 := hP
  have hok := hP.ok
  have hn := hok.n45
  have hm := hok.m24
  obtain ⟨tl, ls, lo, rw, ar, T, sec, hW, hA, hb, hT, -⟩ := hP.pw
  have ho := hW.2.2.2.1
  refine A_X3_told hl ?_
  have key := vloop (N := 4 * p.n) (T := fun j => T_X3_told_4 l G 1 0 0 (aP1 (some (.int (i3 (toldN p)))) h) a (i3 (sumB (fun e => decide (0 < p.tl e)) j)) (i3 j) h 0 0) ?_ ?_ 0 (Nat.zero_le _)
  · exact key
  · refine A_X3_told_4 hl ⟨⟨_, ho⟩, ?_⟩
    exact vC_p (B_edgeCount hl hP0) (by decide) (by decide) (by decide) ⟨_, rfl, fun _ => ⟨rfl, rfl⟩, fun q => absurd (by rw [i3_le (by omega) (by omega)]; exact Nat.le_refl _) q⟩
  · intro j hj ih
    refine A_X3_told_4 hl ⟨⟨_, ho⟩, ?_⟩
    refine vC_p (B_edgeCount hl hP0) (by decide) (by decide) (by decide) ⟨_, rfl, fun q => absurd (by rwa [i3_le (by omega) (by omega)] at q) (by omega : ¬ 4 * p.n ≤ j), fun _ => vR_mk ho rfl (vA_mk hW.2.2.2.2.1 rfl (by omega : j < 20) (by decide) fun v hv => ?_)⟩
    have hbj := hb j (by omega)
    have e1 : (letV (p.tl j) = -1) = (p.tl j = 0) := by
      unfold letV
      by_cases q : p.tl j = 0
      · rw [if_pos q]; simp [q]
      · rw [if_neg q, i3_m1 (by omega)]; simp [q]
    rw [hT j (by omega)] at hv
    simp only [e1] at hv
    have : v = i3 (sumB (fun e => decide (0 < p.tl e)) (j + 1)) := by
      rw [hv, sumB_succ, ← i3_add]
      congr 1
      by_cases q : p.tl j = 0
      · rw [if_pos q, decide_eq_false (by omega)]; rfl
      · rw [if_neg q, decide_eq_true (by omega)]; rfl
    rw [this, i3_succ]
    exact ih
theorem B_tell3 (hl : l.stackTraces = false) (hP : PZ I h a F p) {e t : Nat} (he : e < 20) (ht : t ≤ 2 * p.m) : aC l G mX3_tell (wsN mX3_tell) 0 0 0 [.ref a, .int (i3 e), .int (letV t), .int (bI (t != 0 && t % 2 == 0))] h (aPR fun v h' => v = some (.int (letV (p.tl e))) ∧ kp (· ∈ F) h h' ∧ PZ I h' a F (p.setT e t)) := by
  have hok := hP.ok
  obtain ⟨tl, ls, lo, rw, ar, T, sec, hW, hA, hb, hT, hs1, hs2, hr, L, hlo, hlo2⟩ := hP.pw
  have ho := hW.2.2.2.1
  obtain ⟨m1, m2, m3, m4, m5⟩ := hW.mem
  obtain ⟨w1, w2, w3, w4, w5, w6, w7, w8, w9, w10, w11⟩ := hW.ne
  have k1 : kp (· = tl) h (aUp h tl (aInts .int 20 (upd T e (letV t)))) := kp.up rfl
  have hIt : ∀ q, I q → ¬ q = tl := fun q hq z => hW.2.2.1 tl m2 (by rw [← z]; exact hq)
  have hIa : ∀ q, I q → ¬ q = a := fun q hq z => hW.2.2.1 a m1 (by rw [← z]; exact hq)
  have hW1 : PW I (aUp h tl (aInts .int 20 (upd T e (letV t)))) a F tl ls lo rw (some ar) (upd T e (letV t)) (i3 p.n) (i3 p.m) (i3 sec) (bI p.dg) := by
    refine hW.kp k1 w1 (Ne.symm w5) hIt aUp_eq (fun i hi => ?_) ⟨L, by rw [aUp_ne (Ne.symm w6)]; exact hlo⟩
    obtain ⟨f, y, -⟩ := hr i hi
    exact ⟨f, by rw [aUp_ne (Ne.symm (w7 i hi))]; exact y⟩
  obtain ⟨s', hs', hsb⟩ : ∃ s', (i3 sec &&& (((1 : Int32) <<< (i3 e &&& 31)) ^^^ ((-1) : Int32))) ||| (if bI (t != 0 && t % 2 == 0) = 0 then (0 : Int32) else (1 : Int32) <<< (i3 e &&& 31)) = i3 s' ∧ s' = (clr sec e ||| if (t != 0 && t % 2 == 0) then 1 <<< e else 0) := by
    refine ⟨_, ?_, rfl⟩
    rw [i3_clr (by omega), i3_one (by omega)]
    cases (t != 0 && t % 2 == 0) with
    | false => exact i3_or (clr sec e) 0
    | true => exact i3_or _ _
  have h1e : 1 <<< e < 2 ^ 20 := by rw [Nat.one_shiftLeft]; exact Nat.pow_lt_pow_right (by decide) he
  have hs1' : s' < 2 ^ 20 := by
    rw [hsb]
    refine Nat.or_lt_two_pow (clr_lt hs1) ?_
    split
    · exact h1e
    · decide
  have hs2' : ∀ x, x < 20 → s'.testBit x = ((p.setT e t).tl x != 0 && (p.setT e t).tl x % 2 == 0) := by
    intro x hx
    show _ = ((if x = e then t else p.tl x) != 0 && (if x = e then t else p.tl x) % 2 == 0)
    rw [hsb, Nat.testBit_or, clr_bit]
    by_cases q : x = e
    · subst q
      rw [if_pos rfl]
      cases (t != 0 && t % 2 == 0) <;> simp [tbs]
    · have h0 : (if (t != 0 && t % 2 == 0) = true then 1 <<< e else 0).testBit x = false := by
        split
        · rw [tbs, decide_eq_false q]
        · exact Nat.zero_testBit x
      rw [if_neg q, hs2 x hx, h0, Bool.or_false, decide_eq_true q, Bool.and_true]
  refine A_X3_tell hl (vR_mk ho rfl (vA_mk hW.2.2.2.2.1 rfl he (by decide) (vR_mk ho rfl (vSt_mk hW.2.2.2.2.1 rfl he (by decide) (vI_mk hW1.2.2.2.1 rfl (vPut_mk hW1.2.2.2.1 (by show 6 < 8; decide) ?_))))))
  rw [hs']
  have hW2 : PW I (aUp (aUp h tl (aInts .int 20 (upd T e (letV t)))) a (.inr (3, [Value.ref tl, .ref ls, .ref lo, va_rf (some ar), .int (i3 p.n), .int (i3 p.m), .int (i3 sec), .int (bI p.dg)].set 6 (.int (i3 s'))))) a F tl ls lo rw (some ar) (upd T e (letV t)) (i3 p.n) (i3 p.m) (i3 s') (bI p.dg) := hW1.obj hW1.2.2.2.2.2.2.2.2
  have k2 : kp (· ∈ F) h (aUp (aUp h tl (aInts .int 20 (upd T e (letV t)))) a (.inr (3, [Value.ref tl, .ref ls, .ref lo, va_rf (some ar), .int (i3 p.n), .int (i3 p.m), .int (i3 sec), .int (bI p.dg)].set 6 (.int (i3 s'))))) := (k1.mono fun q z => by rw [z]; exact m2).tr (kp.up m1)
  refine ⟨by rw [hT e he], k2, PW.pz (p := p.setT e t) hok hW2 (hA.kp k2 (fun q hq z => hW.2.2.1 q z hq) (fun _ h => h)) (fun x hx => ?_) (fun x hx => ?_) hs1' hs2' (fun i hi => ?_) (L := L) ?_ hlo2⟩
  · show (if x = e then t else p.tl x) ≤ 2 * p.m
    split
    · exact ht
    · exact hb x hx
  · show upd T e (letV t) x = letV (if x = e then t else p.tl x)
    by_cases q : x = e
    · rw [q, upd_same, if_pos rfl]
    · rw [upd_ne q, if_neg q]; exact hT x hx
  · obtain ⟨f, y1, y2⟩ := hr i hi
    exact ⟨f, by rw [aUp_ne (Ne.symm (w4 i hi)), aUp_ne (Ne.symm (w7 i hi))]; exact y1, y2⟩
  · rw [aUp_ne (Ne.symm w3), aUp_ne (Ne.symm w6)]; exact hlo
end PZM
