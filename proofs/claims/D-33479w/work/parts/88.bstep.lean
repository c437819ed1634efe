/-! reasons and steps on a board
-/
set_option maxRecDepth 100000
section BST
variable {l : Launch} {G : aG} {I : Nat → Prop} {h : aH} {b a th t th2 : Nat} {F : List Nat} {p : Pz} {u : Nat → Nat}
/-- the board stays, the other one may change -/
def stay (I : Nat → Prop) (h : aH) (b a th t th2 : Nat) (F : List Nat) (p : Pz) (u : Nat → Nat) (h' : aH) : Prop := kp (· = th2) h h' ∧ BD I h' b a th F p u ∧ TB I h' b th a t th2 F p
theorem stay.rf (hB : BD I h b a th F p u) (hT : TB I h b th a t th2 F p) : stay I h b a th t th2 F p u h := ⟨kp.rf, hB, hT⟩
theorem stay.tr {h1 h2 : aH} (x : stay I h b a th t th2 F p u h1) (y : stay I h1 b a th t th2 F p u h2) : stay I h b a th t th2 F p u h2 := ⟨x.1.tr y.1, y.2⟩
theorem B_breaksAs (hl : l.stackTraces = false) (hB : BD I h b a th F p u) (hT : TB I h b th a t th2 F p) {c x : Nat} (hc : c < p.n * p.n) (hx : x ≤ p.m) :
    aC l G mX5_breaksAs (wsN mX5_breaksAs) 7 0 0 [.ref b, .int (i3 c), .int (i3 x), .ref t] h (aPR fun v h' => ∃ z, v = some (.int (bI z)) ∧ (z = true ↔ ¬ live p (setC u c (1 <<< x))) ∧ stay I h b a th t th2 F p u h') := by
  have hok := hB.ok
  have hn := hok.n45
  have hm := hok.m24
  have hnn := nn_le hn
  have hB0 := hB
  obtain ⟨hP, rb, f, hb, ht, hf, -⟩ := hB
  have hT0 := hT
  obtain ⟨⟨g, hR⟩, n1, n2, n3⟩ := hT
  have hR0 := hR
  obtain ⟨hP2, rb2, hb2, ht2, m1, m2, m3, m4⟩ := hR
  have hv : 1 <<< x < 2 ^ (p.m + 1) := by rw [Nat.one_shiftLeft]; exact Nat.pow_lt_pow_right (by decide) (by omega)
  refine A_X5_breaksAs hl ⟨⟨_, hb2⟩, ?_⟩
  refine vC_r (B_setThings hl hb ht hb2 ht2) (by decide) (by decide) (by decide) fun v h1 hR1 => ⟨hR1.1, ?_⟩
  obtain ⟨-, k1, g1, e1, f1⟩ := hR1
  have hr1 := hR0.set k1 e1
  obtain ⟨hP3, rb3, hb3, ht3, -⟩ := hr1
  refine vR_mk hb3 rfl (vSt_mk ht3 rfl (by omega : c < 25) (by decide) ⟨⟨_, (by rw [aUp_ne (fun e => by rw [e, ht3] at hb3; cases hb3)]; exact hb3)⟩, ?_⟩)
  rw [i3_one (by omega)]
  have k2 : kp (· = th2) h (aUp h1 th2 (aInts .int 25 (upd g1 c (i3 (1 <<< x))))) := k1.tr (kp.up rfl)
  have hB1 : BD I (aUp h1 th2 (aInts .int 25 (upd g1 c (i3 (1 <<< x))))) t a th2 F p (setC u c (1 <<< x)) := (hR0.set k2 aUp_eq).bd fun q hq => by
    by_cases e : q = c
    · subst e; rw [upd_same, setC_eq]; exact ⟨rfl, hv⟩
    · rw [upd_ne e, setC_ne e, f1 q (by omega)]; exact hf q hq
  refine vC_r (B_fill hl hB1) (by decide) (by decide) (by decide) fun v h2 hR2 => ?_
  obtain ⟨u', hv2, k3, hB2, hle, hkeep, hcl⟩ := hR2
  refine ⟨hv2, ?_⟩
  have hB3 := hB2
  obtain ⟨_, _, f3, hb4, ht4, -⟩ := hB2
  refine ⟨⟨_, hb4⟩, ?_⟩
  refine vC_p (B_isBroken hl hB3) (by decide) (by decide) (by decide) ⟨_, rfl, vB_bI, _, rfl, clsd_live hok hcl hle hkeep, k2.tr k3, hB0.oth (k2.tr k3) n1 n2 m2 m4, hT0.mine (k2.tr k3) ht4⟩
theorem rows_of {c i : Nat} (hok : okNM p.n p.m) (hc : c < p.n * p.n) (hi : (linesN p c).testBit i = true) : i < p.nL ∧ ∃ k, k < p.n ∧ cellN p.n i k = c := (linesN_bit hok.n45 hc).mp hi
theorem B_holds (hl : l.stackTraces = false) (hB : BD I h b a th F p u) (hT : TB I h b th a t th2 F p) (hbr : brkB p u = false) {r c x : Nat} (hc : c < p.n * p.n) (hx : x ≤ p.m) (hr : 1 ≤ r ∧ r ≤ 6) :
    aC l G mX5_holds (wsN mX5_holds) 8 0 0 [.ref b, .int (i3 r), .int (i3 c), .int (i3 x), .ref t] h (aPR fun v h' => ∃ z, v = some (.int (bI z)) ∧ (z = true ↔ holdP p u r c x) ∧ stay I h b a th t th2 F p u h') := by
  have hok := hB.ok
  have hn := hok.n45
  have hm := hok.m24
  have hnn := nn_le hn
  have hL := nL_le hok
  have hB0 := hB
  obtain ⟨hP, rb, f, hb, ht, hf, -⟩ := hB
  obtain ⟨tl, ls, lo, ar, rw, T, L, R, sec, -, -, -, -, -, ho, -, -, -, hls, hrw, hlo, hlo2, hA⟩ := hP
  have hll := linesN_lt hn hc
  have h12 := pow12 hok
  have e6 : (i3 r = 6) = (r = 6) := i3_eq (b := 6) (by omega) (by decide)
  refine A_X5_holds hl ?_
  unfold V_X5_holds_0
  simp only [e6]
  refine ⟨fun q => vR_mk hb rfl (vR_mk ho rfl (vA_mk hlo rfl (by omega : c < 25) (by decide) ?_)), fun q => ⟨⟨_, hb⟩, ?_⟩⟩
  · rw [hlo2 c hc]
    obtain ⟨res, hres⟩ : ∃ res, res = holdB p u r c x := ⟨_, rfl⟩
    have fin : ∀ z, z = res → (∃ z', some (Value.int (bI z)) = some (.int (bI z')) ∧ (z' = true ↔ holdP p u r c x) ∧ stay I h b a th t th2 F p u h) := by
      intro z hz
      refine ⟨z, rfl, ?_, stay.rf hB0 hT⟩
      unfold holdP
      rw [if_neg q, hz, hres]
    have key : ∀ (k s : Nat), s < k → s < 4096 → (∀ i, s.testBit i = true → (linesN p c).testBit i = true) → (∀ i, (linesN p c).testBit i = true → s.testBit i = false → rB p u r i c x = false) → T_X5_holds_29 l G 8 0 0 (aPR fun v h' => ∃ z, v = some (.int (bI z)) ∧ (z = true ↔ holdP p u r c x) ∧ stay I h b a th t th2 F p u h') b (i3 r) (i3 c) (i3 x) (bI false) (i3 s) h 0 0 := by
      intro k
      induction k with
      | zero => intro s hs; omega
      | succ k ih =>
        intro s hs hs2 hsub hdone
        have ez : (i3 s = 0) = (s = 0) := i3_eq (b := 0) (by omega) (by decide)
        refine A_X5_holds_29 hl ?_
        unfold V_X5_holds_29
        simp only [ez]
        refine ⟨fun q => ⟨vB_bI, fin false ?_⟩, fun q => ⟨fun q2 => absurd rfl q2, fun _ => ?_⟩⟩
        · have : ¬ res = true := by
            rw [hres]
            unfold holdB
            rw [any_range]
            rintro ⟨i, hi, z⟩
            rw [Bool.and_eq_true] at z
            have := hdone i z.1 (by rw [q, Nat.zero_testBit])
            rw [this] at z; cases z.2
          cases res with
          | false => rfl
          | true => exact absurd rfl this
        · obtain ⟨n1, n2, n3⟩ := ntz_spec q hs2
          obtain ⟨hlt, k0, hk0, ek⟩ := rows_of hok hc (hsub _ n1)
          have hbi := brkB_iff.mp hbr _ hlt
          refine vC_p (B_ntz hl hs2 q) (by decide) (by decide) (by decide) ⟨_, rfl, ⟨_, hb⟩, ?_⟩
          have hH := B_holdsIn (G := G) hl hB0 hlt hk0 hx (r := r) (by omega)
          rw [ek] at hH
          refine vC_p hH (by decide) (by decide) (by decide) ⟨_, rfl, ?_⟩
          have hrc := rC_eq (t := x) (r := r) hok hlt hk0 hbi
          rw [ek] at hrc
          rw [hrc]
          obtain ⟨s', hs', e1, e2⟩ := rest_step hs2 q
          rw [e1]
          cases hbk : rB p u r (ntz s) c x with
          | true =>
            refine A_X5_holds_29 hl ?_
            have hr1 : true = res := by
              rw [hres]
              unfold holdB
              exact (any_range.mpr ⟨_, hlt, by rw [hsub _ n1, hbk]; rfl⟩).symm
            exact ⟨fun _ => ⟨vB_bI, fin true hr1⟩, fun _ => ⟨fun _ => ⟨vB_bI, fin true hr1⟩, fun z => by cases z⟩⟩
          | false =>
            refine ih s' (by omega) (by omega) (fun i hi => hsub i (by rw [e2, Bool.and_eq_true] at hi; exact hi.1)) (fun i hi hz => ?_)
            rw [e2] at hz
            by_cases z : s.testBit i = true
            · rw [z, Bool.true_and] at hz
              have : i = ntz s := by simpa using hz
              rw [this]; exact hbk
            · exact hdone i hi (by simpa using z)
    exact key (linesN p c + 1) (linesN p c) (by omega) (by omega) (fun i hi => hi) (fun i h1 h2 => by rw [h1] at h2; cases h2)
  · refine vC_r (B_breaksAs hl hB0 hT hc hx) (by decide) (by decide) (by decide) fun v h1 hR1 => ?_
    obtain ⟨z, rfl, hz, hs⟩ := hR1
    refine ⟨_, rfl, vB_bI, z, rfl, ?_, hs⟩
    unfold holdP
    rw [if_pos q]
    exact hz
/-- the first reason for a thing -/
def rsnX (p : Pz) (u : Nat → Nat) (c x : Nat) (v : Int32) : Prop := (∃ r, 1 ≤ r ∧ r ≤ 6 ∧ holdP p u r c x ∧ (∀ r', 1 ≤ r' → r' < r → ¬ holdP p u r' c x) ∧ v = i3 r) ∨ ((∀ r, 1 ≤ r → r ≤ 6 → ¬ holdP p u r c x) ∧ v = 0)
theorem rsnX_uniq {c x : Nat} {v w : Int32} (h1 : rsnX p u c x v) (h2 : rsnX p u c x w) : v = w := by
  rcases h1 with ⟨r, a1, a2, a3, a4, rfl⟩ | ⟨a, rfl⟩
  · rcases h2 with ⟨s, b1, b2, b3, b4, rfl⟩ | ⟨b, rfl⟩
    · rcases Nat.lt_trichotomy r s with q | q | q
      · exact absurd a3 (b4 r a1 q)
      · rw [q]
      · exact absurd b3 (a4 s b1 q)
    · exact absurd a3 (b r a1 a2)
  · rcases h2 with ⟨s, b1, b2, b3, b4, rfl⟩ | ⟨b, rfl⟩
    · exact absurd b3 (a s b1 b2)
    · rfl
theorem B_reasonFor (hl : l.stackTraces = false) (hB : BD I h b a th F p u) (hT : TB I h b th a t th2 F p) (hbr : brkB p u = false) {c x : Nat} (hc : c < p.n * p.n) (hx : x ≤ p.m) :
    aC l G mX5_reasonFor (wsN mX5_reasonFor) 9 0 0 [.ref b, .int (i3 c), .int (i3 x), .ref t] h (aPR fun v h' => ∃ y, v = some (.int y) ∧ rsnX p u c x y ∧ stay I h b a th t th2 F p u h') := by
  refine A_X5_reasonFor hl ?_
  have key := vloop (N := 7) (T := fun r => 1 ≤ r → (∀ r', 1 ≤ r' → r' < r → ¬ holdP p u r' c x) → ∀ h1, stay I h b a th t th2 F p u h1 → T_X5_reasonFor_3 l G 9 0 0 (aPR fun v h' => ∃ y, v = some (.int y) ∧ rsnX p u c x y ∧ stay I h b a th t th2 F p u h') b (i3 c) (i3 x) t (i3 r) h1 0 0) ?_ ?_ 1 (by decide) (by decide) (fun r' h1 h2 => by omega) h (stay.rf hB hT)
  · exact key
  · intro _ hno h1 hs
    refine A_X5_reasonFor_3 hl ⟨fun _ => ⟨_, rfl, Or.inr ⟨fun r q1 q2 => hno r q1 (by omega), rfl⟩, hs⟩, fun q => absurd (by decide) q⟩
  · intro r hr ih h0 hno h1 hs
    have hs0 := hs
    obtain ⟨k1, hB1, hT1⟩ := hs
    have hB2 := hB1
    obtain ⟨_, _, _, hb1, -⟩ := hB1
    have e6 : ((6 : Int32) < i3 r) = (6 < r) := i3_lt (a := 6) (by decide) (by omega)
    refine A_X5_reasonFor_3 hl ?_
    unfold V_X5_reasonFor_3
    simp only [e6, i3_succ]
    refine ⟨fun q => by omega, fun _ => ⟨⟨_, hb1⟩, ?_⟩⟩
    refine vC_r (B_holds hl hB2 hT1 hbr hc hx (r := r) (by omega)) (by decide) (by decide) (by decide) fun v h2 hR2 => ?_
    obtain ⟨z, rfl, hz, hs2⟩ := hR2
    refine ⟨_, rfl, ?_⟩
    simp only [bI_eq0]
    refine ⟨fun q => ih (by omega) (fun r' a1 a2 => ?_) h2 (hs0.tr hs2), fun q => ⟨_, rfl, Or.inl ⟨r, h0, by omega, hz.mp (by simpa using q), hno, rfl⟩, hs0.tr hs2⟩⟩
    rcases Nat.lt_or_ge r' r with y | y
    · exact hno r' a1 y
    · have : r' = r := by omega
      subst this
      intro hh
      have := hz.mpr hh
      rw [q] at this; cases this
/-- the first step for a reason -/
def fstX (p : Pz) (u : Nat → Nat) (r : Nat) (v : Int32) : Prop :=
  (∃ c x, c < p.n * p.n ∧ x ≤ p.m ∧ (u c).testBit x = true ∧ pc (u c) ≠ 1 ∧ holdP p u r c x ∧ (∀ c' x', c' < p.n * p.n → x' ≤ p.m → (u c').testBit x' = true → pc (u c') ≠ 1 → holdP p u r c' x' → ¬ (c' < c ∨ c' = c ∧ x' < x)) ∧ v = i3 (10 * c + x)) ∨
  ((∀ c x, c < p.n * p.n → x ≤ p.m → (u c).testBit x = true → pc (u c) ≠ 1 → ¬ holdP p u r c x) ∧ v = -1)
theorem B_nextFor (hl : l.stackTraces = false) (hB : BD I h b a th F p u) (hT : TB I h b th a t th2 F p) (hbr : brkB p u = false) {r : Nat} (hr : 1 ≤ r ∧ r ≤ 6) :
    aC l G mX5_nextFor (wsN mX5_nextFor) 9 0 0 [.ref b, .int (i3 r), .ref t] h (aPR fun v h' => ∃ y, v = some (.int y) ∧ fstX p u r y ∧ stay I h b a th t th2 F p u h') := by
  have hok := hB.ok
  have hn := hok.n45
  have hm := hok.m24
  have hnn := nn_le hn
  have h32 := pow_le hm.2.2
  have hbnd := hB.bnd
  refine A_X5_nextFor hl ?_
  have key := vloop (N := p.n * p.n) (T := fun c => (∀ c' x', c' < c → c' < p.n * p.n → x' ≤ p.m → (u c').testBit x' = true → pc (u c') ≠ 1 → ¬ holdP p u r c' x') → ∀ h1, stay I h b a th t th2 F p u h1 → T_X5_nextFor_2 l G 9 0 0 (aPR fun v h' => ∃ y, v = some (.int y) ∧ fstX p u r y ∧ stay I h b a th t th2 F p u h') b (i3 r) t (i3 c) h1 0 0) ?_ ?_ 0 (Nat.zero_le _) (fun c' x' h1 => by omega) h (stay.rf hB hT)
  · exact key
  · intro hno h1 hs
    obtain ⟨k1, hB1, hT1⟩ := hs
    have hB2 := hB1
    obtain ⟨hP1, _, _, hb1, -⟩ := hB1
    have hP0 := hP1
    obtain ⟨tl, ls, lo, ar, rw, T, L, R, sec, -, -, -, -, -, ho, -⟩ := hP1
    refine A_X5_nextFor_2 hl (vR_mk hb1 rfl ⟨⟨_, ho⟩, ?_⟩)
    exact vC_p (B_cellCount hl hP0) (by decide) (by decide) (by decide) ⟨_, rfl, fun _ => ⟨_, rfl, Or.inr ⟨fun c x hc => hno c x hc hc, rfl⟩, k1, hB2, hT1⟩, fun q => absurd (by rw [i3_le (by omega) (by omega)]; exact Nat.le_refl _) q⟩
  · intro c hc ih hno h1 hs
    -- from a rest of things on
    have things : ∀ (k s : Nat), s < k → s < 4096 → pc (u c) ≠ 1 → (∀ i, s.testBit i = true → (u c).testBit i = true) → (∀ i, i ≤ p.m → (u c).testBit i = true → s.testBit i = false → ¬ holdP p u r c i) → (∀ i j, s.testBit i = true → (u c).testBit j = true → s.testBit j = false → j < i) → ∀ h2, stay I h b a th t th2 F p u h2 → T_X5_nextFor_33 l G 9 0 0 (aPR fun v h' => ∃ y, v = some (.int y) ∧ fstX p u r y ∧ stay I h b a th t th2 F p u h') b (i3 r) t (i3 c) (i3 s) h2 0 0 := by
      intro k
      induction k with
      | zero => intro s hs; omega
      | succ k ihk =>
        intro s hs1 hs2 hp hsub hdone hord h2 hs
        have ez : (i3 s = 0) = (s = 0) := i3_eq (b := 0) (by omega) (by decide)
        refine A_X5_nextFor_33 hl ?_
        unfold V_X5_nextFor_33
        simp only [ez]
        refine ⟨fun q => ?_, fun q => ?_⟩
        · rw [i3_succ]
          refine ih (fun c' x' h1 h2 h3 h4 h5 => ?_) h2 hs
          rcases Nat.lt_or_ge c' c with y | y
          · exact hno c' x' y h2 h3 h4 h5
          · have : c' = c := by omega
            subst this
            exact hdone x' h3 h4 (by rw [q, Nat.zero_testBit])
        · obtain ⟨n1, n2, n3⟩ := ntz_spec q hs2
          have hx : ntz s ≤ p.m := bit_le (hbnd c hc) (hsub _ n1)
          have hs0 := hs
          obtain ⟨k1, hB1, hT1⟩ := hs
          have hB2 := hB1
          obtain ⟨_, _, _, hb1, -⟩ := hB1
          refine vC_p (B_ntz hl hs2 q) (by decide) (by decide) (by decide) ⟨_, rfl, ⟨_, hb1⟩, ?_⟩
          refine vC_r (B_holds hl hB2 hT1 hbr hc hx hr) (by decide) (by decide) (by decide) fun v h3 hR3 => ?_
          obtain ⟨z, rfl, hz, hs3⟩ := hR3
          refine ⟨_, rfl, ?_⟩
          simp only [bI_eq0]
          obtain ⟨s', hs', e1, e2⟩ := rest_step hs2 q
          refine ⟨fun q2 => ?_, fun q2 => ?_⟩
          · rw [e1]
            refine ihk s' (by omega) (by omega) hp (fun i hi => hsub i (by rw [e2, Bool.and_eq_true] at hi; exact hi.1)) (fun i hi hui hz2 => ?_) (fun i j hi huj hz2 => ?_) h3 (hs0.tr hs3)
            · rw [e2] at hz2
              by_cases y : s.testBit i = true
              · rw [y, Bool.true_and] at hz2
                have : i = ntz s := by simpa using hz2
                rw [this]
                intro hh
                have := hz.mpr hh
                rw [q2] at this; cases this
              · exact hdone i hi hui (by simpa using y)
            · rw [e2, Bool.and_eq_true] at hi
              rw [e2] at hz2
              by_cases y : s.testBit j = true
              · rw [y, Bool.true_and] at hz2
                have : j = ntz s := by simpa using hz2
                have hne : i ≠ ntz s := by simpa using hi.2
                rw [this]
                rcases Nat.lt_trichotomy i (ntz s) with w | w | w
                · have := n3 i w; rw [this] at hi; cases hi.1
                · exact absurd w hne
                · exact w
              · exact hord i j hi.1 huj (by simpa using y)
          · have e10 : (10 : Int32) * i3 c = i3 (10 * c) := i3_mul 10 c
            rw [e10, i3_add]
            refine ⟨_, rfl, Or.inl ⟨c, ntz s, hc, hx, hsub _ n1, hp, hz.mp (by simpa using q2), fun c' x' h1 h2 h3 h4 h5 hlt => ?_, rfl⟩, hs0.tr hs3⟩
            rcases hlt with y | ⟨y, y2⟩
            · exact hno c' x' y h1 h2 h3 h4 h5
            · subst y
              exact hdone x' h2 h3 (by
                cases w : s.testBit x' with
                | false => rfl
                | true => have := n3 x' y2; rw [this] at w; cases w) h5
    have hs0 := hs
    obtain ⟨k1, hB1, hT1⟩ := hs
    have hB2 := hB1
    obtain ⟨hP1, _, f1, hb1, ht1, hf1, -⟩ := hB1
    have hP0 := hP1
    obtain ⟨tl, ls, lo, ar, rw, T, L, R, sec, -, -, -, -, -, ho, -⟩ := hP1
    refine A_X5_nextFor_2 hl (vR_mk hb1 rfl ⟨⟨_, ho⟩, ?_⟩)
    refine vC_p (B_cellCount hl hP0) (by decide) (by decide) (by decide) ⟨_, rfl, fun q => absurd (by rwa [i3_le (by omega) (by omega)] at q) (by omega : ¬ p.n * p.n ≤ c), fun _ => ⟨⟨_, hb1⟩, ?_⟩⟩
    refine vC_p (B_isSettled hl hB2 hc) (by decide) (by decide) (by decide) ⟨_, rfl, ?_⟩
    have hfc := hf1 c hc
    simp only [bI_eq0]
    refine ⟨fun q => vR_mk hb1 rfl (vA_mk ht1 rfl (by omega : c < 25) (by decide) ?_), fun q => ?_⟩
    · rw [hfc.1]
      exact things (u c + 1) (u c) (Nat.lt_succ_self _) (by omega) (by simpa using q) (fun i hi => hi) (fun i _ h1 h2 => by rw [h1] at h2; cases h2) (fun i j _ h1 h2 => by rw [h1] at h2; cases h2) h1 hs0
    · refine A_X5_nextFor_33 hl ⟨fun _ => ?_, fun q2 => absurd rfl q2⟩
      rw [i3_succ]
      refine ih (fun c' x' h1 h2 h3 h4 h5 => ?_) h1 hs0
      rcases Nat.lt_or_ge c' c with y | y
      · exact hno c' x' y h2 h3 h4 h5
      · have : c' = c := by omega
        subst this
        exact absurd (by simpa using q) h5
theorem brkSet_B (hok : okNM p.n p.m) : (brkSet p u = 0) = (brkB p u = false) := by rw [eq_iff_iff, brkSet_zero hok, brkB_iff]
theorem B_next (hl : l.stackTraces = false) (hB : BD I h b a th F p u) (hT : TB I h b th a t th2 F p) {most : Nat} (hmost : most ≤ 6) :
    aC l G mX5_next (wsN mX5_next) 10 0 0 [.ref b, .int (i3 most), .ref t] h (aPR fun v h' => ∃ y, v = some (.int y) ∧ stepX p u most y ∧ stay I h b a th t th2 F p u h') := by
  have hok := hB.ok
  have hn := hok.n45
  have hm := hok.m24
  have hnn := nn_le hn
  have hB0 := hB
  obtain ⟨hP, rb, f, hb, ht, hf, -⟩ := hB
  refine A_X5_next hl ⟨⟨_, hb⟩, ?_⟩
  refine vC_p (B_isBroken hl hB0) (by decide) (by decide) (by decide) ⟨_, rfl, ?_⟩
  simp only [bI_eq0]
  refine ⟨fun hbr => ?_, fun q => ⟨_, rfl, Or.inr ⟨Or.inl (by rw [Ne, brkSet_B hok]; exact q), rfl⟩, stay.rf hB0 hT⟩⟩
  have hbs : brkSet p u = 0 := by rw [brkSet_B hok]; exact hbr
  have key := vloop (N := most + 1) (T := fun r => 1 ≤ r → (∀ r' c' x', r' < r → ¬ cand p u most r' c' x') → ∀ h1, stay I h b a th t th2 F p u h1 → T_X5_next_11 l G 10 0 0 (aPR fun v h' => ∃ y, v = some (.int y) ∧ stepX p u most y ∧ stay I h b a th t th2 F p u h') b (i3 most) t (i3 r) h1 0 0) ?_ ?_ 1 (by omega) (by decide) (fun r' c' x' h1 hc => by have := hc.1; omega) h (stay.rf hB0 hT)
  · exact key
  · intro _ hno h1 hs
    refine A_X5_next_11 hl ⟨fun _ => ⟨_, rfl, Or.inr ⟨Or.inr fun r c x hc => ?_, rfl⟩, hs⟩, fun q => absurd (by rw [i3_lt (by omega) (by omega)]; exact Nat.lt_succ_self _) q⟩
    exact hno r c x (by have := hc.2.1; omega) hc
  · intro r hr ih h0 hno h1 hs
    have hs0 := hs
    obtain ⟨k1, hB1, hT1⟩ := hs
    have hB2 := hB1
    obtain ⟨_, _, _, hb1, -⟩ := hB1
    refine A_X5_next_11 hl ⟨fun q => absurd (by rwa [i3_lt (by omega) (by omega)] at q) (by omega : ¬ most < r), fun _ => ⟨⟨_, hb1⟩, ?_⟩⟩
    refine vC_r (B_nextFor hl hB2 hT1 hbr (r := r) (by omega)) (by decide) (by decide) (by decide) fun v h2 hR2 => ?_
    obtain ⟨y, rfl, hy, hs2⟩ := hR2
    refine ⟨_, rfl, fun q => ?_, fun q => ?_⟩
    · rw [i3_succ]
      refine ih (by omega) (fun r' c' x' h1 hc => ?_) h2 (hs0.tr hs2)
      rcases Nat.lt_or_ge r' r with w | w
      · exact hno r' c' x' w hc
      · have : r' = r := by omega
        subst this
        rcases hy with ⟨c, x, a1, a2, a3, a4, a5, a6, a7⟩ | ⟨a1, a2⟩
        · rw [a7, i3_m1 (by omega)] at q
          exact q
        · exact a1 c' x' hc.2.2.1 hc.2.2.2.1 hc.2.2.2.2.1 hc.2.2.2.2.2.1 hc.2.2.2.2.2.2
    · rcases hy with ⟨c, x, a1, a2, a3, a4, a5, a6, a7⟩ | ⟨a1, a2⟩
      · refine ⟨_, rfl, Or.inl ⟨r, c, x, ⟨hbs, ⟨h0, by omega, a1, a2, a3, a4, a5⟩, fun r' c' x' hc hlt => ?_⟩, ?_⟩, hs0.tr hs2⟩
        · rcases hlt with w | ⟨w, w2⟩
          · exact hno r' c' x' w hc
          · subst w
            exact a6 c' x' hc.2.2.1 hc.2.2.2.1 hc.2.2.2.2.1 hc.2.2.2.2.2.1 hc.2.2.2.2.2.2 w2
        · have e : (1000 : Int32) * i3 r = i3 (1000 * r) := i3_mul 1000 r
          rw [a7, e, i3_add, Nat.add_assoc]
      · exact absurd a2 q
theorem B_make (hl : l.stackTraces = false) (hB : BD I h b a th F p u) {r c x : Nat} (hr : r ≤ 6) (hc : c < p.n * p.n) (hx : x ≤ p.m) :
    aC l G mX5_make (wsN mX5_make) 0 0 0 [.ref b, .int (i3 (1000 * r + 10 * c + x))] h (aPR fun v h' => v = some (.int (i3 r)) ∧ kp (· = th) h h' ∧ BD I h' b a th F p (setC u c (clr (u c) x))) := by
  have hok := hB.ok
  have hn := hok.n45
  have hm := hok.m24
  have hnn := nn_le hn
  have hB0 := hB
  obtain ⟨hP, rb, f, hb, ht, hf, -⟩ := hB
  have e1 : i3 (1000 * r + 10 * c + x) - i3 (1000 * r + 10 * c + x) / 1000 * 1000 = i3 ((1000 * r + 10 * c + x) % 1000) := i3_rem (b := 1000) (by omega) (by decide)
  have e2 : i3 ((1000 * r + 10 * c + x) % 1000) / 10 = i3 ((1000 * r + 10 * c + x) % 1000 / 10) := i3_div (b := 10) (by omega) (by decide)
  have e3 : i3 (1000 * r + 10 * c + x) - i3 (1000 * r + 10 * c + x) / 10 * 10 = i3 ((1000 * r + 10 * c + x) % 10) := i3_rem (b := 10) (by omega) (by decide)
  have e4 : i3 (1000 * r + 10 * c + x) / 1000 = i3 ((1000 * r + 10 * c + x) / 1000) := i3_div (b := 1000) (by omega) (by decide)
  have c1 : (1000 * r + 10 * c + x) % 1000 / 10 = c := by omega
  have c2 : (1000 * r + 10 * c + x) % 10 = x := by omega
  have c3 : (1000 * r + 10 * c + x) / 1000 = r := by omega
  refine A_X5_make hl (vR_mk hb rfl ?_)
  rw [e1, e2, e3, e4, c1, c2, c3]
  have hfc := hf c hc
  refine vA_mk ht rfl (by omega : c < 25) (by decide) (vSt_mk ht rfl (by omega : c < 25) (by decide) ⟨rfl, kp.up rfl, hB0.set (kp.up rfl) aUp_eq fun q hq => ?_⟩)
  rw [hfc.1, i3_clr (by omega)]
  by_cases e : q = c
  · subst e; rw [upd_same, setC_eq]; exact ⟨rfl, clr_lt hfc.2⟩
  · rw [upd_ne e, setC_ne e]; exact hf q hq
theorem B_stepAll (hl : l.stackTraces = false) (hB : BD I h b a th F p u) (hT : TB I h b th a t th2 F p) {most : Nat} (hmost : most ≤ 6) :
    aC l G mX5_stepAll (wsN mX5_stepAll) 11 0 0 [.ref b, .int (i3 most), .ref t] h (aPR fun v h' => ∃ k u', v = some (.int (i3 k)) ∧ stepsR p most k u u' ∧ kp (fun q => q = th ∨ q = th2) h h' ∧ BD I h' b a th F p u' ∧ TB I h' b th a t th2 F p) := by
  have hok := hB.ok
  have hn := hok.n45
  have hm := hok.m24
  have hnn := nn_le hn
  have h32 := pow_le hm.2.2
  have hB0 := hB
  obtain ⟨hP, rb, f, hb, ht, hf, m1, m2, m3, m4⟩ := hB
  refine A_X5_stepAll hl ⟨⟨_, hb⟩, ?_⟩
  have main : ∀ (μ : Nat) (u1 : Nat → Nat) (k0 : Nat) (h1 : aH) (y : Int32), bitsN p.n u1 < μ → kp (fun q => q = th ∨ q = th2) h h1 → BD I h1 b a th F p u1 → TB I h1 b th a t th2 F p → (∀ k u', stepsR p most k u1 u' → stepsR p most (k0 + k) u u') → stepX p u1 most y → T_X5_stepAll_10 l G 11 0 0 (aPR fun v h' => ∃ k u', v = some (.int (i3 k)) ∧ stepsR p most k u u' ∧ kp (fun q => q = th ∨ q = th2) h h' ∧ BD I h' b a th F p u' ∧ TB I h' b th a t th2 F p) b (i3 most) t (i3 k0) y h1 0 0 := by
    intro μ
    induction μ with
    | zero => intro u1 k0 h1 y hmu; exact absurd hmu (Nat.not_lt_zero _)
    | succ μ ih =>
      intro u1 k0 h1 y hmu hk hB1 hT1 hst hy
      have hB2 := hB1
      obtain ⟨_, _, _, hb1, -⟩ := hB1
      refine A_X5_stepAll_10 hl ⟨fun q => ?_, fun q => ⟨⟨_, hb1⟩, ?_⟩⟩
      · refine ⟨k0, u1, rfl, hst 0 u1 ⟨?_, rfl⟩, hk, hB2, hT1⟩
        rcases hy with ⟨r, c, x, hs, e⟩ | ⟨hno, -⟩
        · have h1 := hs.2.1
          rw [e, i3_m1 (by have := h1.2.1; have := h1.2.2.1; have := h1.2.2.2.1; omega)] at q
          exact absurd q id
        · exact hno
      · rcases hy with ⟨r, c, x, hs, e⟩ | ⟨-, e⟩
        · have h1 := hs.2.1
          have hr : r ≤ 6 := by have := h1.2.1; omega
          have hc := h1.2.2.1
          have hx := h1.2.2.2.1
          rw [e]
          refine vC_r (B_make hl hB2 hr hc hx) (by decide) (by decide) (by decide) fun v h2 hR2 => ?_
          obtain ⟨rfl, k2, hB3⟩ := hR2
          have hT3 := hT1.other k2 m2 m4
          have hB4 := hB3
          obtain ⟨_, _, _, hb3, -⟩ := hB3
          refine ⟨_, rfl, ⟨_, hb3⟩, ?_⟩
          refine vC_r (B_next hl hB4 hT3 hmost) (by decide) (by decide) (by decide) fun v h3 hR3 => ?_
          obtain ⟨y', rfl, hy', k3, hB5, hT5⟩ := hR3
          refine ⟨_, rfl, ?_⟩
          rw [i3_succ]
          refine ih _ (k0 + 1) h3 y' ?_ ((hk.tr (k2.mono fun q e => Or.inl e)).tr (k3.mono fun q e => Or.inr e)) hB5 hT5 (fun k u' hh => ?_) hy'
          · have h5 : pc (clr (u1 c) x) < pc (u1 c) := pc_clr ⟨u1 c, Nat.lt_of_lt_of_le (hB2.bnd c hc) h32⟩ ⟨x, by omega⟩ h1.2.2.2.2.1
            have h6 : bitsN p.n (setC u1 c (clr (u1 c) x)) < bitsN p.n u1 := bits_set hc h5
            omega
          · have := hst (k + 1) u' ⟨r, c, x, hs, hh⟩
            rwa [show k0 + (k + 1) = k0 + 1 + k by omega] at this
        · exact absurd e q
  refine vC_r (B_next hl hB0 hT hmost) (by decide) (by decide) (by decide) fun v h1 hR1 => ?_
  obtain ⟨y, rfl, hy, k1, hB1, hT1⟩ := hR1
  exact ⟨_, rfl, main (bitsN p.n u + 1) u 0 h1 y (Nat.lt_succ_self _) (k1.mono fun q e => Or.inr e) hB1 hT1 (fun k u' hh => by rw [Nat.zero_add]; exact hh) hy⟩
end BST
