/-! a board is written: clearing, copying, filling, trying, steps
-/
set_option maxRecDepth 100000
/-- a contract's end without a throw -/
def aPR (R : Option Value → aH → Prop) : aR → aH → Prop
  | .inl v, h => R v h
  | .inr _, _ => False
section VCR
variable {h : aH} {l : Launch} {G : aG} {M2 : aM} {ws : List Cond} {d d2 mc mc2 ms ms2 c s : Nat} {as : List Value} {X : String → aH → Nat → Nat → Prop}
theorem vC_r {K : Option Value → aH → Nat → Nat → Prop} {R : Option Value → aH → Prop} (hC : aC l G M2 ws d2 mc2 ms2 as h (aPR R)) (hd : d2 + 1 ≤ d) (hc : c + mc2 ≤ mc) (hs : s + ms2 ≤ ms) (kk : ∀ v h', R v h' → K v h' (c + mc2) (s + ms2)) : vC l G M2 ws d mc ms as h c s X K :=
  ⟨d2, mc2, ms2, _, hC, hd, hc, hs, fun v h' q => kk v h' q, fun _ _ q => False.elim q⟩
theorem vCpyI_mk {a0 a n0 n1 sp dp n : Nat} {s d c : Int32} {f g : Nat → Int32} {K : aH → Prop} (he0 : h a0 = some (aInts .int n0 f)) (he : h a = some (aInts .int n1 g)) (hs : s = i3 sp) (hd : d = i3 dp) (hn : c = i3 n) (h1 : sp + n ≤ n0) (h2 : dp + n ≤ n1) (hb : n0 < 2147483648) (hb1 : n1 < 2147483648) (kk : K (aUp h a (aInts .int n1 (va_cpy f g sp dp n)))) : vCpyI .int h a0 s a d c K := by
  subst hs; subst hd; subst hn
  refine ⟨n0, n1, f, g, he0, he, ?_, ?_, ?_, ?_, ?_, fun _ _ => rfl, ?_⟩
  · rw [i3_neg_lt (by omega)]; exact id
  · rw [i3_neg_lt (by omega)]; exact id
  · rw [i3_neg_lt (by omega)]; exact id
  · rw [i3_nat (by omega), i3_nat (by omega)]; exact h1
  · rw [i3_nat (by omega), i3_nat (by omega)]; exact h2
  · rw [i3_nat (by omega), i3_nat (by omega), i3_nat (by omega)]; exact kk
end VCR
/-- a board with any numbers -/
def BDr (I : Nat → Prop) (h : aH) (b a th : Nat) (F : List Nat) (p : Pz) (f : Nat → Int32) : Prop := PZ I h a F p ∧ ∃ rb : Nat, h b = some (aObj 5 [.ref a, .ref th, .ref rb]) ∧ h th = some (aInts .int 25 f) ∧ b ∉ F ∧ th ∉ F ∧ ¬ I b ∧ ¬ I th
theorem BD.raw {I : Nat → Prop} {h : aH} {b a th : Nat} {F : List Nat} {p : Pz} {u : Nat → Nat} (hB : BD I h b a th F p u) : ∃ f, BDr I h b a th F p f ∧ ∀ c, c < p.n * p.n → f c = i3 (u c) ∧ u c < 2 ^ (p.m + 1) := by
  obtain ⟨hP, rb, f, h1, h2, h3, h4⟩ := hB
  exact ⟨f, ⟨hP, rb, h1, h2, h4⟩, h3⟩
theorem BDr.bd {I : Nat → Prop} {h : aH} {b a th : Nat} {F : List Nat} {p : Pz} {f : Nat → Int32} {u : Nat → Nat} (hB : BDr I h b a th F p f) (hf : ∀ c, c < p.n * p.n → f c = i3 (u c) ∧ u c < 2 ^ (p.m + 1)) : BD I h b a th F p u := by
  obtain ⟨hP, rb, h1, h2, h4⟩ := hB
  exact ⟨hP, rb, f, h1, h2, hf, h4⟩
theorem BDr.set {I : Nat → Prop} {h h' : aH} {b a th : Nat} {F : List Nat} {p : Pz} {f g : Nat → Int32} (hB : BDr I h b a th F p f) (hk : kp (· = th) h h') (he : h' th = some (aInts .int 25 g)) : BDr I h' b a th F p g := by
  obtain ⟨hP, rb, hb, ht, n1, n2, n3, n4⟩ := hB
  have hPn : ∀ q ∈ F, ¬ I q := by
    obtain ⟨tl, ls, lo, ar, rw, T, L, R, sec, _, _, _, _, hn, _⟩ := hP
    exact hn
  refine ⟨hP.kp hk (fun q hq e => n2 (by rw [← e]; exact hq)) (fun q hq e => n4 (by rw [← e]; exact hq)) (fun _ h => h) hPn, rb, hk _ _ hb ?_, he, n1, n2, n3, n4⟩
  intro e
  rw [e, ht] at hb
  cases hb
/-- the two boards over a puzzle: one that is read or stepped, one for trying -/
def TB (I : Nat → Prop) (h : aH) (b th a t th2 : Nat) (F : List Nat) (p : Pz) : Prop := (∃ f, BDr I h t a th2 F p f) ∧ th ≠ th2 ∧ b ≠ th2 ∧ t ≠ th
theorem TB.mine {I : Nat → Prop} {h h' : aH} {b th a t th2 : Nat} {F : List Nat} {p : Pz} (hT : TB I h b th a t th2 F p) {f : Nat → Int32} (hk : kp (· = th2) h h') (he : h' th2 = some (aInts .int 25 f)) : TB I h' b th a t th2 F p := by
  obtain ⟨⟨g, hg⟩, h2⟩ := hT
  exact ⟨⟨f, hg.set hk he⟩, h2⟩
theorem TB.other {I : Nat → Prop} {h h' : aH} {b th a t th2 : Nat} {F : List Nat} {p : Pz} (hT : TB I h b th a t th2 F p) (hk : kp (· = th) h h') (hF : th ∉ F) (hI : ¬ I th) : TB I h' b th a t th2 F p := by
  obtain ⟨⟨g, hP, rb, h1, h2, h3, h4, h5, h6⟩, n1, n2, n3⟩ := hT
  have hPn : ∀ q ∈ F, ¬ I q := by
    obtain ⟨tl, ls, lo, ar, rw, T, L, R, sec, _, _, _, _, hn, _⟩ := hP
    exact hn
  exact ⟨⟨g, hP.kp hk (fun q hq e => hF (by rw [← e]; exact hq)) (fun q hq e => hI (by rw [← e]; exact hq)) (fun _ h => h) hPn, rb, hk _ _ h1 n3, hk _ _ h2 (fun e => n1 e.symm), h3, h4, h5, h6⟩, n1, n2, n3⟩
section BWR
variable {l : Launch} {G : aG} {I : Nat → Prop} {h : aH} {b a th : Nat} {F : List Nat} {p : Pz} {u : Nat → Nat} {f : Nat → Int32}
theorem B_everythingR (hl : l.stackTraces = false) (hB : BDr I h b a th F p f) : aC l G mX5_everything (wsN mX5_everything) 0 0 0 [.ref b] h (aP1 (some (.int (i3 (2 ^ (p.m + 1) - 1)))) h) := by
  obtain ⟨hP, rb, hb, -⟩ := hB
  obtain ⟨tl, ls, lo, ar, rw, T, L, R, sec, hok, -, -, -, -, ho, -⟩ := hP
  have hm := hok.m24
  refine A_X5_everything hl (vR_mk hb rfl (vI_mk ho rfl ⟨?_, rfl⟩))
  have e1 : (1 : Int32) <<< (i3 (p.m + 1) &&& 31) = i3 (1 <<< (p.m + 1)) := i3_shl (a := 1) (by omega)
  have h2 : 0 < 2 ^ (p.m + 1) := Nat.two_pow_pos _
  have e2 : i3 (2 ^ (p.m + 1)) - 1 = i3 (2 ^ (p.m + 1) - 1) := i3_sub (b := 1) h2
  rw [i3_succ, e1, Nat.one_shiftLeft, e2]
theorem B_clear (hl : l.stackTraces = false) (hB : BDr I h b a th F p f) : aC l G mX5_clear (wsN mX5_clear) 1 0 0 [.ref b] h
    (aPR fun v h' => v = some (.int (i3 (sumB (fun c => decide (f c ≠ i3 (2 ^ (p.m + 1) - 1))) (p.n * p.n)))) ∧ kp (· = th) h h' ∧ ∃ g, h' th = some (aInts .int 25 g) ∧ (∀ c, c < p.n * p.n → g c = i3 (2 ^ (p.m + 1) - 1)) ∧ ∀ c, ¬ c < p.n * p.n → g c = f c) := by
  have hok := hB.1.ok
  have hn := hok.n45
  have hnn := nn_le hn
  have e0 : (0 : Int32) = i3 0 := rfl
  refine A_X5_clear hl ?_
  have key := vloop (N := p.n * p.n) (T := fun j => ∀ h' g, kp (· = th) h h' → h' th = some (aInts .int 25 g) → (∀ c, g c = if c < j then i3 (2 ^ (p.m + 1) - 1) else f c) → T_X5_clear_4 l G 1 0 0 (aPR fun v h' => v = some (.int (i3 (sumB (fun c => decide (f c ≠ i3 (2 ^ (p.m + 1) - 1))) (p.n * p.n)))) ∧ kp (· = th) h h' ∧ ∃ g, h' th = some (aInts .int 25 g) ∧ (∀ c, c < p.n * p.n → g c = i3 (2 ^ (p.m + 1) - 1)) ∧ ∀ c, ¬ c < p.n * p.n → g c = f c) b (i3 (sumB (fun c => decide (f c ≠ i3 (2 ^ (p.m + 1) - 1))) j)) (i3 j) h' 0 0) ?_ ?_ 0 (Nat.zero_le _) h f kp.rf (by obtain ⟨_, _, _, ht, _⟩ := hB; exact ht) (fun c => rfl)
  · exact key
  · intro h' g hk he hg
    have hB2 := hB.set hk he
    obtain ⟨hP, rb, hb, ht, -⟩ := hB2
    have hP0 := hP
    obtain ⟨tl, ls, lo, ar, rw, T, L, R, sec, -, -, -, -, -, ho, -⟩ := hP
    refine A_X5_clear_4 hl (vR_mk hb rfl ⟨⟨_, ho⟩, ?_⟩)
    refine vC_p (B_cellCount hl hP0) (by decide) (by decide) (by decide) ⟨_, rfl, fun _ => ⟨rfl, hk, g, he, fun c hc => by rw [hg, if_pos hc], fun c hc => by rw [hg, if_neg hc]⟩, fun q => absurd (by rw [i3_le (by omega) (by omega)]; exact Nat.le_refl _) q⟩
  · intro j hj ih h' g hk he hg
    have hB2 := hB.set hk he
    have hB3 := hB2
    obtain ⟨hP, rb, hb, ht, -⟩ := hB2
    have hP0 := hP
    obtain ⟨tl, ls, lo, ar, rw, T, L, R, sec, -, -, -, -, -, ho, -⟩ := hP
    refine A_X5_clear_4 hl (vR_mk hb rfl ⟨⟨_, ho⟩, ?_⟩)
    refine vC_p (B_cellCount hl hP0) (by decide) (by decide) (by decide) ⟨_, rfl, fun q => absurd (by rwa [i3_le (by omega) (by omega)] at q) (by omega : ¬ p.n * p.n ≤ j), fun _ => vR_mk hb rfl (vA_mk ht rfl (by omega : j < 25) (by decide) ⟨⟨_, hb⟩, ?_⟩)⟩
    refine vC_p (B_everythingR hl hB3) (by decide) (by decide) (by decide) ⟨_, rfl, fun v hv => vR_mk hb rfl ⟨⟨_, hb⟩, ?_⟩⟩
    refine vC_p (B_everythingR hl hB3) (by decide) (by decide) (by decide) ⟨_, rfl, vSt_mk ht rfl (by omega : j < 25) (by decide) ?_⟩
    have : v = i3 (sumB (fun c => decide (f c ≠ i3 (2 ^ (p.m + 1) - 1))) (j + 1)) := by
      rw [hv, sumB_succ, hg j, if_neg (Nat.lt_irrefl _), ← i3_add]
      congr 1
      by_cases q : f j = i3 (2 ^ (p.m + 1) - 1)
      · rw [if_pos q, decide_eq_false (fun z => z q)]; rfl
      · rw [if_neg q, decide_eq_true q]; rfl
    rw [this, i3_succ]
    refine ih _ _ (hk.tr (kp.up rfl)) aUp_eq fun c => ?_
    by_cases q : c = j
    · subst q; rw [upd_same, if_pos (Nat.lt_succ_self _)]
    · rw [upd_ne q, hg c]
      by_cases q2 : c < j
      · rw [if_pos q2, if_pos (by omega)]
      · rw [if_neg q2, if_neg (by omega)]
/-- the things of one board copied to another -/
theorem B_setThings (hl : l.stackTraces = false) {t th2 a2 rb rb2 : Nat} {g : Nat → Int32} (h1 : h b = some (aObj 5 [.ref a, .ref th, .ref rb])) (h2 : h th = some (aInts .int 25 f)) (h3 : h t = some (aObj 5 [.ref a2, .ref th2, .ref rb2])) (h4 : h th2 = some (aInts .int 25 g)) :
    aC l G mX5_setThings (wsN mX5_setThings) 1 0 0 [.ref t, .ref b] h (aPR fun v h' => v = none ∧ kp (· = th2) h h' ∧ ∃ g', h' th2 = some (aInts .int 25 g') ∧ ∀ c, c < 25 → g' c = f c) := by
  refine A_X5_setThings hl (vR_mk h1 rfl (vR_mk h3 rfl ⟨by decide, vCpyI_mk (sp := 0) (dp := 0) (n := 25) h2 h4 rfl rfl rfl (by decide) (by decide) (by decide) (by decide) ⟨rfl, kp.up rfl, _, aUp_eq, fun c hc => ?_⟩⟩))
  unfold va_cpy
  rw [if_pos (by omega)]
  congr 1; omega
/-- a line is cut -/
def cutB (p : Pz) (u : Nat → Nat) (i j : Nat) (u' : Nat → Nat) : Prop := (∀ k, k < j → u' (cellN p.n i k) = u (cellN p.n i k) &&& poss p u i k) ∧ ∀ c, c < p.n * p.n → (∀ k, k < j → cellN p.n i k ≠ c) → u' c = u c
theorem and_sub : ∀ a b : Fin 32, a.1 &&& b.1 < 32 := by decide +kernel
theorem and_mod {x y : Nat} (hx : x < 32) : x &&& y = x &&& (y % 32) := by
  apply Nat.eq_of_testBit_eq
  intro j
  rw [Nat.testBit_and, Nat.testBit_and, show (32 : Nat) = 2 ^ 5 from rfl, Nat.testBit_mod_two_pow]
  by_cases q : j < 5
  · rw [decide_eq_true q, Bool.true_and]
  · rw [Nat.testBit_lt_two_pow (Nat.lt_of_lt_of_le hx (Nat.pow_le_pow_right (n := 2) (by decide) (by omega : 5 ≤ j))), Bool.false_and, Bool.false_and]
def filR (I : Nat → Prop) (h : aH) (b a th : Nat) (F : List Nat) (p : Pz) (u : Nat → Nat) (i : Nat) : Option Value → aH → Prop := fun v h' => ∃ u' z, v = some (.int (bI z)) ∧ kp (· = th) h h' ∧ BD I h' b a th F p u' ∧ isCut p u u' i ∧ (z = false → ∀ c, c < p.n * p.n → u' c = u c) ∧ (z = true → bitsN p.n u' < bitsN p.n u)
theorem B_fillLine (hl : l.stackTraces = false) (hB : BD I h b a th F p u) {i : Nat} (hi : i < p.nL) :
    aC l G mX5_fillLine (wsN mX5_fillLine) 5 0 0 [.ref b, .int (i3 i)] h (aPR (filR I h b a th F p u i)) := by
  have hok := hB.ok
  have hn := hok.n45
  have hm := hok.m24
  have hL := nL_le hok
  have hnn := nn_le hn
  have h32 := pow_le hm.2.2
  have hB0 := hB
  have hbnd := hB.bnd
  obtain ⟨hP, rb, f, hb, ht, hf, -⟩ := hB
  refine A_X5_fillLine hl ⟨⟨_, hb⟩, ?_⟩
  refine vC_p (B_linePossible hl hB0 hi) (by decide) (by decide) (by decide) ⟨_, rfl, ?_⟩
  have hub : ∀ c, c < p.n * p.n → u c < 32 := fun c hc => Nat.lt_of_lt_of_le (hbnd c hc) h32
  have hpb : ∀ k, poss p u i k < 32 := fun k => Nat.lt_of_lt_of_le (poss_lt hok) h32
  have key := vloop (N := p.n) (T := fun j => ∀ h' u', kp (· = th) h h' → BD I h' b a th F p u' → cutB p u i j u' → T_X5_fillLine_11 l G 5 0 0 (aPR (filR I h b a th F p u i)) b (i3 i) (i3 (linP p u i)) (bI (anyB (fun k => decide (u (cellN p.n i k) &&& poss p u i k ≠ u (cellN p.n i k))) j)) (i3 j) h' 0 0) ?_ ?_ 0 (Nat.zero_le _) h u kp.rf hB0 ⟨fun k hk => absurd hk (Nat.not_lt_zero _), fun c hc _ => rfl⟩
  · exact key
  · intro h' u' hk hB2 hcut
    have hB3 := hB2
    obtain ⟨hP2, rb2, f2, hb2, ht2, hf2, -⟩ := hB2
    obtain ⟨tl, ls, lo, ar, rw, T, L, R, sec, -, -, -, -, -, ho, -⟩ := hP2
    refine A_X5_fillLine_11 hl (vR_mk hb2 rfl (vI_mk ho rfl ⟨fun _ => ⟨vB_bI, u', _, rfl, hk, hB3, hcut, fun hz c hc => ?_, fun hz => ?_⟩, fun q => absurd (by rw [i3_le (by omega) (by omega)]; exact Nat.le_refl _) q⟩))
    · by_cases q : ∃ k, k < p.n ∧ cellN p.n i k = c
      · obtain ⟨k, hk2, rfl⟩ := q
        rw [hcut.1 k hk2]
        have : ¬ (∃ k, k < p.n ∧ (decide (u (cellN p.n i k) &&& poss p u i k ≠ u (cellN p.n i k))) = true) := by
          rw [← anyB_iff, hz]; decide
        apply Classical.byContradiction
        intro hne
        exact this ⟨k, hk2, decide_eq_true hne⟩
      · exact hcut.2 c hc fun k hk2 e => q ⟨k, hk2, e⟩
    · rw [anyB_iff] at hz
      obtain ⟨k, hk2, hne⟩ := hz
      have hne := of_decide_eq_true hne
      have hle : ∀ c, c < p.n * p.n → pc (u' c) ≤ pc (u c) ∧ (u' c ≠ u c → pc (u' c) < pc (u c)) := by
        intro c hc
        by_cases q : ∃ k, k < p.n ∧ cellN p.n i k = c
        · obtain ⟨k, hk2, rfl⟩ := q
          rw [hcut.1 k hk2]
          exact pc_and ⟨_, hub _ hc⟩ ⟨_, hpb k⟩
        · rw [hcut.2 c hc fun k hk2 e => q ⟨k, hk2, e⟩]
          exact ⟨Nat.le_refl _, fun z => absurd rfl z⟩
      have hck := cellN_lt hn (by omega : i < 2 * p.n + 2) hk2
      exact sum_lt (fun c hc => (hle c (List.mem_range.mp hc)).1) ⟨_, List.mem_range.mpr hck, (hle _ hck).2 (by rw [hcut.1 k hk2]; exact hne)⟩
  · intro j hj ih h' u' hk hB2 hcut
    have hB3 := hB2
    obtain ⟨hP2, rb2, f2, hb2, ht2, hf2, -⟩ := hB2
    obtain ⟨tl, ls, lo, ar, rw, T, L, R, sec, -, -, -, -, -, ho, -, -, -, hls, hrw, -⟩ := hP2
    obtain ⟨r1, lf, r2, r3⟩ := hrw i (by omega)
    have r3 := r3 hi
    have hc := cellN_lt hn (by omega : i < 2 * p.n + 2) hj
    have hfc := hf2 _ hc
    have huc : u' (cellN p.n i j) = u (cellN p.n i j) := hcut.2 _ hc fun k hk2 e => by have := cell_inj hn (by omega) (by omega) hj e; omega
    have hcl := hub _ hc
    have hlin : (linP p u i >>> (5 * j)) % 32 = poss p u i j := linP_shr hok hj
    have hval : i3 (u' (cellN p.n i j)) &&& (i3 (linP p u i) >>> (((5 : Int32) * i3 j) &&& 31)) = i3 (u (cellN p.n i j) &&& poss p u i j) := by
      rw [i3_poss hok hj, i3_and, huc, and_mod hcl, hlin]
    have hvl : u (cellN p.n i j) &&& poss p u i j < 2 ^ (p.m + 1) := Nat.lt_of_le_of_lt Nat.and_le_left (hbnd _ hc)
    refine A_X5_fillLine_11 hl (vR_mk hb2 rfl (vI_mk ho rfl ⟨fun q => absurd (by rwa [i3_le (by omega) (by omega)] at q) (by omega : ¬ p.n ≤ j), fun _ => vR_mk hb2 rfl (vR_mk ho rfl (vAR_mk hls rfl (by omega : i < 12) (by decide) r1 (vA_mk r2 rfl (by omega : j < 5) (by decide) ?_)))⟩))
    rw [r3 j hj]
    refine vR_mk hb2 rfl (vA_mk ht2 rfl (by omega) (by decide) fun v hv => vR_mk hb2 rfl (vA_mk ht2 rfl (by omega) (by decide) fun v2 hv2 => vR_mk hb2 rfl (vSt_mk ht2 rfl (by omega) (by decide) ?_)))
    rw [hfc.1, hval] at hv
    rw [hfc.1, huc, hv] at hv2
    simp only [i3_eq (a := u (cellN p.n i j) &&& poss p u i j) (b := u (cellN p.n i j)) (by omega) (by omega)] at hv2
    have e2 : v2 = bI (anyB (fun k => decide (u (cellN p.n i k) &&& poss p u i k ≠ u (cellN p.n i k))) (j + 1)) := by
      rw [hv2, anyB_succ, ← bI_or]
      congr 1
      rw [bI_if']
    have hk3 : kp (· = th) h' (aUp h' th (aInts .int 25 (upd f2 (cellN p.n i j) v))) := kp.up rfl
    rw [e2, i3_succ]
    refine ih _ (setC u' (cellN p.n i j) (u (cellN p.n i j) &&& poss p u i j)) (hk.tr hk3) (hB3.set hk3 aUp_eq fun c hc2 => ?_) ⟨fun k hk2 => ?_, fun c hc2 hne => ?_⟩
    · by_cases q : c = cellN p.n i j
      · rw [q, upd_same, setC_eq, hv]; exact ⟨rfl, hvl⟩
      · rw [upd_ne q, setC_ne q]; exact hf2 c hc2
    · by_cases q : k = j
      · rw [q, setC_eq]
      · have : cellN p.n i k ≠ cellN p.n i j := fun e => q (cell_inj hn (by omega) (by omega) hj e)
        rw [setC_ne this]; exact hcut.1 k (by omega)
    · rw [setC_ne fun e => hne j (Nat.lt_succ_self _) e.symm]
      exact hcut.2 c hc2 fun k hk2 => hne k (by omega)
/-- what filling brings about -/
def fllR (I : Nat → Prop) (h : aH) (b a th : Nat) (F : List Nat) (p : Pz) (u : Nat → Nat) : Option Value → aH → Prop := fun v h' => ∃ u', v = none ∧ kp (· = th) h h' ∧ BD I h' b a th F p u' ∧ leW p u' u ∧ (∀ v, AC p v → leW p v u → leW p v u') ∧ clsd p u'
theorem B_fill (hl : l.stackTraces = false) (hB : BD I h b a th F p u) : aC l G mX5_fill (wsN mX5_fill) 6 0 0 [.ref b] h (aPR (fllR I h b a th F p u)) := by
  have hok := hB.ok
  have hn := hok.n45
  have hL := nL_le hok
  have hnn := nn_le hn
  refine A_X5_fill hl ?_
  have main : ∀ (μ : Nat) (h1 : aH) (u1 : Nat → Nat), bitsN p.n u1 < μ → kp (· = th) h h1 → BD I h1 b a th F p u1 → leW p u1 u → (∀ v, AC p v → leW p v u → leW p v u1) → T_X5_fill_2 l G 6 0 0 (aPR (fllR I h b a th F p u)) b (bI true) h1 0 0 := by
    intro μ
    induction μ with
    | zero => intro h1 u1 hmu; exact absurd hmu (Nat.not_lt_zero _)
    | succ μ ih =>
      intro h1 u1 hmu hk1 hB1 hle1 hkeep1
      refine A_X5_fill_2 hl ⟨fun q => (by cases q), fun _ => ?_⟩
      have inner := vloop (N := p.nL) (T := fun j => ∀ h2 u2 z, kp (· = th) h h2 → BD I h2 b a th F p u2 → leW p u2 u → (∀ v, AC p v → leW p v u → leW p v u2) → (z = false → (∀ c, c < p.n * p.n → u2 c = u1 c) ∧ ∀ i, i < j → ∀ k, k < p.n → subB (u2 (cellN p.n i k)) (poss p u2 i k)) → (z = true → bitsN p.n u2 < bitsN p.n u1) → T_X5_fill_10 l G 6 0 0 (aPR (fllR I h b a th F p u)) b (bI z) (i3 j) h2 0 0) ?_ ?_ 0 (Nat.zero_le _) h1 u1 false hk1 hB1 hle1 hkeep1 (fun _ => ⟨fun _ _ => rfl, fun i hi => absurd hi (Nat.not_lt_zero _)⟩) (fun q => by cases q)
      · exact inner
      · intro h2 u2 z hk2 hB2 hle2 hkeep2 hz0 hz1
        have hB3 := hB2
        obtain ⟨hP2, rb2, f2, hb2, ht2, hf2, -⟩ := hB2
        have hP0 := hP2
        obtain ⟨tl, ls, lo, ar, rw, T, L, R, sec, -, -, -, -, -, ho, -⟩ := hP2
        refine A_X5_fill_10 hl (vR_mk hb2 rfl ⟨⟨_, ho⟩, ?_⟩)
        refine vC_p (B_lineCount hl hP0) (by decide) (by decide) (by decide) ⟨_, rfl, fun _ => ?_, fun q => absurd (by rw [i3_le (by omega) (by omega)]; exact Nat.le_refl _) q⟩
        cases z with
        | true =>
          have := hz1 rfl
          exact ih h2 u2 (by omega) hk2 hB3 hle2 hkeep2
        | false => exact A_X5_fill_2 hl ⟨fun _ => ⟨u2, rfl, hk2, hB3, hle2, hkeep2, (hz0 rfl).2⟩, fun q => absurd rfl q⟩
      · intro j hj ih2 h2 u2 z hk2 hB2 hle2 hkeep2 hz0 hz1
        have hB3 := hB2
        obtain ⟨hP2, rb2, f2, hb2, ht2, hf2, -⟩ := hB2
        have hP0 := hP2
        obtain ⟨tl, ls, lo, ar, rw, T, L, R, sec, -, -, -, -, -, ho, -⟩ := hP2
        refine A_X5_fill_10 hl (vR_mk hb2 rfl ⟨⟨_, ho⟩, ?_⟩)
        refine vC_p (B_lineCount hl hP0) (by decide) (by decide) (by decide) ⟨_, rfl, fun q => absurd (by rwa [i3_le (by omega) (by omega)] at q) (by omega : ¬ p.nL ≤ j), fun _ => ⟨⟨_, hb2⟩, ?_⟩⟩
        refine vC_r (B_fillLine hl hB3 hj) (by decide) (by decide) (by decide) fun v h3 hR => ?_
        obtain ⟨u3, z3, rfl, hk3, hB4, hcut, hc0, hc1⟩ := hR
        refine ⟨_, rfl, ?_⟩
        show T_X5_fill_10 l G 6 0 0 _ b (bI z ||| bI z3) (i3 j + 1) h3 0 0
        rw [bI_or, i3_succ]
        refine ih2 h3 u3 (z || z3) (hk2.tr hk3) hB4 (hcut.le.trans hle2) (fun v hv hvu => hcut.keep hok hj hv (hkeep2 v hv hvu)) (fun hz => ?_) (fun hz => ?_)
        · rw [Bool.or_eq_false_iff] at hz
          obtain ⟨y1, y2⟩ := hz0 hz.1
          have y3 := hc0 hz.2
          refine ⟨fun c hc => (y3 c hc).trans (y1 c hc), fun i hi k hk => ?_⟩
          have hcc : ∀ i, i < p.nL → ∀ k, k < p.n → u3 (cellN p.n i k) = u2 (cellN p.n i k) := fun i hi k hk => y3 _ (cellN_lt hn (by omega) hk)
          have hpe : ∀ i, i < p.nL → poss p u3 i k = poss p u2 i k := fun i hi => by unfold poss; rw [fitL_congr (hcc i hi)]
          rw [hcc i (by omega) k hk, hpe i (by omega)]
          rcases Nat.lt_or_ge i j with q | q
          · exact y2 i q k hk
          · have : i = j := by omega
            subst this
            have e := hcut.1 k hk
            rw [hcc i hj k hk] at e
            rw [e]; exact subB_and_r
        · cases z3 with
          | true =>
            have hlt := hc1 rfl
            cases z with
            | true => have := hz1 rfl; omega
            | false =>
              have e : bitsN p.n u2 = bitsN p.n u1 := by
                unfold bitsN
                congr 1
                apply List.map_congr_left
                intro c hc
                rw [(hz0 rfl).1 c (List.mem_range.mp hc)]
              omega
          | false =>
            rw [Bool.or_false] at hz
            have := hz1 hz
            have e : bitsN p.n u3 = bitsN p.n u2 := by
              unfold bitsN
              congr 1
              apply List.map_congr_left
              intro c hc
              rw [hc0 rfl c (List.mem_range.mp hc)]
            omega
  exact main (bitsN p.n u + 1) h u (Nat.lt_succ_self _) kp.rf hB leW.rf (fun v _ h => h)
end BWR
