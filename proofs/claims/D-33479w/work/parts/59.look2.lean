/-! looksAtAll, loads, layers, linesOf, placeIn -/
set_option maxRecDepth 100000
def brkTo (p : Pz) (u : Nat → Nat) (j : Nat) : Nat := (List.range j).foldl (fun s l => s ||| (if brk p u l then 1 <<< l else 0)) 0
theorem brkTo_succ (p : Pz) (u : Nat → Nat) (j : Nat) : brkTo p u (j + 1) = brkTo p u j ||| (if brk p u j then 1 <<< j else 0) := by unfold brkTo; rw [List.range_succ, List.foldl_append]; rfl
theorem brkTo_bit (p : Pz) (u : Nat → Nat) (j l : Nat) : (brkTo p u j).testBit l = (decide (l < j) && brk p u l) := by
  induction j with
  | zero => simp [brkTo]
  | succ j ih =>
    rw [brkTo_succ, Nat.testBit_or, ih]
    by_cases h : l = j
    · subst h
      cases brk p u l
      · simp
      · rw [if_pos rfl, tbs]; simp
    · have h2 : decide (l < j + 1) = decide (l < j) := by
        rw [Bool.eq_iff_iff]; simp; omega
      rw [h2]
      cases brk p u j
      · simp
      · rw [if_pos rfl, tbs]; simp [h]
theorem brkTo_lt {p : Pz} {u : Nat → Nat} {j : Nat} (hj : j ≤ 12) : brkTo p u j < 4096 := by
  have : brkTo p u j < 2 ^ 12 := by
    apply Nat.lt_pow_two_of_testBit
    intro i hi
    rw [brkTo_bit]
    have : ¬ i < j := by omega
    simp [this]
  exact this
theorem S_looksAtAll {st : MSt} {p : Pz} {b fuel : Nat} {u : Nat → Nat} (h : MV st p) (hT : TC st) (hu : LVw st b p.m u) (hb : b ≤ 725) (hf : 3300 ≤ fuel) :
    ∃ st', S_X6_looksAtAll fuel (i3 b) st = some (i3 (brkSet p u), st') ∧ frm [3, 4, 6, 7] [7, 8, 9] st st' ∧ TC st' ∧ ∀ l, l < p.nL → ∀ k, k < p.n → st'.2.1 7 (5 * l + k) = i3 (poss p u l k) := by
  have hok := h.1
  have hn := hok.n45
  have hL := nL_le hok
  unfold S_X6_looksAtAll
  have key := st_loop (F := fun f j (a : Nat × MSt) => S_X6_looksAtAll_c4 f (i3 b) (i3 a.1) (i3 j) a.2)
    (I := fun j a => a.1 = brkTo p u j ∧ frm [3, 4, 6, 7] [7, 8, 9] st a.2 ∧ TC a.2 ∧ ∀ l, l < j → ∀ k, k < p.n → a.2.2.1 7 (5 * l + k) = i3 (poss p u l k))
    (Q := fun r => r.1 = i3 (brkSet p u) ∧ frm [3, 4, 6, 7] [7, 8, 9] st r.2 ∧ TC r.2 ∧ ∀ l, l < p.nL → ∀ k, k < p.n → r.2.2.1 7 (5 * l + k) = i3 (poss p u l k)) (N := p.nL) (B := 3200) ?_ ?_ 0 (Nat.zero_le _) fuel (0, st) (by omega) ⟨rfl, frm.rf, hT, fun l h => absurd h (Nat.not_lt_zero _)⟩
  · obtain ⟨⟨r1, r2⟩, e1, e2, e3⟩ := key
    simp only at e2 e3
    subst e2
    exact ⟨r2, e1, e3⟩
  · intro f a _ ⟨h1, h2, h3, h4⟩
    obtain ⟨x, s⟩ := a
    simp only at h1 h2 h3 h4 ⊢
    have hM : MV s p := h.to (h2.1 0 (by simp))
    rw [S_X6_looksAtAll_c4, S_lines hM, Option.bind_some]
    simp only [i3_le (a := p.nL) (b := p.nL) (by omega) (by omega), Nat.le_refl, if_true]
    exact ⟨_, rfl, by show i3 x = _; rw [h1]; rfl, h2, h3, h4⟩
  · intro f j a hj hfb ⟨h1, h2, h3, h4⟩
    obtain ⟨x, s⟩ := a
    simp only at h1 h2 h3 h4 ⊢
    have hM : MV s p := h.to (h2.1 0 (by simp))
    have hU : LVw s b p.m u := hu.to (h2.1 5 (by simp))
    have hq : ¬ p.nL ≤ j := by omega
    obtain ⟨s1, g1, g2, g3, g4⟩ := S_looks hM h3 hU hb (l := j) (by omega) (fuel := f) (by omega)
    have hlen : (fitL p u j).length ≤ 120 := by
      unfold fitL
      exact Nat.le_trans (List.length_filter_le _ _) (arrs_len hok)
    -- the copy of what is seen
    have hcopy : ∀ y : Nat, ∃ s2, (frm [7] [] s1 s2 ∧ (∀ k, k < p.n → s2.2.1 7 (5 * j + k) = i3 (poss p u j k)) ∧ ∀ q, q < 5 * j → s2.2.1 7 q = s1.2.1 7 q) ∧
        S_X6_looksAtAll_c34 (fun y9_1 y9_2 y9_3 u10 => S_X6_looksAtAll_c4 f y9_1 y9_2 (y9_3 + 1) u10) f (i3 b) (i3 y) (i3 j) 0 s1 = S_X6_looksAtAll_c4 f (i3 b) (i3 y) (i3 (j + 1)) s2 := by
      intro y
      obtain ⟨s2, ⟨k1, k2, k3⟩, k4⟩ := st_run (F := fun f' i s => S_X6_looksAtAll_c34 (fun y9_1 y9_2 y9_3 u10 => S_X6_looksAtAll_c4 f y9_1 y9_2 (y9_3 + 1) u10) f' (i3 b) (i3 y) (i3 j) (i3 i) s) (K := fun s => S_X6_looksAtAll_c4 f (i3 b) (i3 y) (i3 (j + 1)) s)
        (I := fun i s => frm [7] [] s1 s ∧ (∀ k, k < i → s.2.1 7 (5 * j + k) = i3 (poss p u j k)) ∧ ∀ q, q < 5 * j → s.2.1 7 q = s1.2.1 7 q) (N := p.n) (B := 0) (fun f' s _ ⟨t1, _, _⟩ => by
          have e0 : s.2.1 0 0 = i3 p.n := by rw [t1.1 0 (by simp), g2.1 0 (by simp)]; exact hM.2.1
          show S_X6_looksAtAll_c34 _ (f' + 1) _ _ _ _ _ = _
          rw [S_X6_looksAtAll_c34, e0]
          simp only [i3_le (a := p.n) (b := p.n) (by omega) (by omega), Nat.le_refl, if_true, i3_succ]) (fun f' i s hi _ ⟨t1, t2, t3⟩ => by
          have e0 : s.2.1 0 0 = i3 p.n := by rw [t1.1 0 (by simp), g2.1 0 (by simp)]; exact hM.2.1
          have e6 : s.2.1 6 = s1.2.1 6 := t1.1 6 (by simp)
          have hq2 : ¬ p.n ≤ i := by omega
          have o1 : (5 : Int32) * i3 j + i3 i = i3 (5 * j + i) := by rw [show (5 : Int32) = i3 5 from rfl, i3_mul, i3_add]
          refine ⟨mA s 7 (5 * j + i) (i3 (poss p u j i)), ⟨t1.a (by simp), fun k hk => ?_, fun q hq3 => ?_⟩, ?_⟩
          · rw [mA_eq]
            rcases Nat.lt_or_ge k i with q | q
            · rw [upd_ne (by omega)]; exact t2 k q
            · have : k = i := by omega
              subst this
              rw [upd_same]
          · rw [mA_eq, upd_ne (by omega)]; exact t3 q hq3
          · show S_X6_looksAtAll_c34 _ (f' + 1) _ _ _ _ _ = _
            rw [S_X6_looksAtAll_c34, e0]
            simp only [i3_le (a := p.n) (b := i) (by omega) (by omega), hq2, if_false]
            rw [ob_e (by omega) (by decide), o1, ob_e (by omega) (by decide), onm_e, e6, g4 i hi, i3_succ]) 0 (Nat.zero_le _) f s1 (by omega) ⟨frm.rf, fun k h => absurd h (Nat.not_lt_zero _), fun _ _ => rfl⟩
      exact ⟨s2, ⟨k1, k2, k3⟩, k4⟩
    have e3 : (i3 (fitL p u j).length = 0) = ((fitL p u j).length = 0) := i3_eq (b := 0) (by omega) (by decide)
    have esh : (1 : Int32) <<< (i3 j &&& 31) = i3 (1 <<< j) := i3_shl (a := 1) (by omega)
    have e0 : (0 : Int32) = i3 0 := rfl
    obtain ⟨s2, ⟨k1, k2, k3⟩, k4⟩ := hcopy (brkTo p u (j + 1))
    refine ⟨(brkTo p u (j + 1), s2), ⟨rfl, (h2.trans (g2.mono (by simp) (by simp))).trans (k1.mono (by simp) (by simp)), Or.inr ⟨_, _, g3.to (k1.1 3 (by simp)) (k1.1 4 (by simp)) (k1.2.1 7 (by simp)) (k1.2.1 8 (by simp)) (k1.2.1 9 (by simp))⟩, fun l hl k hk => ?_⟩, ?_⟩
    · rcases Nat.lt_or_ge l j with q | q
      · show s2.2.1 7 _ = _
        rw [k3 _ (by omega), g2.1 7 (by simp)]; exact h4 l q k hk
      · have : l = j := by omega
        subst this
        exact k2 k hk
    · rw [S_X6_looksAtAll_c4, S_lines hM, Option.bind_some]
      simp only [i3_le (a := p.nL) (b := j) (by omega) (by omega), hq, if_false]
      rw [g1, Option.bind_some]
      simp only [e3]
      rw [brkTo_succ] at k4 ⊢
      rw [← h1] at k4 ⊢
      by_cases q : (fitL p u j).length = 0
      · have hb : brk p u j = true := by unfold brk; rw [List.isEmpty_iff]; exact List.length_eq_zero_iff.mp q
        rw [if_pos q, onm_e, esh, i3_or]
        rw [hb, if_pos rfl] at k4 ⊢
        exact k4
      · have hb : brk p u j = false := by
          unfold brk
          cases hx : (fitL p u j).isEmpty with
          | false => rfl
          | true => exact absurd (List.length_eq_zero_iff.mpr (List.isEmpty_iff.mp hx)) q
        rw [if_neg q, onm_e, e0, i3_or]
        rw [hb] at k4 ⊢
        exact k4
theorem S_loads {st : MSt} {p : Pz} {b fuel : Nat} {w : Nat → Nat} (hw : CVw st p.m w) (hb : b ≤ 725) (hf : 26 ≤ fuel) :
    ∃ st', S_X6_loads fuel (i3 b) st = some st' ∧ frm [5] [] st st' ∧ LVw st' b p.m w ∧ ∀ q, q < b ∨ b + 25 ≤ q → st'.2.1 5 q = st.2.1 5 q := by
  unfold S_X6_loads
  have key := st_loop (F := fun f j s => S_X6_loads_c2 f (i3 b) (i3 j) s)
    (I := fun j s => frm [5] [] st s ∧ (∀ c, c < j → s.2.1 5 (b + c) = i3 (w c)) ∧ ∀ q, q < b ∨ b + 25 ≤ q → s.2.1 5 q = st.2.1 5 q)
    (Q := fun s => frm [5] [] st s ∧ LVw s b p.m w ∧ ∀ q, q < b ∨ b + 25 ≤ q → s.2.1 5 q = st.2.1 5 q) (N := 25) (B := 0) ?_ ?_ 0 (Nat.zero_le _) fuel st (by omega) ⟨frm.rf, fun c h => absurd h (Nat.not_lt_zero _), fun _ _ => rfl⟩
  · exact key
  · intro f s _ ⟨h1, h2, h3⟩
    rw [S_X6_loads_c2]
    exact ⟨s, if_pos (by decide), h1, fun c hc => ⟨h2 c hc, (hw c hc).2⟩, h3⟩
  · intro f j s hj _ ⟨h1, h2, h3⟩
    have e5 : ((25 : Int32) ≤ i3 j) = (25 ≤ j) := i3_le (a := 25) (by decide) (by omega)
    have hq : ¬ 25 ≤ j := by omega
    have o1 : (23 : Int32) + i3 j = i3 (23 + j) := i3_add 23 j
    have e0 : s.2.1 0 = st.2.1 0 := h1.1 0 (by simp)
    refine ⟨mA s 5 (b + j) (i3 (w j)), ⟨h1.a (by simp), fun c hc => ?_, fun q hq2 => ?_⟩, ?_⟩
    · rw [mA_eq]
      rcases Nat.lt_or_ge c j with q | q
      · rw [upd_ne (by omega)]; exact h2 c q
      · have : c = j := by omega
        subst this
        rw [upd_same]
    · rw [mA_eq, upd_ne (by omega)]; exact h3 q hq2
    · rw [S_X6_loads_c2]
      simp only [e5, hq, if_false]
      rw [o1, ob_e (by omega) (by decide), i3_add, ob_e (by omega) (by decide), onm_e, e0, (hw j hj).1, i3_succ]
theorem S_layers {st : MSt} {m a b fuel : Nat} {w : Nat → Nat} (hw : LVw st a m w) (ha : a ≤ 725) (hb : b ≤ 725) (hab : a + 25 ≤ b ∨ b + 25 ≤ a) (hf : 26 ≤ fuel) :
    ∃ st', S_X6_layers fuel (i3 a) (i3 b) st = some st' ∧ frm [5] [] st st' ∧ LVw st' b m w ∧ ∀ q, q < b ∨ b + 25 ≤ q → st'.2.1 5 q = st.2.1 5 q := by
  unfold S_X6_layers
  have key := st_loop (F := fun f j s => S_X6_layers_c2 f (i3 a) (i3 b) (i3 j) s)
    (I := fun j s => frm [5] [] st s ∧ (∀ c, c < j → s.2.1 5 (b + c) = i3 (w c)) ∧ ∀ q, q < b ∨ b + 25 ≤ q → s.2.1 5 q = st.2.1 5 q)
    (Q := fun s => frm [5] [] st s ∧ LVw s b m w ∧ ∀ q, q < b ∨ b + 25 ≤ q → s.2.1 5 q = st.2.1 5 q) (N := 25) (B := 0) ?_ ?_ 0 (Nat.zero_le _) fuel st (by omega) ⟨frm.rf, fun c h => absurd h (Nat.not_lt_zero _), fun _ _ => rfl⟩
  · exact key
  · intro f s _ ⟨h1, h2, h3⟩
    rw [S_X6_layers_c2]
    exact ⟨s, if_pos (by decide), h1, fun c hc => ⟨h2 c hc, (hw c hc).2⟩, h3⟩
  · intro f j s hj _ ⟨h1, h2, h3⟩
    have e5 : ((25 : Int32) ≤ i3 j) = (25 ≤ j) := i3_le (a := 25) (by decide) (by omega)
    have hq : ¬ 25 ≤ j := by omega
    refine ⟨mA s 5 (b + j) (i3 (w j)), ⟨h1.a (by simp), fun c hc => ?_, fun q hq2 => ?_⟩, ?_⟩
    · rw [mA_eq]
      rcases Nat.lt_or_ge c j with q | q
      · rw [upd_ne (by omega)]; exact h2 c q
      · have : c = j := by omega
        subst this
        rw [upd_same]
    · rw [mA_eq, upd_ne (by omega)]; exact h3 q hq2
    · rw [S_X6_layers_c2]
      simp only [e5, hq, if_false]
      rw [i3_add, ob_e (by omega) (by decide), i3_add, ob_e (by omega) (by decide), onm_e, h3 _ (by omega), (hw j hj).1, i3_succ]
def linesN (p : Pz) (c : Nat) : Nat := 1 <<< (c / p.n) ||| 1 <<< (p.n + c % p.n) ||| (if p.dg = true ∧ c / p.n = c % p.n then 1 <<< (2 * p.n) else 0) ||| (if p.dg = true ∧ c / p.n + c % p.n = p.n - 1 then 2 <<< (2 * p.n) else 0)
theorem S_linesOf {st : MSt} {p : Pz} {c : Nat} (h : MV st p) (hc : c < p.n * p.n) : S_X6_linesOf (i3 c) st = some (i3 (linesN p c)) := by
  obtain ⟨h1, h2, h3, h4, -⟩ := h
  have hn := h1.n45
  unfold S_X6_linesOf linesN
  have hc25 : c < 25 := Nat.lt_of_lt_of_le hc (nn_le hn)
  have hdv : c / p.n < p.n := Nat.div_lt_of_lt_mul hc
  have hmd : c % p.n < p.n := Nat.mod_lt _ (by omega)
  rw [h2, onm_e, odz_e (by omega) (by omega), onm_e, odz_e (by omega) (by omega), onm_e]
  have hr : i3 c - i3 c / i3 p.n * i3 p.n = i3 (c % p.n) := i3_rem (by omega) (by omega)
  have hd : i3 c / i3 p.n = i3 (c / p.n) := i3_div (by omega) (by omega)
  have e1 : (1 : Int32) <<< (i3 (c / p.n) &&& 31) = i3 (1 <<< (c / p.n)) := i3_shl (a := 1) (by omega)
  have e2 : (1 : Int32) <<< (i3 (p.n + c % p.n) &&& 31) = i3 (1 <<< (p.n + c % p.n)) := i3_shl (a := 1) (by omega)
  have e3 : (2 : Int32) * i3 p.n = i3 (2 * p.n) := i3_mul 2 p.n
  have e4 : (1 : Int32) <<< (i3 (2 * p.n) &&& 31) = i3 (1 <<< (2 * p.n)) := i3_shl (a := 1) (by omega)
  have e5 : (2 : Int32) <<< (i3 (2 * p.n) &&& 31) = i3 (2 <<< (2 * p.n)) := i3_shl (a := 2) (by omega)
  have e6 : i3 p.n - 1 = i3 (p.n - 1) := i3_sub (b := 1) (by omega)
  have e0 : (0 : Int32) = i3 0 := rfl
  have e7 : (i3 p.dg.toNat = 1) = (p.dg = true) := by cases p.dg <;> decide
  rw [hr, hd]
  simp only [onm_e, i3_add, e1, e2, i3_or, e3, e4, h4, e7, i3_eq (a := c / p.n) (b := c % p.n) (by omega) (by omega)]
  unfold S_X6_linesOf_j55
  simp only [onm_e, i3_or, e0, h4, e7, e3, e5, e6, i3_add, i3_eq (a := c / p.n + c % p.n) (b := p.n - 1) (by omega) (by omega)]
  cases p.dg with
  | false => simp
  | true =>
    simp only [if_true, true_and]
    by_cases q1 : c / p.n = c % p.n <;> by_cases q2 : c / p.n + c % p.n = p.n - 1
    · simp only [if_pos q1, if_pos q2]
    · simp only [if_pos q1, if_neg q2]
    · simp only [if_neg q1, if_pos q2]
    · simp only [if_neg q1, if_neg q2]
def lnsN (n : Nat) (dg : Bool) (c : Nat) : Nat := linesN (n, 0, dg, fun _ => 0) c
theorem lines_4 : ∀ (dg : Bool) (c : Fin 16) (l : Fin 10), (lnsN 4 dg c.1).testBit l.1 = (decide (l.1 < 8 + 2 * dg.toNat) && (List.range 4).any fun k => cellN 4 l.1 k == c.1) := by decide +kernel
theorem lines_5 : ∀ (dg : Bool) (c : Fin 25) (l : Fin 12), (lnsN 5 dg c.1).testBit l.1 = (decide (l.1 < 10 + 2 * dg.toNat) && (List.range 5).any fun k => cellN 5 l.1 k == c.1) := by decide +kernel
theorem lines_lt4 : ∀ (dg : Bool) (c : Fin 16), lnsN 4 dg c.1 < 2 ^ (8 + 2 * dg.toNat) := by decide +kernel
theorem lines_lt5 : ∀ (dg : Bool) (c : Fin 25), lnsN 5 dg c.1 < 2 ^ (10 + 2 * dg.toNat) := by decide +kernel
theorem linesN_lt {p : Pz} (hn : p.n = 4 ∨ p.n = 5) {c : Nat} (hc : c < p.n * p.n) : linesN p c < 2 ^ p.nL := by
  obtain ⟨n, m, dg, tl⟩ := p
  have hn' : n = 4 ∨ n = 5 := hn
  rcases hn' with rfl | rfl
  · exact lines_lt4 dg ⟨c, hc⟩
  · exact lines_lt5 dg ⟨c, hc⟩
theorem linesN_bit {p : Pz} (hn : p.n = 4 ∨ p.n = 5) {c l : Nat} (hc : c < p.n * p.n) : (linesN p c).testBit l = true ↔ l < p.nL ∧ ∃ k, k < p.n ∧ cellN p.n l k = c := by
  have hlt := linesN_lt hn hc
  obtain ⟨n, m, dg, tl⟩ := p
  have hn' : n = 4 ∨ n = 5 := hn
  have hN : ∀ N, N = (Pz.nL (n, m, dg, tl)) → l < N ∨ (linesN (n, m, dg, tl) c).testBit l = false := by
    intro N e
    rcases Nat.lt_or_ge l N with q | q
    · exact Or.inl q
    · right
      exact Nat.testBit_lt_two_pow (Nat.lt_of_lt_of_le hlt (Nat.pow_le_pow_right (by decide) (e ▸ q)))
  rcases hN _ rfl with q | q
  · rcases hn' with rfl | rfl
    · have hl : l < 10 := by
        have : Pz.nL (4, m, dg, tl) = 8 + 2 * dg.toNat := rfl
        rw [this] at q
        cases dg <;> simp at q <;> omega
      have := lines_4 dg ⟨c, hc⟩ ⟨l, hl⟩
      rw [show linesN (4, m, dg, tl) c = lnsN 4 dg c from rfl, this, Bool.and_eq_true, any_range, decide_eq_true_eq]
      simp only [beq_iff_eq]
      exact Iff.rfl
    · have hl : l < 12 := by
        have : Pz.nL (5, m, dg, tl) = 10 + 2 * dg.toNat := rfl
        rw [this] at q
        cases dg <;> simp at q <;> omega
      have := lines_5 dg ⟨c, hc⟩ ⟨l, hl⟩
      rw [show linesN (5, m, dg, tl) c = lnsN 5 dg c from rfl, this, Bool.and_eq_true, any_range, decide_eq_true_eq]
      simp only [beq_iff_eq]
      exact Iff.rfl
  · rw [q]
    constructor
    · intro h; cases h
    · intro ⟨h1, k, hk, hck⟩
      exfalso
      rcases hn' with rfl | rfl
      · have hl : l < 10 := by
          have : Pz.nL (4, m, dg, tl) = 8 + 2 * dg.toNat := rfl
          rw [this] at h1
          cases dg <;> simp at h1 <;> omega
        have := lines_4 dg ⟨c, hc⟩ ⟨l, hl⟩
        have q' : (lnsN 4 dg c).testBit l = false := q
        rw [q'] at this
        have h3 : (decide (l < 8 + 2 * dg.toNat) && (List.range 4).any fun k => cellN 4 l k == c) = true := by
          rw [Bool.and_eq_true, any_range]; exact ⟨decide_eq_true h1, k, hk, by rw [beq_iff_eq]; exact hck⟩
        rw [h3] at this; cases this
      · have hl : l < 12 := by
          have : Pz.nL (5, m, dg, tl) = 10 + 2 * dg.toNat := rfl
          rw [this] at h1
          cases dg <;> simp at h1 <;> omega
        have := lines_5 dg ⟨c, hc⟩ ⟨l, hl⟩
        have q' : (lnsN 5 dg c).testBit l = false := q
        rw [q'] at this
        have h3 : (decide (l < 10 + 2 * dg.toNat) && (List.range 5).any fun k => cellN 5 l k == c) = true := by
          rw [Bool.and_eq_true, any_range]; exact ⟨decide_eq_true h1, k, hk, by rw [beq_iff_eq]; exact hck⟩
        rw [h3] at this; cases this
