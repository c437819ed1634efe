/-! the model counts arrangements of a line by cells
-/
set_option maxRecDepth 100000
theorem i3_subZ {a b : Nat} (ha : a < 1000) (hb : b < 1000) : (i3 a - i3 b).toInt = (a : Int) - b := by
  rw [Int32.toInt_sub, i3_toInt (by omega), i3_toInt (by omega)]
  exact Int.bmod_eq_of_le (by omega) (by omega)
theorem i3_subLe {a b c d : Nat} (ha : a < 1000) (hb : b < 1000) (hc : c < 1000) (hd : d < 1000) : (i3 a - i3 b ≤ i3 c - i3 d) = ((a : Int) - b ≤ (c : Int) - d) := by
  rw [Int32.le_iff_toInt_le, i3_subZ ha hb, i3_subZ hc hd]
theorem i3_subLt {a b c d : Nat} (ha : a < 1000) (hb : b < 1000) (hc : c < 1000) (hd : d < 1000) : (i3 a - i3 b < i3 c - i3 d) = ((a : Int) - b < (c : Int) - d) := by
  rw [Int32.lt_iff_toInt_lt, i3_subZ ha hb, i3_subZ hc hd]
theorem ordB_N {t l w : Nat} : ordB t l w = ordN t l w := rfl
theorem bef_pred : ∀ (m : Fin 5) (a : Fin 16) (x : Fin 4), x.1 < m.1 → a.1 < 2 ^ m.1 → a.1.testBit x.1 = false → pc a.1 ≤ m.1 - 1 := by decide +kernel
theorem p16 {m : Nat} (h : m ≤ 4) : 2 ^ m ≤ 16 := Nat.pow_le_pow_right (n := 2) (by decide) (by omega : m ≤ 4)
theorem or_lt {m a x : Nat} (h : a < 2 ^ m) (hx : x < m) : a ||| 1 <<< x < 2 ^ m := Nat.or_lt_two_pow h (by rw [Nat.one_shiftLeft]; exact Nat.pow_lt_pow_right (by decide) hx)
theorem i3_one {x : Nat} (h : x < 31) : (1 : Int32) <<< (i3 x &&& 31) = i3 (1 <<< x) := i3_shl (a := 1) (by omega)
theorem MV.te_le {st : MSt} {p : Pz} (h : MV st p) : ∀ l z, p.te l z ≤ 2 * p.m := by
  intro l z
  unfold Pz.te
  split
  · rename_i q
    exact (h.2.2.2.2 _ (Nat.lt_of_lt_of_le (tell_lt h.1.n45 q) (by have := h.1.n45; omega))).2
  · exact Nat.zero_le _
theorem S_counts {st : MSt} {p : Pz} {l fuel : Nat} {w : Nat → Nat} (h : MV st p) (hw : CVw st p.m w) (hl : l < 2 * p.n + 2) (hf : 200 ≤ fuel) :
    ∃ st', S_X6_counts fuel (i3 l) st = some (i3 (fitL p w l).length, st') ∧ frm [11, 12] [] st st' := by
  have hok := h.1
  have hn := hok.n45
  have hm := hok.m24
  have h32 := pow_le hm.2.2
  have h16 := p16 hm.2.2
  have hte := h.te_le
  have hpp : 0 < 2 ^ p.m := Nat.two_pow_pos _
  have h2m : 2 ^ (p.m + 1) = 2 * 2 ^ p.m := by rw [Nat.pow_succ, Nat.mul_comm]
  obtain ⟨W, hW⟩ : ∃ W, W = wyN p.n p.m (p.te l false) (p.te l true) (fun k => w (cellN p.n l k)) := ⟨_, rfl⟩
  have e0 : (0 : Int32) = i3 0 := rfl
  unfold S_X6_counts
  rw [h.2.1, onm_e, h.2.2.1, onm_e]
  -- ways: nothing is met
  obtain ⟨s0, ⟨i1, i2⟩, er⟩ := st_run (F := fun f j s => S_X6_counts_c17 (fun y13_1 y13_2 y13_3 u14 => 
        S_X6_counts_c53
          (fun y26_3 u27 => 
              ob (((1 : Int32) <<< (y26_3 &&& 31)) - (1 : Int32)) 16 fun j28 =>
              some (u27.2.1 11 j28, u27))
           fuel y13_1 y13_2 y13_3 0 u14) f (i3 l) (i3 p.n) (i3 p.m) (i3 j) s)
    (I := fun j s => frm [11, 12] [] st s ∧ ∀ q, q < j → s.2.1 11 q = i3 (decide (q = 0)).toNat)
    (K := fun s => S_X6_counts_c53
          (fun y26_3 u27 => 
              ob (((1 : Int32) <<< (y26_3 &&& 31)) - (1 : Int32)) 16 fun j28 =>
              some (u27.2.1 11 j28, u27))
           fuel (i3 l) (i3 p.n) (i3 p.m) 0 s) (N := 16) (B := 0) (fun f s _ _ => by
      show S_X6_counts_c17 _ (f + 1) _ _ _ _ _ = _
      rw [S_X6_counts_c17, if_pos (show (16 : Int32) ≤ i3 16 by decide)]) (fun f j s hj _ ⟨a1, a2⟩ => by
      have hq : ¬ 16 ≤ j := by omega
      refine ⟨mA s 11 j (i3 (decide (j = 0)).toNat), ⟨a1.a (by simp), fun q hq => ?_⟩, ?_⟩
      · rw [mA_eq]
        by_cases e : q = j
        · subst e; rw [upd_same]
        · rw [upd_ne e]; exact a2 q (by omega)
      · show S_X6_counts_c17 _ (f + 1) _ _ _ _ _ = _
        have ej : (i3 j = 0) = (j = 0) := i3_eq (b := 0) (by omega) (by decide)
        have e16 : ((16 : Int32) ≤ i3 j) = (16 ≤ j) := i3_le (a := 16) (by decide) (by omega)
        rw [S_X6_counts_c17]
        simp only [e16, hq, if_false, ej]
        by_cases e : j = 0
        · rw [if_pos e, S_flag1, Option.bind_some, ob_e (by omega) (by decide), onm_e, i3_succ, decide_eq_true e]; rfl
        · rw [if_neg e, S_flag0, Option.bind_some, ob_e (by omega) (by decide), onm_e, i3_succ, decide_eq_false e]; rfl) 0 (Nat.zero_le _) fuel st (by omega) ⟨frm.rf, fun q h => absurd h (Nat.not_lt_zero _)⟩
  have er' := er
  rw [← e0] at er'
  rw [er']
  -- place by place
  obtain ⟨s9, ⟨k1, k2⟩, er2⟩ := st_run (F := fun f j s => S_X6_counts_c53 (fun y26_3 u27 => 
              ob (((1 : Int32) <<< (y26_3 &&& 31)) - (1 : Int32)) 16 fun j28 =>
              some (u27.2.1 11 j28, u27)) f (i3 l) (i3 p.n) (i3 p.m) (i3 j) s)
    (I := fun j s => frm [11, 12] [] st s ∧ ∀ q, q < 2 ^ p.m → s.2.1 11 q = i3 (W j q))
    (K := fun s => ob (((1 : Int32) <<< (i3 p.m &&& 31)) - (1 : Int32)) 16 fun j28 => some (s.2.1 11 j28, s)) (N := p.n) (B := 100) (fun f s _ _ => by
      show S_X6_counts_c53 _ (f + 1) _ _ _ _ _ = _
      rw [S_X6_counts_c53]
      simp only [i3_le (a := p.n) (b := p.n) (by omega) (by omega), Nat.le_refl, if_true]) (fun f j s hj hfb ⟨a1, a2⟩ => by
      have hq : ¬ p.n ≤ j := by omega
      have hM : MV s p := h.to (a1.1 0 (by simp))
      have hcl := cellN_lt hn hl hj
      have hnn := nn_le hn
      have hwc := hw (cellN p.n l j) (by omega)
      obtain ⟨set, hset⟩ : ∃ set, set = w (cellN p.n l j) := ⟨_, rfl⟩
      rw [← hset] at hwc
      have e1 : (23 : Int32) + i3 (cellN p.n l j) = i3 (23 + cellN p.n l j) := i3_add 23 _
      have ev : s.2.1 0 (23 + cellN p.n l j) = i3 set := by rw [a1.1 0 (by simp)]; exact hwc.1
      show ∃ b, _ ∧ S_X6_counts_c53 _ (f + 1) _ _ _ _ _ = _
      rw [S_X6_counts_c53]
      simp only [i3_le (a := p.n) (b := j) (by omega) (by omega), hq, if_false]
      rw [S_cellAt hM hl hj, Option.bind_some, e1, ob_e (by omega) (by decide), ev, onm_e]
      -- zeros
      obtain ⟨s1, ⟨b1, b2⟩, er3⟩ := st_run (F := fun f2 q s => S_X6_counts_c79 (fun y20_1 y20_2 y20_3 y20_4 y20_5 u21 => 
            S_X6_counts_c103
              (fun y22_1 y22_2 y22_3 y22_4 u23 => 
                  S_X6_counts_c277
                    (fun y24_1 y24_2 y24_3 y24_4 u25 => 
                        S_X6_counts_c53 (fun y26_3 u27 => 
              ob (((1 : Int32) <<< (y26_3 &&& 31)) - (1 : Int32)) 16 fun j28 =>
              some (u27.2.1 11 j28, u27)) f y24_1 y24_2 y24_3 (y24_4 + 1) u25)
                     f y22_1 y22_2 y22_3 y22_4 0 u23)
               f y20_1 y20_2 y20_3 y20_4 y20_5 0 u21) f2 (i3 l) (i3 p.n) (i3 p.m) (i3 j) (i3 set) (i3 q) s)
        (I := fun q s' => frm [12] [] s s' ∧ ∀ x, x < q → s'.2.1 12 x = i3 0)
        (K := fun s => S_X6_counts_c103
              (fun y22_1 y22_2 y22_3 y22_4 u23 => 
                  S_X6_counts_c277
                    (fun y24_1 y24_2 y24_3 y24_4 u25 => 
                        S_X6_counts_c53 (fun y26_3 u27 => 
              ob (((1 : Int32) <<< (y26_3 &&& 31)) - (1 : Int32)) 16 fun j28 =>
              some (u27.2.1 11 j28, u27)) f y24_1 y24_2 y24_3 (y24_4 + 1) u25)
                     f y22_1 y22_2 y22_3 y22_4 0 u23)
               f (i3 l) (i3 p.n) (i3 p.m) (i3 j) (i3 set) 0 s) (N := 16) (B := 0) (fun f2 s _ _ => by
          show S_X6_counts_c79 _ (f2 + 1) _ _ _ _ _ _ _ = _
          rw [S_X6_counts_c79, if_pos (show (16 : Int32) ≤ i3 16 by decide)]) (fun f2 q s' hq2 _ ⟨c1, c2⟩ => by
          have hq3 : ¬ 16 ≤ q := by omega
          refine ⟨mA s' 12 q 0, ⟨c1.a (by simp), fun x hx => ?_⟩, ?_⟩
          · rw [mA_eq]
            by_cases e : x = q
            · subst e; rw [upd_same]; rfl
            · rw [upd_ne e]; exact c2 x (by omega)
          · show S_X6_counts_c79 _ (f2 + 1) _ _ _ _ _ _ _ = _
            have e16 : ((16 : Int32) ≤ i3 q) = (16 ≤ q) := i3_le (a := 16) (by decide) (by omega)
            rw [S_X6_counts_c79]
            simp only [e16, hq3, if_false]
            rw [ob_e (by omega) (by decide), onm_e, i3_succ]) 0 (Nat.zero_le _) f s (by omega) ⟨frm.rf, fun q h => absurd h (Nat.not_lt_zero _)⟩
      rw [← e0] at er3
      rw [er3]
      have hM1 : MV s1 p := hM.to (b1.1 0 (by simp))
      have h11 : ∀ s', frm [12] [] s1 s' → ∀ q, q < 2 ^ p.m → s'.2.1 11 q = i3 (W j q) := by
        intro s' hs q hq4
        rw [hs.1 11 (by simp), b1.1 11 (by simp)]; exact a2 q hq4
      have fr1 : ∀ s', frm [12] [] s1 s' → frm [11, 12] [] st s' := fun s' hs => (a1.trans (b1.mono (by simp) (by simp))).trans (hs.mono (by simp) (by simp))
      -- sets of letters
      obtain ⟨s2, ⟨d1, d2⟩, er4⟩ := st_run (F := fun f2 met s => S_X6_counts_c103
              (fun y22_1 y22_2 y22_3 y22_4 u23 => 
                  S_X6_counts_c277
                    (fun y24_1 y24_2 y24_3 y24_4 u25 => 
                        S_X6_counts_c53 (fun y26_3 u27 => 
              ob (((1 : Int32) <<< (y26_3 &&& 31)) - (1 : Int32)) 16 fun j28 =>
              some (u27.2.1 11 j28, u27)) f y24_1 y24_2 y24_3 (y24_4 + 1) u25)
                     f y22_1 y22_2 y22_3 y22_4 0 u23)
               f2 (i3 l) (i3 p.n) (i3 p.m) (i3 j) (i3 set) (i3 met) s)
        (I := fun met s' => frm [12] [] s1 s' ∧ ∀ q, q < 2 ^ p.m → s'.2.1 12 q = i3 ((List.range met).map fun a => W j a * cntQ p.n p.m (p.te l false) (p.te l true) j set a q).sum)
        (K := fun s => S_X6_counts_c277
                    (fun y24_1 y24_2 y24_3 y24_4 u25 => 
                        S_X6_counts_c53 (fun y26_3 u27 => 
              ob (((1 : Int32) <<< (y26_3 &&& 31)) - (1 : Int32)) 16 fun j28 =>
              some (u27.2.1 11 j28, u27)) f y24_1 y24_2 y24_3 (y24_4 + 1) u25)
                     f (i3 l) (i3 p.n) (i3 p.m) (i3 j) 0 s) (N := 2 ^ p.m) (B := 20) (fun f2 s _ _ => by
          show S_X6_counts_c103 _ (f2 + 1) _ _ _ _ _ _ _ = _
          rw [S_X6_counts_c103, i3_one (by omega), Nat.one_shiftLeft]
          simp only [i3_le (a := 2 ^ p.m) (b := 2 ^ p.m) (by omega) (by omega), Nat.le_refl, if_true]) (fun f2 met s' hmet hf2 ⟨c1, c2⟩ => by
          have hqm : ¬ 2 ^ p.m ≤ met := by omega
          have hM2 : MV s' p := hM1.to (c1.1 0 (by simp))
          have hpm : pc met ≤ p.m := (by decide +kernel : ∀ (m : Fin 5) (a : Fin 16), a.1 < 2 ^ m.1 → pc a.1 ≤ m.1) ⟨p.m, by omega⟩ ⟨met, by omega⟩ hmet
          -- letters
          have letters : ∀ s3, frm [12] [] s1 s3 → (∀ q, q < 2 ^ p.m → s3.2.1 12 q = i3 (((List.range met).map fun a => W j a * cntQ p.n p.m (p.te l false) (p.te l true) j set a q).sum + W j met * (set.testBit p.m && okG p.n p.m j met && q == met).toNat)) →
              ∃ b, (frm [12] [] s1 b ∧ ∀ q, q < 2 ^ p.m → b.2.1 12 q = i3 ((List.range (met + 1)).map fun a => W j a * cntQ p.n p.m (p.te l false) (p.te l true) j set a q).sum) ∧ ∀ (K : Int32 → Int32 → Int32 → Int32 → Int32 → Int32 → MSt → Option (Int32 × MSt)), S_X6_counts_c162 K f2 (i3 l) (i3 p.n) (i3 p.m) (i3 j) (i3 set) (i3 met) (i3 (pc met)) 0 s3 = K (i3 l) (i3 p.n) (i3 p.m) (i3 j) (i3 set) (i3 met) b := by
            intro s3 g1 g2
            have g11 := h11 s3 g1
            have run : ∀ k, k ≤ p.m → ∀ s4 f3, p.m - k + 11 ≤ f3 → (frm [12] [] s1 s4 ∧ ∀ q, q < 2 ^ p.m → s4.2.1 12 q = i3 (((List.range met).map fun a => W j a * cntQ p.n p.m (p.te l false) (p.te l true) j set a q).sum + W j met * ((set.testBit p.m && okG p.n p.m j met && q == met).toNat + sumB (fun x => set.testBit x && okT p.m (p.te l false) (p.te l true) met x && q == (met ||| 1 <<< x)) k))) →
                ∃ b, (frm [12] [] s1 b ∧ ∀ q, q < 2 ^ p.m → b.2.1 12 q = i3 (((List.range met).map fun a => W j a * cntQ p.n p.m (p.te l false) (p.te l true) j set a q).sum + W j met * ((set.testBit p.m && okG p.n p.m j met && q == met).toNat + sumB (fun x => set.testBit x && okT p.m (p.te l false) (p.te l true) met x && q == (met ||| 1 <<< x)) p.m))) ∧ ∀ (K : Int32 → Int32 → Int32 → Int32 → Int32 → Int32 → MSt → Option (Int32 × MSt)), S_X6_counts_c162 K f3 (i3 l) (i3 p.n) (i3 p.m) (i3 j) (i3 set) (i3 met) (i3 (pc met)) (i3 k) s4 = K (i3 l) (i3 p.n) (i3 p.m) (i3 j) (i3 set) (i3 met) b := by
              apply vloop
              · intro s4 f3 hf3 hI
                obtain ⟨f3, rfl⟩ : ∃ k, f3 = k + 1 := ⟨f3 - 1, by omega⟩
                refine ⟨s4, hI, fun K => ?_⟩
                rw [S_X6_counts_c162]
                simp only [i3_le (a := p.m) (b := p.m) (by omega) (by omega), Nat.le_refl, if_true]
              · intro k hk ih s4 f3 hf3 ⟨m1, m2⟩
                obtain ⟨f3, rfl⟩ : ∃ k, f3 = k + 1 := ⟨f3 - 1, by omega⟩
                have hM4 : MV s4 p := hM1.to (m1.1 0 (by simp))
                have g114 := h11 s4 m1
                have hqk : ¬ p.m ≤ k := by omega
                have hor := or_lt hmet hk
                have eor : i3 met ||| (1 : Int32) <<< (i3 k &&& 31) = i3 (met ||| 1 <<< k) := by rw [i3_one (by omega), i3_or]
                obtain ⟨c, hc⟩ : ∃ c, c = (set.testBit k && okT p.m (p.te l false) (p.te l true) met k) := ⟨_, rfl⟩
                have hj : ∀ K, S_X6_counts_c162 K (f3 + 1) (i3 l) (i3 p.n) (i3 p.m) (i3 j) (i3 set) (i3 met) (i3 (pc met)) (i3 k) s4 = S_X6_counts_j229 (S_X6_counts_c162 K f3) f3 (i3 l) (i3 p.n) (i3 p.m) (i3 j) (i3 set) (i3 met) (i3 (pc met)) (i3 k) (bI c) s4 := by
                  intro K
                  rw [S_X6_counts_c162]
                  simp only [i3_le (a := p.m) (b := k) (by omega) (by omega), hqk, if_false]
                  rw [S_has (by omega) (by omega), Option.bind_some]
                  simp only [bI_eq0]
                  cases q1 : set.testBit k with
                  | false => rw [if_pos rfl, hc, q1, Bool.false_and]; rfl
                  | true =>
                    rw [if_neg (by decide), S_has (by omega) (by omega), Option.bind_some]
                    simp only [bI_eq0]
                    cases q2 : met.testBit k with
                    | true =>
                      rw [if_neg (by decide), hc, q1]
                      unfold okT
                      rw [q2]; rfl
                    | false =>
                      have hbp := bef_pred ⟨p.m, by omega⟩ ⟨met, by omega⟩ ⟨k, by omega⟩ hk hmet q2
                      have hb' : pc met ≤ p.m - 1 := hbp
                      have ht1 := hte l false
                      have ht2 := hte l true
                      have et1 : S_X6_tellingOf (i3 l) 0 s4 = some (i3 (p.te l false)) := S_tellingOf hM4 hl (z := false)
                      have et2 : S_X6_tellingOf (i3 l) 1 s4 = some (i3 (p.te l true)) := S_tellingOf hM4 hl (z := true)
                      have es : i3 p.m - 1 - i3 (pc met) = i3 (p.m - 1 - pc met) := by
                        have : i3 p.m - 1 = i3 (p.m - 1) := i3_sub (b := 1) (by omega)
                        rw [this, i3_sub hb']
                      rw [if_pos rfl, et1, Option.bind_some, S_isInOrder (by omega) (by omega) (by omega), Option.bind_some, hc, q1]
                      unfold okT
                      rw [q2]
                      simp only [bI_eq0, Bool.not_false, Bool.true_and, ordB_N]
                      cases q3 : ordN (p.te l false) k (pc met) with
                      | false => rw [if_pos rfl, Bool.false_and]; rfl
                      | true =>
                        rw [if_neg (by decide), et2, Option.bind_some, es, S_isInOrder (by omega) (by omega) (by omega), Option.bind_some]
                        simp only [bI_eq0, Bool.true_and, ordB_N]
                        cases q4 : ordN (p.te l true) k (p.m - 1 - pc met) with
                        | false => rw [if_pos rfl]; rfl
                        | true => rw [if_neg (by decide)]; rfl
                have hw11 := g114 met hmet
                have hk2 := m2 (met ||| 1 <<< k) hor
                have hfin : ∃ s5, (frm [12] [] s1 s5 ∧ ∀ q, q < 2 ^ p.m → s5.2.1 12 q = i3 (((List.range met).map fun a => W j a * cntQ p.n p.m (p.te l false) (p.te l true) j set a q).sum + W j met * ((set.testBit p.m && okG p.n p.m j met && q == met).toNat + sumB (fun x => set.testBit x && okT p.m (p.te l false) (p.te l true) met x && q == (met ||| 1 <<< x)) (k + 1)))) ∧ ∀ K, S_X6_counts_j229 (S_X6_counts_c162 K f3) f3 (i3 l) (i3 p.n) (i3 p.m) (i3 j) (i3 set) (i3 met) (i3 (pc met)) (i3 k) (bI c) s4 = S_X6_counts_c162 K f3 (i3 l) (i3 p.n) (i3 p.m) (i3 j) (i3 set) (i3 met) (i3 (pc met)) (i3 (k + 1)) s5 := by
                  refine ⟨mA s4 12 (met ||| 1 <<< k) (i3 (((List.range met).map fun a => W j a * cntQ p.n p.m (p.te l false) (p.te l true) j set a (met ||| 1 <<< k)).sum + W j met * ((set.testBit p.m && okG p.n p.m j met && (met ||| 1 <<< k) == met).toNat + sumB (fun x => set.testBit x && okT p.m (p.te l false) (p.te l true) met x && (met ||| 1 <<< k) == (met ||| 1 <<< x)) (k + 1)))), ⟨m1.a (by simp), fun q hq => ?_⟩, fun K => ?_⟩
                  · rw [mA_eq]
                    by_cases e : q = met ||| 1 <<< k
                    · subst e; rw [upd_same]
                    · rw [upd_ne e, m2 q hq, sumB_succ]
                      have e' : (q == (met ||| 1 <<< k)) = false := by simpa using e
                      rw [e', Bool.and_false]; rfl
                  · unfold S_X6_counts_j229
                    have es : sumB (fun x => set.testBit x && okT p.m (p.te l false) (p.te l true) met x && (met ||| 1 <<< k) == (met ||| 1 <<< x)) (k + 1) = sumB (fun x => set.testBit x && okT p.m (p.te l false) (p.te l true) met x && (met ||| 1 <<< k) == (met ||| 1 <<< x)) k + c.toNat := by
                      rw [sumB_succ, beq_self_eq_true, Bool.and_true, hc]
                    rw [eor, ob_e (by omega) (by decide), ob_e (by omega) (by decide), es, hk2]
                    simp only [bI_eq0]
                    cases c with
                    | false =>
                      rw [if_pos rfl, onm_e, e0, i3_add, i3_succ]; rfl
                    | true =>
                      rw [if_neg (by decide), ob_e (by omega) (by decide), ob_e (by omega) (by decide), onm_e, hw11, i3_add, i3_succ]
                      congr 2
                      congr 1
                      show _ = _ + W j met * (_ + (_ + 1))
                      rw [← Nat.add_assoc, Nat.mul_add (W j met) _ 1, Nat.mul_one, Nat.add_assoc]
                obtain ⟨s5, hI5, hj5⟩ := hfin
                obtain ⟨b, hb1, hb2⟩ := ih s5 f3 (by omega) hI5
                exact ⟨b, hb1, fun K => by rw [hj K, hj5 K, hb2 K]⟩
            obtain ⟨b, ⟨hb1, hb2⟩, hb3⟩ := run 0 (Nat.zero_le _) s3 f2 (by omega) ⟨g1, fun q hq => by rw [g2 q hq]; rfl⟩
            refine ⟨b, ⟨hb1, fun q hq => ?_⟩, hb3⟩
            rw [hb2 q hq, List.range_succ, List.map_append, List.sum_append]
            congr 2
          have hw11 := h11 s' c1 met hmet
          have hk2 := c2 met hmet
          -- the gap
          obtain ⟨cg, hcg⟩ : ∃ cg, cg = (set.testBit p.m && okG p.n p.m j met) := ⟨_, rfl⟩
          obtain ⟨b, hb1, hb2⟩ := letters (mA s' 12 met (i3 (((List.range met).map fun a => W j a * cntQ p.n p.m (p.te l false) (p.te l true) j set a met).sum + W j met * cg.toNat))) (c1.a (by simp)) (fun q hq => by
            rw [mA_eq]
            by_cases e : q = met
            · subst e; rw [upd_same, beq_self_eq_true, Bool.and_true, hcg]
            · have e' : (q == met) = false := by simpa using e
              rw [upd_ne e, c2 q hq, e', Bool.and_false]; rfl)
          refine ⟨b, hb1, ?_⟩
          show S_X6_counts_c103 _ (f2 + 1) _ _ _ _ _ _ _ = _
          rw [S_X6_counts_c103, i3_one (by omega), Nat.one_shiftLeft]
          simp only [i3_le (a := 2 ^ p.m) (b := met) (by omega) (by omega), hqm, if_false]
          rw [S_many (by omega) (by omega), Option.bind_some, ob_e (by omega) (by decide), S_has (by omega) (by omega), Option.bind_some, hk2]
          simp only [bI_eq0]
          have eg : ∀ x : Int32, (x = i3 (W j met * cg.toNat)) → i3 ((List.range met).map fun a => W j a * cntQ p.n p.m (p.te l false) (p.te l true) j set a met).sum + x = i3 (((List.range met).map fun a => W j a * cntQ p.n p.m (p.te l false) (p.te l true) j set a met).sum + W j met * cg.toNat) := by
            intro x hx; rw [hx, i3_add]
          cases q1 : set.testBit p.m with
          | false =>
            rw [if_pos rfl, ob_e (by omega) (by decide), onm_e, eg 0 (by rw [hcg, q1]; simp; rfl), hb2]
            rw [i3_succ]
          | true =>
            have hle : (i3 p.n - i3 p.m ≤ i3 j - i3 (pc met)) = (okG p.n p.m j met = false) := by
              unfold okG
              rw [i3_subLe (by omega) (by omega) (by omega) (by omega), decide_eq_false_iff_not, eq_iff_iff]
              omega
            rw [if_neg (by decide)]
            simp only [hle]
            cases q2 : okG p.n p.m j met with
            | false =>
              rw [if_pos rfl, ob_e (by omega) (by decide), onm_e, eg 0 (by rw [hcg, q2, Bool.and_false]; simp; rfl), hb2]
              rw [i3_succ]
            | true =>
              rw [if_neg (by decide), ob_e (by omega) (by decide), ob_e (by omega) (by decide), onm_e, hw11, eg _ (by rw [hcg, q1, q2]; simp), hb2]
              rw [i3_succ]) 0 (Nat.zero_le _) f s1 (by omega) ⟨frm.rf, fun q hq => by rw [b2 q (by omega)]; rfl⟩
      rw [← e0] at er4
      rw [er4]
      -- copies
      obtain ⟨s3, ⟨g1, g2⟩, er5⟩ := st_run (F := fun f2 q s => S_X6_counts_c277
                    (fun y24_1 y24_2 y24_3 y24_4 u25 => 
                        S_X6_counts_c53 (fun y26_3 u27 => 
              ob (((1 : Int32) <<< (y26_3 &&& 31)) - (1 : Int32)) 16 fun j28 =>
              some (u27.2.1 11 j28, u27)) f y24_1 y24_2 y24_3 (y24_4 + 1) u25)
                     f2 (i3 l) (i3 p.n) (i3 p.m) (i3 j) (i3 q) s)
        (I := fun q s' => frm [11] [] s2 s' ∧ ∀ x, x < q → s'.2.1 11 x = s2.2.1 12 x)
        (K := fun s => S_X6_counts_c53 (fun y26_3 u27 => 
              ob (((1 : Int32) <<< (y26_3 &&& 31)) - (1 : Int32)) 16 fun j28 =>
              some (u27.2.1 11 j28, u27)) f (i3 l) (i3 p.n) (i3 p.m) (i3 j + 1) s) (N := 16) (B := 0) (fun f2 s _ _ => by
          show S_X6_counts_c277 _ (f2 + 1) _ _ _ _ _ _ = _
          rw [S_X6_counts_c277, if_pos (show (16 : Int32) ≤ i3 16 by decide)]) (fun f2 q s' hq2 _ ⟨c1, c2⟩ => by
          have hq3 : ¬ 16 ≤ q := by omega
          refine ⟨mA s' 11 q (s2.2.1 12 q), ⟨c1.a (by simp), fun x hx => ?_⟩, ?_⟩
          · rw [mA_eq]
            by_cases e : x = q
            · subst e; rw [upd_same]
            · rw [upd_ne e]; exact c2 x (by omega)
          · show S_X6_counts_c277 _ (f2 + 1) _ _ _ _ _ _ = _
            have e16 : ((16 : Int32) ≤ i3 q) = (16 ≤ q) := i3_le (a := 16) (by decide) (by omega)
            rw [S_X6_counts_c277]
            simp only [e16, hq3, if_false]
            rw [ob_e (by omega) (by decide), ob_e (by omega) (by decide), c1.1 12 (by simp), onm_e, i3_succ]) 0 (Nat.zero_le _) f s2 (by omega) ⟨frm.rf, fun q h => absurd h (Nat.not_lt_zero _)⟩
      rw [← e0] at er5
      rw [er5]
      refine ⟨s3, ⟨(fr1 s2 d1).trans (g1.mono (by simp) (by simp)), fun q hq => ?_⟩, by rw [i3_succ]⟩
      rw [g2 q (by omega), d2 q hq, hW, wy_succ, hset]) 0 (Nat.zero_le _) fuel s0 (by omega) ⟨i1, fun q hq => by rw [i2 q (by omega), hW, wy_0]⟩
  rw [← e0] at er2
  rw [er2, i3_one (by omega), Nat.one_shiftLeft]
  have e1 : i3 (2 ^ p.m) - 1 = i3 (2 ^ p.m - 1) := i3_sub (b := 1) hpp
  rw [e1, ob_e (by omega) (by decide), k2 _ (by omega), hW, wy_full hok hte]
  exact ⟨s9, rfl, k1⟩
