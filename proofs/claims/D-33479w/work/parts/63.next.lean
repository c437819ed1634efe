/-! reason 6 and the next step in the model -/
set_option maxRecDepth 100000
def setC (u : Nat → Nat) (c v : Nat) : Nat → Nat := fun x => if x = c then v else u x
theorem setC_eq {u : Nat → Nat} {c v : Nat} : setC u c v c = v := if_pos rfl
theorem setC_ne {u : Nat → Nat} {c v x : Nat} (h : x ≠ c) : setC u c v x = u x := if_neg h
theorem bits_le {n m : Nat} (hn : n = 4 ∨ n = 5) {u : Nat → Nat} (hm : m ≤ 4) (hu : ∀ c, c < 25 → u c < 2 ^ (m + 1)) : bitsN n u ≤ 125 := by
  have h32 := pow_le hm
  have : bitsN n u ≤ ((List.range (n * n)).map fun _ => 5).sum := sum_le fun c hc => by
    have h1 := hu c (Nat.lt_of_lt_of_le (List.mem_range.mp hc) (nn_le hn))
    unfold pc; omega
  rw [List.map_const', List.sum_replicate_nat, List.length_range] at this
  have := nn_le hn
  omega
theorem S_breaks {st : MSt} {p : Pz} {b c t left n : Nat} {u : Nat → Nat} (h : MV st p) (hT : TC st) (hu : LVw st b p.m u) (hb : b + 25 ≤ 50) (hc : c < p.n * p.n) (ht : t ≤ p.m) (hleft : left < 2 ^ p.nL) (hac : ∀ l, l < p.nL → left.testBit l = false → ACl p (setC u c (1 <<< t)) l) (hf : 5000 ≤ n) :
    ∃ r st', S_X6_breaks n (i3 b) (i3 c) (i3 t) (i3 left) st = some (bI r, st') ∧ frm [3, 4, 5, 6] [7, 8, 9] st st' ∧ TC st' ∧ (∀ q, q < 50 ∨ 75 ≤ q → st'.2.1 5 q = st.2.1 5 q) ∧ (r = true ↔ ¬ live p (setC u c (1 <<< t))) := by
  have hok := h.1
  have hn := hok.n45
  have hm := hok.m24
  have hc25 : c < 25 := Nat.lt_of_lt_of_le hc (nn_le hn)
  obtain ⟨s1, g1, g2, g3, g4⟩ := S_layers hu (by omega) (b := 50) (by decide) (by omega) (fuel := n) (by omega)
  have esh : (1 : Int32) <<< (i3 t &&& 31) = i3 (1 <<< t) := i3_shl (a := 1) (by omega)
  have hv : 1 <<< t < 2 ^ (p.m + 1) := by rw [Nat.one_shiftLeft]; exact Nat.pow_lt_pow_right (by decide) (by omega)
  have hU : LVw (mA s1 5 (50 + c) (i3 (1 <<< t))) 50 p.m (setC u c (1 <<< t)) := g3.set hv
  have hM : MV (mA s1 5 (50 + c) (i3 (1 <<< t))) p := (h.to (g2.1 0 (by simp))).to (mA_ne (by decide))
  have hT2 : TC (mA s1 5 (50 + c) (i3 (1 <<< t))) := hT.to (by rw [mA_ne (by decide)]; exact g2.1 3 (by simp)) (by rw [mA_ne (by decide)]; exact g2.1 4 (by simp)) (g2.2.1 7 (by simp)) (g2.2.1 8 (by simp)) (g2.2.1 9 (by simp))
  have hbl := bits_le hn hm.2.2 (fun c hc => (hU c hc).2)
  have hpl := pcL_le left
  obtain ⟨r, st', u', t1, t2, ⟨t3, -⟩, t4, t5, t6, t7, t8⟩ := S_closes (b := 50) (by decide) (13 * bitsN p.n (setC u c (1 <<< t)) + pcL left + 1) (setC u c (1 <<< t)) left _ n hM hT2 hU hleft hac (by omega) (by omega)
  have o1 : (50 : Int32) + i3 c = i3 (50 + c) := i3_add 50 c
  unfold S_X6_breaks S_X6_closes
  rw [show (50 : Int32) = i3 50 from rfl] at *
  rw [g1, Option.bind_some, o1, ob_e (by omega) (by decide), esh, onm_e, t1, Option.bind_some]
  simp only [bI_eq0]
  refine ⟨!r, st', ?_, (g2.mono (by simp) (by simp)).trans ((frm.rf.a (by simp)).trans t2), t3, fun q hq => ?_, ?_⟩
  · cases r <;> rfl
  · rw [t4 q (by omega), mA_eq, upd_ne (by omega), g4 q (by omega)]
  · cases r with
    | false => exact ⟨fun _ => t8 rfl, fun _ => rfl⟩
    | true => exact ⟨fun h => (by cases h), fun h => absurd ⟨u', t6, (t7 rfl).1⟩ h⟩
def holdP (p : Pz) (u : Nat → Nat) (r c t : Nat) : Prop := if r = 6 then ¬ live p (setC u c (1 <<< t)) else holdB p u r c t = true
def cand (p : Pz) (u : Nat → Nat) (most r c t : Nat) : Prop := 1 ≤ r ∧ r ≤ most ∧ c < p.n * p.n ∧ t ≤ p.m ∧ (u c).testBit t = true ∧ pc (u c) ≠ 1 ∧ holdP p u r c t
def NB (p : Pz) (u : Nat → Nat) (most r c t : Nat) : Prop := ∀ r' c' t', cand p u most r' c' t' → ¬ (r' < r ∨ r' = r ∧ (c' < c ∨ c' = c ∧ t' < t))
def nextR (p : Pz) (u : Nat → Nat) (most : Nat) (x : Int32) : Prop := (∃ r c t, cand p u most r c t ∧ NB p u most r c t ∧ x = i3 (1000 * r + 10 * c + t)) ∨ ((∀ r c t, ¬ cand p u most r c t) ∧ x = -1)
theorem brkSet_zero {p : Pz} (hok : okNM p.n p.m) {u : Nat → Nat} : brkSet p u = 0 ↔ ∀ l, l < p.nL → brk p u l = false := by
  have e : ∀ l, (brkSet p u).testBit l = (decide (l < p.nL) && brk p u l) := fun l => brkTo_bit p u p.nL l
  constructor
  · intro h l hl
    have := e l
    rw [h, Nat.zero_testBit] at this
    simp [hl] at this
    exact this
  · intro h
    apply Nat.eq_of_testBit_eq
    intro l
    rw [e l, Nat.zero_testBit]
    by_cases q : l < p.nL
    · rw [h l q]; simp
    · simp [q]
theorem pc_one : ∀ (a : Fin 32) (s t : Fin 5), pc a.1 = 1 → a.1.testBit s.1 = true → a.1.testBit t.1 = true → s = t := by decide +kernel
/-- no line is broken and reason 5 holds nowhere: the board is consistent -/
theorem AC_of {p : Pz} (hok : okNM p.n p.m) {u : Nat → Nat} (hu : ∀ c, c < p.n * p.n → u c < 2 ^ (p.m + 1)) (hb : ∀ l, l < p.nL → brk p u l = false) (h5 : ∀ c t, c < p.n * p.n → t ≤ p.m → (u c).testBit t = true → pc (u c) ≠ 1 → holdB p u 5 c t = false) (hpin : ∀ l k, l < p.nL → k < p.n → pinN p l (cellN p.n l k) = k) : AC p u := by
  have hn := hok.n45
  have hm := hok.m24
  have hL := nL_le hok
  have h32 := pow_le hm.2.2
  intro l hl
  refine ⟨hb l hl, fun k hk t ht => ?_⟩
  have hc := cellN_lt hn (by omega : l < 2 * p.n + 2) hk
  have ht2 : t ≤ p.m := by
    rcases Nat.lt_or_ge p.m t with q | q
    · have := Nat.testBit_lt_two_pow (Nat.lt_of_lt_of_le (hu _ hc) (Nat.pow_le_pow_right (n := 2) (by decide) (by omega : p.m + 1 ≤ t)))
      rw [this] at ht; cases ht
    · exact q
  by_cases q : pc (u (cellN p.n l k)) = 1
  · obtain ⟨row, hr⟩ := brk_iff.mp (hb l hl)
    have hf := fit_iff.mp (mem_fitL.mp hr).2
    have hrow := arrs_row hok (mem_fitL.mp hr).1
    have hle := getD_le hrow.2.1 k
    have := pc_one ⟨u (cellN p.n l k), Nat.lt_of_lt_of_le (hu _ hc) h32⟩ ⟨row.getD k 0, by omega⟩ ⟨t, by omega⟩ q (hf.1 k hk) ht
    exact poss_bit.mpr ⟨row, hr, congrArg Fin.val this⟩
  · have h6 := h5 _ t hc ht2 ht q
    unfold holdB at h6
    have h7 : ¬ ((List.range p.nL).any fun l2 => (linesN p (cellN p.n l k)).testBit l2 && rB p u 5 l2 (cellN p.n l k) t) = true := by rw [h6]; decide
    rw [any_range] at h7
    cases z : (poss p u l k).testBit t with
    | true => rfl
    | false =>
      exfalso
      apply h7
      refine ⟨l, hl, ?_⟩
      rw [Bool.and_eq_true]
      refine ⟨(linesN_bit hn hc).mpr ⟨hl, k, hk, rfl⟩, ?_⟩
      unfold rB
      simp only [show (5 : Nat) ≠ 1 by decide, show (5 : Nat) ≠ 2 by decide, show (5 : Nat) ≠ 3 by decide, show (5 : Nat) ≠ 4 by decide, if_false]
      rw [hpin l k hl hk, z]; rfl
theorem pin4 : ∀ (l : Fin 10) (k : Fin 4), (if l.1 < 4 then cellN 4 l.1 k.1 % 4 else cellN 4 l.1 k.1 / 4) = k.1 := by decide +kernel
theorem pin5 : ∀ (l : Fin 12) (k : Fin 5), (if l.1 < 5 then cellN 5 l.1 k.1 % 5 else cellN 5 l.1 k.1 / 5) = k.1 := by decide +kernel
theorem pinN_cell {p : Pz} (hok : okNM p.n p.m) {l k : Nat} (hl : l < p.nL) (hk : k < p.n) : pinN p l (cellN p.n l k) = k := by
  have hL := nL_le hok
  obtain ⟨n, m, dg, tl⟩ := p
  have hn : n = 4 ∨ n = 5 := hok.n45
  have hk' : k < n := hk
  have h1 : Pz.nL (n, m, dg, tl) ≤ 2 * n + 2 := hL.2.2
  rcases hn with rfl | rfl
  · exact pin4 ⟨l, by omega⟩ ⟨k, hk'⟩
  · exact pin5 ⟨l, by omega⟩ ⟨k, hk'⟩
def nInv (p : Pz) (b : Nat) (u : Nat → Nat) (s0 s : MSt) : Prop := frm [3, 4, 5, 6] [7, 8, 9] s0 s ∧ TC s ∧ ∀ q, q < 50 ∨ 75 ≤ q → s.2.1 5 q = s0.2.1 5 q
theorem LVw.far {a s : MSt} {b m : Nat} {u : Nat → Nat} (h : LVw a b m u) (hb : b + 25 ≤ 50) (e : ∀ q, q < 50 ∨ 75 ≤ q → s.2.1 5 q = a.2.1 5 q) : LVw s b m u := fun c hc => by rw [e _ (by omega)]; exact h c hc
def nextQ (p : Pz) (b : Nat) (u : Nat → Nat) (most : Nat) (s0 : MSt) (o : Option (Int32 × MSt)) : Prop := ∃ x s', o = some (x, s') ∧ nextR p u most x ∧ nInv p b u s0 s'
theorem S_next {st : MSt} {p : Pz} {b most n : Nat} {u : Nat → Nat} (h : MV st p) (hT : TC st) (hu : LVw st b p.m u) (hb : b + 25 ≤ 50) (hmost : most ≤ 6) (hf : 5200 ≤ n) :
    ∃ x st', S_X6_next n (i3 b) (i3 most) st = some (x, st') ∧ frm [3, 4, 5, 6, 7] [7, 8, 9] st st' ∧ TC st' ∧ (∀ q, q < 50 ∨ 75 ≤ q → st'.2.1 5 q = st.2.1 5 q) ∧ (if brkSet p u = 0 then nextR p u most x else x = -1) := by
  have hok := h.1
  have hn := hok.n45
  have hm := hok.m24
  have hL := nL_le hok
  have h12 := pow12 hok
  have h32 := pow_le hm.2.2
  have hnn := nn_le hn
  obtain ⟨s0, g1, g2, g3, g4⟩ := S_looksAtAll h hT hu (by omega) (fuel := n) (by omega)
  have hM0 : MV s0 p := h.to (g2.1 0 (by simp))
  have hU0 : LVw s0 b p.m u := hu.to (g2.1 5 (by simp))
  have hbs : brkSet p u < 4096 := brkTo_lt (by omega)
  have ez : (i3 (brkSet p u) = 0) = (brkSet p u = 0) := i3_eq (b := 0) (by omega) (by decide)
  unfold S_X6_next
  rw [g1, Option.bind_some]
  simp only [ez]
  by_cases hz : brkSet p u = 0
  · simp only [if_pos hz]
    have hbr := (brkSet_zero hok).mp hz
    have hu25 : ∀ c, c < p.n * p.n → u c < 2 ^ (p.m + 1) := fun c hc => (hu c (by omega)).2
    -- a step of the innermost loop
    have inner : ∀ (r c : Nat) (K : Int32 → Int32 → Int32 → Int32 → MSt → Option (Int32 × MSt)), 1 ≤ r → r ≤ most → c < p.n * p.n → (∀ s, nInv p b u s0 s → NB p u most r (c + 1) 0 → nextQ p b u most s0 (K (i3 b) (i3 most) (i3 r) (i3 c) s)) →
        ∀ t, t ≤ p.m + 1 → ∀ f, p.m + 1 - t + 5100 + 1 ≤ f → ∀ s, nInv p b u s0 s → NB p u most r c t → nextQ p b u most s0 (S_X6_next_c43 (fun y6_3 y6_4 y6_6 u7 => some ((((1000 : Int32) * y6_3) + ((10 : Int32) * y6_4)) + y6_6, u7)) (fun y8_3 y8_4 y8_6 u9 => some ((((1000 : Int32) * y8_3) + ((10 : Int32) * y8_4)) + y8_6, u9)) K f (i3 b) (i3 most) (i3 r) (i3 c) (i3 (u c)) (i3 t) s) := by
      intro r c K hr1 hr2 hc hK
      have hc25 : c < 25 := by omega
      have huc := hu25 c hc
      have hskip : ∀ t, pc (u c) = 1 → NB p u most r c t → NB p u most r (c + 1) 0 := by
        intro t hp hN r' c' t' hcd hlt
        apply hN r' c' t' hcd
        rcases hlt with q | ⟨q1, q2 | ⟨q2, q3⟩⟩
        · exact Or.inl q
        · rcases Nat.lt_or_ge c' c with q | q
          · exact Or.inr ⟨q1, Or.inl q⟩
          · have : c' = c := by omega
            subst this
            exact absurd hp hcd.2.2.2.2.2.1
        · omega
      apply vloop
      · intro f hf s hI hN
        obtain ⟨f, rfl⟩ : ∃ k, f = k + 1 := ⟨f - 1, by omega⟩
        have hM : MV s p := hM0.to (hI.1.1 0 (by simp))
        rw [S_X6_next_c43, hM.2.2.1]
        simp only [i3_lt (a := p.m) (b := p.m + 1) (by omega) (by omega), Nat.lt_succ_self, if_true]
        refine hK s hI fun r' c' t' hcd hlt => hN r' c' t' hcd ?_
        have := hcd.2.2.2.1
        rcases hlt with q | ⟨q1, q2 | ⟨q2, q3⟩⟩
        · exact Or.inl q
        · rcases Nat.lt_or_ge c' c with q | q
          · exact Or.inr ⟨q1, Or.inl q⟩
          · exact Or.inr ⟨q1, Or.inr ⟨by omega, by omega⟩⟩
        · omega
      · intro t ht ih f hf s hI hN
        obtain ⟨f, rfl⟩ : ∃ k, f = k + 1 := ⟨f - 1, by omega⟩
        have hM : MV s p := hM0.to (hI.1.1 0 (by simp))
        have hU : LVw s b p.m u := hU0.far hb hI.2.2
        have h7 : ∀ l, l < p.nL → ∀ k, k < p.n → s.2.1 7 (5 * l + k) = i3 (poss p u l k) := fun l hl k hk => by rw [hI.1.1 7 (by simp)]; exact g4 l hl k hk
        have hq : ¬ p.m < t := by omega
        have e6 : ((6 : Int32) ≤ i3 r) = (6 ≤ r) := i3_le (a := 6) (by decide) (by omega)
        have hnext : ¬ cand p u most r c t → NB p u most r c (t + 1) := by
          intro hno r' c' t' hcd hlt
          apply hN r' c' t' hcd
          rcases hlt with q | ⟨q1, q2 | ⟨q2, q3⟩⟩
          · exact Or.inl q
          · exact Or.inr ⟨q1, Or.inl q2⟩
          · rcases Nat.lt_or_ge t' t with q | q
            · exact Or.inr ⟨q1, Or.inr ⟨q2, q⟩⟩
            · have : t' = t := by omega
              subst this; subst q1; subst q2
              exact absurd hcd hno
        have hres : ((1000 : Int32) * i3 r + (10 : Int32) * i3 c) + i3 t = i3 (1000 * r + 10 * c + t) := by
          rw [show (1000 : Int32) = i3 1000 from rfl, show (10 : Int32) = i3 10 from rfl, i3_mul, i3_mul, i3_add, i3_add]
        rw [S_X6_next_c43, hM.2.2.1, S_isSettled (by omega) (by omega), S_has (by omega) (by omega), S_linesOf hM hc]
        simp only [i3_lt (a := p.m) (b := t) (by omega) (by omega), hq, if_false, Option.bind_some, bI_eq0, e6, i3_succ]
        by_cases q1 : pc (u c) = 1
        · have q1' : (pc (u c) == 1) = true := by simpa using q1
          rw [if_neg (by rw [q1']; decide)]
          exact hK s hI (hskip t q1 hN)
        · have q1' : (pc (u c) == 1) = false := by simpa using q1
          rw [if_pos q1']
          by_cases q2 : (u c).testBit t = true
          · rw [if_neg (by rw [q2]; decide)]
            by_cases q6 : 6 ≤ r
            · have hr6 : r = 6 := by omega
              rw [if_pos q6]
              have hAC : AC p u := AC_of hok hu25 hbr (fun c' t' hc' ht' hb' hp' => by
                cases z : holdB p u 5 c' t' with
                | false => rfl
                | true =>
                  exfalso
                  refine hN 5 c' t' ⟨by decide, by omega, hc', ht', hb', hp', ?_⟩ (Or.inl (by omega))
                  unfold holdP
                  rw [if_neg (by decide)]; exact z) (fun l k hl hk => pinN_cell hok hl hk)
              obtain ⟨rr, s', t1, t2, t3, t4, t5⟩ := S_breaks (c := c) (t := t) (left := linesN p c) (n := f) hM hI.2.1 hU hb hc (by omega) (linesN_lt hn hc) (fun l hl hno => ACl_congr (fun k hk => setC_ne fun e => by
                have := (linesN_bit hn hc).mpr ⟨hl, k, hk, e⟩
                rw [this] at hno; cases hno) (hAC l hl)) (by omega)
              rw [t1, Option.bind_some]
              simp only [bI_eq0]
              have hI' : nInv p b u s0 s' := ⟨hI.1.trans t2, t3, fun q hq => by rw [t4 q hq]; exact hI.2.2 q hq⟩
              have hcand : cand p u most r c t ↔ rr = true := by
                rw [t5]
                constructor
                · intro hcd
                  have := hcd.2.2.2.2.2.2
                  unfold holdP at this
                  rwa [if_pos hr6] at this
                · intro hlv
                  refine ⟨hr1, hr2, hc, by omega, q2, q1, ?_⟩
                  unfold holdP
                  rwa [if_pos hr6]
              cases rr with
              | false =>
                rw [if_pos rfl]
                exact ih f (by omega) s' hI' (hnext fun hcd => by have := hcand.mp hcd; cases this)
              | true =>
                rw [if_neg (by decide)]
                exact ⟨_, s', rfl, Or.inl ⟨r, c, t, hcand.mpr rfl, hN, hres⟩, hI'⟩
            · rw [if_neg q6, S_holds hM hU (by omega) h7 ⟨hr1, by omega⟩ hc (by omega) (by omega), Option.bind_some]
              simp only [bI_eq0]
              have hcand : cand p u most r c t ↔ holdB p u r c t = true := by
                constructor
                · intro hcd
                  have := hcd.2.2.2.2.2.2
                  unfold holdP at this
                  rwa [if_neg (by omega)] at this
                · intro hlv
                  refine ⟨hr1, hr2, hc, by omega, q2, q1, ?_⟩
                  unfold holdP
                  rwa [if_neg (by omega)]
              cases z : holdB p u r c t with
              | false =>
                rw [if_pos rfl]
                exact ih f (by omega) s hI (hnext fun hcd => by have := hcand.mp hcd; rw [z] at this; cases this)
              | true =>
                rw [if_neg (by decide)]
                exact ⟨_, s, rfl, Or.inl ⟨r, c, t, hcand.mpr z, hN, hres⟩, hI⟩
          · have q2' : (u c).testBit t = false := by simpa using q2
            rw [if_pos q2']
            exact ih f (by omega) s hI (hnext fun hcd => q2 hcd.2.2.2.2.1)
    have middle : ∀ (r : Nat) (K : Int32 → Int32 → Int32 → MSt → Option (Int32 × MSt)), 1 ≤ r → r ≤ most → (∀ s, nInv p b u s0 s → NB p u most (r + 1) 0 0 → nextQ p b u most s0 (K (i3 b) (i3 most) (i3 r) s)) →
        ∀ c, c ≤ p.n * p.n → ∀ f, p.n * p.n - c + 5120 + 1 ≤ f → ∀ s, nInv p b u s0 s → NB p u most r c 0 → nextQ p b u most s0 (S_X6_next_c20 (fun y6_3 y6_4 y6_6 u7 => some ((((1000 : Int32) * y6_3) + ((10 : Int32) * y6_4)) + y6_6, u7)) (fun y8_3 y8_4 y8_6 u9 => some ((((1000 : Int32) * y8_3) + ((10 : Int32) * y8_4)) + y8_6, u9)) K f (i3 b) (i3 most) (i3 r) (i3 c) s) := by
      intro r K hr1 hr2 hK
      apply vloop
      · intro f hf s hI hN
        obtain ⟨f, rfl⟩ : ∃ k, f = k + 1 := ⟨f - 1, by omega⟩
        have hM : MV s p := hM0.to (hI.1.1 0 (by simp))
        rw [S_X6_next_c20, S_cells hM, Option.bind_some]
        simp only [i3_le (a := p.n * p.n) (b := p.n * p.n) (by omega) (by omega), Nat.le_refl, if_true]
        refine hK s hI fun r' c' t' hcd hlt => hN r' c' t' hcd ?_
        have := hcd.2.2.1
        rcases hlt with q | ⟨q1, q2 | ⟨q2, q3⟩⟩
        · rcases Nat.lt_or_ge r' r with q3 | q3
          · exact Or.inl q3
          · exact Or.inr ⟨by omega, Or.inl this⟩
        · omega
        · omega
      · intro c hc ih f hf s hI hN
        obtain ⟨f, rfl⟩ : ∃ k, f = k + 1 := ⟨f - 1, by omega⟩
        have hM : MV s p := hM0.to (hI.1.1 0 (by simp))
        have hU : LVw s b p.m u := hU0.far hb hI.2.2
        have hq : ¬ p.n * p.n ≤ c := by omega
        rw [S_X6_next_c20, S_cells hM, Option.bind_some]
        simp only [i3_le (a := p.n * p.n) (b := c) (by omega) (by omega), hq, if_false]
        rw [i3_add, ob_e (by omega) (by decide), onm_e, (hU c (by omega)).1]
        exact inner r c _ hr1 hr2 hc (fun s' hI' hN' => by
          show nextQ p b u most s0 (S_X6_next_c20 _ _ K f (i3 b) (i3 most) (i3 r) (i3 c + 1) s')
          rw [i3_succ]; exact ih f (by omega) s' hI' hN') 0 (Nat.zero_le _) f (by omega) s hI hN
    have outer : ∀ r, r ≤ most + 1 → 1 ≤ r → ∀ f, most + 1 - r + 5160 + 1 ≤ f → ∀ s, nInv p b u s0 s → NB p u most r 0 0 → nextQ p b u most s0 (S_X6_next_c12 (fun y6_3 y6_4 y6_6 u7 => some ((((1000 : Int32) * y6_3) + ((10 : Int32) * y6_4)) + y6_6, u7)) (fun y8_3 y8_4 y8_6 u9 => some ((((1000 : Int32) * y8_3) + ((10 : Int32) * y8_4)) + y8_6, u9)) f (i3 b) (i3 most) (i3 r) s) := by
      apply vloop
      · intro _ f hf s hI hN
        obtain ⟨f, rfl⟩ : ∃ k, f = k + 1 := ⟨f - 1, by omega⟩
        rw [S_X6_next_c12]
        simp only [i3_lt (a := most) (b := most + 1) (by omega) (by omega), Nat.lt_succ_self, if_true]
        exact ⟨_, s, rfl, Or.inr ⟨fun r c t hcd => hN r c t hcd (Or.inl (by have := hcd.2.1; omega)), rfl⟩, hI⟩
      · intro r hr ih hr1 f hf s hI hN
        obtain ⟨f, rfl⟩ : ∃ k, f = k + 1 := ⟨f - 1, by omega⟩
        have hq : ¬ most < r := by omega
        rw [S_X6_next_c12]
        simp only [i3_lt (a := most) (b := r) (by omega) (by omega), hq, if_false]
        exact middle r _ hr1 (by omega) (fun s' hI' hN' => by
          show nextQ p b u most s0 (S_X6_next_c12 _ _ f (i3 b) (i3 most) (i3 r + 1) s')
          rw [i3_succ]; exact ih (by omega) f (by omega) s' hI' hN') 0 (Nat.zero_le _) f (by omega) s hI hN
    obtain ⟨x, s', k1, k2, k3⟩ := outer 1 (by omega) (Nat.le_refl _) n (by omega) s0 ⟨frm.rf, g3, fun _ _ => rfl⟩ (fun r' c' t' hcd hlt => by have := hcd.1; omega)
    exact ⟨x, s', k1, g2.mono (by simp) (by simp) |>.trans (k3.1.mono (by simp) (by simp)), k3.2.1, fun q hq => by rw [k3.2.2 q hq, g2.1 5 (by simp)], k2⟩
  · simp only [if_neg hz]
    exact ⟨_, s0, rfl, g2.mono (by simp) (by simp), g3, fun q _ => by rw [g2.1 5 (by simp)], rfl⟩
