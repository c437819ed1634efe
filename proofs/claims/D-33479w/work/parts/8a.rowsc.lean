/-! the component counts solutions row by row
-/
set_option maxRecDepth 100000
/-- for each row what its cells were -/
def RBv (I : Nat → Prop) (h : aH) (b : Nat) (F : List Nat) (rr : Nat → Nat) : Prop := ∃ (a th rb : Nat) (R : Nat → Option Nat), h b = some (aObj 5 [.ref a, .ref th, .ref rb]) ∧ h rb = some (aRefs (.array .int) 5 R) ∧ ∀ i, i < 5 → R i = some (rr i) ∧ (∃ g : Nat → Int32, h (rr i) = some (aInts .int 5 g)) ∧ rr i ∉ F ∧ ¬ I (rr i) ∧ ∀ j, j < 5 → rr i = rr j → i = j
def rowS (th : Nat) (rr : Nat → Nat) (r : Nat) : Nat → Prop := fun q => q = th ∨ ∃ i, r ≤ i ∧ i < 5 ∧ q = rr i
section RWC
variable {l : Launch} {G : aG} {I : Nat → Prop} {b a th : Nat} {F : List Nat} {p : Pz} {rr : Nat → Nat}
/-- a board and its rows kept where only their own numbers change -/
theorem RBv.ths {h h' : aH} {u : Nat → Nat} (hR : RBv I h b F rr) (hB : BD I h b a th F p u) (hk : kp (· = th) h h') : RBv I h' b F rr := by
  obtain ⟨a', th', rb, R, h1, h2, h3⟩ := hR
  obtain ⟨-, rb2, f, hb, ht, -⟩ := hB
  refine ⟨a', th', rb, R, hk _ _ h1 (fun e => by rw [e, ht] at h1; cases h1), hk _ _ h2 (fun e => by rw [e, ht] at h2; cases h2), fun i hi => ?_⟩
  obtain ⟨k1, ⟨g, k2⟩, k3⟩ := h3 i hi
  exact ⟨k1, ⟨g, hk _ _ k2 (fun e => by rw [e, ht] at k2; cases k2)⟩, k3⟩
theorem RBv.row {h : aH} {g : Nat → Int32} {r : Nat} (hR : RBv I h b F rr) (hr : r < 5) : RBv I (aUp h (rr r) (aInts .int 5 g)) b F rr := by
  obtain ⟨a', th', rb, R, h1, h2, h3⟩ := hR
  obtain ⟨-, ⟨g0, k2⟩, -, -, kj⟩ := h3 r hr
  refine ⟨a', th', rb, R, by rw [aUp_ne (fun e => by rw [e, k2] at h1; cases h1)]; exact h1, by rw [aUp_ne (fun e => by rw [e, k2] at h2; cases h2)]; exact h2, fun i hi => ?_⟩
  obtain ⟨y1, ⟨g2, y2⟩, y3⟩ := h3 i hi
  refine ⟨y1, ?_, y3⟩
  by_cases e : rr i = rr r
  · rw [e]; exact ⟨g, aUp_eq⟩
  · exact ⟨g2, by rw [aUp_ne e]; exact y2⟩
theorem BD.row {h h' : aH} {u : Nat → Nat} {r : Nat} (hB : BD I h b a th F p u) (hR : RBv I h b F rr) (hr : r < 5) (hk : kp (· = rr r) h h') : BD I h' b a th F p u := by
  obtain ⟨a', th', rb, R, h1, h2, h3⟩ := hR
  obtain ⟨-, ⟨g0, k2⟩, kF, kI, -⟩ := h3 r hr
  exact hB.oth hk (fun e => by
    obtain ⟨-, rb2, f, hb, ht, -⟩ := hB
    rw [e, k2] at ht; cases ht) (fun e => by rw [e, k2] at h1; cases h1) kF kI
theorem n5 {n : Nat} (hn : n = 4 ∨ n = 5) {row k : Nat} (hr : row < n) (hk : k < n) : n * row + k < n * n := by
  have : n * row + n ≤ n * n := by rw [← Nat.mul_succ]; exact Nat.mul_le_mul_left _ hr
  omega
theorem B_countBoth (hl : l.stackTraces = false) : ∀ (k : Nat) (h : aH) (u : Nat → Nat) (row wanted : Nat), p.n - row = k → row ≤ p.n → 0 < wanted → wanted ≤ 1000 → BD I h b a th F p u → RBv I h b F rr → (∀ c, c < p.n * row → pc (u c) = 1) →
    aC l G mX5_countByRows (wsN mX5_countByRows) (8 + 2 * k) 0 0 [.ref b, .int (i3 row), .int (i3 wanted)] h (aPR fun v h' => v = some (.int (i3 (min wanted (sols p u).length))) ∧ kp (rowS th rr row) h h' ∧ BD I h' b a th F p u ∧ RBv I h' b F rr) := by
  intro k
  induction k with
  | zero =>
    intro h u row wanted hk hrow hw0 hw hB hR hs
    have hok := hB.ok
    have hn := hok.n45
    have hm := hok.m24
    have hbnd := hB.bnd
    have hB0 := hB
    obtain ⟨hP, rb, f, hb, ht, hf, -⟩ := hB
    obtain ⟨tl, ls, lo, ar, rw, T, L, R, sec, -, -, -, -, -, ho, -⟩ := hP
    have hrn : row = p.n := by omega
    subst hrn
    refine A_X5_countByRows hl (vR_mk hb rfl (vI_mk ho rfl ⟨fun q => absurd rfl q, fun _ => ⟨⟨_, hb⟩, ?_⟩⟩))
    refine vC_p (B_isBroken hl hB0) (by decide) (by decide) (by decide) ⟨_, rfl, ?_, kp.rf, hB0, hR⟩
    cases hz : brkB p u with
    | true =>
      have hz2 := hz
      unfold brkB at hz2
      rw [any_range] at hz2
      obtain ⟨i, hi, hz2⟩ := hz2
      rw [brk_sols hok hi hz2]
      show _ = some (Value.int (i3 (min wanted 0)))
      rw [Nat.min_zero]; rfl
    | false =>
      rw [sols_done hok hbnd hs (brkB_iff.mp hz)]
      show _ = some (Value.int (i3 (min wanted 1)))
      rw [Nat.min_eq_right hw0]; rfl
  | succ k ih =>
    intro h u row wanted hk hrow hw0 hw hB hR hs
    have hok := hB.ok
    have hn := hok.n45
    have hm := hok.m24
    have hL := nL_le hok
    have hnn := nn_le hn
    have hal := arrs_len hok
    have hbnd := hB.bnd
    have hB0 := hB
    have hR0 := hR
    obtain ⟨hP, rb, f, hb, ht, hf, -⟩ := hB
    have hrn : row < p.n := by omega
    have hcell : ∀ k2, cellN p.n row k2 = p.n * row + k2 := fun k2 => by unfold cellN; rw [if_pos hrn]
    -- one row filled with an arrangement
    have hWith : ∀ (h1 : aH) (x w2 : Nat) (Rw : List Nat), 0 < w2 → w2 ≤ 1000 → BD I h1 b a th F p u → RBv I h1 b F rr → rowA h1 x p.n Rw → I x → Rw ∈ arrs p.n p.m →
        aC l G mX5_countWith (wsN mX5_countWith) (9 + 2 * k) 0 0 [.ref b, .int (i3 row), .int (i3 w2), .ref x] h1 (aPR fun v h' => v = some (.int (i3 (min w2 (sols p (setR p.n u row Rw)).length))) ∧ kp (rowS th rr (row + 1)) h1 h' ∧ BD I h' b a th F p (setR p.n u row Rw) ∧ RBv I h' b F rr) := by
      intro h1 x w2 Rw hw20 hw2 hB1 hR1 hx hIx hRw
      obtain ⟨hRl, hRm, -⟩ := arrs_row hok hRw
      have hthI : ¬ I th := by obtain ⟨-, _, _, _, _, _, _, _, _, y⟩ := hB1; exact y
      have hxt : x ≠ th := fun e => hthI (by rw [← e]; exact hIx)
      obtain ⟨gx, hgx, hgx2⟩ := hx
      refine A_X5_countWith hl ?_
      -- the columns
      have cols := vloop (N := p.n) (T := fun j => ∀ (h2 : aH) (u2 : Nat → Nat), kp (· = th) h1 h2 → BD I h2 b a th F p u2 → (∀ c, c < p.n * p.n → u2 c = if p.n * row ≤ c ∧ c < p.n * row + j then 1 <<< Rw.getD (c - p.n * row) 0 else u c) → T_X5_countWith_3 l G (9 + 2 * k) 0 0 (aPR fun v h' => v = some (.int (i3 (min w2 (sols p (setR p.n u row Rw)).length))) ∧ kp (rowS th rr (row + 1)) h1 h' ∧ BD I h' b a th F p (setR p.n u row Rw) ∧ RBv I h' b F rr) b (i3 row) (i3 w2) x (i3 j) h2 0 0) ?_ ?_ 0 (Nat.zero_le _) h1 u kp.rf hB1 (fun c hc => by rw [if_neg (by omega)])
      · exact cols
      · intro h2 u2 k2 hB2 hu2
        have hB3 : BD I h2 b a th F p (setR p.n u row Rw) := by
          obtain ⟨q1, q2, q3, q4, q5, q6, q7⟩ := hB2
          exact ⟨q1, q2, q3, q4, q5, fun c hc => by
            have := q6 c hc
            rw [hu2 c hc] at this
            exact this, q7⟩
        have hR2 := hR1.ths hB1 k2
        have k2' : kp (rowS th rr (row + 1)) h1 h2 := k2.mono fun q e => Or.inl e
        have hB4 := hB3
        obtain ⟨hP2, rb2, f2, hb2, ht2, hf2, -⟩ := hB3
        have hP20 := hP2
        obtain ⟨tl, ls, lo, ar, rw, T, L, R, sec, -, -, -, -, -, ho, -⟩ := hP2
        refine A_X5_countWith_3 hl (vR_mk hb2 rfl (vI_mk ho rfl ⟨fun _ => vR_mk hb2 rfl (vI_mk ho rfl ?_), fun q => absurd (by rw [i3_le (by omega) (by omega)]; exact Nat.le_refl _) q⟩))
        have hs2 : ∀ c, c < p.n * (row + 1) → pc (setR p.n u row Rw c) = 1 := by
          intro c hc
          rw [Nat.mul_succ] at hc
          by_cases q : p.n * row ≤ c ∧ c < p.n * row + p.n
          · unfold setR
            rw [if_pos q]
            have := getD_le hRm (c - p.n * row)
            exact pc_sh ⟨Rw.getD (c - p.n * row) 0, by omega⟩
          · rw [setR_out q]; exact hs c (by omega)
        -- from a line on, none of those ahead is broken
        have dead : ∀ i, i < p.nL → brk p (setR p.n u row Rw) i = true → (aPR fun v h' => v = some (.int (i3 (min w2 (sols p (setR p.n u row Rw)).length))) ∧ kp (rowS th rr (row + 1)) h1 h' ∧ BD I h' b a th F p (setR p.n u row Rw) ∧ RBv I h' b F rr) (.inl (some (.int 0))) h2 := by
          intro i hi hz
          refine ⟨?_, k2', hB4, hR2⟩
          rw [brk_sols hok hi hz]
          show _ = some (Value.int (i3 (min w2 0)))
          rw [Nat.min_zero]; rfl
        have lines := vloop (N := p.nL) (T := fun i => p.n ≤ i → T_X5_countWith_56 l G (9 + 2 * k) 0 0 (aPR fun v h' => v = some (.int (i3 (min w2 (sols p (setR p.n u row Rw)).length))) ∧ kp (rowS th rr (row + 1)) h1 h' ∧ BD I h' b a th F p (setR p.n u row Rw) ∧ RBv I h' b F rr) b (i3 row) (i3 w2) (bI false) (i3 i) h2 0 0) ?_ ?_ p.n (by omega) (Nat.le_refl _)
        · exact lines
        · intro _
          refine A_X5_countWith_56 hl (vR_mk hb2 rfl ⟨⟨_, ho⟩, ?_⟩)
          refine vC_p (B_lineCount hl hP20) (by omega) (by decide) (by decide) ⟨_, rfl, fun _ => ⟨fun _ => ⟨⟨_, hb2⟩, ?_⟩, fun q => absurd rfl q⟩, fun q => absurd (by rw [i3_le (by omega) (by omega)]; exact Nat.le_refl _) q⟩
          rw [i3_succ]
          refine vC_r (ih h2 (setR p.n u row Rw) (row + 1) w2 (by omega) (by omega) hw20 hw2 hB4 hR2 hs2) (by omega) (by decide) (by decide) fun v h3 hR3 => ?_
          obtain ⟨hv, k3, hB5, hR5⟩ := hR3
          exact ⟨_, hv, rfl, k2'.tr k3, hB5, hR5⟩
        · intro i hi ih2 hni
          refine A_X5_countWith_56 hl (vR_mk hb2 rfl ⟨⟨_, ho⟩, ?_⟩)
          refine vC_p (B_lineCount hl hP20) (by omega) (by decide) (by decide) ⟨_, rfl, fun q => absurd (by rwa [i3_le (by omega) (by omega)] at q) (by omega : ¬ p.nL ≤ i), fun _ => ⟨fun q => absurd rfl q, fun _ => ⟨⟨_, hb2⟩, ?_⟩⟩⟩
          refine vC_p (B_isLineBroken hl hB4 hi) (by omega) (by decide) (by decide) ⟨_, rfl, ?_⟩
          show T_X5_countWith_56 l G (9 + 2 * k) 0 0 _ b (i3 row) (i3 w2) (bI (brk p (setR p.n u row Rw) i)) (i3 i + 1) h2 0 0
          rw [i3_succ]
          cases hz : brk p (setR p.n u row Rw) i with
          | false => exact ih2 (by omega)
          | true =>
            have hd := dead i hi hz
            refine A_X5_countWith_56 hl (vR_mk hb2 rfl ⟨⟨_, ho⟩, ?_⟩)
            exact vC_p (B_lineCount hl hP20) (by omega) (by decide) (by decide) ⟨_, rfl, fun _ => ⟨fun q => (by cases q), fun _ => hd⟩, fun _ => ⟨fun _ => ⟨fun q => (by cases q), fun _ => hd⟩, fun q => (by cases q)⟩⟩
      · intro j hj ihj h2 u2 k2 hB2 hu2
        have hB3 := hB2
        obtain ⟨hP2, rb2, f2, hb2, ht2, hf2, -⟩ := hB2
        obtain ⟨tl, ls, lo, ar, rw, T, L, R, sec, -, -, -, -, -, ho, -⟩ := hP2
        have hx2 : h2 x = some (aInts .int p.n gx) := k2 _ _ hgx hxt
        have hc := n5 hn hrn hj
        have hrj := getD_le hRm j
        have hv : 1 <<< Rw.getD j 0 < 2 ^ (p.m + 1) := by rw [Nat.one_shiftLeft]; exact Nat.pow_lt_pow_right (by decide) (by omega)
        refine A_X5_countWith_3 hl (vR_mk hb2 rfl (vI_mk ho rfl ⟨fun q => absurd (by rwa [i3_le (by omega) (by omega)] at q) (by omega : ¬ p.n ≤ j), fun _ => vR_mk hb2 rfl (vR_mk hb2 rfl (vI_mk ho rfl (vA_mk hx2 rfl hj (by omega) ?_)))⟩))
        rw [hgx2 j hj, i3_one (by omega), i3_mul, i3_add, i3_succ]
        have k3 : kp (· = th) h2 (aUp h2 th (aInts .int 25 (upd f2 (p.n * row + j) (i3 (1 <<< Rw.getD j 0))))) := kp.up rfl
        refine vSt_mk ht2 rfl (by omega : p.n * row + j < 25) (by decide) (ihj _ (setC u2 (p.n * row + j) (1 <<< Rw.getD j 0)) (k2.tr k3) (hB3.set k3 aUp_eq fun c hc2 => ?_) fun c hc2 => ?_)
        · by_cases q : c = p.n * row + j
          · rw [q, upd_same, setC_eq]; exact ⟨rfl, hv⟩
          · rw [upd_ne q, setC_ne q]; exact hf2 c hc2
        · by_cases q : c = p.n * row + j
          · rw [q, setC_eq, if_pos (by omega), Nat.add_sub_cancel_left]
          · rw [setC_ne q, hu2 c hc2]
            by_cases q2 : p.n * row ≤ c ∧ c < p.n * row + j
            · rw [if_pos q2, if_pos (by omega)]
            · rw [if_neg q2, if_neg (by omega)]
    -- all arrangements of the row
    obtain ⟨ax, tx, rbx, Rx, q1, q2, q3⟩ := hR
    obtain ⟨r1, ⟨g0, r2⟩, rF, rI, rj⟩ := q3 row (by omega)
    have hrb : rbx = rb := by
      rw [hb] at q1
      have := (Option.some.inj q1)
      injection this with this
      injection this with _ this
      injection this with _ this
      injection this with _ this
      injection this with this _
      injection this with this
      exact this.symm
    subst hrb
    have hobj : ∃ fs, h a = some (.inr (3, fs)) ∧ fs[4]? = some (.int (i3 p.n)) := by
      obtain ⟨tl, ls, lo, ar, rw, T, L, R, sec, -, -, -, -, -, ho, -⟩ := hP
      exact ⟨_, ho, rfl⟩
    obtain ⟨fs, ho, ho4⟩ := hobj
    have e5n : i3 p.n * i3 row = i3 (p.n * row) := i3_mul _ _
    refine A_X5_countByRows hl (vR_mk hb rfl (vI_mk ho ho4 ⟨fun _ => vR_mk hb rfl (vAR_mk q2 rfl (by omega : row < 5) (by decide) r1 (vR_mk hb rfl (vR_mk hb rfl (vI_mk ho ho4 (vR_mk hb rfl (vI_mk ho ho4 ⟨by omega, ?_⟩)))))), fun q => ?_⟩))
    · have hle : p.n * row + p.n ≤ 25 := by
        have : p.n * row + p.n ≤ p.n * p.n := by rw [← Nat.mul_succ]; exact Nat.mul_le_mul_left _ hrn
        omega
      refine vCpyI_mk (sp := p.n * row) (dp := 0) (n := p.n) ht r2 e5n rfl rfl hle (by omega) (by decide) (by decide) ?_
      have kr : kp (· = rr row) h (aUp h (rr row) (aInts .int 5 (va_cpy f g0 (p.n * row) 0 p.n))) := kp.up rfl
      have hB1 := hB0.row hR0 (by omega : row < 5) kr
      have hR1 := hR0.row (g := va_cpy f g0 (p.n * row) 0 p.n) (by omega : row < 5)
      have hlen : (sols p u).length = (((arrs p.n p.m).filter (fit p u row)).map fun Rw => (sols p (setR p.n u row Rw)).length).sum := by
        rw [← (sols_row hok hrn).length_eq]
        unfold splitR
        rw [List.length_flatMap]
      have loop := vloop (N := (arrs p.n p.m).length) (T := fun j => ∀ (h1 : aH) (g : Nat → Int32), kp (rowS th rr row) h h1 → BD I h1 b a th F p u → RBv I h1 b F rr → h1 (rr row) = some (aInts .int 5 g) → (∀ k2, k2 < p.n → g k2 = i3 (u (p.n * row + k2))) → T_X5_countByRows_62 l G (8 + 2 * (k + 1)) 0 0 (aPR fun v h' => v = some (.int (i3 (min wanted (sols p u).length))) ∧ kp (rowS th rr row) h h' ∧ BD I h' b a th F p u ∧ RBv I h' b F rr) b (i3 row) (i3 wanted) (rr row) (i3 (min wanted ((((arrs p.n p.m).take j).filter (fit p u row)).map fun Rw => (sols p (setR p.n u row Rw)).length).sum)) (i3 j) h1 0 0) ?_ ?_ 0 (Nat.zero_le _) _ (va_cpy f g0 (p.n * row) 0 p.n) (kr.mono fun q e => Or.inr ⟨row, Nat.le_refl _, by omega, e⟩) hB1 hR1 aUp_eq (fun k2 hk2 => by
        unfold va_cpy
        rw [if_pos (by omega), Nat.sub_zero]
        exact (hf _ (n5 hn hrn hk2)).1)
      · rw [List.take_zero] at loop
        have e0 : (min wanted ((([] : List (List Nat)).filter (fit p u row)).map fun Rw => (sols p (setR p.n u row Rw)).length).sum) = 0 := by show min wanted 0 = 0; omega
        rw [e0] at loop
        exact loop
      · intro h1 g k1 hB2 hR2 hg hg2
        have hB3 := hB2
        obtain ⟨hP2, rb2, f2, hb2, ht2, hf2, -⟩ := hB2
        obtain ⟨tl, ls, lo, ar, rw, T, L, R, sec, -, -, -, -, -, ho2, -, -, -, hls, hrw, hlo, hlo2, hA⟩ := hP2
        have hA0 := hA
        obtain ⟨li, e, cap, fl, har, -⟩ := hA
        refine A_X5_countByRows_62 hl (vR_mk hb2 rfl (vO_mk (x := some ar) ho2 rfl ⟨_, rfl, ⟨_, har⟩, ?_⟩))
        rw [List.take_length]
        refine vC_p (B_count hl hA0) (by omega) (by decide) (by decide) ⟨_, rfl, fun _ => ?_, fun q => absurd (by rw [i3_le (by omega) (by omega)]; exact Nat.le_refl _) q⟩
        refine vC_p (B_min hl (by omega) (by omega)) (by omega) (by decide) (by decide) ⟨_, rfl, ?_, k1, hB3, hR2⟩
        rw [hlen]
        congr 3
        omega
      · intro j hj ihj h1 g k1 hB2 hR2 hg hg2
        have hB3 := hB2
        obtain ⟨hP2, rb2, f2, hb2, ht2, hf2, -⟩ := hB2
        obtain ⟨tl, ls, lo, ar, rw, T, L, R, sec, -, -, -, -, -, ho2, -, -, -, hls, hrw, hlo, hlo2, hA⟩ := hP2
        have hA0 := hA
        obtain ⟨li, e, cap, fl, har, hAL, hAr, -⟩ := hA
        have hmem : (arrs p.n p.m).getD j [] ∈ arrs p.n p.m := getD_mem hj
        obtain ⟨tot, htot⟩ : ∃ tot, tot = ((((arrs p.n p.m).take j).filter (fit p u row)).map fun Rw => (sols p (setR p.n u row Rw)).length).sum := ⟨_, rfl⟩
        rw [← htot]
        have hstep : ((((arrs p.n p.m).take (j + 1)).filter (fit p u row)).map fun Rw => (sols p (setR p.n u row Rw)).length).sum = tot + (if fit p u row ((arrs p.n p.m).getD j []) = true then (sols p (setR p.n u row ((arrs p.n p.m).getD j []))).length else 0) := by
          rw [take_succ_getD' hj (d := []), filter_app1, List.map_append, List.sum_append, ← htot]
          congr 1
          by_cases q : fit p u row ((arrs p.n p.m).getD j []) = true
          · rw [if_pos q, if_pos q]; simp
          · rw [if_neg q, if_neg q]; rfl
        rw [hstep] at ihj
        have htle : tot ≤ (sols p u).length := by
          have hsp : (((arrs p.n p.m).filter (fit p u row)).map fun Rw => (sols p (setR p.n u row Rw)).length).sum = tot + ((((arrs p.n p.m).drop j).filter (fit p u row)).map fun Rw => (sols p (setR p.n u row Rw)).length).sum := by
            rw [htot, ← List.sum_append, ← List.map_append, ← List.filter_append, List.take_append_drop]
          omega
        refine A_X5_countByRows_62 hl (vR_mk hb2 rfl (vO_mk (x := some ar) ho2 rfl ⟨_, rfl, ⟨_, har⟩, ?_⟩))
        refine vC_p (B_count hl hA0) (by omega) (by decide) (by decide) ⟨_, rfl, fun q => absurd (by rwa [i3_le (by omega) (by omega)] at q) (by omega : ¬ (arrs p.n p.m).length ≤ j), fun _ => ?_⟩
        simp only [i3_le (a := wanted) (b := min wanted tot) (by omega) (by omega)]
        refine ⟨fun q => ?_, fun q => vR_mk hb2 rfl (vO_mk (x := some ar) ho2 rfl ⟨_, rfl, ⟨_, har⟩, ?_⟩)⟩
        · refine vC_p (B_min hl (by omega) (by omega)) (by omega) (by decide) (by decide) ⟨_, rfl, ?_, k1, hB3, hR2⟩
          congr 3
          omega
        · have hlt : tot < wanted := by omega
          obtain ⟨x, hx, hIx, hC⟩ := B_at (G := G) hl hA0 hj
          refine vC_p hC (by omega) (by decide) (by decide) ⟨_, rfl, ⟨_, hb2⟩, ?_⟩
          refine vC_p (B_canHave hl hB3 (by omega : row < p.nL) hx hmem) (by omega) (by decide) (by decide) ⟨_, rfl, ?_⟩
          simp only [bI_eq0]
          refine ⟨fun q2 => ?_, fun q2 => ⟨⟨_, hb2⟩, ?_⟩⟩
          · rw [if_neg (by rw [q2]; decide), Nat.add_zero] at ihj
            rw [i3_succ]
            exact ihj h1 g k1 hB3 hR2 hg hg2
          · have q2' : fit p u row ((arrs p.n p.m).getD j []) = true := by simpa using q2
            rw [if_pos q2'] at ihj
            rw [i3_sub (by omega : min wanted tot ≤ wanted)]
            refine vC_r (hWith h1 x (wanted - min wanted tot) _ (by omega) (by omega) hB3 hR2 hx hIx hmem) (by omega) (by decide) (by decide) fun v h3 hR3 => ?_
            obtain ⟨hv, k3, hB5, hR5⟩ := hR3
            have hB50 := hB5
            obtain ⟨hP5, rb5, f5, hb5, ht5, hf5, -⟩ := hB5
            obtain ⟨tl5, ls5, lo5, ar5, rw5, T5, L5, R5, sec5, -, -, -, -, -, ho5, -⟩ := hP5
            have rth : rr row ≠ th := fun e => by rw [e, ht] at r2; cases r2
            have hg5 : h3 (rr row) = some (aInts .int 5 g) := k3 _ _ hg (by
              rintro (e | ⟨i, i1, i2, e⟩)
              · exact rth e
              · have := rj i i2 e; omega)
            refine ⟨_, hv, vR_mk hb5 rfl (vR_mk hb5 rfl (vI_mk ho5 rfl (vR_mk hb5 rfl (vI_mk ho5 rfl ⟨by omega, ?_⟩))))⟩
            refine vCpyI_mk (sp := 0) (dp := p.n * row) (n := p.n) hg5 ht5 rfl e5n rfl (by omega) hle (by decide) (by decide) ?_
            rw [i3_succ, i3_add]
            have k6 : kp (· = th) h3 (aUp h3 th (aInts .int 25 (va_cpy g f5 0 (p.n * row) p.n))) := kp.up rfl
            have hfin := ihj _ g ((k1.tr (k3.mono fun q e => by
              rcases e with e | ⟨i, i1, i2, e⟩
              · exact Or.inl e
              · exact Or.inr ⟨i, by omega, i2, e⟩)).tr (k6.mono fun q e => Or.inl e)) (hB50.set k6 aUp_eq fun c hc => by
                unfold va_cpy
                by_cases q3 : p.n * row ≤ c ∧ c < p.n * row + p.n
                · rw [if_pos q3, Nat.zero_add, hg2 _ (by omega), show p.n * row + (c - p.n * row) = c by omega]
                  exact ⟨rfl, hbnd c hc⟩
                · rw [if_neg q3]
                  have := hf5 c hc
                  rw [setR_out q3] at this
                  exact this) (hR5.ths hB50 k6) (by rw [aUp_ne rth]; exact hg5) hg2
            have em : min wanted tot + min (wanted - min wanted tot) (sols p (setR p.n u row ((arrs p.n p.m).getD j []))).length = min wanted (tot + (sols p (setR p.n u row ((arrs p.n p.m).getD j []))).length) := by omega
            rw [em]
            exact hfin
    · have q' : i3 row = i3 p.n := q
      rw [i3_eq (by omega) (by omega)] at q'
      omega
end RWC
