/-! steps in the model -/
set_option maxRecDepth 100000
def stepOf (p : Pz) (u : Nat → Nat) (most r c t : Nat) : Prop := brkSet p u = 0 ∧ cand p u most r c t ∧ NB p u most r c t
def noStep (p : Pz) (u : Nat → Nat) (most : Nat) : Prop := brkSet p u ≠ 0 ∨ ∀ r c t, ¬ cand p u most r c t
def stepX (p : Pz) (u : Nat → Nat) (most : Nat) (x : Int32) : Prop := (∃ r c t, stepOf p u most r c t ∧ x = i3 (1000 * r + 10 * c + t)) ∨ (noStep p u most ∧ x = -1)
theorem stepX_of {p : Pz} {u : Nat → Nat} {most : Nat} {x : Int32} (h : if brkSet p u = 0 then nextR p u most x else x = -1) : stepX p u most x := by
  by_cases q : brkSet p u = 0
  · rw [if_pos q] at h
    rcases h with ⟨r, c, t, h1, h2, h3⟩ | ⟨h1, h2⟩
    · exact Or.inl ⟨r, c, t, ⟨q, h1, h2⟩, h3⟩
    · exact Or.inr ⟨Or.inr h1, h2⟩
  · rw [if_neg q] at h
    exact Or.inr ⟨Or.inl q, h⟩
theorem stepOf_uniq {p : Pz} {u : Nat → Nat} {most r c t r' c' t' : Nat} (h : stepOf p u most r c t) (h' : stepOf p u most r' c' t') : r = r' ∧ c = c' ∧ t = t' := by
  have a := h.2.2 r' c' t' h'.2.1
  have b := h'.2.2 r c t h.2.1
  omega
theorem noStep_not {p : Pz} {u : Nat → Nat} {most r c t : Nat} (h : noStep p u most) (h' : stepOf p u most r c t) : False := by
  rcases h with h | h
  · exact h h'.1
  · exact h r c t h'.2.1
theorem stepX_uniq {p : Pz} {u : Nat → Nat} {most : Nat} {x y : Int32} (h : stepX p u most x) (h' : stepX p u most y) : x = y := by
  rcases h with ⟨r, c, t, h1, h2⟩ | ⟨h1, h2⟩ <;> rcases h' with ⟨r', c', t', h3, h4⟩ | ⟨h3, h4⟩
  · obtain ⟨rfl, rfl, rfl⟩ := stepOf_uniq h1 h3
    rw [h2, h4]
  · exact (noStep_not h3 h1).elim
  · exact (noStep_not h1 h3).elim
  · rw [h2, h4]
/-- k steps lead from u to u', and there is no other -/
def stepsR (p : Pz) (most : Nat) : Nat → (Nat → Nat) → (Nat → Nat) → Prop
  | 0, u, u' => noStep p u most ∧ u' = u
  | k + 1, u, u' => ∃ r c t, stepOf p u most r c t ∧ stepsR p most k (setC u c (clr (u c) t)) u'
theorem stepsR_uniq {p : Pz} {most : Nat} : ∀ {k k' : Nat} {u v v' : Nat → Nat}, stepsR p most k u v → stepsR p most k' u v' → k = k' ∧ v = v' := by
  intro k
  induction k with
  | zero =>
    intro k' u v v' h h'
    cases k' with
    | zero => exact ⟨rfl, h.2.trans h'.2.symm⟩
    | succ k' => obtain ⟨r, c, t, h1, _⟩ := h'; exact (noStep_not h.1 h1).elim
  | succ k ih =>
    intro k' u v v' h h'
    obtain ⟨r, c, t, h1, h2⟩ := h
    cases k' with
    | zero => exact (noStep_not h'.1 h1).elim
    | succ k' =>
      obtain ⟨r', c', t', h3, h4⟩ := h'
      obtain ⟨rfl, rfl, rfl⟩ := stepOf_uniq h1 h3
      obtain ⟨e1, e2⟩ := ih h2 h4
      exact ⟨by rw [e1], e2⟩
theorem pc_clr : ∀ (a : Fin 32) (t : Fin 5), a.1.testBit t.1 = true → pc (clr a.1 t.1) < pc a.1 := by decide +kernel
theorem bits_set {n : Nat} {u : Nat → Nat} {c v : Nat} (hc : c < n * n) (h : pc v < pc (u c)) : bitsN n (setC u c v) < bitsN n u := by
  apply sum_lt
  · intro x _
    by_cases q : x = c
    · subst q; rw [setC_eq]; omega
    · rw [setC_ne q]; exact Nat.le_refl _
  · exact ⟨c, List.mem_range.mpr hc, by rw [setC_eq]; exact h⟩
theorem code_parts {r c t : Nat} (hc : c < 25) (ht : t < 5) : (1000 * r + 10 * c + t) / 10 % 100 = c ∧ (1000 * r + 10 * c + t) % 10 = t ∧ (1000 * r + 10 * c + t) / 1000 = r := by omega
theorem S_crosses {st : MSt} {p : Pz} {b r c t : Nat} {u : Nat → Nat} (hu : LVw st b p.m u) (hm : p.m ≤ 4) (hb : b ≤ 725) (hc : c < 25) (ht : t < 5) (hr : r ≤ 6) :
    ∃ st', S_X6_crosses (i3 b) (i3 (1000 * r + 10 * c + t)) st = some st' ∧ frm [5] [] st st' ∧ (∀ q, q < b ∨ b + 25 ≤ q → st'.2.1 5 q = st.2.1 5 q) ∧ LVw st' b p.m (setC u c (clr (u c) t)) := by
  obtain ⟨e1, e2, e3⟩ := code_parts (r := r) hc ht
  have d1 : i3 (1000 * r + 10 * c + t) / 10 = i3 ((1000 * r + 10 * c + t) / 10) := i3_div (b := 10) (by omega) (by decide)
  have d2 : i3 ((1000 * r + 10 * c + t) / 10) - i3 ((1000 * r + 10 * c + t) / 10) / 100 * 100 = i3 ((1000 * r + 10 * c + t) / 10 % 100) := i3_rem (b := 100) (by omega) (by decide)
  have d3 : i3 (1000 * r + 10 * c + t) - i3 (1000 * r + 10 * c + t) / 10 * 10 = i3 ((1000 * r + 10 * c + t) % 10) := i3_rem (b := 10) (by omega) (by decide)
  have ecl : i3 (u c) &&& (((1 : Int32) <<< (i3 t &&& 31)) ^^^ ((-1) : Int32)) = i3 (clr (u c) t) := i3_clr (by omega)
  unfold S_X6_crosses
  rw [d3, d1, d2, e1, e2, i3_add, ob_e (by omega) (by decide), ob_e (by omega) (by decide), onm_e, (hu c hc).1, ecl]
  refine ⟨_, rfl, frm.rf.a (by simp), fun q hq => ?_, hu.set (clr_lt (hu c hc).2)⟩
  rw [mA_eq, upd_ne (by omega)]
theorem S_stepsL {p : Pz} {most : Nat} (hmost : most ≤ 6) : ∀ (μ : Nat) (u : Nat → Nat) (st : MSt) (x : Int32) (k0 fuel : Nat), MV st p → TC st → LVw st 25 p.m u → stepX p u most x → bitsN p.n u < μ → μ + 5300 ≤ fuel →
    ∃ k st' u', S_X6_steps_c16 fuel (i3 most) (i3 k0) x st = some (i3 (k0 + k), st') ∧ stepsR p most k u u' ∧ k ≤ bitsN p.n u ∧ frm [3, 4, 5, 6, 7] [7, 8, 9] st st' ∧ TC st' ∧ LVw st' 25 p.m u' ∧ (∀ q, q < 25 ∨ 75 ≤ q → st'.2.1 5 q = st.2.1 5 q) := by
  intro μ
  induction μ with
  | zero => intro u st x k0 fuel _ _ _ _ hmu _; exact absurd hmu (Nat.not_lt_zero _)
  | succ μ ih =>
    intro u st x k0 fuel h hT hu hx hmu hf
    have hok := h.1
    have hn := hok.n45
    have hm := hok.m24
    have h32 := pow_le hm.2.2
    have hnn := nn_le hn
    obtain ⟨f, rfl⟩ : ∃ k, fuel = k + 1 := ⟨fuel - 1, by omega⟩
    rw [S_X6_steps_c16]
    rcases hx with ⟨r, c, t, hs, rfl⟩ | ⟨hs, rfl⟩
    · obtain ⟨hb, hcd, hN⟩ := hs
      have hc25 : c < 25 := by have := hcd.2.2.1; omega
      have ht5 : t < 5 := by have := hcd.2.2.2.1; omega
      have hr6 : r ≤ 6 := by have := hcd.2.1; omega
      have hne : ¬ i3 (1000 * r + 10 * c + t) = -1 := by rw [i3_m1 (by omega)]; exact id
      rw [if_neg hne]
      obtain ⟨s1, a1, a2, a3, a4⟩ := S_crosses (b := 25) (r := r) hu hm.2.2 (by decide) hc25 ht5 hr6
      have a1' : S_X6_crosses 25 (i3 (1000 * r + 10 * c + t)) st = some s1 := a1
      have hM1 : MV s1 p := h.to (a2.1 0 (by simp))
      have hT1 : TC s1 := hT.to (a2.1 3 (by simp)) (a2.1 4 (by simp)) (a2.2.1 7 (by simp)) (a2.2.1 8 (by simp)) (a2.2.1 9 (by simp))
      obtain ⟨x2, s2, b1, b2, b3, b4, b5⟩ := S_next (b := 25) (n := f) hM1 hT1 a4 (by decide) hmost (by omega)
      have b1' : S_X6_next f 25 (i3 most) s1 = some (x2, s2) := b1
      have hU2 : LVw s2 25 p.m (setC u c (clr (u c) t)) := a4.far (by decide) b4
      have hlt : bitsN p.n (setC u c (clr (u c) t)) < bitsN p.n u := bits_set hcd.2.2.1 (pc_clr ⟨u c, by have := (hu c hc25).2; omega⟩ ⟨t, ht5⟩ hcd.2.2.2.2.1)
      obtain ⟨k, s', u', c1, c2, c3, c4, c5, c6, c7⟩ := ih _ s2 x2 (k0 + 1) f (hM1.to (b2.1 0 (by simp))) b3 hU2 (stepX_of b5) (by omega) (by omega)
      rw [a1', Option.bind_some, b1', Option.bind_some, i3_succ, c1]
      refine ⟨k + 1, s', u', by rw [Nat.add_right_comm, Nat.add_assoc], ⟨r, c, t, ⟨hb, hcd, hN⟩, c2⟩, by omega, ((a2.mono (by simp) (by simp)).trans b2).trans c4, c5, c6, fun q hq => ?_⟩
      rw [c7 q hq, b4 q (by omega), a3 q (by omega)]
    · rw [if_pos rfl]
      exact ⟨0, st, u, rfl, ⟨hs, rfl⟩, Nat.zero_le _, frm.rf, hT, hu, fun _ _ => rfl⟩
theorem S_steps {st : MSt} {p : Pz} {most n : Nat} {w : Nat → Nat} (h : MV st p) (hT : TC st) (hw : CVw st p.m w) (hmost : most ≤ 6) (hf : 5500 ≤ n) :
    ∃ k st' u', S_X6_steps n (i3 most) st = some (i3 k, st') ∧ stepsR p most k w u' ∧ k ≤ 125 ∧ frm [3, 4, 5, 6, 7] [7, 8, 9] st st' ∧ TC st' ∧ LVw st' 25 p.m u' := by
  have hok := h.1
  have hn := hok.n45
  have hm := hok.m24
  obtain ⟨s1, a1, a2, a3, a4⟩ := S_loads (p := p) (b := 25) (fuel := n) hw (by decide) (by omega)
  have a1' : S_X6_loads n 25 st = some s1 := a1
  have hM1 : MV s1 p := h.to (a2.1 0 (by simp))
  have hT1 : TC s1 := hT.to (a2.1 3 (by simp)) (a2.1 4 (by simp)) (a2.2.1 7 (by simp)) (a2.2.1 8 (by simp)) (a2.2.1 9 (by simp))
  obtain ⟨x2, s2, b1, b2, b3, b4, b5⟩ := S_next (b := 25) (n := n) hM1 hT1 a3 (by decide) hmost (by omega)
  have b1' : S_X6_next n 25 (i3 most) s1 = some (x2, s2) := b1
  have hbl := bits_le hn hm.2.2 (fun c hc => (hw c hc).2)
  obtain ⟨k, s', u', c1, c2, c3, c4, c5, c6, c7⟩ := S_stepsL hmost (bitsN p.n w + 1) w s2 x2 0 n (hM1.to (b2.1 0 (by simp))) b3 (a3.far (by decide) b4) (stepX_of b5) (by omega) (by omega)
  unfold S_X6_steps
  rw [a1', Option.bind_some, b1', Option.bind_some]
  rw [Nat.zero_add] at c1
  exact ⟨k, s', u', c1, c2, by omega, ((a2.mono (by simp) (by simp)).trans b2).trans c4, c5, c6⟩
