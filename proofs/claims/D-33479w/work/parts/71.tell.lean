/-! tellings in the model -/
set_option maxRecDepth 100000
def letV (t : Nat) : Int32 := if t = 0 then -1 else i3 ((t - 1) / 2)
theorem S_letterOf {t : Nat} {st : MSt} (ht : t < 2147483648) : S_X6_letterOf (i3 t) st = some (letV t) := by
  unfold S_X6_letterOf letV
  have e0 : (i3 t = 0) = (t = 0) := i3_eq (b := 0) ht (by decide)
  simp only [e0]
  by_cases q : t = 0
  · rw [if_pos q, if_pos q]
  · have e1 : i3 t - 1 = i3 (t - 1) := i3_sub (b := 1) (by omega)
    have e2 : i3 (t - 1) / 2 = i3 ((t - 1) / 2) := i3_div (b := 2) (by omega) (by decide)
    rw [if_neg q, if_neg q, e1, e2]
def Pz.setT (p : Pz) (e t : Nat) : Pz := (p.1, p.2.1, p.2.2.1, fun x => if x = e then t else p.2.2.2 x)
theorem MV.tell {st : MSt} {p : Pz} {e t : Nat} (h : MV st p) (ht : t ≤ 2 * p.m) : MV (mA st 0 (3 + e) (i3 t)) (p.setT e t) := by
  obtain ⟨h1, h2, h3, h4, h5⟩ := h
  refine ⟨h1, ?_, ?_, ?_, fun x hx => ?_⟩
  · rw [mA_eq, upd_ne (by omega)]; exact h2
  · rw [mA_eq, upd_ne (by omega)]; exact h3
  · rw [mA_eq, upd_ne (by omega)]; exact h4
  · show (mA st 0 (3 + e) (i3 t)).2.1 0 (3 + x) = i3 (if x = e then t else p.tl x) ∧ (if x = e then t else p.tl x) ≤ 2 * p.m
    rw [mA_eq]
    by_cases q : x = e
    · subst q; rw [if_pos rfl, upd_same]; exact ⟨rfl, ht⟩
    · rw [if_neg q, upd_ne (by omega)]; exact h5 x hx
theorem CVw.tell {st : MSt} {m e : Nat} {w : Nat → Nat} {v : Int32} (h : CVw st m w) (he : e < 20) : CVw (mA st 0 (3 + e) v) m w := by
  intro c hc
  rw [mA_eq, upd_ne (by omega)]
  exact h c hc
theorem S_tells {st : MSt} {p : Pz} {e l : Nat} {z : Bool} (h : MV st p) (he : e < 20) : S_X6_tells (i3 e) (i3 l) (bI z) st = some (letV (p.tl e), mA st 0 (3 + e) (i3 (1 + 2 * l + z.toNat))) := by
  obtain ⟨h1, h2, h3, h4, h5⟩ := h
  have hm := h1.m24
  have h6 := h5 e he
  have o1 : (3 : Int32) + i3 e = i3 (3 + e) := i3_add 3 e
  have o2 : (1 : Int32) + (2 : Int32) * i3 l = i3 (1 + 2 * l) := by rw [show (2 : Int32) = i3 2 from rfl, show (1 : Int32) = i3 1 from rfl, i3_mul, i3_add]
  unfold S_X6_tells
  rw [o1, ob_e (by omega) (by decide), h6.1, S_letterOf (by omega), Option.bind_some, S_flag, Option.bind_some, ob_e (by omega) (by decide), o2, bI_nat, i3_add, onm_e]
def toldN (p : Pz) : Nat := sumB (fun e => decide (0 < p.tl e)) (4 * p.n)
theorem S_tellings {st : MSt} {p : Pz} {n : Nat} (h : MV st p) (hf : 30 ≤ n) : S_X6_tellings n st = some (i3 (toldN p)) := by
  have hn := h.1.n45
  have hm := h.1.m24
  unfold S_X6_tellings toldN
  rw [show (0 : Int32) = i3 0 from rfl]
  refine (fold_loop (F := fun f j (a : Nat) => S_X6_tellings_c4 st f (i3 a) (i3 j)) (g := fun e a => a + (decide (0 < p.tl e)).toNat) (K := fun a => some (i3 a)) (N := 4 * p.n) (B := 0) ?_ ?_ 0 (Nat.zero_le _) n 0 (by omega)).trans (by rw [foldFr0]; rfl)
  · intro f a _
    show S_X6_tellings_c4 st (f + 1) _ _ = _
    rw [S_X6_tellings_c4, S_edges h, Option.bind_some]
    simp only [i3_le (a := 4 * p.n) (b := 4 * p.n) (by omega) (by omega), Nat.le_refl, if_true]
  · intro f j a hj _
    have h6 := h.2.2.2.2 j (by omega)
    have hq : ¬ 4 * p.n ≤ j := by omega
    have o1 : (3 : Int32) + i3 j = i3 (3 + j) := i3_add 3 j
    have e0 : (i3 (p.tl j) ≤ 0) = (p.tl j = 0) := i3_neg_le (by omega)
    have z0 : i3 a + 0 = i3 (a + 0) := i3_add a 0
    have z1 : i3 a + 1 = i3 (a + 1) := i3_add a 1
    show S_X6_tellings_c4 st (f + 1) _ _ = S_X6_tellings_c4 st f (i3 (a + (decide (0 < p.tl j)).toNat)) _
    rw [S_X6_tellings_c4, S_edges h, Option.bind_some]
    simp only [i3_le (a := 4 * p.n) (b := j) (by omega) (by omega), hq, if_false]
    rw [o1, ob_e (by omega) (by decide), h6.1]
    simp only [e0, S_flag0, S_flag1, Option.bind_some, onm_e, z0, z1, i3_succ]
    by_cases q : p.tl j = 0
    · rw [if_pos q, decide_eq_false (by omega)]; rfl
    · rw [if_neg q, decide_eq_true (by omega)]; rfl
