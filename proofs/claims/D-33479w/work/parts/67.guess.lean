/-! isDone, guess in the model -/
set_option maxRecDepth 100000
def doneB (p : Pz) (u : Nat → Nat) : Bool := (List.range (p.n * p.n)).foldl (fun a c => a && pc (u c) == 1) true
theorem doneB_iff {p : Pz} {u : Nat → Nat} : doneB p u = true ↔ ∀ c, c < p.n * p.n → pc (u c) = 1 := by
  unfold doneB
  have : ∀ N, (List.range N).foldl (fun a c => a && pc (u c) == 1) true = true ↔ ∀ c, c < N → pc (u c) = 1 := by
    intro N
    induction N with
    | zero => simp
    | succ N ih =>
      rw [List.range_succ, List.foldl_append]
      show (_ && _) = true ↔ _
      rw [Bool.and_eq_true, ih, beq_iff_eq]
      constructor
      · intro ⟨h1, h2⟩ c hc
        rcases Nat.lt_or_ge c N with q | q
        · exact h1 c q
        · have : c = N := by omega
          subst this; exact h2
      · intro h; exact ⟨fun c hc => h c (by omega), h N (by omega)⟩
  exact this _
theorem S_isDone {st : MSt} {p : Pz} {b n : Nat} {u : Nat → Nat} (h : MV st p) (hu : LVw st b p.m u) (hb : b ≤ 725) (hf : 40 ≤ n) : S_X6_isDone n (i3 b) st = some (bI (doneB p u)) := by
  have hn := h.1.n45
  have hm := h.1.m24
  have h32 := pow_le hm.2.2
  have hnn := nn_le hn
  unfold S_X6_isDone
  refine (fold_loop (F := fun f j (a : Bool) => S_X6_isDone_c4 st f (i3 b) (bI a) (i3 j)) (g := fun c a => a && pc (u c) == 1) (K := fun a => some (bI a)) (N := p.n * p.n) (B := 8) ?_ ?_ 0 (Nat.zero_le _) n true (by omega)).trans (by rw [foldFr0]; rfl)
  · intro f a _
    show S_X6_isDone_c4 st (f + 1) _ _ _ = _
    rw [S_X6_isDone_c4, S_cells h, Option.bind_some]
    simp only [i3_le (a := p.n * p.n) (b := p.n * p.n) (by omega) (by omega), Nat.le_refl, if_true, onr_b]
  · intro f j a hj hfb
    have hq : ¬ p.n * p.n ≤ j := by omega
    have hval := hu j (by omega)
    show S_X6_isDone_c4 st (f + 1) _ _ _ = S_X6_isDone_c4 st f _ (bI (a && pc (u j) == 1)) _
    rw [S_X6_isDone_c4, S_cells h, Option.bind_some]
    simp only [i3_le (a := p.n * p.n) (b := j) (by omega) (by omega), hq, if_false]
    rw [i3_add, ob_e (by omega) (by decide), hval.1, S_isSettled (by omega) (by omega), Option.bind_some]
    simp only [bI_eq0, i3_succ]
    cases a with
    | false => rfl
    | true =>
      simp only [Bool.true_eq_false, if_false, Bool.true_and]
      cases pc (u j) == 1 <;> rfl
def encB : Option Nat → Int32
  | none => -1
  | some c => i3 c
def guessI (u : Nat → Nat) (ord : Bool) (j : Nat) (best : Option Nat) : Prop := (best = none → ∀ c, c < j → pc (u c) = 1) ∧ ∀ g, best = some g → g < j ∧ pc (u g) ≠ 1 ∧ (ord = true → ∀ c, c < g → pc (u c) = 1)
theorem S_guess {st : MSt} {p : Pz} {b n : Nat} {u : Nat → Nat} {ord : Bool} (h : MV st p) (hu : LVw st b p.m u) (hb : b ≤ 725) (hf : 40 ≤ n) : ∃ best, S_X6_guess n (i3 b) (bI ord) st = some (encB best) ∧ guessI u ord (p.n * p.n) best := by
  have hn := h.1.n45
  have hm := h.1.m24
  have h32 := pow_le hm.2.2
  have hnn := nn_le hn
  unfold S_X6_guess
  have key := st_loop (F := fun f j (a : Option Nat) => S_X6_guess_c5 st f (i3 b) (bI ord) (encB a) (i3 j)) (I := fun j a => guessI u ord j a) (Q := fun r => ∃ best, r = encB best ∧ guessI u ord (p.n * p.n) best) (N := p.n * p.n) (B := 8) ?_ ?_ 0 (Nat.zero_le _) n none (by omega) ⟨fun _ c hc => absurd hc (Nat.not_lt_zero _), fun g hg => by cases hg⟩
  · obtain ⟨r, h1, best, h2, h3⟩ := key
    subst h2
    exact ⟨best, h1, h3⟩
  · intro f a _ hI
    show ∃ r, S_X6_guess_c5 st (f + 1) _ _ _ _ = some r ∧ _
    rw [S_X6_guess_c5, S_cells h, Option.bind_some]
    simp only [i3_le (a := p.n * p.n) (b := p.n * p.n) (by omega) (by omega), Nat.le_refl, if_true]
    exact ⟨_, rfl, a, rfl, hI⟩
  · intro f j a hj hfb hI
    have hq : ¬ p.n * p.n ≤ j := by omega
    have hval := hu j (by omega)
    have hpj : pc (u j) < 2147483648 := by unfold pc; omega
    -- the two ways out of a turn
    have keep : (pc (u j) = 1 ∨ ∃ g, a = some g) → guessI u ord (j + 1) a := by
      intro hk
      refine ⟨fun e c hc => ?_, fun g hg => ?_⟩
      · rcases Nat.lt_or_ge c j with q | q
        · exact hI.1 e c q
        · have : c = j := by omega
          subst this
          rcases hk with hk | ⟨g, hk⟩
          · exact hk
          · rw [e] at hk; cases hk
      · obtain ⟨b1, b2, b3⟩ := hI.2 g hg
        exact ⟨by omega, b2, b3⟩
    have take : pc (u j) ≠ 1 → (ord = true → a = none) → guessI u ord (j + 1) (some j) := by
      intro hp ho
      refine ⟨fun e => (by cases e), fun g hg => ?_⟩
      cases hg
      exact ⟨Nat.lt_succ_self _, hp, fun h => hI.1 (ho h)⟩
    have j54 : ∀ z : Bool, S_X6_guess_j54 (S_X6_guess_c5 st f) st f (i3 b) (bI ord) (encB a) (i3 j) (bI z) = if pc (u j) = 1 then S_X6_guess_c5 st f (i3 b) (bI ord) (encB a) (i3 (j + 1)) else if z then S_X6_guess_c5 st f (i3 b) (bI ord) (encB (some j)) (i3 (j + 1)) else S_X6_guess_c5 st f (i3 b) (bI ord) (encB a) (i3 (j + 1)) := by
      intro z
      unfold S_X6_guess_j54
      rw [i3_add, ob_e (by omega) (by decide), hval.1, S_isSettled (by omega) (by omega), Option.bind_some]
      simp only [bI_eq0, i3_succ]
      by_cases q : pc (u j) = 1
      · have q' : (pc (u j) == 1) = true := by simpa using q
        rw [q', if_neg (by decide), if_pos q]
      · have q' : (pc (u j) == 1) = false := by simpa using q
        rw [q', if_pos rfl, if_neg q]
        cases z <;> rfl
    have fin : ∀ z : Bool, (z = true → ord = true → a = none) → (z = false → ∃ g, a = some g) → ∃ b', guessI u ord (j + 1) b' ∧ S_X6_guess_j54 (S_X6_guess_c5 st f) st f (i3 b) (bI ord) (encB a) (i3 j) (bI z) = S_X6_guess_c5 st f (i3 b) (bI ord) (encB b') (i3 (j + 1)) := by
      intro z hz1 hz2
      rw [j54 z]
      by_cases q : pc (u j) = 1
      · rw [if_pos q]; exact ⟨a, keep (Or.inl q), rfl⟩
      · rw [if_neg q]
        cases z with
        | true => exact ⟨some j, take q (hz1 rfl), rfl⟩
        | false => exact ⟨a, keep (Or.inr (hz2 rfl)), rfl⟩
    show ∃ b', guessI u ord (j + 1) b' ∧ S_X6_guess_c5 st (f + 1) _ _ _ _ = _
    rw [S_X6_guess_c5, S_cells h, Option.bind_some]
    simp only [i3_le (a := p.n * p.n) (b := j) (by omega) (by omega), hq, if_false]
    cases a with
    | none =>
      rw [if_pos (show encB none = -1 from rfl)]
      exact fin true (fun _ _ => rfl) (fun h => by cases h)
    | some g =>
      have hg := hI.2 g rfl
      have hvg := hu g (by omega)
      have hne : ¬ encB (some g) = -1 := by show ¬ i3 g = -1; rw [i3_m1 (by omega)]; exact id
      rw [if_neg hne]
      simp only [bI_eq0]
      cases ord with
      | true =>
        rw [if_neg (by decide)]
        exact fin false (fun h => by cases h) (fun _ => ⟨g, rfl⟩)
      | false =>
        rw [if_pos rfl]
        have hpg : pc (u g) < 2147483648 := by unfold pc; omega
        show ∃ b', guessI u false (j + 1) b' ∧ (ob (i3 b + i3 j) 750 fun j5 => _) = _
        have e8 : i3 b + encB (some g) = i3 (b + g) := i3_add b g
        rw [i3_add, ob_e (by omega) (by decide), hval.1, S_many (by omega) (by omega), Option.bind_some, e8, ob_e (by omega) (by decide), hvg.1, S_many (by omega) (by omega), Option.bind_some]
        simp only [i3_le hpg hpj]
        by_cases q : pc (u g) ≤ pc (u j)
        · rw [if_pos q]; exact fin false (fun h => by cases h) (fun _ => ⟨g, rfl⟩)
        · rw [if_neg q]; exact fin true (fun _ h => by cases h) (fun h => by cases h)
