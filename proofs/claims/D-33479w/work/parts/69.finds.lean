/-! a solution is found: the first one, and what is the same in all
-/
set_option maxRecDepth 100000
def frml (A I : List Nat) (st st' : MSt) : Prop := (∀ q, q ∉ A → st'.2.1 q = st.2.1 q) ∧ (∀ q, q ∉ I → st'.1 q = st.1 q)
theorem frm.l {A I : List Nat} {a b : MSt} (h : frm A I a b) : frml A I a b := ⟨h.1, h.2.1⟩
theorem frml.rf {A I : List Nat} {st : MSt} : frml A I st st := ⟨fun _ _ => rfl, fun _ _ => rfl⟩
theorem frml.trans {A I : List Nat} {a b c : MSt} (h1 : frml A I a b) (h2 : frml A I b c) : frml A I a c := ⟨fun q hq => (h2.1 q hq).trans (h1.1 q hq), fun q hq => (h2.2 q hq).trans (h1.2 q hq)⟩
theorem frml.mono {A I A' I' : List Nat} {a b : MSt} (h : frml A I a b) (hA : ∀ q ∈ A, q ∈ A') (hI : ∀ q ∈ I, q ∈ I') : frml A' I' a b := ⟨fun q hq => h.1 q fun z => hq (hA q z), fun q hq => h.2 q fun z => hq (hI q z)⟩
theorem frml.a {A I : List Nat} {a b : MSt} (h : frml A I a b) {k i : Nat} {v : Int32} (hk : k ∈ A) : frml A I a (mA b k i v) := ⟨fun q hq => (mA_ne (fun e => hq (by rw [e]; exact hk))).trans (h.1 q hq), h.2⟩
theorem frml.i {A I : List Nat} {a b : MSt} (h : frml A I a b) {k : Nat} {v : Int32} (hk : k ∈ I) : frml A I a (mI b k v) := ⟨h.1, fun q hq => (mI_ne (fun e => hq (by rw [e]; exact hk))).trans (h.2 q hq)⟩
theorem frml.j {A I : List Nat} {a b : MSt} (h : frml A I a b) {v : Int64} : frml A I a (mJ b v) := h
def agreeB (F : List (List Nat)) (c : Nat) : Bool := F.all fun v => v.getD c 0 == (F.headD []).getD c 0
def sameN (p : Pz) (F : List (List Nat)) : Nat := setB (agreeB F) (p.n * p.n)
def FD (st : MSt) (p : Pz) (F : List (List Nat)) : Prop := F ≠ [] → (∀ c, c < p.n * p.n → st.2.1 10 c = i3 ((F.headD []).getD c 0)) ∧ st.2.2 = l3 (sameN p F)
theorem agree_app {F : List (List Nat)} {v : List Nat} {c : Nat} : agreeB (F ++ [v]) c = (agreeB F c && v.getD c 0 == ((F ++ [v]).headD []).getD c 0) := by
  unfold agreeB
  rw [List.all_append]
  cases F with
  | nil => simp
  | cons a F => simp
theorem S_finds {st : MSt} {p : Pz} {b n : Nat} {u : Nat → Nat} {F : List (List Nat)} (h : MV st p) (hu : LVw st b p.m u) (hb : b ≤ 725) (hF : FD st p F) (hFb : F ≠ [] → ∀ c, c < p.n * p.n → (F.headD []).getD c 0 < 5) (hFl : F.length < 2147483648) (hf : 40 ≤ n) :
    ∃ st', S_X6_finds n (i3 b) (i3 F.length) st = some st' ∧ frml [10] [] st st' ∧ FD st' p (F ++ [vOf p u]) := by
  have hn := h.1.n45
  have hm := h.1.m24
  have h32 := pow_le hm.2.2
  have hnn := nn_le hn
  have hL0 : (i3 F.length = 0) = (F.length = 0) := i3_eq (b := 0) hFl (by decide)
  -- the loop from a state whose long has the old bits
  have loop : ∀ s0 : MSt, frml [10] [] st s0 → (F ≠ [] → ∀ c, c < p.n * p.n → s0.2.1 10 c = i3 ((F.headD []).getD c 0)) → (∃ X, s0.2.2 = l3 X ∧ X < 2 ^ (p.n * p.n) ∧ ∀ i, i < p.n * p.n → X.testBit i = agreeB F i) →
      ∃ st', S_X6_finds_c25 n (i3 b) (i3 F.length) 0 s0 = some st' ∧ frml [10] [] st st' ∧ FD st' p (F ++ [vOf p u]) := by
    intro s0 f0 e0 ⟨X0, x1, x2, x3⟩
    have key := st_loop (F := fun f j s => S_X6_finds_c25 f (i3 b) (i3 F.length) (i3 j) s)
      (I := fun j s => frml [10] [] st s ∧ (∀ c, c < j → s.2.1 10 c = i3 (((F ++ [vOf p u]).headD []).getD c 0)) ∧ (F ≠ [] → ∀ c, c < p.n * p.n → s.2.1 10 c = i3 ((F.headD []).getD c 0)) ∧ ∃ X, s.2.2 = l3 X ∧ X < 2 ^ (p.n * p.n) ∧ ∀ i, i < p.n * p.n → X.testBit i = if i < j then agreeB (F ++ [vOf p u]) i else agreeB F i)
      (Q := fun s => frml [10] [] st s ∧ FD s p (F ++ [vOf p u])) (N := p.n * p.n) (B := 8) ?_ ?_ 0 (Nat.zero_le _) n s0 (by omega) ⟨f0, fun c h => absurd h (Nat.not_lt_zero _), e0, X0, x1, x2, fun i hi => by rw [if_neg (Nat.not_lt_zero _)]; exact x3 i hi⟩
    · exact key
    · intro f s _ ⟨h1, h2, h3, X, h4, h5, h6⟩
      have hM : MV s p := h.to (h1.1 0 (by simp))
      show ∃ r, S_X6_finds_c25 (f + 1) _ _ _ _ = some r ∧ _
      rw [S_X6_finds_c25, S_cells hM, Option.bind_some]
      simp only [i3_le (a := p.n * p.n) (b := p.n * p.n) (by omega) (by omega), Nat.le_refl, if_true]
      refine ⟨s, rfl, h1, fun _ => ⟨h2, ?_⟩⟩
      rw [h4]
      congr 1
      apply Nat.eq_of_testBit_eq
      intro i
      unfold sameN
      rw [setB_bit]
      by_cases q : i < p.n * p.n
      · rw [h6 i q, if_pos q, decide_eq_true q, Bool.true_and]
      · rw [decide_eq_false q, Bool.false_and]
        exact Nat.testBit_lt_two_pow (Nat.lt_of_lt_of_le h5 (Nat.pow_le_pow_right (n := 2) (by decide) (by omega)))
    · intro f j s hj hfb ⟨h1, h2, h3, X, h4, h5, h6⟩
      have hM : MV s p := h.to (h1.1 0 (by simp))
      have hU : LVw s b p.m u := hu.to (h1.1 5 (by simp))
      have hval := hU j (by omega)
      have hq : ¬ p.n * p.n ≤ j := by omega
      have hot : onlyN (u j) < 5 := by unfold onlyN; repeat' split
                                       all_goals omega
      have hv : (vOf p u).getD j 0 = onlyN (u j) := vOf_get hj
      obtain ⟨hd, hhd⟩ : ∃ hd, hd = ((F ++ [vOf p u]).headD []).getD j 0 := ⟨_, rfl⟩
      have hd5 : hd < 5 := by
        rw [hhd]
        cases hFc : F with
        | nil => show (vOf p u).getD j 0 < 5; rw [hv]; exact hot
        | cons a G =>
          have := hFb (by rw [hFc]; simp) j hj
          rw [hFc] at this
          exact this
      have e0 : F.length = 0 → i3 (onlyN (u j)) = i3 hd := by
        intro e
        have : F = [] := List.length_eq_zero_iff.mp e
        subst this
        rw [hhd, ← hv]; rfl
      have e1 : F.length ≠ 0 → s.2.1 10 j = i3 hd := by
        intro e
        cases hFc : F with
        | nil => rw [hFc] at e; exact absurd rfl e
        | cons a G =>
          have := h3 (by rw [hFc]; simp) j hj
          rw [hFc] at this
          rw [this, hhd, hFc]; rfl
      have ecl : l3 X &&& ((1 <<< ((i3 j).toInt64 &&& 63)) ^^^ (-1)) = l3 (clr X j) := l3_clr (by omega)
      have e66 : S_X6_finds_j66 (S_X6_finds_c25 f) f (i3 b) (i3 F.length) (i3 j) (i3 (onlyN (u j))) (i3 hd) (i3 j) s = S_X6_finds_c25 f (i3 b) (i3 F.length) (i3 (j + 1)) (mJ (mA s 10 j (i3 hd)) (l3 (if onlyN (u j) = hd then X else clr X j))) := by
        unfold S_X6_finds_j66
        rw [ob_e (by omega) (by decide), onm_e, ob_e (by omega) (by decide), mA_eq, upd_same, mA_l, h4, ecl, l3_m1, i3_succ]
        simp only [i3_eq (a := onlyN (u j)) (b := hd) (by omega) (by omega), onm_e]
        by_cases q : onlyN (u j) = hd
        · rw [if_pos q, if_pos q]
        · rw [if_neg q, if_neg q]
      refine ⟨mJ (mA s 10 j (i3 hd)) (l3 (if onlyN (u j) = hd then X else clr X j)), ⟨(h1.a (by simp)).j, fun c hc => ?_, fun hne c hc => ?_, _, rfl, ?_, fun i hi => ?_⟩, ?_⟩
      · show (mA s 10 j (i3 hd)).2.1 10 c = _
        rw [mA_eq]
        rcases Nat.lt_or_ge c j with q | q
        · rw [upd_ne (by omega)]; exact h2 c q
        · have : c = j := by omega
          subst this
          rw [upd_same, hhd]
      · show (mA s 10 j (i3 hd)).2.1 10 c = _
        rw [mA_eq]
        by_cases q : c = j
        · subst q
          rw [upd_same, ← e1 (fun e => hne (List.length_eq_zero_iff.mp e))]
          exact h3 hne c hc
        · rw [upd_ne q]; exact h3 hne c hc
      · split
        · exact h5
        · exact clr_lt h5
      · have hb2 : (if onlyN (u j) = hd then X else clr X j).testBit i = (X.testBit i && (decide (i ≠ j) || onlyN (u j) == hd)) := by
          by_cases q : onlyN (u j) = hd
          · rw [if_pos q]; simp [q]
          · have q' : (onlyN (u j) == hd) = false := by simpa using q
            rw [if_neg q, clr_bit, q', Bool.or_false]
        rw [hb2, h6 i hi]
        rcases Nat.lt_trichotomy i j with q | q | q
        · have : i ≠ j := by omega
          rw [if_pos q, if_pos (by omega), decide_eq_true this]; simp
        · subst q
          rw [if_neg (Nat.lt_irrefl _), if_pos (Nat.lt_succ_self _), agree_app, hv, ← hhd]; simp
        · have : i ≠ j := by omega
          rw [if_neg (by omega), if_neg (by omega), decide_eq_true this]; simp
      · show S_X6_finds_c25 (f + 1) _ _ _ _ = _
        rw [S_X6_finds_c25, S_cells hM, Option.bind_some]
        simp only [i3_le (a := p.n * p.n) (b := j) (by omega) (by omega), hq, if_false]
        rw [i3_add, ob_e (by omega) (by decide), hval.1, S_only (by omega) (by omega), Option.bind_some]
        simp only [hL0]
        by_cases q : F.length = 0
        · rw [if_pos q, ← e66, e0 q]
        · rw [if_neg q, ob_e (by omega) (by decide), e1 q, e66]
  unfold S_X6_finds
  simp only [hL0]
  by_cases q : F.length = 0
  · have hnil : F = [] := List.length_eq_zero_iff.mp q
    have esh : (1 : Int64) <<< ((i3 (p.n * p.n)).toInt64 &&& 63) = l3 (1 <<< (p.n * p.n)) := l3_shl (a := 1) (by omega)
    have hp : 0 < 2 ^ (p.n * p.n) := Nat.two_pow_pos _
    have e1 : l3 (1 <<< (p.n * p.n)) - 1 = l3 (2 ^ (p.n * p.n) - 1) := by rw [Nat.one_shiftLeft]; exact l3_sub (b := 1) hp
    rw [if_pos q, S_cells h, Option.bind_some, esh, e1, onm_e]
    refine loop _ frml.rf.j (fun hne => absurd hnil hne) ⟨_, rfl, by omega, fun i hi => ?_⟩
    rw [Nat.testBit_two_pow_sub_one, hnil, decide_eq_true hi]; rfl
  · rw [if_neg q, onm_e]
    have hne : F ≠ [] := fun e => q (by rw [e]; rfl)
    obtain ⟨a1, a2⟩ := hF hne
    refine loop _ frml.rf.j (fun _ => a1) ⟨sameN p F, a2, setB_lt _ _, fun i hi => ?_⟩
    unfold sameN
    rw [setB_bit, decide_eq_true hi, Bool.true_and]
