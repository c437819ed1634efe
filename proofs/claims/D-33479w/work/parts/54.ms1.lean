/-! the model's small functions -/
set_option maxRecDepth 100000
theorem onm_e {α β : Type} {a : α} {K : α → Option β} : onm a K = K a := rfl
theorem ob_e {β : Type} {k n : Nat} {K : Nat → Option β} (h : k < n) (hn : n < 2147483648) : ob (i3 k) n K = K k := by
  have h1 : k < 2147483648 := by omega
  have h2 : ¬ n ≤ k := by omega
  unfold ob
  simp only [i3_nat h1, i3_neg_lt h1, h2, or_self, if_false]
theorem onr_b {β : Type} {b : Bool} {K : Option β} : onr .boolean (bI b) K = K := by
  unfold onr
  cases b
  · exact if_pos rfl
  · exact if_pos rfl
theorem odz_e {β : Type} {k : Nat} {K : Option β} (h : 0 < k) (hk : k < 2147483648) : odz (i3 k) K = K := by
  unfold odz
  rw [if_neg]
  intro e
  rw [i3_lit 0, i3_eq hk (by decide)] at e
  exact absurd e (by show ¬ k = 0; omega)
theorem upd_same {f : Nat → Int32} {j : Nat} {v : Int32} : upd f j v j = v := by unfold upd; simp
theorem upd_ne {f : Nat → Int32} {j k : Nat} {v : Int32} (h : k ≠ j) : upd f j v k = f k := by unfold upd; simp [h]
theorem mA_eq {st : MSt} {k i : Nat} {v : Int32} : (mA st k i v).2.1 k = upd (st.2.1 k) i v := by simp [mA]
theorem mA_ne {st : MSt} {k i q : Nat} {v : Int32} (h : q ≠ k) : (mA st k i v).2.1 q = st.2.1 q := by simp [mA, h]
theorem mA_i {st : MSt} {k i : Nat} {v : Int32} : (mA st k i v).1 = st.1 := rfl
theorem mA_l {st : MSt} {k i : Nat} {v : Int32} : (mA st k i v).2.2 = st.2.2 := rfl
theorem mI_a {st : MSt} {k : Nat} {v : Int32} : (mI st k v).2 = st.2 := rfl
theorem mI_eq {st : MSt} {k : Nat} {v : Int32} : (mI st k v).1 k = v := by simp [mI]
theorem mI_ne {st : MSt} {k q : Nat} {v : Int32} (h : q ≠ k) : (mI st k v).1 q = st.1 q := by simp [mI, h]
/-- all but some arrays and some ints is as it was -/
def frm (A I : List Nat) (st st' : MSt) : Prop := (∀ q, q ∉ A → st'.2.1 q = st.2.1 q) ∧ (∀ q, q ∉ I → st'.1 q = st.1 q) ∧ st'.2.2 = st.2.2
theorem frm.rf {A I : List Nat} {st : MSt} : frm A I st st := ⟨fun _ _ => rfl, fun _ _ => rfl, rfl⟩
theorem frm.trans {A I : List Nat} {a b c : MSt} (h1 : frm A I a b) (h2 : frm A I b c) : frm A I a c := ⟨fun q hq => (h2.1 q hq).trans (h1.1 q hq), fun q hq => (h2.2.1 q hq).trans (h1.2.1 q hq), h2.2.2.trans h1.2.2⟩
theorem frm.mono {A I A' I' : List Nat} {a b : MSt} (h : frm A I a b) (hA : ∀ q ∈ A, q ∈ A') (hI : ∀ q ∈ I, q ∈ I') : frm A' I' a b := ⟨fun q hq => h.1 q fun z => hq (hA q z), fun q hq => h.2.1 q fun z => hq (hI q z), h.2.2⟩
theorem frm.a {A I : List Nat} {a b : MSt} (h : frm A I a b) {k i : Nat} {v : Int32} (hk : k ∈ A) : frm A I a (mA b k i v) := ⟨fun q hq => (mA_ne (fun e => hq (by rw [e]; exact hk))).trans (h.1 q hq), h.2.1, h.2.2⟩
theorem frm.i {A I : List Nat} {a b : MSt} (h : frm A I a b) {k : Nat} {v : Int32} (hk : k ∈ I) : frm A I a (mI b k v) := ⟨h.1, fun q hq => (mI_ne (fun e => hq (by rw [e]; exact hk))).trans (h.2.1 q hq), h.2.2⟩
/-! functions of numbers -/
theorem S_has {s t : Nat} (hs : s < 2147483648) (ht : t < 32) : S_X6_has (i3 s) (i3 t) = some (bI (s.testBit t)) := by
  unfold S_X6_has
  simp only [i3_has hs ht, bI_eq1]
  show _ = some (bI (hasN s t))
  cases hasN s t <;> rfl
theorem S_flag0 : S_X6_flag 0 = some 0 := rfl
theorem S_flag1 : S_X6_flag 1 = some 1 := rfl
theorem S_flag {b : Bool} : S_X6_flag (bI b) = some (bI b) := by cases b <;> rfl
/-- an index of a range -/
def isI (x : Int32) (N : Nat) : Bool := decide (0 ≤ x ∧ x < i3 N)
theorem isI_get {x : Int32} {N : Nat} (hN : N < 2147483648) (h : isI x N = true) : ∃ k, k < N ∧ x = i3 k := by
  have ⟨h1, h2⟩ := of_decide_eq_true h
  have a : (0 : Int) ≤ x.toInt := by simpa using Int32.le_iff_toInt_le.mp h1
  have b : x.toInt < N := by have := Int32.lt_iff_toInt_lt.mp h2; rwa [i3_toInt hN] at this
  refine ⟨x.toInt.toNat, by omega, ?_⟩
  apply Int32.toInt_inj.mp
  rw [i3_toInt (by omega)]
  omega
theorem isI_i3 {k N : Nat} (hk : k < 2147483648) (hN : N < 2147483648) : isI (i3 k) N = decide (k < N) := by
  unfold isI
  have e0 : (0 ≤ i3 k) = (0 ≤ k) := i3_le (a := 0) (by decide) hk
  simp only [i3_lt hk hN, e0, Nat.zero_le, true_and]
theorem i3_pred {N : Nat} (h0 : 0 < N) : i3 N - 1 = i3 (N - 1) := i3_sub (b := 1) h0
theorem S_in {x : Int32} {N : Nat} (h0 : 0 < N) (hN : N < 2147483648) : S_X6_in x 0 (i3 N - 1) = some (bI (isI x N)) := by
  unfold S_X6_in isI
  rw [i3_pred h0]
  have e1 : (x < 0) = ¬ (0 ≤ x) := by
    rw [eq_iff_iff, Int32.lt_iff_toInt_lt, Int32.le_iff_toInt_le]; simp
  have e2 : (i3 (N - 1) < x) = ¬ (x < i3 N) := by
    rw [eq_iff_iff, Int32.lt_iff_toInt_lt, Int32.lt_iff_toInt_lt, i3_toInt (by omega), i3_toInt hN]; omega
  simp only [e1, e2]
  by_cases a : 0 ≤ x <;> by_cases b : x < i3 N <;> simp [a, b, bI]
theorem S_many {s n : Nat} (hs : s < 32) (hn : 6 ≤ n) : S_X6_many n (i3 s) = some (i3 (pc s)) := by
  have hs2 : s < 2147483648 := by omega
  obtain ⟨n, rfl⟩ : ∃ k, n = k + 6 := ⟨n - 6, by omega⟩
  unfold S_X6_many
  have e0 : (0 : Int32) = i3 0 := rfl
  have b : ∀ k acc : Nat, ∀ j, k < 5 → S_X6_many_c4 (j + 1) (i3 s) (i3 acc) (i3 k) = S_X6_many_c4 j (i3 s) (i3 (acc + (s.testBit k).toNat)) (i3 (k + 1)) := by
    intro k acc j hk
    have h5 : ((5 : Int32) ≤ i3 k) = (5 ≤ k) := i3_le (a := 5) (by decide) (by omega)
    have h6 : ¬ 5 ≤ k := by omega
    rw [S_X6_many_c4, onm_e, i3_has hs2 (by omega)]
    simp only [h5, h6, if_false, bI_nat, i3_add, i3_succ]
    rfl
  rw [e0]
  show S_X6_many_c4 (n + 5 + 1) (i3 s) (i3 0) (i3 0) = _
  rw [b 0 0 _ (by decide)]
  show S_X6_many_c4 (n + 4 + 1) _ _ _ = _
  rw [b 1 _ _ (by decide)]
  show S_X6_many_c4 (n + 3 + 1) _ _ _ = _
  rw [b 2 _ _ (by decide)]
  show S_X6_many_c4 (n + 2 + 1) _ _ _ = _
  rw [b 3 _ _ (by decide)]
  show S_X6_many_c4 (n + 1 + 1) _ _ _ = _
  rw [b 4 _ _ (by decide), S_X6_many_c4]
  have : (5 : Int32) ≤ i3 (4 + 1) := by decide
  rw [if_pos this]
  congr 2
  have hb := lt32 (fun s => 0 + (s.testBit 0).toNat + (s.testBit 1).toNat + (s.testBit 2).toNat + (s.testBit 3).toNat + (s.testBit 4).toNat = pc s) (by decide +kernel) hs
  exact hb
theorem S_isSettled {s n : Nat} {st : MSt} (hs : s < 32) (hn : 6 ≤ n) : S_X6_isSettled n (i3 s) st = some (bI (pc s == 1)) := by
  unfold S_X6_isSettled
  rw [S_many hs hn]
  have hp : pc s < 2147483648 := by unfold pc; omega
  have e1 : (i3 (pc s) = 1) = (pc s = 1) := i3_eq (b := 1) hp (by decide)
  show (if i3 (pc s) = 1 then some 1 else some 0) = _
  simp only [e1]
  by_cases h : pc s = 1 <;> simp [h, bI]
def onlyN (s : Nat) : Nat := if s = 16 then 4 else if s = 8 then 3 else if s = 4 then 2 else if s = 2 then 1 else 0
theorem S_only {s n : Nat} (hs : s < 32) (hn : 5 ≤ n) : S_X6_only n (i3 s) = some (i3 (onlyN s)) := by
  obtain ⟨n, rfl⟩ : ∃ k, n = k + 5 := ⟨n - 5, by omega⟩
  unfold S_X6_only
  have hs2 : s < 2147483648 := by omega
  have b : ∀ k acc : Nat, ∀ j, k < 5 → S_X6_only_c4 (j + 1) (i3 s) (i3 acc) (i3 k) = S_X6_only_c4 j (i3 s) (i3 (if s = 1 <<< k then k else acc)) (i3 (k + 1)) := by
    intro k acc j hk
    have hk2 : 1 <<< k < 2147483648 := by
      have : k = 0 ∨ k = 1 ∨ k = 2 ∨ k = 3 ∨ k = 4 := by omega
      rcases this with rfl | rfl | rfl | rfl | rfl <;> decide
    have e1 : (1 : Int32) <<< (i3 k &&& 31) = i3 (1 <<< k) := i3_shl (a := 1) (by omega)
    have h5 : ((5 : Int32) ≤ i3 k) = (5 ≤ k) := i3_le (a := 5) (by decide) (by omega)
    have h6 : ¬ 5 ≤ k := by omega
    rw [S_X6_only_c4, e1]
    simp only [h5, h6, if_false, i3_eq hs2 hk2]
    by_cases h : s = 1 <<< k
    · rw [if_pos h, if_pos h, i3_succ]
    · rw [if_neg h, if_neg h, i3_succ]
  show S_X6_only_c4 (n + 4 + 1) (i3 s) (i3 0) (i3 1) = _
  rw [b 1 0 _ (by decide)]
  show S_X6_only_c4 (n + 3 + 1) _ _ _ = _
  rw [b 2 _ _ (by decide)]
  show S_X6_only_c4 (n + 2 + 1) _ _ _ = _
  rw [b 3 _ _ (by decide)]
  show S_X6_only_c4 (n + 1 + 1) _ _ _ = _
  rw [b 4 _ _ (by decide), S_X6_only_c4]
  have : (5 : Int32) ≤ i3 (4 + 1) := by decide
  rw [if_pos this]
  rfl

/-! loops that go on while something holds; loops that gather -/
theorem all_range {f : Nat → Bool} {N : Nat} : ((List.range N).all f = true) ↔ ∀ i, i < N → f i = true := by
  rw [List.all_eq_true]; exact ⟨fun h i hi => h i (List.mem_range.mpr hi), fun h i hi => h i (List.mem_range.mp hi)⟩
theorem any_range {f : Nat → Bool} {N : Nat} : ((List.range N).any f = true) ↔ ∃ i, i < N ∧ f i = true := by
  rw [List.any_eq_true]; exact ⟨fun ⟨i, h1, h2⟩ => ⟨i, List.mem_range.mp h1, h2⟩, fun ⟨i, h1, h2⟩ => ⟨i, List.mem_range.mpr h1, h2⟩⟩
def allFr (f : Nat → Bool) (N j : Nat) : Bool := (List.range N).all fun i => decide (i < j) || f i
theorem allFr0 {f : Nat → Bool} {N : Nat} : allFr f N 0 = (List.range N).all f := by unfold allFr; simp
theorem allFrN {f : Nat → Bool} {N : Nat} : allFr f N N = true := by unfold allFr; rw [all_range]; intro i hi; simp [hi]
theorem allFrS {f : Nat → Bool} {N j : Nat} (hj : j < N) : allFr f N j = (f j && allFr f N (j + 1)) := by
  rw [Bool.eq_iff_iff, Bool.and_eq_true]
  unfold allFr
  rw [all_range, all_range]
  constructor
  · intro h
    refine ⟨by simpa using h j hj, fun i hi => ?_⟩
    rcases Nat.lt_or_ge i j with q | q
    · simp; left; omega
    · have := h i hi
      have q2 : ¬ i < j := by omega
      simp [q2] at this
      simp [this]
  · intro ⟨h1, h2⟩ i hi
    rcases Nat.lt_trichotomy i j with q | q | q
    · simp [q]
    · subst q; simp [h1]
    · have := h2 i hi
      have q2 : ¬ i < j + 1 := by omega
      simp [q2] at this
      simp [this]
theorem all_loop {β : Type} {F : Nat → Nat → Option β} {f : Nat → Bool} {N B : Nat} {Kt Kf : Option β} (hend : ∀ n, B ≤ n → F (n + 1) N = Kt) (hstep : ∀ n j, j < N → B ≤ n → F (n + 1) j = if f j then F n (j + 1) else Kf) :
    ∀ j, j ≤ N → ∀ n, N - j + B + 1 ≤ n → F n j = if allFr f N j then Kt else Kf := by
  apply vloop
  · intro n hn
    obtain ⟨n, rfl⟩ : ∃ k, n = k + 1 := ⟨n - 1, by omega⟩
    rw [hend n (by omega), allFrN]; rfl
  · intro j hj ih n hn
    obtain ⟨n, rfl⟩ : ∃ k, n = k + 1 := ⟨n - 1, by omega⟩
    rw [hstep n j hj (by omega), allFrS hj]
    by_cases q : f j = true
    · rw [if_pos q, ih n (by omega), q, Bool.true_and]
    · rw [if_neg q]
      have : f j = false := by simpa using q
      rw [this]; rfl
def foldFr {γ : Type} (g : Nat → γ → γ) (N : Nat) (j : Nat) (a : γ) : γ := (List.range' j (N - j)).foldl (fun a i => g i a) a
theorem foldFrN {γ : Type} {g : Nat → γ → γ} {N : Nat} {a : γ} : foldFr g N N a = a := by unfold foldFr; rw [Nat.sub_self]; rfl
theorem foldFrS {γ : Type} {g : Nat → γ → γ} {N j : Nat} {a : γ} (hj : j < N) : foldFr g N j a = foldFr g N (j + 1) (g j a) := by
  unfold foldFr
  obtain ⟨k, hk⟩ : ∃ k, N - j = k + 1 := ⟨N - j - 1, by omega⟩
  rw [hk, List.range'_succ, List.foldl_cons, show N - (j + 1) = k by omega]
theorem foldFr0 {γ : Type} {g : Nat → γ → γ} {N : Nat} {a : γ} : foldFr g N 0 a = (List.range N).foldl (fun a i => g i a) a := by unfold foldFr; rw [List.range_eq_range']; rfl
theorem fold_loop {β γ : Type} {F : Nat → Nat → γ → Option β} {g : Nat → γ → γ} {N B : Nat} {K : γ → Option β} (hend : ∀ n a, B ≤ n → F (n + 1) N a = K a) (hstep : ∀ n j a, j < N → B ≤ n → F (n + 1) j a = F n (j + 1) (g j a)) :
    ∀ j, j ≤ N → ∀ n a, N - j + B + 1 ≤ n → F n j a = K (foldFr g N j a) := by
  apply vloop
  · intro n a hn
    obtain ⟨n, rfl⟩ : ∃ k, n = k + 1 := ⟨n - 1, by omega⟩
    rw [hend n a (by omega), foldFrN]
  · intro j hj ih n a hn
    obtain ⟨n, rfl⟩ : ∃ k, n = k + 1 := ⟨n - 1, by omega⟩
    rw [hstep n j a hj (by omega), ih n _ (by omega), foldFrS hj]
/-- a loop over a state: something holds at each turn -/
theorem st_loop {β σ : Type} {F : Nat → Nat → σ → Option β} {I : Nat → σ → Prop} {Q : β → Prop} {N B : Nat} (hend : ∀ n a, B ≤ n → I N a → ∃ r, F (n + 1) N a = some r ∧ Q r) (hstep : ∀ n j a, j < N → B ≤ n → I j a → ∃ b, I (j + 1) b ∧ F (n + 1) j a = F n (j + 1) b) :
    ∀ j, j ≤ N → ∀ n a, N - j + B + 1 ≤ n → I j a → ∃ r, F n j a = some r ∧ Q r := by
  apply vloop
  · intro n a hn hI
    obtain ⟨n, rfl⟩ : ∃ k, n = k + 1 := ⟨n - 1, by omega⟩
    exact hend n a (by omega) hI
  · intro j hj ih n a hn hI
    obtain ⟨n, rfl⟩ : ∃ k, n = k + 1 := ⟨n - 1, by omega⟩
    obtain ⟨b, h1, h2⟩ := hstep n j a hj (by omega) hI
    rw [h2]
    exact ih n b (by omega) h1
theorem st_run {β σ : Type} {F : Nat → Nat → σ → Option β} {I : Nat → σ → Prop} {K : σ → Option β} {N B : Nat} (hend : ∀ n a, B ≤ n → I N a → F (n + 1) N a = K a) (hstep : ∀ n j a, j < N → B ≤ n → I j a → ∃ b, I (j + 1) b ∧ F (n + 1) j a = F n (j + 1) b) :
    ∀ j, j ≤ N → ∀ n a, N - j + B + 1 ≤ n → I j a → ∃ b, I N b ∧ F n j a = K b := by
  apply vloop
  · intro n a hn hI
    obtain ⟨n, rfl⟩ : ∃ k, n = k + 1 := ⟨n - 1, by omega⟩
    exact ⟨a, hI, hend n a (by omega) hI⟩
  · intro j hj ih n a hn hI
    obtain ⟨n, rfl⟩ : ∃ k, n = k + 1 := ⟨n - 1, by omega⟩
    obtain ⟨b, h1, h2⟩ := hstep n j a hj (by omega) hI
    rw [h2]
    exact ih n b (by omega) h1
