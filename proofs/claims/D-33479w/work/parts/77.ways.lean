/-! ways to fill a line up to a place, by the letters that were met
-/
set_option maxRecDepth 100000
def mskN (m : Nat) (pre : List Nat) : Nat := maskN pre &&& (2 ^ m - 1)
theorem msk_app {m x : Nat} {pre : List Nat} (hx : x ≤ m) : mskN m (pre ++ [x]) = if x < m then mskN m pre ||| 1 <<< x else mskN m pre := by
  unfold mskN
  rw [maskN_app, Nat.and_or_distrib_right]
  have hone : 1 <<< x &&& (2 ^ m - 1) = if x < m then 1 <<< x else 0 := by
    apply Nat.eq_of_testBit_eq
    intro i
    rw [Nat.testBit_and, tbs, Nat.testBit_two_pow_sub_one]
    by_cases q : x < m
    · rw [if_pos q, tbs]
      by_cases q2 : i = x
      · subst q2; simp [q]
      · simp [q2]
    · rw [if_neg q, Nat.zero_testBit]
      by_cases q2 : i = x
      · subst q2; simp [q]
      · simp [q2]
  rw [hone]
  split
  · rfl
  · rw [Nat.or_zero]
theorem msk_lt {m : Nat} {pre : List Nat} : mskN m pre < 2 ^ m := by
  unfold mskN; rw [Nat.and_two_pow_sub_one_eq_mod]; exact Nat.mod_lt _ (Nat.two_pow_pos _)
theorem msk_bit {m x : Nat} {pre : List Nat} (hx : x < m) : (mskN m pre).testBit x = (maskN pre).testBit x := by
  unfold mskN; rw [Nat.testBit_and, Nat.testBit_two_pow_sub_one, decide_eq_true hx, Bool.and_true]
def okG (n m i met : Nat) : Bool := decide (i - pc met < n - m)
def okT (m tF tL met x : Nat) : Bool := !met.testBit x && ordN tF x (pc met) && ordN tL x (m - 1 - pc met)
theorem stepS_msk {n m tF tL x : Nat} {pre : List Nat} (hx : x ≤ m) : stepS n m tF tL pre x = if x = m then okG n m pre.length (mskN m pre) else okT m tF tL (mskN m pre) x := by
  unfold stepS
  by_cases q : x = m
  · rw [if_pos q, if_pos q]; rfl
  · rw [if_neg q, if_neg q]
    unfold okT
    rw [msk_bit (by omega)]
    rfl
/-- sequences of things for the first places of a line of cells -/
def sqN (n m tF tL : Nat) (cs : Nat → Nat) : Nat → List (List Nat)
  | 0 => [[]]
  | i + 1 => (sqN n m tF tL cs i).flatMap fun pre => ((List.range (m + 1)).filter fun x => (cs i).testBit x && stepS n m tF tL pre x).map fun x => pre ++ [x]
theorem mem_sqN {n m tF tL : Nat} {cs : Nat → Nat} : ∀ {i : Nat} {xs : List Nat}, xs ∈ sqN n m tF tL cs i ↔ xs.length = i ∧ (∀ t ∈ xs, t ≤ m) ∧ ∀ j, j < i → (cs j).testBit (xs.getD j 0) = true ∧ stepS n m tF tL (xs.take j) (xs.getD j 0) = true := by
  intro i
  induction i with
  | zero =>
    intro xs
    show xs ∈ [[]] ↔ _
    rw [List.mem_singleton]
    constructor
    · rintro rfl; exact ⟨rfl, fun t h => (by cases h), fun j h => absurd h (Nat.not_lt_zero _)⟩
    · intro ⟨h, _⟩; exact List.length_eq_zero_iff.mp h
  | succ i ih =>
    intro xs
    show xs ∈ List.flatMap _ _ ↔ _
    rw [List.mem_flatMap]
    constructor
    · rintro ⟨pre, h1, h2⟩
      obtain ⟨x, h3, rfl⟩ := List.mem_map.mp h2
      rw [List.mem_filter, List.mem_range, Bool.and_eq_true] at h3
      obtain ⟨k1, k2, k3⟩ := ih.mp h1
      refine ⟨by rw [List.length_append, k1]; rfl, fun t ht => ?_, fun j hj => ?_⟩
      · rcases List.mem_append.mp ht with ht | ht
        · exact k2 t ht
        · rw [List.mem_singleton.mp ht]; omega
      · rcases Nat.lt_or_ge j i with q | q
        · rw [getD_app_lt (by omega), List.take_append_of_le_length (by omega)]; exact k3 j q
        · have e : j = pre.length := by omega
          rw [e, getD_app_eq, List.take_left, k1]; exact h3.2
    · intro ⟨h1, h2, h3⟩
      have e : xs = xs.take i ++ [xs.getD i 0] := by
        rw [← take_succ_getD (by omega), ← h1, List.take_length]
      have hl : (xs.take i).length = i := by rw [List.length_take]; omega
      refine ⟨xs.take i, ih.mpr ⟨hl, fun t ht => h2 t (List.mem_of_mem_take ht), fun j hj => ?_⟩, List.mem_map.mpr ⟨xs.getD i 0, ?_, e.symm⟩⟩
      · rw [take_getD hj, List.take_take, Nat.min_eq_left (by omega)]; exact h3 j (by omega)
      · rw [List.mem_filter, List.mem_range, Bool.and_eq_true]
        exact ⟨Nat.lt_succ_of_le (getD_le h2 i), h3 i (Nat.lt_succ_self _)⟩
theorem sqN_nodup {n m tF tL : Nat} {cs : Nat → Nat} : ∀ i, (sqN n m tF tL cs i).Nodup := by
  intro i
  induction i with
  | zero => exact List.pairwise_singleton _ _
  | succ i ih =>
    show (List.flatMap _ _).Nodup
    unfold List.Nodup
    rw [List.pairwise_flatMap]
    refine ⟨fun pre _ => ?_, ih.imp fun hne v hv w hw e => ?_⟩
    · rw [List.pairwise_map]
      refine (List.nodup_range.filter _).imp fun hne e => hne ?_
      exact (List.cons.inj (List.append_cancel_left e)).1
    · obtain ⟨a, _, rfl⟩ := List.mem_map.mp hv
      obtain ⟨b, _, rfl⟩ := List.mem_map.mp hw
      exact hne (List.append_inj' e rfl).1
/-- the sequences of all places are the arrangements that the line can have -/
theorem sqN_fit {p : Pz} (hok : okNM p.n p.m) (hte : ∀ l z, p.te l z ≤ 2 * p.m) (w : Nat → Nat) (l : Nat) : (sqN p.n p.m (p.te l false) (p.te l true) (fun k => w (cellN p.n l k)) p.n).Perm (fitL p w l) := by
  refine (List.perm_ext_iff_of_nodup (sqN_nodup _) ((arrs_nodup hok).filter _)).mpr fun xs => ?_
  show _ ↔ xs ∈ fitL p w l
  rw [mem_sqN, mem_fitL, fit_iff]
  have key : xs.length = p.n → (∀ t ∈ xs, t ≤ p.m) → ((∀ j, j < p.n → stepS p.n p.m (p.te l false) (p.te l true) (xs.take j) (xs.getD j 0) = true) ↔ xs ∈ arrs p.n p.m ∧ p.says l xs = true) := by
    intro h1 h2
    have := allS_iff hok h1 h2 (hte l false) (hte l true)
    unfold allS at this
    rw [all_range] at this
    rw [this]
    unfold Pz.says
    rw [Bool.and_eq_true]
  constructor
  · intro ⟨h1, h2, h3⟩
    obtain ⟨k1, k2⟩ := (key h1 h2).mp fun j hj => (h3 j hj).2
    exact ⟨k1, fun k hk => (h3 k hk).1, k2⟩
  · intro ⟨h1, h2, h3⟩
    have hr := arrs_row hok h1
    exact ⟨hr.1, hr.2.1, fun j hj => ⟨h2 j hj, (key hr.1 hr.2.1).mpr ⟨h1, h3⟩ j hj⟩⟩
theorem full_mask {p : Pz} (hok : okNM p.n p.m) {xs : List Nat} (h : xs ∈ arrs p.n p.m) : mskN p.m xs = 2 ^ p.m - 1 := by
  apply Nat.eq_of_testBit_eq
  intro i
  unfold mskN
  rw [Nat.testBit_and, Nat.testBit_two_pow_sub_one]
  by_cases q : i < p.m
  · have hc := (arrs_row hok h).2.2 i q
    have hm : i ∈ xs := List.count_pos_iff.mp (by omega)
    have : ∀ (ys : List Nat) (s : Nat), (ys.foldl (fun s t => s ||| 1 <<< t) s).testBit i = (s.testBit i || decide (i ∈ ys)) := by
      intro ys
      induction ys with
      | nil => intro s; simp
      | cons y ys ih =>
        intro s
        rw [List.foldl_cons, ih, Nat.testBit_or, tbs]
        by_cases e : i = y
        · subst e; simp
        · simp [e]
    unfold maskN
    rw [this, decide_eq_true hm, decide_eq_true q]; simp
  · rw [decide_eq_false q, Bool.and_false]
def wyN (n m tF tL : Nat) (cs : Nat → Nat) (i q : Nat) : Nat := (sqN n m tF tL cs i).countP fun pre => mskN m pre == q
theorem wy_full {p : Pz} (hok : okNM p.n p.m) (hte : ∀ l z, p.te l z ≤ 2 * p.m) (w : Nat → Nat) (l : Nat) : wyN p.n p.m (p.te l false) (p.te l true) (fun k => w (cellN p.n l k)) p.n (2 ^ p.m - 1) = (fitL p w l).length := by
  unfold wyN
  rw [(sqN_fit hok hte w l).countP_eq, List.countP_eq_length]
  intro xs hx
  rw [full_mask hok (mem_fitL.mp hx).1]; simp
theorem wy_0 {n m tF tL : Nat} {cs : Nat → Nat} {q : Nat} : wyN n m tF tL cs 0 q = (decide (q = 0)).toNat := by
  show List.countP _ [[]] = _
  rw [List.countP_singleton]
  have : mskN m [] = 0 := by unfold mskN maskN; simp
  rw [this]
  by_cases h : q = 0
  · subst h; rfl
  · have h2 : ¬ 0 = q := fun e => h e.symm
    simp [h, h2]
def cntQ (n m tF tL i set met q : Nat) : Nat := (set.testBit m && okG n m i met && q == met).toNat + sumB (fun x => set.testBit x && okT m tF tL met x && q == (met ||| 1 <<< x)) m
theorem sumB_countP (f : Nat → Bool) : ∀ N, sumB f N = (List.range N).countP f := by
  intro N
  induction N with
  | zero => rfl
  | succ N ih =>
    rw [sumB_succ, List.range_succ, List.countP_append, ih, List.countP_singleton]
    cases f N <;> rfl
theorem group_sum {M : Nat} {f : List Nat → Nat} {g : Nat → Nat} : ∀ (L : List (List Nat)), (∀ x ∈ L, f x < M) → (L.map fun x => g (f x)).sum = ((List.range M).map fun a => L.countP (fun x => f x == a) * g a).sum := by
  intro L
  induction L with
  | nil =>
    intro _
    have : ((List.range M).map fun a => (List.countP (fun x => f x == a) []) * g a) = (List.range M).map fun _ => 0 := List.map_congr_left fun a _ => by rw [List.countP_nil, Nat.zero_mul]
    rw [this, List.map_const', List.sum_replicate_nat]; rfl
  | cons y L ih =>
    intro h
    rw [List.map_cons, List.sum_cons, ih fun x hx => h x (List.mem_cons_of_mem _ hx)]
    have hy := h y List.mem_cons_self
    have key : ∀ (R : List Nat), R.Nodup → (R.map fun a => (List.countP (fun x => f x == a) (y :: L)) * g a).sum = (if f y ∈ R then g (f y) else 0) + (R.map fun a => L.countP (fun x => f x == a) * g a).sum := by
      intro R
      induction R with
      | nil => intro _; simp
      | cons a R ih2 =>
        intro hnd
        have hnd2 := List.nodup_cons.mp hnd
        rw [List.map_cons, List.sum_cons, ih2 hnd2.2, List.map_cons, List.sum_cons, List.countP_cons]
        by_cases q : f y = a
        · have q3 : ¬ f y ∈ R := by rw [q]; exact hnd2.1
          have q4 : (f y == a) = true := by simpa using q
          have q5 : f y ∈ a :: R := by rw [q]; exact List.mem_cons_self
          rw [if_neg q3, if_pos q4, if_pos q5, Nat.add_mul, Nat.one_mul, q]
          omega
        · have q2 : (f y == a) = false := by simpa using q
          have e1 : (f y ∈ a :: R) = (f y ∈ R) := by
            rw [eq_iff_iff, List.mem_cons]
            exact ⟨fun h => h.resolve_left q, Or.inr⟩
          rw [q2, if_neg (by decide), Nat.add_zero]
          simp only [e1]
          omega
    rw [key _ List.nodup_range, if_pos (List.mem_range.mpr hy)]
theorem wy_succ {n m tF tL : Nat} {cs : Nat → Nat} {i q : Nat} : wyN n m tF tL cs (i + 1) q = ((List.range (2 ^ m)).map fun met => wyN n m tF tL cs i met * cntQ n m tF tL i (cs i) met q).sum := by
  show List.countP _ (List.flatMap _ _) = _
  rw [List.countP_flatMap]
  have e : ∀ pre ∈ sqN n m tF tL cs i, (List.countP (fun y => mskN m y == q) (((List.range (m + 1)).filter fun x => (cs i).testBit x && stepS n m tF tL pre x).map fun x => pre ++ [x])) = cntQ n m tF tL i (cs i) (mskN m pre) q := by
    intro pre hp
    have hl := (mem_sqN.mp hp).1
    rw [List.countP_map, List.countP_filter, List.range_succ, List.countP_append, List.countP_singleton]
    unfold cntQ
    rw [Nat.add_comm, sumB_countP]
    congr 1
    · rw [stepS_msk (Nat.le_refl _), if_pos rfl, hl]
      show (if (mskN m (pre ++ [m]) == q && ((cs i).testBit m && okG n m i (mskN m pre))) = true then 1 else 0) = _
      rw [msk_app (Nat.le_refl _), if_neg (Nat.lt_irrefl _), Bool.and_comm]
      have e2 : (mskN m pre == q) = (q == mskN m pre) := by rw [Bool.eq_iff_iff, beq_iff_eq, beq_iff_eq]; exact ⟨Eq.symm, Eq.symm⟩
      rw [e2]
      cases ((cs i).testBit m && okG n m i (mskN m pre) && q == mskN m pre) <;> rfl
    · apply List.countP_congr
      intro x hx
      have hx := List.mem_range.mp hx
      show (mskN m (pre ++ [x]) == q && ((cs i).testBit x && stepS n m tF tL pre x)) = true ↔ _
      rw [stepS_msk (by omega), if_neg (by omega), msk_app (by omega), if_pos hx, Bool.and_comm]
      have e2 : ((mskN m pre ||| 1 <<< x) == q) = (q == (mskN m pre ||| 1 <<< x)) := by rw [Bool.eq_iff_iff, beq_iff_eq, beq_iff_eq]; exact ⟨Eq.symm, Eq.symm⟩
      rw [e2]
  have e3 : ((sqN n m tF tL cs i).map (List.countP (fun y => mskN m y == q) ∘ fun pre => ((List.range (m + 1)).filter fun x => (cs i).testBit x && stepS n m tF tL pre x).map fun x => pre ++ [x])) = (sqN n m tF tL cs i).map fun pre => cntQ n m tF tL i (cs i) (mskN m pre) q := List.map_congr_left fun pre hp => e pre hp
  rw [e3]
  exact group_sum (f := mskN m) (g := fun met => cntQ n m tF tL i (cs i) met q) _ fun x _ => msk_lt
