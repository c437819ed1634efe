/-! a puzzle is written
-/
set_option maxRecDepth 100000
def extI (I I' : Nat → Prop) (h : aH) : Prop := (∀ q, I q → I' q) ∧ ∀ q, I' q → I q ∨ h q = none
theorem extI.rf {I : Nat → Prop} {h : aH} : extI I I h := ⟨fun _ h => h, fun _ h => Or.inl h⟩
/-- a puzzle's cells, with any numbers in them -/
def PW (I : Nat → Prop) (h : aH) (a : Nat) (F : List Nat) (tl ls lo : Nat) (rw : Nat → Nat) (aro : Option Nat) (T : Nat → Int32) (x4 x5 x6 x7 : Int32) : Prop := F = a :: tl :: ls :: lo :: (List.range 12).map rw ∧ F.Nodup ∧ (∀ q ∈ F, ¬ I q) ∧
  h a = some (aObj 3 [.ref tl, .ref ls, .ref lo, va_rf aro, .int x4, .int x5, .int x6, .int x7]) ∧ h tl = some (aInts .int 20 T) ∧ (∃ R : Nat → Option Nat, h ls = some (aRefs (.array .int) 12 R) ∧ ∀ l, l < 12 → R l = some (rw l)) ∧
  (∀ l, l < 12 → ∃ f : Nat → Int32, h (rw l) = some (aInts .int 5 f)) ∧ (∃ L : Nat → Int32, h lo = some (aInts .int 25 L)) ∧ ∀ ar, aro = some ar → ∃ n m, okNM n m ∧ ARR I h ar n m
section PWS
variable {I : Nat → Prop} {h : aH} {a : Nat} {F : List Nat} {tl ls lo : Nat} {rw : Nat → Nat} {aro : Option Nat} {T : Nat → Int32} {x4 x5 x6 x7 : Int32}
theorem PW.mem (hW : PW I h a F tl ls lo rw aro T x4 x5 x6 x7) : a ∈ F ∧ tl ∈ F ∧ ls ∈ F ∧ lo ∈ F ∧ ∀ l, l < 12 → rw l ∈ F := by
  obtain ⟨e, -⟩ := hW
  rw [e]
  refine ⟨by simp, by simp, by simp, by simp, fun l hl => ?_⟩
  simp only [List.mem_cons, List.mem_map, List.mem_range]
  exact Or.inr (Or.inr (Or.inr (Or.inr ⟨l, hl, rfl⟩)))
theorem PW.ne (hW : PW I h a F tl ls lo rw aro T x4 x5 x6 x7) : a ≠ tl ∧ a ≠ ls ∧ a ≠ lo ∧ (∀ l, l < 12 → a ≠ rw l) ∧ tl ≠ ls ∧ tl ≠ lo ∧ (∀ l, l < 12 → tl ≠ rw l) ∧ ls ≠ lo ∧ (∀ l, l < 12 → ls ≠ rw l) ∧ (∀ l, l < 12 → lo ≠ rw l) ∧ ∀ i j, i < 12 → j < 12 → rw i = rw j → i = j := by
  obtain ⟨e, hN, -⟩ := hW
  rw [e] at hN
  simp only [List.nodup_cons, List.mem_cons, List.mem_map, List.mem_range, not_or, not_exists, not_and] at hN
  obtain ⟨⟨n1, n2, n3, n4⟩, ⟨n5, n6, n7⟩, ⟨n8, n9⟩, n10, n11⟩ := hN
  refine ⟨n1, n2, n3, fun l hl z => n4 l hl z.symm, n5, n6, fun l hl z => n7 l hl z.symm, n8, fun l hl z => n9 l hl z.symm, fun l hl z => n10 l hl z.symm, fun i j hi hj z => ?_⟩
  unfold List.Nodup at n11
  rw [List.pairwise_map] at n11
  rcases Nat.lt_trichotomy i j with q | q | q
  · exact absurd z (List.pairwise_iff_getElem.mp n11 i j (by rw [List.length_range]; exact hi) (by rw [List.length_range]; exact hj) q |> fun w => by rw [List.getElem_range, List.getElem_range] at w; exact w)
  · exact q
  · exact absurd z.symm (List.pairwise_iff_getElem.mp n11 j i (by rw [List.length_range]; exact hj) (by rw [List.length_range]; exact hi) q |> fun w => by rw [List.getElem_range, List.getElem_range] at w; exact w)
theorem PW.obj {aro' : Option Nat} {y4 y5 y6 y7 : Int32} (hW : PW I h a F tl ls lo rw aro T x4 x5 x6 x7) (har : ∀ ar, aro' = some ar → ∃ n m, okNM n m ∧ ARR I h ar n m) : PW I (aUp h a (aObj 3 [.ref tl, .ref ls, .ref lo, va_rf aro', .int y4, .int y5, .int y6, .int y7])) a F tl ls lo rw aro' T y4 y5 y6 y7 := by
  obtain ⟨m1, m2, m3, m4, -⟩ := hW.ne
  have hI : ∀ q, I q → ¬ q = a := fun q hq e => hW.2.2.1 a hW.mem.1 (by rw [← e]; exact hq)
  obtain ⟨e, hN, hn, ho, ht, ⟨R, hl, hl2⟩, hr, ⟨L, hlo⟩, -⟩ := hW
  refine ⟨e, hN, hn, aUp_eq, by rw [aUp_ne (Ne.symm m1)]; exact ht, ⟨R, by rw [aUp_ne (Ne.symm m2)]; exact hl, hl2⟩, fun l hl => ?_, ⟨L, by rw [aUp_ne (Ne.symm m3)]; exact hlo⟩, fun ar he => ?_⟩
  · obtain ⟨f, w⟩ := hr l hl
    exact ⟨f, by rw [aUp_ne (Ne.symm (m4 l hl))]; exact w⟩
  · obtain ⟨n, m, w1, w2⟩ := har ar he
    exact ⟨n, m, w1, w2.kp (S := (· = a)) (kp.up rfl) hI (fun _ h => h)⟩
/-- all but the tellings, the lines' rows and the lines of cells stay -/
theorem PW.kp {h' : aH} {S : Nat → Prop} {T' : Nat → Int32} (hW : PW I h a F tl ls lo rw aro T x4 x5 x6 x7) (hk : kp S h h') (h1 : ¬ S a) (h2 : ¬ S ls) (hI : ∀ q, I q → ¬ S q) (ht : h' tl = some (aInts .int 20 T')) (hr : ∀ l, l < 12 → ∃ f : Nat → Int32, h' (rw l) = some (aInts .int 5 f)) (hlo : ∃ L : Nat → Int32, h' lo = some (aInts .int 25 L)) : PW I h' a F tl ls lo rw aro T' x4 x5 x6 x7 := by
  obtain ⟨e, hN, hn, ho, -, ⟨R, hl, hl2⟩, -, -, har⟩ := hW
  refine ⟨e, hN, hn, hk _ _ ho h1, ht, ⟨R, hk _ _ hl h2, hl2⟩, hr, hlo, fun ar he => ?_⟩
  obtain ⟨n, m, w1, w2⟩ := har ar he
  exact ⟨n, m, w1, w2.kp hk hI (fun _ h => h)⟩
theorem PZ.pw {p : Pz} (hP : PZ I h a F p) : ∃ tl ls lo rw ar T sec, PW I h a F tl ls lo rw (some ar) T (i3 p.n) (i3 p.m) (i3 sec) (bI p.dg) ∧ ARR I h ar p.n p.m ∧ (∀ e, e < 20 → p.tl e ≤ 2 * p.m) ∧ (∀ e, e < 20 → T e = letV (p.tl e)) ∧ sec < 2 ^ 20 ∧ (∀ e, e < 20 → sec.testBit e = (p.tl e != 0 && p.tl e % 2 == 0)) ∧
    (∀ l, l < 12 → ∃ f : Nat → Int32, h (rw l) = some (aInts .int 5 f) ∧ (l < p.nL → ∀ k, k < p.n → f k = i3 (cellN p.n l k))) ∧ ∃ L : Nat → Int32, h lo = some (aInts .int 25 L) ∧ ∀ c, c < p.n * p.n → L c = i3 (linesN p c) := by
  obtain ⟨tl, ls, lo, ar, rw, T, L, R, sec, hok, hb, eF, hN, hn, ho, ht, ht2, hs, hl, hr, hlo, hlo2, hA⟩ := hP
  refine ⟨tl, ls, lo, rw, ar, T, sec, ⟨eF, hN, hn, ho, ht, ⟨R, hl, fun l hl2 => (hr l hl2).1⟩, fun l hl2 => ?_, ⟨L, hlo⟩, fun ar' he => ?_⟩, hA, hb, ht2, hs.1, hs.2, fun l hl2 => (hr l hl2).2, L, hlo, hlo2⟩
  · obtain ⟨-, f, w, -⟩ := hr l hl2
    exact ⟨f, w⟩
  · cases he; exact ⟨_, _, hok, hA⟩
theorem PW.pz {p : Pz} {ar sec : Nat} (hok : okNM p.n p.m) (hW : PW I h a F tl ls lo rw (some ar) T (i3 p.n) (i3 p.m) (i3 sec) (bI p.dg)) (hA : ARR I h ar p.n p.m) (hb : ∀ e, e < 20 → p.tl e ≤ 2 * p.m) (ht : ∀ e, e < 20 → T e = letV (p.tl e)) (hs1 : sec < 2 ^ 20) (hs2 : ∀ e, e < 20 → sec.testBit e = (p.tl e != 0 && p.tl e % 2 == 0))
    (hr : ∀ l, l < 12 → ∃ f : Nat → Int32, h (rw l) = some (aInts .int 5 f) ∧ (l < p.nL → ∀ k, k < p.n → f k = i3 (cellN p.n l k))) {L : Nat → Int32} (hlo : h lo = some (aInts .int 25 L)) (hlo2 : ∀ c, c < p.n * p.n → L c = i3 (linesN p c)) : PZ I h a F p := by
  obtain ⟨eF, hN, hn, ho, ht0, ⟨R, hl, hl2⟩, -, -, -⟩ := hW
  exact ⟨tl, ls, lo, ar, rw, T, L, R, sec, hok, hb, eF, hN, hn, ho, ht0, ht, ⟨hs1, hs2⟩, hl, fun l hl3 => ⟨hl2 l hl3, hr l hl3⟩, hlo, hlo2, hA⟩
end PWS
/-- lines that are laid: all ahead of j, and j up to a place -/
def lnB (n j k c l : Nat) : Bool := (decide (l < j) && (List.range n).any fun x => cellN n l x == c) || (decide (l = j) && (List.range k).any fun x => cellN n j x == c)
theorem lnB_next {n j c l : Nat} : lnB n j n c l = lnB n (j + 1) 0 c l := by
  unfold lnB
  rw [List.range_zero, List.any_nil, Bool.and_false, Bool.or_false]
  rcases Nat.lt_trichotomy l j with q | q | q
  · rw [decide_eq_true q, decide_eq_false (by omega : ¬ l = j), decide_eq_true (by omega : l < j + 1)]; simp
  · subst q
    rw [decide_eq_false (Nat.lt_irrefl _), decide_eq_true rfl, decide_eq_true (Nat.lt_succ_self _)]; simp
  · rw [decide_eq_false (by omega : ¬ l < j), decide_eq_false (by omega : ¬ l = j), decide_eq_false (by omega : ¬ l < j + 1)]; simp
theorem lnB_step {n j k c l : Nat} : lnB n j (k + 1) c l = (lnB n j k c l || (decide (l = j) && cellN n j k == c)) := by
  unfold lnB
  rw [List.range_succ, List.any_append, Bool.and_or_distrib_left, Bool.or_assoc]
  simp
theorem lnB_all {p : Pz} (hok : okNM p.n p.m) {c : Nat} (hc : c < p.n * p.n) : setB (lnB p.n p.nL 0 c) 12 = linesN p c := by
  have hn := hok.n45
  have hL := nL_le hok
  apply Nat.eq_of_testBit_eq
  intro i
  rw [setB_bit, Bool.eq_iff_iff, linesN_bit hn hc, Bool.and_eq_true, decide_eq_true_iff]
  unfold lnB
  rw [List.range_zero, List.any_nil, Bool.and_false, Bool.or_false, Bool.and_eq_true, decide_eq_true_iff, any_range]
  constructor
  · intro ⟨_, h2, k, h3, h4⟩; exact ⟨h2, k, h3, by simpa using h4⟩
  · intro ⟨h2, k, h3, h4⟩; exact ⟨by omega, h2, k, h3, by simpa using h4⟩
section PZW
variable {l : Launch} {G : aG} {I : Nat → Prop} {h : aH} {a : Nat} {F : List Nat} {p : Pz}
theorem B_cellOfO (hl : l.stackTraces = false) {fs : List Value} {n : Nat} (ho : h a = some (.inr (3, fs))) (h4 : fs[4]? = some (.int (i3 n))) (hn : n = 4 ∨ n = 5) {i k : Nat} (hi : i < 2 * n + 2) (hk : k < n) : aC l G mX3_cellOf (wsN mX3_cellOf) 0 0 0 [.ref a, .int (i3 i), .int (i3 k)] h (aP1 (some (.int (i3 (cellN n i k)))) h) := by
  have o2 : (2 : Int32) * i3 n = i3 (2 * n) := i3_mul 2 n
  have o3 : i3 n - 1 = i3 (n - 1) := i3_sub (b := 1) (by omega)
  have o4 : i3 n + 1 = i3 (n + 1) := i3_succ _
  have o5 : i3 k + 1 = i3 (k + 1) := i3_succ _
  refine A_X3_cellOf hl (vI_mk ho h4 ?_)
  simp only [i3_le (a := n) (b := i) (by omega) (by omega)]
  unfold cellN
  refine ⟨fun q => vI_mk ho h4 ?_, fun q => vI_mk ho h4 ?_⟩
  · simp only [o2, i3_le (a := 2 * n) (b := i) (by omega) (by omega)]
    refine ⟨fun q2 => vI_mk ho h4 ?_, fun q2 => vI_mk ho h4 (vI_mk ho h4 ?_)⟩
    · simp only [o2, i3_eq (a := i) (b := 2 * n) (by omega) (by omega)]
      refine ⟨fun q3 => vI_mk ho h4 ?_, fun q3 => vI_mk ho h4 ?_⟩
      · rw [if_neg (by omega), if_neg (by omega), if_neg q3, o3, o5, i3_mul]; exact ⟨rfl, rfl⟩
      · rw [if_neg (by omega), if_neg (by omega), if_pos q3, o4, i3_mul]; exact ⟨rfl, rfl⟩
    · rw [if_neg (by omega), if_pos (by omega), i3_mul, i3_add, i3_sub (by omega)]; exact ⟨rfl, rfl⟩
  · rw [if_pos (by omega), i3_mul, i3_add]; exact ⟨rfl, rfl⟩
theorem B_lineCountO (hl : l.stackTraces = false) {fs : List Value} (ho : h a = some (.inr (3, fs))) (h4 : fs[4]? = some (.int (i3 p.n))) (h7 : fs[7]? = some (.int (bI p.dg))) : aC l G mX3_lineCount (wsN mX3_lineCount) 0 0 0 [.ref a] h (aP1 (some (.int (i3 p.nL))) h) := by
  refine A_X3_lineCount hl ?_
  refine vI_mk ho h4 (vI_mk ho h7 ?_)
  have e : (2 : Int32) * i3 p.n + (if bI p.dg = 0 then (0 : Int32) else 2) = i3 p.nL := by
    unfold Pz.nL
    have o : (2 : Int32) * i3 p.n = i3 (2 * p.n) := i3_mul 2 p.n
    rw [o]
    cases p.dg with
    | false => exact i3_add (2 * p.n) 0
    | true => exact i3_add (2 * p.n) 2
  exact ⟨by rw [← e], rfl⟩
/-- what preparing a puzzle brings about -/
def prpR (I : Nat → Prop) (h : aH) (a : Nat) (F : List Nat) (p : Pz) : Option Value → aH → Prop := fun v h' => v = none ∧ ∃ I', extI I I' h ∧ (∀ q, I' q → h' q ≠ none) ∧ kp (· ∈ F) h h' ∧ PZ I' h' a F p
theorem B_prepare (hl : l.stackTraces = false) {tl ls lo : Nat} {rw : Nat → Nat} {aro : Option Nat} {T : Nat → Int32} {sec : Nat} (hok : okNM p.n p.m) (hW : PW I h a F tl ls lo rw aro T (i3 p.n) (i3 p.m) (i3 sec) (bI p.dg)) (hb : ∀ e, e < 20 → p.tl e ≤ 2 * p.m) (ht : ∀ e, e < 20 → T e = letV (p.tl e)) (hs1 : sec < 2 ^ 20) (hs2 : ∀ e, e < 20 → sec.testBit e = (p.tl e != 0 && p.tl e % 2 == 0)) (hI0 : ∀ q, I q → h q ≠ none) :
    aC l G mX3_prepare (wsN mX3_prepare) 14 243 24611 [.ref a] h (aPR (prpR I h a F p)) := by
  have hn := hok.n45
  have hm := hok.m24
  have hnn := nn_le hn
  have hL := nL_le hok
  have e0 : (0 : Int32) = i3 0 := rfl
  -- the lines, once the arrangements are there
  have lay : ∀ (I' : Nat → Prop) (h1 : aH) (ar c s : Nat), c ≤ 243 → s ≤ 24611 → extI I I' h → (∀ q, I' q → h1 q ≠ none) → kp (· ∈ F) h h1 → PW I' h1 a F tl ls lo rw (some ar) T (i3 p.n) (i3 p.m) (i3 sec) (bI p.dg) → ARR I' h1 ar p.n p.m → T_X3_prepare_73 l G 14 243 24611 (aPR (prpR I h a F p)) a (i3 0) h1 c s := by
    intro I' h1 ar c s hc hs hext hI1 hk1 hW1 hA1
    obtain ⟨w1, w2, w3, w4, w5, w6, w7, w8, w9, w10, w11⟩ := hW1.ne
    have hmem := hW1.mem
    have hIn : ∀ q, I' q → ¬ (q = lo ∨ ∃ i, i < 12 ∧ q = rw i) := by
      intro q hq z
      rcases z with z | ⟨i, hi, z⟩
      · exact hW1.2.2.1 lo hmem.2.2.2.1 (by rw [← z]; exact hq)
      · exact hW1.2.2.1 (rw i) (hmem.2.2.2.2 i hi) (by rw [← z]; exact hq)
    have hSF : ∀ q, (q = lo ∨ ∃ i, i < 12 ∧ q = rw i) → q ∈ F := by
      intro q z
      rcases z with z | ⟨i, hi, z⟩
      · rw [z]; exact hmem.2.2.2.1
      · rw [z]; exact hmem.2.2.2.2 i hi
    have nA : ¬ (a = lo ∨ ∃ i, i < 12 ∧ a = rw i) := fun z => z.elim w3 fun ⟨i, hi, z⟩ => w4 i hi z
    have nT : ¬ (tl = lo ∨ ∃ i, i < 12 ∧ tl = rw i) := fun z => z.elim w6 fun ⟨i, hi, z⟩ => w7 i hi z
    have nL : ¬ (ls = lo ∨ ∃ i, i < 12 ∧ ls = rw i) := fun z => z.elim w8 fun ⟨i, hi, z⟩ => w9 i hi z
    -- a heap on the way: the object stands
    have std : ∀ h2, kp (fun q => q = lo ∨ ∃ i, i < 12 ∧ q = rw i) h1 h2 → h2 a = some (aObj 3 [.ref tl, .ref ls, .ref lo, .ref ar, .int (i3 p.n), .int (i3 p.m), .int (i3 sec), .int (bI p.dg)]) ∧ ∃ R : Nat → Option Nat, h2 ls = some (aRefs (.array .int) 12 R) ∧ ∀ l, l < 12 → R l = some (rw l) := by
      intro h2 k2
      obtain ⟨_, _, _, ho, _, ⟨R, hl1, hl2⟩, _⟩ := hW1
      exact ⟨k2 _ _ ho nA, R, k2 _ _ hl1 nL, hl2⟩
    -- line by line
    have lines := vloop (N := p.nL) (T := fun j => ∀ (h2 : aH) (L : Nat → Int32), kp (fun q => q = lo ∨ ∃ i, i < 12 ∧ q = rw i) h1 h2 → h2 lo = some (aInts .int 25 L) → (∀ c, c < p.n * p.n → L c = i3 (setB (lnB p.n j 0 c) 12)) → (∀ i, i < 12 → ∃ f : Nat → Int32, h2 (rw i) = some (aInts .int 5 f) ∧ (i < j → ∀ k, k < p.n → f k = i3 (cellN p.n i k))) → T_X3_prepare_101 l G 14 243 24611 (aPR (prpR I h a F p)) a (i3 j) h2 c s) ?_ ?_
    · -- zeros
      have zeros := vloop (N := p.n * p.n) (T := fun j => ∀ (h2 : aH) (L : Nat → Int32), kp (fun q => q = lo ∨ ∃ i, i < 12 ∧ q = rw i) h1 h2 → h2 lo = some (aInts .int 25 L) → (∀ c, c < j → L c = i3 0) → (∀ i, i < 12 → ∃ f : Nat → Int32, h2 (rw i) = some (aInts .int 5 f)) → T_X3_prepare_73 l G 14 243 24611 (aPR (prpR I h a F p)) a (i3 j) h2 c s) ?_ ?_ 0 (Nat.zero_le _)
      · obtain ⟨_, _, _, _, _, _, hr, ⟨L, hlo⟩, _⟩ := hW1
        exact zeros h1 L kp.rf hlo (fun c hc => absurd hc (Nat.not_lt_zero _)) hr
      · intro h2 L k2 hlo hL0 hr
        obtain ⟨ho, R, hls, hR⟩ := std h2 k2
        refine A_X3_prepare_73 hl (vI_mk ho rfl (vI_mk ho rfl ?_))
        rw [i3_mul]
        refine ⟨fun _ => lines 0 (Nat.zero_le _) h2 L k2 hlo (fun c hc => ?_) (fun i hi => ?_), fun q => absurd (by rw [i3_le (by omega) (by omega)]; exact Nat.le_refl _) q⟩
        · rw [hL0 c hc]
          congr 1
          apply Nat.eq_of_testBit_eq
          intro i
          rw [setB_bit, Nat.zero_testBit]
          unfold lnB
          simp
        · obtain ⟨f, w⟩ := hr i hi
          exact ⟨f, w, fun q => absurd q (Nat.not_lt_zero _)⟩
      · intro j hj ih h2 L k2 hlo hL0 hr
        obtain ⟨ho, R, hls, hR⟩ := std h2 k2
        refine A_X3_prepare_73 hl (vI_mk ho rfl (vI_mk ho rfl ?_))
        rw [i3_mul]
        refine ⟨fun q => absurd (by rwa [i3_le (by omega) (by omega)] at q) (by omega : ¬ p.n * p.n ≤ j), fun _ => vR_mk ho rfl (vSt_mk hlo rfl (by omega : j < 25) (by decide) ?_)⟩
        rw [i3_succ]
        refine ih _ (upd L j 0) (k2.tr (kp.up (Or.inl rfl))) aUp_eq (fun c hc => ?_) (fun i hi => ?_)
        · by_cases q : c = j
          · rw [q, upd_same]; rfl
          · rw [upd_ne q]; exact hL0 c (by omega)
        · obtain ⟨f, w⟩ := hr i hi
          exact ⟨f, by rw [aUp_ne (Ne.symm (w10 i hi))]; exact w⟩
    · intro h2 L k2 hlo hL0 hr
      obtain ⟨ho, R, hls, hR⟩ := std h2 k2
      refine A_X3_prepare_101 hl ⟨⟨_, ho⟩, ?_⟩
      refine vC_p (B_lineCountO hl ho rfl rfl) (by decide) (by omega) (by omega) ⟨_, rfl, fun _ => ?_, fun q => absurd (by rw [i3_le (by omega) (by omega)]; exact Nat.le_refl _) q⟩
      have hW2 : PW I' h2 a F tl ls lo rw (some ar) T (i3 p.n) (i3 p.m) (i3 sec) (bI p.dg) := by
        obtain ⟨q1, q2, q3, q4, q5, q6, q7, q8, q9⟩ := hW1
        exact PW.kp ⟨q1, q2, q3, q4, q5, q6, q7, q8, q9⟩ k2 nA nL hIn (k2 _ _ q5 nT) (fun i hi => by obtain ⟨f, w, -⟩ := hr i hi; exact ⟨f, w⟩) ⟨L, hlo⟩
      refine ⟨rfl, I', hext, fun q hq => ?_, hk1.tr (k2.mono hSF), PW.pz hok hW2 (hA1.kp k2 hIn (fun _ h => h)) hb ht hs1 hs2 hr hlo (fun c hc => by rw [hL0 c hc, lnB_all hok hc])⟩
      cases w : h1 q with
      | none => exact absurd w (hI1 q hq)
      | some y => rw [k2 _ _ w (hIn q hq)]; simp
    · intro j hj ih h2 L k2 hlo hL0 hr
      obtain ⟨ho, R, hls, hR⟩ := std h2 k2
      refine A_X3_prepare_101 hl ⟨⟨_, ho⟩, ?_⟩
      refine vC_p (B_lineCountO hl ho rfl rfl) (by decide) (by omega) (by omega) ⟨_, rfl, fun q => absurd (by rwa [i3_le (by omega) (by omega)] at q) (by omega : ¬ p.nL ≤ j), fun _ => ?_⟩
      have hj12 : j < 12 := by omega
      -- place by place
      have places := vloop (N := p.n) (T := fun k => ∀ (h3 : aH) (L3 : Nat → Int32), kp (fun q => q = lo ∨ ∃ i, i < 12 ∧ q = rw i) h1 h3 → h3 lo = some (aInts .int 25 L3) → (∀ c, c < p.n * p.n → L3 c = i3 (setB (lnB p.n j k c) 12)) → (∀ i, i < 12 → ∃ f : Nat → Int32, h3 (rw i) = some (aInts .int 5 f) ∧ (i < j → ∀ x, x < p.n → f x = i3 (cellN p.n i x)) ∧ (i = j → ∀ x, x < k → f x = i3 (cellN p.n i x))) → T_X3_prepare_111 l G 14 243 24611 (aPR (prpR I h a F p)) a (i3 j) (i3 k) h3 c s) ?_ ?_ 0 (Nat.zero_le _) h2 L k2 hlo hL0 (fun i hi => by
        obtain ⟨f, w, w2⟩ := hr i hi
        exact ⟨f, w, w2, fun _ x hx => absurd hx (Nat.not_lt_zero _)⟩)
      · exact places
      · intro h3 L3 k3 hlo3 hL3 hr3
        obtain ⟨ho3, R3, hls3, hR3⟩ := std h3 k3
        refine A_X3_prepare_111 hl (vI_mk ho3 rfl ⟨fun _ => ?_, fun q => absurd (by rw [i3_le (by omega) (by omega)]; exact Nat.le_refl _) q⟩)
        rw [i3_succ]
        refine ih h3 L3 k3 hlo3 (fun c hc => ?_) (fun i hi => ?_)
        · rw [hL3 c hc]
          congr 1
          apply Nat.eq_of_testBit_eq
          intro i
          rw [setB_bit, setB_bit, lnB_next]
        · obtain ⟨f, y1, y2, y3⟩ := hr3 i hi
          refine ⟨f, y1, fun q x hx => ?_⟩
          rcases Nat.lt_or_ge i j with z | z
          · exact y2 z x hx
          · exact y3 (by omega) x hx
      · intro k hk ihk h3 L3 k3 hlo3 hL3 hr3
        obtain ⟨ho3, R3, hls3, hR3⟩ := std h3 k3
        obtain ⟨fj, y1, y2, y3⟩ := hr3 j hj12
        have hc := cellN_lt hn (by omega : j < 2 * p.n + 2) hk
        obtain ⟨cc, hcc⟩ : ∃ cc, cc = cellN p.n j k := ⟨_, rfl⟩
        have hrl := w10 j hj12
        refine A_X3_prepare_111 hl (vI_mk ho3 rfl ⟨fun q => absurd (by rwa [i3_le (by omega) (by omega)] at q) (by omega : ¬ p.n ≤ k), fun _ => vR_mk ho3 rfl (vAR_mk hls3 rfl hj12 (by decide) (hR3 j hj12) ⟨⟨_, ho3⟩, ?_⟩)⟩)
        refine vC_p (B_cellOfO hl ho3 rfl hn (by omega : j < 2 * p.n + 2) hk) (by decide) (by omega) (by omega) ⟨_, rfl, vSt_mk y1 rfl (by omega : k < 5) (by decide) ?_⟩
        rw [← hcc] at hc ⊢
        obtain ⟨h4, hh4⟩ : ∃ h4, h4 = aUp h3 (rw j) (aInts .int 5 (upd fj k (i3 cc))) := ⟨_, rfl⟩
        rw [← hh4]
        have k4 : kp (fun q => q = lo ∨ ∃ i, i < 12 ∧ q = rw i) h3 h4 := by rw [hh4]; exact kp.up (Or.inr ⟨j, hj12, rfl⟩)
        obtain ⟨ho4, R4, hls4, hR4⟩ := std h4 (k3.tr k4)
        have hrw4 : h4 (rw j) = some (aInts .int 5 (upd fj k (i3 cc))) := by rw [hh4]; exact aUp_eq
        have hlo4 : h4 lo = some (aInts .int 25 L3) := by rw [hh4, aUp_ne hrl]; exact hlo3
        refine vR_mk ho4 rfl (vR_mk ho4 rfl (vAR_mk hls4 rfl hj12 (by decide) (hR4 j hj12) (vA_mk hrw4 rfl (by omega : k < 5) (by decide) ?_)))
        rw [upd_same]
        refine vA_mk hlo4 rfl (by omega : cc < 25) (by decide) (vSt_mk hlo4 rfl (by omega : cc < 25) (by decide) ?_)
        rw [hL3 cc hc, i3_one (by omega), i3_or, i3_succ]
        refine ihk _ (upd L3 cc (i3 (setB (lnB p.n j k cc) 12 ||| 1 <<< j))) ((k3.tr k4).tr (kp.up (Or.inl rfl))) aUp_eq (fun c hc2 => ?_) (fun i hi => ?_)
        · have hb2 : setB (lnB p.n j (k + 1) c) 12 = if c = cc then setB (lnB p.n j k cc) 12 ||| 1 <<< j else setB (lnB p.n j k c) 12 := by
            apply Nat.eq_of_testBit_eq
            intro i
            rw [setB_bit, lnB_step, ← hcc]
            by_cases q : c = cc
            · subst q
              rw [if_pos rfl, Nat.testBit_or, setB_bit, tbs]
              by_cases q2 : i = j
              · subst q2; rw [decide_eq_true hj12]; simp
              · simp [q2]
            · rw [if_neg q, setB_bit]
              have : (cc == c) = false := by simpa using (fun e => q e.symm)
              rw [this, Bool.and_false, Bool.or_false]
          rw [hb2]
          by_cases q : c = cc
          · rw [q, upd_same, if_pos rfl]
          · rw [upd_ne q, if_neg q]; exact hL3 c hc2
        · by_cases q : i = j
          · subst q
            refine ⟨upd fj k (i3 cc), by rw [aUp_ne (Ne.symm hrl)]; exact hrw4, fun z => absurd z (Nat.lt_irrefl _), fun _ x hx => ?_⟩
            by_cases q2 : x = k
            · rw [q2, upd_same, hcc]
            · rw [upd_ne q2]; exact y3 rfl x (by omega)
          · obtain ⟨f, z1, z2, z3⟩ := hr3 i hi
            have hne : rw i ≠ rw j := fun e => q (w11 i j hi hj12 e)
            exact ⟨f, by rw [aUp_ne (Ne.symm (w10 i hi)), hh4, aUp_ne hne]; exact z1, z2, fun e => absurd e q⟩
  -- the arrangements
  have new : T_X3_prepare_40 l G 14 243 24611 (aPR (prpR I h a F p)) a 0 h 0 0 := by
    refine A_X3_prepare_40 hl ⟨fun _ => ⟨by decide, by decide, fun ar har _ => ?_⟩, fun q => absurd rfl q⟩
    have ho := hW.2.2.2.1
    have hane : a ≠ ar := fun z => by rw [z, har] at ho; cases ho
    have ho1 : (aUp h ar (aObj 4 [.null, .int 0, .int 0])) a = some (aObj 3 [.ref tl, .ref ls, .ref lo, va_rf aro, .int (i3 p.n), .int (i3 p.m), .int (i3 sec), .int (bI p.dg)]) := by rw [aUp_ne hane]; exact ho
    refine vI_mk ho1 rfl (vI_mk ho1 rfl ?_)
    refine vC_r (B_init4 hl hok har) (by decide) (by decide) (by decide) fun v h1 hR => ?_
    obtain ⟨hv, li, ln, g, hM⟩ := hR
    obtain ⟨I', i1, i2, i3', hA⟩ := hM.arr hok hI0
    have k1 : kp (fun _ => False) h h1 := hM.1
    have hFn : ∀ q ∈ F, ¬ I' q := by
      intro q hq z
      rcases i2 q z with w | w
      · exact hW.2.2.1 q hq w
      · have hme := hW
        obtain ⟨eF, _, _, y1, y2, ⟨R, y3, _⟩, y4, ⟨L, y5⟩, _⟩ := hW
        rw [eF] at hq
        simp only [List.mem_cons, List.mem_map, List.mem_range] at hq
        rcases hq with rfl | rfl | rfl | rfl | ⟨i, hi, rfl⟩
        · rw [y1] at w; cases w
        · rw [y2] at w; cases w
        · rw [y3] at w; cases w
        · rw [y5] at w; cases w
        · obtain ⟨f, y⟩ := y4 i hi; rw [y] at w; cases w
    have hW1 : PW I' h1 a F tl ls lo rw none T (i3 p.n) (i3 p.m) (i3 sec) (bI p.dg) → True := fun _ => trivial
    have ho2 := k1 _ _ ho id
    refine ⟨hv, vPut_mk ho2 (by show 3 < 8; decide) ?_⟩
    have hWn : PW I' h1 a F tl ls lo rw (some ar) T (i3 p.n) (i3 p.m) (i3 sec) (bI p.dg) ∨ True := Or.inr trivial
    obtain ⟨eF, hN, _, _, y2, ⟨R, y3, y3b⟩, y4, ⟨L, y5⟩, _⟩ := hW
    have hW0 : PW I' h1 a F tl ls lo rw none T (i3 p.n) (i3 p.m) (i3 sec) (bI p.dg) ∨ True := Or.inr trivial
    have hW2 : PW I' (aUp h1 a (aObj 3 [.ref tl, .ref ls, .ref lo, .ref ar, .int (i3 p.n), .int (i3 p.m), .int (i3 sec), .int (bI p.dg)])) a F tl ls lo rw (some ar) T (i3 p.n) (i3 p.m) (i3 sec) (bI p.dg) := by
      have base : PW I' (aUp h1 a (aObj 3 [.ref tl, .ref ls, .ref lo, va_rf none, .int (i3 p.n), .int (i3 p.m), .int (i3 sec), .int (bI p.dg)])) a F tl ls lo rw none T (i3 p.n) (i3 p.m) (i3 sec) (bI p.dg) := by
        have nt : tl ≠ a := fun z => by have := k1 _ _ y2 id; rw [z, ho2] at this; cases this
        have nl : ls ≠ a := fun z => by have := k1 _ _ y3 id; rw [z, ho2] at this; cases this
        have nlo : lo ≠ a := fun z => by have := k1 _ _ y5 id; rw [z, ho2] at this; cases this
        refine ⟨eF, hN, hFn, aUp_eq, by rw [aUp_ne nt]; exact k1 _ _ y2 id, ⟨R, by rw [aUp_ne nl]; exact k1 _ _ y3 id, y3b⟩, fun i hi => ?_, ⟨L, by rw [aUp_ne nlo]; exact k1 _ _ y5 id⟩, fun ar' he => by cases he⟩
        obtain ⟨f, y⟩ := y4 i hi
        have nr : rw i ≠ a := fun z => by have := k1 _ _ y id; rw [z, ho2] at this; cases this
        exact ⟨f, by rw [aUp_ne nr]; exact k1 _ _ y id⟩
      have hAx : ARR I' (aUp h1 a (aObj 3 [.ref tl, .ref ls, .ref lo, va_rf none, .int (i3 p.n), .int (i3 p.m), .int (i3 sec), .int (bI p.dg)])) ar p.n p.m := hA.kp (S := (· = a)) (kp.up rfl) (fun q hq e => hFn a base.mem.1 (by rw [← e]; exact hq)) (fun _ h => h)
      have := base.obj (aro' := some ar) (y4 := i3 p.n) (y5 := i3 p.m) (y6 := i3 sec) (y7 := bI p.dg) (fun ar' he => by cases he; exact ⟨_, _, hok, hAx⟩)
      have e : aUp (aUp h1 a (aObj 3 [.ref tl, .ref ls, .ref lo, va_rf none, .int (i3 p.n), .int (i3 p.m), .int (i3 sec), .int (bI p.dg)])) a (aObj 3 [.ref tl, .ref ls, .ref lo, va_rf (some ar), .int (i3 p.n), .int (i3 p.m), .int (i3 sec), .int (bI p.dg)]) = aUp h1 a (aObj 3 [.ref tl, .ref ls, .ref lo, .ref ar, .int (i3 p.n), .int (i3 p.m), .int (i3 sec), .int (bI p.dg)]) := by
        funext q
        unfold aUp
        split <;> rfl
      rw [e] at this
      exact this
    refine lay I' _ ar _ _ (by decide) (by decide) ⟨i1, i2⟩ (fun q hq => ?_) ((k1.mono fun _ => False.elim).tr (kp.up (hW2.mem.1))) hW2 (hA.kp (S := (· = a)) (kp.up rfl) (fun q hq e => hFn a hW2.mem.1 (by rw [← e]; exact hq)) (fun _ h => h))
    by_cases z : q = a
    · rw [z, aUp_eq]; simp
    · rw [aUp_ne z]; exact i3' q hq
  refine A_X3_prepare hl (vO_mk (x := aro) hW.2.2.2.1 rfl ⟨fun _ => new, fun ar har => ?_⟩)
  subst har
  have ho := hW.2.2.2.1
  obtain ⟨n', m', hok', hA'⟩ := hW.2.2.2.2.2.2.2.2 ar rfl
  have hA0 := hA'
  obtain ⟨li, e, cap, fl, hao, -⟩ := hA'
  have hn' := hok'.n45
  have hm' := hok'.m24
  refine vO_mk (x := some ar) ho rfl ⟨ar, rfl, vI_mk hao rfl (vI_mk ho rfl ⟨fun _ => new, fun q => vO_mk (x := some ar) ho rfl ⟨ar, rfl, vI_mk hao rfl (vI_mk ho rfl ?_)⟩⟩)⟩
  rw [i3_eq (by omega) (by omega)] at q
  by_cases q2 : m' = p.m
  · rw [if_pos (by rw [q2])]
    refine A_X3_prepare_40 hl ⟨fun z => absurd z (by decide), fun _ => vO_mk (x := some ar) ho rfl (vPut_mk ho (by show 3 < 8; decide) ?_)⟩
    rw [q, q2] at hA0
    have hIa : ∀ q, I q → ¬ q = a := fun q hq e => hW.2.2.1 a hW.mem.1 (by rw [← e]; exact hq)
    have hW2 := hW.obj (aro' := some ar) (y4 := i3 p.n) (y5 := i3 p.m) (y6 := i3 sec) (y7 := bI p.dg) (fun ar' he => by cases he; exact ⟨_, _, hok, hA0⟩)
    refine lay I _ ar 0 0 (by decide) (by decide) extI.rf (fun q hq => ?_) (kp.up hW.mem.1) hW2 (hA0.kp (S := (· = a)) (kp.up rfl) hIa (fun _ h => h))
    by_cases z : q = a
    · rw [z, aUp_eq]; simp
    · rw [aUp_ne z]; exact hI0 q hq
  · rw [if_neg (by rw [i3_eq (by omega) (by omega)]; exact q2)]
    exact new
end PZW
