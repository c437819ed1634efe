/-! the component's heap seen: what may change, the arrangements (which nobody changes), a puzzle, a board
-/
set_option maxRecDepth 100000
/-- all is as it was but for some addresses, and new ones -/
def kp (S : Nat → Prop) (h h' : aH) : Prop := ∀ q e, h q = some e → ¬ S q → h' q = some e
theorem kp.rf {S : Nat → Prop} {h : aH} : kp S h h := fun _ _ e _ => e
theorem kp.tr {S : Nat → Prop} {h h1 h2 : aH} (a : kp S h h1) (b : kp S h1 h2) : kp S h h2 := fun q e he hs => b q e (a q e he hs) hs
theorem kp.mono {S S' : Nat → Prop} {h h' : aH} (a : kp S h h') (hs : ∀ q, S q → S' q) : kp S' h h' := fun q e he hn => a q e he fun z => hn (hs q z)
theorem aUp_eq {h : aH} {a : Nat} {e : aE} : aUp h a e a = some e := if_pos rfl
theorem aUp_ne {h : aH} {a q : Nat} {e : aE} (hn : q ≠ a) : aUp h a e q = h q := if_neg hn
theorem kp.up {S : Nat → Prop} {h : aH} {a : Nat} {e : aE} (hs : S a) : kp S h (aUp h a e) := fun q x he hn => by
  rw [aUp_ne]
  · exact he
  · intro z; subst z; exact hn hs
theorem kp.new {S : Nat → Prop} {h : aH} {a : Nat} {e : aE} (hs : h a = none) : kp S h (aUp h a e) := fun q x he _ => by
  rw [aUp_ne]
  · exact he
  · intro z; subst z; rw [hs] at he; cases he
section MK
variable {h : aH}
theorem vA_mk {ty : FieldType} {a k n : Nat} {i : Int32} {K : Int32 → Prop} {f : Nat → Int32} (he : h a = some (aInts ty n f)) (hi : i = i3 k) (hk : k < n) (hn : n < 2147483648) (kk : K (f k)) : vA ty h a i K := by
  subst hi
  exact ⟨n, f, he, i3_in (by omega) hk, by rw [i3_nat (by omega)]; exact kk⟩
theorem vAR_mk {ty : FieldType} {a k n b : Nat} {i : Int32} {K : Nat → Prop} {f : Nat → Option Nat} (he : h a = some (aRefs ty n f)) (hi : i = i3 k) (hk : k < n) (hn : n < 2147483648) (hb : f k = some b) (kk : K b) : vAR ty h a i K := by
  subst hi
  exact ⟨n, f, b, he, i3_in (by omega) hk, by rw [i3_nat (by omega)]; exact hb, kk⟩
theorem vSt_mk {ty : FieldType} {a k n : Nat} {i x : Int32} {K : aH → Prop} {f : Nat → Int32} (he : h a = some (aInts ty n f)) (hi : i = i3 k) (hk : k < n) (hn : n < 2147483648) (kk : K (aUp h a (aInts ty n (upd f k x)))) : vSt ty h a i x K := by
  subst hi
  exact ⟨n, f, he, i3_in (by omega) hk, by rw [i3_nat (by omega)]; exact kk⟩
end MK
/-- a row of an arrangement
-/
def rowA (h : aH) (a : Nat) (n : Nat) (row : List Nat) : Prop := ∃ f : Nat → Int32, h a = some (aInts .int n f) ∧ ∀ k, k < n → f k = i3 (row.getD k 0)
/-- the list's object, its array, what lies at the places -/
def AL (h : aH) (a e cap : Nat) (f : Nat → Option Nat) (n : Nat) : Prop := (∃ mo : Int32, h a = some (aObj 9 [.int mo, .ref e, .int (i3 n)])) ∧ h e = some (aRefs (.object "java/lang/Object") cap f) ∧ n ≤ cap ∧ n < 1000000
/-- the arrangements of a side with some letters: an object, its list, the rows; all of it stays as it is -/
def ARR (I : Nat → Prop) (h : aH) (a n m : Nat) : Prop := ∃ (li e cap : Nat) (f : Nat → Option Nat), h a = some (aObj 4 [.ref li, .int (i3 n), .int (i3 m)]) ∧ AL h li e cap f (arrs n m).length ∧
  (∀ k, k < (arrs n m).length → ∃ b, f k = some b ∧ rowA h b n ((arrs n m).getD k []) ∧ I b) ∧ I a ∧ I li ∧ I e
theorem ARR.kp {I I' S : Nat → Prop} {h h' : aH} {a n m : Nat} (hA : ARR I h a n m) (hk : kp S h h') (hd : ∀ q, I q → ¬ S q) (hI : ∀ q, I q → I' q) : ARR I' h' a n m := by
  obtain ⟨li, e, cap, f, ho, ⟨⟨mo, hl⟩, he, h1, h2⟩, hr, i1, i2, i3'⟩ := hA
  refine ⟨li, e, cap, f, hk _ _ ho (hd _ i1), ⟨⟨mo, hk _ _ hl (hd _ i2)⟩, hk _ _ he (hd _ i3'), h1, h2⟩, fun k hk2 => ?_, hI _ i1, hI _ i2, hI _ i3'⟩
  obtain ⟨b, hb, ⟨g, hg, hg2⟩, ib⟩ := hr k hk2
  exact ⟨b, hb, ⟨g, hk _ _ hg (hd _ ib), hg2⟩, hI _ ib⟩
/-- a puzzle: its object, tellings, lines, lines of cells, arrangements; F: the cells that are its own -/
def PZ (I : Nat → Prop) (h : aH) (a : Nat) (F : List Nat) (p : Pz) : Prop := ∃ (tl ls lo ar : Nat) (rw : Nat → Nat) (T L : Nat → Int32) (R : Nat → Option Nat) (sec : Nat), okNM p.n p.m ∧ (∀ e, e < 20 → p.tl e ≤ 2 * p.m) ∧
  F = a :: tl :: ls :: lo :: (List.range 12).map rw ∧ F.Nodup ∧ (∀ q ∈ F, ¬ I q) ∧
  h a = some (aObj 3 [.ref tl, .ref ls, .ref lo, .ref ar, .int (i3 p.n), .int (i3 p.m), .int (i3 sec), .int (bI p.dg)]) ∧
  h tl = some (aInts .int 20 T) ∧ (∀ e, e < 20 → T e = letV (p.tl e)) ∧ (sec < 2 ^ 20 ∧ ∀ e, e < 20 → sec.testBit e = (p.tl e != 0 && p.tl e % 2 == 0)) ∧
  h ls = some (aRefs (.array .int) 12 R) ∧ (∀ l, l < 12 → R l = some (rw l) ∧ ∃ f : Nat → Int32, h (rw l) = some (aInts .int 5 f) ∧ (l < p.nL → ∀ k, k < p.n → f k = i3 (cellN p.n l k))) ∧
  h lo = some (aInts .int 25 L) ∧ (∀ c, c < p.n * p.n → L c = i3 (linesN p c)) ∧ ARR I h ar p.n p.m
theorem PZ.kp {I I' S : Nat → Prop} {h h' : aH} {a : Nat} {F : List Nat} {p : Pz} (hP : PZ I h a F p) (hk : kp S h h') (hF : ∀ q ∈ F, ¬ S q) (hd : ∀ q, I q → ¬ S q) (hI : ∀ q, I q → I' q) (hI2 : ∀ q ∈ F, ¬ I' q) : PZ I' h' a F p := by
  obtain ⟨tl, ls, lo, ar, rw, T, L, R, sec, hok, hb, eF, hN, hn, ho, ht, ht2, hs, hl, hr, hlo, hlo2, hA⟩ := hP
  have m1 : ¬ S a := hF a (by rw [eF]; simp)
  have m2 : ¬ S tl := hF tl (by rw [eF]; simp)
  have m3 : ¬ S ls := hF ls (by rw [eF]; simp)
  have m4 : ¬ S lo := hF lo (by rw [eF]; simp)
  have m5 : ∀ l, l < 12 → ¬ S (rw l) := fun l hl => hF _ (by rw [eF]; simp only [List.mem_cons, List.mem_map, List.mem_range]; exact Or.inr (Or.inr (Or.inr (Or.inr ⟨l, hl, rfl⟩))))
  refine ⟨tl, ls, lo, ar, rw, T, L, R, sec, hok, hb, eF, hN, hI2, hk _ _ ho m1, hk _ _ ht m2, ht2, hs, hk _ _ hl m3, fun l hl => ?_, hk _ _ hlo m4, hlo2, hA.kp hk hd hI⟩
  obtain ⟨r1, f, r2, r3⟩ := hr l hl
  exact ⟨r1, f, hk _ _ r2 (m5 l hl), r3⟩
theorem PZ.ok {I : Nat → Prop} {h : aH} {a : Nat} {F : List Nat} {p : Pz} (hP : PZ I h a F p) : okNM p.n p.m := by
  obtain ⟨tl, ls, lo, ar, rw, T, L, R, sec, hok, -⟩ := hP
  exact hok
/-- a board over a puzzle: what its cells can be -/
def BD (I : Nat → Prop) (h : aH) (b a th : Nat) (F : List Nat) (p : Pz) (u : Nat → Nat) : Prop := PZ I h a F p ∧ ∃ (rb : Nat) (f : Nat → Int32), h b = some (aObj 5 [.ref a, .ref th, .ref rb]) ∧ h th = some (aInts .int 25 f) ∧ (∀ c, c < p.n * p.n → f c = i3 (u c) ∧ u c < 2 ^ (p.m + 1)) ∧ b ∉ F ∧ th ∉ F ∧ ¬ I b ∧ ¬ I th
theorem BD.set {I : Nat → Prop} {h h' : aH} {b a th : Nat} {F : List Nat} {p : Pz} {u u' : Nat → Nat} {f : Nat → Int32} (hB : BD I h b a th F p u) (hk : kp (· = th) h h') (he : h' th = some (aInts .int 25 f)) (hf : ∀ c, c < p.n * p.n → f c = i3 (u' c) ∧ u' c < 2 ^ (p.m + 1)) : BD I h' b a th F p u' := by
  obtain ⟨hP, rb, g, hb, ht, hg, n1, n2, n3, n4⟩ := hB
  have hPn : ∀ q ∈ F, ¬ I q := by
    obtain ⟨tl, ls, lo, ar, rw, T, L, R, sec, _, _, _, _, hn, _⟩ := hP
    exact hn
  refine ⟨hP.kp hk (fun q hq e => n2 (by rw [← e]; exact hq)) (fun q hq e => n4 (by rw [← e]; exact hq)) (fun _ h => h) hPn, rb, f, hk _ _ hb ?_, he, hf, n1, n2, n3, n4⟩
  intro e
  rw [e, ht] at hb
  cases hb
/-- another board over the same puzzle -/
theorem BD.oth {I : Nat → Prop} {h h' : aH} {b a th th2 : Nat} {F : List Nat} {p : Pz} {u : Nat → Nat} (hB : BD I h b a th F p u) (hk : kp (· = th2) h h') (hne : th ≠ th2) (hb : b ≠ th2) (hF : th2 ∉ F) (hI : ¬ I th2) : BD I h' b a th F p u := by
  obtain ⟨hP, rb, g, hb2, ht, hg, n1, n2, n3, n4⟩ := hB
  have hPn : ∀ q ∈ F, ¬ I q := by
    obtain ⟨tl, ls, lo, ar, rw, T, L, R, sec, _, _, _, _, hn, _⟩ := hP
    exact hn
  exact ⟨hP.kp hk (fun q hq e => hF (by rw [← e]; exact hq)) (fun q hq e => hI (by rw [← e]; exact hq)) (fun _ h => h) hPn, rb, g, hk _ _ hb2 hb, hk _ _ ht hne, hg, n1, n2, n3, n4⟩
