/-! VC: the words of the verification conditions that gen2.py prints (what a method asks of the heap, with a continuation) -/
set_option maxRecDepth 100000
abbrev wsN (M : aM) : List Cond := ws_ M.1 M.2.1 M.2.2.1 M.2.2.2.1
abbrev wsX (M : aM) : List Cond := wsW_ M.1 M.2.1 M.2.2.1 M.2.2.2.1 M.2.2.2.2
/-- bool as an int -/
def bI (b : Bool) : Int32 := if b then 1 else 0
def vI (h : aH) (a ci k : Nat) (K : Int32 → Prop) : Prop := ∃ (fs : List Value) (x : Int32), h a = some (.inr (ci, fs)) ∧ fs[k]? = some (.int x) ∧ K x
def vR (h : aH) (a ci k : Nat) (K : Nat → Prop) : Prop := ∃ (fs : List Value) (x : Nat), h a = some (.inr (ci, fs)) ∧ fs[k]? = some (.ref x) ∧ K x
def vO (h : aH) (a ci k : Nat) (K : Option Nat → Prop) : Prop := ∃ (fs : List Value) (x : Option Nat), h a = some (.inr (ci, fs)) ∧ fs[k]? = some (va_rf x) ∧ K x
def vPut (h : aH) (a ci k : Nat) (v : Value) (K : aH → Prop) : Prop := ∃ fs : List Value, h a = some (.inr (ci, fs)) ∧ k < fs.length ∧ K (aUp h a (.inr (ci, fs.set k v)))
def vA (ty : FieldType) (h : aH) (a : Nat) (i : Int32) (K : Int32 → Prop) : Prop := ∃ (n : Nat) (f : Nat → Int32), h a = some (aInts ty n f) ∧ vp_in i n ∧ K (f i.toNatClampNeg)
def vAL (h : aH) (a : Nat) (i : Int32) (K : Int64 → Prop) : Prop := ∃ (n : Nat) (f : Nat → Int64), h a = some (aLongs n f) ∧ vp_in i n ∧ K (f i.toNatClampNeg)
def vAR (ty : FieldType) (h : aH) (a : Nat) (i : Int32) (K : Nat → Prop) : Prop := ∃ (n : Nat) (f : Nat → Option Nat) (x : Nat), h a = some (aRefs ty n f) ∧ vp_in i n ∧ f i.toNatClampNeg = some x ∧ K x
def vAO (ty : FieldType) (h : aH) (a : Nat) (i : Int32) (K : Option Nat → Prop) : Prop := ∃ (n : Nat) (f : Nat → Option Nat), h a = some (aRefs ty n f) ∧ vp_in i n ∧ K (f i.toNatClampNeg)
def vSt (ty : FieldType) (h : aH) (a : Nat) (i x : Int32) (K : aH → Prop) : Prop := ∃ (n : Nat) (f : Nat → Int32), h a = some (aInts ty n f) ∧ vp_in i n ∧ K (aUp h a (aInts ty n (upd f i.toNatClampNeg x)))
def vStL (h : aH) (a : Nat) (i : Int32) (x : Int64) (K : aH → Prop) : Prop := ∃ (n : Nat) (f : Nat → Int64), h a = some (aLongs n f) ∧ vp_in i n ∧ K (aUp h a (aLongs n (vp_updL f i.toNatClampNeg x)))
/-- a thing into an array of things (of the class Object, or of desks) -/
def vStO (h : aH) (a : Nat) (i : Int32) (v : Nat) (K : aH → Prop) : Prop := ∃ (n : Nat) (f : Nat → Option Nat), h a = some (aRefs (.object "java/lang/Object") n f) ∧ vp_in i n ∧ aOb h v ∧ K (aUp h a (aRefs (.object "java/lang/Object") n (va_up f i.toNatClampNeg (some v))))
def vStD (h : aH) (a : Nat) (i : Int32) (v : Nat) (K : aH → Prop) : Prop := ∃ (n : Nat) (f : Nat → Option Nat) (fs : List Value), h a = some (aRefs (.object "EdgeLetters$Desk") n f) ∧ vp_in i n ∧ h v = some (.inr (2, fs)) ∧ K (aUp h a (aRefs (.object "EdgeLetters$Desk") n (va_up f i.toNatClampNeg (some v))))
def vStN (h : aH) (a : Nat) (i : Int32) (K : aH → Prop) : Prop := ∃ (n : Nat) (f : Nat → Option Nat), h a = some (aRefs (.object "java/lang/Object") n f) ∧ vp_in i n ∧ K (aUp h a (aRefs (.object "java/lang/Object") n (va_up f i.toNatClampNeg none)))
def vLen (h : aH) (a : Nat) (K : Int32 → Prop) : Prop := ∃ (x : FieldType × vp_A) (j : Nat), h a = some (.inl x) ∧ aTy[j]? = some x.1 ∧ K (Int32.ofNat x.2.1)
/-- the length of an array of Objects, which may be the static empty one -/
def vLenO (G : aG) (h : aH) (a : Nat) (K : Int32 → Prop) : Prop := (a = G.2.1.1 ∧ K 0) ∨ vLen h a K
def vNew (h : aH) (ci N : Nat) (fs : List Value) (mc ms c s : Nat) (K : Nat → aH → Nat → Nat → Prop) : Prop := c + 1 ≤ mc ∧ s + N ≤ ms ∧ ∀ q : Nat, h q = none → K q (aUp h q (.inr (ci, fs))) (c + 1) (s + N)
def vNewA (ty : FieldType) (h : aH) (n : Int32) (mc ms c s : Nat) (K : Nat → aH → Nat → Nat → Prop) : Prop := ∃ N : Nat, ¬ n < 0 ∧ n.toNatClampNeg = N ∧ N * 8 ≤ 536870912 ∧ c + 1 ≤ mc ∧ s + N ≤ ms ∧ ∀ q : Nat, h q = none → K q (aUp h q (aInts ty N (fun _ => 0))) (c + 1) (s + N)
def vNewL (h : aH) (n : Int32) (mc ms c s : Nat) (K : Nat → aH → Nat → Nat → Prop) : Prop := ∃ N : Nat, ¬ n < 0 ∧ n.toNatClampNeg = N ∧ N * 8 ≤ 536870912 ∧ c + 1 ≤ mc ∧ s + N ≤ ms ∧ ∀ q : Nat, h q = none → K q (aUp h q (aLongs N (fun _ => 0))) (c + 1) (s + N)
def vNewR (Cn : String) (h : aH) (n : Int32) (mc ms c s : Nat) (K : Nat → aH → Nat → Nat → Prop) : Prop := ∃ N : Nat, ¬ n < 0 ∧ n.toNatClampNeg = N ∧ N * 4 ≤ 536870912 ∧ c + 1 ≤ mc ∧ s + N ≤ ms ∧ ∀ q : Nat, h q = none → K q (aUp h q (aRefs (.object Cn) N (fun _ => none))) (c + 1) (s + N)
def vMul (h : aH) (n k : Int32) (mc ms c s : Nat) (K : Nat → aH → Nat → Nat → Prop) : Prop := ∃ N M : Nat, ¬ n < 0 ∧ ¬ k < 0 ∧ n.toNatClampNeg = N ∧ k.toNatClampNeg = M ∧ N * 4 ≤ 536870912 ∧ M * 4 ≤ 536870912 ∧ c + (1 + N) ≤ mc ∧ s + (N + N * M) ≤ ms ∧ ∀ q : Nat, (∀ j, q ≤ j → h j = none) → K q (aGrid h q N M) (c + 1 + N) (s + N + N * M)
def vCpyI (ty : FieldType) (h : aH) (a0 : Nat) (sp : Int32) (a : Nat) (dp n : Int32) (K : aH → Prop) : Prop := ∃ (n0 n1 : Nat) (f g : Nat → Int32), h a0 = some (aInts ty n0 f) ∧ h a = some (aInts ty n1 g) ∧ ¬ sp < 0 ∧ ¬ dp < 0 ∧ ¬ n < 0 ∧ sp.toNatClampNeg + n.toNatClampNeg ≤ n0 ∧ dp.toNatClampNeg + n.toNatClampNeg ≤ n1 ∧ (∀ i, i < n.toNatClampNeg → Jvm.fits ty (.int (f (sp.toNatClampNeg + i))) = true) ∧ K (aUp h a (aInts ty n1 (va_cpy f g sp.toNatClampNeg dp.toNatClampNeg n.toNatClampNeg)))
def vCpyR (h : aH) (a0 : Nat) (sp : Int32) (a : Nat) (dp n : Int32) (K : aH → Prop) : Prop := ∃ (n0 n1 : Nat) (f g : Nat → Option Nat), h a0 = some (aRefs (.object "java/lang/Object") n0 f) ∧ h a = some (aRefs (.object "java/lang/Object") n1 g) ∧ ¬ sp < 0 ∧ ¬ dp < 0 ∧ ¬ n < 0 ∧ sp.toNatClampNeg + n.toNatClampNeg ≤ n0 ∧ dp.toNatClampNeg + n.toNatClampNeg ≤ n1 ∧ (∀ i : Nat, i < n.toNatClampNeg → ∀ y : Nat, f (sp.toNatClampNeg + i) = some y → aOb h y) ∧ K (aUp h a (aRefs (.object "java/lang/Object") n1 (va_cpy f g sp.toNatClampNeg dp.toNatClampNeg n.toNatClampNeg)))
def vCastI (h : aH) (a : Nat) (K : Prop) : Prop := (∃ (n : Nat) (f : Nat → Int32), h a = some (aInts .int n f)) ∧ K
def vCastO (h : aH) (a ci : Nat) (K : Prop) : Prop := (∃ fs : List Value, h a = some (.inr (ci, fs))) ∧ K
/-- a thing of a class lies there -/
def vIs (h : aH) (a ci : Nat) (K : Prop) : Prop := (∃ fs : List Value, h a = some (.inr (ci, fs))) ∧ K
def vC (l : Launch) (G : aG) (M2 : aM) (ws : List Cond) (d mc ms : Nat) (as : List Value) (h : aH) (c s : Nat) (X : String → aH → Nat → Nat → Prop) (K : Option Value → aH → Nat → Nat → Prop) : Prop :=
  ∃ (d2 mc2 ms2 : Nat) (Q : aR → aH → Prop), aC l G M2 ws d2 mc2 ms2 as h Q ∧ d2 + 1 ≤ d ∧ c + mc2 ≤ mc ∧ s + ms2 ≤ ms ∧ (∀ v h', Q (.inl v) h' → K v h' (c + mc2) (s + ms2)) ∧ (∀ E h', Q (.inr E) h' → X E h' (c + mc2) (s + ms2))
def kI (K : Int32 → aH → Nat → Nat → Prop) : Option Value → aH → Nat → Nat → Prop := fun v h c s => ∃ x : Int32, v = some (.int x) ∧ K x h c s
def kL (K : Int64 → aH → Nat → Nat → Prop) : Option Value → aH → Nat → Nat → Prop := fun v h c s => ∃ x : Int64, v = some (.long x) ∧ K x h c s
def kD (K : UInt64 → aH → Nat → Nat → Prop) : Option Value → aH → Nat → Nat → Prop := fun v h c s => ∃ x : UInt64, v = some (.double x) ∧ K x h c s
def kR (K : Nat → aH → Nat → Nat → Prop) : Option Value → aH → Nat → Nat → Prop := fun v h c s => ∃ x : Nat, v = some (.ref x) ∧ K x h c s
def kO (K : Option Nat → aH → Nat → Nat → Prop) : Option Value → aH → Nat → Nat → Prop := fun v h c s => ∃ x : Option Nat, v = some (va_rf x) ∧ K x h c s
def kV (K : aH → Nat → Nat → Prop) : Option Value → aH → Nat → Nat → Prop := fun v h c s => v = none ∧ K h c s
/-- no handler: a thing thrown is the method's own end -/
def xP (P : aR → aH → Prop) : String → aH → Nat → Nat → Prop := fun E h _ _ => P (.inr E) h
def xF : String → aH → Nat → Nat → Prop := fun _ _ _ _ => False
/-! ways in -/
section VC
variable {h : aH}
theorem vI_mk {a ci k : Nat} {K : Int32 → Prop} {fs : List Value} {x : Int32} (he : h a = some (.inr (ci, fs))) (hx : fs[k]? = some (.int x)) (kk : K x) : vI h a ci k K := ⟨fs, x, he, hx, kk⟩
theorem vR_mk {a ci k : Nat} {K : Nat → Prop} {fs : List Value} {x : Nat} (he : h a = some (.inr (ci, fs))) (hx : fs[k]? = some (.ref x)) (kk : K x) : vR h a ci k K := ⟨fs, x, he, hx, kk⟩
theorem vO_mk {a ci k : Nat} {K : Option Nat → Prop} {fs : List Value} {x : Option Nat} (he : h a = some (.inr (ci, fs))) (hx : fs[k]? = some (va_rf x)) (kk : K x) : vO h a ci k K := ⟨fs, x, he, hx, kk⟩
theorem vPut_mk {a ci k : Nat} {v : Value} {K : aH → Prop} {fs : List Value} (he : h a = some (.inr (ci, fs))) (hk : k < fs.length) (kk : K (aUp h a (.inr (ci, fs.set k v)))) : vPut h a ci k v K := ⟨fs, he, hk, kk⟩
theorem vLen_mk {a : Nat} {K : Int32 → Prop} {ty : FieldType} {v : vp_A} (he : h a = some (.inl (ty, v))) (j : Nat) (hj : aTy[j]? = some ty) (kk : K (Int32.ofNat v.1)) : vLen h a K := ⟨(ty, v), j, he, hj, kk⟩
variable {l : Launch} {G : aG} {M2 : aM} {ws : List Cond} {d d2 mc mc2 ms ms2 c s : Nat} {as : List Value} {X : String → aH → Nat → Nat → Prop}
theorem vC_mk {K : Option Value → aH → Nat → Nat → Prop} {Q : aR → aH → Prop} (hC : aC l G M2 ws d2 mc2 ms2 as h Q) (hd : d2 + 1 ≤ d) (hc : c + mc2 ≤ mc) (hs : s + ms2 ≤ ms) (kk : ∀ v h', Q (.inl v) h' → K v h' (c + mc2) (s + ms2)) (kx : ∀ E h', Q (.inr E) h' → X E h' (c + mc2) (s + ms2)) : vC l G M2 ws d mc ms as h c s X K := ⟨d2, mc2, ms2, Q, hC, hd, hc, hs, kk, kx⟩
theorem vC_p {K : Option Value → aH → Nat → Nat → Prop} {v : Option Value} {h' : aH} (hC : aC l G M2 ws d2 mc2 ms2 as h (aP1 v h')) (hd : d2 + 1 ≤ d) (hc : c + mc2 ≤ mc) (hs : s + ms2 ≤ ms) (kk : K v h' (c + mc2) (s + ms2)) : vC l G M2 ws d mc ms as h c s X K :=
  ⟨d2, mc2, ms2, _, hC, hd, hc, hs, fun _ _ q => by have e1 := q.1; have e2 := q.2; cases e1; cases e2; exact kk, fun _ _ q => by have e1 := q.1; cases e1⟩
end VC
def vDn (y : UInt64) (K : Prop) : Prop := vf_n64 y ∧ K
theorem lk_out {ps : List (Int × Int)} {d k : Int} (hk : ∀ q ∈ ps, q.1 ≠ k) : Op.lookupswitch.offset ps d k = d := by
  induction ps with
  | nil => rfl
  | cons q r ih =>
    obtain ⟨a, o⟩ := q
    rw [Op.lookupswitch.offset_cons, if_neg (hk (a, o) List.mem_cons_self)]
    exact ih fun q hq => hk q (List.mem_cons_of_mem _ hq)
section AWV
variable {l : Launch} {G : aG} {M : aM} {d mc ms : Nat} {P : aR → aH → Prop} {pc : Nat} {lv : List (Nat × Value)} {rest : List Value} {h : aH} {c0 s0 : Nat}
theorem aw_ifT {c : Prop} {i : Decidable c} {x y : Int32} (hc : c) (k : AW l G M d mc ms P pc lv (.int (@ite Int32 c i x y) :: rest) h c0 s0) : AW l G M d mc ms P pc lv (.int x :: rest) h c0 s0 := by rw [if_pos hc] at k; exact k
theorem aw_ifF {c : Prop} {i : Decidable c} {x y : Int32} (hc : ¬ c) (k : AW l G M d mc ms P pc lv (.int (@ite Int32 c i x y) :: rest) h c0 s0) : AW l G M d mc ms P pc lv (.int y :: rest) h c0 s0 := by rw [if_neg hc] at k; exact k
theorem aw_ifTL {c : Prop} {i : Decidable c} {x y : Int64} (hc : c) (k : AW l G M d mc ms P pc lv (.long (@ite Int64 c i x y) :: rest) h c0 s0) : AW l G M d mc ms P pc lv (.long x :: rest) h c0 s0 := by rw [if_pos hc] at k; exact k
theorem aw_ifFL {c : Prop} {i : Decidable c} {x y : Int64} (hc : ¬ c) (k : AW l G M d mc ms P pc lv (.long (@ite Int64 c i x y) :: rest) h c0 s0) : AW l G M d mc ms P pc lv (.long y :: rest) h c0 s0 := by rw [if_neg hc] at k; exact k
theorem aw_astorer_n {q : Fin 4} {i : Nat} {x : Option Nat} {lv' : List (Nat × Value)} (hd : decode M.2.1 pc = .ok (.astore_n q, 1)) (hi : (q : Nat) = i) (hn : i < M.2.2.1) (he : (i, va_rf x) :: lv.filter (fun q => !(q.1 == i) && !(q.1 + 1 == i && q.2.category == 2)) = lv') (k : AW l G M d mc ms P (pc + 1) lv' rest h c0 s0) : AW l G M d mc ms P pc lv (va_rf x :: rest) h c0 s0 := by
  cases x with
  | none => exact aw_astoreN_n hd hi hn he k
  | some a => exact aw_astore_n hd hi hn he k
theorem aw_astorer {i : Nat} {x : Option Nat} {lv' : List (Nat × Value)} (hd : decode M.2.1 pc = .ok (.astore i, 2)) (hn : i < M.2.2.1) (he : (i, va_rf x) :: lv.filter (fun q => !(q.1 == i) && !(q.1 + 1 == i && q.2.category == 2)) = lv') (k : AW l G M d mc ms P (pc + 2) lv' rest h c0 s0) : AW l G M d mc ms P pc lv (va_rf x :: rest) h c0 s0 := by
  cases x with
  | none => exact aw_astoreN hd hn he k
  | some a => exact aw_astore hd hn he k
/-- thrown on out of a method, at a place that no row of its table covers -/
theorem aX_outH {E : String} (hp : P (.inr E) h) (hh : ∀ x ∈ tableOf M.2.2.2.2, covers x pc = false) (hc : c0 ≤ mc) (hs : s0 ≤ ms) : AX l G M d mc ms P pc lv h E c0 s0 := by
  intro p e R s m args below meth c A C H locs ls rest q ce hR hD hS hl hq hv hcl
  have C0 := C
  obtain ⟨hx, hb, hml, hret, hnm, hown, hts, hlk, hroom, hK, htab, hst, hA⟩ := C
  exact vx_out (fun x hx9 => hh x (htab ▸ hx9)) hlk hq hv hcl (fun t ht hal => ⟨⟨h, hp, by rw [ht]; exact hR, hD⟩, hS.F ht⟩) hS.2.2 hc hs
end AWV
theorem vx_ofWF {l : Launch} {y : MethodName} {ws ws' : List Cond} {rm : Room} {Pc : Array Value → State → Prop} {Qc : Array Value → State → Outcome → State → Prop} {XC : String → State → State → Prop} {mc ms : Nat} {free : Addr → Prop} {cc : ByteArray} {maxL : Nat} {ret : Option FieldType}
    (hy : plainFor y = true) (hw : ws = Cond.code y cc maxL ret :: ws')
    (body : ∀ p e s m args below meth c s₁, BodyLoose p l y (headSpec ws rm) cc maxL ret e s m args below meth c s₁ → c.maxLocals = maxL → (∀ x ∈ c.exceptionTable.toList, False) → Pc args s →
      W p l e (headSpec ws rm).room s m args below meth c s.heap [] 0 0 (vx_MQ below Qc XC args s mc ms free) (entryFrame m args maxL)) : vx_Met l y ws rm Pc Qc XC mc ms free := by
  refine MetFree.of_bodySF (code := cc) (maxLocals := maxL) (ret := ret) hy ?_ ?_
  · intro args s m h hn
    obtain ⟨meth, c, h1, h2, h3, h4, h5, h6, -, -⟩ := Cond.code_spec hn (atoms_spec (ws := ws) h _ (by rw [hw]; exact List.mem_cons_self))
    exact ⟨meth, c, h1, h2, h3, h4, h5, h6⟩
  · intro p e s m args below meth c s₁ B hml hP _
    have hh0 : s₁.heap = s.heap := by rw [B.state]; rfl
    have ht : ∀ x ∈ c.exceptionTable.toList, False := by
      obtain ⟨meth9, c9, h1, h2, -, -, -, -, h7, -⟩ := Cond.code_spec B.named (atoms_spec (ws := ws) B.pre _ (by rw [hw]; exact List.mem_cons_self))
      cases Option.some.inj (h1.symm.trans B.method)
      cases Option.some.inj (h2.symm.trans (Stand.of_body B).code)
      intro x hx
      rw [Array.isEmpty_iff.mp h7] at hx
      cases hx
    obtain ⟨t, a1, o, b1, b2, b3⟩ := body p e s m args below meth c s₁ B hml ht hP s₁ hh0 (Stand.of_body B)
    exact ⟨t, o, a1, b1, b2, b3⟩
section AWF
variable {l : Launch} {G : aG} {M : aM} {d mc ms : Nat} {P : aR → aH → Prop} {pc : Nat} {lv : List (Nat × Value)} {rest : List Value} {h : aH} {c0 s0 : Nat}
theorem aC_ofF {as : List Value} (hh : M.2.2.2.2 = []) (hy : plainFor M.1 = true) (hn : (lg_sl as).length ≤ M.2.2.1) (hl : l.stackTraces = false)
    (k : AW l G M d mc ms P 0 (lv_args 0 as) [] h 0 0) : aC l G M (ws_ M.1 M.2.1 M.2.2.1 M.2.2.2.1) d mc ms as h P := by
  intro sz
  refine vx_ofWF (cc := M.2.1) (maxL := M.2.2.1) (ret := M.2.2.2.1) hy rfl ?_
  intro p e s m args below meth c s₁ B hml htab hv
  obtain ⟨rfl, hsz, hR, hK⟩ := hv
  have hts := atoms_spec (ws := ws_ M.1 M.2.1 M.2.2.1 M.2.2.2.1) B.pre
  have hts : ∀ w ∈ lw_all, w.before _ s = true := fun w h => hts w (List.mem_cons_of_mem _ h)
  subst hsz
  have hl' := lv_entry as (n := M.2.2.1) hn
  rw [lg_entry_eq]
  have htab2 : c.exceptionTable.toList = tableOf M.2.2.2.2 := by
    rw [hh]
    cases hc : c.exceptionTable.toList with
    | nil => rfl
    | cons x y => exact absurd (htab x (by rw [hc]; exact List.mem_cons_self)) id
  exact k p e _ s m as.toArray below meth c (aOf h s.heap.size) ⟨B.exec, B.bytes, hml, B.returns, (name_of_methodNamed B.named B.method).1, findClass_of_methodNamed B.named, hts, B.notSynchronized, ⟨Nat.le_refl _, Nat.le_refl _, Nat.le_refl _, Nat.le_refl _⟩, hK, htab2, hl, fun q hq => Or.inr hq⟩ s.heap [] _ hR aDom.self va_S.rf hl'
theorem aw_alenO {a : Nat} {K : Int32 → Prop} (hv : vLenO G h a K) (hd : decode M.2.1 pc = .ok (.arraylength, 1)) (kk : ∀ y, K y → AW l G M d mc ms P (pc + 1) lv (.int y :: rest) h c0 s0) : AW l G M d mc ms P pc lv (.ref a :: rest) h c0 s0 := by
  rcases hv with ⟨rfl, hv⟩ | ⟨x, j, he, hj, hv⟩
  · exact aw_alenE hd (kk 0 hv)
  · exact aw_alen j hj he hd (kk _ hv)
end AWF
/-- a flag -/
def vB (v : Int32) : Prop := v = 0 ∨ v = 1
theorem vB.nar {v : Int32} (h : vB v) : narrow .boolean (.int v) = .int v := by rcases h with rfl | rfl <;> rfl
theorem vB.fit {v : Int32} (h : vB v) : Jvm.fits .boolean (.int v) = true := by rcases h with rfl | rfl <;> rfl
theorem vB_bI {b : Bool} : vB (bI b) := by
  cases b
  · exact Or.inl rfl
  · exact Or.inr rfl
theorem vB_if {c : Prop} {i : Decidable c} : vB (@ite Int32 c i 1 0) := by unfold vB; split <;> simp
theorem vB_if' {c : Prop} {i : Decidable c} : vB (@ite Int32 c i 0 1) := by unfold vB; split <;> simp
/-- a reference that is not null -/
def vSome (o : Option Nat) (K : Nat → Prop) : Prop := ∃ q, o = some q ∧ K q
section AWK
variable {l : Launch} {G : aG} {M : aM} {d mc ms : Nat} {P : aR → aH → Prop} {pc : Nat} {lv : List (Nat × Value)} {rest : List Value} {h : aH} {c0 s0 : Nat}
theorem aw_ldcw {index : Nat} {v : Int32} (hw : Cond.constant M.1.cls index v ∈ lw_all) (hd : decode M.2.1 pc = .ok (.ldc_w index, 3)) (k : AW l G M d mc ms P (pc + 3) lv (.int v :: rest) h c0 s0) : AW l G M d mc ms P pc lv rest h c0 s0 := by
  intro p e R s m args below meth c A C H locs ls hR hD hS hl
  intro T hT X
  obtain ⟨t, st, r⟩ := k p e R s m args below meth c A C H locs ls hR hD hS hl T hT X
  obtain ⟨k9, cf, bytes, hk, hcf, hcp, hb⟩ := Cond.constant_spec C.2.2.2.2.2.1 (C.2.2.2.2.2.2.1 _ hw)
  obtain ⟨k', hk', he⟩ := X.warmed.alike.2.2 _ _ hk
  have hexec := C.1
  have hdg : decode c.code (F0 m pc ls rest).pc = .ok (.ldc_w index, 3) := by rw [C.2.1]; exact hd
  refine ⟨t, ?_, r⟩
  jvm_step X.here [hexec, hdg, Op.ldc_w.sem, Op.ldc.wp_int (s := T) (f := F0 m pc ls rest) X.here.top hk' (by rw [he]; exact hcf) hcp, hb]
  exact st
end AWK
