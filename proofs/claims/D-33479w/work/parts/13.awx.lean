/-! AW's further rules (printed by awmore.py) -/
set_option maxRecDepth 100000
section AWX
variable {l : Launch} {G : aG} {M : aM} {d mc ms : Nat} {P : aR → aH → Prop} {pc : Nat} {lv : List (Nat × Value)} {st rest : List Value} {h : aH} {c0 s0 : Nat}
theorem aw_putF {ref Cn : String} {T : u_T} {ty0 : Nat → FieldType} {N ci index : Nat} {a : Nat} {fs : List Value} {v : Value} {h' : aH} (he : h a = some (.inr (ci, fs))) (hc : aCl[ci]? = some (Cn, T, N)) (hin : aIn Cn T N) (hty : ∀ k, k < N → parseFieldDescriptor (T k).2.2.1 = some (ty0 k)) (hne : ∀ a, a < N → ∀ b, b < N → a ≠ b → (T a).2.1 ≠ (T b).2.1) (k : Nat) (hk : k < N) (hw : Cond.fieldLink M.1.cls index ref (T k).2.1 (T k).2.2.1 ∈ lw_all) (hsm : ref = (T k).1 ∨ Cond.sameField ref (T k).1 (T k).2.1 (T k).2.2.1 ∈ lw_all) (hfin : (T k).2.2.2 = true) (hini : M.1.name = "<init>") (hdec : (T k).1 = M.1.cls) (hn : narrow (ty0 k) v = v) (hft : fits (ty0 k) v = true) (hlt : k < fs.length) (hu : aUp h a (.inr (ci, fs.set k v)) = h') (hd : decode M.2.1 pc = .ok (.putfield index, 3)) (kk : AW l G M d mc ms P (pc + 3) (lv) (rest) (h') (c0) (s0)) : AW l G M d mc ms P (pc) (lv) (v :: .ref a :: rest) (h) (c0) (s0) := by
  intro p e R s m args below meth c A C H locs ls hR hD hS hl
  have C0 := C
  obtain ⟨hx, hb, hml, hret, hnm, hown, hts, hlk, hroom, hK, htab, hst, hA⟩ := C
  subst hu
  have hap := va_apart (own := M.1.cls) hts hin ty0 hty hne hK.1 hc
  obtain ⟨r, h1, cell, q1, q2, q3, q4⟩ := hR a _ he
  have hr : r = (Cn, T, N) := Option.some.inj (h1.symm.trans hc)
  subst hr
  obtain ⟨hS9, hfc, kC, hkC, hkind⟩ := hK.1.1 ci _ hc
  obtain ⟨cf, kf, fi, f, hi, hsl⟩ := hS9 k hk
  have hlay := hts _ (hin _ (u_in_lay hk))
  unfold u_lay at hlay
  rw [if_pos hfin] at hlay
  have hst9 := (u_facts hfc hkC (u_lays hts hin hk) hi).1
  have hcf : m.cls = cf := by
    obtain ⟨_, _, c', _, _, _, -, -, hf', -, -, -, hown2, -⟩ := Cond.laysFinal_spec hlay
    have e1 : c' = cf := by have := hi.symm.trans hf'; simp at this; exact this.1.symm
    rw [hdec] at hown2
    rw [← e1]; exact Option.some.inj (hown.symm.trans hown2)
  have h6 := u_fits hfc hkC hkind (Or.inr hlay) hi (hty k hk) hn hft
  refine W.putFinK hx hb hown (hts _ hw) (aSame hts hsm _ hi) hst9 hcf (hnm.trans hini) (by rw [q2]; exact h6) q1 q3 (by rw [hsl]; exact k2_hasslot (q4 k hk)) rfl rfl hd fun H' e1 e2 e3 => ?_
  rw [hsl] at e1 ⊢
  exact kk p e R s m args below meth c A C0 H' _ ls (hR.set ⟨_, hc, t_OB.to (V := updV (vp_V fs) k v) ⟨_, e1, q2, q3, t_set q4 hap hk v⟩ (fun j _ => vp_updV_set hlt v j)⟩ e3) (hD.set (hD a _ he)) (hS.put e2 e3 (hD a _ he)) hl
theorem aw_getsE {index : Nat} (hw : Cond.fieldLink M.1.cls index "java/util/ArrayList" "DEFAULTCAPACITY_EMPTY_ELEMENTDATA" "[Ljava/lang/Object;" ∈ lw_all) (hd : decode M.2.1 pc = .ok (.getstatic index, 3)) (kk : AW l G M d mc ms P (pc + 3) (lv) (.ref G.2.1.1 :: rest) (h) (c0) (s0)) : AW l G M d mc ms P (pc) (lv) (rest) (h) (c0) (s0) := by
  intro p e R s m args below meth c A C H locs ls hR hD hS hl
  have C0 := C
  obtain ⟨hx, hb, hml, hret, hnm, hown, hts, hlk, hroom, hK, htab, hst, hA⟩ := C
  exact va_gets hx hb hK.2.2.2.2.2.2.1 hS hown (hts _ hw) (fun _ z => z) hd (kk p e R s m args below meth c A C0 H locs ls hR hD hS hl)
theorem aw_getsC {index : Nat} (hw : Cond.fieldLink M.1.cls index "java/lang/String" "COMPACT_STRINGS" "Z" ∈ lw_all) (hd : decode M.2.1 pc = .ok (.getstatic index, 3)) (kk : AW l G M d mc ms P (pc + 3) (lv) (.int 1 :: rest) (h) (c0) (s0)) : AW l G M d mc ms P (pc) (lv) (rest) (h) (c0) (s0) := by
  intro p e R s m args below meth c A C H locs ls hR hD hS hl
  have C0 := C
  obtain ⟨hx, hb, hml, hret, hnm, hown, hts, hlk, hroom, hK, htab, hst, hA⟩ := C
  exact va_gets hx hb hK.2.2.2.2.2.2.2.2.1 hS hown (hts _ hw) (fun _ z => z) hd (kk p e R s m args below meth c A C0 H locs ls hR hD hS hl)
theorem aw_getsF {index : Nat} (hw : Cond.fieldLink M.1.cls index "jdk/internal/util/Preconditions" "SIOOBE_FORMATTER" "Ljava/util/function/BiFunction;" ∈ lw_all) (hd : decode M.2.1 pc = .ok (.getstatic index, 3)) (kk : ∀ x : Option Nat, AW l G M d mc ms P (pc + 3) (lv) (va_rf x :: rest) (h) (c0) (s0)) : AW l G M d mc ms P (pc) (lv) (rest) (h) (c0) (s0) := by
  intro p e R s m args below meth c A C H locs ls hR hD hS hl
  have C0 := C
  obtain ⟨hx, hb, hml, hret, hnm, hown, hts, hlk, hroom, hK, htab, hst, hA⟩ := C
  obtain ⟨-, -, -, -, -, -, -, -, -, -, hT⟩ := hK.2.2.2.2.2.2
  rcases hT with hT | ⟨t, hT⟩
  · exact va_gets hx hb hT hS hown (hts _ hw) (fun _ z => z) hd (kk none p e R s m args below meth c A C0 H locs ls hR hD hS hl)
  · exact va_gets hx hb hT hS hown (hts _ hw) (fun _ z => z) hd (kk (some t) p e R s m args below meth c A C0 H locs ls hR hD hS hl)
theorem aw_alenE (hd : decode M.2.1 pc = .ok (.arraylength, 1)) (kk : AW l G M d mc ms P (pc + 1) (lv) (.int 0 :: rest) (h) (c0) (s0)) : AW l G M d mc ms P (pc) (lv) (.ref G.2.1.1 :: rest) (h) (c0) (s0) := by
  intro p e R s m args below meth c A C H locs ls hR hD hS hl
  have C0 := C
  obtain ⟨hx, hb, hml, hret, hnm, hown, hts, hlk, hroom, hK, htab, hst, hA⟩ := C
  obtain ⟨-, hT, -⟩ := hK.2.2.2.2.2.2
  exact va_tlen hx hb hT hS rfl hd (kk p e R s m args below meth c A C0 H locs ls hR hD hS hl)
/-- the one string constant: its fields, its bytes -/
theorem aw_ldcS {index : Nat} (hi : index = 76) (ho : M.1.cls = "EdgeLetters$CommandReader") (hd : decode M.2.1 pc = .ok (.ldc index, 2)) (kk : AW l G M d mc ms P (pc + 2) (lv) (.ref G.2.1.2.1 :: rest) (h) (c0) (s0)) : AW l G M d mc ms P (pc) (lv) (rest) (h) (c0) (s0) := by
  intro p e R s m args below meth c A C H locs ls hR hD hS hl
  have C0 := C
  obtain ⟨hx, hb, hml, hret, hnm, hown, hts, hlk, hroom, hK, htab, hst, hA⟩ := C
  subst hi
  rw [ho] at hown
  exact va_ldcS hx hb hown hK.2.2.2.2.1 hd (kk p e R s m args below meth c A C0 H locs ls hR hD hS hl)
theorem aw_getSv {index : Nat} (hw : Cond.fieldLink M.1.cls index "java/lang/String" "value" "[B" ∈ lw_all) (hd : decode M.2.1 pc = .ok (.getfield index, 3)) (kk : AW l G M d mc ms P (pc + 3) (lv) (.ref G.2.1.2.2.1 :: rest) (h) (c0) (s0)) : AW l G M d mc ms P (pc) (lv) (.ref G.2.1.2.1 :: rest) (h) (c0) (s0) := by
  intro p e R s m args below meth c A C H locs ls hR hD hS hl
  have C0 := C
  obtain ⟨hx, hb, hml, hret, hnm, hown, hts, hlk, hroom, hK, htab, hst, hA⟩ := C
  obtain ⟨-, -, -, -, -, -, -, hT, -⟩ := hK.2.2.2.2.2.2
  exact vk_getf hx hb hT hS hown (hts _ hw) (fun _ z => z) hd (kk p e R s m args below meth c A C0 H locs ls hR hD hS hl)
theorem aw_getSc {index : Nat} (hw : Cond.fieldLink M.1.cls index "java/lang/String" "coder" "B" ∈ lw_all) (hd : decode M.2.1 pc = .ok (.getfield index, 3)) (kk : AW l G M d mc ms P (pc + 3) (lv) (.int 0 :: rest) (h) (c0) (s0)) : AW l G M d mc ms P (pc) (lv) (.ref G.2.1.2.1 :: rest) (h) (c0) (s0) := by
  intro p e R s m args below meth c A C H locs ls hR hD hS hl
  have C0 := C
  obtain ⟨hx, hb, hml, hret, hnm, hown, hts, hlk, hroom, hK, htab, hst, hA⟩ := C
  obtain ⟨-, -, -, -, -, -, hT, -⟩ := hK.2.2.2.2.2.2
  exact vk_getf hx hb hT hS hown (hts _ hw) (fun _ z => z) hd (kk p e R s m args below meth c A C0 H locs ls hR hD hS hl)
theorem aw_alenS (hd : decode M.2.1 pc = .ok (.arraylength, 1)) (kk : AW l G M d mc ms P (pc + 1) (lv) (.int 4 :: rest) (h) (c0) (s0)) : AW l G M d mc ms P (pc) (lv) (.ref G.2.1.2.2.1 :: rest) (h) (c0) (s0) := by
  intro p e R s m args below meth c A C H locs ls hR hD hS hl
  have C0 := C
  obtain ⟨hx, hb, hml, hret, hnm, hown, hts, hlk, hroom, hK, htab, hst, hA⟩ := C
  obtain ⟨-, -, -, -, -, -, -, -, hT, -⟩ := hK.2.2.2.2.2.2
  exact va_tlen hx hb hT hS rfl hd (kk p e R s m args below meth c A C0 H locs ls hR hD hS hl)
theorem aw_baldS {i : Int32} (hin : vp_in i 4) (hd : decode M.2.1 pc = .ok (.baload, 1)) (kk : AW l G M d mc ms P (pc + 1) (lv) (.int (aLit i.toNatClampNeg) :: rest) (h) (c0) (s0)) : AW l G M d mc ms P (pc) (lv) (.int i :: .ref G.2.1.2.2.1 :: rest) (h) (c0) (s0) := by
  intro p e R s m args below meth c A C H locs ls hR hD hS hl
  have C0 := C
  obtain ⟨hx, hb, hml, hret, hnm, hown, hts, hlk, hroom, hK, htab, hst, hA⟩ := C
  obtain ⟨-, -, -, -, -, -, -, -, hT, -⟩ := hK.2.2.2.2.2.2
  exact va_tb hx hb hT hS hin rfl hd (kk p e R s m args below meth c A C0 H locs ls hR hD hS hl)
theorem aw_anew {Cn : String} {index : Nat} (j : Nat) (hj : aTy[j]? = some (.object Cn)) (hw1 : Cond.classLink M.1.cls index Cn ∈ lw_all) (hw2 : Cond.arrayOver (.object Cn) ∈ lw_tbl) {n : Int32} {N : Nat} (hn : ¬ n < 0) (hN : n.toNatClampNeg = N) (hbytes : N * 4 ≤ 536870912) (hc : c0 + 1 ≤ mc) (hs : s0 + N ≤ ms) (hd : decode M.2.1 pc = .ok (.anewarray index, 3))
    (kk : ∀ q : Nat, h q = none → AW l G M d mc ms P (pc + 3) (lv) (.ref q :: rest) (aUp h q (aRefs (.object Cn) N (fun _ => none))) (c0 + 1) (s0 + N)) : AW l G M d mc ms P (pc) (lv) (.int n :: rest) (h) (c0) (s0) := by
  intro p e R s m args below meth c A C H locs ls hR hD hS hl
  have C0 := C
  obtain ⟨hx, hb, hml, hret, hnm, hown, hts, hlk, hroom, hK, htab, hst, hA⟩ := C
  subst hN
  refine W.anew hx hb hown (hts _ hw1) (hK.2.1 _ hw2 rfl) rfl hd rfl hn hbytes (Nat.le_trans hc hroom.2.2.1) (Nat.le_trans hs hroom.2.2.2) fun cA kA comp f1 f2 f3 f4 => ?_
  generalize hH1 : H.push ({ cls := cA, slots := Array.replicate n.toNatClampNeg .null, vm := .none } : Cell) = H1
  have z1 : H1.size = H.size + 1 := by rw [← hH1, Array.size_push]
  have e1 : H1[H.size]? = some (arrV cA n.toNatClampNeg (fun _ => .null)) := by rw [← hH1, Array.getElem?_push_size, ← arrV_new]
  have o1 : ∀ q : Nat, q < H.size → H1[q]? = H[q]? := fun q hq => by rw [← hH1, Array.getElem?_push, if_neg (Nat.ne_of_lt hq)]
  obtain ⟨kA9, comp9, g1, g2, g3, g4⟩ := (hK.1.2 j _ (aK_ty hK j hj)).2
  have hcA : cA = G.1.2 (.object Cn) := Option.some.inj (f1.symm.trans g4)
  subst hcA
  refine kk H.size hR.new p e R s m args below meth c A C0 H1 locs ls (hR.push ?_ o1) (hD.set (hA _ hS.1)) ⟨Nat.le_trans hS.1 (by omega), fun x h1 h2 => (o1 x (Nat.lt_of_lt_of_le h1 hS.1)).trans (hS.2.1 x h1 h2), hS.2.2⟩ hl
  show H1[H.size]? = some (arrV (G.1.2 (.object Cn)) n.toNatClampNeg (fun _ => va_rf none))
  exact e1
/-- a reference into an array of references: its class is one of the claim's -/
theorem aw_aast {Cn : String} (j : Nat) (hj : aTy[j]? = some (.object Cn)) {a n v : Nat} {f : Nat → Option Nat} {i : Int32} {h' : aH} (he : h a = some (aRefs (.object Cn) n f)) (hin : vp_in i n) (hv : ∀ (s : State) (A : Nat → Prop) (H : Heap), aKX G A s s.heap → aRel G h H → va_Any Cn s H v) (hu : aUp h a (aRefs (.object Cn) n (va_up f i.toNatClampNeg (some v))) = h') (hd : decode M.2.1 pc = .ok (.aastore, 1)) (kk : AW l G M d mc ms P (pc + 1) (lv) (rest) (h') (c0) (s0)) : AW l G M d mc ms P (pc) (lv) (.ref v :: .int i :: .ref a :: rest) (h) (c0) (s0) := by
  intro p e R s m args below meth c A C H locs ls hR hD hS hl
  have C0 := C
  obtain ⟨hx, hb, hml, hret, hnm, hown, hts, hlk, hroom, hK, htab, hst, hA⟩ := C
  subst hu
  have hlt : i.toNatClampNeg < n := Nat.not_le.mp fun q => hin (Or.inr q)
  have h0 : ¬ i < 0 := fun q => hin (Or.inl q)
  obtain ⟨cv, g1, g3, ⟨kv, gk⟩, gas⟩ := hv s A H hK hR
  obtain ⟨kA, comp, k1, k2, k3, -⟩ := (hK.1.2 j _ (aK_ty hK j hj)).2
  obtain ⟨kC, hkC, -⟩ := Vm.findClass_spec k3
  refine W.aast hx hb (hR a _ he) (fun q h => by cases h) (fun h => by cases h) k1 k2 rfl hkC ⟨h0, by show _ < (arrV _ _ _).slots.size; rw [arrV_size]; exact hlt⟩ g1 (fun q h => by rw [h] at g3; cases g3) gk (gas comp k3) rfl rfl hd fun H1 e1 z oq => ?_
  refine kk p e R s m args below meth c A C0 H1 _ ls (hR.set ?_ oq) (hD.set (hD a _ he)) (hS.put z oq (hD a _ he)) hl
  show H1[a]? = some (vp_cell _ _)
  rw [e1]
  show some ((arrV (G.1.2 (.object Cn)) n (fun j => va_rf (f j))).setSlot i.toNatClampNeg (.ref v)) = some (arrV (G.1.2 (.object Cn)) n (fun j => va_rf (va_up f i.toNatClampNeg (some v) j)))
  rw [arrV_store]
  congr 2
  funext q
  by_cases hq : q = i.toNatClampNeg
  · subst hq
    simp [updV, va_up, va_rf]
  · simp [updV, va_up, hq]
theorem aw_aastN {Cn : String} (j : Nat) (hj : aTy[j]? = some (.object Cn)) {a n : Nat} {f : Nat → Option Nat} {i : Int32} {h' : aH} (he : h a = some (aRefs (.object Cn) n f)) (hin : vp_in i n) (hu : aUp h a (aRefs (.object Cn) n (va_up f i.toNatClampNeg none)) = h') (hd : decode M.2.1 pc = .ok (.aastore, 1)) (kk : AW l G M d mc ms P (pc + 1) (lv) (rest) (h') (c0) (s0)) : AW l G M d mc ms P (pc) (lv) (.null :: .int i :: .ref a :: rest) (h) (c0) (s0) := by
  intro p e R s m args below meth c A C H locs ls hR hD hS hl
  have C0 := C
  obtain ⟨hx, hb, hml, hret, hnm, hown, hts, hlk, hroom, hK, htab, hst, hA⟩ := C
  subst hu
  refine va_WaastN (C := Cn) hx hb (hR a _ he) ((hK.1.2 j _ (aK_ty hK j hj)).1 n (fun j => va_rf (f j))) (fun h => by cases h) (by show ¬ (i < 0 ∨ (arrV _ _ _).slots.size ≤ _); rw [arrV_size]; exact hin) rfl rfl hd fun H1 e1 z oq => ?_
  refine kk p e R s m args below meth c A C0 H1 _ ls (hR.set ?_ oq) (hD.set (hD a _ he)) (hS.put z oq (hD a _ he)) hl
  show H1[a]? = some (vp_cell _ _)
  rw [e1]
  show some ((arrV (G.1.2 (.object Cn)) n (fun j => va_rf (f j))).setSlot i.toNatClampNeg .null) = some (arrV (G.1.2 (.object Cn)) n (fun j => va_rf (va_up f i.toNatClampNeg none j)))
  rw [arrV_store]
  congr 2
  funext q
  by_cases hq : q = i.toNatClampNeg
  · subst hq
    simp [updV, va_up, va_rf]
  · simp [updV, va_up, hq]
theorem aOuter0 (c : ClassId) (N h0 : Nat) : ∀ i, ∃ S : Array Value, Jvm.Free.Multi.outerC c N h0 i = { cls := c, slots := S, vm := .none }
  | 0 => ⟨_, rfl⟩
  | i + 1 => by
    obtain ⟨S, hS⟩ := aOuter0 c N h0 i
    show ∃ S : Array Value, (Jvm.Free.Multi.outerC c N h0 i).setSlot i _ = _
    rw [hS]
    exact ⟨_, rfl⟩
theorem aOuter (c : ClassId) (N h0 : Nat) : Jvm.Free.Multi.outerC c N h0 N = arrV c N (fun j => va_rf (some (h0 + 1 + j))) := by
  obtain ⟨S, hS⟩ := aOuter0 c N h0 N
  have h1 := (Jvm.Free.Multi.outerC_facts c N h0 N).2.2
  have h2 := Jvm.Free.Multi.outerC_slot c N h0 N
  rw [hS] at h1 h2 ⊢
  show ({ cls := c, slots := S, vm := .none } : Cell) = { cls := c, slots := _, vm := .none }
  congr 1
  refine Array.ext ?_ ?_
  · show S.size = _
    rw [show S.size = N from h1]; simp
  · intro j h3 h4
    have h5 : j < N := by have : S.size = N := h1; omega
    have h6 := h2 j h5
    rw [if_pos h5] at h6
    have h7 : S[j]? = some (.ref (h0 + 1 + j)) := h6
    rw [Array.getElem?_eq_getElem h3] at h7
    rw [Option.some.inj h7]
    simp [va_rf]
/-- a grid of ints: the outer array at q, its rows at q + 1, .. -/
def aGrid (h : aH) (q n k : Nat) : aH := fun x => if x = q then some (aRefs (.array .int) n (fun i => some (q + 1 + i))) else if q < x ∧ x ≤ q + n then some (aInts .int k (fun _ => 0)) else h x
theorem aw_multi {index : Nat} (hw1 : Cond.classLink M.1.cls index "[[I" ∈ lw_all) (hw2 : Cond.arrayOver (.array .int) ∈ lw_tbl) (hw3 : Cond.arrayClass .int ∈ lw_all) {n k : Int32} {N K : Nat} (hn : ¬ n < 0) (hk : ¬ k < 0) (hN : n.toNatClampNeg = N) (hK9 : k.toNatClampNeg = K) (hb1 : N * 4 ≤ 536870912) (hb2 : K * 4 ≤ 536870912) (hc : c0 + (1 + N) ≤ mc) (hs : s0 + (N + N * K) ≤ ms) (hd : decode M.2.1 pc = .ok (.multianewarray index 2, 4))
    (kk : ∀ q : Nat, (∀ j, q ≤ j → h j = none) → AW l G M d mc ms P (pc + 4) (lv) (.ref q :: rest) (aGrid h q N K) (c0 + 1 + N) (s0 + N + N * K)) : AW l G M d mc ms P (pc) (lv) (.int k :: .int n :: rest) (h) (c0) (s0) := by
  intro p e R s m args below meth c A C H locs ls hR hD hS hl
  have C0 := C
  obtain ⟨hx, hb, hml, hret, hnm, hown, hts, hlk, hroom, hK, htab, hst, hA⟩ := C
  subst hN; subst hK9
  intro T hT X
  obtain ⟨vm₁, cA, comp, hW1, hfA, hfC, -, -, X1, step⟩ := X.multianewarray2F hx (own := M.1.cls) (index := index) (ty := .int) hown (hts _ hw1) (hK.2.1 _ hw2 rfl) (hts _ hw3) (g := F0 m pc ls (.int k :: .int n :: rest)) rfl (by rw [hb]; exact hd) (n := n) (k := k) (rest := rest) rfl hn hk hb1 hb2 (by omega) rfl rfl (Nat.le_trans hc hroom.2.2.1) (Nat.le_trans hs hroom.2.2.2)
  obtain ⟨f1, f2, f3, f4⟩ := Jvm.Free.Multi.fill_facts (T.setVm vm₁) cA comp n.toNatClampNeg k.toNatClampNeg (defaultValue .int) n.toNatClampNeg
  obtain ⟨o1, o2, o3⟩ := Jvm.Free.Multi.outerC_facts cA n.toNatClampNeg (T.setVm vm₁).heap.size n.toNatClampNeg
  have hsz : (T.setVm vm₁).heap.size = H.size := by show T.heap.size = _; rw [hT]
  have h1 := (hK.1.2 7 _ (aK_ty hK 7 rfl)).2
  have h2 := (hK.1.2 0 _ (aK_ty hK 0 rfl)).2
  have eA : cA = G.1.2 (.array .int) := Option.some.inj (hfA.symm.trans h1)
  have eC : comp = G.1.2 .int := Option.some.inj (hfC.symm.trans h2)
  subst eA; subst eC
  have hrel : aRel G (aGrid h H.size n.toNatClampNeg k.toNatClampNeg) (Jvm.Free.Multi.fill (T.setVm vm₁) (G.1.2 (.array .int)) (G.1.2 .int) n.toNatClampNeg k.toNatClampNeg (defaultValue .int) n.toNatClampNeg).heap := by
    intro x e9 he9
    unfold aGrid at he9
    by_cases hx1 : x = H.size
    · rw [if_pos hx1] at he9
      cases he9
      subst hx1
      show (Jvm.Free.Multi.fill _ _ _ _ _ _ _).heap[H.size]? = some (arrV (G.1.2 (.array .int)) n.toNatClampNeg (fun j => va_rf (some (H.size + 1 + j))))
      rw [← hsz, f2, aOuter]
    · rw [if_neg hx1] at he9
      by_cases hx2 : H.size < x ∧ x ≤ H.size + n.toNatClampNeg
      · rw [if_pos hx2] at he9
        cases he9
        obtain ⟨j, rfl⟩ : ∃ j, x = H.size + 1 + j := ⟨x - H.size - 1, by omega⟩
        show (Jvm.Free.Multi.fill _ _ _ _ _ _ _).heap[H.size + 1 + j]? = some (arrV (G.1.2 .int) k.toNatClampNeg (fun _ => .int 0))
        have hi9 := Jvm.Free.Multi.fill_inner (T.setVm vm₁) (G.1.2 (.array .int)) (G.1.2 .int) n.toNatClampNeg k.toNatClampNeg (defaultValue .int) n.toNatClampNeg j (by omega)
        rw [hsz] at hi9
        rw [hi9]
        show some ({ cls := _, slots := Array.replicate _ _, vm := .none } : Cell) = _
        rw [arrV_new]
        rfl
      · rw [if_neg hx2] at he9
        have hl9 : x < H.size := hR.lt he9
        refine (hR x e9 he9).kept ?_
        rw [Jvm.Free.Multi.fill_old (T.setVm vm₁) _ _ _ _ _ (by rw [hsz]; exact hl9)]
        show T.heap[x]? = _
        rw [hT]
  have hSn : va_S A s.heap (Jvm.Free.Multi.fill (T.setVm vm₁) (G.1.2 (.array .int)) (G.1.2 .int) n.toNatClampNeg k.toNatClampNeg (defaultValue .int) n.toNatClampNeg).heap locs := by
    refine ⟨by rw [f1, hsz]; have := hS.1; omega, fun x h3 h4 => ?_, hS.2.2⟩
    rw [Jvm.Free.Multi.fill_old (T.setVm vm₁) _ _ _ _ _ (by rw [hsz]; exact Nat.lt_of_lt_of_le h3 hS.1)]
    show T.heap[x]? = _
    rw [hT]
    exact hS.2.1 x h3 h4
  obtain ⟨t, a1, b1⟩ := kk H.size (fun j hj => by
    cases hq : h j with
    | none => rfl
    | some e9 => exact absurd (hR.lt hq) (by omega)) p e R s m args below meth c A C0 _ locs ls hrel (fun x e9 he9 => by
    unfold aGrid at he9
    by_cases hx1 : x = H.size
    · exact hA _ (by rw [hx1]; exact hS.1)
    · rw [if_neg hx1] at he9
      by_cases hx2 : H.size < x ∧ x ≤ H.size + n.toNatClampNeg
      · exact hA _ (by have := hS.1; omega)
      · rw [if_neg hx2] at he9
        exact hD x e9 he9) hSn hl _ rfl X1
  refine ⟨t, step t ?_, b1⟩
  rw [hT]
  exact a1
theorem aPos (z : Int32) (hz : ¬ z < 0) : z.toInt = (z.toNatClampNeg : Int) := by
  have hz0 : (0 : Int) ≤ z.toInt := by
    have := Int32.not_lt.mp hz
    simpa using Int32.le_iff_toInt_le.mp this
  show z.toInt = ((z.toInt.toNat : Nat) : Int)
  omega
theorem aw_copyI {index a0 a n0 n1 : Nat} {ty : FieldType} {f g : Nat → Int32} (j : Nat) (hj : aTy[j]? = some ty) (hprim : refKind ty = false) {sp dp n : Int32} {h' : aH} (hw1 : Cond.methodLink M.1.cls index arraycopyName ∈ lw_all) (hw2 : Cond.native arraycopyName ∈ lw_all) (hw3 : Cond.static arraycopyName ∈ lw_all) (hw4 : Cond.initialized "java/lang/System" ∈ lw_all) (he0 : h a0 = some (aInts ty n0 f)) (he1 : h a = some (aInts ty n1 g)) (h1 : ¬ sp < 0) (h2 : ¬ dp < 0) (h3 : ¬ n < 0) (h4 : sp.toNatClampNeg + n.toNatClampNeg ≤ n0) (h5 : dp.toNatClampNeg + n.toNatClampNeg ≤ n1) (hfit : ∀ i, i < n.toNatClampNeg → fits ty (.int (f (sp.toNatClampNeg + i))) = true) (hd1 : 1 ≤ d) (hr : (rest.map fun v => v.category).sum ≤ 8) (hu : aUp h a (aInts ty n1 (va_cpy f g sp.toNatClampNeg dp.toNatClampNeg n.toNatClampNeg)) = h') (hd : decode M.2.1 pc = .ok (.invokestatic index, 3)) (kk : AW l G M d mc ms P (pc + 3) (lv) (rest) (h') (c0) (s0)) : AW l G M d mc ms P (pc) (lv) (.int n :: .int dp :: .ref a :: .int sp :: .ref a0 :: rest) (h) (c0) (s0) := by
  intro p e R s m args below meth c A C H locs ls hR hD hS hl
  have C0 := C
  obtain ⟨hx, hb, hml, hret, hnm, hown, hts, hlk, hroom, hK, htab, hst, hA⟩ := C
  subst hu
  intro T hT X
  have hc0 := hR a0 _ he0
  have hc1 := hR a _ he1
  obtain ⟨-, k0, hk0, cm0, hkk0⟩ := (hK.1.2 j _ (aK_ty hK j hj)).1 n0 (fun j => .int (f j))
  obtain ⟨-, k1, hk1, cm1, hkk1⟩ := (hK.1.2 j _ (aK_ty hK j hj)).1 n1 (fun j => .int (g j))
  obtain ⟨vm', X', step⟩ := X.arraycopy hx hown (hts _ hw1) (hts _ hw2) (hts _ hw3) (hts _ hw4) (src := a0) (dst := a) (cs := arrV (G.1.2 ty) n0 (fun j => .int (f j))) (cd := arrV (G.1.2 ty) n1 (fun j => .int (g j))) (srcPos := sp) (destPos := dp) (n := n) (by rw [hT]; exact hc0) (by rw [hT]; exact hc1)
    (fun _ h => by cases h) (fun _ h => by cases h) (fun h => by cases h) (fun h => by cases h) hk0 hk1 hkk0 hkk1 (by simp [hprim]) h1 h2 h3
    (by rw [aPos sp h1, aPos n h3, arrV_size]; omega)
    (by rw [aPos dp h2, aPos n h3, arrV_size]; omega)
    (fun vm₁ _ i hi => by
      have e : (arrV (G.1.2 ty) n0 (fun j => .int (f j))).slots.getD (sp.toNatClampNeg + i) .null = .int (f (sp.toNatClampNeg + i)) := by
        rw [Array.getD_eq_getD_getElem?, arrV_read _ _ (by omega)]
        rfl
      refine ⟨?_, ?_⟩
      · rw [e]
        exact hfit i hi
      · rw [e]
        exact trivial)
    (g := F0 m pc ls (.int n :: .int dp :: .ref a :: .int sp :: .ref a0 :: rest)) rfl (by rw [hml]; exact hl.1) (rest := rest) rfl (by rw [hb]; exact hd) (Nat.le_trans hd1 hroom.1) (by have h8 := hroom.2.1; have h9 : nativeFrameWords "java/lang/System" "arraycopy" 5 ≤ 20 := (by decide); show 2 * 0 + _ + _ ≤ _; omega)
  have e1 : copied (arrV (G.1.2 ty) n0 (fun j => .int (f j))) (arrV (G.1.2 ty) n1 (fun j => .int (g j))) sp dp n = arrV (G.1.2 ty) n1 (fun j => .int (va_cpy f g sp.toNatClampNeg dp.toNatClampNeg n.toNatClampNeg j)) := va_copied (fun z => .int z) _ _ f g h4
  rw [e1] at X' step
  have hl9 : a < H.size := (Array.getElem?_eq_some_iff.mp hc1).1
  obtain ⟨t, a1, b1⟩ := kk p e R s m args below meth c A C0 _ _ ls (hR.set (H1 := H.setIfInBounds a _) (show (H.setIfInBounds a _)[a]? = some _ by simp [Array.getElem?_setIfInBounds, hl9]; rfl) (fun q hq => by simp [Array.getElem?_setIfInBounds, Ne.symm hq])) (hD.set (hD a _ he1)) ⟨by simp; exact hS.1, fun q g1 g2 => by
      have e : q ≠ a := fun e => g2 (by rw [e]; exact hD a _ he1)
      simp [Array.getElem?_setIfInBounds, Ne.symm e]
      have := hS.2.1 q g1 g2
      simpa using this, fun q hq => by
      rcases List.mem_append.mp hq with h | h
      · exact hS.2.2 q h
      · obtain ⟨z, -, hz⟩ := List.mem_map.mp h
        rw [← hz]
        exact hD a _ he1⟩ hl _ (by rw [← hT]; rfl) X'
  exact ⟨t, step t a1, b1⟩
theorem aw_copyR {index a0 a n0 n1 : Nat} {Cn : String} {f g : Nat → Option Nat} (j : Nat) (hj : aTy[j]? = some (.object Cn)) {sp dp n : Int32} {h' : aH} (hw1 : Cond.methodLink M.1.cls index arraycopyName ∈ lw_all) (hw2 : Cond.native arraycopyName ∈ lw_all) (hw3 : Cond.static arraycopyName ∈ lw_all) (hw4 : Cond.initialized "java/lang/System" ∈ lw_all) (he0 : h a0 = some (aRefs (.object Cn) n0 f)) (he1 : h a = some (aRefs (.object Cn) n1 g)) (h1 : ¬ sp < 0) (h2 : ¬ dp < 0) (h3 : ¬ n < 0) (h4 : sp.toNatClampNeg + n.toNatClampNeg ≤ n0) (h5 : dp.toNatClampNeg + n.toNatClampNeg ≤ n1) (hel : ∀ (s : State) (A : Nat → Prop) (H : Heap), aKX G A s s.heap → aRel G h H → ∀ i : Nat, i < n.toNatClampNeg → ∀ y : Nat, f (sp.toNatClampNeg + i) = some y → va_Any Cn s H y) (hd1 : 1 ≤ d) (hr : (rest.map fun v => v.category).sum ≤ 8) (hu : aUp h a (aRefs (.object Cn) n1 (va_cpy f g sp.toNatClampNeg dp.toNatClampNeg n.toNatClampNeg)) = h') (hd : decode M.2.1 pc = .ok (.invokestatic index, 3)) (kk : AW l G M d mc ms P (pc + 3) (lv) (rest) (h') (c0) (s0)) : AW l G M d mc ms P (pc) (lv) (.int n :: .int dp :: .ref a :: .int sp :: .ref a0 :: rest) (h) (c0) (s0) := by
  intro p e R s m args below meth c A C H locs ls hR hD hS hl
  have C0 := C
  obtain ⟨hx, hb, hml, hret, hnm, hown, hts, hlk, hroom, hK, htab, hst, hA⟩ := C
  subst hu
  intro T hT X
  have hc0 := hR a0 _ he0
  have hc1 := hR a _ he1
  obtain ⟨-, k0, hk0, cm0, hkk0⟩ := (hK.1.2 j _ (aK_ty hK j hj)).1 n0 (fun j => va_rf (f j))
  obtain ⟨-, k1, hk1, cm1, hkk1⟩ := (hK.1.2 j _ (aK_ty hK j hj)).1 n1 (fun j => va_rf (g j))
  obtain ⟨vm', X', step⟩ := X.arraycopy hx hown (hts _ hw1) (hts _ hw2) (hts _ hw3) (hts _ hw4) (src := a0) (dst := a) (cs := arrV (G.1.2 (.object Cn)) n0 (fun j => va_rf (f j))) (cd := arrV (G.1.2 (.object Cn)) n1 (fun j => va_rf (g j))) (srcPos := sp) (destPos := dp) (n := n) (by rw [hT]; exact hc0) (by rw [hT]; exact hc1)
    (fun _ h => by cases h) (fun _ h => by cases h) (fun h => by cases h) (fun h => by cases h) hk0 hk1 hkk0 hkk1 (by rfl) h1 h2 h3
    (by rw [aPos sp h1, aPos n h3, arrV_size]; omega)
    (by rw [aPos dp h2, aPos n h3, arrV_size]; omega)
    (fun vm₁ hal i hi => by
      have e : (arrV (G.1.2 (.object Cn)) n0 (fun j => va_rf (f j))).slots.getD (sp.toNatClampNeg + i) .null = va_rf (f (sp.toNatClampNeg + i)) := by
        rw [Array.getD_eq_getD_getElem?, arrV_read _ _ (by omega)]
        rfl
      rw [e]
      cases hy : f (sp.toNatClampNeg + i) with
      | none => exact ⟨rfl, trivial⟩
      | some y =>
        obtain ⟨cellV, g1, g2, ⟨kC, hkC⟩, gas⟩ := hel s A H hK hR i hi y hy
        obtain ⟨kA, comp, r1, r2, r3, -⟩ := (hK.1.2 j _ (aK_ty hK j hj)).2
        cases hk1.symm.trans r1
        cases hkk1.symm.trans r2
        obtain ⟨kE, hkE, -⟩ := Vm.findClass_spec r3
        obtain ⟨kC', hkC', -⟩ := hal.2.2 _ _ hkC
        obtain ⟨kE', hkE', -⟩ := hal.2.2 _ _ hkE
        refine ⟨rfl, cellV, (show T.heap[y]? = some cellV by rw [hT]; exact g1), (fun q h => by rw [h] at g2; cases g2), ⟨kC', hkC'⟩, ?_, ?_⟩
        · exact ⟨kE', hkE'⟩
        · show vm₁.assignable _ _ = true
          rw [hal.assignable]
          exact gas _ r3)
    (g := F0 m pc ls (.int n :: .int dp :: .ref a :: .int sp :: .ref a0 :: rest)) rfl (by rw [hml]; exact hl.1) (rest := rest) rfl (by rw [hb]; exact hd) (Nat.le_trans hd1 hroom.1) (by have h8 := hroom.2.1; have h9 : nativeFrameWords "java/lang/System" "arraycopy" 5 ≤ 20 := (by decide); show 2 * 0 + _ + _ ≤ _; omega)
  have e1 : copied (arrV (G.1.2 (.object Cn)) n0 (fun j => va_rf (f j))) (arrV (G.1.2 (.object Cn)) n1 (fun j => va_rf (g j))) sp dp n = arrV (G.1.2 (.object Cn)) n1 (fun j => va_rf (va_cpy f g sp.toNatClampNeg dp.toNatClampNeg n.toNatClampNeg j)) := va_copied (fun z => va_rf z) _ _ f g h4
  rw [e1] at X' step
  have hl9 : a < H.size := (Array.getElem?_eq_some_iff.mp hc1).1
  obtain ⟨t, a1, b1⟩ := kk p e R s m args below meth c A C0 _ _ ls (hR.set (H1 := H.setIfInBounds a _) (show (H.setIfInBounds a _)[a]? = some _ by simp [Array.getElem?_setIfInBounds, hl9]; rfl) (fun q hq => by simp [Array.getElem?_setIfInBounds, Ne.symm hq])) (hD.set (hD a _ he1)) ⟨by simp; exact hS.1, fun q g1 g2 => by
      have e : q ≠ a := fun e => g2 (by rw [e]; exact hD a _ he1)
      simp [Array.getElem?_setIfInBounds, Ne.symm e]
      have := hS.2.1 q g1 g2
      simpa using this, fun q hq => by
      rcases List.mem_append.mp hq with h | h
      · exact hS.2.2 q h
      · obtain ⟨z, -, hz⟩ := List.mem_map.mp h
        rw [← hz]
        exact hD a _ he1⟩ hl _ (by rw [← hT]; rfl) X'
  exact ⟨t, step t a1, b1⟩
end AWX
