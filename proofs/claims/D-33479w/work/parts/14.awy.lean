/-! AW: casts, class objects, further calls, exceptions (printed by awcalls.py) -/
set_option maxRecDepth 100000
theorem aTyName {s : State} {cA : ClassId} {C nm : String} (h : va_RA s cA (.object C)) (e : "[" ++ (FieldType.object C).toString = nm) : s.vm.findClass nm = some cA := va_nmO h e
section AWY
variable {l : Launch} {G : aG} {M : aM} {d mc ms : Nat} {P : aR → aH → Prop} {pc : Nat} {lv : List (Nat × Value)} {st rest : List Value} {h : aH} {c0 s0 : Nat}
/-- what may be put into an array of Objects -/
def aOb (h : aH) (y : Nat) : Prop := (∃ n f, h y = some (aInts .int n f)) ∨ ∃ fs, h y = some (.inr (2, fs))
theorem aIntName {A : Nat → Prop} {s : State} {H : Heap} (hK : aKX G A s H) : s.vm.findClass "[I" = some (G.1.2 .int) := by
  have h := (hK.1.2 0 _ (aK_ty hK 0 rfl)).2
  exact h
theorem aOb_any {y : Nat} (hy : aOb h y) (s : State) (A : Nat → Prop) (H : Heap) (hK : aKX G A s s.heap) (hR : aRel G h H) : va_Any "java/lang/Object" s H y := by
  rcases hy with ⟨n, f, he⟩ | ⟨fs, he⟩
  · obtain ⟨c3, t3, w1, w2, w3⟩ := Cond.castable_spec (va_Nw.use (A := #[]) rfl (hK.2.1 _ q2335 rfl))
    have hn := aIntName hK
    have hc : c3 = G.1.2 .int := Option.some.inj (w1.symm.trans hn)
    subst hc
    obtain ⟨kC, hkC, -⟩ := Vm.findClass_spec hn
    exact ⟨_, hR y _ he, rfl, ⟨kC, hkC⟩, fun comp hcomp => by rw [← Option.some.inj (w2.symm.trans hcomp)]; exact w3⟩
  · obtain ⟨c3, t3, w1, w2, w3⟩ := Cond.castable_spec (va_Nw.use (A := #[]) rfl (hK.2.1 _ q2313 rfl))
    refine va_rAny (q0 := 0) (fs := fs) (r := (RX2, TX2, 2)) hK.1 (hR.one he) rfl rfl fun comp c0 g1 g2 => ?_
    rw [← Option.some.inj (w2.symm.trans g1), ← Option.some.inj (w1.symm.trans g2)]
    exact w3
theorem aDk_any {y : Nat} {fs : List Value} (he : h y = some (.inr (2, fs))) (s : State) (A : Nat → Prop) (H : Heap) (hK : aKX G A s s.heap) (hR : aRel G h H) : va_Any "EdgeLetters$Desk" s H y := by
  refine va_rAny (q0 := 0) (fs := fs) (r := (RX2, TX2, 2)) hK.1 (hR.one he) rfl rfl fun comp c0 g1 g2 => ?_
  have h1 := (hK.1.1 2 (RX2, TX2, 2) rfl).2
  have e1 : comp = G.1.1.1 2 := Option.some.inj (g1.symm.trans h1.1)
  have e2 : c0 = G.1.1.1 2 := Option.some.inj (g2.symm.trans h1.1)
  rw [e1, e2]
  exact va_assign h1
theorem aw_castI {index : Nat} {a n : Nat} {f : Nat → Int32} (hw : Cond.classLink M.1.cls index "[I" ∈ lw_all) (he : h a = some (aInts .int n f)) (hd : decode M.2.1 pc = .ok (.checkcast index, 3)) (kk : AW l G M d mc ms P (pc + 3) (lv) (.ref a :: rest) (h) (c0) (s0)) : AW l G M d mc ms P (pc) (lv) (.ref a :: rest) (h) (c0) (s0) := by
  intro p e R s m args below meth c A C H locs ls hR hD hS hl
  have C0 := C
  obtain ⟨hx, hb, hml, hret, hnm, hown, hts, hlk, hroom, hK, htab, hst, hA⟩ := C
  exact va_castA (q0 := 0) hx hb hown (hts _ hw) (hR.one he) rfl (aIntName hK) hd (kk p e R s m args below meth c A C0 H locs ls hR hD hS hl)
theorem aw_castO {index ci a : Nat} {Cn : String} {T : u_T} {N : Nat} {fs : List Value} (hw : Cond.classLink M.1.cls index Cn ∈ lw_all) (he : h a = some (.inr (ci, fs))) (hcl : aCl[ci]? = some (Cn, T, N)) (hd : decode M.2.1 pc = .ok (.checkcast index, 3)) (kk : AW l G M d mc ms P (pc + 3) (lv) (.ref a :: rest) (h) (c0) (s0)) : AW l G M d mc ms P (pc) (lv) (.ref a :: rest) (h) (c0) (s0) := by
  intro p e R s m args below meth c A C H locs ls hR hD hS hl
  have C0 := C
  obtain ⟨hx, hb, hml, hret, hnm, hown, hts, hlk, hroom, hK, htab, hst, hA⟩ := C
  exact va_castS hx hb hown (hts _ hw) (hK.1.1 ci _ hcl).2 (va_recv (q0 := 0) (fs := fs) hK.1 (hR.one he) hcl rfl) hd (kk p e R s m args below meth c A C0 H locs ls hR hD hS hl)
theorem aw_ldcM {index : Nat} (hw : Cond.classLink M.1.cls index "[Ljava/lang/Object;" ∈ lw_all) (hd : decode M.2.1 pc = .ok (.ldc index, 2)) (kk : AW l G M d mc ms P (pc + 2) (lv) (.ref G.2.1.2.2.2 :: rest) (h) (c0) (s0)) : AW l G M d mc ms P (pc) (lv) (rest) (h) (c0) (s0) := by
  intro p e R s m args below meth c A C H locs ls hR hD hS hl
  have C0 := C
  obtain ⟨hx, hb, hml, hret, hnm, hown, hts, hlk, hroom, hK, htab, hst, hA⟩ := C
  exact va_ldcM hx hb hown (hts _ hw) hK.2.2.2.2.2.1 hd (kk p e R s m args below meth c A C0 H locs ls hR hD hS hl)
theorem aw_getC {index a n : Nat} {f : Nat → Option Nat} (hw1 : Cond.methodLink M.1.cls index ⟨"java/lang/Object", "getClass", "()Ljava/lang/Class;"⟩ ∈ lw_all) (hw2 : Cond.declares ⟨"java/lang/Object", "getClass", "()Ljava/lang/Class;"⟩ ∈ lw_tbl) (hw3 : Cond.selects "[Ljava/lang/Object;" ⟨"java/lang/Object", "getClass", "()Ljava/lang/Class;"⟩ ⟨"java/lang/Object", "getClass", "()Ljava/lang/Class;"⟩ ∈ lw_all) (hw4 : Cond.instanceMethod ⟨"java/lang/Object", "getClass", "()Ljava/lang/Class;"⟩ ∈ lw_all) (hw5 : Cond.native ⟨"java/lang/Object", "getClass", "()Ljava/lang/Class;"⟩ ∈ lw_all) (he : h a = some (aRefs (.object "java/lang/Object") n f)) (hd1 : 1 ≤ d) (hr : (rest.map fun v => v.category).sum ≤ 8) (hd : decode M.2.1 pc = .ok (.invokevirtual index, 3)) (kk : AW l G M d mc ms P (pc + 3) (lv) (.ref G.2.1.2.2.2 :: rest) (h) (c0) (s0)) : AW l G M d mc ms P (pc) (lv) (.ref a :: rest) (h) (c0) (s0) := by
  intro p e R s m args below meth c A C H locs ls hR hD hS hl
  have C0 := C
  obtain ⟨hx, hb, hml, hret, hnm, hown, hts, hlk, hroom, hK, htab, hst, hA⟩ := C
  have hnm9 : s.vm.findClass "[Ljava/lang/Object;" = some (G.1.2 (.object "java/lang/Object")) := va_nmO (hK.1.2 5 _ (aK_ty hK 5 rfl)).2 (by decide +kernel)
  exact va_getC hx hb (by rw [hml]; exact hl.1.symm) hown (hts _ hw1) (va_Nw.use rfl (hK.2.1 _ hw2 rfl)) (hts _ hw3) (hts _ hw4) (hts _ hw5) hK.2.2.2.2.2.1 ⟨_, hR a _ he, rfl, hnm9⟩ (Nat.le_trans hd1 hroom.1) (by have h8 := hroom.2.1; omega) hd (kk p e R s m args below meth c A C0 H locs ls hR hD hS hl)
end AWY
section AWZ
variable {l : Launch} {G : aG} {M M2 : aM} {d mc ms d2 mc2 ms2 : Nat} {P P2 : aR → aH → Prop} {pc : Nat} {lv : List (Nat × Value)} {st rest As : List Value} {h : aH} {c0 s0 index b : Nat}
/-- a nest mate's private method, constructor, static method -/
theorem aw_callVN {host : String} (hM : aC l G M2 (ws_ M2.1 M2.2.1 M2.2.2.1 M2.2.2.2.1) d2 mc2 ms2 (.ref b :: As) h P2) {Cn : String} {T : u_T} {N ci : Nat} {fs : List Value} (he : h b = some (.inr (ci, fs))) (hcl : aCl[ci]? = some (Cn, T, N)) (hn : aNoMH M2.1 As.length) (q1 : Cond.methodLinkNest M.1.cls index M2.1 host ∈ lw_tbl) (q2 : Cond.instanceMethod M2.1 ∈ lw_all) (q3 : Cond.selects Cn M2.1 M2.1 ∈ lw_all) (q4 : Cond.initialized M2.1.cls ∈ lw_all) (q5 : Cond.code M2.1 M2.2.1 M2.2.2.1 M2.2.2.2.1 ∈ lw_all) (hd : decode M.2.1 pc = .ok (.invokevirtual index, 3)) (hstk : st = As.reverse ++ .ref b :: rest) (hdd : d2 + 1 ≤ d) (hm : M2.2.2.1 ≤ 40) (hrm : (rest.map fun v => v.category).sum ≤ 8) (hc : c0 + mc2 ≤ mc) (hs : s0 + ms2 ≤ ms)
    (kk : ∀ (v : Option Value) (h' : aH), P2 (.inl v) h' → AW l G M d mc ms P (pc + 3) lv (v.toList ++ rest) h' (c0 + mc2) (s0 + ms2))
    (kx : ∀ (E : String) (h' : aH), P2 (.inr E) h' → AX l G M d mc ms P pc lv h' E (c0 + mc2) (s0 + ms2)) : AW l G M d mc ms P pc lv st h c0 s0 := by
  intro p e R s m args below meth c A C H locs ls hR hD hS hl
  have C0 := C
  obtain ⟨hx, hb, hml, hret, hnm, hown, hts, hlk, hroom, hK, htab, hst, hA⟩ := C
  exact aw_back 3 C0 hD hS hl (vx_runVN ⟨hx, hb, hml, hown, hts⟩ (hM H.size) ⟨va_cnB As.length hts (lw_meth q5) rfl rfl rfl (hK.2.1 _ q1 rfl) (hts _ q4) hn ⟨Nat.le_trans hdd hroom.1, by have h8 := hroom.2.1; show 8 + (M2.2.2.1 + 11) + 64 * d2 ≤ R.locals; omega⟩, hts _ q2, hts _ q3⟩ ⟨aC_blind, (va_recv (q0 := 0) (fs := fs) hK.1 (hR.one he) hcl rfl), aC_pre hR hD hS hA hK⟩ rfl rfl hl.1 hstk (lv_room hrm) hd ⟨Nat.le_trans hc hroom.2.2.1, Nat.le_trans hs hroom.2.2.2⟩) kk kx
theorem aw_callSN {host : String} (hM : aC l G M2 (ws_ M2.1 M2.2.1 M2.2.2.1 M2.2.2.2.1) d2 mc2 ms2 As h P2) (hn : aNoMH M2.1 As.length) (q1 : Cond.methodLinkNest M.1.cls index M2.1 host ∈ lw_tbl) (q2 : Cond.static M2.1 ∈ lw_all) (q3 : Cond.initialized M2.1.cls ∈ lw_all) (q4 : Cond.code M2.1 M2.2.1 M2.2.2.1 M2.2.2.2.1 ∈ lw_all) (hd : decode M.2.1 pc = .ok (.invokestatic index, 3)) (hstk : st = As.reverse ++ rest) (hdd : d2 + 1 ≤ d) (hm : M2.2.2.1 ≤ 40) (hrm : (rest.map fun v => v.category).sum ≤ 8) (hc : c0 + mc2 ≤ mc) (hs : s0 + ms2 ≤ ms)
    (kk : ∀ (v : Option Value) (h' : aH), P2 (.inl v) h' → AW l G M d mc ms P (pc + 3) lv (v.toList ++ rest) h' (c0 + mc2) (s0 + ms2))
    (kx : ∀ (E : String) (h' : aH), P2 (.inr E) h' → AX l G M d mc ms P pc lv h' E (c0 + mc2) (s0 + ms2)) : AW l G M d mc ms P pc lv st h c0 s0 := by
  intro p e R s m args below meth c A C H locs ls hR hD hS hl
  have C0 := C
  obtain ⟨hx, hb, hml, hret, hnm, hown, hts, hlk, hroom, hK, htab, hst, hA⟩ := C
  exact aw_back 3 C0 hD hS hl (vx_runSN ⟨hx, hb, hml, hown, hts⟩ (hM H.size) ⟨va_cnB As.length hts (lw_meth q4) rfl rfl rfl (hK.2.1 _ q1 rfl) (hts _ q3) hn ⟨Nat.le_trans hdd hroom.1, by have h8 := hroom.2.1; show 8 + (M2.2.2.1 + 11) + 64 * d2 ≤ R.locals; omega⟩, hts _ q2, trivial⟩ ⟨aC_blind, aC_pre hR hD hS hA hK⟩ rfl rfl hl.1 hstk (lv_room hrm) hd ⟨Nat.le_trans hc hroom.2.2.1, Nat.le_trans hs hroom.2.2.2⟩) kk kx
theorem aw_callIN {host : String} (hret2 : M2.2.2.2.1 = none) (hM : aC l G M2 (ws_ M2.1 M2.2.1 M2.2.2.1 M2.2.2.2.1) d2 mc2 ms2 (.ref b :: As) h P2) (hn : aNoMH M2.1 As.length) (hi : M2.1.name = "<init>") (q1 : Cond.methodLinkNest M.1.cls index M2.1 host ∈ lw_tbl) (q2 : Cond.instanceMethod M2.1 ∈ lw_all) (q3 : Cond.initialized M2.1.cls ∈ lw_all) (q4 : Cond.code M2.1 M2.2.1 M2.2.2.1 M2.2.2.2.1 ∈ lw_all) (hd : decode M.2.1 pc = .ok (.invokespecial index, 3)) (hstk : st = As.reverse ++ .ref b :: rest) (hdd : d2 + 1 ≤ d) (hm : M2.2.2.1 ≤ 40) (hrm : (rest.map fun v => v.category).sum ≤ 8) (hc : c0 + mc2 ≤ mc) (hs : s0 + ms2 ≤ ms)
    (kk : ∀ (v : Option Value) (h' : aH), P2 (.inl v) h' → AW l G M d mc ms P (pc + 3) lv (v.toList ++ rest) h' (c0 + mc2) (s0 + ms2))
    (kx : ∀ (E : String) (h' : aH), P2 (.inr E) h' → AX l G M d mc ms P pc lv h' E (c0 + mc2) (s0 + ms2)) : AW l G M d mc ms P pc lv st h c0 s0 := by
  intro p e R s m args below meth c A C H locs ls hR hD hS hl
  have C0 := C
  obtain ⟨hx, hb, hml, hret, hnm, hown, hts, hlk, hroom, hK, htab, hst, hA⟩ := C
  rw [hret2] at hM q4
  exact aw_back 3 C0 hD hS hl (vx_runIN ⟨hx, hb, hml, hown, hts⟩ (hM H.size) ⟨va_cnB As.length hts (lw_meth q4) rfl rfl rfl (hK.2.1 _ q1 rfl) (hts _ q3) hn ⟨Nat.le_trans hdd hroom.1, by have h8 := hroom.2.1; show 8 + (M2.2.2.1 + 11) + 64 * d2 ≤ R.locals; omega⟩, hi, hts _ q2⟩ ⟨aC_blind, aC_pre hR hD hS hA hK⟩ rfl rfl hl.1 hstk (lv_room hrm) hd ⟨Nat.le_trans hc hroom.2.2.1, Nat.le_trans hs hroom.2.2.2⟩) kk kx
/-- super.m() -/
theorem aw_callSU (hM : aC l G M2 (ws_ M2.1 M2.2.1 M2.2.2.1 M2.2.2.2.1) d2 mc2 ms2 (.ref b :: As) h P2) {Cn : String} {T : u_T} {N ci : Nat} {fs : List Value} (he : h b = some (.inr (ci, fs))) (hcl : aCl[ci]? = some (Cn, T, N)) (hn : M2.1.name ≠ "<init>" ∧ (parseMethodDescriptor M2.1.desc).map (fun d => d.parameters.length) = some As.length) (q1 : Cond.methodLink M.1.cls index M2.1 ∈ lw_all) (q2 : Cond.sameMethod M2.1.cls M2.1.cls M2.1.name M2.1.desc ∈ lw_all) (q3 : Cond.superclass M.1.cls M2.1.cls ∈ lw_all) (q4 : Cond.instanceMethod M2.1 ∈ lw_all) (q5 : Cond.initialized M2.1.cls ∈ lw_all) (q6 : Cond.code M2.1 M2.2.1 M2.2.2.1 M2.2.2.2.1 ∈ lw_all) (hd : decode M.2.1 pc = .ok (.invokespecial index, 3)) (hstk : st = As.reverse ++ .ref b :: rest) (hdd : d2 + 1 ≤ d) (hm : M2.2.2.1 ≤ 40) (hrm : (rest.map fun v => v.category).sum ≤ 8) (hc : c0 + mc2 ≤ mc) (hs : s0 + ms2 ≤ ms)
    (kk : ∀ (v : Option Value) (h' : aH), P2 (.inl v) h' → AW l G M d mc ms P (pc + 3) lv (v.toList ++ rest) h' (c0 + mc2) (s0 + ms2))
    (kx : ∀ (E : String) (h' : aH), P2 (.inr E) h' → AX l G M d mc ms P pc lv h' E (c0 + mc2) (s0 + ms2)) : AW l G M d mc ms P pc lv st h c0 s0 := by
  intro p e R s m args below meth c A C H locs ls hR hD hS hl
  have C0 := C
  obtain ⟨hx, hb, hml, hret, hnm, hown, hts, hlk, hroom, hK, htab, hst, hA⟩ := C
  have hG : GoodIn lw_all (va_wsSU M.1.cls index M2.1 (ws_ M2.1 M2.2.1 M2.2.2.1 M2.2.2.2.1)) := lw_app (fun w hw => by
    simp only [List.mem_cons, List.not_mem_nil, or_false] at hw
    rcases hw with e9 | e9 | e9 | e9 | e9
    · rw [e9]; exact q1
    · rw [e9]; exact q2
    · rw [e9]; exact q3
    · rw [e9]; exact q4
    · rw [e9]; exact q5) (lw_meth q6)
  exact aw_back 3 C0 hD hS hl (vx_runSU (hK.1.1 ci _ hcl).2 ⟨hx, hb, hml, hown, hts⟩ (hM H.size) (va_cwSU As.length hts hG rfl rfl rfl hn ⟨Nat.le_trans hdd hroom.1, by have h8 := hroom.2.1; show 8 + (M2.2.2.1 + 11) + 64 * d2 ≤ R.locals; omega⟩) ⟨aC_blind, (va_recv (q0 := 0) (fs := fs) hK.1 (hR.one he) hcl rfl), aC_pre hR hD hS hA hK⟩ rfl rfl hl.1 hstk (lv_room hrm) hd ⟨Nat.le_trans hc hroom.2.2.1, Nat.le_trans hs hroom.2.2.2⟩) kk kx
/-- an inherited method, by the receiver's class -/
theorem aw_callU (hM : aC l G M2 (ws_ M2.1 M2.2.1 M2.2.2.1 M2.2.2.2.1) d2 mc2 ms2 (.ref b :: As) h P2) {Cn : String} {T : u_T} {N ci : Nat} {fs : List Value} (he : h b = some (.inr (ci, fs))) (hcl : aCl[ci]? = some (Cn, T, N)) (hn : aNoMH M2.1 As.length) (q1 : Cond.methodLink M.1.cls index M2.1 ∈ lw_all) (q2 : Cond.sameMethod M2.1.cls M2.1.cls M2.1.name M2.1.desc ∈ lw_all) (q3 : Cond.selects Cn M2.1 M2.1 ∈ lw_all) (q4 : Cond.instanceMethod M2.1 ∈ lw_all) (q5 : Cond.initialized M2.1.cls ∈ lw_all) (q6 : Cond.code M2.1 M2.2.1 M2.2.2.1 M2.2.2.2.1 ∈ lw_all) (hd : decode M.2.1 pc = .ok (.invokevirtual index, 3)) (hstk : st = As.reverse ++ .ref b :: rest) (hdd : d2 + 1 ≤ d) (hm : M2.2.2.1 ≤ 40) (hrm : (rest.map fun v => v.category).sum ≤ 8) (hc : c0 + mc2 ≤ mc) (hs : s0 + ms2 ≤ ms)
    (kk : ∀ (v : Option Value) (h' : aH), P2 (.inl v) h' → AW l G M d mc ms P (pc + 3) lv (v.toList ++ rest) h' (c0 + mc2) (s0 + ms2))
    (kx : ∀ (E : String) (h' : aH), P2 (.inr E) h' → AX l G M d mc ms P pc lv h' E (c0 + mc2) (s0 + ms2)) : AW l G M d mc ms P pc lv st h c0 s0 := by
  intro p e R s m args below meth c A C H locs ls hR hD hS hl
  have C0 := C
  obtain ⟨hx, hb, hml, hret, hnm, hown, hts, hlk, hroom, hK, htab, hst, hA⟩ := C
  have hG : GoodIn lw_all (va_wsU M.1.cls index Cn M2.1.cls M2.1 M2.1 (ws_ M2.1 M2.2.1 M2.2.2.1 M2.2.2.2.1)) := lw_app (fun w hw => by
    simp only [List.mem_cons, List.not_mem_nil, or_false] at hw
    rcases hw with e9 | e9 | e9 | e9 | e9
    · rw [e9]; exact q1
    · rw [e9]; exact q2
    · rw [e9]; exact q3
    · rw [e9]; exact q4
    · rw [e9]; exact q5) (lw_meth q6)
  exact aw_back 3 C0 hD hS hl (vx_runU (owner := M2.1.cls) ⟨hx, hb, hml, hown, hts⟩ (hM H.size) (va_cwU As.length hts hG rfl rfl rfl rfl hn ⟨Nat.le_trans hdd hroom.1, by have h8 := hroom.2.1; show 8 + (M2.2.2.1 + 11) + 64 * d2 ≤ R.locals; omega⟩) ⟨aC_blind, (va_recv (q0 := 0) (fs := fs) hK.1 (hR.one he) hcl rfl), aC_pre hR hD hS hA hK⟩ rfl rfl hl.1 hstk (lv_room hrm) hd ⟨Nat.le_trans hc hroom.2.2.1, Nat.le_trans hs hroom.2.2.2⟩) kk kx
/-- a private method of a superclass of the receiver's class -/
theorem aSelP {s : State} {args : Array Value} {Cn : String} {y z : MethodName} (hy : y.cls ≠ "java/lang/invoke/MethodHandle" ∧ y.cls ≠ "java/lang/invoke/VarHandle") (hz : z.cls = y.cls) (hs : (Cond.selects Cn z z).before args s = true) (hpriv : (Cond.privateMethod y).before args s = true) (hinst : (Cond.instanceMethod y).before args s = true) : (Cond.selects Cn y y).before args s = true := by
  obtain ⟨c2, r2, m2, g1, g2, g3, g4, kP, hkP, hkPi⟩ := Cond.selects_spec hs
  obtain ⟨mk, methM, hnamed, hmethM, -, -⟩ := Cond.instanceMethod_spec hinst
  have hfound : s.methodFound? y.cls y.name y.desc = some mk := State.methodFound?_of_named hnamed hy
  have e1 := findClass_of_methodNamed g3
  have e2 := findClass_of_methodNamed hnamed
  rw [hz] at e1
  have hcls : m2.cls = mk.cls := Option.some.inj (e1.symm.trans e2)
  rw [hcls] at hkP
  have hsel : selectMethod {} s.vm c2 mk = .method mk := selectMethod_private hmethM (Cond.privateMethod_at hpriv mk methM hnamed hmethM)
  simp only [Cond.before, Cond.holds, Cond.value, g1, hfound, hnamed, hsel, hkP]
  simp; exact hkPi
theorem aw_callP (hM : aC l G M2 (ws_ M2.1 M2.2.1 M2.2.2.1 M2.2.2.2.1) d2 mc2 ms2 (.ref b :: As) h P2) {Cn : String} {T : u_T} {N ci : Nat} {fs : List Value} (he : h b = some (.inr (ci, fs))) (hcl : aCl[ci]? = some (Cn, T, N)) (hn : aNoMH M2.1 As.length) (q1 : Cond.methodLink M.1.cls index M2.1 ∈ lw_all) {z : MethodName} (hz : z.cls = M2.1.cls) (q2 : Cond.selects Cn z z ∈ lw_all) (q3 : Cond.privateMethod M2.1 ∈ lw_tbl) (q4 : Cond.instanceMethod M2.1 ∈ lw_all) (q5 : Cond.initialized M2.1.cls ∈ lw_all) (q6 : Cond.code M2.1 M2.2.1 M2.2.2.1 M2.2.2.2.1 ∈ lw_all) (hd : decode M.2.1 pc = .ok (.invokevirtual index, 3)) (hstk : st = As.reverse ++ .ref b :: rest) (hdd : d2 + 1 ≤ d) (hm : M2.2.2.1 ≤ 40) (hrm : (rest.map fun v => v.category).sum ≤ 8) (hc : c0 + mc2 ≤ mc) (hs : s0 + ms2 ≤ ms)
    (kk : ∀ (v : Option Value) (h' : aH), P2 (.inl v) h' → AW l G M d mc ms P (pc + 3) lv (v.toList ++ rest) h' (c0 + mc2) (s0 + ms2))
    (kx : ∀ (E : String) (h' : aH), P2 (.inr E) h' → AX l G M d mc ms P pc lv h' E (c0 + mc2) (s0 + ms2)) : AW l G M d mc ms P pc lv st h c0 s0 := by
  intro p e R s m args below meth c A C H locs ls hR hD hS hl
  have C0 := C
  obtain ⟨hx, hb, hml, hret, hnm, hown, hts, hlk, hroom, hK, htab, hst, hA⟩ := C
  exact aw_back 3 C0 hD hS hl (vx_runV (C := Cn) ⟨hx, hb, hml, hown, hts⟩ (hM H.size) ⟨callB_of As.length hts (lw_meth q6) rfl rfl rfl (hts _ q5) (hts _ q1) hn ⟨Nat.le_trans hdd hroom.1, by have h8 := hroom.2.1; show 8 + (M2.2.2.1 + 11) + 64 * d2 ≤ R.locals; omega⟩, hts _ q4, aSelP ⟨hn.1, hn.2.1⟩ hz (hts _ q2) (va_Nw.use rfl (hK.2.1 _ q3 rfl)) (hts _ q4)⟩ ⟨aC_blind, (va_recv (q0 := 0) (fs := fs) hK.1 (hR.one he) hcl rfl), aC_pre hR hD hS hA hK⟩ rfl rfl hl.1 hstk (lv_room hrm) hd ⟨Nat.le_trans hc hroom.2.2.1, Nat.le_trans hs hroom.2.2.2⟩) kk kx
/-- a method of the one string -/
theorem aw_callT (hM : aC l G M2 (ws_ M2.1 M2.2.1 M2.2.2.1 M2.2.2.2.1) d2 mc2 ms2 (.ref G.2.1.2.1 :: As) h P2) (hy : M2.1.cls = "java/lang/String") (hn : aNoMH M2.1 As.length) (q1 : Cond.methodLink M.1.cls index M2.1 ∈ lw_all) (q2 : Cond.instanceMethod M2.1 ∈ lw_all) (q3 : Cond.selects "java/lang/String" M2.1 M2.1 ∈ lw_all) (q4 : Cond.initialized "java/lang/String" ∈ lw_all) (q5 : Cond.code M2.1 M2.2.1 M2.2.2.1 M2.2.2.2.1 ∈ lw_all) (hd : decode M.2.1 pc = .ok (.invokevirtual index, 3)) (hstk : st = As.reverse ++ .ref G.2.1.2.1 :: rest) (hdd : d2 + 1 ≤ d) (hm : M2.2.2.1 ≤ 40) (hrm : (rest.map fun v => v.category).sum ≤ 8) (hc : c0 + mc2 ≤ mc) (hs : s0 + ms2 ≤ ms)
    (kk : ∀ (v : Option Value) (h' : aH), P2 (.inl v) h' → AW l G M d mc ms P (pc + 3) lv (v.toList ++ rest) h' (c0 + mc2) (s0 + ms2))
    (kx : ∀ (E : String) (h' : aH), P2 (.inr E) h' → AX l G M d mc ms P pc lv h' E (c0 + mc2) (s0 + ms2)) : AW l G M d mc ms P pc lv st h c0 s0 := by
  intro p e R s m args below meth c A C H locs ls hR hD hS hl
  have C0 := C
  obtain ⟨hx, hb, hml, hret, hnm, hown, hts, hlk, hroom, hK, htab, hst, hA⟩ := C
  obtain ⟨-, -, -, -, -, hO, -⟩ := hK.2.2.2.2.2.2
  obtain ⟨cell9, z1, z2, z3, -⟩ := hO.kept hS.2.1
  exact aw_back 3 C0 hD hS hl (vx_runV ⟨hx, hb, hml, hown, hts⟩ (hM H.size) (cwV As.length hts (lw_V q1 q2 q3 q4 q5) rfl rfl rfl ⟨hy, hn⟩ ⟨Nat.le_trans hdd hroom.1, by have h8 := hroom.2.1; show 8 + (M2.2.2.1 + 11) + 64 * d2 ≤ R.locals; omega⟩) ⟨aC_blind, ⟨cell9, z1, z2, z3⟩, aC_pre hR hD hS hA hK⟩ rfl rfl hl.1 hstk (lv_room hrm) hd ⟨Nat.le_trans hc hroom.2.2.1, Nat.le_trans hs hroom.2.2.2⟩) kk kx
/-- methods with handlers -/
theorem aw_callVW (hM : aC l G M2 (wsW_ M2.1 M2.2.1 M2.2.2.1 M2.2.2.2.1 M2.2.2.2.2) d2 mc2 ms2 (.ref b :: As) h P2) {Cn : String} {T : u_T} {N ci : Nat} {fs : List Value} (he : h b = some (.inr (ci, fs))) (hcl : aCl[ci]? = some (Cn, T, N)) (hy : M2.1.cls = Cn) (hn : aNoMH M2.1 As.length) (q1 : Cond.methodLink M.1.cls index M2.1 ∈ lw_all) (q2 : Cond.instanceMethod M2.1 ∈ lw_all) (q3 : Cond.selects Cn M2.1 M2.1 ∈ lw_all) (q4 : Cond.initialized Cn ∈ lw_all) (q5 : Cond.codeWith M2.1 M2.2.1 M2.2.2.1 M2.2.2.2.1 M2.2.2.2.2 ∈ lw_all) (hd : decode M.2.1 pc = .ok (.invokevirtual index, 3)) (hstk : st = As.reverse ++ .ref b :: rest) (hdd : d2 + 1 ≤ d) (hm : M2.2.2.1 ≤ 40) (hrm : (rest.map fun v => v.category).sum ≤ 8) (hc : c0 + mc2 ≤ mc) (hs : s0 + ms2 ≤ ms)
    (kk : ∀ (v : Option Value) (h' : aH), P2 (.inl v) h' → AW l G M d mc ms P (pc + 3) lv (v.toList ++ rest) h' (c0 + mc2) (s0 + ms2))
    (kx : ∀ (E : String) (h' : aH), P2 (.inr E) h' → AX l G M d mc ms P pc lv h' E (c0 + mc2) (s0 + ms2)) : AW l G M d mc ms P pc lv st h c0 s0 := by
  intro p e R s m args below meth c A C H locs ls hR hD hS hl
  have C0 := C
  obtain ⟨hx, hb, hml, hret, hnm, hown, hts, hlk, hroom, hK, htab, hst, hA⟩ := C
  exact aw_back 3 C0 hD hS hl (vx_runVX ⟨hx, hb, hml, hown, hts⟩ (hM H.size) (vx_cwVW As.length hts (lw_VW q1 q2 q3 q4 q5) rfl rfl rfl ⟨hy, hn⟩ ⟨Nat.le_trans hdd hroom.1, by have h8 := hroom.2.1; show 8 + (M2.2.2.1 + 11) + 64 * d2 ≤ R.locals; omega⟩) ⟨aC_blind, (va_recv (q0 := 0) (fs := fs) hK.1 (hR.one he) hcl rfl), aC_pre hR hD hS hA hK⟩ rfl rfl hl.1 hstk (lv_room hrm) hd ⟨Nat.le_trans hc hroom.2.2.1, Nat.le_trans hs hroom.2.2.2⟩) kk kx
theorem aw_callSW (hM : aC l G M2 (wsW_ M2.1 M2.2.1 M2.2.2.1 M2.2.2.2.1 M2.2.2.2.2) d2 mc2 ms2 As h P2) (hn : aNoMH M2.1 As.length) (q1 : Cond.methodLink M.1.cls index M2.1 ∈ lw_all) (q2 : Cond.static M2.1 ∈ lw_all) (q3 : Cond.initialized M2.1.cls ∈ lw_all) (q4 : Cond.codeWith M2.1 M2.2.1 M2.2.2.1 M2.2.2.2.1 M2.2.2.2.2 ∈ lw_all) (hd : decode M.2.1 pc = .ok (.invokestatic index, 3)) (hstk : st = As.reverse ++ rest) (hdd : d2 + 1 ≤ d) (hm : M2.2.2.1 ≤ 40) (hrm : (rest.map fun v => v.category).sum ≤ 8) (hc : c0 + mc2 ≤ mc) (hs : s0 + ms2 ≤ ms)
    (kk : ∀ (v : Option Value) (h' : aH), P2 (.inl v) h' → AW l G M d mc ms P (pc + 3) lv (v.toList ++ rest) h' (c0 + mc2) (s0 + ms2))
    (kx : ∀ (E : String) (h' : aH), P2 (.inr E) h' → AX l G M d mc ms P pc lv h' E (c0 + mc2) (s0 + ms2)) : AW l G M d mc ms P pc lv st h c0 s0 := by
  intro p e R s m args below meth c A C H locs ls hR hD hS hl
  have C0 := C
  obtain ⟨hx, hb, hml, hret, hnm, hown, hts, hlk, hroom, hK, htab, hst, hA⟩ := C
  exact aw_back 3 C0 hD hS hl (vx_runSX ⟨hx, hb, hml, hown, hts⟩ (hM H.size) (vx_cwSW As.length hts (lw_SW q1 q2 q3 q4) rfl rfl rfl hn ⟨Nat.le_trans hdd hroom.1, by have h8 := hroom.2.1; show 8 + (M2.2.2.1 + 11) + 64 * d2 ≤ R.locals; omega⟩) ⟨aC_blind, aC_pre hR hD hS hA hK⟩ rfl rfl hl.1 hstk (lv_room hrm) hd ⟨Nat.le_trans hc hroom.2.2.1, Nat.le_trans hs hroom.2.2.2⟩) kk kx
/-- not caught here -/
theorem aX_out {E : String} (hp : P (.inr E) h) (hh : M.2.2.2.2 = []) (hc : c0 ≤ mc) (hs : s0 ≤ ms) : AX l G M d mc ms P pc lv h E c0 s0 := by
  intro p e R s m args below meth c A C H locs ls rest q ce hR hD hS hl hq hv hcl
  have C0 := C
  obtain ⟨hx, hb, hml, hret, hnm, hown, hts, hlk, hroom, hK, htab, hst, hA⟩ := C
  refine vx_out (fun x hx9 => ?_) hlk hq hv hcl (fun t ht hal => ⟨⟨h, hp, by rw [ht]; exact hR, hD⟩, hS.F ht⟩) hS.2.2 hc hs
  rw [htab, hh] at hx9
  cases hx9
/-- caught by a row of the table; the rows ahead are of other classes or of other places -/
theorem aX_catch {E nm : String} (pre : List ExceptionTableEntry) (x : ExceptionTableEntry) (suf : List ExceptionTableEntry) (hsp : tableOf M.2.2.2.2 = pre ++ x :: suf) (hpass : ∀ z ∈ pre, covers z pc = false ∨ (z.catchType ≠ 0 ∧ ∃ nm : String, Cond.classLink M.1.cls z.catchType nm ∈ lw_all ∧ (E, nm) ∈ aNcs)) (hx9 : covers x pc = true) (h0 : x.catchType ≠ 0) (hw1 : Cond.classLink M.1.cls x.catchType nm ∈ lw_all) (hw2 : Cond.castable E nm ∈ lw_tbl)
    (kk : ∀ q : Nat, AW l G M d mc ms P x.handlerPc lv [.ref q] h c0 s0) : AX l G M d mc ms P pc lv h E c0 s0 := by
  intro p e R s m args below meth c A C H locs ls rest q ce hR hD hS hl hq hv hcl
  have C0 := C
  obtain ⟨hx, hb, hml, hret, hnm, hown, hts, hlk, hroom, hK, htab, hst, hA⟩ := C
  exact vx_catch hown pre x suf (htab.trans hsp) (fun z hz => (hpass z hz).imp id fun ⟨z0, nm9, g1, g2⟩ => ⟨z0, nm9, hts _ g1, hK.2.2.2.1 _ g2⟩) hx9 h0 (hts _ hw1) (va_Nw.use rfl (hK.2.1 _ hw2 rfl)) hq hv hcl (kk q p e R s m args below meth c A C0 H locs ls hR hD hS hl)
theorem aX_no {E : String} (hf : False) : AX l G M d mc ms P pc lv h E c0 s0 := hf.elim
/-- throw new E() -/
theorem aw_throw0 {cls : String} {names : List String} {ik ic : Nat} (hcls : Bundle.fit cls = true) (hnames : ∀ n ∈ names, Bundle.fit n = true) (hw1 : Cond.classLink M.1.cls ik cls ∈ lw_all) (hw2 : Cond.initialized cls ∈ lw_all) (hat : ∀ w ∈ vx_at0 M.1.cls ic cls names, w ∈ lw_all ∨ (w ∈ lw_tbl ∧ aXw w = true)) (hgood : ∀ w ∈ Cond.classLink M.1.cls ik cls :: Cond.initialized cls :: vx_at0 M.1.cls ic cls names, vx_ot w = true)
    (d0 : decode M.2.1 pc = .ok (.new ik, 3)) (d3 : decode M.2.1 (pc + 3) = .ok (.dup, 1)) (d4 : decode M.2.1 (pc + 4) = .ok (.invokespecial ic, 3)) (d7 : decode M.2.1 (pc + 7) = .ok (.athrow, 1)) (hh : M.2.2.2.2 = []) (hd1 : names.length + 4 ≤ d) (hr : (rest.map fun v => v.category).sum ≤ 8) (hc : c0 + 1 ≤ mc) (hs : s0 + 6 ≤ ms) (hp : P (.inr cls) h) : AW l G M d mc ms P pc lv rest h c0 s0 := by
  intro p e R s m args below meth c A C H locs ls hR hD hS hl
  have C0 := C
  obtain ⟨hx, hb, hml, hret, hnm, hown, hts, hlk, hroom, hK, htab, hst, hA⟩ := C
  obtain ⟨-, -, -, z4, z5, -⟩ := hK.2.2.2.2.2.2
  refine vx_throw0 hx hb hst hown hcls hnames (hts _ hw1) (hts _ hw2) (fun w hw => (hat w hw).elim (fun q => hts _ q) (fun q => ?_)) hgood z4 z5 hS (by rw [hml]; exact hl.1) d0 d3 d4 d7 (fun x hx9 => by rw [htab, hh] at hx9; cases hx9) (by have h8 := hroom.1; omega) (by have h8 := hroom.2.1; omega) (Nat.le_trans hc hroom.2.2.1) (Nat.le_trans hs hroom.2.2.2) hlk (fun t hal hz hk => ⟨⟨h, hp, fun a x he => (hR a x he).kept (hk a (hR.lt he)), hD⟩, Nat.le_trans hS.1 hz, fun q h1 h2 => (hk q (Nat.lt_of_lt_of_le h1 hS.1)).trans (hS.2.1 q h1 h2)⟩) hS.2.2 hc hs
  have q2 := hK.2.1 w q.1 q.2
  cases w with
  | arrayOver t => exact q2
  | fieldLinkNest a i b n d q => exact va_Nw.use rfl q2
  | methodLinkNest a i x q => exact va_Nw.use rfl q2
  | castable C T => exact va_Nw.use rfl q2
  | declares x => exact va_Nw.use rfl q2
  | publicMethod x => exact va_Nw.use rfl q2
  | privateMethod x => exact va_Nw.use rfl q2
  | unhidden C n d => exact va_Nw.use rfl q2
  | _ => exact absurd q.2 (by simp [aXw])
end AWZ
