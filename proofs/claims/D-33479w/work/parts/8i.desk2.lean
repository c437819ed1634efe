/-! desks
-/
set_option maxRecDepth 100000
/-- a desk: its object, its puzzle, its board; FD: all that is its own -/
def DK (I : Nat → Prop) (h : aH) (d : Nat) (FD : List Nat) (p : Pz) (u : Nat → Nat) : Prop := ∃ (a b th : Nat) (F FB : List Nat) (f : Nat → Int32), FD = d :: (F ++ FB) ∧ FD.Nodup ∧ (∀ q ∈ FD, ¬ I q) ∧ h d = some (aObj 2 [.ref a, .ref b]) ∧ PZ I h a F p ∧ BRD h b a th FB f ∧ ∀ c, c < p.n * p.n → f c = i3 (u c) ∧ u c < 2 ^ (p.m + 1)
theorem DK.kp {I I' S : Nat → Prop} {h h' : aH} {d : Nat} {FD : List Nat} {p : Pz} {u : Nat → Nat} (hD : DK I h d FD p u) (hk : kp S h h') (hF : ∀ q ∈ FD, ¬ S q) (hd : ∀ q, I q → ¬ S q) (hI : ∀ q, I q → I' q) (hI2 : ∀ q ∈ FD, ¬ I' q) : DK I' h' d FD p u := by
  obtain ⟨a, b, th, F, FB, f, e, hN, hn, ho, hP, hB, hf⟩ := hD
  have m1 : ∀ q ∈ F, q ∈ FD := fun q hq => by rw [e]; exact List.mem_cons_of_mem _ (List.mem_append_left _ hq)
  have m2 : ∀ q ∈ FB, q ∈ FD := fun q hq => by rw [e]; exact List.mem_cons_of_mem _ (List.mem_append_right _ hq)
  exact ⟨a, b, th, F, FB, f, e, hN, hI2, hk _ _ ho (hF d (by rw [e]; simp)), hP.kp hk (fun q hq => hF q (m1 q hq)) hd hI (fun q hq => hI2 q (m1 q hq)), hB.kp hk (fun q hq => hF q (m2 q hq)), hf⟩
theorem PZ_some {I : Nat → Prop} {h : aH} {a : Nat} {F : List Nat} {p : Pz} (hP : PZ I h a F p) : ∀ q ∈ F, h q ≠ none := by
  obtain ⟨tl, ls, lo, rw, ar, T, sec, ⟨eF, _, _, y1, y2, ⟨R, y3, _⟩, y4, ⟨L, y5⟩, _⟩, -⟩ := hP.pw
  intro q hq
  rw [eF] at hq
  simp only [List.mem_cons, List.mem_map, List.mem_range] at hq
  rcases hq with rfl | rfl | rfl | rfl | ⟨i, hi, rfl⟩
  · rw [y1]; simp
  · rw [y2]; simp
  · rw [y3]; simp
  · rw [y5]; simp
  · obtain ⟨f, y⟩ := y4 i hi; rw [y]; simp
theorem BRD_some {h : aH} {b a th : Nat} {FB : List Nat} {f : Nat → Int32} (hB : BRD h b a th FB f) : ∀ q ∈ FB, h q ≠ none := by
  obtain ⟨rb, rr, R, e, h1, h2, h3, h4⟩ := hB
  intro q hq
  rw [e] at hq
  simp only [List.mem_cons, List.mem_map, List.mem_range] at hq
  rcases hq with rfl | rfl | rfl | ⟨i, hi, rfl⟩
  · rw [h1]; simp
  · rw [h2]; simp
  · rw [h3]; simp
  · obtain ⟨-, g, y⟩ := h4 i hi; rw [y]; simp
theorem DK_some {I : Nat → Prop} {h : aH} {d : Nat} {FD : List Nat} {p : Pz} {u : Nat → Nat} (hD : DK I h d FD p u) : ∀ q ∈ FD, h q ≠ none := by
  obtain ⟨a, b, th, F, FB, f, e, hN, hn, ho, hP, hB, hf⟩ := hD
  intro q hq
  rw [e] at hq
  rcases List.mem_cons.mp hq with rfl | hq
  · rw [ho]; simp
  · rcases List.mem_append.mp hq with hq | hq
    · exact (PZ_some hP) q hq
    · exact (BRD_some hB) q hq
theorem BRD.mem {h : aH} {b a th : Nat} {FB : List Nat} {f : Nat → Int32} (hB : BRD h b a th FB f) : b ∈ FB ∧ th ∈ FB := by
  obtain ⟨rb, rr, R, e, -⟩ := hB
  rw [e]; simp
/-- the things of a board are other ones now -/
theorem BRD_set {h h' : aH} {b a th : Nat} {FB : List Nat} {f g : Nat → Int32} (hB : BRD h b a th FB f) (hk : ∀ q e, h q = some e → ¬ q = th → h' q = some e) (he : h' th = some (aInts .int 25 g)) : BRD h' b a th FB g := by
  obtain ⟨rb, rr, R, e, h1, h2, h3, h4⟩ := hB
  refine ⟨rb, rr, R, e, hk _ _ h1 (fun z => by rw [z, h2] at h1; cases h1), he, hk _ _ h3 (fun z => by rw [z, h2] at h3; cases h3), fun i hi => ?_⟩
  obtain ⟨k1, g, k2⟩ := h4 i hi
  exact ⟨k1, g, hk _ _ k2 (fun z => by rw [z, h2] at k2; cases k2)⟩
section DSK
variable {l : Launch} {G : aG} {I : Nat → Prop} {h : aH} {d : Nat}
theorem B_init2 (hl : l.stackTraces = false) (ho : h d = some (aObj 2 [.null, .null])) (hId : ¬ I d) (hI0 : ∀ q, I q → h q ≠ none) :
    aC l G mX2_init (wsN mX2_init) 17 267 24794 [.ref d] h (aPR fun v h' => v = none ∧ ∃ I' FD, extI I I' h ∧ (∀ q, I' q → h' q ≠ none) ∧ kp (· = d) h h' ∧ (∀ q ∈ FD, q = d ∨ h q = none) ∧ DK I' h' d FD (Pz.new 4 3) (fun _ => 15)) := by
  refine A_X2_init hl ⟨by decide, by decide, by decide, fun a ha _ => ?_⟩
  have nad : a ≠ d := fun z => by rw [z, ho] at ha; cases ha
  have hIa : ¬ I a := fun z => hI0 a z ha
  have k0 : kp (fun _ => False) h (aUp h a (aObj 3 [.null, .null, .null, .null, .int 0, .int 0, .int 0, .int 0])) := kp.new ha
  have hI1 : ∀ q, I q → (aUp h a (aObj 3 [.null, .null, .null, .null, .int 0, .int 0, .int 0, .int 0])) q ≠ none := by
    intro q hq
    cases w : h q with
    | none => exact absurd w (hI0 q hq)
    | some y => rw [k0 _ _ w id]; simp
  refine vC_r (B_init3 (I := I) hl aUp_eq hIa hI1) (by decide) (by decide) (by decide) fun v h1 hR => ?_
  obtain ⟨hv, I1, F, ⟨i1, i2⟩, i3', k1, hF1, hP1⟩ := hR
  refine ⟨hv, ?_⟩
  have kk1 : kp (fun _ => False) h h1 := fun x y hx _ => k1 _ _ (k0 _ _ hx id) (fun z => by rw [z, ha] at hx; cases hx)
  have low1 : ∀ x, (aUp h a (aObj 3 [.null, .null, .null, .null, .int 0, .int 0, .int 0, .int 0])) x = none → h x = none := fun x hx => by
    cases w : h x with
    | none => rfl
    | some y => rw [k0 _ _ w id] at hx; cases hx
  have hF0 : ∀ q ∈ F, h q = none := fun q hq => by
    rcases hF1 q hq with z | z
    · rw [z]; exact ha
    · exact low1 q z
  have ext1 : extI I I1 h := ⟨i1, fun q hq => (i2 q hq).imp id (low1 q)⟩
  have hdF : d ∉ F := fun z => by have := hF0 d z; rw [ho] at this; cases this
  have hPn1 : ∀ q ∈ F, ¬ I1 q := by
    obtain ⟨_, _, _, _, _, _, _, _, _, _, _, _, _, hn, _⟩ := hP1; exact hn
  have hId1 : ¬ I1 d := fun z => (ext1.2 d z).elim hId (fun w => by rw [ho] at w; cases w)
  have od1 := kk1 _ _ ho id
  refine vPut_mk od1 (by show 0 < 2; decide) ⟨by decide, by decide, fun b hb _ => ?_⟩
  generalize hg2 : aUp h1 d (.inr (2, [Value.null, .null].set 0 (.ref a))) = h2 at hb ⊢
  have k2 : kp (· = d) h1 h2 := by rw [← hg2]; exact kp.up rfl
  have od2 : h2 d = some (aObj 2 [.ref a, .null]) := by rw [← hg2]; exact aUp_eq
  have hP2 : PZ I1 h2 a F (Pz.new 4 3) := hP1.kp k2 (fun q hq z => hdF (by rw [← z]; exact hq)) (fun q hq z => hId1 (by rw [← z]; exact hq)) (fun _ h => h) hPn1
  have nbd : b ≠ d := fun z => by rw [z, od2] at hb; cases hb
  have hbF : b ∉ F := fun z => (PZ_some hP2) b z hb
  have kk2 : kp (· = d) h h2 := (kk1.mono fun _ => False.elim).tr k2
  have low2 : ∀ x, h2 x = none → h x = none := fun x hx => by
    cases w : h x with
    | none => rfl
    | some y =>
      by_cases z : x = d
      · rw [z, od2] at hx; cases hx
      · rw [kk2 _ _ w z] at hx; cases hx
  have hI2 : ∀ q, I1 q → h2 q ≠ none := by
    intro q hq
    cases w : h1 q with
    | none => exact absurd w (i3' q hq)
    | some y => rw [k2 _ _ w (fun z => hId1 (by rw [← z]; exact hq))]; simp
  have hIb : ¬ I1 b := fun z => hI2 b z hb
  have od3 : (aUp h2 b (aObj 5 [.null, .null, .null])) d = some (aObj 2 [.ref a, .null]) := by rw [aUp_ne (Ne.symm nbd)]; exact od2
  have k3 : kp (fun _ => False) h2 (aUp h2 b (aObj 5 [.null, .null, .null])) := kp.new hb
  have hP3 : PZ I1 (aUp h2 b (aObj 5 [.null, .null, .null])) a F (Pz.new 4 3) := hP2.kp k3 (fun _ _ => id) (fun _ _ => id) (fun _ h => h) hPn1
  have hI3 : ∀ q, I1 q → (aUp h2 b (aObj 5 [.null, .null, .null])) q ≠ none := by
    intro q hq
    cases w : h2 q with
    | none => exact absurd w (hI2 q hq)
    | some y => rw [k3 _ _ w id]; simp
  refine vR_mk od3 rfl ?_
  refine vC_r (B_init5 (I := I1) hl hP3 aUp_eq hbF hIb hI3 (PZ_some hP3)) (by decide) (by decide) (by decide) fun v h4 hR => ?_
  obtain ⟨hv4, k4, th, FB, f, hB, hNB, hFB, hf⟩ := hR
  have od4 := k4 _ _ od3 (Ne.symm nbd)
  have hFB0 : ∀ q ∈ FB, h q = none ∧ h2 q = none := fun q hq => by
    rcases hFB q hq with z | z
    · rw [z]; exact ⟨low2 b hb, hb⟩
    · have : h2 q = none := by
        cases w : h2 q with
        | none => rfl
        | some y => rw [k3 _ _ w id] at z; cases z
      exact ⟨low2 q this, this⟩
  have hdB : d ∉ FB := fun z => by have := (hFB0 d z).1; rw [ho] at this; cases this
  refine ⟨hv4, vPut_mk od4 (by show 1 < 2; decide) ?_⟩
  have k5 : kp (· = d) h4 (aUp h4 d (.inr (2, [Value.ref a, .null].set 1 (.ref b)))) := kp.up rfl
  have kk4 : kp (fun _ => False) h2 h4 := fun x y hx _ => k4 _ _ (k3 _ _ hx id) (fun z => by rw [z, hb] at hx; cases hx)
  have hP4 : PZ I1 h4 a F (Pz.new 4 3) := hP2.kp kk4 (fun _ _ => id) (fun _ _ => id) (fun _ h => h) hPn1
  refine ⟨rfl, I1, d :: (F ++ FB), ext1, fun q hq => ?_, fun x y hx hxd => ?_, fun q hq => ?_, a, b, th, F, FB, f, rfl, ?_, fun q hq => ?_, aUp_eq, hP4.kp k5 (fun q hq z => hdF (by rw [← z]; exact hq)) (fun q hq z => hId1 (by rw [← z]; exact hq)) (fun _ h => h) hPn1, hB.kp k5 (fun q hq z => hdB (by rw [← z]; exact hq)), fun c hc => ⟨hf c hc, by show 15 < 2 ^ (3 + 1); decide⟩⟩
  · cases w : h2 q with
    | none => exact absurd w (hI2 q hq)
    | some y => rw [k5 _ _ (kk4 _ _ w id) (fun z => hId1 (by rw [← z]; exact hq))]; simp
  · exact k5 _ _ (kk4 _ _ (kk2 _ _ hx hxd) id) hxd
  · rcases List.mem_cons.mp hq with z | hq
    · exact Or.inl z
    · rcases List.mem_append.mp hq with hq | hq
      · exact Or.inr (hF0 q hq)
      · exact Or.inr (hFB0 q hq).1
  · rw [List.nodup_cons, List.nodup_append]
    have hNF : F.Nodup := by
      obtain ⟨_, _, _, _, _, _, _, _, _, _, _, _, hN, _⟩ := hP1; exact hN
    refine ⟨fun z => (List.mem_append.mp z).elim hdF hdB, hNF, hNB, fun x hx y hy z => ?_⟩
    subst z
    exact (PZ_some hP2) x hx (hFB0 x hy).2
  · rcases List.mem_cons.mp hq with rfl | hq
    · exact hId1
    · rcases List.mem_append.mp hq with hq | hq
      · exact hPn1 q hq
      · exact fun z => hI2 q z (hFB0 q hq).2
/-- a desk set as another one -/
theorem B_setAll2 (hl : l.stackTraces = false) {d2 : Nat} {FD FD2 : List Nat} {p0 p : Pz} {u0 u : Nat → Nat} (hD : DK I h d FD p0 u0) (hD2 : DK I h d2 FD2 p u) (hdj : ∀ q ∈ FD2, q ∉ FD) (hI0 : ∀ q, I q → h q ≠ none) :
    aC l G mX2_setAll (wsN mX2_setAll) 16 243 24611 [.ref d, .ref d2] h (aPR fun v h' => v = none ∧ ∃ I', extI I I' h ∧ (∀ q, I' q → h' q ≠ none) ∧ kp (· ∈ FD) h h' ∧ DK I' h' d FD p u) := by
  have hsome := (DK_some hD)
  obtain ⟨a, b, th, F, FB, f, e, hN, hn, ho, hP, hB, hf⟩ := hD
  obtain ⟨a2, b2, th2, F2, FB2, f2, e2, hN2, hn2, ho2, hP2, hB2, hf2⟩ := hD2
  have m0 : d ∈ FD := by rw [e]; simp
  have m1 : ∀ q ∈ F, q ∈ FD := fun q hq => by rw [e]; exact List.mem_cons_of_mem _ (List.mem_append_left _ hq)
  have m2 : ∀ q ∈ FB, q ∈ FD := fun q hq => by rw [e]; exact List.mem_cons_of_mem _ (List.mem_append_right _ hq)
  have s0 : d2 ∈ FD2 := by rw [e2]; simp
  have s1 : ∀ q ∈ F2, q ∈ FD2 := fun q hq => by rw [e2]; exact List.mem_cons_of_mem _ (List.mem_append_left _ hq)
  have s2 : ∀ q ∈ FB2, q ∈ FD2 := fun q hq => by rw [e2]; exact List.mem_cons_of_mem _ (List.mem_append_right _ hq)
  have hN' := hN
  rw [e, List.nodup_cons, List.nodup_append] at hN'
  obtain ⟨nd, nF, nB, nFB⟩ := hN'
  have hdF : d ∉ F := fun z => nd (List.mem_append_left _ z)
  have hdB : d ∉ FB := fun z => nd (List.mem_append_right _ z)
  have hBF : ∀ q ∈ FB, q ∉ F := fun q hq z => nFB q z q hq rfl
  obtain ⟨tl, ls, lo, rw, ar, T, sec, hW, -⟩ := hP.pw
  refine A_X2_setAll hl (vR_mk ho rfl (vR_mk ho2 rfl ⟨⟨_, hW.2.2.2.1⟩, ?_⟩))
  refine vC_r (B_setAll3 hl hW hP2 (fun q hq z => hdj q (s1 q hq) (m1 q z)) hI0) (by decide) (by decide) (by decide) fun v h1 hR => ?_
  obtain ⟨hv, I1, ext1, i3', k1, hP1⟩ := hR
  refine ⟨hv, ?_⟩
  have od1 := k1 _ _ ho hdF
  have od21 := k1 _ _ ho2 (fun z => hdj d2 s0 (m1 _ z))
  have hB1 := hB.kp k1 (fun q hq => hBF q hq)
  have hB21 := hB2.kp k1 (fun q hq z => hdj q (s2 q hq) (m1 q z))
  have hI1FD : ∀ q ∈ FD, ¬ I1 q := fun q hq z => (ext1.2 q z).elim (hn q hq) (fun w => hsome q hq w)
  obtain ⟨mb, mt⟩ := hB.mem
  obtain ⟨rb, rr, R, eB, b1, b2', b3, b4⟩ := hB1
  obtain ⟨rb2, rr2, R2, eB2, c1, c2, c3, c4⟩ := hB21
  refine vR_mk od1 rfl (vR_mk od21 rfl ⟨⟨_, b1⟩, ?_⟩)
  refine vC_r (B_setThings hl c1 c2 b1 b2') (by decide) (by decide) (by decide) fun v2 h2 hR2 => ?_
  obtain ⟨hv2, k2, g, e3, hg⟩ := hR2
  have hBn : BRD h2 b a th FB g := BRD_set (f := f) ⟨rb, rr, R, eB, b1, b2', b3, b4⟩ k2 e3
  have hnn := nn_le hP2.ok.n45
  have htF : th ∉ F := hBF th mt
  have hPn1 : ∀ q ∈ F, ¬ I1 q := fun q hq => hI1FD q (m1 q hq)
  refine ⟨hv2, rfl, I1, ext1, fun q hq => ?_, (k1.mono fun q hq => m1 q hq).tr (k2.mono fun q z => by rw [z]; exact m2 _ mt), a, b, th, F, FB, g, e, hN, hI1FD, k2 _ _ od1 (fun z => hdB (by rw [z]; exact mt)), hP1.kp k2 (fun q hq z => htF (by rw [← z]; exact hq)) (fun q hq z => hI1FD th (m2 _ mt) (by rw [← z]; exact hq)) (fun _ h => h) hPn1, hBn, fun c hc => ?_⟩
  · cases w : h1 q with
    | none => exact absurd w (i3' q hq)
    | some y => rw [k2 _ _ w (fun z => hI1FD th (m2 _ mt) (by rw [← z]; exact hq))]; simp
  · rw [hg c (by omega)]; exact hf2 c hc
theorem B_copy2 (hl : l.stackTraces = false) {FD : List Nat} {p : Pz} {u : Nat → Nat} (hD : DK I h d FD p u) (hI0 : ∀ q, I q → h q ≠ none) :
    aC l G mX2_copy (wsN mX2_copy) 18 511 49407 [.ref d] h (aPR fun v h' => ∃ d', v = some (.ref d') ∧ h d' = none ∧ ∃ I' FD', extI I I' h ∧ (∀ q, I' q → h' q ≠ none) ∧ kp (fun _ => False) h h' ∧ (∀ q ∈ FD', h q = none) ∧ DK I' h' d' FD' p u) := by
  refine A_X2_copy hl ⟨by decide, by decide, fun d' hd' _ => ?_⟩
  have k0 : kp (fun _ => False) h (aUp h d' (aObj 2 [.null, .null])) := kp.new hd'
  have hId : ¬ I d' := fun z => hI0 d' z hd'
  have hI1 : ∀ q, I q → (aUp h d' (aObj 2 [.null, .null])) q ≠ none := by
    intro q hq
    cases w : h q with
    | none => exact absurd w (hI0 q hq)
    | some y => rw [k0 _ _ w id]; simp
  refine vC_r (B_init2 (I := I) hl aUp_eq hId hI1) (by decide) (by decide) (by decide) fun v h1 hR => ?_
  obtain ⟨hv, I1, FD', ext1, i1, k1, hF1, hD1⟩ := hR
  have low : ∀ x, (aUp h d' (aObj 2 [.null, .null])) x = none → h x = none := fun x hx => by
    cases w : h x with
    | none => rfl
    | some y => rw [k0 _ _ w id] at hx; cases hx
  have hF0 : ∀ q ∈ FD', h q = none := fun q hq => by
    rcases hF1 q hq with z | z
    · rw [z]; exact hd'
    · exact low q z
  have ext1' : extI I I1 h := ⟨ext1.1, fun q hq => (ext1.2 q hq).imp id (low q)⟩
  have kk1 : kp (fun _ => False) h h1 := fun x y hx _ => k1 _ _ (k0 _ _ hx id) (fun z => by rw [z, hd'] at hx; cases hx)
  have hDx : DK I1 h1 d FD p u := hD.kp kk1 (fun _ _ => id) (fun _ _ => id) ext1'.1 (fun q hq z => by
    rcases ext1'.2 q z with w | w
    · obtain ⟨_, _, _, _, _, _, _, _, hn, _⟩ := hD; exact hn q hq w
    · exact (DK_some hD) q hq w)
  have hdj : ∀ q ∈ FD, q ∉ FD' := fun q hq z => (DK_some hD) q hq (hF0 q z)
  have od1 : ∃ fs, h1 d' = some (.inr (2, fs)) := by obtain ⟨_, _, _, _, _, _, _, _, _, ho, _⟩ := hD1; exact ⟨_, ho⟩
  refine ⟨hv, od1, ?_⟩
  refine vC_r (B_setAll2 hl hD1 hDx hdj i1) (by decide) (by decide) (by decide) fun v2 h2 hR2 => ?_
  obtain ⟨hv2, I2, ext2, i2, k2, hD2⟩ := hR2
  refine ⟨hv2, d', rfl, hd', I2, FD', ⟨fun q hq => ext2.1 q (ext1'.1 q hq), fun q hq => ?_⟩, i2, fun x y hx _ => k2 _ _ (kk1 _ _ hx id) (fun z => by have := hF0 x z; rw [hx] at this; cases this), hF0, hD2⟩
  rcases ext2.2 q hq with z | z
  · exact ext1'.2 q z
  · refine Or.inr ?_
    cases w : h q with
    | none => rfl
    | some y => rw [kk1 _ _ w id] at z; cases z
end DSK
