/-! the component's beginning
-/
set_option maxRecDepth 100000
noncomputable def nt (h : aH) (tg : Nat → Nat) (k : Nat) : Nat → Nat := fun q => @ite _ (h q ≠ none) (Classical.propDecidable _) (tg q) k
theorem nt_o {h : aH} {tg : Nat → Nat} {k q : Nat} (hq : h q ≠ none) : nt h tg k q = tg q := if_pos hq
theorem nt_n {h : aH} {tg : Nat → Nat} {k q : Nat} (hq : h q = none) : nt h tg k q = k := if_neg (fun z => z hq)
def initS : ST := ((Pz.new 4 3, fun _ => 15), [], (fun _ => none), [])
section XO
variable {Z : zT} {l : Launch} {G : aG} {h : aH} {x : Nat}
theorem kp_new {S : Nat → Prop} {h h' : aH} {a : Nat} {e : aE} (ha : h a = none) (hk : kp (· = a) (aUp h a e) h') : kp S h h' := fun q y hq _ => hk q y (by rw [aUp_ne (fun z => by rw [z, ha] at hq; cases hq)]; exact hq) (fun z => by rw [z, ha] at hq; cases hq)
theorem kp_none {S : Nat → Prop} {h h' : aH} {q : Nat} (hk : kp S h h') (hS : ¬ S q) (hq : h' q = none) : h q = none := by
  cases z : h q with
  | none => rfl
  | some y => rw [hk _ _ z hS] at hq; cases hq
theorem kp_some {S : Nat → Prop} {h h' : aH} {q : Nat} (hk : kp S h h') (hS : ¬ S q) (hq : h q ≠ none) : h' q ≠ none := by
  cases z : h q with
  | none => exact absurd z hq
  | some y => rw [hk _ _ z hS]; simp
theorem B_xinit (hl : l.stackTraces = false) (hx : h x = some (aObj 1 [.null, .null, .null, .null, .null, .null, .null, .null])) (hZ : ∀ q e, Z q = some e → h q = some e ∧ q ≠ x) : aC l G mX1_init (wsN mX1_init) 20 300 26000 [.ref x] h (aPR fun v h' => v = none ∧ WS Z G h' x initS ∧ kp (· = x) h h') := by
  refine A_X1_init hl ⟨by decide, by decide, by decide, fun d hd _ => ?_⟩
  have hxd : x ≠ d := fun e => by rw [e, hd] at hx; cases hx
  refine vC_r (B_init2 (I := fun _ => False) hl aUp_eq id (fun _ => False.elim)) (by decide) (by decide) (by decide) fun v h2 hR => ?_
  obtain ⟨hv, I, FD, ext1, i1, k1, hF1, hD⟩ := hR
  have hInew : ∀ q, I q → h q = none ∧ q ≠ d := fun q hq => by
    rcases ext1.2 q hq with z | z
    · exact z.elim
    · have hqd : q ≠ d := fun e => by rw [e, aUp_eq] at z; cases z
      exact ⟨by rw [aUp_ne hqd] at z; exact z, hqd⟩
  have hFnew : ∀ q ∈ FD, h q = none := fun q hq => by
    rcases hF1 q hq with z | z
    · rw [z]; exact hd
    · have hqd : q ≠ d := fun e => by rw [e, aUp_eq] at z; cases z
      rw [aUp_ne hqd] at z; exact z
  have k02 : kp (· = x) h h2 := kp_new hd k1
  have hxF : x ∉ FD := fun z => by have := hFnew x z; rw [hx] at this; cases this
  have hxI : ¬ I x := fun z => by have := (hInew x z).1; rw [hx] at this; cases this
  have hx2 : h2 x = some (aObj 1 [.null, .null, .null, .null, .null, .null, .null, .null]) := k1 _ _ (by rw [aUp_ne hxd]; exact hx) hxd
  have hD0 := hD
  obtain ⟨a, b, th, F, FB, f, e, hN, hn, ho, hP, hB, hf⟩ := hD
  have dFD : d ∈ FD := by rw [e]; simp
  have mF : ∀ q ∈ F, q ∈ FD := fun q hq => by rw [e]; exact List.mem_cons_of_mem _ (List.mem_append_left _ hq)
  have mFB : ∀ q ∈ FB, q ∈ FD := fun q hq => by rw [e]; exact List.mem_cons_of_mem _ (List.mem_append_right _ hq)
  have hN' := hN
  rw [e, List.nodup_cons, List.nodup_append] at hN'
  obtain ⟨nd, nF, nB, nFB⟩ := hN'
  have hdx : d ≠ x := Ne.symm hxd
  -- the desk, its puzzle and board are noted
  refine ⟨hv, vPut_mk hx2 (by show 0 < 8; decide) ?_⟩
  obtain ⟨h3, hh3⟩ : ∃ h3, h3 = aUp h2 x (.inr (1, [Value.null, .null, .null, .null, .null, .null, .null, .null].set 0 (.ref d))) := ⟨_, rfl⟩
  rw [← hh3]
  have k3 : kp (· = x) h2 h3 := by rw [hh3]; exact kp.up rfl
  have hx3 : h3 x = some (aObj 1 [.ref d, .null, .null, .null, .null, .null, .null, .null]) := by rw [hh3, aUp_eq]; rfl
  refine vR_mk hx3 rfl (vR_mk (k3 _ _ ho hdx) rfl (vPut_mk hx3 (by show 1 < 8; decide) ?_))
  obtain ⟨h4, hh4⟩ : ∃ h4, h4 = aUp h3 x (.inr (1, [Value.ref d, .null, .null, .null, .null, .null, .null, .null].set 1 (.ref a))) := ⟨_, rfl⟩
  rw [← hh4]
  have k4 : kp (· = x) h2 h4 := by rw [hh4]; exact k3.tr (kp.up rfl)
  have hx4 : h4 x = some (aObj 1 [.ref d, .ref a, .null, .null, .null, .null, .null, .null]) := by rw [hh4, aUp_eq]; rfl
  refine vR_mk hx4 rfl (vR_mk (k4 _ _ ho hdx) rfl (vPut_mk hx4 (by show 2 < 8; decide) ?_))
  obtain ⟨h5, hh5⟩ : ∃ h5, h5 = aUp h4 x (.inr (1, [Value.ref d, .ref a, .null, .null, .null, .null, .null, .null].set 2 (.ref b))) := ⟨_, rfl⟩
  rw [← hh5]
  have k5 : kp (· = x) h2 h5 := by rw [hh5]; exact k4.tr (kp.up rfl)
  have hx5 : h5 x = some (aObj 1 [.ref d, .ref a, .ref b, .null, .null, .null, .null, .null]) := by rw [hh5, aUp_eq]; rfl
  -- a puzzle where only the object and new things changed
  have pz : ∀ h', kp (· = x) h2 h' → PZ I h' a F (Pz.new 4 3) := fun h' k => hP.kp k (fun q hq z => hxF (by rw [← z]; exact mF q hq)) (fun q hq z => hxI (by rw [← z]; exact hq)) (fun _ h => h) (fun q hq => hn q (mF q hq))
  have isome : ∀ h', kp (· = x) h2 h' → ∀ q, I q → h' q ≠ none := fun h' k q hq => kp_some k (fun z => hxI (by rw [← z]; exact hq)) (i1 q hq)
  have fsome : ∀ q ∈ FD, h2 q ≠ none := DK_some hD0
  have dsome := fsome d dFD
  -- a board is made
  have mkB : ∀ (h5 : aH) (b2 : Nat) (c s : Nat) (X : String → aH → Nat → Nat → Prop) (K : Option Value → aH → Nat → Nat → Prop), kp (· = x) h2 h5 → h5 x ≠ none → h5 b2 = none → c + 7 ≤ 300 → s + 55 ≤ 26000 → (∀ v h7, v = none → kp (· = x) h5 h7 → kp (· = b2) (aUp h5 b2 (aObj 5 [.null, .null, .null])) h7 → (∃ th2 FT ft, BRD h7 b2 a th2 FT ft ∧ FT.Nodup ∧ ∀ q ∈ FT, h5 q = none) → K v h7 (c + 7) (s + 55)) → vC l G mX5_init (wsN mX5_init) 20 300 26000 [.ref b2, .ref a] (aUp h5 b2 (aObj 5 [.null, .null, .null])) c s X K := by
    intro h5 b2 c s X K k5 hx5 hb2 hc hs kk
    have hbx : b2 ≠ x := fun e => hx5 (by rw [← e]; exact hb2)
    have hb20 : h2 b2 = none := kp_none k5 hbx hb2
    have k6 : kp (· = x) h2 (aUp h5 b2 (aObj 5 [.null, .null, .null])) := kp_fresh k5 hb20
    refine vC_r (B_init5 hl (pz _ k6) aUp_eq (fun z => fsome _ (mF _ z) hb20) (fun z => i1 _ z hb20) (isome _ k6) (fun q hq => kp_some k6 (fun z => hxF (by rw [← z]; exact mF q hq)) (fsome q (mF q hq)))) (by decide) hc hs fun v h7 hR => ?_
    obtain ⟨hv, k7, th2, FT, ft, r1, r2, r3, -⟩ := hR
    refine kk v h7 hv (kp_new hb2 k7) k7 ⟨th2, FT, ft, r1, r2, fun q hq => ?_⟩
    rcases r3 q hq with z | z
    · rw [z]; exact hb2
    · have : q ≠ b2 := fun e => by rw [e, aUp_eq] at z; cases z
      rw [aUp_ne this] at z; exact z
  have hx5n : h5 x ≠ none := by rw [hx5]; simp
  refine ⟨by decide, by decide, fun b2 hb2 _ => ?_⟩
  have hb2x : x ≠ b2 := fun e => hx5n (by rw [e]; exact hb2)
  have hb2d : d ≠ b2 := fun e => kp_some k5 hdx dsome (by rw [e]; exact hb2)
  refine vR_mk (by rw [aUp_ne hb2x]; exact hx5) rfl (vR_mk (by rw [aUp_ne hb2d]; exact k5 _ _ ho hdx) rfl ?_)
  refine mkB h5 b2 _ _ _ _ k5 hx5n hb2 (by decide) (by decide) fun v h7 hv7 k57 k67 hT => ?_
  obtain ⟨th2, FT, ft, hT1, hT2, hT3⟩ := hT
  have hx7 : h7 x = some (aObj 1 [.ref d, .ref a, .ref b, .null, .null, .null, .null, .null]) := k67 _ _ (by rw [aUp_ne hb2x]; exact hx5) hb2x
  refine ⟨hv7, vPut_mk hx7 (by show 3 < 8; decide) ?_⟩
  obtain ⟨h8, hh8⟩ : ∃ h8, h8 = aUp h7 x (.inr (1, [Value.ref d, .ref a, .ref b, .null, .null, .null, .null, .null].set 3 (.ref b2))) := ⟨_, rfl⟩
  rw [← hh8]
  have k78 : kp (· = x) h7 h8 := by rw [hh8]; exact kp.up rfl
  have k8 : kp (· = x) h2 h8 := (k5.tr k57).tr k78
  have hx8 : h8 x = some (aObj 1 [.ref d, .ref a, .ref b, .ref b2, .null, .null, .null, .null]) := by rw [hh8, aUp_eq]; rfl
  have hx8n : h8 x ≠ none := by rw [hx8]; simp
  refine ⟨by decide, by decide, fun b3 hb3 _ => ?_⟩
  have hb3x : x ≠ b3 := fun e => hx8n (by rw [e]; exact hb3)
  have hb3d : d ≠ b3 := fun e => kp_some k8 hdx dsome (by rw [e]; exact hb3)
  refine vR_mk (by rw [aUp_ne hb3x]; exact hx8) rfl (vR_mk (by rw [aUp_ne hb3d]; exact k8 _ _ ho hdx) rfl ?_)
  refine mkB h8 b3 _ _ _ _ k8 hx8n hb3 (by decide) (by decide) fun v h10 hv10 k810 k910 hU => ?_
  obtain ⟨th3, FU, fu, hU1, hU2, hU3⟩ := hU
  have hx10 : h10 x = some (aObj 1 [.ref d, .ref a, .ref b, .ref b2, .null, .null, .null, .null]) := k910 _ _ (by rw [aUp_ne hb3x]; exact hx8) hb3x
  refine ⟨hv10, vPut_mk hx10 (by show 4 < 8; decide) ?_⟩
  obtain ⟨h11, hh11⟩ : ∃ h11, h11 = aUp h10 x (.inr (1, [Value.ref d, .ref a, .ref b, .ref b2, .null, .null, .null, .null].set 4 (.ref b3))) := ⟨_, rfl⟩
  rw [← hh11]
  have k1011 : kp (· = x) h10 h11 := by rw [hh11]; exact kp.up rfl
  have hx11 : h11 x = some (aObj 1 [.ref d, .ref a, .ref b, .ref b2, .ref b3, .null, .null, .null]) := by rw [hh11, aUp_eq]; rfl
  have hx11n : h11 x ≠ none := by rw [hx11]; simp
  -- the list
  refine ⟨by decide, by decide, fun li hli _ => ?_⟩
  have hlix : x ≠ li := fun e => hx11n (by rw [e]; exact hli)
  refine vC_r (B_linit hl aUp_eq) (by decide) (by decide) (by decide) fun v h13 hR13 => ?_
  obtain ⟨hv13, k1213, hL⟩ := hR13
  have k1113 : kp (· = x) h11 h13 := kp_new hli k1213
  have hx13 : h13 x = some (aObj 1 [.ref d, .ref a, .ref b, .ref b2, .ref b3, .null, .null, .null]) := k1213 _ _ (by rw [aUp_ne hlix]; exact hx11) hlix
  refine ⟨hv13, vPut_mk hx13 (by show 5 < 8; decide) ?_⟩
  obtain ⟨h14, hh14⟩ : ∃ h14, h14 = aUp h13 x (.inr (1, [Value.ref d, .ref a, .ref b, .ref b2, .ref b3, .null, .null, .null].set 5 (.ref li))) := ⟨_, rfl⟩
  rw [← hh14]
  have k1314 : kp (· = x) h13 h14 := by rw [hh14]; exact kp.up rfl
  have hx14 : h14 x = some (aObj 1 [.ref d, .ref a, .ref b, .ref b2, .ref b3, .ref li, .null, .null]) := by rw [hh14, aUp_eq]; rfl
  have hx14n : h14 x ≠ none := by rw [hx14]; simp
  -- the slots
  refine ⟨2, by decide, rfl, by decide, by decide, by decide, fun sl hsl _ => ?_⟩
  have hslx : x ≠ sl := fun e => hx14n (by rw [e]; exact hsl)
  have hx15 : (aUp h14 sl (aRefs (.object "EdgeLetters$Desk") 2 fun _ => none)) x = some (aObj 1 [.ref d, .ref a, .ref b, .ref b2, .ref b3, .ref li, .null, .null]) := by rw [aUp_ne hslx]; exact hx14
  refine vPut_mk hx15 (by show 6 < 8; decide) ?_
  obtain ⟨h16, hh16⟩ : ∃ h16, h16 = aUp (aUp h14 sl (aRefs (.object "EdgeLetters$Desk") 2 fun _ => none)) x (.inr (1, [Value.ref d, .ref a, .ref b, .ref b2, .ref b3, .ref li, .null, .null].set 6 (.ref sl))) := ⟨_, rfl⟩
  rw [← hh16]
  have k1416 : kp (· = x) h14 h16 := by rw [hh16]; exact (kp.new (S := (· = x)) hsl).tr (kp.up rfl)
  have hx16 : h16 x = some (aObj 1 [.ref d, .ref a, .ref b, .ref b2, .ref b3, .ref li, .ref sl, .null]) := by rw [hh16, aUp_eq]; rfl
  have hx16n : h16 x ≠ none := by rw [hx16]; simp
  have hsl16 : h16 sl = some (aRefs (.object "EdgeLetters$Desk") 2 fun _ => none) := by rw [hh16, aUp_ne (Ne.symm hslx), aUp_eq]
  -- the text
  refine ⟨by decide, by decide, fun sb hsb _ => ?_⟩
  have hsbx : x ≠ sb := fun e => hx16n (by rw [e]; exact hsb)
  refine vC_r (B_sbinit hl aUp_eq) (by decide) (by decide) (by decide) fun v h18 hR18 => ?_
  obtain ⟨hv18, k1718, va, hva, hV⟩ := hR18
  have hvas : va ≠ sb := fun e => by rw [e, aUp_eq] at hva; cases hva
  have hva16 : h16 va = none := by rw [aUp_ne hvas] at hva; exact hva
  have k1618 : kp (· = x) h16 h18 := kp_new hsb k1718
  have hx18 : h18 x = some (aObj 1 [.ref d, .ref a, .ref b, .ref b2, .ref b3, .ref li, .ref sl, .null]) := k1718 _ _ (by rw [aUp_ne hsbx]; exact hx16) hsbx
  refine ⟨hv18, vPut_mk hx18 (by show 7 < 8; decide) ?_⟩
  obtain ⟨h19, hh19⟩ : ∃ h19, h19 = aUp h18 x (.inr (1, [Value.ref d, .ref a, .ref b, .ref b2, .ref b3, .ref li, .ref sl, .null].set 7 (.ref sb))) := ⟨_, rfl⟩
  rw [← hh19]
  have k1819 : kp (· = x) h18 h19 := by rw [hh19]; exact kp.up rfl
  have hx19 : h19 x = some (aObj 1 [.ref d, .ref a, .ref b, .ref b2, .ref b3, .ref li, .ref sl, .ref sb]) := by rw [hh19, aUp_eq]; rfl
  -- from each heap to the last one
  have f16 : kp (· = x) h16 h19 := k1618.tr k1819
  have f14 : kp (· = x) h14 h19 := k1416.tr f16
  have f13 : kp (· = x) h13 h19 := k1314.tr f14
  have f11 : kp (· = x) h11 h19 := k1113.tr f13
  have f10 : kp (· = x) h10 h19 := k1011.tr f11
  have f8 : kp (· = x) h8 h19 := k810.tr f10
  have f7 : kp (· = x) h7 h19 := k78.tr f8
  have f5 : kp (· = x) h5 h19 := k57.tr f7
  have f2 : kp (· = x) h2 h19 := k5.tr f5
  have f0 : kp (· = x) h h19 := k02.tr f2
  -- whose the addresses are
  obtain ⟨tg0, htg0⟩ : ∃ tg0 : Nat → Nat, tg0 = fun q => @ite _ (q = x) (Classical.propDecidable _) 2 13 := ⟨_, rfl⟩
  obtain ⟨tg1, htg1⟩ : ∃ tg1 : Nat → Nat, tg1 = fun q => @ite _ (h q ≠ none) (Classical.propDecidable _) (tg0 q) (@ite _ (q = d) (Classical.propDecidable _) 3 (@ite _ (q ∈ F) (Classical.propDecidable _) 4 (@ite _ (q ∈ FB) (Classical.propDecidable _) 5 1))) := ⟨_, rfl⟩
  have t0x : tg0 x = 2 := by rw [htg0]; exact if_pos rfl
  have hxn : h x ≠ none := by rw [hx]; simp
  have t1o : ∀ q, h q ≠ none → tg1 q = tg0 q := fun q hq => by rw [htg1]; exact if_pos hq
  have t1n : ∀ q, h q = none → tg1 q = @ite _ (q = d) (Classical.propDecidable _) 3 (@ite _ (q ∈ F) (Classical.propDecidable _) 4 (@ite _ (q ∈ FB) (Classical.propDecidable _) 5 1)) := fun q hq => by
    rw [htg1]
    exact if_neg (fun z => z hq)
  have t1d : tg1 d = 3 := by rw [t1n d hd, if_pos rfl]
  have t1F : ∀ q ∈ F, tg1 q = 4 := fun q hq => by
    rw [t1n q (hFnew q (mF q hq)), if_neg (fun z => nd (by rw [← z]; exact List.mem_append_left _ hq)), if_pos hq]
  have t1B : ∀ q ∈ FB, tg1 q = 5 := fun q hq => by
    rw [t1n q (hFnew q (mFB q hq)), if_neg (fun z => nd (by rw [← z]; exact List.mem_append_right _ hq)), if_neg (fun z => nFB q z q hq rfl), if_pos hq]
  have t1I : ∀ q, I q → tg1 q = 1 := fun q hq => by
    rw [t1n q (hInew q hq).1, if_neg (hInew q hq).2, if_neg (fun z => hn q (mF q z) hq), if_neg (fun z => hn q (mFB q z) hq)]
  have x5 : ∀ q, h2 q ≠ none → h5 q ≠ none := fun q hq => by
    by_cases z : q = x
    · rw [z]; exact hx5n
    · exact kp_some k5 z hq
  have x8 : ∀ q, h5 q ≠ none → h8 q ≠ none := fun q hq => by
    by_cases z : q = x
    · rw [z]; exact hx8n
    · exact kp_some (k57.tr k78) z hq
  have x11 : ∀ q, h8 q ≠ none → h11 q ≠ none := fun q hq => by
    by_cases z : q = x
    · rw [z]; exact hx11n
    · exact kp_some (k810.tr k1011) z hq
  have x14 : ∀ q, h11 q ≠ none → h14 q ≠ none := fun q hq => by
    by_cases z : q = x
    · rw [z]; exact hx14n
    · exact kp_some (k1113.tr k1314) z hq
  have x16 : ∀ q, h14 q ≠ none → h16 q ≠ none := fun q hq => by
    by_cases z : q = x
    · rw [z]; exact hx16n
    · exact kp_some k1416 z hq
  obtain ⟨tg, htg⟩ : ∃ tg : Nat → Nat, tg = nt (aUp h16 sb (aObj 10 [.null, .int 0, .int 0, .int 0])) (nt h16 (nt h14 (nt h11 (nt h8 (nt h5 tg1 6) 7) 8) 10) 11) 12 := ⟨_, rfl⟩
  have s16 : ∀ q, h16 q ≠ none → (aUp h16 sb (aObj 10 [.null, .int 0, .int 0, .int 0])) q ≠ none := fun q hq => by
    by_cases z : q = sb
    · rw [z, aUp_eq]; simp
    · rw [aUp_ne z]; exact hq
  have o16 : ∀ q, h16 q ≠ none → tg q = nt h14 (nt h11 (nt h8 (nt h5 tg1 6) 7) 8) 10 q := fun q hq => by rw [htg, nt_o (s16 q hq), nt_o hq]
  have o14 : ∀ q, h14 q ≠ none → tg q = nt h11 (nt h8 (nt h5 tg1 6) 7) 8 q := fun q hq => by rw [o16 q (x16 q hq), nt_o hq]
  have o11 : ∀ q, h11 q ≠ none → tg q = nt h8 (nt h5 tg1 6) 7 q := fun q hq => by rw [o14 q (x14 q hq), nt_o hq]
  have o8 : ∀ q, h8 q ≠ none → tg q = nt h5 tg1 6 q := fun q hq => by rw [o11 q (x11 q hq), nt_o hq]
  have o5 : ∀ q, h5 q ≠ none → tg q = tg1 q := fun q hq => by rw [o8 q (x8 q hq), nt_o hq]
  have o2 : ∀ q, h2 q ≠ none → tg q = tg1 q := fun q hq => o5 q (x5 q hq)
  have o0 : ∀ q, h q ≠ none → tg q = tg0 q := fun q hq => by
    have : h2 q ≠ none := by
      by_cases z : q = x
      · rw [z, hx2]; simp
      · exact kp_some k02 z hq
    rw [o2 q this, t1o q hq]
  have eT : ∀ q ∈ FT, tg q = 6 := fun q hq => by
    have hs := BRD_some hT1 q hq
    have h8q : h8 q ≠ none := by
      by_cases z : q = x
      · rw [z]; exact hx8n
      · exact kp_some k78 z hs
    rw [o8 q h8q, nt_n (hT3 q hq)]
  have eU : ∀ q ∈ FU, tg q = 7 := fun q hq => by
    have hs := BRD_some hU1 q hq
    have h11q : h11 q ≠ none := by
      by_cases z : q = x
      · rw [z]; exact hx11n
      · exact kp_some k1011 z hs
    rw [o11 q h11q, nt_n (hU3 q hq)]
  have hTx : ∀ q ∈ FT, ¬ q = x := fun q hq z => hx5n (by rw [← z]; exact hT3 q hq)
  have hUx : ∀ q ∈ FU, ¬ q = x := fun q hq z => hx8n (by rw [← z]; exact hU3 q hq)
  have eli : tg li = 8 := by
    obtain ⟨⟨mo, lo⟩, -⟩ := hL
    have : h14 li ≠ none := kp_some k1314 (Ne.symm hlix) (by rw [lo]; simp)
    rw [o14 li this, nt_n hli]
  have esl : tg sl = 10 := by rw [o16 sl (by rw [hsl16]; simp), nt_n hsl]
  have esb : tg sb = 11 := by rw [htg, nt_o (by rw [aUp_eq]; simp), nt_n hsb]
  have eva : tg va = 12 := by rw [htg, nt_n hva]
  have hFBx : ∀ q ∈ FB, ¬ q = x := fun q hq z => hxF (by rw [← z]; exact mFB q hq)
  have hvx : ¬ va = x := fun z => hx16n (by rw [← z]; exact hva16)
  refine ⟨rfl, ⟨I, tg, li, sl, sb, ((d, a, b, th), (b2, th2, b3, th3)), ⟨⟨fun q hq => ⟨isome _ f2 q hq, by rw [o2 q (i1 q hq)]; exact t1I q hq⟩, fun q e he => ?_⟩, ⟨by rw [o0 x hxn]; exact t0x, hx19⟩, ⟨by rw [o2 d dsome]; exact t1d, f2 _ _ ho hdx⟩, F, FB, FT, FU, ⟨pz _ f2, fun q hq => by rw [o2 q (fsome q (mF q hq))]; exact t1F q hq⟩, ⟨⟨f, hB.kp f2 hFBx, fun c hc => ?_⟩, fun q hq => by rw [o2 q (fsome q (mFB q hq))]; exact t1B q hq, nB⟩, ⟨⟨ft, hT1.kp f7 hTx⟩, eT, hT2⟩, ⟨fu, hU1.kp f10 hUx⟩, eU, hU2⟩, ?_, ?_, ?_⟩, f0⟩
  · obtain ⟨z1, z2⟩ := hZ q e he
    refine ⟨f0 _ _ z1 z2, ?_⟩
    rw [o0 q (by rw [z1]; simp), htg0]
    exact if_neg z2
  · exact hf c hc
  · exact ⟨eli, [], none, hL.kp f13 (Ne.symm hlix) (fun e he => by cases he) (fun y hy => by cases hy), (fun e he => by cases he), rfl, by decide, List.Pairwise.nil, (fun k hk => by cases hk), fun i hi => absurd hi (Nat.not_lt_zero _)⟩
  · exact ⟨esl, _, f16 _ _ hsl16 (Ne.symm hslx), fun i hi => ⟨fun _ => rfl, fun s hs => by cases hs⟩⟩
  · exact ⟨esb, va, eva, hV.kp k1819 (Ne.symm hsbx) hvx, by decide, fun c hc => by cases hc⟩
end XO
