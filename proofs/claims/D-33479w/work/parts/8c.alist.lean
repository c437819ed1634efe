/-! lists that grow and shrink
-/
set_option maxRecDepth 100000
/-- a list: its object, its array (none: the static empty one), what lies in it -/
def LST (G : aG) (h : aH) (a : Nat) (xs : List Nat) (eo : Option Nat) : Prop := (∃ mo : Int32, h a = some (aObj 9 [.int mo, .ref (eo.getD G.2.1.1), .int (i3 xs.length)])) ∧ xs.length ≤ 200 ∧ (∀ x ∈ xs, aOb h x) ∧
  (eo = none → xs = []) ∧ ∀ e, eo = some e → ∃ (cap : Nat) (f : Nat → Option Nat), h e = some (aRefs (.object "java/lang/Object") cap f) ∧ 0 < cap ∧ cap ≤ 200 ∧ xs.length ≤ cap ∧ (∀ k, k < xs.length → f k = some (xs.getD k 0)) ∧ ∀ k, xs.length ≤ k → f k = none
theorem aOb.kp {S : Nat → Prop} {h h' : aH} {x : Nat} (hx : aOb h x) (hk : kp S h h') (hs : ¬ S x) : aOb h' x := by
  rcases hx with ⟨n, f, e⟩ | ⟨fs, e⟩
  · exact Or.inl ⟨n, f, hk _ _ e hs⟩
  · exact Or.inr ⟨fs, hk _ _ e hs⟩
theorem LST.kp {G : aG} {S : Nat → Prop} {h h' : aH} {a : Nat} {xs : List Nat} {eo : Option Nat} (hL : LST G h a xs eo) (hk : kp S h h') (h1 : ¬ S a) (h2 : ∀ e, eo = some e → ¬ S e) (h3 : ∀ x ∈ xs, ¬ S x) : LST G h' a xs eo := by
  obtain ⟨⟨mo, ho⟩, hl, hx, hn, he⟩ := hL
  refine ⟨⟨mo, hk _ _ ho h1⟩, hl, fun x hx2 => (hx x hx2).kp hk (h3 x hx2), hn, fun e hee => ?_⟩
  obtain ⟨cap, f, k1, k2⟩ := he e hee
  exact ⟨cap, f, hk _ _ k1 (h2 e hee), k2⟩
section AAL
variable {l : Launch} {G : aG} {h : aH} {a : Nat} {xs : List Nat} {eo : Option Nat}
theorem B_init0 (hl : l.stackTraces = false) {x : Nat} : aC l G mJ0_init (wsN mJ0_init) 1 0 0 [.ref x] h (aP1 none h) := A_J0_init hl ⟨by decide, rfl, rfl⟩
theorem B_linit (hl : l.stackTraces = false) (ho : h a = some (aObj 9 [.int 0, .null, .int 0])) : aC l G mJ2_init (wsN mJ2_init) 3 0 0 [.ref a] h (aPR fun v h' => v = none ∧ kp (· = a) h h' ∧ LST G h' a [] none) := by
  have h1 : aC l G mJ1_init (wsN mJ1_init) 2 0 0 [.ref a] h (aP1 none (aUp h a (aObj 9 [.int 0, .null, .int 0]))) := by
    refine A_J1_init hl (vC_p (B_init0 hl) (by decide) (by decide) (by decide) ⟨rfl, vPut_mk ho (by show 0 < 3; decide) ⟨rfl, rfl⟩⟩)
  refine A_J2_init hl (vC_p h1 (by decide) (by decide) (by decide) ⟨rfl, vPut_mk aUp_eq (by show 1 < 3; decide) ⟨rfl, (kp.up (S := (· = a)) rfl).tr (kp.up rfl), ⟨0, aUp_eq⟩, Nat.zero_le _, fun x hx => (by cases hx), fun _ => rfl, fun e he => by cases he⟩⟩)
theorem B_newLength (hl : l.stackTraces = false) {x y z : Nat} (hx : x < 100000) (hy : y < 100000) (hz : z < 100000) (h0 : 0 < x + max y z) : aC l G mJ3_newLength (wsN mJ3_newLength) 1 0 0 [.int (i3 x), .int (i3 y), .int (i3 z)] h (aP1 (some (.int (i3 (x + max y z)))) h) := by
  refine A_J3_newLength hl (vC_p (B_max hl (by omega) (by omega)) (by decide) (by decide) (by decide) ⟨_, rfl, ?_⟩)
  have hm : max y z < 100000 := by omega
  have e0 : (i3 (x + max y z) ≤ 0) = (x + max y z = 0) := i3_neg_le (by omega)
  have e1 : ((2147483639 : Int32) < i3 (x + max y z)) = (2147483639 < x + max y z) := i3_lt (a := 2147483639) (by decide) (by omega)
  simp only [i3_add, e0, e1]
  exact ⟨fun q => by omega, fun _ => ⟨fun q => by omega, fun _ => ⟨rfl, rfl⟩⟩⟩
theorem B_add (hl : l.stackTraces = false) {x : Nat} (hL : LST G h a xs eo) (hx : aOb h x) (hn : xs.length < 121) (hxa : x ≠ a) (hxe : eo ≠ some x) (hae : eo ≠ some a) (hxs : ∀ y ∈ xs, y ≠ a ∧ eo ≠ some y) :
    aC l G mJ2_add (wsN mJ2_add) 6 1 200 [.ref a, .ref x] h (aPR fun v h' => v = some (.int 1) ∧ kp (fun q => q = a ∨ eo = some q) h h' ∧ ∃ eo', LST G h' a (xs ++ [x]) eo' ∧ (eo' = eo ∨ ∃ e', eo' = some e' ∧ h e' = none)) := by
  obtain ⟨⟨mo, ho⟩, hlen, hob, hnone, hsome⟩ := hL
  obtain ⟨h1, hh1⟩ : ∃ h1, h1 = aUp h a (.inr (9, [Value.int mo, .ref (eo.getD G.2.1.1), .int (i3 xs.length)].set 0 (.int (mo + 1)))) := ⟨_, rfl⟩
  refine A_J2_add hl (vI_mk ho rfl (vPut_mk ho (by show 0 < 3; decide) ?_))
  rw [← hh1]
  have k1 : kp (· = a) h h1 := by rw [hh1]; exact kp.up rfl
  have ho1 : h1 a = some (aObj 9 [.int (mo + 1), .ref (eo.getD G.2.1.1), .int (i3 xs.length)]) := by rw [hh1]; exact aUp_eq
  have hx1 : aOb h1 x := hx.kp k1 hxa
  have hob1 : ∀ y ∈ xs, aOb h1 y := fun y hy => (hob y hy).kp k1 (hxs y hy).1
  have hl2 : (xs ++ [x]).length = xs.length + 1 := by rw [List.length_append]; rfl
  refine vR_mk ho1 rfl (vI_mk ho1 rfl ⟨⟨_, ho1⟩, ?_⟩)
  -- the place behind the last one
  have store : ∀ (h2 : aH) (e cap : Nat) (f : Nat → Option Nat), kp (fun q => q = a ∨ eo = some q) h h2 → h2 a = some (aObj 9 [.int (mo + 1), .ref e, .int (i3 xs.length)]) → h2 e = some (aRefs (.object "java/lang/Object") cap f) → xs.length < cap → cap ≤ 200 → (∀ k, k < xs.length → f k = some (xs.getD k 0)) → (∀ k, xs.length ≤ k → f k = none) → aOb h2 x → (∀ y ∈ xs, aOb h2 y) → (eo = some e ∨ h e = none) →
      vStO h2 e (i3 xs.length) x fun h3 => vPut h3 a 9 2 (.int (i3 xs.length + (1 : Int32))) fun h4 => aPR (fun v h' => v = none ∧ kp (fun q => q = a ∨ eo = some q) h h' ∧ ∃ eo', LST G h' a (xs ++ [x]) eo' ∧ (eo' = eo ∨ ∃ e', eo' = some e' ∧ h e' = none)) (.inl none) h4 := by
    intro h2 e cap f k2 ha he hc1 hc2 hf1 hf2 hx2 hob2 hee
    have hea : e ≠ a := fun z => by rw [z, ha] at he; cases he
    have ha3 : (aUp h2 e (aRefs (.object "java/lang/Object") cap (va_up f xs.length (some x)))) a = some (aObj 9 [.int (mo + 1), .ref e, .int (i3 xs.length)]) := by rw [aUp_ne (Ne.symm hea)]; exact ha
    refine ⟨cap, f, he, i3_in (by omega) hc1, hx2, ?_⟩
    rw [i3_nat (by omega)]
    refine vPut_mk ha3 (by show 2 < 3; decide) ?_
    have k3 : kp (fun q => q = a ∨ eo = some q) h (aUp (aUp h2 e (aRefs (.object "java/lang/Object") cap (va_up f xs.length (some x)))) a (.inr (9, [Value.int (mo + 1), .ref e, .int (i3 xs.length)].set 2 (.int (i3 xs.length + 1))))) := by
      intro q y hq hs
      have q1 : q ≠ a := fun z => hs (Or.inl z)
      have q2 : q ≠ e := fun z => by
        rcases hee with w | w
        · exact hs (Or.inr (by rw [z]; exact w))
        · rw [z, w] at hq; cases hq
      rw [aUp_ne q1, aUp_ne q2]; exact k2 q y hq hs
    have obk : ∀ y, aOb h2 y → aOb (aUp (aUp h2 e (aRefs (.object "java/lang/Object") cap (va_up f xs.length (some x)))) a (.inr (9, [Value.int (mo + 1), .ref e, .int (i3 xs.length)].set 2 (.int (i3 xs.length + 1))))) y := by
      intro y hy
      have y1 : y ≠ a := fun z => by
        rw [z] at hy
        rcases hy with ⟨n, g, w⟩ | ⟨fs, w⟩
        · rw [ha] at w; cases w
        · rw [ha] at w; cases w
      have y2 : y ≠ e := fun z => by
        rw [z] at hy
        rcases hy with ⟨n, g, w⟩ | ⟨fs, w⟩
        · rw [he] at w; cases w
        · rw [he] at w; cases w
      exact hy.kp (S := fun q => q = e ∨ q = a) ((kp.up (Or.inl rfl)).tr (kp.up (Or.inr rfl))) (fun z => z.elim y2 y1)
    refine ⟨rfl, k3, some e, ⟨⟨mo + 1, ?_⟩, by omega, fun y hy => ?_, fun z => (by cases z), fun e2 he2 => ?_⟩, ?_⟩
    · rw [aUp_eq, hl2, i3_succ]; rfl
    · rcases List.mem_append.mp hy with hy | hy
      · exact obk y (hob2 y hy)
      · rw [List.mem_singleton.mp hy]; exact obk x hx2
    · cases he2
      refine ⟨cap, va_up f xs.length (some x), by rw [aUp_ne hea]; exact aUp_eq, by omega, hc2, by omega, fun k hk => ?_, fun k hk => ?_⟩
      · unfold va_up
        by_cases z : k = xs.length
        · rw [if_pos z, z, getD_app_eq]
        · rw [if_neg z, getD_app_lt (by omega)]; exact hf1 k (by omega)
      · unfold va_up
        rw [if_neg (by omega)]; exact hf2 k (by omega)
    · rcases hee with w | w
      · exact Or.inl w.symm
      · exact Or.inr ⟨e, rfl, w⟩
  have main : aC l G mJ2_add_2 (wsN mJ2_add_2) 5 1 200 [.ref a, .ref x, .ref (eo.getD G.2.1.1), .int (i3 xs.length)] h1 (aPR fun v h' => v = none ∧ kp (fun q => q = a ∨ eo = some q) h h' ∧ ∃ eo', LST G h' a (xs ++ [x]) eo' ∧ (eo' = eo ∨ ∃ e', eo' = some e' ∧ h e' = none)) := by
    have k1' : kp (fun q => q = a ∨ eo = some q) h h1 := k1.mono fun q e => Or.inl e
    -- growing
    have grow : ∀ cap : Nat, cap = xs.length → (eo = none ∨ ∃ e f, eo = some e ∧ h1 e = some (aRefs (.object "java/lang/Object") cap f) ∧ 0 < cap ∧ (∀ k, k < xs.length → f k = some (xs.getD k 0)) ∧ ∀ k, xs.length ≤ k → f k = none) →
        aC l G mJ2_grow (wsN mJ2_grow) 4 1 200 [.ref a] h1 (aPR fun v h' => ∃ e' cap' f', v = some (.ref e') ∧ h1 e' = none ∧ kp (fun q => q = a) h1 h' ∧ h' a = some (aObj 9 [.int (mo + 1), .ref e', .int (i3 xs.length)]) ∧ h' e' = some (aRefs (.object "java/lang/Object") cap' f') ∧ xs.length < cap' ∧ cap' ≤ 200 ∧ (∀ k, k < xs.length → f' k = some (xs.getD k 0)) ∧ ∀ k, xs.length ≤ k → f' k = none) := by
      intro cap hcap hc
      refine A_J2_grow hl (vI_mk ho1 rfl ⟨⟨_, ho1⟩, ?_⟩)
      have g2 : aC l G mJ2_grow_2 (wsN mJ2_grow_2) 3 1 200 [.ref a, .int (i3 xs.length + (1 : Int32))] h1 (aPR fun v h' => ∃ e' cap' f', v = some (.ref e') ∧ h1 e' = none ∧ kp (fun q => q = a) h1 h' ∧ h' a = some (aObj 9 [.int (mo + 1), .ref e', .int (i3 xs.length)]) ∧ h' e' = some (aRefs (.object "java/lang/Object") cap' f') ∧ xs.length < cap' ∧ cap' ≤ 200 ∧ (∀ k, k < xs.length → f' k = some (xs.getD k 0)) ∧ ∀ k, xs.length ≤ k → f' k = none) := by
        rcases hc with hc | ⟨e, f, hc, he, hcp, hf1, hf2⟩
        · have hxs0 := hnone hc
          have hl0 : xs.length = 0 := by rw [hxs0]; rfl
          refine A_J2_grow_2 hl (vR_mk ho1 rfl (Or.inl ⟨by rw [hc]; rfl, fun q => absurd q (by decide), fun _ => vR_mk ho1 rfl ⟨fun _ => ?_, fun q => absurd (by rw [hc]; rfl) q⟩⟩))
          rw [hl0]
          refine vC_p (B_max hl (a := 10) (b := 1) (by decide) (by decide)) (by decide) (by decide) (by decide) ⟨_, rfl, 10, by decide, rfl, by decide, by decide, by decide, fun q hq _ => ?_⟩
          have hqa : q ≠ a := fun z => by rw [z, ho1] at hq; cases hq
          refine vPut_mk (by rw [aUp_ne (Ne.symm hqa)]; exact ho1) (by show 1 < 3; decide) ⟨q, 10, fun _ => none, rfl, hq, (kp.new hq).tr (kp.up rfl), ?_, ?_, by omega, by decide, fun k hk => by omega, fun _ _ => rfl⟩
          · rw [aUp_eq, hl0]; rfl
          · rw [aUp_ne hqa]; exact aUp_eq
        · have hv : eo.getD G.2.1.1 = e := by rw [hc]; rfl
          rw [hv] at ho1
          have hc120 : cap < 121 := by omega
          have e0 : ((0 : Int32) < i3 cap) = (0 < cap) := i3_lt (a := 0) (by decide) (by omega)
          have t20 : T_J2_grow_2_20 l G 3 1 200 (aPR fun v h' => ∃ e' cap' f', v = some (.ref e') ∧ h1 e' = none ∧ kp (fun q => q = a) h1 h' ∧ h' a = some (aObj 9 [.int (mo + 1), .ref e', .int (i3 xs.length)]) ∧ h' e' = some (aRefs (.object "java/lang/Object") cap' f') ∧ xs.length < cap' ∧ cap' ≤ 200 ∧ (∀ k, k < xs.length → f' k = some (xs.getD k 0)) ∧ ∀ k, xs.length ≤ k → f' k = none) a (i3 xs.length + (1 : Int32)) (i3 cap) h1 0 0 := by
            refine A_J2_grow_2_20 hl ?_
            have e1 : i3 xs.length + 1 - i3 cap = i3 1 := by rw [i3_succ, i3_sub (by omega), show xs.length + 1 - cap = 1 by omega]
            have e2 : i3 cap >>> ((1 : Int32) &&& 31) = i3 (cap >>> 1) := i3_shr (k := 1) (by omega) (by decide)
            unfold V_J2_grow_2_20
            rw [e1, e2]
            have hsh : cap >>> 1 = cap / 2 := by rw [Nat.shiftRight_eq_div_pow]
            refine vC_p (B_newLength hl (by omega) (by omega) (by omega) (by omega)) (by decide) (by decide) (by decide) ⟨_, rfl, vR_mk ho1 rfl ?_⟩
            obtain ⟨nc, hnc⟩ : ∃ nc, nc = cap + max 1 (cap >>> 1) := ⟨_, rfl⟩
            rw [← hnc]
            have hnc1 : cap < nc ∧ nc ≤ 200 := by omega
            have cp : aC l G mJ5_copyOf (wsN mJ5_copyOf) 2 1 200 [.ref e, .int (i3 nc)] h1 (aPR fun v h' => ∃ q f', v = some (.ref q) ∧ h1 q = none ∧ kp (fun _ => False) h1 h' ∧ h' q = some (aRefs (.object "java/lang/Object") nc f') ∧ (∀ k, k < xs.length → f' k = some (xs.getD k 0)) ∧ ∀ k, xs.length ≤ k → f' k = none) := by
              have cp2 : aC l G mJ5_copyOf_2 (wsN mJ5_copyOf_2) 1 1 200 [.ref e, .int (i3 nc), .ref G.2.1.2.2.2] h1 (aPR fun v h' => ∃ q f', v = some (.ref q) ∧ h1 q = none ∧ kp (fun _ => False) h1 h' ∧ h' q = some (aRefs (.object "java/lang/Object") nc f') ∧ (∀ k, k < xs.length → f' k = some (xs.getD k 0)) ∧ ∀ k, xs.length ≤ k → f' k = none) := by
                refine A_J5_copyOf_2 hl ⟨nc, by rw [i3_neg_lt (by omega)]; exact id, i3_nat (by omega), by omega, by decide, by omega, fun q hq _ => ?_⟩
                have hqe : e ≠ q := fun z => by rw [← z, he] at hq; cases hq
                have he2 : (aUp h1 q (aRefs (.object "java/lang/Object") nc fun _ => none)) e = some (aRefs (.object "java/lang/Object") cap f) := by rw [aUp_ne hqe]; exact he
                refine Or.inr (vLen_mk he2 5 rfl ?_)
                refine vC_p (B_min hl (a := cap) (b := nc) (by omega) (by omega)) (by decide) (by decide) (by omega) ⟨_, rfl, by decide, cap, nc, f, fun _ => none, he2, aUp_eq, ?_⟩
                have hmin : min cap nc = cap := by omega
                rw [hmin]
                have z0 : ¬ (0 : Int32) < 0 := by decide
                have zc : ¬ i3 cap < 0 := by rw [i3_neg_lt (by omega)]; exact id
                have n0 : (0 : Int32).toNatClampNeg = 0 := rfl
                rw [n0, i3_nat (by omega : cap < 2147483648)]
                refine ⟨z0, z0, zc, by omega, by omega, fun i hi y hy => ?_, q, _, rfl, hq, fun w y hw _ => ?_, aUp_eq, fun k hk => ?_, fun k hk => ?_⟩
                · rw [Nat.zero_add] at hy
                  have hi2 : i < xs.length := by omega
                  rw [hf1 i hi2] at hy
                  cases hy
                  exact (hob1 _ (getD_mem hi2)).kp (S := fun _ => False) (kp.new hq) id
                · have z : w ≠ q := fun z => by rw [z, hq] at hw; cases hw
                  rw [aUp_ne z, aUp_ne z]; exact hw
                · unfold va_cpy
                  rw [if_pos (by omega), Nat.zero_add, Nat.sub_zero]; exact hf1 k hk
                · unfold va_cpy
                  by_cases z : 0 ≤ k ∧ k < 0 + cap
                  · rw [if_pos z, Nat.zero_add, Nat.sub_zero]; exact hf2 k hk
                  · rw [if_neg z]
              refine A_J5_copyOf hl ⟨by decide, ⟨_, _, he⟩, ?_⟩
              refine vC_r cp2 (by decide) (by decide) (by decide) fun v h' hR => ?_
              obtain ⟨q, f', rfl, r⟩ := hR
              exact ⟨q, rfl, q, f', rfl, r⟩
            refine vC_r cp (by decide) (by decide) (by decide) fun v h' hR => ?_
            obtain ⟨q, f', rfl, hq, k2, hq2, hf3, hf4⟩ := hR
            have ha2 := k2 _ _ ho1 id
            have hqa : q ≠ a := fun z => by rw [z, ho1] at hq; cases hq
            refine ⟨q, rfl, vPut_mk ha2 (by show 1 < 3; decide) ⟨q, nc, f', rfl, hq, (k2.mono fun _ => False.elim).tr (kp.up rfl), ?_, ?_, by omega, by omega, hf3, hf4⟩⟩
            · rw [aUp_eq]; rfl
            · rw [aUp_ne hqa]; exact hq2
          refine A_J2_grow_2 hl (vR_mk ho1 rfl (Or.inr (vLen_mk he 5 rfl ⟨fun _ => t20, fun q => absurd (show (0 : Int32) < i3 cap by rw [e0]; exact hcp) q⟩)))
      refine vC_r g2 (by decide) (by decide) (by decide) fun v h' hR => ?_
      obtain ⟨e', cap', f', rfl, r⟩ := hR
      exact ⟨e', rfl, e', cap', f', rfl, r⟩
    -- behind growing
    have after : ∀ cap : Nat, cap = xs.length → (eo = none ∨ ∃ e f, eo = some e ∧ h1 e = some (aRefs (.object "java/lang/Object") cap f) ∧ 0 < cap ∧ (∀ k, k < xs.length → f k = some (xs.getD k 0)) ∧ ∀ k, xs.length ≤ k → f k = none) →
        vC l G mJ2_grow (wsN mJ2_grow) 5 1 200 [.ref a] h1 0 0 (xP (aPR fun v h' => v = none ∧ kp (fun q => q = a ∨ eo = some q) h h' ∧ ∃ eo', LST G h' a (xs ++ [x]) eo' ∧ (eo' = eo ∨ ∃ e', eo' = some e' ∧ h e' = none))) (kR fun a5 h6 c7 s8 =>
        vStO h6 a5 (i3 xs.length) x fun h9 =>
        vPut h9 a 9 2 (.int (i3 xs.length + (1 : Int32))) fun h10 =>
        (aPR fun v h' => v = none ∧ kp (fun q => q = a ∨ eo = some q) h h' ∧ ∃ eo', LST G h' a (xs ++ [x]) eo' ∧ (eo' = eo ∨ ∃ e', eo' = some e' ∧ h e' = none)) (.inl none) h10) := by
      intro cap hcap hc
      refine vC_r (grow cap hcap hc) (by decide) (by decide) (by decide) fun v h' hR => ?_
      obtain ⟨e', cap', f', rfl, hq, k2, ha2, he2, hc1, hc2, hf3, hf4⟩ := hR
      have hno : ∀ y, aOb h1 y → y ≠ a := fun y hy z => by
        rw [z] at hy
        rcases hy with ⟨n, g, w⟩ | ⟨fs, w⟩
        · rw [ho1] at w; cases w
        · rw [ho1] at w; cases w
      have hhe : h e' = none := by
        cases w : h e' with
        | none => rfl
        | some y =>
          exfalso
          by_cases z : e' = a
          · rw [z, ho1] at hq; cases hq
          · rw [hh1, aUp_ne z, w] at hq; cases hq
      exact ⟨e', rfl, store h' e' cap' f' (k1'.tr (k2.mono fun q e => Or.inl e)) ha2 he2 hc1 hc2 hf3 hf4 (hx1.kp k2 (hno x hx1)) (fun y hy => (hob1 y hy).kp k2 (hno y (hob1 y hy))) (Or.inr hhe)⟩
    refine A_J2_add_2 hl ?_
    cases heo : eo with
    | none =>
      have hxs0 := hnone heo
      have hl0 : xs.length = 0 := by rw [hxs0]; rfl
      have af := after 0 hl0.symm (Or.inl heo)
      rw [heo] at af
      exact Or.inl ⟨rfl, fun q => absurd (by rw [hl0]; rfl) q, fun _ => ⟨⟨_, ho1⟩, af⟩⟩
    | some e =>
      obtain ⟨cap, f, he, hc0, hc2, hcl, hf1, hf2⟩ := hsome e heo
      have hea : e ≠ a := fun z => hae (by rw [heo, z])
      have he1 : h1 e = some (aRefs (.object "java/lang/Object") cap f) := k1 _ _ he hea
      have ho1' : h1 a = some (aObj 9 [.int (mo + 1), .ref e, .int (i3 xs.length)]) := by rw [ho1, heo]; rfl
      refine Or.inr (vLen_mk he1 5 rfl ?_)
      have ec : (i3 xs.length = Int32.ofNat cap) = (xs.length = cap) := i3_eq (b := cap) (by omega) (by omega)
      show (¬ i3 xs.length = Int32.ofNat cap → _) ∧ (i3 xs.length = Int32.ofNat cap → _)
      rw [ec]
      refine ⟨fun q => ?_, fun q => ⟨⟨_, ho1⟩, ?_⟩⟩
      · have st := store h1 e cap f k1' ho1' he1 (by omega) hc2 hf1 hf2 hx1 hob1 (Or.inl heo)
        rw [heo] at st
        exact st
      · have af := after cap q.symm (Or.inr ⟨e, f, heo, he1, hc0, hf1, hf2⟩)
        rw [heo] at af
        exact af
  refine vC_r main (by decide) (by decide) (by decide) fun v h' hR => ?_
  obtain ⟨rfl, r⟩ := hR
  exact ⟨rfl, rfl, r⟩
theorem B_remove (hl : l.stackTraces = false) {i : Nat} (hL : LST G h a xs eo) (hi : i < xs.length) (hae : eo ≠ some a) (hxs : ∀ y ∈ xs, y ≠ a ∧ eo ≠ some y) :
    aC l G mJ2_remove (wsN mJ2_remove) 2 0 0 [.ref a, .int (i3 i)] h (aPR fun v h' => v = some (.ref (xs.getD i 0)) ∧ kp (fun q => q = a ∨ eo = some q) h h' ∧ LST G h' a (xs.eraseIdx i) eo) := by
  have hL0 := hL
  obtain ⟨⟨mo, ho⟩, hlen, hob, hnone, hsome⟩ := hL
  have hxne : xs ≠ [] := fun e => by rw [e] at hi; exact absurd hi (Nat.not_lt_zero _)
  obtain ⟨e, heo⟩ : ∃ e, eo = some e := by
    cases heo : eo with
    | none => exact absurd (hnone heo) hxne
    | some e => exact ⟨e, rfl⟩
  subst heo
  obtain ⟨cap, f, he, hc0, hc2, hcl, hf1, hf2⟩ := hsome e rfl
  have hea : e ≠ a := fun z => hae (by rw [z])
  have ho' : h a = some (aObj 9 [.int mo, .ref e, .int (i3 xs.length)]) := ho
  have hxobj : ∃ fs, h (xs.getD i 0) = some (.inr (2, fs)) ∨ ∃ n g, h (xs.getD i 0) = some (aInts .int n g) := by
    rcases hob _ (getD_mem hi) with ⟨n, g, w⟩ | ⟨fs, w⟩
    · exact ⟨[], Or.inr ⟨n, g, w⟩⟩
    · exact ⟨fs, Or.inl w⟩
  -- the list without it
  have fin : ∀ (h2 : aH) (g : Nat → Option Nat), kp (fun q => q = a ∨ some e = some q) h h2 → h2 a = some (aObj 9 [.int (mo + 1), .ref e, .int (i3 (xs.length - 1))]) → h2 e = some (aRefs (.object "java/lang/Object") cap g) → (∀ k, k < xs.length - 1 → g k = some ((xs.eraseIdx i).getD k 0)) → (∀ k, xs.length ≤ k → g k = none) →
      vStN h2 e (i3 xs.length - (1 : Int32)) fun h3 => (aPR fun v h' => v = none ∧ kp (fun q => q = a ∨ some e = some q) h h' ∧ LST G h' a (xs.eraseIdx i) (some e)) (.inl none) h3 := by
    intro h2 g k2 ha2 he2 hg1 hg2
    have e1 : i3 xs.length - 1 = i3 (xs.length - 1) := i3_sub (b := 1) (by omega)
    rw [e1]
    have hlE : (xs.eraseIdx i).length = xs.length - 1 := List.length_eraseIdx_of_lt hi
    refine ⟨cap, g, he2, i3_in (by omega) (by omega), ?_⟩
    rw [i3_nat (by omega)]
    have k3 : kp (fun q => q = a ∨ some e = some q) h (aUp h2 e (aRefs (.object "java/lang/Object") cap (va_up g (xs.length - 1) none))) := k2.tr (kp.up (Or.inr rfl))
    refine ⟨rfl, k3, ⟨mo + 1, by rw [aUp_ne (Ne.symm hea), hlE]; exact ha2⟩, by omega, fun y hy => ?_, fun z => (by cases z), fun e2 he2' => ?_⟩
    · have hy2 := List.mem_of_mem_eraseIdx hy
      exact (hob y hy2).kp k3 (fun z => z.elim (hxs y hy2).1 (hxs y hy2).2)
    · cases he2'
      refine ⟨cap, _, aUp_eq, hc0, hc2, by omega, fun k hk => ?_, fun k hk => ?_⟩
      · unfold va_up
        rw [if_neg (by omega)]; exact hg1 k (by omega)
      · unfold va_up
        by_cases z : k = xs.length - 1
        · rw [if_pos z]
        · rw [if_neg z]; exact hg2 k (by omega)
  have fast : aC l G mJ2_fastRemove (wsN mJ2_fastRemove) 1 0 0 [.ref a, .ref e, .int (i3 i)] h (aPR fun v h' => v = none ∧ kp (fun q => q = a ∨ some e = some q) h h' ∧ LST G h' a (xs.eraseIdx i) (some e)) := by
    obtain ⟨h1, hh1⟩ : ∃ h1, h1 = aUp h a (.inr (9, [Value.int mo, .ref e, .int (i3 xs.length)].set 0 (.int (mo + 1)))) := ⟨_, rfl⟩
    have k1 : kp (· = a) h h1 := by rw [hh1]; exact kp.up rfl
    have ho1 : h1 a = some (aObj 9 [.int (mo + 1), .ref e, .int (i3 xs.length)]) := by rw [hh1]; exact aUp_eq
    have he1 : h1 e = some (aRefs (.object "java/lang/Object") cap f) := k1 _ _ he hea
    have e1 : i3 xs.length - 1 = i3 (xs.length - 1) := i3_sub (b := 1) (by omega)
    refine A_J2_fastRemove hl (vI_mk ho' rfl (vPut_mk ho' (by show 0 < 3; decide) ?_))
    rw [← hh1]
    refine vI_mk ho1 rfl ?_
    have hget : ∀ k, k < xs.length - 1 → (xs.eraseIdx i).getD k 0 = xs.getD (if k < i then k else k + 1) 0 := by
      intro k hk
      have hlE : (xs.eraseIdx i).length = xs.length - 1 := List.length_eraseIdx_of_lt hi
      rw [List.getD_eq_getElem?_getD, List.getD_eq_getElem?_getD, List.getElem?_eraseIdx]
      split
      · rfl
      · rfl
    simp only [e1, i3_le (a := xs.length - 1) (b := i) (by omega) (by omega)]
    rw [← e1]
    refine ⟨fun q => ?_, fun q => ⟨by decide, ?_⟩⟩
    · refine vPut_mk ho1 (by show 2 < 3; decide) (fin _ f ((k1.mono fun q e => Or.inl e).tr (kp.up (Or.inl rfl))) ?_ ?_ (fun k hk => ?_) hf2)
      · rw [aUp_eq, e1]; rfl
      · rw [aUp_ne hea]; exact he1
      · rw [hget k hk, if_pos (by omega)]; exact hf1 k (by omega)
    · have z0 : ¬ i3 (i + 1) < 0 := by rw [i3_neg_lt (by omega)]; exact id
      have z1 : ¬ i3 i < 0 := by rw [i3_neg_lt (by omega)]; exact id
      have z2 : ¬ i3 (xs.length - 1 - i) < 0 := by rw [i3_neg_lt (by omega)]; exact id
      have e2 : i3 xs.length - 1 - i3 i = i3 (xs.length - 1 - i) := by rw [e1, i3_sub (by omega)]
      rw [e2, i3_succ]
      refine ⟨cap, cap, f, f, he1, he1, z0, z1, z2, ?_, ?_, fun j hj y hy => ?_, ?_⟩
      · rw [i3_nat (by omega), i3_nat (by omega)]; omega
      · rw [i3_nat (by omega), i3_nat (by omega)]; omega
      · rw [i3_nat (by omega)] at hj
        rw [i3_nat (by omega)] at hy
        have hlt : i + 1 + j < xs.length := by omega
        rw [hf1 _ hlt] at hy
        cases hy
        have hm := getD_mem (d := 0) hlt
        exact (hob _ hm).kp k1 (hxs _ hm).1
      · rw [i3_nat (by omega), i3_nat (by omega), i3_nat (by omega)]
        have ha2 : (aUp h1 e (aRefs (.object "java/lang/Object") cap (va_cpy f f (i + 1) i (xs.length - 1 - i)))) a = some (aObj 9 [.int (mo + 1), .ref e, .int (i3 xs.length)]) := by rw [aUp_ne (Ne.symm hea)]; exact ho1
        refine vPut_mk ha2 (by show 2 < 3; decide) (fin _ (va_cpy f f (i + 1) i (xs.length - 1 - i)) (((k1.mono fun q e => Or.inl e).tr (kp.up (S := fun q => q = a ∨ some e = some q) (Or.inr rfl))).tr (kp.up (Or.inl rfl))) ?_ ?_ (fun k hk => ?_) (fun k hk => ?_))
        · rw [aUp_eq, e1]; rfl
        · rw [aUp_ne hea]; exact aUp_eq
        · rw [hget k hk]
          unfold va_cpy
          by_cases z : k < i
          · rw [if_pos z, if_neg (by omega)]; exact hf1 k (by omega)
          · rw [if_neg z, if_pos (by omega), show i + 1 + (k - i) = k + 1 by omega]; exact hf1 _ (by omega)
        · unfold va_cpy
          rw [if_neg (by omega)]; exact hf2 k hk
  refine A_J2_remove hl (vI_mk ho' rfl ?_)
  refine vC_p (B_checkIndex15 hl hi (by omega)) (by decide) (by decide) (by decide) ⟨_, rfl, vR_mk ho' rfl (vAR_mk he rfl (by omega : i < cap) (by omega) (hf1 i hi) ⟨⟨_, ho'⟩, ?_⟩)⟩
  refine vC_r fast (by decide) (by decide) (by decide) fun v h' hR => ?_
  obtain ⟨rfl, r⟩ := hR
  exact ⟨rfl, rfl, r⟩
end AAL
