/-! arrangements are made
-/
set_option maxRecDepth 100000
/-- while arrangements are made: the object, its list, the line that is filled; what was ahead (h0) is as it was -/
def MK (G : aG) (h0 h : aH) (ar li ln n m : Nat) (rows : List (List Nat)) (g : Nat → Int32) : Prop := kp (fun _ => False) h0 h ∧ (h0 ar = none ∧ h0 li = none ∧ h0 ln = none) ∧ h ar = some (aObj 4 [.ref li, .int (i3 n), .int (i3 m)]) ∧ h ln = some (aInts .int n g) ∧
  ∃ (xs : List Nat) (eo : Option Nat), LST G h li xs eo ∧ xs.length = rows.length ∧ (∀ k, k < xs.length → rowA h (xs.getD k 0) n (rows.getD k [])) ∧ (∀ x ∈ xs, h0 x = none ∧ x ≠ ln) ∧ ∀ e, eo = some e → h0 e = none
def stepA (n m r met : Nat) (pre : List Nat) (t : Nat) : List (List Nat) := if (if t = m then decide (m - pc met < r + 1) else !met.testBit t) then mkA n m r (if t = m then met else met ||| 1 <<< t) (pre ++ [t]) else []
theorem mkA_step {n m r met : Nat} {pre : List Nat} : mkA n m (r + 1) met pre = (List.range (m + 1)).flatMap (stepA n m r met pre) := rfl
theorem flat_succ {f : Nat → List (List Nat)} {t : Nat} : (List.range (t + 1)).flatMap f = (List.range t).flatMap f ++ f t := by rw [List.range_succ, List.flatMap_append]; simp
theorem flat_le {f : Nat → List (List Nat)} {t N : Nat} (h : t ≤ N) : ((List.range t).flatMap f).length ≤ ((List.range N).flatMap f).length := by
  induction N with
  | zero => have : t = 0 := by omega
            subst this; exact Nat.le_refl _
  | succ N ih =>
    rcases Nat.lt_or_ge t (N + 1) with q | q
    · have := ih (by omega)
      rw [flat_succ (t := N), List.length_append]; omega
    · have : t = N + 1 := by omega
      subst this; exact Nat.le_refl _
section MAK
variable {l : Launch} {G : aG} {h0 : aH} {ar li ln n m : Nat}
theorem B_make4 (hl : l.stackTraces = false) (hok : okNM n m) : ∀ (r : Nat) (h : aH) (rows : List (List Nat)) (g : Nat → Int32) (met : Nat) (pre : List Nat), pre.length + r = n → met < 2 ^ m → rows.length + (mkA n m r met pre).length ≤ 120 → MK G h0 h ar li ln n m rows g → (∀ j, j < pre.length → g j = i3 (pre.getD j 0)) →
    aC l G mX4_make (wsN mX4_make) (7 + r) (2 * (mkA n m r met pre).length) (205 * (mkA n m r met pre).length) [.ref ar, .int (i3 pre.length), .int (i3 met), .ref ln] h (aPR fun v h' => v = none ∧ ∃ g', MK G h0 h' ar li ln n m (rows ++ mkA n m r met pre) g' ∧ ∀ j, j < pre.length → g' j = i3 (pre.getD j 0)) := by
  have hn := hok.n45
  have hm := hok.m24
  have h16 := p16 hm.2.2
  intro r
  induction r with
  | zero =>
    intro h rows g met pre hlen hmet hrl hM hg
    obtain ⟨k0, ⟨f1, f2, f3⟩, o1, o2, xs, eo, hL, hx1, hx2, hx3, hx4⟩ := hM
    have hpl : pre.length = n := by omega
    have hone : (mkA n m 0 met pre).length = 1 := rfl
    rw [hone] at hrl ⊢
    have hL0 := hL
    obtain ⟨⟨mo, lo⟩, lr⟩ := hL
    refine A_X4_make hl (vI_mk o1 rfl ⟨fun q => absurd (by rw [hpl]) q, fun _ => vI_mk o1 rfl ⟨n, by rw [i3_neg_lt (by omega)]; exact id, i3_nat (by omega), by omega, by decide, by omega, fun q hq _ => ?_⟩⟩)
    have hqa : q ≠ ar := fun z => by rw [z, o1] at hq; cases hq
    have hqn : q ≠ ln := fun z => by rw [z, o2] at hq; cases hq
    have hql : q ≠ li := fun z => by rw [z, lo] at hq; cases hq
    have o1' : (aUp h q (aInts .int n fun _ => 0)) ar = some (aObj 4 [.ref li, .int (i3 n), .int (i3 m)]) := by rw [aUp_ne (Ne.symm hqa)]; exact o1
    have o2' : (aUp h q (aInts .int n fun _ => 0)) ln = some (aInts .int n g) := by rw [aUp_ne (Ne.symm hqn)]; exact o2
    refine vI_mk o1' rfl ⟨by decide, vCpyI_mk (sp := 0) (dp := 0) (n := n) o2' aUp_eq rfl rfl rfl (by omega) (by omega) (by omega) (by omega) ?_⟩
    obtain ⟨h2, hh2⟩ : ∃ h2, h2 = aUp (aUp h q (aInts .int n fun _ => 0)) q (aInts .int n (va_cpy g (fun _ => 0) 0 0 n)) := ⟨_, rfl⟩
    rw [← hh2]
    have k2 : kp (fun _ => False) h h2 := fun w y hw _ => by
      have z : w ≠ q := fun z => by rw [z, hq] at hw; cases hw
      rw [hh2, aUp_ne z, aUp_ne z]; exact hw
    have hq2 : h2 q = some (aInts .int n (va_cpy g (fun _ => 0) 0 0 n)) := by rw [hh2]; exact aUp_eq
    have hrow : rowA h2 q n pre := ⟨_, hq2, fun k hk => by
      unfold va_cpy
      rw [if_pos (by omega), Nat.zero_add, Nat.sub_zero]; exact hg k (by omega)⟩
    have hL2 : LST G h2 li xs eo := hL0.kp k2 id (fun _ _ => id) (fun _ _ => id)
    have hq0 : h0 q = none := by
      cases w : h0 q with
      | none => rfl
      | some y => have := k0 q y w id; rw [hq] at this; cases this
    have obx : ∀ x ∈ xs, (x ≠ li ∧ eo ≠ some x) := by
      intro x hx
      have hob := lr.2.1 x hx
      refine ⟨fun z => ?_, fun z => ?_⟩
      · rw [z] at hob
        rcases hob with ⟨_, _, w⟩ | ⟨_, w⟩
        · rw [lo] at w; cases w
        · rw [lo] at w; cases w
      · obtain ⟨cap, f, w1, -⟩ := lr.2.2.2 x z
        rcases hob with ⟨_, _, w⟩ | ⟨_, w⟩
        · rw [w1] at w; cases w
        · rw [w1] at w; cases w
    have hqe : eo ≠ some q := fun z => by obtain ⟨cap, f, w1, -⟩ := lr.2.2.2 q z; rw [hq] at w1; cases w1
    have hle : eo ≠ some li := fun z => by obtain ⟨cap, f, w1, -⟩ := lr.2.2.2 li z; rw [lo] at w1; cases w1
    have hae : eo ≠ some ar := fun z => by obtain ⟨cap, f, w1, -⟩ := lr.2.2.2 ar z; rw [o1] at w1; cases w1
    have hne : eo ≠ some ln := fun z => by obtain ⟨cap, f, w1, -⟩ := lr.2.2.2 ln z; rw [o2] at w1; cases w1
    have hal : ar ≠ li := fun z => by rw [z, lo] at o1; cases o1
    have hnl : ln ≠ li := fun z => by rw [z, lo] at o2; cases o2
    refine vR_mk (k2 _ _ o1 id) rfl ⟨⟨_, k2 _ _ lo id⟩, ?_⟩
    refine vC_r (B_add hl hL2 (Or.inl ⟨n, _, hq2⟩) (by omega) hql hqe hle obx) (by omega) (by decide) (by omega) fun v h3 hR => ?_
    obtain ⟨hv, k3, eo', hL3, hee⟩ := hR
    refine ⟨1, hv, rfl, g, ⟨?_, ⟨f1, f2, f3⟩, k3 _ _ (k2 _ _ o1 id) (fun z => z.elim hal hae), k3 _ _ (k2 _ _ o2 id) (fun z => z.elim hnl hne), xs ++ [q], eo', hL3, ?_, fun k hk => ?_, fun x hx => ?_, fun e he => ?_⟩, hg⟩
    · intro w y hw _
      refine k3 _ _ (k2 _ _ (k0 _ _ hw id) id) ?_
      rintro (z | z)
      · rw [z, f2] at hw; cases hw
      · rw [hx4 w z] at hw; cases hw
    · rw [List.length_append, List.length_append, hx1]; rfl
    · rw [List.length_append] at hk
      have hk : k < xs.length + 1 := hk
      have keep : ∀ y row, rowA h2 y n row → y ≠ li → eo ≠ some y → rowA h3 y n row := by
        intro y row ⟨f, w1, w2⟩ z1 z2
        exact ⟨f, k3 _ _ w1 (fun z => z.elim z1 z2), w2⟩
      by_cases z : k = xs.length
      · rw [z, getD_app_eq, hx1, show rows ++ mkA n m 0 met pre = rows ++ [pre] from rfl, getD_app_eq]
        exact keep q pre hrow hql hqe
      · have hk3 : k < xs.length := by omega
        rw [getD_app_lt hk3, getD_app_lt (by omega)]
        obtain ⟨f, w1, w2⟩ := hx2 k hk3
        have hm2 := getD_mem (d := 0) hk3
        exact keep _ _ ⟨f, k2 _ _ w1 id, w2⟩ (obx _ hm2).1 (obx _ hm2).2
    · rcases List.mem_append.mp hx with hx | hx
      · exact hx3 x hx
      · rw [List.mem_singleton.mp hx]; exact ⟨hq0, hqn⟩
    · rcases hee with z | ⟨e', z1, z2⟩
      · exact hx4 e (by rw [← z]; exact he)
      · have hee2 := Option.some.inj (z1.symm.trans he)
        rw [hee2] at z2
        cases w : h0 e with
        | none => rfl
        | some y => have := k2 _ _ (k0 _ y w id) id; rw [z2] at this; cases this
  | succ r ih =>
    intro h rows g met pre hlen hmet hrl hM hg
    have hpl : pre.length < n := by omega
    have hbc : pc met ≤ m := (by decide +kernel : ∀ (m : Fin 5) (a : Fin 16), a.1 < 2 ^ m.1 → pc a.1 ≤ m.1) ⟨m, by omega⟩ ⟨met, by omega⟩ hmet
    obtain ⟨tot, htot⟩ : ∃ tot, tot = mkA n m (r + 1) met pre := ⟨_, rfl⟩
    rw [← htot] at hrl ⊢
    have hpart : ∀ t, t ≤ m + 1 → ((List.range t).flatMap (stepA n m r met pre)).length ≤ tot.length := fun t ht => by rw [htot, mkA_step]; exact flat_le ht
    have ho1 := hM.2.2.1
    refine A_X4_make hl (vI_mk ho1 rfl ⟨fun _ => ?_, fun q => absurd q (by rw [i3_eq (by omega) (by omega)]; omega)⟩)
    have loop := vloop (N := m + 1) (T := fun t => ∀ (h1 : aH) (g1 : Nat → Int32), MK G h0 h1 ar li ln n m (rows ++ (List.range t).flatMap (stepA n m r met pre)) g1 → (∀ j, j < pre.length → g1 j = i3 (pre.getD j 0)) →
        T_X4_make_44 l G (7 + (r + 1)) (2 * tot.length) (205 * tot.length) (aPR fun v h' => v = none ∧ ∃ g', MK G h0 h' ar li ln n m (rows ++ tot) g' ∧ ∀ j, j < pre.length → g' j = i3 (pre.getD j 0)) ar (i3 pre.length) (i3 met) ln (i3 t) h1 (2 * ((List.range t).flatMap (stepA n m r met pre)).length) (205 * ((List.range t).flatMap (stepA n m r met pre)).length)) ?_ ?_ 0 (Nat.zero_le _) h g (by show MK G h0 h ar li ln n m (rows ++ []) g; rw [List.append_nil]; exact hM) hg
    · exact loop
    · intro h1 g1 hM1 hg1
      refine A_X4_make_44 hl (vI_mk hM1.2.2.1 rfl ⟨fun _ => ⟨rfl, g1, by rw [htot]; exact hM1, hg1⟩, fun q => absurd (by rw [i3_lt (by omega) (by omega)]; omega) q⟩)
    · intro t ht ihT h1 g1 hM1 hg1
      rw [flat_succ, List.length_append, ← List.append_assoc] at ihT
      have hp1 := hpart (t + 1) (by omega)
      rw [flat_succ, List.length_append] at hp1
      obtain ⟨p0, hp0⟩ : ∃ p0, p0 = (List.range t).flatMap (stepA n m r met pre) := ⟨_, rfl⟩
      rw [← hp0] at ihT hM1 hp1 ⊢
      have hM0 := hM1
      obtain ⟨k0, ⟨f1, f2, f3⟩, o1, o2, xs, eo, hL, hx1, hx2, hx3, hx4⟩ := hM1
      have t106 : ∀ z : Bool, z = (if t = m then decide (m - pc met < r + 1) else !met.testBit t) → T_X4_make_106 l G (7 + (r + 1)) (2 * tot.length) (205 * tot.length) (aPR fun v h' => v = none ∧ ∃ g', MK G h0 h' ar li ln n m (rows ++ tot) g' ∧ ∀ j, j < pre.length → g' j = i3 (pre.getD j 0)) ar (i3 pre.length) (i3 met) ln (i3 t) (bI z) h1 (2 * p0.length) (205 * p0.length) := by
        intro z hz
        refine A_X4_make_106 hl (vSt_mk o2 rfl hpl (by omega) ?_)
        have hnl : ln ≠ li := fun e => by obtain ⟨⟨mo, lo⟩, -⟩ := hL; rw [e, lo] at o2; cases o2
        have hna : ln ≠ ar := fun e => by rw [e, o1] at o2; cases o2
        have k2 : kp (· = ln) h1 (aUp h1 ln (aInts .int n (upd g1 pre.length (i3 t)))) := kp.up rfl
        have hM2 : MK G h0 (aUp h1 ln (aInts .int n (upd g1 pre.length (i3 t)))) ar li ln n m (rows ++ p0) (upd g1 pre.length (i3 t)) := by
          refine ⟨fun w y hw _ => k2 _ _ (k0 _ _ hw id) (fun e => by rw [e, f3] at hw; cases hw), ⟨f1, f2, f3⟩, by rw [aUp_ne (Ne.symm hna)]; exact o1, aUp_eq, xs, eo, hL.kp k2 (fun e => hnl e.symm) (fun e he z => by rw [z] at he; obtain ⟨_, _, _, _, w⟩ := hL; obtain ⟨cap, f, w1, -⟩ := w _ he; rw [o2] at w1; cases w1) (fun x hx => (hx3 x hx).2), hx1, fun k hk => ?_, hx3, hx4⟩
          obtain ⟨f, w1, w2⟩ := hx2 k hk
          exact ⟨f, k2 _ _ w1 (hx3 _ (getD_mem hk)).2, w2⟩
        have hg2 : ∀ j, j < (pre ++ [t]).length → upd g1 pre.length (i3 t) j = i3 ((pre ++ [t]).getD j 0) := by
          intro j hj
          rw [List.length_append] at hj
          have hj : j < pre.length + 1 := hj
          by_cases e : j = pre.length
          · rw [e, upd_same, getD_app_eq]
          · rw [upd_ne e, getD_app_lt (by omega)]; exact hg1 j (by omega)
        have hg3 : ∀ j, j < pre.length → upd g1 pre.length (i3 t) j = i3 (pre.getD j 0) := fun j hj => by rw [upd_ne (by omega)]; exact hg1 j hj
        cases z with
        | false =>
          have hst : stepA n m r met pre t = [] := by unfold stepA; rw [← hz]; rfl
          rw [hst, List.append_nil] at ihT
          refine ⟨fun _ => ?_, fun q => absurd rfl q⟩
          rw [i3_succ]
          exact ihT _ _ hM2 hg3
        | true =>
          have hst : stepA n m r met pre t = mkA n m r (if t = m then met else met ||| 1 <<< t) (pre ++ [t]) := by unfold stepA; rw [← hz]; rfl
          rw [hst] at ihT hp1
          refine ⟨fun q => (by cases q), fun _ => vI_mk hM2.2.2.1 rfl ⟨⟨_, hM2.2.2.1⟩, ?_⟩⟩
          have emet : (if i3 t = i3 m then i3 met else i3 met ||| ((1 : Int32) <<< (i3 t &&& 31))) = i3 (if t = m then met else met ||| 1 <<< t) := by
            have e0 : (i3 t = i3 m) = (t = m) := i3_eq (by omega) (by omega)
            simp only [e0]
            by_cases w : t = m
            · rw [if_pos w, if_pos w]
            · rw [if_neg w, if_neg w, i3_one (by omega), i3_or]
          have elen : i3 pre.length + 1 = i3 (pre ++ [t]).length := by rw [i3_succ, List.length_append]; rfl
          rw [emet, elen]
          have hml : (if t = m then met else met ||| 1 <<< t) < 2 ^ m := by
            by_cases w : t = m
            · rw [if_pos w]; exact hmet
            · rw [if_neg w]; exact or_lt hmet (by omega)
          refine vC_r (ih _ (rows ++ p0) _ _ (pre ++ [t]) (by rw [List.length_append]; show pre.length + 1 + r = n; omega) hml (by rw [List.length_append]; omega) hM2 hg2) (by omega) (by omega) (by omega) fun v h3 hR => ?_
          obtain ⟨hv, g3, hM3, hg4⟩ := hR
          refine ⟨hv, ?_⟩
          have := ihT h3 g3 hM3 (fun j hj => by
            have := hg4 j (by rw [List.length_append]; show j < pre.length + 1; omega)
            rw [this, getD_app_lt hj])
          rw [Nat.mul_add, Nat.mul_add] at this
          rw [i3_succ]
          exact this
      refine A_X4_make_44 hl (vI_mk o1 rfl ⟨fun q => absurd (by rwa [i3_lt (by omega) (by omega)] at q) (by omega : ¬ m < t), fun _ => vI_mk o1 rfl (vI_mk o1 rfl ?_)⟩)
      refine vC_p (B_bitCount hl (by omega)) (by omega) (by omega) (by omega) ⟨_, rfl, fun v hv => vI_mk o1 rfl ?_⟩
      have e0 : (i3 t = i3 m) = (t = m) := i3_eq (by omega) (by omega)
      simp only [e0]
      refine ⟨fun q => ?_, fun q => ?_⟩
      · refine vC_p (B_has hl (by omega) (by omega)) (by omega) (by omega) (by omega) ⟨_, rfl, ?_⟩
        have e1 : (if bI (met.testBit t) = 0 then (1 : Int32) else 0) = bI (!met.testBit t) := by cases met.testBit t <;> rfl
        show T_X4_make_106 l G (7 + (r + 1)) (2 * tot.length) (205 * tot.length) _ ar (i3 pre.length) (i3 met) ln (i3 t) (if bI (met.testBit t) = 0 then (1 : Int32) else 0) h1 (2 * p0.length + 0) (205 * p0.length + 0)
        rw [e1]
        exact t106 _ (by rw [if_neg q])
      · have e1 : v = bI (decide (m - pc met < r + 1)) := by
          rw [hv, i3_sub (by omega), i3_sub hbc]
          simp only [i3_le (a := n - pre.length) (b := m - pc met) (by omega) (by omega)]
          rw [bI_if']
          congr 1
          exact decide_eq_decide.mpr ⟨fun z => by omega, fun z => by omega⟩
        rw [e1]
        exact t106 _ (by rw [if_pos q])
theorem B_init4 (hl : l.stackTraces = false) (hok : okNM n m) (hf : h0 ar = none) :
    aC l G mX4_init (wsN mX4_init) 13 242 24608 [.ref ar, .int (i3 n), .int (i3 m)] (aUp h0 ar (aObj 4 [.null, .int 0, .int 0])) (aPR fun v h' => v = none ∧ ∃ li ln g, MK G h0 h' ar li ln n m (arrs n m) g) := by
  have hn := hok.n45
  have hm := hok.m24
  have hal := arrs_len hok
  refine A_X4_init hl ⟨by decide, by decide, by decide, fun li hli _ => ?_⟩
  have hla : li ≠ ar := fun z => by rw [z, aUp_eq] at hli; cases hli
  have hl0 : h0 li = none := by rw [aUp_ne hla] at hli; exact hli
  refine vC_r (B_linit hl aUp_eq) (by decide) (by decide) (by decide) fun v h1 hR => ?_
  obtain ⟨hv, k1, hL⟩ := hR
  refine ⟨hv, ?_⟩
  have hpre : kp (fun _ => False) h0 (aUp (aUp h0 ar (aObj 4 [.null, .int 0, .int 0])) li (aObj 9 [.int 0, .null, .int 0])) := fun w y hw _ => by
    have z1 : w ≠ ar := fun z => by rw [z, hf] at hw; cases hw
    have z2 : w ≠ li := fun z => by rw [z, hl0] at hw; cases hw
    rw [aUp_ne z2, aUp_ne z1]; exact hw
  have har1 : h1 ar = some (aObj 4 [.null, .int 0, .int 0]) := k1 _ _ (by rw [aUp_ne (Ne.symm hla)]; exact aUp_eq) (Ne.symm hla)
  refine vPut_mk har1 (by show 0 < 3; decide) (vPut_mk aUp_eq (by show 1 < 3; decide) (vPut_mk aUp_eq (by show 2 < 3; decide) ⟨n, by rw [i3_neg_lt (by omega)]; exact id, i3_nat (by omega), by omega, by decide, by omega, fun ln hln _ => ?_⟩))
  obtain ⟨h2, hh2⟩ : ∃ h2, h2 = aUp (aUp (aUp h1 ar (.inr (4, [Value.null, .int 0, .int 0].set 0 (.ref li)))) ar (.inr (4, ([Value.null, .int 0, .int 0].set 0 (.ref li)).set 1 (.int (i3 n))))) ar (.inr (4, (([Value.null, .int 0, .int 0].set 0 (.ref li)).set 1 (.int (i3 n))).set 2 (.int (i3 m)))) := ⟨_, rfl⟩
  rw [← hh2] at hln ⊢
  have k2 : kp (· = ar) h1 h2 := by rw [hh2]; exact ((kp.up (S := (· = ar)) rfl).tr (kp.up rfl)).tr (kp.up rfl)
  have har2 : h2 ar = some (aObj 4 [.ref li, .int (i3 n), .int (i3 m)]) := by rw [hh2]; exact aUp_eq
  have hL2 : LST G h2 li [] none := hL.kp k2 hla (fun e he => by cases he) (fun x hx => by cases hx)
  have hlna : ln ≠ ar := fun z => by rw [z, har2] at hln; cases hln
  have hlnl : ln ≠ li := fun z => by obtain ⟨⟨mo, lo⟩, -⟩ := hL2; rw [z, lo] at hln; cases hln
  have k02 : kp (fun _ => False) h0 h2 := fun w y hw _ => by
    have z1 : w ≠ ar := fun z => by rw [z, hf] at hw; cases hw
    have z2 : w ≠ li := fun z => by rw [z, hl0] at hw; cases hw
    exact k2 _ _ (k1 _ _ (hpre _ _ hw id) z2) z1
  have hln0 : h0 ln = none := by
    cases w : h0 ln with
    | none => rfl
    | some y => have := k02 _ y w id; rw [hln] at this; cases this
  have hM : MK G h0 (aUp h2 ln (aInts .int n fun _ => 0)) ar li ln n m [] (fun _ => 0) := by
    refine ⟨fun w y hw _ => ?_, ⟨hf, hl0, hln0⟩, by rw [aUp_ne (Ne.symm hlna)]; exact har2, aUp_eq, [], none, ?_, rfl, fun k hk => absurd hk (Nat.not_lt_zero _), fun x hx => (by cases hx), fun e he => (by cases he)⟩
    · have z : w ≠ ln := fun z => by rw [z, hln0] at hw; cases hw
      rw [aUp_ne z]; exact k02 _ _ hw id
    · exact hL2.kp (S := fun _ => False) (kp.new hln) id (fun _ _ => id) (fun _ _ => id)
  have har3 := hM.2.2.1
  refine ⟨⟨_, har3⟩, ?_⟩
  have hmk := B_make4 (l := l) (G := G) hl hok n _ [] (fun _ => 0) 0 [] (Nat.zero_add _) (Nat.two_pow_pos _) (by show 0 + (arrs n m).length ≤ 120; omega) hM (fun j hj => absurd hj (Nat.not_lt_zero _))
  refine vC_r hmk (by omega) (by show 0 + 1 + 0 + 1 + 2 * (arrs n m).length ≤ 242; omega) (by show 0 + 3 + 0 + n + 205 * (arrs n m).length ≤ 24608; omega) fun v h3 hR => ?_
  obtain ⟨hv3, g', hM3, -⟩ := hR
  refine ⟨hv3, rfl, li, ln, g', ?_⟩
  rw [List.nil_append] at hM3
  exact hM3
theorem MK.arr {I : Nat → Prop} {h : aH} {g : Nat → Int32} (hok : okNM n m) (hM : MK G h0 h ar li ln n m (arrs n m) g) (hI : ∀ q, I q → h0 q ≠ none) : ∃ I' : Nat → Prop, (∀ q, I q → I' q) ∧ (∀ q, I' q → I q ∨ h0 q = none) ∧ (∀ q, I' q → h q ≠ none) ∧ ARR I' h ar n m := by
  obtain ⟨k0, ⟨f1, f2, f3⟩, o1, o2, xs, eo, hL, hx1, hx2, hx3, hx4⟩ := hM
  have hal := arrs_len hok
  have hpos : 0 < (arrs n m).length := by
    rcases hok with ⟨rfl, rfl | rfl⟩ | ⟨rfl, rfl | rfl | rfl⟩
    · rw [len_42]; decide
    · rw [len_43]; decide
    · rw [len_52]; decide
    · rw [len_53]; decide
    · rw [len_54]; decide
  obtain ⟨⟨mo, lo⟩, hlen, hob, hnone, hsome⟩ := hL
  obtain ⟨e, he⟩ : ∃ e, eo = some e := by
    cases heo : eo with
    | none => have := hnone heo; rw [this] at hx1; rw [← hx1] at hpos; exact absurd hpos (Nat.lt_irrefl _)
    | some e => exact ⟨e, rfl⟩
  subst he
  obtain ⟨cap, f, w1, w2, w3, w4, w5, w6⟩ := hsome e rfl
  refine ⟨fun q => I q ∨ q = ar ∨ q = li ∨ q = e ∨ q ∈ xs, fun q hq => Or.inl hq, fun q hq => ?_, fun q hq => ?_, li, e, cap, f, o1, ⟨⟨mo, by rw [← hx1]; exact lo⟩, w1, by omega, by omega⟩, fun k hk => ?_, Or.inr (Or.inl rfl), Or.inr (Or.inr (Or.inl rfl)), Or.inr (Or.inr (Or.inr (Or.inl rfl)))⟩
  · rcases hq with hq | rfl | rfl | rfl | hq
    · exact Or.inl hq
    · exact Or.inr f1
    · exact Or.inr f2
    · exact Or.inr (hx4 _ rfl)
    · exact Or.inr (hx3 q hq).1
  · rcases hq with hq | rfl | rfl | rfl | hq
    · cases z : h0 q with
      | none => exact absurd z (hI q hq)
      | some y => rw [k0 _ _ z id]; simp
    · rw [o1]; simp
    · rw [lo]; simp
    · rw [w1]; simp
    · rcases hob q hq with ⟨_, _, z⟩ | ⟨_, z⟩
      · rw [z]; simp
      · rw [z]; simp
  · exact ⟨xs.getD k 0, w5 k (by omega), hx2 k (by omega), Or.inr (Or.inr (Or.inr (Or.inr (getD_mem (by omega)))))⟩
end MAK
