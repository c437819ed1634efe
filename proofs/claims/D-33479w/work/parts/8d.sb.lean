/-! the text: a builder of strings
-/
set_option maxRecDepth 100000
theorem byteF : ∀ c : Fin 128, Jvm.fits .byte (.int (i3 c.1)) = true := by decide +kernel
theorem byteN : ∀ c : Fin 128, vp_nar .byte (i3 c.1).toInt8.toInt32 = i3 c.1 := by decide +kernel
theorem charN : ∀ c : Fin 128, ((((i3 c.1) &&& (255 : Int32)).toUInt32 % 65536).toInt32) = i3 c.1 := by decide +kernel
theorem charV : ∀ c : Fin 128, vp_nar .char (i3 c.1) = i3 c.1 := by decide +kernel
theorem charW {x : Int32} : narrow .char (.int x) = .int (vp_nar .char x) := rfl
/-- the builder's object, its array of bytes, the characters -/
def SBV (h : aH) (a va : Nat) (cs : List Nat) : Prop := ∃ (cap : Nat) (f : Nat → Int32) (mk : Int32), h a = some (aObj 10 [.ref va, .int 0, .int mk, .int (i3 cs.length)]) ∧ h va = some (aInts .byte cap f) ∧ cs.length ≤ cap ∧ 0 < cap ∧ cap ≤ 300 ∧ (∀ k, k < cap → ∃ c, c < 128 ∧ f k = i3 c) ∧ ∀ k, k < cs.length → f k = i3 (cs.getD k 0)
theorem SBV.kp {S : Nat → Prop} {h h' : aH} {a va : Nat} {cs : List Nat} (hV : SBV h a va cs) (hk : kp S h h') (h1 : ¬ S a) (h2 : ¬ S va) : SBV h' a va cs := by
  obtain ⟨cap, f, mk, ho, hv, r⟩ := hV
  exact ⟨cap, f, mk, hk _ _ ho h1, hk _ _ hv h2, r⟩
theorem SBV.small {h : aH} {a va : Nat} {cs : List Nat} (hV : SBV h a va cs) : ∀ k, k < cs.length → ∃ c, c < 128 ∧ i3 (cs.getD k 0) = i3 c := by
  obtain ⟨cap, f, mk, ho, hv, hl, h0, h3, hb, hc⟩ := hV
  intro k hk
  obtain ⟨c, c1, c2⟩ := hb k (by omega)
  exact ⟨c, c1, by rw [← hc k hk]; exact c2⟩
section SBS
variable {l : Launch} {G : aG} {h : aH} {a va : Nat} {cs : List Nat}
theorem B_sbinit (hl : l.stackTraces = false) (ho : h a = some (aObj 10 [.null, .int 0, .int 0, .int 0])) : aC l G mJ8_init (wsN mJ8_init) 2 1 16 [.ref a] h (aPR fun v h' => v = none ∧ kp (· = a) h h' ∧ ∃ va, h va = none ∧ SBV h' a va []) := by
  have h1 : aC l G mJ7_init (wsN mJ7_init) 1 1 16 [.ref a, .int 16] h (aPR fun v h' => v = none ∧ kp (· = a) h h' ∧ ∃ va, h va = none ∧ SBV h' a va []) := by
    refine A_J7_init hl ⟨by decide, 16, by decide, rfl, by decide, by decide, by decide, fun q hq _ => ?_⟩
    have hqa : q ≠ a := fun z => by rw [z, ho] at hq; cases hq
    refine vPut_mk (by rw [aUp_ne (Ne.symm hqa)]; exact ho) (by show 0 < 4; decide) (vPut_mk aUp_eq (by show 1 < 4; decide) ⟨rfl, ((kp.new (S := (· = a)) hq).tr (kp.up rfl)).tr (kp.up rfl), q, hq, 16, fun _ => 0, 0, aUp_eq, ?_, by decide, by decide, by decide, fun k _ => ⟨0, by decide, rfl⟩, fun k hk => absurd hk (Nat.not_lt_zero _)⟩)
    rw [aUp_ne hqa, aUp_ne hqa]; exact aUp_eq
  refine A_J8_init hl (vC_r h1 (by decide) (by decide) (by decide) fun v h' hR => ?_)
  obtain ⟨rfl, r⟩ := hR
  exact ⟨rfl, rfl, r⟩
theorem B_sblen (hl : l.stackTraces = false) (hV : SBV h a va cs) : aC l G mJ8_length (wsN mJ8_length) 1 0 0 [.ref a] h (aP1 (some (.int (i3 cs.length))) h) := by
  obtain ⟨cap, f, mk, ho, -⟩ := hV
  refine A_J8_length hl ⟨⟨_, ho⟩, ?_⟩
  have h1 : aC l G mJ7_length (wsN mJ7_length) 0 0 0 [.ref a] h (aP1 (some (.int (i3 cs.length))) h) := A_J7_length hl (vI_mk ho rfl ⟨rfl, rfl⟩)
  exact vC_p h1 (by decide) (by decide) (by decide) ⟨_, rfl, rfl, rfl⟩
theorem B_charAt (hl : l.stackTraces = false) (hV : SBV h a va cs) {k c : Nat} (hk : k < cs.length) (hc : cs.getD k 0 = c) (hc2 : c < 128) : aC l G mJ8_charAt (wsN mJ8_charAt) 4 0 0 [.ref a, .int (i3 k)] h (aP1 (some (.int (i3 c))) h) := by
  obtain ⟨cap, f, mk, ho, hv, hlc, h0, h3, hb, hcs⟩ := hV
  have hnar : narrow .char (.int (i3 c)) = .int (i3 c) := by rw [charW, charV ⟨c, hc2⟩]
  have hm : min cs.length cap = cs.length := by omega
  have hsh : (Int32.ofNat cap) >>> ((0 : Int32) &&& 31) = i3 cap := by
    have : i3 cap >>> (i3 0 &&& 31) = i3 (cap >>> 0) := i3_shr (by omega) (by decide)
    exact this
  have hci : aC l G mJ9_checkIndex (wsN mJ9_checkIndex) 1 0 0 [.int (i3 k), .int (i3 cs.length)] h (aP1 none h) := by
    refine A_J9_checkIndex hl fun o => ?_
    exact vC_p (B_checkIndex16 hl (o := o) hk (by omega)) (by decide) (by decide) (by decide) ⟨_, rfl, rfl, rfl⟩
  have h7 : aC l G mJ7_charAt (wsN mJ7_charAt) 3 0 0 [.ref a, .int (i3 k)] h (aP1 (some (.int (i3 c))) h) := by
    refine A_J7_charAt hl (vI_mk ho rfl (vR_mk ho rfl (vI_mk ho rfl (vLen_mk hv 3 rfl ?_))))
    show vC l G mJ4_min (wsN mJ4_min) 3 0 0 [.int (i3 cs.length), .int (Int32.ofNat cap >>> ((0 : Int32) &&& 31))] h 0 0 _ _
    rw [hsh]
    refine vC_p (B_min hl (a := cs.length) (b := cap) (by omega) (by omega)) (by decide) (by decide) (by decide) ⟨_, rfl, ?_⟩
    rw [hm]
    refine vC_p hci (by decide) (by decide) (by decide) ⟨rfl, fun q => absurd rfl q, fun _ => vA_mk hv rfl (by omega : k < cap) (by omega) ?_⟩
    rw [hcs k hk, hc, charN ⟨c, hc2⟩]
    exact ⟨hnar, rfl, rfl⟩
  refine A_J8_charAt hl ⟨⟨_, ho⟩, ?_⟩
  exact vC_p h7 (by decide) (by decide) (by decide) ⟨_, rfl, hnar, rfl, rfl⟩
theorem B_setLen0 (hl : l.stackTraces = false) (hV : SBV h a va cs) : aC l G mJ8_setLength (wsN mJ8_setLength) 2 0 0 [.ref a, .int 0] h (aPR fun v h' => v = none ∧ kp (· = a) h h' ∧ SBV h' a va []) := by
  obtain ⟨cap, f, mk, ho, hv, hlc, h0, h3, hb, hcs⟩ := hV
  have hva : va ≠ a := fun z => by rw [z, ho] at hv; cases hv
  have hsh : (Int32.ofNat cap) >>> ((0 : Int32) &&& 31) = i3 cap := by
    have : i3 cap >>> (i3 0 &&& 31) = i3 (cap >>> 0) := i3_shr (by omega) (by decide)
    exact this
  have hen : aC l G mJ7_ensureCapacityInternal (wsN mJ7_ensureCapacityInternal) 0 0 0 [.ref a, .int 0] h (aP1 none h) := by
    refine A_J7_ensureCapacityInternal hl (vR_mk ho rfl (vLen_mk hv 3 rfl (vI_mk ho rfl ?_)))
    have hle : (0 : Int32) - (Int32.ofNat cap >>> ((0 : Int32) &&& 31)) ≤ 0 := by
      rw [hsh, Int32.le_iff_toInt_le]
      have := i3_subZ (a := 0) (b := cap) (by decide) (by omega)
      show (i3 0 - i3 cap).toInt ≤ _
      rw [this]
      show ((0 : Nat) : Int) - cap ≤ 0
      omega
    exact ⟨fun _ => ⟨rfl, rfl⟩, fun q => absurd hle q⟩
  have fin : ∀ mk2 : Int32, ∀ h2 : aH, kp (· = a) h h2 → h2 a = some (aObj 10 [.ref va, .int 0, .int mk2, .int (i3 cs.length)]) → h2 va = some (aInts .byte cap f) → SBV (aUp h2 a (.inr (10, [Value.ref va, .int 0, .int mk2, .int (i3 cs.length)].set 3 (.int 0)))) a va [] := by
    intro mk2 h2 k2 q1 q2
    exact ⟨cap, f, mk2, aUp_eq, by rw [aUp_ne hva]; exact q2, Nat.zero_le _, h0, h3, hb, fun k hk => absurd hk (Nat.not_lt_zero _)⟩
  have h7 : aC l G mJ7_setLength (wsN mJ7_setLength) 1 0 0 [.ref a, .int 0] h (aPR fun v h' => v = none ∧ kp (· = a) h h' ∧ SBV h' a va []) := by
    refine A_J7_setLength hl ⟨fun _ => ⟨⟨_, ho⟩, ?_⟩, fun q => absurd (by decide) q⟩
    refine vC_p hen (by decide) (by decide) (by decide) ⟨rfl, vI_mk ho rfl ⟨fun _ => vI_mk ho rfl ⟨fun _ => vPut_mk ho (by show 3 < 4; decide) ⟨rfl, kp.up rfl, fin mk h kp.rf ho hv⟩, fun _ => ?_⟩, fun q => absurd (by rw [show (0 : Int32) = i3 0 from rfl, i3_le (by decide) (by omega)]; exact Nat.zero_le _) q⟩⟩
    refine vPut_mk ho (by show 2 < 4; decide) (vPut_mk aUp_eq (by show 3 < 4; decide) ⟨rfl, (kp.up (S := (· = a)) rfl).tr (kp.up rfl), fin 1 _ (kp.up rfl) aUp_eq (by rw [aUp_ne hva]; exact hv)⟩)
  refine A_J8_setLength hl ⟨⟨_, ho⟩, ?_⟩
  refine vC_r h7 (by decide) (by decide) (by decide) fun v h' hR => ?_
  obtain ⟨rfl, r⟩ := hR
  exact ⟨rfl, rfl, r⟩
theorem B_append (hl : l.stackTraces = false) (hV : SBV h a va cs) {c : Nat} (hc : c < 128) (hlen : cs.length < 100) : aC l G mJ8_append_3 (wsN mJ8_append_3) 6 1 300 [.ref a, .int (i3 c)] h (aPR fun v h' => v = some (.ref a) ∧ kp (fun q => q = a ∨ q = va) h h' ∧ ∃ va', (va' = va ∨ h va' = none) ∧ SBV h' a va' (cs ++ [c])) := by
  obtain ⟨cap, f, mk, ho, hv, hlc, h0, h3, hb, hcs⟩ := hV
  have hva : va ≠ a := fun z => by rw [z, ho] at hv; cases hv
  have hl2 : (cs ++ [c]).length = cs.length + 1 := by rw [List.length_append]; rfl
  have hsh : ∀ x : Nat, x < 1000 → i3 x >>> ((0 : Int32) &&& 31) = i3 x := by
    intro x hx
    have : i3 x >>> (i3 0 &&& 31) = i3 (x >>> 0) := i3_shr (by omega) (by decide)
    exact this
  have hsl : ∀ x : Nat, i3 x <<< ((0 : Int32) &&& 31) = i3 x := by
    intro x
    have : i3 x <<< (i3 0 &&& 31) = i3 (x <<< 0) := i3_shl (by decide)
    exact this
  -- room for one more
  have hen : aC l G mJ7_ensureCapacityInternal (wsN mJ7_ensureCapacityInternal) 3 1 300 [.ref a, .int (i3 (cs.length + 1))] h (aPR fun v h' => v = none ∧ kp (fun q => q = a) h h' ∧ ∃ va' cap' f', (va' = va ∨ h va' = none) ∧ h' a = some (aObj 10 [.ref va', .int 0, .int mk, .int (i3 cs.length)]) ∧ h' va' = some (aInts .byte cap' f') ∧ cs.length < cap' ∧ cap' ≤ 300 ∧ (∀ k, k < cap' → ∃ c, c < 128 ∧ f' k = i3 c) ∧ ∀ k, k < cs.length → f' k = i3 (cs.getD k 0)) := by
    refine A_J7_ensureCapacityInternal hl (vR_mk ho rfl (vLen_mk hv 3 rfl (vI_mk ho rfl ?_)))
    have e1 : Int32.ofNat cap >>> ((0 : Int32) &&& 31) = i3 cap := hsh cap (by omega)
    have hle : (i3 (cs.length + 1) - i3 cap ≤ 0) = (cs.length + 1 ≤ cap) := by
      rw [eq_iff_iff, Int32.le_iff_toInt_le, i3_subZ (by omega) (by omega)]
      show _ ≤ (0 : Int) ↔ _
      omega
    show (i3 (cs.length + 1) - (Int32.ofNat cap >>> ((0 : Int32) &&& 31)) ≤ 0 → _) ∧ (¬ i3 (cs.length + 1) - (Int32.ofNat cap >>> ((0 : Int32) &&& 31)) ≤ 0 → _)
    rw [e1, hle]
    refine ⟨fun q => ⟨rfl, kp.rf, va, cap, f, Or.inl rfl, ho, hv, by omega, h3, hb, hcs⟩, fun q => vR_mk ho rfl ⟨⟨_, ho⟩, ?_⟩⟩
    have hcl : cap = cs.length := by omega
    obtain ⟨nc, hnc⟩ : ∃ nc, nc = cap + max 1 (cap + 2) := ⟨_, rfl⟩
    have hcapN : aC l G mJ7_newCapacity (wsN mJ7_newCapacity) 2 0 0 [.ref a, .int (i3 (cs.length + 1))] h (aP1 (some (.int (i3 nc))) h) := by
      refine A_J7_newCapacity hl (vR_mk ho rfl (vLen_mk hv 3 rfl (vI_mk ho rfl (vI_mk ho rfl ?_))))
      have e2 : (i3 (cs.length + 1) <<< ((0 : Int32) &&& 31)) - Int32.ofNat cap = i3 1 := by
        rw [hsl]
        show i3 (cs.length + 1) - i3 cap = i3 1
        rw [i3_sub (by omega), show cs.length + 1 - cap = 1 by omega]
      have e3 : Int32.ofNat cap + ((2 : Int32) <<< ((0 : Int32) &&& 31)) = i3 (cap + 2) := i3_add cap 2
      show vC l G mJ3_newLength (wsN mJ3_newLength) 2 0 0 [.int (i3 cap), .int ((i3 (cs.length + 1) <<< ((0 : Int32) &&& 31)) - Int32.ofNat cap), .int (Int32.ofNat cap + ((2 : Int32) <<< ((0 : Int32) &&& 31)))] h 0 0 _ _
      rw [e2, e3]
      refine vC_p (B_newLength hl (by omega) (by omega) (by omega) (by omega)) (by decide) (by decide) (by decide) ⟨_, rfl, ?_⟩
      have e4 : (i3 (cap + max 1 (cap + 2)) = 2147483647) = (cap + max 1 (cap + 2) = 2147483647) := i3_eq (b := 2147483647) (by omega) (by decide)
      rw [← hnc] at e4 ⊢
      simp only [e4]
      refine ⟨fun _ => vI_mk ho rfl ⟨?_, rfl⟩, fun q => by omega⟩
      rw [hsh nc (by omega)]
    refine vC_p hcapN (by decide) (by decide) (by decide) ⟨_, rfl, vI_mk ho rfl ?_⟩
    rw [hsl]
    have cp : aC l G mJ5_copyOf_3 (wsN mJ5_copyOf_3) 1 1 300 [.ref va, .int (i3 nc)] h (aPR fun v h' => ∃ q f', v = some (.ref q) ∧ h q = none ∧ kp (fun _ => False) h h' ∧ h' q = some (aInts .byte nc f') ∧ (∀ k, k < nc → ∃ c, c < 128 ∧ f' k = i3 c) ∧ ∀ k, k < cs.length → f' k = i3 (cs.getD k 0)) := by
      refine A_J5_copyOf_3 hl (vLen_mk hv 3 rfl ⟨fun _ => ⟨nc, by rw [i3_neg_lt (by omega)]; exact id, i3_nat (by omega), by omega, by decide, by omega, fun q hq _ => ?_⟩, fun z => ?_⟩)
      · have hqv : va ≠ q := fun z => by rw [← z, hv] at hq; cases hq
        have hv2 : (aUp h q (aInts .byte nc fun _ => 0)) va = some (aInts .byte cap f) := by rw [aUp_ne hqv]; exact hv
        refine vLen_mk hv2 3 rfl ?_
        refine vC_p (B_min hl (a := cap) (b := nc) (by omega) (by omega)) (by decide) (by decide) (by omega) ⟨_, rfl, by decide, cap, nc, f, fun _ => 0, hv2, aUp_eq, ?_⟩
        have hmin : min cap nc = cap := by omega
        rw [hmin]
        have z0 : ¬ (0 : Int32) < 0 := by decide
        have zc : ¬ i3 cap < 0 := by rw [i3_neg_lt (by omega)]; exact id
        have n0 : (0 : Int32).toNatClampNeg = 0 := rfl
        rw [n0, i3_nat (by omega : cap < 2147483648)]
        refine ⟨z0, z0, zc, by omega, by omega, fun i hi => ?_, q, _, rfl, hq, fun w y hw _ => ?_, aUp_eq, fun k hk => ?_, fun k hk => ?_⟩
        · rw [Nat.zero_add]
          obtain ⟨c, c1, c2⟩ := hb i hi
          rw [c2]; exact byteF ⟨c, c1⟩
        · have z : w ≠ q := fun z => by rw [z, hq] at hw; cases hw
          rw [aUp_ne z, aUp_ne z]; exact hw
        · unfold va_cpy
          by_cases z : 0 ≤ k ∧ k < 0 + cap
          · rw [if_pos z, Nat.zero_add, Nat.sub_zero]; exact hb k (by omega)
          · rw [if_neg z]; exact ⟨0, by decide, rfl⟩
        · unfold va_cpy
          rw [if_pos (by omega), Nat.zero_add, Nat.sub_zero]; exact hcs k hk
      · have z' : i3 nc = i3 cap := z
        rw [i3_eq (by omega) (by omega)] at z'
        omega
    refine vC_r cp (by decide) (by decide) (by decide) fun v h' hR => ?_
    obtain ⟨q, f', rfl, hq, k2, hq2, hf3, hf4⟩ := hR
    have ha2 := k2 _ _ ho id
    have hqa : q ≠ a := fun z => by rw [z, ho] at hq; cases hq
    refine ⟨q, rfl, vPut_mk ha2 (by show 0 < 4; decide) ⟨rfl, (k2.mono fun _ => False.elim).tr (kp.up rfl), q, nc, f', Or.inr hq, aUp_eq, by rw [aUp_ne hqa]; exact hq2, by omega, by omega, hf3, hf4⟩⟩
  have h7 : aC l G mJ7_append_3 (wsN mJ7_append_3) 5 1 300 [.ref a, .int (i3 c)] h (aPR fun v h' => v = some (.ref a) ∧ kp (fun q => q = a ∨ q = va) h h' ∧ ∃ va', (va' = va ∨ h va' = none) ∧ SBV h' a va' (cs ++ [c])) := by
    refine A_J7_append_3 hl (vI_mk ho rfl ⟨⟨_, ho⟩, ?_⟩)
    rw [i3_succ]
    refine vC_r hen (by decide) (by decide) (by decide) fun v h1 hR => ?_
    obtain ⟨hv1, k1, va', cap', f', hvv, ha1, hva1, hc1, hc2, hb1, hcs1⟩ := hR
    have hva' : va' ≠ a := fun z => by rw [z, ha1] at hva1; cases hva1
    have hlat : aC l G mJ7_isLatin1 (wsN mJ7_isLatin1) 0 0 0 [.ref a] h1 (aP1 (some (.int 1)) h1) := A_J7_isLatin1 hl (vI_mk ha1 rfl ⟨vB_if, rfl, rfl⟩)
    have e255 : ((255 : Int32) < i3 c) = (255 < c) := i3_lt (a := 255) (by decide) (by omega)
    have hce : aC l G mJ20_canEncode_2 (wsN mJ20_canEncode_2) 0 0 0 [.int (i3 c)] h1 (aP1 (some (.int 1)) h1) := by
      refine A_J20_canEncode_2 hl ⟨vB_if', ?_, rfl⟩
      simp only [e255]
      rw [if_neg (by omega)]
    refine ⟨hv1, ⟨_, ha1⟩, ?_⟩
    refine vC_p hlat (by decide) (by decide) (by decide) ⟨_, rfl, fun q => absurd q (by decide), fun _ => ?_⟩
    refine vC_p hce (by decide) (by decide) (by decide) ⟨_, rfl, fun q => absurd q (by decide), fun _ => vR_mk ha1 rfl (vI_mk ha1 rfl (vPut_mk ha1 (by show 3 < 4; decide) ?_))⟩
    have hv3 : (aUp h1 a (.inr (10, [Value.ref va', .int 0, .int mk, .int (i3 cs.length)].set 3 (.int (i3 cs.length + 1))))) va' = some (aInts .byte cap' f') := by rw [aUp_ne hva']; exact hva1
    refine vSt_mk hv3 rfl hc1 (by omega) ⟨rfl, ?_, va', hvv, cap', _, mk, ?_, aUp_eq, by omega, by omega, hc2, fun k hk => ?_, fun k hk => ?_⟩
    · intro q y hq hs
      have q1 : q ≠ a := fun z => hs (Or.inl z)
      have q2 : q ≠ va' := fun z => by
        rcases hvv with w | w
        · exact hs (Or.inr (by rw [z, w]))
        · rw [z, w] at hq; cases hq
      rw [aUp_ne q2, aUp_ne q1]; exact k1 q y hq q1
    · rw [aUp_ne (Ne.symm hva'), aUp_eq, hl2, i3_succ]; rfl
    · rw [byteN ⟨c, hc⟩]
      by_cases z : k = cs.length
      · rw [z, upd_same]; exact ⟨c, hc, rfl⟩
      · rw [upd_ne z]; exact hb1 k hk
    · rw [byteN ⟨c, hc⟩]
      by_cases z : k = cs.length
      · rw [z, upd_same, getD_app_eq]
      · rw [upd_ne z, getD_app_lt (by omega)]; exact hcs1 k (by omega)
  refine A_J8_append_3 hl ⟨⟨_, ho⟩, ?_⟩
  refine vC_r h7 (by decide) (by decide) (by decide) fun v h' hR => ?_
  obtain ⟨rfl, r⟩ := hR
  exact ⟨_, rfl, rfl, r⟩
end SBS
